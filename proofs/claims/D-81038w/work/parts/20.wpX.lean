set_option maxRecDepth 100000

def x_stop (v1 : Int) (σ : S) (Q : Int → S → Prop) : Prop :=
  ∀ σ_1, σ_1 = pI σ 1006 v1 → Q 0 σ_1
def x_within (v0 : Int) (v1 : Int) (v2 : Int) (σ : S) (Q : Int → S → Prop) : Prop :=
  Q (bi (¬ (v0 < v1) ∧ (v0 ≤ v2))) σ
def x_feed_L19 (v1 : Int) (v2 : Int) (v3 : Int) (v4 : Int) (v5 : Int) (v6 : Int) (σ : S) (Q : Int → S → Prop) : Prop :=
  ∀ X19 : Int → S → Prop, (∀ (v6 : Int) (σ : S), ((if v6 < 20 then ∀ σ_15, σ_15 = pI σ 2 (w32 (gI σ 2 + 1)) → inb (gI σ 2) 6000 ∧ ∀ σ_17, σ_17 = pA σ_15 0 (gI σ 2) (b8 (bShr (if v6 < 4 then v1 else (if v6 < 8 then v2 else (if v6 < 12 then v3 else (if v6 < 16 then v4 else v5)))) (w32 (24 - (w32 (8 * (Int.tmod v6 4))))))) → X19 (w32 (v6 + 1)) σ_17 else Q (gI σ 2) σ)) → X19 v6 σ) → X19 v6 σ
def x_feed (v1 : Int) (v2 : Int) (v3 : Int) (v4 : Int) (v5 : Int) (σ : S) (Q : Int → S → Prop) : Prop :=
  (if w32 (gI σ 2 + 20) ≤ 6000 then x_feed_L19 v1 v2 v3 v4 v5 0 σ Q else Q (-3) σ)
def x_end (v1 : Int) (σ : S) (Q : Int → S → Prop) : Prop :=
  x_within v1 0 20 σ (fun r_2 σ_1 => (if (r_2 = 0) ∨ (gI σ_1 2 < 20) then Q (-1) σ_1 else ∀ σ_7, σ_7 = pI σ_1 2 (w32 (gI σ_1 2 + (w32 (v1 - 20)))) → Q (gI σ_7 2) σ_7))
def x_takeTape_j36 (σ : S) (Q : Int → S → Prop) : Prop :=
  ∀ σ_7, σ_7 = pI σ 2 0 → ∀ σ_9, σ_9 = pI σ_7 18 (-2) → ∀ σ_11, σ_11 = pI σ_9 19 (-2) → ∀ σ_13, σ_13 = pI σ_11 20 0 → ∀ σ_15, σ_15 = pI σ_13 17 0 → Q 0 σ_15
def x_takeTape_L10 (v1 : Int) (σ : S) (Q : Int → S → Prop) : Prop :=
  ∀ X10 : Int → S → Prop, (∀ (v1 : Int) (σ : S), ((if v1 < gI σ 4 then inb v1 6000 ∧ inb v1 6000 ∧ ∀ σ_19, σ_19 = pA σ 1 v1 (gA σ 0 v1) → X10 (w32 (v1 + 1)) σ_19 else x_takeTape_j36 σ Q)) → X10 v1 σ) → X10 v1 σ
def x_takeTape (σ : S) (Q : Int → S → Prop) : Prop :=
  ∀ σ_2, σ_2 = pI σ 4 (gI σ 2) → x_takeTape_L10 0 σ_2 Q
def x_isSpecial (v0 : Int) (σ : S) (Q : Int → S → Prop) : Prop :=
  Q (bi ((v0 = 40) ∨ ((v0 = 41) ∨ ((v0 = 91) ∨ ((v0 = 93) ∨ ((v0 = 123) ∨ ((v0 = 125) ∨ (v0 = 44)))))))) σ
def x_isBlank (v0 : Int) (σ : S) (Q : Int → S → Prop) : Prop :=
  Q (bi ((v0 = 32) ∨ (v0 = 10))) σ
def x_isStar (v1 : Int) (σ : S) (Q : Int → S → Prop) : Prop :=
  ((w32 (v1 + 2) < gI σ 4) → (inb v1 6000)) ∧ ((w32 (v1 + 2) < gI σ 4) → (gA σ 1 v1 = 42) → (inb (w32 (v1 + 1)) 6000)) ∧ ((w32 (v1 + 2) < gI σ 4) → (gA σ 1 v1 = 42) → (gA σ 1 (w32 (v1 + 1)) = 42) → (inb (w32 (v1 + 2)) 6000)) ∧ Q (bi ((w32 (v1 + 2) < gI σ 4) ∧ ((gA σ 1 v1 = 42) ∧ ((gA σ 1 (w32 (v1 + 1)) = 42) ∧ (gA σ 1 (w32 (v1 + 2)) = 42))))) σ
def x_isText_L20 (v1 : Int) (v2 : Int) (v3 : Nat) (v4 : Int) (v5 : Int) (σ : S) (Q : Int → S → Prop) : Prop :=
  ∀ X20 : Int → Int → S → Prop, (∀ (v4 : Int) (v5 : Int) (σ : S), ((if (v5 < w32 (v2 - v1)) ∧ (¬ (v4 = 0)) then inb (w32 (v1 + v5)) 6000 ∧ inb v5 (sLnX v3) ∧ X20 (bi (gA σ 1 (w32 (v1 + v5)) = sChX v3 v5)) (w32 (v5 + 1)) σ else Q v4 σ)) → X20 v4 v5 σ) → X20 v4 v5 σ
def x_isText (v1 : Int) (v2 : Int) (v3 : Nat) (σ : S) (Q : Int → S → Prop) : Prop :=
  x_isText_L20 v1 v2 v3 (bi (w32 (v2 - v1) = sLnX v3)) 0 σ Q
def x_reservedOf (v1 : Int) (v2 : Int) (σ : S) (Q : Int → S → Prop) : Prop :=
  x_isText v1 v2 0 σ (fun r_2 σ_1 => (if r_2 = 0 then x_isText v1 v2 1 σ_1 (fun r_6 σ_5 => (if r_6 = 0 then x_isText v1 v2 2 σ_5 (fun r_10 σ_9 => (if r_10 = 0 then x_isText v1 v2 3 σ_9 (fun r_14 σ_13 => (if r_14 = 0 then x_isText v1 v2 4 σ_13 (fun r_18 σ_17 => (if r_18 = 0 then x_isText v1 v2 5 σ_17 (fun r_22 σ_21 => (if r_22 = 0 then x_isText v1 v2 6 σ_21 (fun r_26 σ_25 => (if r_26 = 0 then x_isText v1 v2 7 σ_25 (fun r_30 σ_29 => Q (if r_30 = 0 then (-2) else 7) σ_29) else Q 6 σ_25)) else Q 5 σ_21)) else Q 4 σ_17)) else Q 3 σ_13)) else Q 2 σ_9)) else Q 1 σ_5)) else Q 0 σ_1))
def x_idOf_j155 (σ : S) (Q : Int → S → Prop) : Prop :=
  inb (gI σ 12) 1700 ∧ ∀ σ_13, σ_13 = pA σ 8 (gI σ 12) (gI σ 11) → ∀ σ_17, σ_17 = pI σ_13 12 (w32 (gI σ_13 12 + 1)) → Q (gI σ_13 12) σ_17
def x_idOf_L123 (v1 : Nat) (v3 : Int) (v4 : Int) (σ : S) (Q : Int → S → Prop) : Prop :=
  ∀ X123 : Int → S → Prop, (∀ (v4 : Int) (σ : S), ((if v4 < v3 then ∀ σ_20, σ_20 = pI σ 11 (w32 (gI σ 11 + 1)) → inb v4 ((dAln dX v1 : Nat) : Int) ∧ inb (gI σ 11) 40000 ∧ ∀ σ_24, σ_24 = pA σ_20 6 (gI σ 11) (gA σ_20 v1 v4) → X123 (w32 (v4 + 1)) σ_24 else x_idOf_j155 σ Q)) → X123 v4 σ) → X123 v4 σ
def x_idOf_j107 (v1 : Nat) (v2 : Int) (v3 : Int) (σ : S) (Q : Int → S → Prop) : Prop :=
  inb (gI σ 12) 1700 ∧ ∀ σ_6, σ_6 = pA σ 7 (gI σ 12) (gI σ 11) → x_idOf_L123 v1 v3 v2 σ_6 Q
def x_idOf_j93 (v1 : Nat) (v2 : Int) (v3 : Int) (v4 : Int) (v5 : Int) (σ : S) (Q : Int → S → Prop) (X3 : Int → S → Prop) : Prop :=
  (if v5 = 0 then X3 (w32 (v4 + 1)) σ else Q v4 σ)
def x_idOf_L43 (v1 : Nat) (v2 : Int) (v3 : Int) (v4 : Int) (v5 : Int) (v6 : Int) (σ : S) (Q : Int → S → Prop) (X3 : Int → S → Prop) : Prop :=
  ∀ X43 : Int → Int → S → Prop, (∀ (v5 : Int) (v6 : Int) (σ : S), ((if v6 < w32 (v3 - v2) then (if v5 = 0 then x_idOf_j93 v1 v2 v3 v4 v5 σ Q X3 else inb v4 1700 ∧ inb (w32 (gA σ 7 v4 + v6)) 40000 ∧ inb (w32 (v2 + v6)) ((dAln dX v1 : Nat) : Int) ∧ X43 (bi (gA σ 6 (w32 (gA σ 7 v4 + v6)) = gA σ v1 (w32 (v2 + v6)))) (w32 (v6 + 1)) σ) else x_idOf_j93 v1 v2 v3 v4 v5 σ Q X3)) → X43 v5 v6 σ) → X43 v5 v6 σ
def x_idOf_L3 (v1 : Nat) (v2 : Int) (v3 : Int) (v4 : Int) (σ : S) (Q : Int → S → Prop) : Prop :=
  ∀ X3 : Int → S → Prop, (∀ (v4 : Int) (σ : S), ((if v4 < gI σ 12 then inb v4 1700 ∧ inb v4 1700 ∧ x_idOf_L43 v1 v2 v3 v4 (bi (w32 (gA σ 8 v4 - (gA σ 7 v4)) = w32 (v3 - v2))) 0 σ Q X3 else x_idOf_j107 v1 v2 v3 σ Q)) → X3 v4 σ) → X3 v4 σ
def x_idOf (v1 : Nat) (v2 : Int) (v3 : Int) (σ : S) (Q : Int → S → Prop) : Prop :=
  x_idOf_L3 v1 v2 v3 0 σ Q
def x_cutWords_j354 (v1 : Int) (v2 : Int) (v5 : Int) (s0 : Int) (s1 : Int) (σ : S) (Q : Int → S → Prop) (X14 : Int → Int → S → Prop) : Prop :=
  inb s1 902 ∧ ∀ σ_33, σ_33 = pA σ 5 s1 s0 → ∀ σ_37, σ_37 = pI σ_33 5 (w32 (gI σ_33 5 + 1)) → X14 v2 (bi ((v5 < 3) ∧ (gI σ_37 5 ≤ v1))) σ_37
def x_cutWords_j322 (v1 : Int) (v2 : Int) (v4 : Int) (v5 : Int) (s0 : Int) (σ : S) (Q : Int → S → Prop) (X14 : Int → Int → S → Prop) : Prop :=
  x_idOf 1 v4 v2 σ (fun r_32 σ_31 => x_cutWords_j354 v1 v2 v5 r_32 s0 σ_31 Q X14)
def x_cutWords_j271 (v1 : Int) (v2 : Int) (v4 : Int) (v5 : Int) (σ : S) (Q : Int → S → Prop) (X14 : Int → Int → S → Prop) : Prop :=
  inb (gI σ 5) 902 ∧ ∀ σ_17, σ_17 = pA σ 2 (gI σ 5) v5 → inb (gI σ_17 5) 902 ∧ ∀ σ_21, σ_21 = pA σ_17 3 (gI σ_17 5) v4 → inb (gI σ_21 5) 902 ∧ ∀ σ_25, σ_25 = pA σ_21 4 (gI σ_21 5) v2 → (if v5 = 0 then x_cutWords_j322 v1 v2 v4 v5 (gI σ_25 5) σ_25 Q X14 else (if v5 = 1 then x_cutWords_j322 v1 v2 v4 v5 (gI σ_25 5) σ_25 Q X14 else (if v5 = 2 then x_reservedOf v4 v2 σ_25 (fun r_49 σ_48 => x_cutWords_j354 v1 v2 v5 r_49 (gI σ_25 5) σ_48 Q X14) else x_cutWords_j354 v1 v2 v5 (-2) (gI σ_25 5) σ_25 Q X14)))
def x_cutWords_j269 (v1 : Int) (v2 : Int) (v4 : Int) (s0 : Int) (σ : S) (Q : Int → S → Prop) (X14 : Int → Int → S → Prop) : Prop :=
  x_cutWords_j271 v1 v2 v4 s0 σ Q X14
def x_cutWords_j201 (v1 : Int) (v2 : Int) (v4 : Int) (v6 : Int) (σ : S) (Q : Int → S → Prop) (X14 : Int → Int → S → Prop) : Prop :=
  (if ¬ (v6 = (-2)) ∨ (¬ (bi (¬ (w32 (v2 - v4) ≤ 16)) = 0)) then x_cutWords_j269 v1 v2 (if v6 = (-2) then v4 else (if bi (¬ (w32 (v2 - v4) ≤ 16)) = 0 then v6 else v4)) 4 σ Q X14 else x_reservedOf (if v6 = (-2) then v4 else (if bi (¬ (w32 (v2 - v4) ≤ 16)) = 0 then v6 else v4)) v2 σ (fun r_62 σ_61 => x_cutWords_j269 v1 v2 (if v6 = (-2) then v4 else (if bi (¬ (w32 (v2 - v4) ≤ 16)) = 0 then v6 else v4)) (if r_62 < 0 then 0 else 2) σ_61 Q X14))
def x_cutWords_j193 (v1 : Int) (v2 : Int) (v4 : Int) (s0 : Int) (σ : S) (Q : Int → S → Prop) (X14 : Int → Int → S → Prop) (X132 : Int → Int → S → Prop) : Prop :=
  X132 (w32 (v2 + 1)) s0 σ
def x_cutWords_j191 (v1 : Int) (v2 : Int) (v4 : Int) (v6 : Int) (σ : S) (Q : Int → S → Prop) (X14 : Int → Int → S → Prop) (X132 : Int → Int → S → Prop) : Prop :=
  x_cutWords_j193 v1 v2 v4 v6 σ Q X14 X132
def x_cutWords_L132 (v1 : Int) (v2 : Int) (v4 : Int) (v6 : Int) (σ : S) (Q : Int → S → Prop) (X14 : Int → Int → S → Prop) : Prop :=
  ∀ X132 : Int → Int → S → Prop, (∀ (v2 : Int) (v6 : Int) (σ : S), ((if v2 < gI σ 4 then inb v2 6000 ∧ x_isBlank (gA σ 1 v2) σ (fun r_75 σ_74 => (if r_75 = 0 then inb v2 6000 ∧ x_isSpecial (gA σ_74 1 v2) σ_74 (fun r_81 σ_80 => (if r_81 = 0 then (if v6 = (-2) then inb v2 6000 ∧ x_within (gA σ_80 1 v2) 33 126 σ_80 (fun r_89 σ_88 => (if r_89 = 0 then x_cutWords_j193 v1 v2 v4 v2 σ_88 Q X14 X132 else x_cutWords_j191 v1 v2 v4 v6 σ_88 Q X14 X132)) else x_cutWords_j191 v1 v2 v4 v6 σ_80 Q X14 X132) else x_cutWords_j201 v1 v2 v4 v6 σ_80 Q X14)) else x_cutWords_j201 v1 v2 v4 v6 σ_74 Q X14)) else x_cutWords_j201 v1 v2 v4 v6 σ Q X14)) → X132 v2 v6 σ) → X132 v2 v6 σ
def x_cutWords_j120 (v1 : Int) (v2 : Int) (v4 : Int) (v5 : Int) (σ : S) (Q : Int → S → Prop) (X14 : Int → Int → S → Prop) : Prop :=
  (if v2 < gI σ 4 then x_cutWords_L132 v1 v2 v4 (-2) σ Q X14 else x_cutWords_j271 v1 v2 v4 v5 σ Q X14)
def x_cutWords_j85 (v1 : Int) (v2 : Int) (σ : S) (Q : Int → S → Prop) (X14 : Int → Int → S → Prop) : Prop :=
  (if v2 < gI σ 4 then inb v2 6000 ∧ x_isSpecial (gA σ 1 v2) σ (fun r_95 σ_94 => (if r_95 = 0 then x_cutWords_j120 v1 v2 v2 3 σ_94 Q X14 else x_cutWords_j271 v1 (w32 (v2 + 1)) v2 1 σ_94 Q X14)) else x_cutWords_j120 v1 v2 v2 3 σ Q X14)
def x_cutWords_L54 (v1 : Int) (v2 : Int) (σ : S) (Q : Int → S → Prop) (X14 : Int → Int → S → Prop) (X18 : Int → S → Prop) : Prop :=
  ∀ X54 : Int → S → Prop, (∀ (v2 : Int) (σ : S), (((v2 < gI σ 4) → (inb v2 6000)) ∧ (if ¬ (v2 < gI σ 4) ∨ (gA σ 1 v2 = 10) then X18 v2 σ else X54 (w32 (v2 + 1)) σ)) → X54 v2 σ) → X54 v2 σ
def x_cutWords_j46 (v1 : Int) (v2 : Int) (σ : S) (Q : Int → S → Prop) (X14 : Int → Int → S → Prop) (X18 : Int → S → Prop) : Prop :=
  x_isStar v2 σ (fun r_105 σ_104 => (if r_105 = 0 then X18 (w32 (v2 + 1)) σ_104 else x_cutWords_L54 v1 v2 σ_104 Q X14 X18))
def x_cutWords_L18 (v1 : Int) (v2 : Int) (σ : S) (Q : Int → S → Prop) (X14 : Int → Int → S → Prop) : Prop :=
  ∀ X18 : Int → S → Prop, (∀ (v2 : Int) (σ : S), ((if v2 < gI σ 4 then inb v2 6000 ∧ x_isBlank (gA σ 1 v2) σ (fun r_101 σ_100 => (if r_101 = 0 then x_isStar v2 σ_100 (fun r_117 σ_116 => (if r_117 = 0 then x_cutWords_j85 v1 v2 σ_116 Q X14 else x_cutWords_j46 v1 v2 σ_116 Q X14 X18)) else x_cutWords_j46 v1 v2 σ_100 Q X14 X18)) else x_cutWords_j85 v1 v2 σ Q X14)) → X18 v2 σ) → X18 v2 σ
def x_cutWords_L14 (v1 : Int) (v2 : Int) (v3 : Int) (σ : S) (Q : Int → S → Prop) : Prop :=
  ∀ X14 : Int → Int → S → Prop, (∀ (v2 : Int) (v3 : Int) (σ : S), ((if v3 = 0 then Q 0 σ else x_cutWords_L18 v1 v2 σ Q X14)) → X14 v2 v3 σ) → X14 v2 v3 σ
def x_cutWords (v1 : Int) (σ : S) (Q : Int → S → Prop) : Prop :=
  ∀ σ_1, σ_1 = pI σ 21 v1 → ∀ σ_3, σ_3 = pI σ_1 5 0 → x_cutWords_L14 v1 0 1 σ_3 Q
def x_lineOf_L4 (v1 : Int) (v2 : Int) (v3 : Int) (σ : S) (Q : Int → S → Prop) : Prop :=
  ∀ X4 : Int → Int → S → Prop, (∀ (v2 : Int) (v3 : Int) (σ : S), ((if v3 < v1 then (if v3 < gI σ 4 then inb v3 6000 ∧ X4 (w32 (v2 + (bi (gA σ 1 v3 = 10)))) (w32 (v3 + 1)) σ else Q v2 σ) else Q v2 σ)) → X4 v2 v3 σ) → X4 v2 v3 σ
def x_lineOf (v1 : Int) (σ : S) (Q : Int → S → Prop) : Prop :=
  x_lineOf_L4 v1 1 0 σ Q
def x_wrongAt (v1 : Int) (v2 : Int) (σ : S) (Q : Int → S → Prop) : Prop :=
  (if bi ((gI σ 20 = 0) ∨ ((v2 < gI σ 18) ∨ ((v2 = gI σ 18) ∧ (v1 < gI σ 20)))) = 0 then Q 0 σ else ∀ σ_11, σ_11 = pI σ 20 v1 → ∀ σ_13, σ_13 = pI σ_11 18 v2 → x_lineOf v2 σ_13 (fun r_16 σ_15 => ∀ σ_17, σ_17 = pI σ_15 19 r_16 → Q 0 σ_17))
def x_wrong (v1 : Int) (v2 : Int) (σ : S) (Q : Int → S → Prop) : Prop :=
  inb v2 902 ∧ x_wrongAt v1 (gA σ 3 v2) σ (fun r_4 σ_3 => Q r_4 σ_3)
def x_isReserved (v1 : Int) (σ : S) (Q : Int → S → Prop) : Prop :=
  inb (gI σ 17) 902 ∧ ((gA σ 2 (gI σ 17) = 2) → (inb (gI σ 17) 902)) ∧ Q (bi ((gA σ 2 (gI σ 17) = 2) ∧ (gA σ 5 (gI σ 17) = v1))) σ
def x_step (σ : S) (Q : Int → S → Prop) : Prop :=
  (if gI σ 17 = gI σ 21 then x_wrong 2 (gI σ 17) σ (fun r_10 σ_9 => Q r_10 σ_9) else ∀ σ_6, σ_6 = pI σ 17 (w32 (gI σ 17 + 1)) → Q 1 σ_6)
def x_take (v1 : Int) (σ : S) (Q : Int → S → Prop) : Prop :=
  x_isReserved v1 σ (fun r_2 σ_1 => (if r_2 = 0 then x_wrong 1 (gI σ_1 17) σ_1 (fun r_7 σ_6 => Q r_7 σ_6) else x_step σ_1 (fun r_9 σ_8 => Q r_9 σ_8)))
def x_isWord (σ : S) (Q : Int → S → Prop) : Prop :=
  inb (gI σ 17) 902 ∧ Q (bi (gA σ 2 (gI σ 17) = 0)) σ
def x_isWordText_j37 (σ : S) (Q : Int → S → Prop) : Prop :=
  Q 0 σ
def x_isWordText (v1 : Nat) (σ : S) (Q : Int → S → Prop) : Prop :=
  x_isWord σ (fun r_2 σ_1 => (if r_2 = 0 then x_isWordText_j37 σ_1 Q else inb (gI σ_1 17) 902 ∧ inb (gI σ_1 17) 902 ∧ x_isText (gA σ_1 3 (gI σ_1 17)) (gA σ_1 4 (gI σ_1 17)) v1 σ_1 (fun r_12 σ_11 => (if r_12 = 0 then x_isWordText_j37 σ_11 Q else Q 1 σ_11))))
def x_isSign (v1 : Int) (σ : S) (Q : Int → S → Prop) : Prop :=
  inb (gI σ 17) 902 ∧ ((gA σ 2 (gI σ 17) = 1) → (inb (gI σ 17) 902)) ∧ ((gA σ 2 (gI σ 17) = 1) → (inb (gA σ 3 (gI σ 17)) 6000)) ∧ Q (bi ((gA σ 2 (gI σ 17) = 1) ∧ (gA σ 1 (gA σ 3 (gI σ 17)) = v1))) σ
def x_expect (σ : S) (Q : Int → S → Prop) : Prop :=
  x_isWord σ (fun r_2 σ_1 => (if r_2 = 0 then x_wrong 1 (gI σ_1 17) σ_1 (fun r_7 σ_6 => Q r_7 σ_6) else x_step σ_1 (fun r_9 σ_8 => Q r_9 σ_8)))
def x_clearHash_L2 (v1 : Int) (σ : S) (Q : Int → S → Prop) : Prop :=
  ∀ X2 : Int → S → Prop, (∀ (v1 : Int) (σ : S), ((if v1 < 131072 then inb v1 131072 ∧ ∀ σ_3, σ_3 = pA σ 72 v1 0 → X2 (w32 (v1 + 1)) σ_3 else Q 0 σ)) → X2 v1 σ) → X2 v1 σ
def x_clearHash (σ : S) (Q : Int → S → Prop) : Prop :=
  x_clearHash_L2 0 σ Q
def x_clear (σ : S) (Q : Int → S → Prop) : Prop :=
  ∀ σ_1, σ_1 = pI σ 22 0 → ∀ σ_3, σ_3 = pI σ_1 24 0 → ∀ σ_5, σ_5 = pI σ_3 29 0 → ∀ σ_7, σ_7 = pI σ_5 39 0 → ∀ σ_9, σ_9 = pI σ_7 42 0 → ∀ σ_11, σ_11 = pI σ_9 43 0 → ∀ σ_13, σ_13 = pI σ_11 44 0 → ∀ σ_15, σ_15 = pI σ_13 63 0 → ∀ σ_17, σ_17 = pI σ_15 61 0 → ∀ σ_19, σ_19 = pI σ_17 12 0 → ∀ σ_21, σ_21 = pI σ_19 11 0 → ∀ σ_23, σ_23 = pI σ_21 15 0 → ∀ σ_25, σ_25 = pI σ_23 16 0 → ∀ σ_27, σ_27 = pI σ_25 111 0 → ∀ σ_29, σ_29 = pI σ_27 152 (-2) → ∀ σ_31, σ_31 = pI σ_29 153 0 → ∀ σ_33, σ_33 = pI σ_31 151 0 → ∀ σ_35, σ_35 = pI σ_33 162 0 → ∀ σ_37, σ_37 = pI σ_35 58 0 → ∀ σ_39, σ_39 = pI σ_37 94 1 → ∀ σ_41, σ_41 = pI σ_39 93 1 → ∀ σ_43, σ_43 = pI σ_41 102 0 → ∀ σ_45, σ_45 = pI σ_43 103 0 → x_clearHash σ_45 (fun _ σ_47 => Q 0 σ_47)
def x_passTerm_j36 (σ : S) (Q : Int → S → Prop) : Prop :=
  x_wrong 2 (gI σ 17) σ (fun r_15 σ_14 => Q r_15 σ_14)
def x_passTerm_j25 (v1 : Int) (σ : S) (Q : Int → S → Prop) (X5 : S → Prop) : Prop :=
  (if w32 (gI σ 17 - v1) = 32 then x_passTerm_j36 σ Q else x_step σ (fun r_10 σ_9 => (if r_10 = 0 then Q 0 σ_9 else X5 σ_9)))
def x_passTerm_j75 (σ : S) (Q : Int → S → Prop) : Prop :=
  Q 1 σ
def x_passTerm_j55 (v1 : Int) (σ : S) (Q : Int → S → Prop) : Prop :=
  (if gI σ 17 ≤ v1 then x_wrong 1 (gI σ 17) σ (fun r_26 σ_25 => (if r_26 = 0 then Q 0 σ_25 else x_passTerm_j75 σ_25 Q)) else x_passTerm_j75 σ Q)
def x_passTerm_L5 (v1 : Int) (σ : S) (Q : Int → S → Prop) : Prop :=
  ∀ X5 : S → Prop, (∀ (σ : S), (x_isWord σ (fun r_3 σ_2 => (if r_3 = 0 then inb (gI σ_2 17) 902 ∧ (if gA σ_2 2 (gI σ_2 17) = 1 then x_passTerm_j25 v1 σ_2 Q X5 else x_passTerm_j55 v1 σ_2 Q) else x_passTerm_j25 v1 σ_2 Q X5))) → X5  σ) → X5  σ
def x_passTerm (σ : S) (Q : Int → S → Prop) : Prop :=
  x_passTerm_L5 (gI σ 17) σ Q
def x_readCondition_j198 (v1 : Int) (v2 : Int) (σ : S) (Q : Int → S → Prop) : Prop :=
  inb v2 420 ∧ ∀ σ_57, σ_57 = pA σ 37 v2 (gI σ 17) → inb v1 70 ∧ inb v1 70 ∧ ∀ σ_62, σ_62 = pA σ_57 32 v1 (w32 (gA σ_57 32 v1 + 1)) → Q 1 σ_62
def x_readCondition_j128 (v1 : Int) (v2 : Int) (s0 : Int) (s1 : Int) (σ : S) (Q : Int → S → Prop) : Prop :=
  inb s1 420 ∧ ∀ σ_33, σ_33 = pA σ 33 s1 s0 → inb v2 420 ∧ (if gA σ_33 33 v2 = (-2) then x_wrong 1 (gI σ_33 17) σ_33 (fun r_71 σ_70 => Q r_71 σ_70) else x_step σ_33 (fun r_41 σ_40 => (if r_41 = 0 then Q 0 σ_40 else inb v2 420 ∧ ∀ σ_45, σ_45 = pA σ_40 36 v2 (gI σ_40 17) → inb v2 420 ∧ (if gA σ_45 33 v2 = 2 then x_expect σ_45 (fun r_66 σ_65 => (if r_66 = 0 then Q 0 σ_65 else x_readCondition_j198 v1 v2 σ_65 Q)) else x_passTerm σ_45 (fun r_53 σ_52 => (if r_53 = 0 then Q 0 σ_52 else x_readCondition_j198 v1 v2 σ_52 Q))))))
def x_readCondition_j41 (v1 : Int) (σ : S) (Q : Int → S → Prop) : Prop :=
  inb v1 70 ∧ inb (w32 (w32 (6 * v1) + (Int.tmod (gA σ 32 v1) 6))) 420 ∧ ∀ σ_8, σ_8 = pA σ 34 (w32 (w32 (6 * v1) + (Int.tmod (gA σ 32 v1) 6))) (gI σ 17) → x_passTerm σ_8 (fun r_12 σ_11 => (if r_12 = 0 then Q 0 σ_11 else inb (w32 (w32 (6 * v1) + (Int.tmod (gA σ 32 v1) 6))) 420 ∧ ∀ σ_16, σ_16 = pA σ_11 35 (w32 (w32 (6 * v1) + (Int.tmod (gA σ 32 v1) 6))) (gI σ_11 17) → x_isReserved 3 σ_16 (fun r_20 σ_19 => (if r_20 = 0 then x_isReserved 5 σ_19 (fun r_24 σ_23 => (if r_24 = 0 then x_isReserved 1 σ_23 (fun r_28 σ_27 => x_readCondition_j128 v1 (w32 (w32 (6 * v1) + (Int.tmod (gA σ 32 v1) 6))) (if r_28 = 0 then (-2) else 2) (w32 (w32 (6 * v1) + (Int.tmod (gA σ 32 v1) 6))) σ_27 Q) else x_readCondition_j128 v1 (w32 (w32 (6 * v1) + (Int.tmod (gA σ 32 v1) 6))) 1 (w32 (w32 (6 * v1) + (Int.tmod (gA σ 32 v1) 6))) σ_23 Q)) else x_readCondition_j128 v1 (w32 (w32 (6 * v1) + (Int.tmod (gA σ 32 v1) 6))) 0 (w32 (w32 (6 * v1) + (Int.tmod (gA σ 32 v1) 6))) σ_19 Q))))
def x_readCondition (v1 : Int) (σ : S) (Q : Int → S → Prop) : Prop :=
  inb v1 70 ∧ (if gA σ 32 v1 = 6 then x_isWord σ (fun r_73 σ_72 => ((r_73 = 0) → (inb (gI σ_72 17) 902)) ∧ (if ¬ (r_73 = 0) ∨ (gA σ_72 2 (gI σ_72 17) = 1) then x_wrong 2 (gI σ_72 17) σ_72 (fun r_81 σ_80 => Q r_81 σ_80) else x_readCondition_j41 v1 σ_72 Q)) else x_readCondition_j41 v1 σ Q)
def x_readSides_j110 (σ : S) (Q : Int → S → Prop) : Prop :=
  x_take 0 σ (fun r_37 σ_36 => Q r_37 σ_36)
def x_readSides_L84 (v1 : Int) (σ : S) (Q : Int → S → Prop) : Prop :=
  ∀ X84 : S → Prop, (∀ (σ : S), (x_step σ (fun r_39 σ_38 => (if r_39 = 0 then Q 0 σ_38 else x_readCondition v1 σ_38 (fun r_43 σ_42 => (if r_43 = 0 then Q 0 σ_42 else x_isReserved 7 σ_42 (fun r_47 σ_46 => (if r_47 = 0 then x_readSides_j110 σ_46 Q else X84 σ_46))))))) → X84  σ) → X84  σ
def x_readSides (v1 : Int) (v2 : Int) (σ : S) (Q : Int → S → Prop) : Prop :=
  inb v1 70 ∧ ∀ σ_1, σ_1 = pA σ 32 v1 0 → inb v1 70 ∧ ∀ σ_5, σ_5 = pA σ_1 28 v1 (gI σ_1 17) → x_passTerm σ_5 (fun r_9 σ_8 => (if r_9 = 0 then Q 0 σ_8 else inb v1 70 ∧ ∀ σ_13, σ_13 = pA σ_8 29 v1 (gI σ_8 17) → x_take v2 σ_13 (fun r_17 σ_16 => (if r_17 = 0 then Q 0 σ_16 else inb v1 70 ∧ ∀ σ_21, σ_21 = pA σ_16 30 v1 (gI σ_16 17) → x_passTerm σ_21 (fun r_25 σ_24 => (if r_25 = 0 then Q 0 σ_24 else inb v1 70 ∧ ∀ σ_29, σ_29 = pA σ_24 31 v1 (gI σ_24 17) → x_isReserved 6 σ_29 (fun r_33 σ_32 => (if r_33 = 0 then x_readSides_j110 σ_32 Q else x_readSides_L84 v1 σ_32 Q))))))))
def x_readEquation (σ : S) (Q : Int → S → Prop) : Prop :=
  (if gI σ 42 = 40 then x_wrong 2 (gI σ 17) σ (fun r_30 σ_29 => Q r_30 σ_29) else x_isWordText 13 σ (fun r_6 σ_5 => inb (gI σ 42) 70 ∧ ∀ σ_7, σ_7 = pA σ_5 26 (gI σ 42) r_6 → inb (gI σ 42) 70 ∧ ∀ σ_10, σ_10 = pA σ_7 27 (gI σ 42) (-2) → x_step σ_10 (fun r_14 σ_13 => (if r_14 = 0 then Q 0 σ_13 else ∀ σ_18, σ_18 = pI σ_13 42 (w32 (gI σ_13 42 + 1)) → ∀ σ_21, σ_21 = pI σ_18 44 (w32 (gI σ_18 44 + 1)) → inb (gI σ_18 44) 70 ∧ ∀ σ_23, σ_23 = pA σ_21 25 (gI σ_18 44) (gI σ 42) → x_readSides (gI σ 42) 3 σ_23 (fun r_27 σ_26 => Q r_27 σ_26)))))
def x_isLess (σ : S) (Q : Int → S → Prop) : Prop :=
  x_isWordText 15 σ (fun r_2 σ_1 => Q r_2 σ_1)
def x_readNames_j7 (σ : S) (Q : Int → S → Prop) : Prop :=
  x_wrong 1 (gI σ 17) σ (fun r_19 σ_18 => Q r_19 σ_18)
def x_readNames_L0 (σ : S) (Q : Int → S → Prop) : Prop :=
  ∀ X0 : S → Prop, (∀ (σ : S), (x_isLess σ (fun r_2 σ_1 => (if r_2 = 0 then x_expect σ_1 (fun r_6 σ_5 => (if r_6 = 0 then Q 0 σ_5 else x_isWord σ_5 (fun r_10 σ_9 => (if r_10 = 0 then Q 1 σ_9 else x_isLess σ_9 (fun r_14 σ_13 => (if r_14 = 0 then X0 σ_13 else Q 1 σ_13)))))) else x_readNames_j7 σ_1 Q))) → X0  σ) → X0  σ
def x_readNames (σ : S) (Q : Int → S → Prop) : Prop :=
  x_readNames_L0 σ Q
def x_readLess_j118 (σ : S) (Q : Int → S → Prop) : Prop :=
  x_take 0 σ (fun r_15 σ_14 => Q r_15 σ_14)
def x_readLess_L31 (v1 : Int) (σ : S) (Q : Int → S → Prop) : Prop :=
  ∀ X31 : Int → S → Prop, (∀ (v1 : Int) (σ : S), (x_isLess σ (fun r_11 σ_10 => (if r_11 = 0 then x_readLess_j118 σ_10 Q else x_step σ_10 (fun r_18 σ_17 => (if r_18 = 0 then Q 0 σ_17 else x_readNames σ_17 (fun r_22 σ_21 => (if r_22 = 0 then Q 0 σ_21 else inb (gI σ_21 24) 460 ∧ ∀ σ_26, σ_26 = pA σ_21 10 (gI σ_21 24) (gI σ_10 17) → inb (gI σ_26 24) 460 ∧ ∀ σ_30, σ_30 = pA σ_26 11 (gI σ_26 24) v1 → inb (gI σ_30 24) 460 ∧ ∀ σ_34, σ_34 = pA σ_30 12 (gI σ_30 24) (w32 (gI σ_10 17 + 1)) → ∀ σ_38, σ_38 = pI σ_34 24 (w32 (gI σ_34 24 + 1)) → inb (gI σ_34 24) 460 ∧ ∀ σ_41, σ_41 = pA σ_38 13 (gI σ_34 24) (gI σ_38 17) → X31 (w32 (gI σ_10 17 + 1)) σ_41))))))) → X31 v1 σ) → X31 v1 σ
def x_readLess (σ : S) (Q : Int → S → Prop) : Prop :=
  x_readNames σ (fun r_3 σ_2 => (if r_3 = 0 then Q 0 σ_2 else x_isLess σ_2 (fun r_7 σ_6 => (if r_7 = 0 then x_wrong 1 (gI σ_6 17) σ_6 (fun r_46 σ_45 => Q r_46 σ_45) else x_readLess_L31 (gI σ 17) σ_6 Q))))
def x_isDigit (v0 : Int) (σ : S) (Q : Int → S → Prop) : Prop :=
  Q (bi (¬ (v0 < 48) ∧ (v0 ≤ 57))) σ
def x_mark (v1 : Int) (v2 : Int) (σ : S) (Q : Int → S → Prop) : Prop :=
  inb v1 50 ∧ inb v1 50 ∧ inb v1 50 ∧ ∀ σ_9, σ_9 = pA σ 18 v1 (bOr (gA σ 18 v1) (if bAnd (gA σ 18 v1) v2 = 0 then v2 else 32)) → Q 0 σ_9
def x_readAttribute_j20 (v1 : Int) (σ : S) (Q : Int → S → Prop) : Prop :=
  x_isWordText 16 σ (fun r_6 σ_5 => x_mark v1 (if r_6 = 0 then 2 else 1) σ_5 (fun _ σ_11 => x_step σ_11 (fun r_13 σ_12 => Q r_13 σ_12)))
def x_readAttribute_j311 (v1 : Int) (σ : S) (Q : Int → S → Prop) (X281 : S → Prop) : Prop :=
  x_step σ (fun r_44 σ_43 => (if r_44 = 0 then Q 0 σ_43 else X281 σ_43))
def x_readAttribute_j320 (v1 : Int) (σ : S) (Q : Int → S → Prop) : Prop :=
  inb v1 50 ∧ inb v1 50 ∧ ∀ σ_58, σ_58 = pA σ 22 v1 (w32 (gI σ 17 - (gA σ 21 v1))) → Q 1 σ_58
def x_readAttribute_L281 (v1 : Int) (σ : S) (Q : Int → S → Prop) : Prop :=
  ∀ X281 : S → Prop, (∀ (σ : S), (x_isWordText 21 σ (fun r_40 σ_39 => (if r_40 = 0 then x_isWordText 22 σ_39 (fun r_48 σ_47 => (if r_48 = 0 then x_isWordText 23 σ_47 (fun r_52 σ_51 => (if r_52 = 0 then x_readAttribute_j320 v1 σ_51 Q else x_readAttribute_j311 v1 σ_51 Q X281)) else x_readAttribute_j311 v1 σ_47 Q X281)) else x_readAttribute_j311 v1 σ_39 Q X281))) → X281  σ) → X281  σ
def x_readAttribute_j173 (σ : S) (Q : Int → S → Prop) : Prop :=
  x_wrong 1 (gI σ 17) σ (fun r_87 σ_86 => Q r_87 σ_86)
def x_readAttribute (v1 : Int) (σ : S) (Q : Int → S → Prop) : Prop :=
  x_isWordText 16 σ (fun r_2 σ_1 => (if r_2 = 0 then x_isWordText 17 σ_1 (fun r_15 σ_14 => (if r_15 = 0 then x_isWordText 18 σ_14 (fun r_19 σ_18 => (if r_19 = 0 then x_isWordText 19 σ_18 (fun r_23 σ_22 => (if r_23 = 0 then x_isWordText 20 σ_22 (fun r_27 σ_26 => (if r_27 = 0 then x_wrong 1 (gI σ_26 17) σ_26 (fun r_63 σ_62 => Q r_63 σ_62) else x_mark v1 16 σ_26 (fun _ σ_30 => x_step σ_30 (fun r_32 σ_31 => (if r_32 = 0 then Q 0 σ_31 else inb v1 50 ∧ ∀ σ_36, σ_36 = pA σ_31 21 v1 (gI σ_31 17) → x_readAttribute_L281 v1 σ_36 Q))))) else x_mark v1 8 σ_22 (fun _ σ_64 => x_step σ_64 (fun r_66 σ_65 => (if r_66 = 0 then Q 0 σ_65 else inb (gI σ_65 17) 902 ∧ inb (gI σ_65 17) 902 ∧ x_isWord σ_65 (fun r_76 σ_75 => (if ¬ (r_76 = 0) ∧ (w32 (gA σ_65 4 (gI σ_65 17) - (gA σ_65 3 (gI σ_65 17))) ≤ 2) then inb (gA σ_65 3 (gI σ_65 17)) 6000 ∧ x_isDigit (gA σ_75 1 (gA σ_65 3 (gI σ_65 17))) σ_75 (fun r_82 σ_81 => (if r_82 = 0 then x_readAttribute_j173 σ_81 Q else inb (w32 (w32 (gA σ_65 3 (gI σ_65 17) + (w32 (gA σ_65 4 (gI σ_65 17) - (gA σ_65 3 (gI σ_65 17))))) - 1)) 6000 ∧ x_isDigit (gA σ_81 1 (w32 (w32 (gA σ_65 3 (gI σ_65 17) + (w32 (gA σ_65 4 (gI σ_65 17) - (gA σ_65 3 (gI σ_65 17))))) - 1))) σ_81 (fun r_91 σ_90 => (if r_91 = 0 then x_readAttribute_j173 σ_90 Q else ((¬ w32 (gA σ_65 4 (gI σ_65 17) - (gA σ_65 3 (gI σ_65 17))) = 1) → (inb (gA σ_65 3 (gI σ_65 17)) 6000)) ∧ ((¬ w32 (gA σ_65 4 (gI σ_65 17) - (gA σ_65 3 (gI σ_65 17))) = 1) → (inb (w32 (gA σ_65 3 (gI σ_65 17) + 1)) 6000)) ∧ ((w32 (gA σ_65 4 (gI σ_65 17) - (gA σ_65 3 (gI σ_65 17))) = 1) → (inb (gA σ_65 3 (gI σ_65 17)) 6000)) ∧ inb v1 50 ∧ ∀ σ_104, σ_104 = pA σ_90 20 v1 (if w32 (gA σ_65 4 (gI σ_65 17) - (gA σ_65 3 (gI σ_65 17))) = 1 then w32 (gA σ_90 1 (gA σ_65 3 (gI σ_65 17)) - 48) else w32 (w32 (w32 (10 * (w32 (gA σ_90 1 (gA σ_65 3 (gI σ_65 17)) - 48))) + (gA σ_90 1 (w32 (gA σ_65 3 (gI σ_65 17) + 1)))) - 48)) → x_step σ_104 (fun r_108 σ_107 => Q r_108 σ_107))))) else x_readAttribute_j173 σ_75 Q))))))) else x_mark v1 4 σ_18 (fun _ σ_112 => x_step σ_112 (fun r_114 σ_113 => (if r_114 = 0 then Q 0 σ_113 else inb v1 50 ∧ ∀ σ_118, σ_118 = pA σ_113 19 v1 (gI σ_113 17) → x_expect σ_118 (fun r_122 σ_121 => Q r_122 σ_121)))))) else x_readAttribute_j20 v1 σ_14 Q)) else x_readAttribute_j20 v1 σ_1 Q))
def x_readRow_j231 (σ : S) (Q : Int → S → Prop) : Prop :=
  x_take 0 σ (fun r_68 σ_67 => Q r_68 σ_67)
def x_readRow_j222 (σ : S) (Q : Int → S → Prop) : Prop :=
  x_step σ (fun r_82 σ_81 => (if r_82 = 0 then Q 0 σ_81 else x_readRow_j231 σ_81 Q))
def x_readRow_L203 (v1 : Int) (σ : S) (Q : Int → S → Prop) : Prop :=
  ∀ X203 : S → Prop, (∀ (σ : S), (x_readAttribute v1 σ (fun r_74 σ_73 => (if r_74 = 0 then Q 0 σ_73 else x_isSign 93 σ_73 (fun r_78 σ_77 => (if r_78 = 0 then X203 σ_77 else x_readRow_j222 σ_77 Q))))) → X203  σ) → X203  σ
def x_readRow_j141 (v1 : Int) (σ : S) (Q : Int → S → Prop) : Prop :=
  inb v1 50 ∧ ∀ σ_46, σ_46 = pA σ 17 v1 (gI σ 17) → x_take 2 σ_46 (fun r_50 σ_49 => (if r_50 = 0 then Q 0 σ_49 else x_expect σ_49 (fun r_54 σ_53 => (if r_54 = 0 then Q 0 σ_53 else inb v1 50 ∧ ∀ σ_57, σ_57 = pA σ_53 18 v1 0 → ∀ σ_61, σ_61 = pI σ_57 29 (w32 (gI σ_57 29 + 1)) → x_isSign 91 σ_61 (fun r_64 σ_63 => (if r_64 = 0 then x_readRow_j231 σ_63 Q else x_step σ_63 (fun r_70 σ_69 => (if r_70 = 0 then Q 0 σ_69 else x_readRow_L203 v1 σ_69 Q))))))))
def x_readRow_L125 (v1 : Int) (σ : S) (Q : Int → S → Prop) : Prop :=
  ∀ X125 : S → Prop, (∀ (σ : S), (x_isWord σ (fun r_42 σ_41 => (if r_42 = 0 then x_readRow_j141 v1 σ_41 Q else x_step σ_41 (fun r_86 σ_85 => (if r_86 = 0 then Q 0 σ_85 else X125 σ_85))))) → X125  σ) → X125  σ
def x_readRow_j82 (v1 : Int) (σ : S) (Q : Int → S → Prop) : Prop :=
  inb v1 50 ∧ ∀ σ_29, σ_29 = pA σ 16 v1 (gI σ 17) → inb v1 50 ∧ (if gI σ_29 17 = gA σ_29 15 v1 then x_wrong 1 (gI σ_29 17) σ_29 (fun r_91 σ_90 => Q r_91 σ_90) else x_take 1 σ_29 (fun r_38 σ_37 => (if r_38 = 0 then Q 0 σ_37 else x_readRow_L125 v1 σ_37 Q)))
def x_readRow_L53 (v1 : Int) (σ : S) (Q : Int → S → Prop) : Prop :=
  ∀ X53 : S → Prop, (∀ (σ : S), (x_isWord σ (fun r_18 σ_17 => ((r_18 = 0) → (inb (gI σ_17 17) 902)) ∧ (if ¬ (r_18 = 0) ∨ (gA σ_17 2 (gI σ_17 17) = 1) then x_step σ_17 (fun r_25 σ_24 => (if r_25 = 0 then Q 0 σ_24 else X53 σ_24)) else x_readRow_j82 v1 σ_17 Q))) → X53  σ) → X53  σ
def x_readRow (σ : S) (Q : Int → S → Prop) : Prop :=
  (if gI σ 29 = 50 then x_wrong 2 (gI σ 17) σ (fun r_97 σ_96 => Q r_97 σ_96) else inb (gI σ 29) 50 ∧ ∀ σ_6, σ_6 = pA σ 14 (gI σ 29) (gI σ 17) → x_step σ_6 (fun r_10 σ_9 => (if r_10 = 0 then Q 0 σ_9 else inb (gI σ 29) 50 ∧ ∀ σ_14, σ_14 = pA σ_9 15 (gI σ 29) (gI σ_9 17) → x_readRow_L53 (gI σ 29) σ_14 Q)))
def x_readRule (σ : S) (Q : Int → S → Prop) : Prop :=
  (if gI σ 43 = 30 then x_wrong 2 (gI σ 17) σ (fun r_36 σ_35 => Q r_36 σ_35) else x_step σ (fun r_6 σ_5 => (if r_6 = 0 then Q 0 σ_5 else inb (gI σ_5 17) 902 ∧ inb (w32 (40 + (gI σ 43))) 70 ∧ ∀ σ_12, σ_12 = pA σ_5 27 (w32 (40 + (gI σ 43))) (gA σ_5 5 (gI σ_5 17)) → x_expect σ_12 (fun r_16 σ_15 => (if r_16 = 0 then Q 0 σ_15 else x_take 1 σ_15 (fun r_20 σ_19 => (if r_20 = 0 then Q 0 σ_19 else ∀ σ_24, σ_24 = pI σ_19 43 (w32 (gI σ_19 43 + 1)) → ∀ σ_27, σ_27 = pI σ_24 44 (w32 (gI σ_24 44 + 1)) → inb (gI σ_24 44) 70 ∧ ∀ σ_29, σ_29 = pA σ_27 25 (gI σ_24 44) (w32 (40 + (gI σ 43))) → x_readSides (w32 (40 + (gI σ 43))) 4 σ_29 (fun r_33 σ_32 => Q r_33 σ_32))))))))
def x_readSorts_j16 (σ : S) (Q : Int → S → Prop) : Prop :=
  x_wrong 2 (gI σ 17) σ (fun r_8 σ_7 => Q r_8 σ_7)
def x_readSorts_j72 (σ : S) (Q : Int → S → Prop) : Prop :=
  x_take 0 σ (fun r_25 σ_24 => Q r_25 σ_24)
def x_readSorts_L0 (σ : S) (Q : Int → S → Prop) : Prop :=
  ∀ X0 : S → Prop, (∀ (σ : S), (x_isWord σ (fun r_2 σ_1 => (if ¬ (r_2 = 0) ∧ (gI σ_1 22 = 20) then x_readSorts_j16 σ_1 Q else x_expect σ_1 (fun r_11 σ_10 => (if r_11 = 0 then Q 0 σ_10 else ∀ σ_15, σ_15 = pI σ_10 22 (w32 (gI σ_10 22 + 1)) → inb (gI σ_10 22) 20 ∧ ∀ σ_17, σ_17 = pA σ_15 9 (gI σ_10 22) (gI σ_1 17) → x_isReserved 0 σ_17 (fun r_21 σ_20 => (if r_21 = 0 then x_isWord σ_20 (fun r_27 σ_26 => (if r_27 = 0 then x_readSorts_j72 σ_26 Q else X0 σ_26)) else x_readSorts_j72 σ_20 Q))))))) → X0  σ) → X0  σ
def x_readSorts (σ : S) (Q : Int → S → Prop) : Prop :=
  x_readSorts_L0 σ Q
def x_readVariables_j21 (σ : S) (Q : Int → S → Prop) : Prop :=
  x_wrong 2 (gI σ 17) σ (fun r_9 σ_8 => Q r_9 σ_8)
def x_readVariables_j124 (σ : S) (Q : Int → S → Prop) : Prop :=
  Q 0 σ
def x_readVariables_j105 (σ : S) (Q : Int → S → Prop) : Prop :=
  x_expect σ (fun r_33 σ_32 => (if r_33 = 0 then x_readVariables_j124 σ_32 Q else x_take 0 σ_32 (fun r_37 σ_36 => (if r_37 = 0 then x_readVariables_j124 σ_36 Q else Q 1 σ_36))))
def x_readVariables_L81 (v2 : Int) (σ : S) (Q : Int → S → Prop) : Prop :=
  ∀ X81 : Int → S → Prop, (∀ (v2 : Int) (σ : S), ((if v2 < gI σ 39 then inb v2 30 ∧ ∀ σ_41, σ_41 = pA σ 24 v2 (gI σ 17) → X81 (w32 (v2 + 1)) σ_41 else x_readVariables_j105 σ Q)) → X81 v2 σ) → X81 v2 σ
def x_readVariables_j69 (v1 : Int) (σ : S) (Q : Int → S → Prop) : Prop :=
  x_take 1 σ (fun r_26 σ_25 => (if r_26 = 0 then Q 0 σ_25 else x_readVariables_L81 v1 σ_25 Q))
def x_readVariables_L5 (v1 : Int) (σ : S) (Q : Int → S → Prop) : Prop :=
  ∀ X5 : S → Prop, (∀ (σ : S), (x_isWord σ (fun r_3 σ_2 => (if ¬ (r_3 = 0) ∧ (gI σ_2 39 = 30) then x_readVariables_j21 σ_2 Q else x_expect σ_2 (fun r_12 σ_11 => (if r_12 = 0 then Q 0 σ_11 else ∀ σ_16, σ_16 = pI σ_11 39 (w32 (gI σ_11 39 + 1)) → inb (gI σ_11 39) 30 ∧ ∀ σ_18, σ_18 = pA σ_16 23 (gI σ_11 39) (gI σ_2 17) → x_isWord σ_18 (fun r_22 σ_21 => (if r_22 = 0 then x_readVariables_j69 v1 σ_21 Q else X5 σ_21))))))) → X5  σ) → X5  σ
def x_readVariables (σ : S) (Q : Int → S → Prop) : Prop :=
  x_readVariables_L5 (gI σ 39) σ Q
def x_readStatement_j119 (σ : S) (Q : Int → S → Prop) : Prop :=
  x_readEquation σ (fun r_22 σ_21 => Q r_22 σ_21)
def x_readStatement_j99 (σ : S) (Q : Int → S → Prop) : Prop :=
  Q 0 σ
def x_readStatement_j56 (σ : S) (Q : Int → S → Prop) : Prop :=
  Q 0 σ
def x_readStatement_j27 (σ : S) (Q : Int → S → Prop) : Prop :=
  Q 0 σ
def x_readStatement (σ : S) (Q : Int → S → Prop) : Prop :=
  x_isWordText 8 σ (fun r_2 σ_1 => (if r_2 = 0 then x_isWordText 9 σ_1 (fun r_6 σ_5 => (if r_6 = 0 then x_isWordText 10 σ_5 (fun r_10 σ_9 => (if r_10 = 0 then x_isWordText 11 σ_9 (fun r_14 σ_13 => (if r_14 = 0 then x_isWordText 12 σ_13 (fun r_18 σ_17 => (if r_18 = 0 then x_isWordText 13 σ_17 (fun r_24 σ_23 => (if r_24 = 0 then x_isWordText 14 σ_23 (fun r_28 σ_27 => (if r_28 = 0 then x_wrong 1 (gI σ_27 17) σ_27 (fun r_33 σ_32 => Q r_33 σ_32) else x_readRule σ_27 (fun r_35 σ_34 => Q r_35 σ_34))) else x_readStatement_j119 σ_23 Q)) else x_readStatement_j119 σ_17 Q)) else x_step σ_13 (fun r_37 σ_36 => (if r_37 = 0 then x_readStatement_j99 σ_36 Q else x_readVariables σ_36 (fun r_41 σ_40 => (if r_41 = 0 then x_readStatement_j99 σ_40 Q else Q 1 σ_40)))))) else x_readRow σ_9 (fun r_45 σ_44 => Q r_45 σ_44))) else x_step σ_5 (fun r_47 σ_46 => (if r_47 = 0 then x_readStatement_j56 σ_46 Q else x_readLess σ_46 (fun r_51 σ_50 => (if r_51 = 0 then x_readStatement_j56 σ_50 Q else Q 1 σ_50)))))) else x_step σ_1 (fun r_55 σ_54 => (if r_55 = 0 then x_readStatement_j27 σ_54 Q else x_readSorts σ_54 (fun r_59 σ_58 => (if r_59 = 0 then x_readStatement_j27 σ_58 Q else Q 1 σ_58))))))
def x_readText_L2 (v1 : Int) (σ : S) (Q : Int → S → Prop) : Prop :=
  ∀ X2 : Int → S → Prop, (∀ (v1 : Int) (σ : S), (((¬ v1 = 0) → (inb (gI σ 17) 902)) ∧ (if ¬ (v1 = 0) ∧ (¬ (gA σ 2 (gI σ 17) = 3)) then x_readStatement σ (fun r_7 σ_6 => X2 r_7 σ_6) else Q v1 σ)) → X2 v1 σ) → X2 v1 σ
def x_readText (σ : S) (Q : Int → S → Prop) : Prop :=
  x_readText_L2 1 σ Q
def x_sortBy_L2 (v1 : Int) (v2 : Int) (σ : S) (Q : Int → S → Prop) : Prop :=
  ∀ X2 : Int → S → Prop, (∀ (v2 : Int) (σ : S), ((if v2 < gI σ 22 then inb v2 20 ∧ (if gA σ 38 v2 = v1 then Q v2 σ else X2 (w32 (v2 + 1)) σ) else Q (-2) σ)) → X2 v2 σ) → X2 v2 σ
def x_sortBy (v1 : Int) (σ : S) (Q : Int → S → Prop) : Prop :=
  x_sortBy_L2 v1 0 σ Q
def x_sortAt (v1 : Int) (σ : S) (Q : Int → S → Prop) : Prop :=
  inb v1 902 ∧ x_sortBy (gA σ 5 v1) σ (fun r_4 σ_3 => (if r_4 = (-2) then x_wrong 4 v1 σ_3 (fun r_8 σ_7 => Q r_4 σ_7) else Q r_4 σ_3))
def x_isBelow (v1 : Int) (v2 : Int) (σ : S) (Q : Int → S → Prop) : Prop :=
  inb v1 20 ∧ Q (bi (bAnd (bShr (gA σ 39 v1) v2) 1 = 1)) σ
def x_laySorts_j66 (v1 : Int) (v2 : Int) (σ : S) (Q : Int → S → Prop) (X24 : Int → S → Prop) : Prop :=
  inb v1 20 ∧ ∀ σ_14, σ_14 = pA σ 38 v1 v2 → inb v1 20 ∧ ∀ σ_17, σ_17 = pA σ_14 39 v1 (bShl 1 v1) → inb v1 20 ∧ ∀ σ_20, σ_20 = pA σ_17 40 v1 v1 → X24 (w32 (v1 + 1)) σ_20
def x_laySorts_L24 (v1 : Int) (σ : S) (Q : Int → S → Prop) : Prop :=
  ∀ X24 : Int → S → Prop, (∀ (v1 : Int) (σ : S), ((if v1 < gI σ 22 then inb v1 20 ∧ inb (gA σ 9 v1) 902 ∧ x_sortBy (gA σ 5 (gA σ 9 v1)) σ (fun r_11 σ_10 => (if r_11 = (-2) then x_laySorts_j66 v1 (gA σ 5 (gA σ 9 v1)) σ_10 Q X24 else inb v1 20 ∧ x_wrong 3 (gA σ_10 9 v1) σ_10 (fun r_26 σ_25 => x_laySorts_j66 v1 (gA σ 5 (gA σ 9 v1)) σ_25 Q X24))) else Q 0 σ)) → X24 v1 σ) → X24 v1 σ
def x_laySorts_j22 (σ : S) (Q : Int → S → Prop) : Prop :=
  x_laySorts_L24 0 σ Q
def x_laySorts_L2 (v1 : Int) (σ : S) (Q : Int → S → Prop) : Prop :=
  ∀ X2 : Int → S → Prop, (∀ (v1 : Int) (σ : S), ((if v1 < 20 then inb v1 20 ∧ ∀ σ_27, σ_27 = pA σ 38 v1 (-2) → X2 (w32 (v1 + 1)) σ_27 else x_laySorts_j22 σ Q)) → X2 v1 σ) → X2 v1 σ
def x_laySorts (σ : S) (Q : Int → S → Prop) : Prop :=
  x_laySorts_L2 0 σ Q
def x_layBelow_L69 (v3 : Int) (v4 : Int) (v5 : Int) (σ : S) (Q : Int → S → Prop) : Prop :=
  ∀ X69 : Int → S → Prop, (∀ (v5 : Int) (σ : S), ((if v5 < gI σ 22 then inb v5 20 ∧ ((¬ gA σ 40 v5 = v3) → (inb v5 20)) ∧ ((¬ gA σ 40 v5 = v3) → (¬ gA σ 40 v5 = v4) → (inb v5 20)) ∧ inb v5 20 ∧ ∀ σ_26, σ_26 = pA σ 40 v5 (if gA σ 40 v5 = v3 then min v3 v4 else (if gA σ 40 v5 = v4 then min v3 v4 else gA σ 40 v5)) → X69 (w32 (v5 + 1)) σ_26 else Q 1 σ)) → X69 v5 σ) → X69 v5 σ
def x_layBelow_j51 (v1 : Int) (v2 : Int) (σ : S) (Q : Int → S → Prop) : Prop :=
  inb v1 20 ∧ inb v2 20 ∧ x_layBelow_L69 (gA σ 40 v1) (gA σ 40 v2) 0 σ Q
def x_layBelow_j45 (v1 : Int) (v2 : Int) (v3 : Int) (σ : S) (Q : Int → S → Prop) (X13 : Int → S → Prop) : Prop :=
  X13 (w32 (v3 + 1)) σ
def x_layBelow_L13 (v1 : Int) (v2 : Int) (v3 : Int) (σ : S) (Q : Int → S → Prop) : Prop :=
  ∀ X13 : Int → S → Prop, (∀ (v3 : Int) (σ : S), ((if v3 < gI σ 22 then x_isBelow v3 v1 σ (fun r_30 σ_29 => (if r_30 = 0 then x_layBelow_j45 v1 v2 v3 σ_29 Q X13 else inb v3 20 ∧ inb v2 20 ∧ inb v3 20 ∧ ∀ σ_37, σ_37 = pA σ_29 39 v3 (bOr (gA σ_29 39 v3) (gA σ_29 39 v2)) → x_layBelow_j45 v1 v2 v3 σ_37 Q X13)) else x_layBelow_j51 v1 v2 σ Q)) → X13 v3 σ) → X13 v3 σ
def x_layBelow (v1 : Int) (v2 : Int) (σ : S) (Q : Int → S → Prop) : Prop :=
  x_isBelow v2 v1 σ (fun r_2 σ_1 => (if r_2 = 0 then x_layBelow_L13 v1 v2 0 σ_1 Q else Q 0 σ_1))
def x_layLess_j98 (v1 : Int) (v2 : Int) (σ : S) (Q : Int → S → Prop) : Prop :=
  (if v2 = 0 then inb v1 460 ∧ x_wrong 4 (gA σ 10 v1) σ (fun r_12 σ_11 => Q 0 σ_11) else Q 0 σ)
def x_layLess_j92 (v1 : Int) (v2 : Int) (v3 : Int) (σ : S) (Q : Int → S → Prop) (X9 : Int → Int → S → Prop) : Prop :=
  X9 v2 (w32 (v3 + 1)) σ
def x_layLess_j84 (v1 : Int) (v3 : Int) (v4 : Int) (v5 : Int) (s0 : Int) (s1 : Int) (σ : S) (Q : Int → S → Prop) (X9 : Int → Int → S → Prop) (X34 : Int → Int → S → Prop) : Prop :=
  X34 (bAnd s1 s0) (w32 (v5 + 1)) σ
def x_layLess_j79 (v1 : Int) (v3 : Int) (v4 : Int) (v5 : Int) (s0 : Int) (σ : S) (Q : Int → S → Prop) (X9 : Int → Int → S → Prop) (X34 : Int → Int → S → Prop) : Prop :=
  x_layLess_j84 v1 v3 v4 v5 1 s0 σ Q X9 X34
def x_layLess_L34 (v1 : Int) (v2 : Int) (v3 : Int) (v4 : Int) (v5 : Int) (σ : S) (Q : Int → S → Prop) (X9 : Int → Int → S → Prop) : Prop :=
  ∀ X34 : Int → Int → S → Prop, (∀ (v2 : Int) (v5 : Int) (σ : S), (inb v1 460 ∧ (if v5 < gA σ 13 v1 then x_sortAt v5 σ (fun r_22 σ_21 => (if ¬ (v4 = (-2)) ∧ (¬ (r_22 = (-2))) then x_layBelow v4 r_22 σ_21 (fun r_26 σ_25 => (if r_26 = 0 then x_layLess_j84 v1 v3 v4 v5 0 v2 σ_25 Q X9 X34 else x_layLess_j79 v1 v3 v4 v5 v2 σ_25 Q X9 X34)) else x_layLess_j79 v1 v3 v4 v5 v2 σ_21 Q X9 X34)) else x_layLess_j92 v1 v2 v3 σ Q X9)) → X34 v2 v5 σ) → X34 v2 v5 σ
def x_layLess_L9 (v1 : Int) (v2 : Int) (v3 : Int) (σ : S) (Q : Int → S → Prop) : Prop :=
  ∀ X9 : Int → Int → S → Prop, (∀ (v2 : Int) (v3 : Int) (σ : S), (inb v1 460 ∧ (if v3 < gA σ 10 v1 then x_sortAt v3 σ (fun r_14 σ_13 => inb v1 460 ∧ x_layLess_L34 v1 v2 v3 r_14 (gA σ_13 12 v1) σ_13 Q X9) else x_layLess_j98 v1 v2 σ Q)) → X9 v2 v3 σ) → X9 v2 v3 σ
def x_layLess (v1 : Int) (σ : S) (Q : Int → S → Prop) : Prop :=
  inb v1 460 ∧ x_layLess_L9 v1 1 (gA σ 11 v1) σ Q
def x_layKinds_j55 (v1 : Int) (s0 : Int) (s1 : Int) (σ : S) (Q : Int → S → Prop) (X7 : Int → S → Prop) : Prop :=
  inb s1 20 ∧ ∀ σ_14, σ_14 = pA σ 40 s1 s0 → X7 (w32 (v1 + 1)) σ_14
def x_layKinds_L7 (v1 : Int) (σ : S) (Q : Int → S → Prop) : Prop :=
  ∀ X7 : Int → S → Prop, (∀ (v1 : Int) (σ : S), ((if v1 < gI σ 22 then inb v1 20 ∧ (if gA σ 40 v1 = v1 then ∀ σ_18, σ_18 = pI σ 61 (w32 (gI σ 61 + 1)) → x_layKinds_j55 v1 (gI σ 61) v1 σ_18 Q X7 else inb v1 20 ∧ inb (gA σ 40 v1) 20 ∧ x_layKinds_j55 v1 (gA σ 40 (gA σ 40 v1)) v1 σ Q X7) else Q 0 σ)) → X7 v1 σ) → X7 v1 σ
def x_layKinds (σ : S) (Q : Int → S → Prop) : Prop :=
  ∀ σ_1, σ_1 = pI σ 61 0 → x_layKinds_L7 0 σ_1 Q
def x_addPart (v1 : Int) (v2 : Int) (σ : S) (Q : Int → S → Prop) : Prop :=
  inb v1 50 ∧ (if gA σ 45 v1 = 12 then Q 0 σ else inb v1 50 ∧ inb v1 50 ∧ ∀ σ_7, σ_7 = pA σ 45 v1 (w32 (gA σ 45 v1 + 1)) → inb (w32 (w32 (12 * v1) + (gA σ 45 v1))) 600 ∧ ∀ σ_10, σ_10 = pA σ_7 46 (w32 (w32 (12 * v1) + (gA σ 45 v1))) v2 → Q 1 σ_10)
def x_signId (v1 : Int) (σ : S) (Q : Int → S → Prop) : Prop :=
  inb 0 1 ∧ ∀ σ_1, σ_1 = pA σ 56 0 (b8 v1) → x_idOf 56 0 1 σ_1 (fun r_5 σ_4 => Q r_5 σ_4)
def x_layPrefix_j85 (σ : S) (Q : Int → S → Prop) : Prop :=
  Q 0 σ
def x_layPrefix_j63 (v1 : Int) (v3 : Int) (σ : S) (Q : Int → S → Prop) : Prop :=
  (if v3 = 0 then x_layPrefix_j85 σ Q else x_signId 41 σ (fun r_10 σ_9 => x_addPart v1 r_10 σ_9 (fun r_12 σ_11 => (if r_12 = 0 then x_layPrefix_j85 σ_11 Q else Q 1 σ_11))))
def x_layPrefix_j55 (v1 : Int) (v2 : Int) (v4 : Int) (s0 : Int) (s1 : Int) (σ : S) (Q : Int → S → Prop) (X15 : Int → Int → S → Prop) : Prop :=
  X15 (bAnd s1 s0) (w32 (v4 + 1)) σ
def x_layPrefix_j54 (v1 : Int) (v2 : Int) (v4 : Int) (s0 : Int) (σ : S) (Q : Int → S → Prop) (X15 : Int → Int → S → Prop) : Prop :=
  x_layPrefix_j55 v1 v2 v4 0 s0 σ Q X15
def x_layPrefix_j41 (v1 : Int) (v2 : Int) (v4 : Int) (s0 : Int) (σ : S) (Q : Int → S → Prop) (X15 : Int → Int → S → Prop) : Prop :=
  x_addPart v1 (-1) σ (fun r_18 σ_17 => (if r_18 = 0 then x_layPrefix_j54 v1 v2 v4 s0 σ_17 Q X15 else x_layPrefix_j55 v1 v2 v4 1 s0 σ_17 Q X15))
def x_layPrefix_L15 (v1 : Int) (v2 : Int) (v3 : Int) (v4 : Int) (σ : S) (Q : Int → S → Prop) : Prop :=
  ∀ X15 : Int → Int → S → Prop, (∀ (v3 : Int) (v4 : Int) (σ : S), ((if v4 < v2 then (if v4 = 0 then x_layPrefix_j41 v1 v2 v4 v3 σ Q X15 else x_signId 44 σ (fun r_22 σ_21 => x_addPart v1 r_22 σ_21 (fun r_24 σ_23 => (if r_24 = 0 then x_layPrefix_j54 v1 v2 v4 v3 σ_23 Q X15 else x_layPrefix_j41 v1 v2 v4 v3 σ_23 Q X15)))) else x_layPrefix_j63 v1 v3 σ Q)) → X15 v3 v4 σ) → X15 v3 v4 σ
def x_layPrefix (v1 : Int) (v2 : Int) (σ : S) (Q : Int → S → Prop) : Prop :=
  x_signId 40 σ (fun r_2 σ_1 => x_addPart v1 r_2 σ_1 (fun r_4 σ_3 => x_layPrefix_L15 v1 v2 r_4 0 σ_3 Q))
def x_layForm_j269 (v1 : Int) (v2 : Int) (v4 : Int) (σ : S) (Q : Int → S → Prop) : Prop :=
  ((v2 = v4) → (¬ v2 = 0) → (inb v1 50)) ∧ Q (bi ((v2 = v4) ∧ ((v2 = 0) ∨ (¬ (gA σ 45 v1 ≤ 1))))) σ
def x_layForm_j267 (σ : S) (Q : Int → S → Prop) : Prop :=
  Q 0 σ
def x_layForm_j184 (v1 : Int) (v2 : Int) (v3 : Int) (σ : S) (Q : Int → S → Prop) : Prop :=
  inb v1 50 ∧ inb v1 50 ∧ (if v3 = 0 then Q 0 σ else (if w32 (w32 (gA σ 17 v1 - (gA σ 16 v1)) - 1) ≤ 3 then (if v2 = 0 then (if w32 (w32 (gA σ 17 v1 - (gA σ 16 v1)) - 1) ≤ 0 then x_layForm_j269 v1 v2 (w32 (w32 (gA σ 17 v1 - (gA σ 16 v1)) - 1)) σ Q else inb v1 50 ∧ inb v1 50 ∧ ((w32 (gA σ 16 v1 - (gA σ 15 v1)) = 1) → (inb v1 50)) ∧ ((w32 (gA σ 16 v1 - (gA σ 15 v1)) = 1) → (inb (gA σ 15 v1) 902)) ∧ (if (w32 (gA σ 16 v1 - (gA σ 15 v1)) = 1) ∧ (gA σ 2 (gA σ 15 v1) = 0) then x_layPrefix v1 (w32 (w32 (gA σ 17 v1 - (gA σ 16 v1)) - 1)) σ (fun r_40 σ_39 => (if r_40 = 0 then x_layForm_j267 σ_39 Q else Q 1 σ_39)) else x_layForm_j267 σ Q)) else x_layForm_j269 v1 v2 (w32 (w32 (gA σ 17 v1 - (gA σ 16 v1)) - 1)) σ Q) else Q 0 σ))
def x_layForm_j178 (v1 : Int) (v2 : Int) (v3 : Int) (v4 : Int) (σ : S) (Q : Int → S → Prop) (X19 : Int → Int → Int → S → Prop) : Prop :=
  X19 v2 v3 (w32 (v4 + 1)) σ
def x_layForm_j172 (v1 : Int) (v2 : Int) (v3 : Int) (v4 : Int) (v5 : Int) (v6 : Int) (σ : S) (Q : Int → S → Prop) (X19 : Int → Int → Int → S → Prop) (X43 : Int → Int → Int → Int → S → Prop) : Prop :=
  X43 v2 v3 v5 (w32 (v6 + 1)) σ
def x_layForm_j155 (v1 : Int) (v2 : Int) (v3 : Int) (v4 : Int) (v5 : Int) (v6 : Int) (v7 : Int) (σ : S) (Q : Int → S → Prop) (X19 : Int → Int → Int → S → Prop) (X43 : Int → Int → Int → Int → S → Prop) : Prop :=
  (if v7 = 0 then x_layForm_j172 v1 v2 v3 v4 v5 v6 σ Q X19 X43 else x_addPart v1 (-1) σ (fun r_65 σ_64 => x_layForm_j172 v1 (w32 (v2 + 1)) (bAnd v3 r_65) v4 v5 v6 σ_64 Q X19 X43))
def x_layForm_j147 (v1 : Int) (v2 : Int) (v4 : Int) (v6 : Int) (v7 : Int) (s0 : Int) (s1 : Int) (σ : S) (Q : Int → S → Prop) (X19 : Int → Int → Int → S → Prop) (X43 : Int → Int → Int → Int → S → Prop) : Prop :=
  x_layForm_j155 v1 v2 (bAnd s1 s0) v4 (w32 (v6 + 1)) v6 v7 σ Q X19 X43
def x_layForm_j142 (v1 : Int) (v2 : Int) (v4 : Int) (v6 : Int) (v7 : Int) (s0 : Int) (σ : S) (Q : Int → S → Prop) (X19 : Int → Int → Int → S → Prop) (X43 : Int → Int → Int → Int → S → Prop) : Prop :=
  x_layForm_j147 v1 v2 v4 v6 v7 1 s0 σ Q X19 X43
def x_layForm_j146 (v1 : Int) (v2 : Int) (v4 : Int) (v6 : Int) (v7 : Int) (s0 : Int) (σ : S) (Q : Int → S → Prop) (X19 : Int → Int → Int → S → Prop) (X43 : Int → Int → Int → Int → S → Prop) : Prop :=
  x_layForm_j147 v1 v2 v4 v6 v7 0 s0 σ Q X19 X43
def x_layForm_j103 (v1 : Int) (v2 : Int) (v3 : Int) (v4 : Int) (v5 : Int) (v6 : Int) (v7 : Int) (σ : S) (Q : Int → S → Prop) (X19 : Int → Int → Int → S → Prop) (X43 : Int → Int → Int → Int → S → Prop) : Prop :=
  (if v6 = v5 then x_layForm_j142 v1 v2 v4 v6 v7 v3 σ Q X19 X43 else inb v1 50 ∧ (if gA σ 45 v1 < 12 then x_idOf 1 v5 v6 σ (fun r_71 σ_70 => x_addPart v1 r_71 σ_70 (fun r_73 σ_72 => (if r_73 = 0 then x_layForm_j146 v1 v2 v4 v6 v7 v3 σ_72 Q X19 X43 else x_layForm_j142 v1 v2 v4 v6 v7 v3 σ_72 Q X19 X43))) else x_layForm_j146 v1 v2 v4 v6 v7 v3 σ Q X19 X43))
def x_layForm_L43 (v1 : Int) (v2 : Int) (v3 : Int) (v4 : Int) (v5 : Int) (v6 : Int) (σ : S) (Q : Int → S → Prop) (X19 : Int → Int → Int → S → Prop) : Prop :=
  ∀ X43 : Int → Int → Int → Int → S → Prop, (∀ (v2 : Int) (v3 : Int) (v5 : Int) (v6 : Int) (σ : S), (inb v4 902 ∧ (if v6 ≤ gA σ 4 v4 then inb v4 902 ∧ ((v6 < gA σ 4 v4) → (inb v6 6000)) ∧ (if bi ((v6 < gA σ 4 v4) ∧ (gA σ 1 v6 = 95)) = 0 then inb v4 902 ∧ (if v6 = gA σ 4 v4 then x_layForm_j103 v1 v2 v3 v4 v5 v6 (bi ((v6 < gA σ 4 v4) ∧ (gA σ 1 v6 = 95))) σ Q X19 X43 else x_layForm_j155 v1 v2 v3 v4 v5 v6 (bi ((v6 < gA σ 4 v4) ∧ (gA σ 1 v6 = 95))) σ Q X19 X43) else x_layForm_j103 v1 v2 v3 v4 v5 v6 (bi ((v6 < gA σ 4 v4) ∧ (gA σ 1 v6 = 95))) σ Q X19 X43) else x_layForm_j178 v1 v2 v3 v4 σ Q X19)) → X43 v2 v3 v5 v6 σ) → X43 v2 v3 v5 v6 σ
def x_layForm_L19 (v1 : Int) (v2 : Int) (v3 : Int) (v4 : Int) (σ : S) (Q : Int → S → Prop) : Prop :=
  ∀ X19 : Int → Int → Int → S → Prop, (∀ (v2 : Int) (v3 : Int) (v4 : Int) (σ : S), (inb v1 50 ∧ (if v4 < gA σ 16 v1 then inb v4 902 ∧ x_layForm_L43 v1 v2 v3 v4 (gA σ 3 v4) (gA σ 3 v4) σ Q X19 else x_layForm_j184 v1 v2 v3 σ Q)) → X19 v2 v3 v4 σ) → X19 v2 v3 v4 σ
def x_layForm (v1 : Int) (σ : S) (Q : Int → S → Prop) : Prop :=
  inb v1 50 ∧ ∀ σ_1, σ_1 = pA σ 45 v1 0 → inb v1 50 ∧ x_layForm_L19 v1 0 1 (gA σ_1 15 v1) σ_1 Q
def x_isSameForm_L39 (v1 : Int) (v2 : Int) (v3 : Int) (v4 : Int) (σ : S) (Q : Int → S → Prop) : Prop :=
  ∀ X39 : Int → Int → S → Prop, (∀ (v3 : Int) (v4 : Int) (σ : S), (inb v1 50 ∧ (if v4 < gA σ 45 v1 then (if v3 = 0 then Q v3 σ else inb (w32 (w32 (12 * v1) + v4)) 600 ∧ inb (w32 (w32 (12 * v2) + v4)) 600 ∧ X39 (bi (gA σ 46 (w32 (w32 (12 * v1) + v4)) = gA σ 46 (w32 (w32 (12 * v2) + v4)))) (w32 (v4 + 1)) σ) else Q v3 σ)) → X39 v3 v4 σ) → X39 v3 v4 σ
def x_isSameForm (v1 : Int) (v2 : Int) (σ : S) (Q : Int → S → Prop) : Prop :=
  inb v1 50 ∧ inb v2 50 ∧ ((gA σ 45 v1 = gA σ 45 v2) → (inb v1 50)) ∧ ((gA σ 45 v1 = gA σ 45 v2) → (inb v2 50)) ∧ x_isSameForm_L39 v1 v2 (bi ((gA σ 45 v1 = gA σ 45 v2) ∧ (gA σ 43 v1 = gA σ 43 v2))) 0 σ Q
def x_layRow_j171 (v1 : Int) (v2 : Int) (σ : S) (Q : Int → S → Prop) : Prop :=
  inb v1 50 ∧ inb v1 50 ∧ ∀ σ_35, σ_35 = pA σ 47 v1 (bAnd (gA σ 47 v1) v2) → Q 0 σ_35
def x_layRow_j113 (v1 : Int) (v2 : Int) (σ : S) (Q : Int → S → Prop) : Prop :=
  inb v1 50 ∧ x_sortAt (w32 (gA σ 17 v1 + 1)) σ (fun r_22 σ_21 => inb v1 50 ∧ ∀ σ_23, σ_23 = pA σ_21 44 v1 r_22 → inb v1 50 ∧ inb v1 50 ∧ (if gA σ_23 47 v1 = 0 then inb v1 50 ∧ x_wrong 3 (gA σ_23 14 v1) σ_23 (fun r_41 σ_40 => x_layRow_j171 v1 (bAnd v2 (bi (¬ (gA σ_23 44 v1 = (-2))))) σ_40 Q) else x_layRow_j171 v1 (bAnd v2 (bi (¬ (gA σ_23 44 v1 = (-2))))) σ_23 Q))
def x_layRow_j107 (v1 : Int) (v2 : Int) (v3 : Int) (σ : S) (Q : Int → S → Prop) (X40 : Int → Int → S → Prop) : Prop :=
  X40 v2 (w32 (v3 + 1)) σ
def x_layRow_L40 (v1 : Int) (v2 : Int) (v3 : Int) (σ : S) (Q : Int → S → Prop) : Prop :=
  ∀ X40 : Int → Int → S → Prop, (∀ (v2 : Int) (v3 : Int) (σ : S), (inb v1 50 ∧ inb v1 50 ∧ (if v3 < w32 (w32 (gA σ 17 v1 - (gA σ 16 v1)) - 1) then inb v1 50 ∧ x_sortAt (w32 (w32 (gA σ 16 v1 + 1) + v3)) σ (fun r_47 σ_46 => (if v3 < 3 then inb (w32 (w32 (3 * v1) + v3)) 150 ∧ ∀ σ_51, σ_51 = pA σ_46 42 (w32 (w32 (3 * v1) + v3)) r_47 → x_layRow_j107 v1 (bAnd v2 (bi (¬ (r_47 = (-2))))) v3 σ_51 Q X40 else x_layRow_j107 v1 (bAnd v2 (bi (¬ (r_47 = (-2))))) v3 σ_46 Q X40)) else x_layRow_j113 v1 v2 σ Q)) → X40 v2 v3 σ) → X40 v2 v3 σ
def x_layRow (v1 : Int) (σ : S) (Q : Int → S → Prop) : Prop :=
  x_layForm v1 σ (fun r_2 σ_1 => inb v1 50 ∧ ∀ σ_3, σ_3 = pA σ_1 47 v1 r_2 → inb v1 50 ∧ inb v1 50 ∧ inb v1 50 ∧ ∀ σ_10, σ_10 = pA σ_3 43 v1 (min 3 (w32 (w32 (gA σ_3 17 v1 - (gA σ_3 16 v1)) - 1))) → x_layRow_L40 v1 1 0 σ_10 Q)
def x_isSameAttribute (v1 : Int) (v2 : Int) (v3 : Int) (σ : S) (Q : Int → S → Prop) : Prop :=
  inb v1 50 ∧ inb v2 50 ∧ Q (bi (bAnd (gA σ 18 v1) v3 = bAnd (gA σ 18 v2) v3)) σ
def x_checkLater_j341 (v1 : Int) (v3 : Int) (σ : S) (Q : Int → S → Prop) : Prop :=
  (if v3 = 0 then inb v1 50 ∧ x_wrong 5 (gA σ 14 v1) σ (fun r_40 σ_39 => Q 0 σ_39) else Q 0 σ)
def x_checkLater_j322 (v1 : Int) (v3 : Int) (v4 : Int) (v5 : Int) (σ : S) (Q : Int → S → Prop) (X235 : Int → Int → S → Prop) : Prop :=
  X235 (bAnd v3 (bi (v4 = 0))) (w32 (v5 + 1)) σ
def x_checkLater_L267 (v1 : Int) (v3 : Int) (v4 : Int) (v5 : Int) (v6 : Int) (σ : S) (Q : Int → S → Prop) (X235 : Int → Int → S → Prop) : Prop :=
  ∀ X267 : Int → Int → S → Prop, (∀ (v4 : Int) (v6 : Int) (σ : S), (inb v1 50 ∧ (if v6 < gA σ 43 v1 then (if v4 = 0 then x_checkLater_j322 v1 v3 v4 v5 σ Q X235 else inb (w32 (w32 (3 * v1) + v6)) 150 ∧ inb (w32 (w32 (3 * v5) + v6)) 150 ∧ X267 (bi (gA σ 42 (w32 (w32 (3 * v1) + v6)) = gA σ 42 (w32 (w32 (3 * v5) + v6)))) (w32 (v6 + 1)) σ) else x_checkLater_j322 v1 v3 v4 v5 σ Q X235)) → X267 v4 v6 σ) → X267 v4 v6 σ
def x_checkLater_L235 (v1 : Int) (v3 : Int) (v5 : Int) (σ : S) (Q : Int → S → Prop) : Prop :=
  ∀ X235 : Int → Int → S → Prop, (∀ (v3 : Int) (v5 : Int) (σ : S), ((if v5 < v1 then inb v5 50 ∧ inb v1 50 ∧ x_checkLater_L267 v1 v3 (bi (gA σ 41 v5 = gA σ 41 v1)) v5 0 σ Q X235 else x_checkLater_j341 v1 v3 σ Q)) → X235 v3 v5 σ) → X235 v3 v5 σ
def x_checkLater_j229 (v1 : Int) (v3 : Int) (σ : S) (Q : Int → S → Prop) : Prop :=
  x_checkLater_L235 v1 v3 0 σ Q
def x_checkLater_L161 (v1 : Int) (v2 : Int) (v3 : Int) (v4 : Int) (σ : S) (Q : Int → S → Prop) : Prop :=
  ∀ X161 : Int → Int → S → Prop, (∀ (v3 : Int) (v4 : Int) (σ : S), (inb v1 50 ∧ (if v4 < gA σ 22 v1 then (if v3 = 0 then x_checkLater_j229 v1 v3 σ Q else inb v1 50 ∧ inb (w32 (gA σ 21 v1 + v4)) 902 ∧ inb (gA σ 3 (w32 (gA σ 21 v1 + v4))) 6000 ∧ inb v2 50 ∧ inb (w32 (gA σ 21 v2 + v4)) 902 ∧ inb (gA σ 3 (w32 (gA σ 21 v2 + v4))) 6000 ∧ X161 (bi (gA σ 1 (gA σ 3 (w32 (gA σ 21 v1 + v4))) = gA σ 1 (gA σ 3 (w32 (gA σ 21 v2 + v4))))) (w32 (v4 + 1)) σ) else x_checkLater_j229 v1 v3 σ Q)) → X161 v3 v4 σ) → X161 v3 v4 σ
def x_checkLater_j41 (v1 : Int) (v2 : Int) (s0 : Int) (σ : S) (Q : Int → S → Prop) : Prop :=
  inb v1 50 ∧ ((¬ bAnd (gA σ 18 v1) 4 = 0) → (inb v1 50)) ∧ ((¬ bAnd (gA σ 18 v1) 4 = 0) → (inb (gA σ 19 v1) 902)) ∧ ((¬ bAnd (gA σ 18 v1) 4 = 0) → (inb v2 50)) ∧ ((¬ bAnd (gA σ 18 v1) 4 = 0) → (inb (gA σ 19 v2) 902)) ∧ inb v1 50 ∧ ((¬ bAnd (gA σ 18 v1) 8 = 0) → (inb v1 50)) ∧ ((¬ bAnd (gA σ 18 v1) 8 = 0) → (inb v2 50)) ∧ (if bAnd (bAnd s0 (bi ((bAnd (gA σ 18 v1) 4 = 0) ∨ (gA σ 5 (gA σ 19 v1) = gA σ 5 (gA σ 19 v2))))) (bi ((bAnd (gA σ 18 v1) 8 = 0) ∨ (gA σ 20 v1 = gA σ 20 v2))) = 0 then x_checkLater_j229 v1 (bAnd (bAnd s0 (bi ((bAnd (gA σ 18 v1) 4 = 0) ∨ (gA σ 5 (gA σ 19 v1) = gA σ 5 (gA σ 19 v2))))) (bi ((bAnd (gA σ 18 v1) 8 = 0) ∨ (gA σ 20 v1 = gA σ 20 v2)))) σ Q else inb v1 50 ∧ (if bAnd (gA σ 18 v1) 16 = 0 then x_checkLater_j229 v1 (bAnd (bAnd s0 (bi ((bAnd (gA σ 18 v1) 4 = 0) ∨ (gA σ 5 (gA σ 19 v1) = gA σ 5 (gA σ 19 v2))))) (bi ((bAnd (gA σ 18 v1) 8 = 0) ∨ (gA σ 20 v1 = gA σ 20 v2)))) σ Q else inb v1 50 ∧ inb v2 50 ∧ x_checkLater_L161 v1 v2 (bi (gA σ 22 v1 = gA σ 22 v2)) 0 σ Q))
def x_checkLater_j40 (v1 : Int) (v2 : Int) (σ : S) (Q : Int → S → Prop) : Prop :=
  x_checkLater_j41 v1 v2 0 σ Q
def x_checkLater (v1 : Int) (v2 : Int) (σ : S) (Q : Int → S → Prop) : Prop :=
  inb v1 50 ∧ inb (gA σ 44 v1) 20 ∧ inb v2 50 ∧ inb (gA σ 44 v2) 20 ∧ (if gA σ 40 (gA σ 44 v1) = gA σ 40 (gA σ 44 v2) then x_isSameAttribute v1 v2 63 σ (fun r_101 σ_100 => (if r_101 = 0 then x_checkLater_j40 v1 v2 σ_100 Q else x_checkLater_j41 v1 v2 1 σ_100 Q)) else x_checkLater_j40 v1 v2 σ Q)
def x_isSameKinds_L5 (v1 : Int) (v2 : Int) (v3 : Int) (v4 : Int) (σ : S) (Q : Int → S → Prop) : Prop :=
  ∀ X5 : Int → Int → S → Prop, (∀ (v3 : Int) (v4 : Int) (σ : S), (inb v1 50 ∧ (if v4 < gA σ 43 v1 then inb (w32 (w32 (3 * v1) + v4)) 150 ∧ inb (gA σ 42 (w32 (w32 (3 * v1) + v4))) 20 ∧ inb (w32 (w32 (3 * v2) + v4)) 150 ∧ inb (gA σ 42 (w32 (w32 (3 * v2) + v4))) 20 ∧ X5 (bAnd v3 (bi (gA σ 40 (gA σ 42 (w32 (w32 (3 * v1) + v4))) = gA σ 40 (gA σ 42 (w32 (w32 (3 * v2) + v4)))))) (w32 (v4 + 1)) σ else Q v3 σ)) → X5 v3 v4 σ) → X5 v3 v4 σ
def x_isSameKinds (v1 : Int) (v2 : Int) (σ : S) (Q : Int → S → Prop) : Prop :=
  x_isSameKinds_L5 v1 v2 1 0 σ Q
def x_isEnd (v1 : Int) (v2 : Int) (σ : S) (Q : Int → S → Prop) : Prop :=
  inb (w32 (w32 (12 * v1) + v2)) 600 ∧ Q (bi (gA σ 46 (w32 (w32 (12 * v1) + v2)) = (-1))) σ
def x_layFirst_j352 (v1 : Int) (v2 : Int) (v3 : Int) (v8 : Int) (σ : S) (Q : Int → S → Prop) : Prop :=
  ((v3 = 2) → (inb (w32 (3 * v2)) 150)) ∧ ((v3 = 2) → (inb (gA σ 42 (w32 (3 * v2))) 20)) ∧ ((v3 = 2) → (inb (w32 (w32 (3 * v2) + 1)) 150)) ∧ ((v3 = 2) → (inb (gA σ 42 (w32 (w32 (3 * v2) + 1))) 20)) ∧ ((¬ bi ((v3 = 2) ∧ (gA σ 40 (gA σ 42 (w32 (3 * v2))) = gA σ 40 (gA σ 42 (w32 (w32 (3 * v2) + 1))))) = 0) → (inb (w32 (3 * v2)) 150)) ∧ ((¬ bi ((v3 = 2) ∧ (gA σ 40 (gA σ 42 (w32 (3 * v2))) = gA σ 40 (gA σ 42 (w32 (w32 (3 * v2) + 1))))) = 0) → (inb (gA σ 42 (w32 (3 * v2))) 20)) ∧ ((¬ bi ((v3 = 2) ∧ (gA σ 40 (gA σ 42 (w32 (3 * v2))) = gA σ 40 (gA σ 42 (w32 (w32 (3 * v2) + 1))))) = 0) → (inb v1 50)) ∧ inb v2 50 ∧ ((bAnd (gA σ 18 v2) 32 = 0) → (inb v1 50)) ∧ ((bAnd (gA σ 18 v2) 32 = 0) → (gA σ 52 v1 = 0) → (inb v1 50)) ∧ ((bAnd (gA σ 18 v2) 32 = 0) → (gA σ 52 v1 = 0) → (gA σ 53 v1 = 0) → (inb v2 50)) ∧ ((bAnd (gA σ 18 v2) 32 = 0) → (gA σ 52 v1 = 0) → (¬ gA σ 53 v1 = 0) → (¬ bi ((v3 = 2) ∧ (gA σ 40 (gA σ 42 (w32 (3 * v2))) = gA σ 40 (gA σ 42 (w32 (w32 (3 * v2) + 1))))) = 0) → (inb v2 50)) ∧ ((bAnd (gA σ 18 v2) 32 = 0) → (¬ gA σ 52 v1 = 0) → (¬ bi (¬ (bi ((v3 = 2) ∧ (gA σ 40 (gA σ 42 (w32 (3 * v2))) = gA σ 40 (gA σ 42 (w32 (w32 (3 * v2) + 1))))) = 0) ∧ (gA σ 40 (gA σ 42 (w32 (3 * v2))) = gA σ 55 v1)) = 0) → (inb v1 50)) ∧ ((bAnd (gA σ 18 v2) 32 = 0) → (¬ gA σ 52 v1 = 0) → (¬ bi (¬ (bi ((v3 = 2) ∧ (gA σ 40 (gA σ 42 (w32 (3 * v2))) = gA σ 40 (gA σ 42 (w32 (w32 (3 * v2) + 1))))) = 0) ∧ (gA σ 40 (gA σ 42 (w32 (3 * v2))) = gA σ 55 v1)) = 0) → (gA σ 53 v1 = 0) → (inb v2 50)) ∧ ((bAnd (gA σ 18 v2) 32 = 0) → (¬ gA σ 52 v1 = 0) → (¬ bi (¬ (bi ((v3 = 2) ∧ (gA σ 40 (gA σ 42 (w32 (3 * v2))) = gA σ 40 (gA σ 42 (w32 (w32 (3 * v2) + 1))))) = 0) ∧ (gA σ 40 (gA σ 42 (w32 (3 * v2))) = gA σ 55 v1)) = 0) → (¬ gA σ 53 v1 = 0) → (¬ bi ((v3 = 2) ∧ (gA σ 40 (gA σ 42 (w32 (3 * v2))) = gA σ 40 (gA σ 42 (w32 (w32 (3 * v2) + 1))))) = 0) → (inb v2 50)) ∧ (if bAnd v8 (bi ((bAnd (gA σ 18 v2) 32 = 0) ∧ (((gA σ 52 v1 = 0) ∧ (((gA σ 53 v1 = 0) ∧ ((bAnd (gA σ 18 v2) 4 = 0) ∨ (¬ (bi (¬ (bi ((v3 = 2) ∧ (gA σ 40 (gA σ 42 (w32 (3 * v2))) = gA σ 40 (gA σ 42 (w32 (w32 (3 * v2) + 1))))) = 0) ∧ (gA σ 40 (gA σ 42 (w32 (3 * v2))) = gA σ 55 v1)) = 0)))) ∨ (¬ (gA σ 53 v1 = 0) ∧ (¬ (bi ((v3 = 2) ∧ (gA σ 40 (gA σ 42 (w32 (3 * v2))) = gA σ 40 (gA σ 42 (w32 (w32 (3 * v2) + 1))))) = 0) ∧ ((bAnd (gA σ 18 v2) 4 = 0) ∨ (¬ (bi (¬ (bi ((v3 = 2) ∧ (gA σ 40 (gA σ 42 (w32 (3 * v2))) = gA σ 40 (gA σ 42 (w32 (w32 (3 * v2) + 1))))) = 0) ∧ (gA σ 40 (gA σ 42 (w32 (3 * v2))) = gA σ 55 v1)) = 0))))))) ∨ (¬ (gA σ 52 v1 = 0) ∧ (¬ (bi (¬ (bi ((v3 = 2) ∧ (gA σ 40 (gA σ 42 (w32 (3 * v2))) = gA σ 40 (gA σ 42 (w32 (w32 (3 * v2) + 1))))) = 0) ∧ (gA σ 40 (gA σ 42 (w32 (3 * v2))) = gA σ 55 v1)) = 0) ∧ (((gA σ 53 v1 = 0) ∧ ((bAnd (gA σ 18 v2) 4 = 0) ∨ (¬ (bi (¬ (bi ((v3 = 2) ∧ (gA σ 40 (gA σ 42 (w32 (3 * v2))) = gA σ 40 (gA σ 42 (w32 (w32 (3 * v2) + 1))))) = 0) ∧ (gA σ 40 (gA σ 42 (w32 (3 * v2))) = gA σ 55 v1)) = 0)))) ∨ (¬ (gA σ 53 v1 = 0) ∧ (¬ (bi ((v3 = 2) ∧ (gA σ 40 (gA σ 42 (w32 (3 * v2))) = gA σ 40 (gA σ 42 (w32 (w32 (3 * v2) + 1))))) = 0) ∧ ((bAnd (gA σ 18 v2) 4 = 0) ∨ (¬ (bi (¬ (bi ((v3 = 2) ∧ (gA σ 40 (gA σ 42 (w32 (3 * v2))) = gA σ 40 (gA σ 42 (w32 (w32 (3 * v2) + 1))))) = 0) ∧ (gA σ 40 (gA σ 42 (w32 (3 * v2))) = gA σ 55 v1)) = 0))))))))))) = 0 then inb v2 50 ∧ x_wrong 5 (gA σ 14 v2) σ (fun r_110 σ_109 => Q 0 σ_109) else Q 0 σ)
def x_layFirst_j333 (v1 : Int) (v2 : Int) (v3 : Int) (v5 : Int) (v6 : Int) (v7 : Int) (v8 : Int) (v9 : Int) (v10 : Int) (σ : S) (Q : Int → S → Prop) (X197 : Int → S → Prop) : Prop :=
  inb (w32 (w32 (3 * v1) + v9)) 150 ∧ ∀ σ_155, σ_155 = pA σ 51 (w32 (w32 (3 * v1) + v9)) v10 → X197 (w32 (v9 + 1)) σ_155
def x_layFirst_L197 (v1 : Int) (v2 : Int) (v3 : Int) (v5 : Int) (v6 : Int) (v7 : Int) (v8 : Int) (v9 : Int) (σ : S) (Q : Int → S → Prop) : Prop :=
  ∀ X197 : Int → S → Prop, (∀ (v9 : Int) (σ : S), ((if v9 < v3 then ((¬ v9 = 0) → (v9 = w32 (v3 - 1)) → (¬ v6 = 0) → (v5 = 0) → (inb v1 50)) ∧ ((¬ v9 = 0) → (v9 = w32 (v3 - 1)) → (¬ v6 = 0) → (¬ v5 = 0) → (inb v1 50)) ∧ ((v9 = 0) → (v5 = 0) → (v9 = w32 (v3 - 1)) → (¬ v6 = 0) → (v5 = 0) → (inb v1 50)) ∧ ((v9 = 0) → (v5 = 0) → (v9 = w32 (v3 - 1)) → (¬ v6 = 0) → (¬ v5 = 0) → (inb v1 50)) ∧ ((v9 = 0) → (¬ v5 = 0) → (inb v1 50)) ∧ (if ¬ (v7 = 0) ∧ (¬ (v8 = 0)) then inb v2 50 ∧ inb (w32 (gA σ 21 v2 + v9)) 902 ∧ inb (gA σ 3 (w32 (gA σ 21 v2 + v9))) 6000 ∧ ((¬ gA σ 1 (gA σ 3 (w32 (gA σ 21 v2 + v9))) = 38) → (¬ gA σ 1 (gA σ 3 (w32 (gA σ 21 v2 + v9))) = 101) → (inb v1 50)) ∧ ((¬ gA σ 1 (gA σ 3 (w32 (gA σ 21 v2 + v9))) = 38) → (gA σ 1 (gA σ 3 (w32 (gA σ 21 v2 + v9))) = 101) → (inb v1 50)) ∧ x_layFirst_j333 v1 v2 v3 v5 v6 v7 v8 v9 (if gA σ 1 (gA σ 3 (w32 (gA σ 21 v2 + v9))) = 38 then 99 else (if gA σ 1 (gA σ 3 (w32 (gA σ 21 v2 + v9))) = 101 then gA σ 50 v1 else w32 (gA σ 50 v1 - 1))) σ Q X197 else x_layFirst_j333 v1 v2 v3 v5 v6 v7 v8 v9 (if v9 = 0 then (if v5 = 0 then (if v9 = w32 (v3 - 1) then (if v6 = 0 then 99 else (if v5 = 0 then gA σ 50 v1 else w32 (gA σ 50 v1 - 1))) else 99) else gA σ 50 v1) else (if v9 = w32 (v3 - 1) then (if v6 = 0 then 99 else (if v5 = 0 then gA σ 50 v1 else w32 (gA σ 50 v1 - 1))) else 99)) σ Q X197) else x_layFirst_j352 v1 v2 v3 v8 σ Q)) → X197 v9 σ) → X197 v9 σ
def x_layFirst (v1 : Int) (v2 : Int) (σ : S) (Q : Int → S → Prop) : Prop :=
  inb v2 50 ∧ inb v2 50 ∧ x_isEnd v2 0 σ (fun r_6 σ_5 => x_isEnd v2 (w32 (gA σ 45 v2 - 1)) σ_5 (fun r_8 σ_7 => inb v1 50 ∧ ∀ σ_9, σ_9 = pA σ_7 49 v1 (gA σ 43 v2) → inb v2 50 ∧ inb (gA σ_9 44 v2) 20 ∧ inb v1 50 ∧ ∀ σ_16, σ_16 = pA σ_9 55 v1 (gA σ_9 40 (gA σ_9 44 v2)) → inb v2 50 ∧ ((¬ bAnd (gA σ_16 18 v2) 8 = 0) → (inb v2 50)) ∧ inb v1 50 ∧ ∀ σ_29, σ_29 = pA σ_16 50 v1 (if bAnd (gA σ_16 18 v2) 8 = 0 then (if r_6 = 0 then (if r_8 = 0 then 0 else 41) else 41) else gA σ_16 20 v2) → inb v2 50 ∧ inb v1 50 ∧ ∀ σ_35, σ_35 = pA σ_29 52 v1 (bi (¬ (bAnd (gA σ_29 18 v2) 1 = 0))) → inb v2 50 ∧ inb v1 50 ∧ ∀ σ_41, σ_41 = pA σ_35 53 v1 (bi (¬ (bAnd (gA σ_35 18 v2) 2 = 0))) → inb v1 50 ∧ ∀ σ_44, σ_44 = pA σ_41 54 v1 (-2) → inb v2 50 ∧ ((¬ bi (¬ (bAnd (gA σ_44 18 v2) 16 = 0)) = 0) → (inb v2 50)) ∧ x_layFirst_L197 v1 v2 (gA σ 43 v2) r_6 r_8 (bi (¬ (bAnd (gA σ_44 18 v2) 16 = 0))) (bi ((bi (¬ (bAnd (gA σ_44 18 v2) 16 = 0)) = 0) ∨ (gA σ_44 22 v2 = gA σ 43 v2))) 0 σ_44 Q))
def x_layUnit_j109 (v1 : Int) (v2 : Int) (σ : S) (Q : Int → S → Prop) : Prop :=
  inb v1 50 ∧ (if gA σ 54 v1 = (-2) then inb v2 50 ∧ x_wrong 5 (gA σ 14 v2) σ (fun r_17 σ_16 => Q 0 σ_16) else Q 0 σ)
def x_layUnit_j103 (v1 : Int) (v2 : Int) (v3 : Int) (σ : S) (Q : Int → S → Prop) (X21 : Int → S → Prop) : Prop :=
  X21 (w32 (v3 + 1)) σ
def x_layUnit_L21 (v1 : Int) (v2 : Int) (v3 : Int) (σ : S) (Q : Int → S → Prop) : Prop :=
  ∀ X21 : Int → S → Prop, (∀ (v3 : Int) (σ : S), ((if v3 < gI σ 63 then inb v3 50 ∧ inb v3 50 ∧ ((gA σ 49 v3 = 0) → (inb (gA σ 48 v3) 50)) ∧ ((gA σ 49 v3 = 0) → (gA σ 45 (gA σ 48 v3) = 1) → (inb (w32 (12 * (gA σ 48 v3))) 600)) ∧ ((gA σ 49 v3 = 0) → (gA σ 45 (gA σ 48 v3) = 1) → (inb v2 50)) ∧ ((gA σ 49 v3 = 0) → (gA σ 45 (gA σ 48 v3) = 1) → (inb (gA σ 19 v2) 902)) ∧ ((gA σ 49 v3 = 0) → (gA σ 45 (gA σ 48 v3) = 1) → (gA σ 46 (w32 (12 * (gA σ 48 v3))) = gA σ 5 (gA σ 19 v2)) → (inb v3 50)) ∧ ((gA σ 49 v3 = 0) → (gA σ 45 (gA σ 48 v3) = 1) → (gA σ 46 (w32 (12 * (gA σ 48 v3))) = gA σ 5 (gA σ 19 v2)) → (inb v1 50)) ∧ (if (gA σ 49 v3 = 0) ∧ ((gA σ 45 (gA σ 48 v3) = 1) ∧ ((gA σ 46 (w32 (12 * (gA σ 48 v3))) = gA σ 5 (gA σ 19 v2)) ∧ (gA σ 55 v3 = gA σ 55 v1))) then inb v1 50 ∧ ∀ σ_38, σ_38 = pA σ 54 v1 v3 → x_layUnit_j103 v1 v2 v3 σ_38 Q X21 else x_layUnit_j103 v1 v2 v3 σ Q X21) else x_layUnit_j109 v1 v2 σ Q)) → X21 v3 σ) → X21 v3 σ
def x_layUnit (v1 : Int) (σ : S) (Q : Int → S → Prop) : Prop :=
  inb v1 50 ∧ inb (gA σ 48 v1) 50 ∧ (if bAnd (gA σ 18 (gA σ 48 v1)) 4 = 0 then Q 0 σ else x_layUnit_L21 v1 (gA σ 48 v1) 0 σ Q)
def x_layOperators_L151 (v1 : Int) (σ : S) (Q : Int → S → Prop) : Prop :=
  ∀ X151 : Int → S → Prop, (∀ (v1 : Int) (σ : S), ((if v1 < gI σ 63 then x_layUnit v1 σ (fun _ σ_9 => X151 (w32 (v1 + 1)) σ_9) else Q 0 σ)) → X151 v1 σ) → X151 v1 σ
def x_layOperators_j149 (σ : S) (Q : Int → S → Prop) : Prop :=
  x_layOperators_L151 0 σ Q
def x_layOperators_j71 (v1 : Int) (v2 : Int) (σ : S) (Q : Int → S → Prop) (X7 : Int → S → Prop) (X25 : Int → S → Prop) : Prop :=
  X25 (w32 (v2 + 1)) σ
def x_layOperators_j143 (v1 : Int) (σ : S) (Q : Int → S → Prop) (X7 : Int → S → Prop) : Prop :=
  X7 (w32 (v1 + 1)) σ
def x_layOperators_j77 (v1 : Int) (σ : S) (Q : Int → S → Prop) (X7 : Int → S → Prop) : Prop :=
  inb v1 50 ∧ (if gA σ 41 v1 = (-2) then inb v1 50 ∧ ∀ σ_40, σ_40 = pA σ 41 v1 (gI σ 63) → inb (gI σ_40 63) 50 ∧ ∀ σ_44, σ_44 = pA σ_40 48 (gI σ_40 63) v1 → ∀ σ_48, σ_48 = pI σ_44 63 (w32 (gI σ_44 63 + 1)) → x_layFirst (gI σ_44 63) v1 σ_48 (fun _ σ_50 => x_layOperators_j143 v1 σ_50 Q X7) else inb v1 50 ∧ inb (gA σ 41 v1) 50 ∧ x_checkLater v1 (gA σ 48 (gA σ 41 v1)) σ (fun _ σ_38 => x_layOperators_j143 v1 σ_38 Q X7))
def x_layOperators_L25 (v1 : Int) (v2 : Int) (σ : S) (Q : Int → S → Prop) (X7 : Int → S → Prop) : Prop :=
  ∀ X25 : Int → S → Prop, (∀ (v2 : Int) (σ : S), (((v2 < v1) → (inb v1 50)) ∧ (if (v2 < v1) ∧ (gA σ 41 v1 = (-2)) then x_isSameForm v1 v2 σ (fun r_18 σ_17 => (if r_18 = 0 then x_layOperators_j71 v1 v2 σ_17 Q X7 X25 else x_isSameKinds v1 v2 σ_17 (fun r_22 σ_21 => (if r_22 = 0 then x_layOperators_j71 v1 v2 σ_21 Q X7 X25 else inb v2 50 ∧ inb v1 50 ∧ ∀ σ_27, σ_27 = pA σ_21 41 v1 (gA σ_21 41 v2) → x_layOperators_j71 v1 v2 σ_27 Q X7 X25)))) else x_layOperators_j77 v1 σ Q X7)) → X25 v2 σ) → X25 v2 σ
def x_layOperators_L7 (v1 : Int) (σ : S) (Q : Int → S → Prop) : Prop :=
  ∀ X7 : Int → S → Prop, (∀ (v1 : Int) (σ : S), ((if v1 < gI σ 29 then inb v1 50 ∧ ∀ σ_10, σ_10 = pA σ 41 v1 (-2) → x_layOperators_L25 v1 0 σ_10 Q X7 else x_layOperators_j149 σ Q)) → X7 v1 σ) → X7 v1 σ
def x_layOperators (σ : S) (Q : Int → S → Prop) : Prop :=
  ∀ σ_1, σ_1 = pI σ 63 0 → x_layOperators_L7 0 σ_1 Q
def x_layVariables_j58 (v1 : Int) (v2 : Int) (σ : S) (Q : Int → S → Prop) (X2 : Int → S → Prop) : Prop :=
  inb v1 30 ∧ ∀ σ_10, σ_10 = pA σ 57 v1 v2 → inb v1 30 ∧ x_sortAt (gA σ_10 24 v1) σ_10 (fun r_16 σ_15 => inb v1 30 ∧ ∀ σ_17, σ_17 = pA σ_15 58 v1 r_16 → X2 (w32 (v1 + 1)) σ_17)
def x_layVariables_j52 (v1 : Int) (v2 : Int) (v3 : Int) (σ : S) (Q : Int → S → Prop) (X2 : Int → S → Prop) (X24 : Int → S → Prop) : Prop :=
  X24 (w32 (v3 + 1)) σ
def x_layVariables_L24 (v1 : Int) (v2 : Int) (v3 : Int) (σ : S) (Q : Int → S → Prop) (X2 : Int → S → Prop) : Prop :=
  ∀ X24 : Int → S → Prop, (∀ (v3 : Int) (σ : S), ((if v3 < v1 then inb v3 30 ∧ (if gA σ 57 v3 = v2 then inb v1 30 ∧ x_wrong 3 (gA σ 23 v1) σ (fun r_27 σ_26 => x_layVariables_j52 v1 v2 v3 σ_26 Q X2 X24) else x_layVariables_j52 v1 v2 v3 σ Q X2 X24) else x_layVariables_j58 v1 v2 σ Q X2)) → X24 v3 σ) → X24 v3 σ
def x_layVariables_L2 (v1 : Int) (σ : S) (Q : Int → S → Prop) : Prop :=
  ∀ X2 : Int → S → Prop, (∀ (v1 : Int) (σ : S), ((if v1 < gI σ 39 then inb v1 30 ∧ inb (gA σ 23 v1) 902 ∧ x_layVariables_L24 v1 (gA σ 5 (gA σ 23 v1)) 0 σ Q X2 else Q 0 σ)) → X2 v1 σ) → X2 v1 σ
def x_layVariables (σ : S) (Q : Int → S → Prop) : Prop :=
  x_layVariables_L2 0 σ Q
def x_addReading_j142 (v1 : Int) (v7 : Int) (σ : S) (Q : Int → S → Prop) : Prop :=
  inb v1 1089 ∧ inb v7 76000 ∧ ∀ σ_23, σ_23 = pA σ 63 v7 (gA σ 64 v1) → inb v1 1089 ∧ ∀ σ_26, σ_26 = pA σ_23 64 v1 v7 → Q 0 σ_26
def x_addReading_L110 (v1 : Int) (v5 : Int) (v7 : Int) (v8 : Int) (σ : S) (Q : Int → S → Prop) : Prop :=
  ∀ X110 : Int → S → Prop, (∀ (v8 : Int) (σ : S), ((if v8 < v5 then inb v8 3 ∧ inb (w32 (w32 (3 * v7) + v8)) 228000 ∧ ∀ σ_31, σ_31 = pA σ 62 (w32 (w32 (3 * v7) + v8)) (gA σ 65 v8) → X110 (w32 (v8 + 1)) σ_31 else x_addReading_j142 v1 v7 σ Q)) → X110 v8 σ) → X110 v8 σ
def x_addReading_j62 (v1 : Int) (v2 : Int) (v3 : Int) (v4 : Int) (v5 : Int) (v6 : Int) (σ : S) (Q : Int → S → Prop) : Prop :=
  (if v6 ≤ 1 then ∀ σ_8, σ_8 = pI σ 82 (w32 (gI σ 82 + 1)) → inb (gI σ 82) 76000 ∧ ∀ σ_10, σ_10 = pA σ_8 59 (gI σ 82) v2 → inb (gI σ 82) 76000 ∧ ∀ σ_13, σ_13 = pA σ_10 60 (gI σ 82) v3 → inb (gI σ 82) 76000 ∧ ∀ σ_16, σ_16 = pA σ_13 61 (gI σ 82) v4 → x_addReading_L110 v1 v5 (gI σ 82) 0 σ_16 Q else Q 0 σ)
def x_addReading_L11 (v1 : Int) (v2 : Int) (v3 : Int) (v4 : Int) (v5 : Int) (v6 : Int) (v7 : Int) (σ : S) (Q : Int → S → Prop) : Prop :=
  ∀ X11 : Int → Int → S → Prop, (∀ (v6 : Int) (v7 : Int) (σ : S), ((if v7 = (-2) then x_addReading_j62 v1 v2 v3 v4 v5 v6 σ Q else inb v7 76000 ∧ ((gA σ 59 v7 = v2) → (inb v7 76000)) ∧ inb v7 76000 ∧ X11 (w32 (v6 + (bi ((gA σ 59 v7 = v2) ∧ (gA σ 60 v7 = v3))))) (gA σ 63 v7) σ)) → X11 v6 v7 σ) → X11 v6 v7 σ
def x_addReading (v1 : Int) (v2 : Int) (v3 : Int) (v4 : Int) (v5 : Int) (σ : S) (Q : Int → S → Prop) : Prop :=
  inb v1 1089 ∧ x_addReading_L11 v1 v2 v3 v4 v5 0 (gA σ 64 v1) σ Q
def x_cellOf (v0 : Int) (v1 : Int) (σ : S) (Q : Int → S → Prop) : Prop :=
  Q (w32 (w32 (v0 * 33) + v1)) σ
def x_fit_j298 (G : Orc) (v1 : Int) (v2 : Int) (v3 : Int) (v4 : Int) (v5 : Int) (v6 : Int) (v9 : Int) (v10 : Int) (v12 : Int) (σ : S) (Q : Int → S → Prop) (X186 : Int → S → Prop) : Prop :=
  X186 (w32 (v12 + 1)) σ
def x_fit_j286 (G : Orc) (v1 : Int) (v2 : Int) (v3 : Int) (v4 : Int) (v5 : Int) (v6 : Int) (v9 : Int) (v10 : Int) (v12 : Int) (v13 : Int) (v14 : Int) (σ : S) (Q : Int → S → Prop) (X186 : Int → S → Prop) (X213 : Int → Int → S → Prop) : Prop :=
  inb v14 76000 ∧ X213 v13 (gA σ 63 v14) σ
def x_fit_L213 (G : Orc) (v1 : Int) (v2 : Int) (v3 : Int) (v4 : Int) (v5 : Int) (v6 : Int) (v9 : Int) (v10 : Int) (v12 : Int) (v13 : Int) (v14 : Int) (σ : S) (Q : Int → S → Prop) (X186 : Int → S → Prop) : Prop :=
  ∀ X213 : Int → Int → S → Prop, (∀ (v13 : Int) (v14 : Int) (σ : S), ((if v14 = (-2) then x_fit_j298 G v1 v2 v3 v4 v5 v6 v9 v10 v12 σ Q X186 else (if v13 < 2 then inb v14 76000 ∧ ((gA σ 59 v14 = v9) → (inb v14 76000)) ∧ ((gA σ 59 v14 = v9) → (inb (w32 (w32 (3 * v1) + v3)) 150)) ∧ (if (gA σ 59 v14 = v9) ∧ (gA σ 60 v14 ≤ gA σ 51 (w32 (w32 (3 * v1) + v3))) then inb v3 3 ∧ ∀ σ_42, σ_42 = pA σ 65 v3 v14 → G 0 [v1, (w32 (v2 + 1)), (w32 (v3 + 1)), v12, v5, v6] σ_42 (fun _ σ_45 => x_fit_j286 G v1 v2 v3 v4 v5 v6 v9 v10 v12 (w32 (v13 + 1)) v14 σ_45 Q X186 X213) (fun _ => False) else x_fit_j286 G v1 v2 v3 v4 v5 v6 v9 v10 v12 v13 v14 σ Q X186 X213) else x_fit_j298 G v1 v2 v3 v4 v5 v6 v9 v10 v12 σ Q X186))) → X213 v13 v14 σ) → X213 v13 v14 σ
def x_fit_L186 (G : Orc) (v1 : Int) (v2 : Int) (v3 : Int) (v4 : Int) (v5 : Int) (v6 : Int) (v9 : Int) (v10 : Int) (v12 : Int) (σ : S) (Q : Int → S → Prop) : Prop :=
  ∀ X186 : Int → S → Prop, (∀ (v12 : Int) (σ : S), ((if v12 ≤ w32 (v5 - v10) then x_cellOf v4 v12 σ (fun r_27 σ_26 => inb r_27 1089 ∧ x_fit_L213 G v1 v2 v3 v4 v5 v6 v9 v10 v12 0 (gA σ_26 64 r_27) σ_26 Q X186) else Q 0 σ)) → X186 v12 σ) → X186 v12 σ
def x_fit_F (G : Orc) (v1 : Int) (v2 : Int) (v3 : Int) (v4 : Int) (v5 : Int) (v6 : Int) (σ : S) (Q : Int → S → Prop) : Prop :=
  inb v1 50 ∧ (if gI σ 92 ≤ 1 then inb (gA σ 48 v1) 50 ∧ (if v2 = gA σ 45 (gA σ 48 v1) then (if v4 = v5 then inb v1 50 ∧ inb v1 50 ∧ x_addReading v6 (gA σ 55 v1) (gA σ 50 v1) v1 v3 σ (fun _ σ_66 => ∀ σ_68, σ_68 = pI σ_66 92 (w32 (gI σ_66 92 + 1)) → Q 0 σ_68) else Q 0 σ) else inb (w32 (w32 (12 * (gA σ 48 v1)) + v2)) 600 ∧ (if gA σ 46 (w32 (w32 (12 * (gA σ 48 v1)) + v2)) = (-1) then inb (w32 (w32 (3 * (gA σ 48 v1)) + v3)) 150 ∧ inb (gA σ 42 (w32 (w32 (3 * (gA σ 48 v1)) + v3))) 20 ∧ inb (gA σ 48 v1) 50 ∧ x_fit_L186 G v1 v2 v3 v4 v5 v6 (gA σ 40 (gA σ 42 (w32 (w32 (3 * (gA σ 48 v1)) + v3)))) (w32 (w32 (gA σ 45 (gA σ 48 v1) - 1) - v2)) (if w32 (w32 (gA σ 45 (gA σ 48 v1) - 1) - v2) = 0 then max v5 (w32 (v4 + 1)) else w32 (v4 + 1)) σ Q else ((v4 < v5) → (inb (w32 (gI σ 89 + v4)) 902)) ∧ (if (v4 < v5) ∧ (gA σ 5 (w32 (gI σ 89 + v4)) = gA σ 46 (w32 (w32 (12 * (gA σ 48 v1)) + v2))) then G 0 [v1, (w32 (v2 + 1)), v3, (w32 (v4 + 1)), v5, v6] σ (fun _ σ_56 => Q 0 σ_56) (fun _ => False) else Q 0 σ))) else Q 0 σ)
def x_S_fit : Nat → Orc
  | 0 => fun _ _ _ _ _ => False
  | n + 1 => fun i a σ Q E => match i, a with
    | 0, [v1, v2, v3, v4, v5, v6] => x_fit_F (x_S_fit n) v1 v2 v3 v4 v5 v6 σ Q
    | _, _ => False
def x_fit (v1 : Int) (v2 : Int) (v3 : Int) (v4 : Int) (v5 : Int) (v6 : Int) (σ : S) (Q : Int → S → Prop) : Prop := x_S_fit 16 0 [v1, v2, v3, v4, v5, v6] σ Q (fun _ => False)
def x_addBracket_j29 (v1 : Int) (v2 : Int) (σ : S) (Q : Int → S → Prop) : Prop :=
  inb v2 76000 ∧ inb v2 76000 ∧ x_addReading v1 (gA σ 59 v2) 0 (gA σ 61 v2) 3 σ (fun _ σ_7 => Q 0 σ_7)
def x_addBracket_L2 (v1 : Int) (v2 : Int) (v3 : Int) (σ : S) (Q : Int → S → Prop) : Prop :=
  ∀ X2 : Int → S → Prop, (∀ (v3 : Int) (σ : S), ((if v3 < 3 then inb (w32 (w32 (3 * v2) + v3)) 228000 ∧ inb v3 3 ∧ ∀ σ_10, σ_10 = pA σ 65 v3 (gA σ 62 (w32 (w32 (3 * v2) + v3))) → X2 (w32 (v3 + 1)) σ_10 else x_addBracket_j29 v1 v2 σ Q)) → X2 v3 σ) → X2 v3 σ
def x_addBracket (v1 : Int) (v2 : Int) (σ : S) (Q : Int → S → Prop) : Prop :=
  x_addBracket_L2 v1 v2 0 σ Q
def x_layCell_L219 (v1 : Int) (v2 : Int) (v3 : Int) (v7 : Int) (σ : S) (Q : Int → S → Prop) : Prop :=
  ∀ X219 : Int → S → Prop, (∀ (v7 : Int) (σ : S), ((if v7 < gI σ 63 then ∀ σ_34, σ_34 = pI σ 92 0 → x_fit v7 0 0 v1 v2 v3 σ_34 (fun _ σ_36 => X219 (w32 (v7 + 1)) σ_36) else Q 0 σ)) → X219 v7 σ) → X219 v7 σ
def x_layCell_j216 (v1 : Int) (v2 : Int) (v3 : Int) (σ : S) (Q : Int → S → Prop) : Prop :=
  x_layCell_L219 v1 v2 v3 0 σ Q
def x_layCell_L190 (v1 : Int) (v2 : Int) (v3 : Int) (v7 : Int) (σ : S) (Q : Int → S → Prop) : Prop :=
  ∀ X190 : Int → S → Prop, (∀ (v7 : Int) (σ : S), ((if v7 = (-2) then x_layCell_j216 v1 v2 v3 σ Q else x_addBracket v3 v7 σ (fun _ σ_37 => inb v7 76000 ∧ X190 (gA σ_37 63 v7) σ_37))) → X190 v7 σ) → X190 v7 σ
def x_layCell_j89 (v1 : Int) (v2 : Int) (v3 : Int) (v4 : Int) (σ : S) (Q : Int → S → Prop) : Prop :=
  inb v4 902 ∧ ((gA σ 2 v4 = 1) → (inb v4 902)) ∧ ((gA σ 2 v4 = 1) → (inb (gA σ 3 v4) 6000)) ∧ ((¬ w32 (v2 - v1) ≤ 2) → (¬ bi ((gA σ 2 v4 = 1) ∧ (gA σ 1 (gA σ 3 v4) = 40)) = 0) → (inb (w32 (w32 (gI σ 89 + v2) - 1)) 902)) ∧ ((¬ w32 (v2 - v1) ≤ 2) → (¬ bi ((gA σ 2 v4 = 1) ∧ (gA σ 1 (gA σ 3 v4) = 40)) = 0) → (gA σ 2 (w32 (w32 (gI σ 89 + v2) - 1)) = 1) → (inb (w32 (w32 (gI σ 89 + v2) - 1)) 902)) ∧ ((¬ w32 (v2 - v1) ≤ 2) → (¬ bi ((gA σ 2 v4 = 1) ∧ (gA σ 1 (gA σ 3 v4) = 40)) = 0) → (gA σ 2 (w32 (w32 (gI σ 89 + v2) - 1)) = 1) → (inb (gA σ 3 (w32 (w32 (gI σ 89 + v2) - 1))) 6000)) ∧ (if ¬ (w32 (v2 - v1) ≤ 2) ∧ (¬ (bi ((gA σ 2 v4 = 1) ∧ (gA σ 1 (gA σ 3 v4) = 40)) = 0) ∧ ((gA σ 2 (w32 (w32 (gI σ 89 + v2) - 1)) = 1) ∧ (gA σ 1 (gA σ 3 (w32 (w32 (gI σ 89 + v2) - 1))) = 41))) then x_cellOf (w32 (v1 + 1)) (w32 (v2 - 1)) σ (fun r_26 σ_25 => inb r_26 1089 ∧ x_layCell_L190 v1 v2 v3 (gA σ_25 64 r_26) σ_25 Q) else x_layCell_j216 v1 v2 v3 σ Q)
def x_layCell_j83 (v1 : Int) (v2 : Int) (v3 : Int) (v4 : Int) (v5 : Int) (σ : S) (Q : Int → S → Prop) (X24 : Int → S → Prop) : Prop :=
  X24 (w32 (v5 + 1)) σ
def x_layCell_L24 (v1 : Int) (v2 : Int) (v3 : Int) (v4 : Int) (v5 : Int) (σ : S) (Q : Int → S → Prop) : Prop :=
  ∀ X24 : Int → S → Prop, (∀ (v5 : Int) (σ : S), ((if v5 < gI σ 39 then inb v4 902 ∧ ((gA σ 2 v4 = 0) → (inb v5 30)) ∧ ((gA σ 2 v4 = 0) → (inb v4 902)) ∧ (if (gA σ 2 v4 = 0) ∧ (gA σ 57 v5 = gA σ 5 v4) then inb v5 30 ∧ inb (gA σ 58 v5) 20 ∧ x_addReading v3 (gA σ 40 (gA σ 58 v5)) 0 (w32 ((-1) - v5)) 0 σ (fun _ σ_60 => x_layCell_j83 v1 v2 v3 v4 v5 σ_60 Q X24) else x_layCell_j83 v1 v2 v3 v4 v5 σ Q X24) else x_layCell_j89 v1 v2 v3 v4 σ Q)) → X24 v5 σ) → X24 v5 σ
def x_layCell (v1 : Int) (v2 : Int) (σ : S) (Q : Int → S → Prop) : Prop :=
  x_cellOf v1 v2 σ (fun r_2 σ_1 => (if v2 = w32 (v1 + 1) then x_layCell_L24 v1 v2 r_2 (w32 (gI σ_1 89 + v1)) 0 σ_1 Q else x_layCell_j89 v1 v2 r_2 (w32 (gI σ_1 89 + v1)) σ_1 Q))
def x_layReadings_j80 (v3 : Int) (σ : S) (Q : Int → S → Prop) (X42 : Int → S → Prop) : Prop :=
  X42 (w32 (v3 + 1)) σ
def x_layReadings_L53 (v3 : Int) (v4 : Int) (σ : S) (Q : Int → S → Prop) (X42 : Int → S → Prop) : Prop :=
  ∀ X53 : Int → S → Prop, (∀ (v4 : Int) (σ : S), ((if w32 (v4 + v3) ≤ gI σ 90 then x_layCell v4 (w32 (v4 + v3)) σ (fun _ σ_15 => X53 (w32 (v4 + 1)) σ_15) else x_layReadings_j80 v3 σ Q X42)) → X53 v4 σ) → X53 v4 σ
def x_layReadings_L42 (v3 : Int) (σ : S) (Q : Int → S → Prop) : Prop :=
  ∀ X42 : Int → S → Prop, (∀ (v3 : Int) (σ : S), ((if v3 ≤ gI σ 90 then x_layReadings_L53 v3 0 σ Q X42 else Q 0 σ)) → X42 v3 σ) → X42 v3 σ
def x_layReadings_j40 (σ : S) (Q : Int → S → Prop) : Prop :=
  x_layReadings_L42 1 σ Q
def x_layReadings_L19 (v3 : Int) (σ : S) (Q : Int → S → Prop) : Prop :=
  ∀ X19 : Int → S → Prop, (∀ (v3 : Int) (σ : S), ((if v3 < 1089 then inb v3 1089 ∧ ∀ σ_16, σ_16 = pA σ 64 v3 (-2) → X19 (w32 (v3 + 1)) σ_16 else x_layReadings_j40 σ Q)) → X19 v3 σ) → X19 v3 σ
def x_layReadings (v1 : Int) (v2 : Int) (σ : S) (Q : Int → S → Prop) : Prop :=
  ∀ σ_1, σ_1 = pI σ 89 v1 → ∀ σ_3, σ_3 = pI σ_1 90 (w32 (v2 - v1)) → ∀ σ_5, σ_5 = pI σ_3 82 0 → x_layReadings_L19 0 σ_5 Q
def x_readingOf_j65 (v3 : Int) (v4 : Int) (v5 : Int) (σ : S) (Q : Int → S → Prop) (X25 : Int → Int → S → Prop) : Prop :=
  inb v5 76000 ∧ X25 v4 (gA σ 63 v5) σ
def x_readingOf_j49 (v3 : Int) (v4 : Int) (v5 : Int) (σ : S) (Q : Int → S → Prop) (X25 : Int → Int → S → Prop) : Prop :=
  x_readingOf_j65 v3 (if v4 = (-5) then v5 else (-6)) v5 σ Q X25
def x_readingOf_L25 (v3 : Int) (v4 : Int) (v5 : Int) (σ : S) (Q : Int → S → Prop) : Prop :=
  ∀ X25 : Int → Int → S → Prop, (∀ (v4 : Int) (v5 : Int) (σ : S), ((if v5 = (-2) then Q v4 σ else (if v3 = (-2) then x_readingOf_j49 v3 v4 v5 σ Q X25 else inb v5 76000 ∧ (if gA σ 59 v5 = v3 then x_readingOf_j49 v3 v4 v5 σ Q X25 else x_readingOf_j65 v3 v4 v5 σ Q X25)))) → X25 v4 v5 σ) → X25 v4 v5 σ
def x_readingOf (v1 : Int) (v2 : Int) (v3 : Int) (σ : S) (Q : Int → S → Prop) : Prop :=
  x_layReadings v1 v2 σ (fun _ σ_1 => x_cellOf 0 (gI σ_1 90) σ_1 (fun r_4 σ_3 => inb r_4 1089 ∧ x_readingOf_L25 v3 (-5) (gA σ_3 64 r_4) σ_3 Q))
def x_slotOf_L11 (v2 : Int) (v3 : Int) (v4 : Int) (v5 : Int) (σ : S) (Q : Int → S → Prop) : Prop :=
  ∀ X11 : Int → Int → S → Prop, (∀ (v4 : Int) (v5 : Int) (σ : S), ((if v5 < v3 then inb (w32 (v2 + v5)) 20000 ∧ X11 (bXor (w32 (w32 (v4 * 1000003) + (gA σ 74 (w32 (v2 + v5))))) (bUsh (w32 (w32 (v4 * 1000003) + (gA σ 74 (w32 (v2 + v5))))) 15)) (w32 (v5 + 1)) σ else Q (bAnd v4 131071) σ)) → X11 v4 v5 σ) → X11 v4 v5 σ
def x_slotOf (v1 : Int) (v2 : Int) (v3 : Int) (σ : S) (Q : Int → S → Prop) : Prop :=
  x_slotOf_L11 v2 v3 (w32 (w32 (v1 * 31) + v3)) 0 σ Q
def x_at (v1 : Int) (v2 : Int) (σ : S) (Q : Int → S → Prop) : Prop :=
  inb v1 200000 ∧ inb (w32 (gA σ 67 v1 + v2)) 600000 ∧ Q (gA σ 73 (w32 (gA σ 67 v1 + v2))) σ
def x_isRowAbove_L3 (v1 : Int) (v2 : Nat) (v3 : Int) (v4 : Int) (v5 : Int) (σ : S) (Q : Int → S → Prop) : Prop :=
  ∀ X3 : Int → S → Prop, (∀ (v5 : Int) (σ : S), ((if v5 < v3 then inb (if v4 = 0 then v5 else w32 (w32 (v3 - 1) - v5)) ((dAln dX v2 : Nat) : Int) ∧ (if gA σ v2 (if v4 = 0 then v5 else w32 (w32 (v3 - 1) - v5)) = (-2) then Q 0 σ else inb (w32 (w32 (3 * v1) + v5)) 150 ∧ x_isBelow (gA σ v2 (if v4 = 0 then v5 else w32 (w32 (v3 - 1) - v5))) (gA σ 42 (w32 (w32 (3 * v1) + v5))) σ (fun r_14 σ_13 => (if r_14 = 0 then Q 0 σ_13 else X3 (w32 (v5 + 1)) σ_13))) else Q 1 σ)) → X3 v5 σ) → X3 v5 σ
def x_isRowAbove (v1 : Int) (v2 : Nat) (v3 : Int) (v4 : Int) (σ : S) (Q : Int → S → Prop) : Prop :=
  x_isRowAbove_L3 v1 v2 v3 v4 0 σ Q
def x_leastBy_j125 (v4 : Int) (v5 : Int) (v6 : Int) (σ : S) (Q : Int → S → Prop) (X86 : Int → Int → S → Prop) : Prop :=
  X86 v4 (w32 (v6 + 1)) σ
def x_leastBy_L86 (v4 : Int) (v5 : Int) (v6 : Int) (σ : S) (Q : Int → S → Prop) : Prop :=
  ∀ X86 : Int → Int → S → Prop, (∀ (v4 : Int) (v6 : Int) (σ : S), ((if v6 < gI σ 22 then ((bAnd (bShr v5 v6) 1 = 1) → (inb v6 20)) ∧ (if (bAnd (bShr v5 v6) 1 = 1) ∧ (bAnd v5 (bXor (gA σ 39 v6) (-1)) = 0) then x_leastBy_j125 v6 v5 v6 σ Q X86 else x_leastBy_j125 v4 v5 v6 σ Q X86) else Q v4 σ)) → X86 v4 v6 σ) → X86 v4 v6 σ
def x_leastBy_j83 (v4 : Int) (v5 : Int) (σ : S) (Q : Int → S → Prop) : Prop :=
  x_leastBy_L86 v4 v5 0 σ Q
def x_leastBy_j77 (v1 : Int) (v2 : Nat) (v3 : Int) (v4 : Int) (v5 : Int) (v6 : Int) (σ : S) (Q : Int → S → Prop) (X10 : Int → Int → S → Prop) : Prop :=
  X10 v5 (w32 (v6 + 1)) σ
def x_leastBy_j63 (v1 : Int) (v2 : Nat) (v3 : Int) (v4 : Int) (v5 : Int) (v6 : Int) (σ : S) (Q : Int → S → Prop) (X10 : Int → Int → S → Prop) : Prop :=
  inb v6 50 ∧ x_leastBy_j77 v1 v2 v3 v4 (bOr v5 (bShl 1 (gA σ 44 v6))) v6 σ Q X10
def x_leastBy_L10 (v1 : Int) (v2 : Nat) (v3 : Int) (v4 : Int) (v5 : Int) (v6 : Int) (σ : S) (Q : Int → S → Prop) : Prop :=
  ∀ X10 : Int → Int → S → Prop, (∀ (v5 : Int) (v6 : Int) (σ : S), ((if v6 < gI σ 29 then inb v6 50 ∧ (if gA σ 41 v6 = v1 then x_isRowAbove v6 v2 v3 0 σ (fun r_19 σ_18 => (if r_19 = 0 then inb v1 50 ∧ (if gA σ_18 53 v1 = 0 then x_leastBy_j77 v1 v2 v3 v4 v5 v6 σ_18 Q X10 else x_isRowAbove v6 v2 v3 1 σ_18 (fun r_29 σ_28 => (if r_29 = 0 then x_leastBy_j77 v1 v2 v3 v4 v5 v6 σ_28 Q X10 else x_leastBy_j63 v1 v2 v3 v4 v5 v6 σ_28 Q X10))) else x_leastBy_j63 v1 v2 v3 v4 v5 v6 σ_18 Q X10)) else x_leastBy_j77 v1 v2 v3 v4 v5 v6 σ Q X10) else x_leastBy_j83 v4 v5 σ Q)) → X10 v5 v6 σ) → X10 v5 v6 σ
def x_leastBy (v1 : Int) (v2 : Nat) (v3 : Int) (σ : S) (Q : Int → S → Prop) : Prop :=
  x_leastBy_L10 v1 v2 v3 (-2) 0 0 σ Q
def x_leastOf_j112 (v1 : Int) (v3 : Int) (σ : S) (Q : Int → S → Prop) : Prop :=
  x_leastBy v1 76 v3 σ (fun r_8 σ_7 => Q r_8 σ_7)
def x_leastOf_L81 (v1 : Int) (v2 : Int) (v3 : Int) (v4 : Int) (σ : S) (Q : Int → S → Prop) : Prop :=
  ∀ X81 : Int → S → Prop, (∀ (v4 : Int) (σ : S), ((if v4 < v3 then x_at v2 v4 σ (fun r_10 σ_9 => inb r_10 200000 ∧ inb v4 3 ∧ ∀ σ_13, σ_13 = pA σ_9 76 v4 (gA σ_9 69 r_10) → X81 (w32 (v4 + 1)) σ_13) else x_leastOf_j112 v1 v3 σ Q)) → X81 v4 σ) → X81 v4 σ
def x_leastOf_L25 (v1 : Int) (v2 : Int) (v3 : Int) (v4 : Int) (v5 : Int) (σ : S) (Q : Int → S → Prop) : Prop :=
  ∀ X25 : Int → Int → S → Prop, (∀ (v4 : Int) (v5 : Int) (σ : S), ((if v5 < v3 then inb 0 3 ∧ ∀ σ_22, σ_22 = pA σ 76 0 v4 → x_at v2 v5 σ_22 (fun r_26 σ_25 => inb r_26 200000 ∧ inb 1 3 ∧ ∀ σ_29, σ_29 = pA σ_25 76 1 (gA σ_25 69 r_26) → x_leastBy v1 76 2 σ_29 (fun r_33 σ_32 => X25 r_33 (w32 (v5 + 1)) σ_32)) else Q v4 σ)) → X25 v4 v5 σ) → X25 v4 v5 σ
def x_leastOf (v1 : Int) (v2 : Int) (v3 : Int) (σ : S) (Q : Int → S → Prop) : Prop :=
  inb v1 50 ∧ (if gA σ 52 v1 = 0 then x_leastOf_L81 v1 v2 v3 0 σ Q else x_at v2 0 σ (fun r_17 σ_16 => inb r_17 200000 ∧ x_leastOf_L25 v1 v2 v3 (gA σ_16 69 r_17) 1 σ_16 Q))
def x_sortOfVariable (v1 : Int) (σ : S) (Q : Int → S → Prop) : Prop :=
  inb (Int.tmod v1 30) 30 ∧ Q (gA σ 58 (Int.tmod v1 30)) σ
def x_nodeOf_j324 (v4 : Int) (v6 : Int) (s0 : Int) (s1 : Int) (σ : S) (Q : Int → S → Prop) (E : S → Prop) : Prop :=
  inb s1 200000 ∧ ∀ σ_40, σ_40 = pA σ 69 s1 s0 → inb v4 131072 ∧ inb v6 200000 ∧ ∀ σ_45, σ_45 = pA σ_40 71 v6 (gA σ_40 72 v4) → inb v4 131072 ∧ ∀ σ_48, σ_48 = pA σ_45 72 v4 v6 → Q v6 σ_48
def x_nodeOf_j279 (v1 : Int) (v3 : Int) (v4 : Int) (v5 : Int) (v6 : Int) (σ : S) (Q : Int → S → Prop) (E : S → Prop) : Prop :=
  inb v6 200000 ∧ ∀ σ_30, σ_30 = pA σ 70 v6 v5 → inb v6 200000 ∧ ∀ σ_33, σ_33 = pA σ_30 75 v6 0 → (if v1 < 0 then x_sortOfVariable (w32 ((-1) - v1)) σ_33 (fun r_52 σ_51 => x_nodeOf_j324 v4 v6 r_52 v6 σ_51 Q E) else x_leastOf v1 v6 v3 σ_33 (fun r_39 σ_38 => x_nodeOf_j324 v4 v6 r_39 v6 σ_38 Q E))
def x_nodeOf_L242 (v1 : Int) (v2 : Int) (v3 : Int) (v4 : Int) (v5 : Int) (v6 : Int) (v7 : Int) (σ : S) (Q : Int → S → Prop) (E : S → Prop) : Prop :=
  ∀ X242 : Int → S → Prop, (∀ (v7 : Int) (σ : S), ((if v7 < v3 then ∀ σ_54, σ_54 = pI σ 102 (w32 (gI σ 102 + 1)) → inb (w32 (v2 + v7)) 20000 ∧ inb (gI σ 102) 600000 ∧ ∀ σ_58, σ_58 = pA σ_54 73 (gI σ 102) (gA σ_54 74 (w32 (v2 + v7))) → X242 (w32 (v7 + 1)) σ_58 else x_nodeOf_j279 v1 v3 v4 v5 v6 σ Q E)) → X242 v7 σ) → X242 v7 σ
def x_nodeOf_j163 (v1 : Int) (v2 : Int) (v3 : Int) (v4 : Int) (v5 : Int) (σ : S) (Q : Int → S → Prop) (E : S → Prop) : Prop :=
  (if ¬ (v5 ≤ 40) ∨ ((gI σ 93 = 200000) ∨ (¬ (w32 (gI σ 102 + v3) ≤ 600000))) then x_stop 6 σ (fun _ σ_14 => E σ_14) else ∀ σ_16, σ_16 = pI σ 93 (w32 (gI σ 93 + 1)) → inb (gI σ 93) 200000 ∧ ∀ σ_18, σ_18 = pA σ_16 66 (gI σ 93) v1 → inb (gI σ 93) 200000 ∧ ∀ σ_21, σ_21 = pA σ_18 68 (gI σ 93) v3 → inb (gI σ 93) 200000 ∧ ∀ σ_25, σ_25 = pA σ_21 67 (gI σ 93) (gI σ_21 102) → x_nodeOf_L242 v1 v2 v3 v4 v5 (gI σ 93) 0 σ_25 Q E)
def x_nodeOf_L132 (v1 : Int) (v2 : Int) (v3 : Int) (v4 : Int) (v5 : Int) (v6 : Int) (σ : S) (Q : Int → S → Prop) (E : S → Prop) : Prop :=
  ∀ X132 : Int → Int → S → Prop, (∀ (v5 : Int) (v6 : Int) (σ : S), ((if v6 < v3 then inb (w32 (v2 + v6)) 20000 ∧ inb (gA σ 74 (w32 (v2 + v6))) 200000 ∧ X132 (w32 (v5 + (gA σ 70 (gA σ 74 (w32 (v2 + v6)))))) (w32 (v6 + 1)) σ else x_nodeOf_j163 v1 v2 v3 v4 v5 σ Q E)) → X132 v5 v6 σ) → X132 v5 v6 σ
def x_nodeOf_j126 (v1 : Int) (v2 : Int) (v3 : Int) (v4 : Int) (σ : S) (Q : Int → S → Prop) (E : S → Prop) : Prop :=
  x_nodeOf_L132 v1 v2 v3 v4 1 0 σ Q E
def x_nodeOf_j106 (v1 : Int) (v2 : Int) (v3 : Int) (v4 : Int) (v5 : Int) (v6 : Int) (σ : S) (Q : Int → S → Prop) (E : S → Prop) (X18 : Int → S → Prop) : Prop :=
  (if v6 = 0 then inb v5 200000 ∧ X18 (gA σ 71 v5) σ else Q v5 σ)
def x_nodeOf_L55 (v1 : Int) (v2 : Int) (v3 : Int) (v4 : Int) (v5 : Int) (v6 : Int) (v7 : Int) (σ : S) (Q : Int → S → Prop) (E : S → Prop) (X18 : Int → S → Prop) : Prop :=
  ∀ X55 : Int → Int → S → Prop, (∀ (v6 : Int) (v7 : Int) (σ : S), ((if v7 < v3 then (if v6 = 0 then x_nodeOf_j106 v1 v2 v3 v4 v5 v6 σ Q E X18 else inb v5 200000 ∧ inb (w32 (gA σ 67 v5 + v7)) 600000 ∧ inb (w32 (v2 + v7)) 20000 ∧ X55 (bi (gA σ 73 (w32 (gA σ 67 v5 + v7)) = gA σ 74 (w32 (v2 + v7)))) (w32 (v7 + 1)) σ) else x_nodeOf_j106 v1 v2 v3 v4 v5 v6 σ Q E X18)) → X55 v6 v7 σ) → X55 v6 v7 σ
def x_nodeOf_L18 (v1 : Int) (v2 : Int) (v3 : Int) (v4 : Int) (v5 : Int) (σ : S) (Q : Int → S → Prop) (E : S → Prop) : Prop :=
  ∀ X18 : Int → S → Prop, (∀ (v5 : Int) (σ : S), ((if v5 = 0 then x_nodeOf_j126 v1 v2 v3 v4 σ Q E else inb v5 200000 ∧ ((gA σ 66 v5 = v1) → (inb v5 200000)) ∧ x_nodeOf_L55 v1 v2 v3 v4 v5 (bi ((gA σ 66 v5 = v1) ∧ (gA σ 68 v5 = v3))) 0 σ Q E X18)) → X18 v5 σ) → X18 v5 σ
def x_nodeOf (v1 : Int) (v2 : Int) (v3 : Int) (σ : S) (Q : Int → S → Prop) (E : S → Prop) : Prop :=
  x_slotOf v1 v2 v3 σ (fun r_2 σ_1 => inb r_2 131072 ∧ x_nodeOf_L18 v1 v2 v3 r_2 (gA σ_1 72 r_2) σ_1 Q E)
def x_dropNodes_j125 (σ : S) (Q : Int → S → Prop) : Prop :=
  ∀ σ_14, σ_14 = pI σ 106 0 → Q 0 σ_14
def x_dropNodes_L104 (v1 : Int) (σ : S) (Q : Int → S → Prop) : Prop :=
  ∀ X104 : Int → S → Prop, (∀ (v1 : Int) (σ : S), ((if v1 < gI σ 94 then inb v1 200000 ∧ ∀ σ_16, σ_16 = pA σ 75 v1 0 → X104 (w32 (v1 + 1)) σ_16 else x_dropNodes_j125 σ Q)) → X104 v1 σ) → X104 v1 σ
def x_dropNodes_j86 (σ : S) (Q : Int → S → Prop) : Prop :=
  ∀ σ_6, σ_6 = pI σ 93 (gI σ 94) → ∀ σ_9, σ_9 = pI σ_6 102 (gI σ_6 103) → x_dropNodes_L104 0 σ_9 Q
def x_dropNodes_j52 (v1 : Int) (σ : S) (Q : Int → S → Prop) (X7 : Int → S → Prop) : Prop :=
  inb v1 200000 ∧ inb v1 200000 ∧ x_slotOf (gA σ 66 v1) 0 (gA σ 68 v1) σ (fun r_28 σ_27 => inb v1 200000 ∧ inb r_28 131072 ∧ ∀ σ_31, σ_31 = pA σ_27 72 r_28 (gA σ_27 71 v1) → X7 (w32 (v1 + (-1))) σ_31)
def x_dropNodes_L17 (v1 : Int) (v2 : Int) (σ : S) (Q : Int → S → Prop) (X7 : Int → S → Prop) : Prop :=
  ∀ X17 : Int → S → Prop, (∀ (v2 : Int) (σ : S), (inb v1 200000 ∧ (if v2 < gA σ 68 v1 then inb v1 200000 ∧ inb (w32 (gA σ 67 v1 + v2)) 600000 ∧ inb v2 20000 ∧ ∀ σ_38, σ_38 = pA σ 74 v2 (gA σ 73 (w32 (gA σ 67 v1 + v2))) → X17 (w32 (v2 + 1)) σ_38 else x_dropNodes_j52 v1 σ Q X7)) → X17 v2 σ) → X17 v2 σ
def x_dropNodes_L7 (v1 : Int) (σ : S) (Q : Int → S → Prop) : Prop :=
  ∀ X7 : Int → S → Prop, (∀ (v1 : Int) (σ : S), ((if v1 < gI σ 94 then x_dropNodes_j86 σ Q else x_dropNodes_L17 v1 0 σ Q X7)) → X7 v1 σ) → X7 v1 σ
def x_dropNodes (σ : S) (Q : Int → S → Prop) : Prop :=
  x_dropNodes_L7 (w32 (gI σ 93 - 1)) σ Q
def x_variableNode (v1 : Int) (σ : S) (Q : Int → S → Prop) (E : S → Prop) : Prop :=
  x_nodeOf (w32 ((-1) - v1)) (gI σ 106) 0 σ (fun r_3 σ_2 => Q r_3 σ_2) E
def x_unitNode (v1 : Int) (σ : S) (Q : Int → S → Prop) (E : S → Prop) : Prop :=
  inb v1 50 ∧ x_nodeOf (gA σ 54 v1) (gI σ 106) 0 σ (fun r_5 σ_4 => Q r_5 σ_4) E
def x_push (v1 : Int) (σ : S) (Q : Int → S → Prop) : Prop :=
  ∀ σ_2, σ_2 = pI σ 106 (w32 (gI σ 106 + 1)) → inb (gI σ 106) 20000 ∧ ∀ σ_4, σ_4 = pA σ_2 74 (gI σ 106) v1 → Q 0 σ_4
def x_compare_j91 (G : Orc) (v1 : Int) (v2 : Int) (v3 : Int) (v4 : Int) (σ : S) (Q : Int → S → Prop) : Prop :=
  ((v3 = v4) → (inb v1 200000)) ∧ ((v3 = v4) → (inb v2 200000)) ∧ Q (if v3 = v4 then (if gA σ 68 v1 < gA σ 68 v2 then (-1) else 1) else (if v3 < v4 then (-1) else 1)) σ
def x_compare_L135 (G : Orc) (v1 : Int) (v2 : Int) (v5 : Int) (σ : S) (Q : Int → S → Prop) : Prop :=
  ∀ X135 : Int → S → Prop, (∀ (v5 : Int) (σ : S), (inb v1 200000 ∧ (if v5 < gA σ 68 v1 then x_at v1 v5 σ (fun r_46 σ_45 => x_at v2 v5 σ_45 (fun r_48 σ_47 => G 0 [r_46, r_48] σ_47 (fun r_50 σ_49 => (if r_50 = 0 then X135 (w32 (v5 + 1)) σ_49 else Q r_50 σ_49)) (fun _ => False))) else Q 0 σ)) → X135 v5 σ) → X135 v5 σ
def x_compare_F (G : Orc) (v1 : Int) (v2 : Int) (σ : S) (Q : Int → S → Prop) : Prop :=
  (if v1 = v2 then Q 0 σ else inb v1 200000 ∧ ((¬ gA σ 66 v1 < 0) → (inb v1 200000)) ∧ ((gA σ 66 v1 < 0) → (inb v1 200000)) ∧ inb v2 200000 ∧ ((¬ gA σ 66 v2 < 0) → (inb v2 200000)) ∧ ((gA σ 66 v2 < 0) → (inb v2 200000)) ∧ (if (if gA σ 66 v1 < 0 then w32 ((-1) - (gA σ 66 v1)) else w32 (1000 + (gA σ 66 v1))) = (if gA σ 66 v2 < 0 then w32 ((-1) - (gA σ 66 v2)) else w32 (1000 + (gA σ 66 v2))) then inb v1 200000 ∧ inb v2 200000 ∧ (if gA σ 68 v1 = gA σ 68 v2 then x_compare_L135 G v1 v2 0 σ Q else x_compare_j91 G v1 v2 (if gA σ 66 v1 < 0 then w32 ((-1) - (gA σ 66 v1)) else w32 (1000 + (gA σ 66 v1))) (if gA σ 66 v2 < 0 then w32 ((-1) - (gA σ 66 v2)) else w32 (1000 + (gA σ 66 v2))) σ Q) else x_compare_j91 G v1 v2 (if gA σ 66 v1 < 0 then w32 ((-1) - (gA σ 66 v1)) else w32 (1000 + (gA σ 66 v1))) (if gA σ 66 v2 < 0 then w32 ((-1) - (gA σ 66 v2)) else w32 (1000 + (gA σ 66 v2))) σ Q))
def x_S_compare : Nat → Orc
  | 0 => fun _ _ _ _ _ => False
  | n + 1 => fun i a σ Q E => match i, a with
    | 0, [v1, v2] => x_compare_F (x_S_compare n) v1 v2 σ Q
    | _, _ => False
def x_compare (v1 : Int) (v2 : Int) (σ : S) (Q : Int → S → Prop) : Prop := x_S_compare 44 0 [v1, v2] σ Q (fun _ => False)
def x_arrange_j83 (v1 : Int) (v2 : Int) (v3 : Int) (σ : S) (Q : Int → S → Prop) (X2 : Int → S → Prop) : Prop :=
  X2 (w32 (v3 + 1)) σ
def x_arrange_L12 (v1 : Int) (v2 : Int) (v3 : Int) (v4 : Int) (σ : S) (Q : Int → S → Prop) (X2 : Int → S → Prop) : Prop :=
  ∀ X12 : Int → S → Prop, (∀ (v4 : Int) (σ : S), ((if v4 ≤ v1 then x_arrange_j83 v1 v2 v3 σ Q X2 else inb v4 20000 ∧ inb (w32 (v4 - 1)) 20000 ∧ x_compare (gA σ 74 v4) (gA σ 74 (w32 (v4 - 1))) σ (fun r_10 σ_9 => (if r_10 < 0 then inb v4 20000 ∧ inb (w32 (v4 - 1)) 20000 ∧ inb v4 20000 ∧ ∀ σ_17, σ_17 = pA σ_9 74 v4 (gA σ_9 74 (w32 (v4 - 1))) → inb (w32 (v4 - 1)) 20000 ∧ ∀ σ_20, σ_20 = pA σ_17 74 (w32 (v4 - 1)) (gA σ_9 74 v4) → X12 (w32 (v4 + (-1))) σ_20 else x_arrange_j83 v1 v2 v3 σ_9 Q X2)))) → X12 v4 σ) → X12 v4 σ
def x_arrange_L2 (v1 : Int) (v2 : Int) (v3 : Int) (σ : S) (Q : Int → S → Prop) : Prop :=
  ∀ X2 : Int → S → Prop, (∀ (v3 : Int) (σ : S), ((if v3 < v2 then x_arrange_L12 v1 v2 v3 (w32 (v1 + v3)) σ Q X2 else Q 0 σ)) → X2 v3 σ) → X2 v3 σ
def x_arrange (v1 : Int) (v2 : Int) (σ : S) (Q : Int → S → Prop) : Prop :=
  x_arrange_L2 v1 v2 1 σ Q
def x_flatten_j124 (v2 : Int) (v4 : Int) (σ : S) (Q : Int → S → Prop) : Prop :=
  ∀ σ_7, σ_7 = pI σ 106 (w32 (v2 + v4)) → Q v4 σ_7
def x_flatten_L93 (v2 : Int) (v3 : Int) (v4 : Int) (v5 : Int) (σ : S) (Q : Int → S → Prop) : Prop :=
  ∀ X93 : Int → S → Prop, (∀ (v5 : Int) (σ : S), ((if v5 < v4 then inb (w32 (v3 + v5)) 20000 ∧ inb (w32 (v2 + v5)) 20000 ∧ ∀ σ_11, σ_11 = pA σ 74 (w32 (v2 + v5)) (gA σ 74 (w32 (v3 + v5))) → X93 (w32 (v5 + 1)) σ_11 else x_flatten_j124 v2 v4 σ Q)) → X93 v5 σ) → X93 v5 σ
def x_flatten_j82 (v2 : Int) (v3 : Int) (σ : S) (Q : Int → S → Prop) : Prop :=
  x_flatten_L93 v2 v3 (w32 (gI σ 106 - v3)) 0 σ Q
def x_flatten_j76 (v1 : Int) (v2 : Int) (v3 : Int) (v4 : Int) (σ : S) (Q : Int → S → Prop) (X8 : Int → S → Prop) : Prop :=
  X8 (w32 (v4 + 1)) σ
def x_flatten_j67 (v1 : Int) (v2 : Int) (v3 : Int) (v4 : Int) (σ : S) (Q : Int → S → Prop) (X8 : Int → S → Prop) : Prop :=
  x_flatten_j76 v1 v2 v3 v4 σ Q X8
def x_flatten_L37 (v1 : Int) (v2 : Int) (v3 : Int) (v4 : Int) (v5 : Int) (v6 : Int) (σ : S) (Q : Int → S → Prop) (X8 : Int → S → Prop) : Prop :=
  ∀ X37 : Int → S → Prop, (∀ (v6 : Int) (σ : S), (inb v5 200000 ∧ (if v6 < gA σ 68 v5 then x_at v5 v6 σ (fun r_26 σ_25 => x_push r_26 σ_25 (fun _ σ_27 => X37 (w32 (v6 + 1)) σ_27)) else x_flatten_j67 v1 v2 v3 v4 σ Q X8)) → X37 v6 σ) → X37 v6 σ
def x_flatten_L8 (v1 : Int) (v2 : Int) (v3 : Int) (v4 : Int) (σ : S) (Q : Int → S → Prop) : Prop :=
  ∀ X8 : Int → S → Prop, (∀ (v4 : Int) (σ : S), ((if v4 < v3 then inb v4 20000 ∧ inb (gA σ 74 v4) 200000 ∧ (if gA σ 66 (gA σ 74 v4) = v1 then x_flatten_L37 v1 v2 v3 v4 (gA σ 74 v4) 0 σ Q X8 else x_push (gA σ 74 v4) σ (fun _ σ_20 => x_flatten_j76 v1 v2 v3 v4 σ_20 Q X8)) else x_flatten_j82 v2 v3 σ Q)) → X8 v4 σ) → X8 v4 σ
def x_flatten (v1 : Int) (v2 : Int) (σ : S) (Q : Int → S → Prop) : Prop :=
  x_flatten_L8 v1 v2 (gI σ 106) v2 σ Q
def x_make_j138 (v1 : Int) (v2 : Int) (v3 : Int) (σ : S) (Q : Int → S → Prop) (E : S → Prop) : Prop :=
  ∀ σ_14, σ_14 = pI σ 106 v2 → x_nodeOf v1 v2 v3 σ_14 (fun r_17 σ_16 => Q r_17 σ_16) E
def x_make_j123 (v1 : Int) (v2 : Int) (v3 : Int) (σ : S) (Q : Int → S → Prop) (E : S → Prop) : Prop :=
  inb v1 50 ∧ (if gA σ 53 v1 = 0 then x_make_j138 v1 v2 v3 σ Q E else x_arrange v2 v3 σ (fun _ σ_19 => x_make_j138 v1 v2 v3 σ_19 Q E))
def x_make_j94 (v1 : Int) (v2 : Int) (v4 : Int) (v5 : Int) (σ : S) (Q : Int → S → Prop) (E : S → Prop) : Prop :=
  ∀ σ_25, σ_25 = pI σ 106 v2 → (if v5 < 2 then ((¬ v5 = 0) → (inb v2 20000)) ∧ Q (if v5 = 0 then v4 else gA σ_25 74 v2) σ_25 else x_make_j123 v1 v2 v5 σ_25 Q E)
def x_make_j88 (v1 : Int) (v2 : Int) (v3 : Int) (v4 : Int) (v5 : Int) (v6 : Int) (σ : S) (Q : Int → S → Prop) (E : S → Prop) (X47 : Int → Int → S → Prop) : Prop :=
  X47 v5 (w32 (v6 + 1)) σ
def x_make_L47 (v1 : Int) (v2 : Int) (v3 : Int) (v4 : Int) (v5 : Int) (v6 : Int) (σ : S) (Q : Int → S → Prop) (E : S → Prop) : Prop :=
  ∀ X47 : Int → Int → S → Prop, (∀ (v5 : Int) (v6 : Int) (σ : S), ((if v6 < v3 then inb (w32 (v2 + v6)) 20000 ∧ (if gA σ 74 (w32 (v2 + v6)) = v4 then x_make_j88 v1 v2 v3 v4 v5 v6 σ Q E X47 else inb (w32 (v2 + v6)) 20000 ∧ inb (w32 (v2 + v5)) 20000 ∧ ∀ σ_41, σ_41 = pA σ 74 (w32 (v2 + v5)) (gA σ 74 (w32 (v2 + v6))) → x_make_j88 v1 v2 v3 v4 (w32 (v5 + 1)) v6 σ_41 Q E X47) else x_make_j94 v1 v2 v4 v5 σ Q E)) → X47 v5 v6 σ) → X47 v5 v6 σ
def x_make_j23 (v1 : Int) (v2 : Int) (v3 : Int) (σ : S) (Q : Int → S → Prop) (E : S → Prop) : Prop :=
  inb v1 50 ∧ (if gA σ 54 v1 = (-2) then x_make_j123 v1 v2 v3 σ Q E else x_unitNode v1 σ (fun r_21 σ_20 => x_make_L47 v1 v2 v3 r_21 0 0 σ_20 Q E) E)
def x_make (v1 : Int) (v2 : Int) (σ : S) (Q : Int → S → Prop) (E : S → Prop) : Prop :=
  inb v1 50 ∧ (if gA σ 52 v1 = 0 then x_make_j23 v1 v2 (w32 (gI σ 106 - v2)) σ Q E else x_flatten v1 v2 σ (fun r_45 σ_44 => x_make_j23 v1 v2 r_45 σ_44 Q E))
def x_makeSome_j45 (v2 : Int) (s0 : Int) (σ : S) (Q : Int → S → Prop) (E : S → Prop) : Prop :=
  ∀ σ_11, σ_11 = pI σ 106 v2 → Q s0 σ_11
def x_makeSome (v1 : Int) (v2 : Int) (σ : S) (Q : Int → S → Prop) (E : S → Prop) : Prop :=
  (if w32 (gI σ 106 - v2) < 2 then (if w32 (gI σ 106 - v2) = 0 then inb v1 50 ∧ (if gA σ 54 v1 = (-2) then x_makeSome_j45 v2 0 σ Q E else x_unitNode v1 σ (fun r_18 σ_17 => x_makeSome_j45 v2 r_18 σ_17 Q E) E) else inb v2 20000 ∧ x_makeSome_j45 v2 (gA σ 74 v2) σ Q E) else x_make v1 v2 σ (fun r_5 σ_4 => Q r_5 σ_4) E)
def x_termOf_j67 (G : Orc) (v2 : Int) (v3 : Int) (σ : S) (Q : Int → S → Prop) (E : S → Prop) : Prop :=
  x_make v2 v3 σ (fun r_11 σ_10 => Q r_11 σ_10) E
def x_termOf_L27 (G : Orc) (v1 : Int) (v2 : Int) (v3 : Int) (v4 : Int) (σ : S) (Q : Int → S → Prop) (E : S → Prop) : Prop :=
  ∀ X27 : Int → S → Prop, (∀ (v4 : Int) (σ : S), (inb v2 50 ∧ (if v4 < gA σ 49 v2 then inb (w32 (w32 (3 * v1) + v4)) 228000 ∧ G 0 [(gA σ 62 (w32 (w32 (3 * v1) + v4)))] σ (fun r_16 σ_15 => x_push r_16 σ_15 (fun _ σ_18 => X27 (w32 (v4 + 1)) σ_18)) E else x_termOf_j67 G v2 v3 σ Q E)) → X27 v4 σ) → X27 v4 σ
def x_termOf_F (G : Orc) (v1 : Int) (σ : S) (Q : Int → S → Prop) (E : S → Prop) : Prop :=
  inb v1 76000 ∧ (if gA σ 61 v1 < 0 then x_variableNode (w32 ((-1) - (gA σ 61 v1))) σ (fun r_20 σ_19 => Q r_20 σ_19) E else x_termOf_L27 G v1 (gA σ 61 v1) (gI σ 106) 0 σ Q E)
def x_S_termOf : Nat → Orc
  | 0 => fun _ _ _ _ _ => False
  | n + 1 => fun i a σ Q E => match i, a with
    | 0, [v1] => x_termOf_F (x_S_termOf n) v1 σ Q E
    | _, _ => False
def x_termOf (v1 : Int) (σ : S) (Q : Int → S → Prop) (E : S → Prop) : Prop := x_S_termOf 44 0 [v1] σ Q E
def x_save_L40 (G : Orc) (v1 : Int) (v2 : Nat) (v3 : Int) (σ : S) (Q : Int → S → Prop) : Prop :=
  ∀ X40 : Int → S → Prop, (∀ (v3 : Int) (σ : S), (inb v1 200000 ∧ (if v3 < gA σ 68 v1 then x_at v1 v3 σ (fun r_22 σ_21 => G 0 [r_22, ((v2 : Nat) : Int)] σ_21 (fun _ σ_23 => X40 (w32 (v3 + 1)) σ_23) (fun _ => False)) else Q 0 σ)) → X40 v3 σ) → X40 v3 σ
def x_save_F (G : Orc) (v1 : Int) (v2 : Nat) (σ : S) (Q : Int → S → Prop) : Prop :=
  ∀ σ_2, σ_2 = pI σ 109 (w32 (gI σ 109 + 1)) → inb v1 200000 ∧ inb (gI σ 109) ((dAln dX v2 : Nat) : Int) ∧ ∀ σ_6, σ_6 = pA σ_2 v2 (gI σ 109) (gA σ_2 66 v1) → ∀ σ_10, σ_10 = pI σ_6 109 (w32 (gI σ_6 109 + 1)) → inb v1 200000 ∧ inb (gI σ_6 109) ((dAln dX v2 : Nat) : Int) ∧ ∀ σ_14, σ_14 = pA σ_10 v2 (gI σ_6 109) (gA σ_10 68 v1) → x_save_L40 G v1 v2 0 σ_14 Q
def x_S_save : Nat → Orc
  | 0 => fun _ _ _ _ _ => False
  | n + 1 => fun i a σ Q E => match i, a with
    | 0, [v1, v2] => x_save_F (x_S_save n) v1 v2.toNat σ Q
    | _, _ => False
def x_save (v1 : Int) (v2 : Nat) (σ : S) (Q : Int → S → Prop) : Prop := x_S_save 44 0 [v1, ((v2 : Nat) : Int)] σ Q (fun _ => False)
def x_saveTo (v1 : Int) (v2 : Nat) (v3 : Int) (σ : S) (Q : Int → S → Prop) : Prop :=
  ∀ σ_1, σ_1 = pI σ 109 v3 → x_save v1 v2 σ_1 (fun _ σ_3 => Q 0 σ_3)
def x_load_j62 (G : Orc) (v2 : Int) (v3 : Int) (v4 : Int) (σ : S) (Q : Int → S → Prop) (E : S → Prop) : Prop :=
  ∀ σ_14, σ_14 = pI σ 106 v4 → x_nodeOf v2 v4 v3 σ_14 (fun r_17 σ_16 => Q r_17 σ_16) E
def x_load_L37 (G : Orc) (v1 : Nat) (v2 : Int) (v3 : Int) (v4 : Int) (v5 : Int) (σ : S) (Q : Int → S → Prop) (E : S → Prop) : Prop :=
  ∀ X37 : Int → S → Prop, (∀ (v5 : Int) (σ : S), ((if v5 < v3 then G 0 [((v1 : Nat) : Int)] σ (fun r_20 σ_19 => x_push r_20 σ_19 (fun _ σ_22 => X37 (w32 (v5 + 1)) σ_22)) E else x_load_j62 G v2 v3 v4 σ Q E)) → X37 v5 σ) → X37 v5 σ
def x_load_F (G : Orc) (v1 : Nat) (σ : S) (Q : Int → S → Prop) (E : S → Prop) : Prop :=
  ∀ σ_2, σ_2 = pI σ 110 (w32 (gI σ 110 + 1)) → inb (gI σ 110) ((dAln dX v1 : Nat) : Int) ∧ ∀ σ_7, σ_7 = pI σ_2 110 (w32 (gI σ_2 110 + 1)) → inb (gI σ_2 110) ((dAln dX v1 : Nat) : Int) ∧ x_load_L37 G v1 (gA σ_2 v1 (gI σ 110)) (gA σ_7 v1 (gI σ_2 110)) (gI σ_7 106) 0 σ_7 Q E
def x_S_load : Nat → Orc
  | 0 => fun _ _ _ _ _ => False
  | n + 1 => fun i a σ Q E => match i, a with
    | 0, [v1] => x_load_F (x_S_load n) v1.toNat σ Q E
    | _, _ => False
def x_load (v1 : Nat) (σ : S) (Q : Int → S → Prop) (E : S → Prop) : Prop := x_S_load 44 0 [((v1 : Nat) : Int)] σ Q E
def x_loadFrom (v1 : Nat) (v2 : Int) (σ : S) (Q : Int → S → Prop) (E : S → Prop) : Prop :=
  ∀ σ_1, σ_1 = pI σ 110 v2 → x_load v1 σ_1 (fun r_4 σ_3 => Q r_4 σ_3) E
def x_newHandle (v1 : Int) (σ : S) (Q : Int → S → Prop) : Prop :=
  x_saveTo v1 77 (w32 (80 * (gI σ 111))) σ (fun _ σ_2 => ∀ σ_4, σ_4 = pI σ_2 111 (w32 (gI σ_2 111 + 1)) → Q (gI σ_2 111) σ_4)
def x_termAt (v1 : Int) (σ : S) (Q : Int → S → Prop) (E : S → Prop) : Prop :=
  x_loadFrom 77 (w32 (80 * v1)) σ (fun r_2 σ_1 => Q r_2 σ_1) E
def x_isHandle (v1 : Int) (σ : S) (Q : Int → S → Prop) : Prop :=
  x_within v1 0 (w32 (gI σ 111 - 1)) σ (fun r_3 σ_2 => Q r_3 σ_2)
def x_readTerm_j44 (v1 : Int) (σ : S) (Q : Int → S → Prop) : Prop :=
  ∀ σ_8, σ_8 = pI σ 106 0 → x_wrong 6 v1 σ_8 (fun r_11 σ_10 => Q 0 σ_10)
def x_readTerm (v1 : Int) (v2 : Int) (v3 : Int) (σ : S) (Q : Int → S → Prop) : Prop :=
  x_readingOf v1 v2 v3 σ (fun r_2 σ_1 => (if r_2 < 0 then x_wrong (if r_2 = (-5) then 6 else 7) v1 σ_1 (fun r_17 σ_16 => Q 0 σ_16) else x_termOf r_2 σ_1 (fun r_6 σ_5 => Q r_6 σ_5) (fun σ_7 => x_readTerm_j44 v1 σ_7 Q)))
def x_kindAt (v1 : Int) (σ : S) (Q : Int → S → Prop) : Prop :=
  inb v1 200000 ∧ (if gA σ 66 v1 < 0 then inb v1 200000 ∧ x_sortOfVariable (w32 ((-1) - (gA σ 66 v1))) σ (fun r_12 σ_11 => inb r_12 20 ∧ Q (gA σ_11 40 r_12) σ_11) else inb v1 200000 ∧ inb (gA σ 66 v1) 50 ∧ Q (gA σ 55 (gA σ 66 v1)) σ)
def x_know_L25 (G : Orc) (v1 : Int) (v2 : Int) (σ : S) (Q : Int → S → Prop) : Prop :=
  ∀ X25 : Int → S → Prop, (∀ (v2 : Int) (σ : S), (inb v1 200000 ∧ (if v2 < gA σ 68 v1 then x_at v1 v2 σ (fun r_10 σ_9 => G 0 [r_10] σ_9 (fun _ σ_11 => X25 (w32 (v2 + 1)) σ_11) (fun _ => False)) else Q 0 σ)) → X25 v2 σ) → X25 v2 σ
def x_know_j23 (G : Orc) (v1 : Int) (σ : S) (Q : Int → S → Prop) : Prop :=
  x_know_L25 G v1 0 σ Q
def x_know_F (G : Orc) (v1 : Int) (σ : S) (Q : Int → S → Prop) : Prop :=
  inb v1 200000 ∧ (if gA σ 66 v1 < 0 then inb v1 200000 ∧ inb (w32 ((-1) - (gA σ 66 v1))) 30 ∧ ∀ σ_14, σ_14 = pA σ 82 (w32 ((-1) - (gA σ 66 v1))) 1 → x_know_j23 G v1 σ_14 Q else x_know_j23 G v1 σ Q)
def x_S_know : Nat → Orc
  | 0 => fun _ _ _ _ _ => False
  | n + 1 => fun i a σ Q E => match i, a with
    | 0, [v1] => x_know_F (x_S_know n) v1 σ Q
    | _, _ => False
def x_know (v1 : Int) (σ : S) (Q : Int → S → Prop) : Prop := x_S_know 44 0 [v1] σ Q (fun _ => False)
def x_hasUnknown_L33 (G : Orc) (v1 : Int) (v2 : Int) (v3 : Int) (σ : S) (Q : Int → S → Prop) : Prop :=
  ∀ X33 : Int → Int → S → Prop, (∀ (v2 : Int) (v3 : Int) (σ : S), (inb v1 200000 ∧ (if (v3 < gA σ 68 v1) ∧ (v2 = 0) then x_at v1 v3 σ (fun r_14 σ_13 => G 0 [r_14] σ_13 (fun r_16 σ_15 => X33 r_16 (w32 (v3 + 1)) σ_15) (fun _ => False)) else Q v2 σ)) → X33 v2 v3 σ) → X33 v2 v3 σ
def x_hasUnknown_F (G : Orc) (v1 : Int) (σ : S) (Q : Int → S → Prop) : Prop :=
  inb v1 200000 ∧ ((gA σ 66 v1 < 0) → (inb v1 200000)) ∧ ((gA σ 66 v1 < 0) → (inb (w32 ((-1) - (gA σ 66 v1))) 30)) ∧ x_hasUnknown_L33 G v1 (bi ((gA σ 66 v1 < 0) ∧ (gA σ 82 (w32 ((-1) - (gA σ 66 v1))) = 0))) 0 σ Q
def x_S_hasUnknown : Nat → Orc
  | 0 => fun _ _ _ _ _ => False
  | n + 1 => fun i a σ Q E => match i, a with
    | 0, [v1] => x_hasUnknown_F (x_S_hasUnknown n) v1 σ Q
    | _, _ => False
def x_hasUnknown (v1 : Int) (σ : S) (Q : Int → S → Prop) : Prop := x_S_hasUnknown 44 0 [v1] σ Q (fun _ => False)
def x_needs_j18 (σ : S) (Q : Int → S → Prop) : Prop :=
  Q 1 σ
def x_needs (v1 : Int) (v2 : Int) (σ : S) (Q : Int → S → Prop) : Prop :=
  x_hasUnknown v1 σ (fun r_2 σ_1 => (if r_2 = 0 then x_needs_j18 σ_1 Q else x_wrong 8 v2 σ_1 (fun r_6 σ_5 => (if r_6 = 0 then Q 0 σ_5 else x_needs_j18 σ_5 Q))))
def x_layCondition_j188 (v1 : Int) (v2 : Int) (v3 : Int) (σ : S) (Q : Int → S → Prop) : Prop :=
  inb v1 420 ∧ inb v1 420 ∧ x_kindAt v2 σ (fun r_26 σ_25 => x_readTerm (gA σ 36 v1) (gA σ 37 v1) r_26 σ_25 (fun r_28 σ_27 => inb v1 420 ∧ ∀ σ_29, σ_29 = pA σ_27 81 v1 r_28 → (if r_28 = 0 then Q 0 σ_29 else inb v1 420 ∧ x_needs r_28 (gA σ_29 36 v1) σ_29 (fun r_37 σ_36 => (if r_37 = 0 then Q 0 σ_36 else (if v3 = 0 then x_know v2 σ_36 (fun _ σ_42 => Q 1 σ_42) else Q 1 σ_36))))))
def x_layCondition_j119 (σ : S) (Q : Int → S → Prop) : Prop :=
  Q 0 σ
def x_layCondition (v1 : Int) (σ : S) (Q : Int → S → Prop) : Prop :=
  inb v1 420 ∧ (if gA σ 33 v1 = 2 then inb v1 420 ∧ inb (gA σ 36 v1) 902 ∧ x_sortBy (gA σ 5 (gA σ 36 v1)) σ (fun r_56 σ_55 => inb v1 420 ∧ ∀ σ_57, σ_57 = pA σ_55 81 v1 r_56 → inb v1 420 ∧ (if gA σ_57 81 v1 = (-2) then inb v1 420 ∧ x_wrong 4 (gA σ_57 36 v1) σ_57 (fun r_92 σ_91 => Q r_92 σ_91) else inb v1 420 ∧ inb v1 420 ∧ inb v1 420 ∧ inb (gA σ_57 81 v1) 20 ∧ x_readTerm (gA σ_57 34 v1) (gA σ_57 35 v1) (gA σ_57 40 (gA σ_57 81 v1)) σ_57 (fun r_73 σ_72 => inb v1 420 ∧ ∀ σ_74, σ_74 = pA σ_72 80 v1 r_73 → inb v1 420 ∧ (if gA σ_74 80 v1 = 0 then x_layCondition_j119 σ_74 Q else inb v1 420 ∧ inb v1 420 ∧ x_needs (gA σ_74 80 v1) (gA σ_74 34 v1) σ_74 (fun r_86 σ_85 => (if r_86 = 0 then x_layCondition_j119 σ_85 Q else Q 1 σ_85)))))) else inb v1 420 ∧ inb v1 420 ∧ x_readTerm (gA σ 34 v1) (gA σ 35 v1) (-2) σ (fun r_10 σ_9 => (if r_10 = 0 then Q 0 σ_9 else inb v1 420 ∧ ∀ σ_13, σ_13 = pA σ_9 80 v1 r_10 → inb v1 420 ∧ (if bi (gA σ_13 33 v1 = 0) = 0 then x_layCondition_j188 v1 r_10 (bi (gA σ_13 33 v1 = 0)) σ_13 Q else inb v1 420 ∧ x_needs r_10 (gA σ_13 34 v1) σ_13 (fun r_46 σ_45 => (if r_46 = 0 then Q 0 σ_45 else x_layCondition_j188 v1 r_10 (bi (gA σ_13 33 v1 = 0)) σ_45 Q))))))
def x_layStatement_j76 (σ : S) (Q : Int → S → Prop) : Prop :=
  Q 0 σ
def x_layStatement_j53 (v1 : Int) (v2 : Int) (σ : S) (Q : Int → S → Prop) : Prop :=
  (if v2 = 0 then x_layStatement_j76 σ Q else inb v1 70 ∧ x_wrong 8 (gA σ 28 v1) σ (fun r_16 σ_15 => (if r_16 = 0 then x_layStatement_j76 σ_15 Q else Q 1 σ_15)))
def x_layStatement_j174 (σ : S) (Q : Int → S → Prop) : Prop :=
  Q 0 σ
def x_layStatement_j123 (v1 : Int) (v2 : Int) (σ : S) (Q : Int → S → Prop) : Prop :=
  inb v1 70 ∧ inb v1 70 ∧ x_kindAt v2 σ (fun r_36 σ_35 => x_readTerm (gA σ 30 v1) (gA σ 31 v1) r_36 σ_35 (fun r_38 σ_37 => inb v1 70 ∧ ∀ σ_39, σ_39 = pA σ_37 79 v1 r_38 → (if r_38 = 0 then x_layStatement_j174 σ_39 Q else inb v1 70 ∧ x_needs r_38 (gA σ_39 30 v1) σ_39 (fun r_47 σ_46 => (if r_47 = 0 then x_layStatement_j174 σ_46 Q else Q 1 σ_46)))))
def x_layStatement_L92 (v1 : Int) (v2 : Int) (v3 : Int) (σ : S) (Q : Int → S → Prop) : Prop :=
  ∀ X92 : Int → S → Prop, (∀ (v3 : Int) (σ : S), (inb v1 70 ∧ (if v3 < gA σ 32 v1 then x_layCondition (w32 (w32 (6 * v1) + v3)) σ (fun r_51 σ_50 => (if r_51 = 0 then Q 0 σ_50 else X92 (w32 (v3 + 1)) σ_50)) else x_layStatement_j123 v1 v2 σ Q)) → X92 v3 σ) → X92 v3 σ
def x_layStatement_j21 (v1 : Int) (σ : S) (Q : Int → S → Prop) : Prop :=
  inb v1 70 ∧ inb v1 70 ∧ x_readTerm (gA σ 28 v1) (gA σ 29 v1) (-2) σ (fun r_8 σ_7 => (if r_8 = 0 then x_layStatement_j53 v1 r_8 σ_7 Q else inb r_8 200000 ∧ (if gA σ_7 66 r_8 < 0 then x_layStatement_j53 v1 r_8 σ_7 Q else x_know r_8 σ_7 (fun _ σ_23 => inb v1 70 ∧ ∀ σ_24, σ_24 = pA σ_23 78 v1 r_8 → x_layStatement_L92 v1 r_8 0 σ_24 Q))))
def x_layStatement_L2 (v1 : Int) (v2 : Int) (σ : S) (Q : Int → S → Prop) : Prop :=
  ∀ X2 : Int → S → Prop, (∀ (v2 : Int) (σ : S), ((if v2 < 30 then inb v2 30 ∧ ∀ σ_54, σ_54 = pA σ 82 v2 0 → X2 (w32 (v2 + 1)) σ_54 else x_layStatement_j21 v1 σ Q)) → X2 v2 σ) → X2 v2 σ
def x_layStatement (v1 : Int) (σ : S) (Q : Int → S → Prop) : Prop :=
  x_layStatement_L2 v1 0 σ Q
def x_layDeclared_j129 (σ : S) (Q : Int → S → Prop) : Prop :=
  (if gI σ 20 = 0 then x_layOperators σ (fun _ σ_16 => Q 0 σ_16) else Q 0 σ)
def x_layDeclared_j123 (v1 : Int) (σ : S) (Q : Int → S → Prop) (X56 : Int → S → Prop) : Prop :=
  X56 (w32 (v1 + 1)) σ
def x_layDeclared_j115 (v1 : Int) (v2 : Int) (v3 : Int) (s0 : Int) (σ : S) (Q : Int → S → Prop) (X56 : Int → S → Prop) (X76 : Int → S → Prop) : Prop :=
  X76 (w32 (v3 + 1)) σ
def x_layDeclared_L76 (v1 : Int) (v2 : Int) (v3 : Int) (σ : S) (Q : Int → S → Prop) (X56 : Int → S → Prop) : Prop :=
  ∀ X76 : Int → S → Prop, (∀ (v3 : Int) (σ : S), (inb v2 70 ∧ (if v3 < w32 (w32 (6 * v2) + (gA σ 32 v2)) then inb v3 420 ∧ (if gA σ 33 v3 = 2 then inb v3 420 ∧ x_sortAt (gA σ 36 v3) σ (fun r_30 σ_29 => x_layDeclared_j115 v1 v2 v3 r_30 σ_29 Q X56 X76) else x_layDeclared_j115 v1 v2 v3 0 σ Q X56 X76) else x_layDeclared_j123 v1 σ Q X56)) → X76 v3 σ) → X76 v3 σ
def x_layDeclared_L56 (v1 : Int) (σ : S) (Q : Int → S → Prop) : Prop :=
  ∀ X56 : Int → S → Prop, (∀ (v1 : Int) (σ : S), ((if v1 < gI σ 44 then inb v1 70 ∧ x_layDeclared_L76 v1 (gA σ 25 v1) (w32 (6 * (gA σ 25 v1))) σ Q X56 else x_layDeclared_j129 σ Q)) → X56 v1 σ) → X56 v1 σ
def x_layDeclared_j54 (σ : S) (Q : Int → S → Prop) : Prop :=
  x_layDeclared_L56 0 σ Q
def x_layDeclared_L35 (v1 : Int) (σ : S) (Q : Int → S → Prop) : Prop :=
  ∀ X35 : Int → S → Prop, (∀ (v1 : Int) (σ : S), ((if v1 < gI σ 29 then x_layRow v1 σ (fun _ σ_31 => X35 (w32 (v1 + 1)) σ_31) else x_layDeclared_j54 σ Q)) → X35 v1 σ) → X35 v1 σ
def x_layDeclared_j25 (σ : S) (Q : Int → S → Prop) : Prop :=
  x_layKinds σ (fun _ σ_5 => x_layVariables σ_5 (fun _ σ_6 => x_layDeclared_L35 0 σ_6 Q))
def x_layDeclared_L6 (v1 : Int) (σ : S) (Q : Int → S → Prop) : Prop :=
  ∀ X6 : Int → S → Prop, (∀ (v1 : Int) (σ : S), ((if v1 < gI σ 24 then x_layLess v1 σ (fun _ σ_32 => X6 (w32 (v1 + 1)) σ_32) else x_layDeclared_j25 σ Q)) → X6 v1 σ) → X6 v1 σ
def x_layDeclared (σ : S) (Q : Int → S → Prop) : Prop :=
  x_laySorts σ (fun _ σ_1 => x_layDeclared_L6 0 σ_1 Q)
def x_module_j82 (σ : S) (Q : Int → S → Prop) : Prop :=
  (if gI σ 20 ≤ 0 then ∀ σ_15, σ_15 = pI σ 94 (gI σ 93) → ∀ σ_18, σ_18 = pI σ_15 103 (gI σ_15 102) → ∀ σ_20, σ_20 = pI σ_18 58 1 → Q (gI σ_20 63) σ_20 else x_clear σ (fun _ σ_24 => Q (w32 ((-10) - (gI σ 20))) σ_24))
def x_module_L53 (v1 : Int) (v2 : Int) (σ : S) (Q : Int → S → Prop) : Prop :=
  ∀ X53 : Int → Int → S → Prop, (∀ (v1 : Int) (v2 : Int) (σ : S), ((if (v2 < gI σ 44) ∧ (¬ (v1 = 0)) then inb v2 70 ∧ x_layStatement (gA σ 25 v2) σ (fun r_37 σ_36 => X53 r_37 (w32 (v2 + 1)) σ_36) else x_module_j82 σ Q)) → X53 v1 v2 σ) → X53 v1 v2 σ
def x_module_j26 (σ : S) (Q : Int → S → Prop) : Prop :=
  (if gI σ 20 = 0 then ∀ σ_26, σ_26 = pI σ 15 (gI σ 12) → ∀ σ_29, σ_29 = pI σ_26 16 (gI σ_26 11) → x_module_L53 1 0 σ_29 Q else x_module_j82 σ Q)
def x_module (σ : S) (Q : Int → S → Prop) : Prop :=
  x_takeTape σ (fun _ σ_1 => x_clear σ_1 (fun _ σ_2 => x_cutWords 900 σ_2 (fun _ σ_3 => x_readText σ_3 (fun r_5 σ_4 => (if r_5 = 0 then x_module_j26 σ_4 Q else x_layDeclared σ_4 (fun _ σ_41 => x_module_j26 σ_41 Q))))))
def x_hasAssoc_L19 (G : Orc) (v1 : Int) (v2 : Int) (v3 : Int) (v4 : Int) (σ : S) (Q : Int → S → Prop) : Prop :=
  ∀ X19 : Int → Int → S → Prop, (∀ (v3 : Int) (v4 : Int) (σ : S), (inb v1 200000 ∧ (if (v4 < gA σ 68 v1) ∧ (v3 = 0) then x_at v1 v4 σ (fun r_9 σ_8 => G 0 [r_9, v2] σ_8 (fun r_11 σ_10 => X19 r_11 (w32 (v4 + 1)) σ_10) (fun _ => False)) else Q v3 σ)) → X19 v3 v4 σ) → X19 v3 v4 σ
def x_hasAssoc_F (G : Orc) (v1 : Int) (v2 : Int) (σ : S) (Q : Int → S → Prop) : Prop :=
  inb v1 200000 ∧ x_hasAssoc_L19 G v1 v2 (bi (gA σ 66 v1 = v2)) 0 σ Q
def x_S_hasAssoc : Nat → Orc
  | 0 => fun _ _ _ _ _ => False
  | n + 1 => fun i a σ Q E => match i, a with
    | 0, [v1, v2] => x_hasAssoc_F (x_S_hasAssoc n) v1 v2 σ Q
    | _, _ => False
def x_hasAssoc (v1 : Int) (v2 : Int) (σ : S) (Q : Int → S → Prop) : Prop := x_S_hasAssoc 44 0 [v1, v2] σ Q (fun _ => False)
def x_isWide_L52 (G : Orc) (v1 : Int) (v2 : Int) (v3 : Int) (σ : S) (Q : Int → S → Prop) : Prop :=
  ∀ X52 : Int → S → Prop, (∀ (v3 : Int) (σ : S), (inb v2 200000 ∧ (if v3 < gA σ 68 v2 then x_at v2 v3 σ (fun r_23 σ_22 => G 0 [v1, r_23] σ_22 (fun r_25 σ_24 => (if r_25 = 0 then X52 (w32 (v3 + 1)) σ_24 else Q 1 σ_24)) (fun _ => False)) else Q 0 σ)) → X52 v3 σ) → X52 v3 σ
def x_isWide_j50 (G : Orc) (v1 : Int) (v2 : Int) (σ : S) (Q : Int → S → Prop) : Prop :=
  x_isWide_L52 G v1 v2 0 σ Q
def x_isWide_F (G : Orc) (v1 : Int) (v2 : Int) (σ : S) (Q : Int → S → Prop) : Prop :=
  inb v2 200000 ∧ ((¬ gA σ 66 v2 < 0) → (inb v2 200000)) ∧ ((¬ gA σ 66 v2 < 0) → (inb (gA σ 66 v2) 50)) ∧ ((¬ gA σ 66 v2 < 0) → (¬ gA σ 52 (gA σ 66 v2) = 0) → (inb v2 200000)) ∧ (if ¬ (gA σ 66 v2 < 0) ∧ (¬ (gA σ 52 (gA σ 66 v2) = 0) ∧ (¬ (gA σ 68 v2 ≤ 6))) then inb v2 200000 ∧ x_hasAssoc v1 (gA σ 66 v2) σ (fun r_15 σ_14 => (if r_15 = 0 then x_isWide_j50 G v1 v2 σ_14 Q else Q 1 σ_14)) else x_isWide_j50 G v1 v2 σ Q)
def x_S_isWide : Nat → Orc
  | 0 => fun _ _ _ _ _ => False
  | n + 1 => fun i a σ Q E => match i, a with
    | 0, [v1, v2] => x_isWide_F (x_S_isWide n) v1 v2 σ Q
    | _, _ => False
def x_isWide (v1 : Int) (v2 : Int) (σ : S) (Q : Int → S → Prop) : Prop := x_S_isWide 44 0 [v1, v2] σ Q (fun _ => False)
def x_longest_L24 (G : Orc) (v1 : Int) (v2 : Int) (v3 : Int) (v4 : Int) (σ : S) (Q : Int → S → Prop) : Prop :=
  ∀ X24 : Int → Int → S → Prop, (∀ (v3 : Int) (v4 : Int) (σ : S), (inb v1 200000 ∧ (if v4 < gA σ 68 v1 then x_at v1 v4 σ (fun r_14 σ_13 => G 0 [r_14, v2] σ_13 (fun r_16 σ_15 => X24 (max v3 r_16) (w32 (v4 + 1)) σ_15) (fun _ => False)) else Q v3 σ)) → X24 v3 v4 σ) → X24 v3 v4 σ
def x_longest_F (G : Orc) (v1 : Int) (v2 : Int) (σ : S) (Q : Int → S → Prop) : Prop :=
  inb v1 200000 ∧ ((gA σ 66 v1 = v2) → (inb v1 200000)) ∧ x_longest_L24 G v1 v2 (if gA σ 66 v1 = v2 then gA σ 68 v1 else 0) 0 σ Q
def x_S_longest : Nat → Orc
  | 0 => fun _ _ _ _ _ => False
  | n + 1 => fun i a σ Q E => match i, a with
    | 0, [v1, v2] => x_longest_F (x_S_longest n) v1 v2 σ Q
    | _, _ => False
def x_longest (v1 : Int) (v2 : Int) (σ : S) (Q : Int → S → Prop) : Prop := x_S_longest 44 0 [v1, v2] σ Q (fun _ => False)
def x_waysToDeal_L5 (v0 : Int) (v1 : Int) (v2 : Int) (v3 : Int) (v5 : Int) (σ : S) (Q : Int → S → Prop) : Prop :=
  ∀ X5 : Int → Int → S → Prop, (∀ (v3 : Int) (v5 : Int) (σ : S), ((if v5 ≤ v0 then ((v2 = 0) → (v5 ≠ 0)) ∧ X5 (if v2 = 0 then w64 (Int.tdiv (w64 (v3 * (w32 (w32 (v1 + 1) + v5)))) v5) else w64 (v3 * (w32 (v1 + 1)))) (w32 (v5 + 1)) σ else Q v3 σ)) → X5 v3 v5 σ) → X5 v3 v5 σ
def x_waysToDeal (v0 : Int) (v1 : Int) (v2 : Int) (σ : S) (Q : Int → S → Prop) : Prop :=
  x_waysToDeal_L5 v0 v1 v2 1 1 σ Q
def x_deals_L74 (G : Orc) (v1 : Int) (v2 : Int) (v4 : Int) (v6 : Int) (σ : S) (Q : Int → S → Prop) : Prop :=
  ∀ X74 : Int → Int → S → Prop, (∀ (v4 : Int) (v6 : Int) (σ : S), (inb v1 200000 ∧ (if v6 < gA σ 68 v1 then x_at v1 v6 σ (fun r_14 σ_13 => G 0 [r_14, v2] σ_13 (fun r_16 σ_15 => X74 (w64 ((min 3000001 v4) * (min 3000001 r_16))) (w32 (v6 + 1)) σ_15) (fun _ => False)) else Q v4 σ)) → X74 v4 v6 σ) → X74 v4 v6 σ
def x_deals_j71 (G : Orc) (v1 : Int) (v2 : Int) (v4 : Int) (σ : S) (Q : Int → S → Prop) : Prop :=
  x_deals_L74 G v1 v2 v4 0 σ Q
def x_deals_j53 (G : Orc) (v1 : Int) (v2 : Int) (v3 : Int) (v4 : Int) (σ : S) (Q : Int → S → Prop) : Prop :=
  ((¬ v3 < 0) → (inb v3 50)) ∧ (if ¬ (v3 < 0) ∧ (¬ (gA σ 53 v3 = 0)) then x_deals_j71 G v1 v2 2 σ Q else x_deals_j71 G v1 v2 v4 σ Q)
def x_deals_F (G : Orc) (v1 : Int) (v2 : Int) (σ : S) (Q : Int → S → Prop) : Prop :=
  inb v1 200000 ∧ (if gA σ 66 v1 < 0 then x_deals_j53 G v1 v2 (gA σ 66 v1) 1 σ Q else inb (gA σ 66 v1) 50 ∧ (if gA σ 52 (gA σ 66 v1) = 0 then x_deals_j53 G v1 v2 (gA σ 66 v1) 1 σ Q else x_longest v2 (gA σ 66 v1) σ (fun r_25 σ_24 => inb v1 200000 ∧ inb (gA σ 66 v1) 50 ∧ x_waysToDeal (max 1 r_25) (gA σ_24 68 v1) (gA σ_24 53 (gA σ 66 v1)) σ_24 (fun r_31 σ_30 => x_deals_j71 G v1 v2 r_31 σ_30 Q))))
def x_S_deals : Nat → Orc
  | 0 => fun _ _ _ _ _ => False
  | n + 1 => fun i a σ Q E => match i, a with
    | 0, [v1, v2] => x_deals_F (x_S_deals n) v1 v2 σ Q
    | _, _ => False
def x_deals (v1 : Int) (v2 : Int) (σ : S) (Q : Int → S → Prop) : Prop := x_S_deals 44 0 [v1, v2] σ Q (fun _ => False)
def x_goal (v1 : Int) (v2 : Int) (σ : S) (Q : Int → S → Prop) : Prop :=
  inb (gI σ 121) 400 ∧ ∀ σ_2, σ_2 = pA σ 84 (gI σ 121) v1 → ∀ σ_6, σ_6 = pI σ_2 121 (w32 (gI σ_2 121 + 1)) → inb (gI σ_2 121) 400 ∧ ∀ σ_8, σ_8 = pA σ_6 85 (gI σ_2 121) v2 → Q 0 σ_8
def x_restAt (v1 : Int) (v2 : Int) (σ : S) (Q : Int → S → Prop) : Prop :=
  inb v1 200000 ∧ (if gA σ 66 v1 = gI σ 127 then x_at v1 v2 σ (fun r_7 σ_6 => Q r_7 σ_6) else Q v1 σ)
def x_restMany (v1 : Int) (σ : S) (Q : Int → S → Prop) : Prop :=
  ((¬ v1 = 0) → (inb v1 200000)) ∧ ((¬ v1 = 0) → (gA σ 66 v1 = gI σ 127) → (inb v1 200000)) ∧ Q (if v1 = 0 then 0 else (if gA σ 66 v1 = gI σ 127 then gA σ 68 v1 else 1)) σ
def x_compareRest_L33 (v1 : Int) (v2 : Int) (v3 : Int) (v4 : Int) (σ : S) (Q : Int → S → Prop) : Prop :=
  ∀ X33 : Int → S → Prop, (∀ (v4 : Int) (σ : S), ((if v4 < v3 then x_restAt v1 v4 σ (fun r_10 σ_9 => x_restAt v2 v4 σ_9 (fun r_12 σ_11 => x_compare r_10 r_12 σ_11 (fun r_14 σ_13 => (if r_14 = 0 then X33 (w32 (v4 + 1)) σ_13 else Q r_14 σ_13)))) else Q 0 σ)) → X33 v4 σ) → X33 v4 σ
def x_compareRest (v1 : Int) (v2 : Int) (σ : S) (Q : Int → S → Prop) : Prop :=
  x_restMany v1 σ (fun r_2 σ_1 => x_restMany v2 σ_1 (fun r_4 σ_3 => (if r_2 = r_4 then x_compareRest_L33 v1 v2 r_2 0 σ_3 Q else x_restMany v2 σ_3 (fun r_18 σ_17 => Q (if r_2 < r_18 then (-1) else 1) σ_17))))
def x_compareMatchers_j70 (v1 : Int) (v2 : Int) (v3 : Int) (s0 : Int) (σ : S) (Q : Int → S → Prop) (X2 : Int → S → Prop) : Prop :=
  (if s0 = 0 then X2 (w32 (v3 + 1)) σ else Q s0 σ)
def x_compareMatchers_L2 (v1 : Int) (v2 : Int) (v3 : Int) (σ : S) (Q : Int → S → Prop) : Prop :=
  ∀ X2 : Int → S → Prop, (∀ (v3 : Int) (σ : S), ((if v3 < 62 then inb (w32 (w32 (62 * v1) + v3)) 409200 ∧ inb (w32 (w32 (62 * v2) + v3)) 409200 ∧ (if gA σ 86 (w32 (w32 (62 * v1) + v3)) = gA σ 86 (w32 (w32 (62 * v2) + v3)) then x_compareMatchers_j70 v1 v2 v3 0 σ Q X2 else (if v3 < 60 then x_compare (gA σ 86 (w32 (w32 (62 * v1) + v3))) (gA σ 86 (w32 (w32 (62 * v2) + v3))) σ (fun r_16 σ_15 => x_compareMatchers_j70 v1 v2 v3 r_16 σ_15 Q X2) else x_compareRest (gA σ 86 (w32 (w32 (62 * v1) + v3))) (gA σ 86 (w32 (w32 (62 * v2) + v3))) σ (fun r_12 σ_11 => x_compareMatchers_j70 v1 v2 v3 r_12 σ_11 Q X2))) else Q 0 σ)) → X2 v3 σ) → X2 v3 σ
def x_compareMatchers (v1 : Int) (v2 : Int) (σ : S) (Q : Int → S → Prop) : Prop :=
  x_compareMatchers_L2 v1 v2 0 σ Q
def x_list_j209 (σ : S) (Q : Int → S → Prop) (E : S → Prop) : Prop :=
  ∀ σ_22, σ_22 = pI σ 124 (w32 (gI σ 124 + 1)) → Q 0 σ_22
def x_list_j190 (v1 : Int) (v2 : Int) (v3 : Int) (v4 : Int) (σ : S) (Q : Int → S → Prop) (E : S → Prop) (X130 : Int → S → Prop) : Prop :=
  inb (w32 (w32 (62 * v2) + v3)) 409200 ∧ ∀ σ_28, σ_28 = pA σ 86 (w32 (w32 (62 * v2) + v3)) v4 → X130 (w32 (v3 + 1)) σ_28
def x_list_L152 (v1 : Int) (v2 : Int) (v3 : Int) (v4 : Int) (v5 : Int) (σ : S) (Q : Int → S → Prop) (E : S → Prop) (X130 : Int → S → Prop) : Prop :=
  ∀ X152 : Int → S → Prop, (∀ (v5 : Int) (σ : S), ((if v5 ≤ v2 then x_list_j190 v1 v2 v3 v4 σ Q E X130 else inb (w32 (w32 (62 * (w32 (v5 - 1))) + v3)) 409200 ∧ inb (w32 (w32 (62 * v5) + v3)) 409200 ∧ ∀ σ_33, σ_33 = pA σ 86 (w32 (w32 (62 * v5) + v3)) (gA σ 86 (w32 (w32 (62 * (w32 (v5 - 1))) + v3))) → X152 (w32 (v5 + (-1))) σ_33)) → X152 v5 σ) → X152 v5 σ
def x_list_L130 (v1 : Int) (v2 : Int) (v3 : Int) (σ : S) (Q : Int → S → Prop) (E : S → Prop) : Prop :=
  ∀ X130 : Int → S → Prop, (∀ (v3 : Int) (σ : S), ((if v3 < 62 then inb (w32 (w32 (62 * v1) + v3)) 409200 ∧ x_list_L152 v1 v2 v3 (gA σ 86 (w32 (w32 (62 * v1) + v3))) v1 σ Q E X130 else x_list_j209 σ Q E)) → X130 v3 σ) → X130 v3 σ
def x_list_j112 (v1 : Int) (v2 : Int) (σ : S) (Q : Int → S → Prop) (E : S → Prop) : Prop :=
  (if gI σ 124 = 200 then x_stop 2 σ (fun _ σ_36 => E σ_36) else x_list_L130 v1 v2 0 σ Q E)
def x_list_j103 (v1 : Int) (v2 : Int) (σ : S) (Q : Int → S → Prop) (E : S → Prop) : Prop :=
  x_list_j112 v1 v2 σ Q E
def x_list_L77 (v1 : Int) (v2 : Int) (σ : S) (Q : Int → S → Prop) (E : S → Prop) : Prop :=
  ∀ X77 : Int → S → Prop, (∀ (v2 : Int) (σ : S), ((if v2 ≤ gI σ 123 then x_list_j112 v1 v2 σ Q E else x_compareMatchers v1 (w32 (v2 - 1)) σ (fun r_38 σ_37 => (if r_38 = 0 then Q 0 σ_37 else (if r_38 ≤ 0 then X77 (w32 (v2 + (-1))) σ_37 else x_list_j103 v1 v2 σ_37 Q E))))) → X77 v2 σ) → X77 v2 σ
def x_list_j41 (v1 : Int) (σ : S) (Q : Int → S → Prop) (E : S → Prop) : Prop :=
  inb (w32 (w32 (62 * v1) + 60)) 409200 ∧ ∀ σ_6, σ_6 = pA σ 86 (w32 (w32 (62 * v1) + 60)) (gI σ 125) → inb (w32 (w32 (w32 (62 * v1) + 60) + 1)) 409200 ∧ ∀ σ_10, σ_10 = pA σ_6 86 (w32 (w32 (w32 (62 * v1) + 60) + 1)) (gI σ_6 126) → x_list_L77 v1 v1 σ_10 Q E
def x_list_L12 (v1 : Int) (v2 : Int) (σ : S) (Q : Int → S → Prop) (E : S → Prop) : Prop :=
  ∀ X12 : Int → S → Prop, (∀ (v2 : Int) (σ : S), ((if v2 < 60 then inb v2 60 ∧ inb (w32 (w32 (62 * v1) + v2)) 409200 ∧ ∀ σ_45, σ_45 = pA σ 86 (w32 (w32 (62 * v1) + v2)) (gA σ 83 v2) → X12 (w32 (v2 + 1)) σ_45 else x_list_j41 v1 σ Q E)) → X12 v2 σ) → X12 v2 σ
def x_list (σ : S) (Q : Int → S → Prop) (E : S → Prop) : Prop :=
  x_list_L12 (w32 (gI σ 123 + (gI σ 124))) 0 σ Q E
def x_newShare (v1 : Int) (v2 : Int) (v3 : Int) (σ : S) (Q : Int → S → Prop) : Prop :=
  inb (gI σ 138) 400 ∧ ∀ σ_2, σ_2 = pA σ 88 (gI σ 138) v1 → inb (gI σ_2 138) 400 ∧ ∀ σ_6, σ_6 = pA σ_2 89 (gI σ_2 138) v2 → inb (gI σ_6 138) 400 ∧ ∀ σ_10, σ_10 = pA σ_6 90 (gI σ_6 138) v3 → ∀ σ_14, σ_14 = pI σ_10 138 (w32 (gI σ_10 138 + 1)) → Q (gI σ_10 138) σ_14
def x_solve_j191 (G : Orc) (v1 : Int) (v2 : Int) (v3 : Int) (σ : S) (Q : Int → S → Prop) (E : S → Prop) : Prop :=
  ∀ σ_28, σ_28 = pI σ 121 (w32 (v1 + 1)) → inb v1 400 ∧ ∀ σ_30, σ_30 = pA σ_28 84 v1 v2 → inb v1 400 ∧ ∀ σ_33, σ_33 = pA σ_30 85 v1 v3 → Q 0 σ_33
def x_solve_j126 (G : Orc) (v1 : Int) (v2 : Int) (v3 : Int) (v4 : Int) (σ : S) (Q : Int → S → Prop) (E : S → Prop) : Prop :=
  G 3 [v4, v2, v3] σ (fun _ σ_26 => x_solve_j191 G v1 v2 v3 σ_26 Q E) E
def x_solve_j187 (G : Orc) (v1 : Int) (v2 : Int) (v3 : Int) (σ : S) (Q : Int → S → Prop) (E : S → Prop) : Prop :=
  G 0 [] σ (fun _ σ_48 => x_solve_j191 G v1 v2 v3 σ_48 Q E) E
def x_solve_L158 (G : Orc) (v1 : Int) (v2 : Int) (v3 : Int) (v5 : Int) (σ : S) (Q : Int → S → Prop) (E : S → Prop) : Prop :=
  ∀ X158 : Int → S → Prop, (∀ (v5 : Int) (σ : S), ((if v5 < 0 then x_solve_j187 G v1 v2 v3 σ Q E else x_at v2 v5 σ (fun r_51 σ_50 => x_at v3 v5 σ_50 (fun r_53 σ_52 => x_goal r_51 r_53 σ_52 (fun _ σ_54 => X158 (w32 (v5 + (-1))) σ_54))))) → X158 v5 σ) → X158 v5 σ
def x_solve_F (G : Orc) (σ : S) (Q : Int → S → Prop) (E : S → Prop) : Prop :=
  (if gI σ 121 = 0 then x_list σ (fun _ σ_61 => Q 0 σ_61) E else ∀ σ_5, σ_5 = pI σ 121 (w32 (gI σ 121 - 1)) → inb (gI σ_5 121) 400 ∧ inb (gI σ_5 121) 400 ∧ inb (gA σ_5 84 (gI σ_5 121)) 200000 ∧ (if gA σ_5 85 (gI σ_5 121) < 0 then G 5 [(w32 ((-1) - (gA σ_5 85 (gI σ_5 121)))), (gA σ_5 66 (gA σ_5 84 (gI σ_5 121))), (gA σ_5 84 (gI σ_5 121))] σ_5 (fun _ σ_59 => x_solve_j191 G (gI σ_5 121) (gA σ_5 84 (gI σ_5 121)) (gA σ_5 85 (gI σ_5 121)) σ_59 Q E) E else (if gA σ_5 66 (gA σ_5 84 (gI σ_5 121)) < 0 then G 1 [(w32 ((-1) - (gA σ_5 66 (gA σ_5 84 (gI σ_5 121))))), (gA σ_5 85 (gI σ_5 121))] σ_5 (fun _ σ_57 => x_solve_j191 G (gI σ_5 121) (gA σ_5 84 (gI σ_5 121)) (gA σ_5 85 (gI σ_5 121)) σ_57 Q E) E else inb (gA σ_5 66 (gA σ_5 84 (gI σ_5 121))) 50 ∧ (if gA σ_5 52 (gA σ_5 66 (gA σ_5 84 (gI σ_5 121))) = 0 then inb (gA σ_5 66 (gA σ_5 84 (gI σ_5 121))) 50 ∧ (if gA σ_5 53 (gA σ_5 66 (gA σ_5 84 (gI σ_5 121))) = 0 then inb (gA σ_5 66 (gA σ_5 84 (gI σ_5 121))) 50 ∧ (if gA σ_5 54 (gA σ_5 66 (gA σ_5 84 (gI σ_5 121))) = (-2) then inb (gA σ_5 85 (gI σ_5 121)) 200000 ∧ (if gA σ_5 66 (gA σ_5 85 (gI σ_5 121)) = gA σ_5 66 (gA σ_5 84 (gI σ_5 121)) then inb (gA σ_5 84 (gI σ_5 121)) 200000 ∧ x_solve_L158 G (gI σ_5 121) (gA σ_5 84 (gI σ_5 121)) (gA σ_5 85 (gI σ_5 121)) (w32 (gA σ_5 68 (gA σ_5 84 (gI σ_5 121)) - 1)) σ_5 Q E else x_solve_j191 G (gI σ_5 121) (gA σ_5 84 (gI σ_5 121)) (gA σ_5 85 (gI σ_5 121)) σ_5 Q E) else x_solve_j126 G (gI σ_5 121) (gA σ_5 84 (gI σ_5 121)) (gA σ_5 85 (gI σ_5 121)) (gA σ_5 66 (gA σ_5 84 (gI σ_5 121))) σ_5 Q E) else x_solve_j126 G (gI σ_5 121) (gA σ_5 84 (gI σ_5 121)) (gA σ_5 85 (gI σ_5 121)) (gA σ_5 66 (gA σ_5 84 (gI σ_5 121))) σ_5 Q E) else G 4 [(gA σ_5 66 (gA σ_5 84 (gI σ_5 121))), (gA σ_5 84 (gI σ_5 121)), (gA σ_5 85 (gI σ_5 121))] σ_5 (fun _ σ_55 => x_solve_j191 G (gI σ_5 121) (gA σ_5 84 (gI σ_5 121)) (gA σ_5 85 (gI σ_5 121)) σ_55 Q E) E))))
def x_solveVariable_F (G : Orc) (v1 : Int) (v2 : Int) (σ : S) (Q : Int → S → Prop) (E : S → Prop) : Prop :=
  inb v1 60 ∧ (if gA σ 83 v1 = 0 then inb v2 200000 ∧ (if gA σ 69 v2 = (-2) then Q 0 σ else inb v2 200000 ∧ x_sortOfVariable v1 σ (fun r_12 σ_11 => x_isBelow (gA σ 69 v2) r_12 σ_11 (fun r_14 σ_13 => (if r_14 = 0 then Q 0 σ_13 else inb v1 60 ∧ ∀ σ_17, σ_17 = pA σ_13 83 v1 v2 → G 0 [] σ_17 (fun _ σ_20 => inb v1 60 ∧ ∀ σ_22, σ_22 = pA σ_20 83 v1 0 → Q 0 σ_22) E)))) else inb v1 60 ∧ (if gA σ 83 v1 = v2 then G 0 [] σ (fun _ σ_29 => Q 0 σ_29) E else Q 0 σ))
def x_solvePair_F (G : Orc) (v1 : Int) (v2 : Int) (v3 : Int) (σ : S) (Q : Int → S → Prop) (E : S → Prop) : Prop :=
  x_at v1 1 σ (fun r_3 σ_2 => x_goal r_3 v3 σ_2 (fun _ σ_4 => x_at v1 0 σ_4 (fun r_6 σ_5 => x_goal r_6 v2 σ_5 (fun _ σ_7 => G 0 [] σ_7 (fun _ σ_8 => ∀ σ_10, σ_10 = pI σ_8 121 (gI σ 121) → Q 0 σ_10) E))))
def x_solveTwo_j53 (G : Orc) (v1 : Int) (v2 : Int) (v3 : Int) (σ : S) (Q : Int → S → Prop) (E : S → Prop) : Prop :=
  inb v1 50 ∧ (if gA σ 54 v1 = (-2) then Q 0 σ else x_unitNode v1 σ (fun r_10 σ_9 => G 2 [v2, v3, r_10] σ_9 (fun _ σ_12 => x_unitNode v1 σ_12 (fun r_15 σ_14 => G 2 [v2, r_15, v3] σ_14 (fun _ σ_17 => Q 0 σ_17) E) E) E) E)
def x_solveTwo_F (G : Orc) (v1 : Int) (v2 : Int) (v3 : Int) (σ : S) (Q : Int → S → Prop) (E : S → Prop) : Prop :=
  inb v3 200000 ∧ (if gA σ 66 v3 = v1 then x_at v3 0 σ (fun r_20 σ_19 => x_at v3 1 σ_19 (fun r_22 σ_21 => G 2 [v2, r_20, r_22] σ_21 (fun _ σ_23 => inb v1 50 ∧ (if gA σ_23 53 v1 = 0 then x_solveTwo_j53 G v1 v2 v3 σ_23 Q E else x_at v3 1 σ_23 (fun r_30 σ_29 => x_at v3 0 σ_29 (fun r_32 σ_31 => G 2 [v2, r_30, r_32] σ_31 (fun _ σ_33 => x_solveTwo_j53 G v1 v2 v3 σ_33 Q E) E)))) E)) else x_solveTwo_j53 G v1 v2 v3 σ Q E)
def x_solveAssoc_j159 (G : Orc) (v4 : Int) (σ : S) (Q : Int → S → Prop) (E : S → Prop) : Prop :=
  ∀ σ_30, σ_30 = pI σ 134 v4 → Q 0 σ_30
def x_solveAssoc_j99 (G : Orc) (v1 : Int) (v2 : Int) (v4 : Int) (σ : S) (Q : Int → S → Prop) (E : S → Prop) : Prop :=
  inb v2 200000 ∧ ((w32 (gI σ 134 - v4) < gA σ 68 v2) → (inb v1 50)) ∧ (if ¬ (w32 (gI σ 134 - v4) < gA σ 68 v2) ∨ (¬ (gA σ 54 v1 = (-2))) then x_newShare 0 v4 (w32 (bShl 1 (w32 (gI σ 134 - v4)) - 1)) σ (fun r_24 σ_23 => G 5 [r_24, v1, v2] σ_23 (fun _ σ_25 => ∀ σ_28, σ_28 = pI σ_25 138 (w32 (gI σ_25 138 - 1)) → x_solveAssoc_j159 G v4 σ_28 Q E) E) else x_solveAssoc_j159 G v4 σ Q E)
def x_solveAssoc_j82 (G : Orc) (v1 : Int) (v2 : Int) (v3 : Int) (v4 : Int) (σ : S) (Q : Int → S → Prop) (E : S → Prop) : Prop :=
  ∀ σ_11, σ_11 = pI σ 134 (w32 (gI σ 134 + 1)) → inb (gI σ 134) 4000 ∧ ∀ σ_13, σ_13 = pA σ_11 87 (gI σ 134) v3 → x_solveAssoc_j99 G v1 v2 v4 σ_13 Q E
def x_solveAssoc_j59 (G : Orc) (v1 : Int) (v2 : Int) (v4 : Int) (σ : S) (Q : Int → S → Prop) (E : S → Prop) : Prop :=
  x_solveAssoc_j99 G v1 v2 v4 σ Q E
def x_solveAssoc_L19 (G : Orc) (v1 : Int) (v2 : Int) (v3 : Int) (v4 : Int) (v5 : Int) (σ : S) (Q : Int → S → Prop) (E : S → Prop) : Prop :=
  ∀ X19 : Int → S → Prop, (∀ (v5 : Int) (σ : S), (inb v3 200000 ∧ (if v5 < gA σ 68 v3 then ∀ σ_45, σ_45 = pI σ 134 (w32 (gI σ 134 + 1)) → x_at v3 v5 σ_45 (fun r_48 σ_47 => inb (gI σ 134) 4000 ∧ ∀ σ_49, σ_49 = pA σ_47 87 (gI σ 134) r_48 → X19 (w32 (v5 + 1)) σ_49) else x_solveAssoc_j59 G v1 v2 v4 σ Q E)) → X19 v5 σ) → X19 v5 σ
def x_solveAssoc_F (G : Orc) (v1 : Int) (v2 : Int) (v3 : Int) (σ : S) (Q : Int → S → Prop) (E : S → Prop) : Prop :=
  inb v3 200000 ∧ (if gA σ 66 v3 = v1 then x_solveAssoc_L19 G v1 v2 v3 (gI σ 134) 0 σ Q E else inb v1 50 ∧ (if gA σ 54 v1 = (-2) then x_solveAssoc_j82 G v1 v2 v3 (gI σ 134) σ Q E else x_unitNode v1 σ (fun r_36 σ_35 => (if v3 = r_36 then x_solveAssoc_j99 G v1 v2 (gI σ 134) σ_35 Q E else x_solveAssoc_j82 G v1 v2 v3 (gI σ 134) σ_35 Q E)) E))
def x_share_j152 (G : Orc) (v1 : Int) (v2 : Int) (v3 : Int) (v5 : Int) (v6 : Int) (v7 : Int) (σ : S) (Q : Int → S → Prop) (E : S → Prop) (X47 : Int → S → Prop) : Prop :=
  X47 (if v7 = 0 then (-1) else bAnd (w32 (v7 - 1)) v5) σ
def x_share_j143 (G : Orc) (v1 : Int) (v2 : Int) (v3 : Int) (v5 : Int) (v6 : Int) (v7 : Int) (σ : S) (Q : Int → S → Prop) (E : S → Prop) (X47 : Int → S → Prop) : Prop :=
  G 6 [v1, v2, v3, v7] σ (fun _ σ_29 => x_share_j152 G v1 v2 v3 v5 v6 v7 σ_29 Q E X47) E
def x_share_L47 (G : Orc) (v1 : Int) (v2 : Int) (v3 : Int) (v5 : Int) (v6 : Int) (v7 : Int) (σ : S) (Q : Int → S → Prop) (E : S → Prop) : Prop :=
  ∀ X47 : Int → S → Prop, (∀ (v7 : Int) (σ : S), ((if v7 < 0 then Q 0 σ else inb v2 50 ∧ (if bi (¬ (gA σ 53 v2 = 0) ∨ ((bAnd v5 (w32 (-v5)) = 0) ∨ (((v7 = 0) ∧ (bAnd v7 (w32 (v7 + (bAnd v5 (w32 (-v5))))) = 0)) ∨ (¬ (v7 = 0) ∧ ((bAnd v7 (w32 (-v7)) = bAnd v5 (w32 (-v5))) ∧ (bAnd v7 (w32 (v7 + (bAnd v5 (w32 (-v5))))) = 0)))))) = 0 then x_share_j152 G v1 v2 v3 v5 v6 v7 σ Q E X47 else inb v2 50 ∧ (if gA σ 54 v2 = (-2) then (if bCnt (bXor v5 v7) < w32 (v6 - 1) then x_share_j152 G v1 v2 v3 v5 v6 v7 σ Q E X47 else x_share_j143 G v1 v2 v3 v5 v6 v7 σ Q E X47) else x_share_j143 G v1 v2 v3 v5 v6 v7 σ Q E X47)))) → X47 v7 σ) → X47 v7 σ
def x_share_F (G : Orc) (v1 : Int) (v2 : Int) (v3 : Int) (σ : S) (Q : Int → S → Prop) (E : S → Prop) : Prop :=
  inb v1 400 ∧ inb v1 400 ∧ inb v3 200000 ∧ (if w32 (gA σ 68 v3 - (gA σ 88 v1)) = 1 then G 6 [v1, v2, v3, (gA σ 90 v1)] σ (fun _ σ_35 => Q 0 σ_35) E else x_share_L47 G v1 v2 v3 (gA σ 90 v1) (w32 (gA σ 68 v3 - (gA σ 88 v1))) (gA σ 90 v1) σ Q E)
def x_shareOne_j136 (G : Orc) (v3 : Int) (v6 : Int) (v7 : Int) (v8 : Int) (v9 : Int) (σ : S) (Q : Int → S → Prop) (E : S → Prop) : Prop :=
  x_at v3 v7 σ (fun r_18 σ_17 => x_goal r_18 v6 σ_17 (fun _ σ_19 => G 0 [] σ_19 (fun _ σ_20 => ∀ σ_22, σ_22 = pI σ_20 121 v8 → ∀ σ_26, σ_26 = pI σ_22 138 (w32 (gI σ_22 138 - (bi (¬ (v9 = 0))))) → Q 0 σ_26) E))
def x_shareOne_j52 (G : Orc) (v1 : Int) (v2 : Int) (v3 : Int) (v4 : Int) (v5 : Int) (σ : S) (Q : Int → S → Prop) (E : S → Prop) : Prop :=
  x_makeSome v2 v5 σ (fun r_5 σ_4 => (if r_5 = 0 then Q 0 σ_4 else inb v1 400 ∧ inb v3 200000 ∧ (if bi (w32 (gA σ_4 88 v1 + 1) < gA σ_4 68 v3) = 0 then x_shareOne_j136 G v3 r_5 (gA σ_4 88 v1) (gI σ_4 121) (bi (w32 (gA σ_4 88 v1 + 1) < gA σ_4 68 v3)) σ_4 Q E else inb v1 400 ∧ inb v1 400 ∧ x_newShare (w32 (gA σ_4 88 v1 + 1)) (gA σ_4 89 v1) (bXor (gA σ_4 90 v1) v4) σ_4 (fun r_35 σ_34 => x_goal v3 (w32 ((-1) - r_35)) σ_34 (fun _ σ_36 => x_shareOne_j136 G v3 r_5 (gA σ_4 88 v1) (gI σ_4 121) (bi (w32 (gA σ_4 88 v1 + 1) < gA σ_4 68 v3)) σ_36 Q E))))) E
def x_shareOne_j46 (G : Orc) (v1 : Int) (v2 : Int) (v3 : Int) (v4 : Int) (v5 : Int) (v6 : Int) (σ : S) (Q : Int → S → Prop) (E : S → Prop) (X9 : Int → S → Prop) : Prop :=
  X9 (w32 (v6 + 1)) σ
def x_shareOne_L9 (G : Orc) (v1 : Int) (v2 : Int) (v3 : Int) (v4 : Int) (v5 : Int) (v6 : Int) (σ : S) (Q : Int → S → Prop) (E : S → Prop) : Prop :=
  ∀ X9 : Int → S → Prop, (∀ (v6 : Int) (σ : S), ((if bShr v4 v6 = 0 then x_shareOne_j52 G v1 v2 v3 v4 v5 σ Q E else (if bAnd (bShr v4 v6) 1 = 1 then inb v1 400 ∧ inb (w32 (gA σ 89 v1 + v6)) 4000 ∧ x_push (gA σ 87 (w32 (gA σ 89 v1 + v6))) σ (fun _ σ_45 => x_shareOne_j46 G v1 v2 v3 v4 v5 v6 σ_45 Q E X9) else x_shareOne_j46 G v1 v2 v3 v4 v5 v6 σ Q E X9))) → X9 v6 σ) → X9 v6 σ
def x_shareOne_F (G : Orc) (v1 : Int) (v2 : Int) (v3 : Int) (v4 : Int) (σ : S) (Q : Int → S → Prop) (E : S → Prop) : Prop :=
  x_shareOne_L9 G v1 v2 v3 v4 (gI σ 106) 0 σ Q E
def x_S_solve : Nat → Orc
  | 0 => fun _ _ _ _ _ => False
  | n + 1 => fun i a σ Q E => match i, a with
    | 0, [] => x_solve_F (x_S_solve n) σ Q E
    | 1, [v1, v2] => x_solveVariable_F (x_S_solve n) v1 v2 σ Q E
    | 2, [v1, v2, v3] => x_solvePair_F (x_S_solve n) v1 v2 v3 σ Q E
    | 3, [v1, v2, v3] => x_solveTwo_F (x_S_solve n) v1 v2 v3 σ Q E
    | 4, [v1, v2, v3] => x_solveAssoc_F (x_S_solve n) v1 v2 v3 σ Q E
    | 5, [v1, v2, v3] => x_share_F (x_S_solve n) v1 v2 v3 σ Q E
    | 6, [v1, v2, v3, v4] => x_shareOne_F (x_S_solve n) v1 v2 v3 v4 σ Q E
    | _, _ => False
def x_solve (σ : S) (Q : Int → S → Prop) (E : S → Prop) : Prop := x_S_solve 420 0 [] σ Q E
def x_solveVariable (v1 : Int) (v2 : Int) (σ : S) (Q : Int → S → Prop) (E : S → Prop) : Prop := x_S_solve 420 1 [v1, v2] σ Q E
def x_solvePair (v1 : Int) (v2 : Int) (v3 : Int) (σ : S) (Q : Int → S → Prop) (E : S → Prop) : Prop := x_S_solve 420 2 [v1, v2, v3] σ Q E
def x_solveTwo (v1 : Int) (v2 : Int) (v3 : Int) (σ : S) (Q : Int → S → Prop) (E : S → Prop) : Prop := x_S_solve 420 3 [v1, v2, v3] σ Q E
def x_solveAssoc (v1 : Int) (v2 : Int) (v3 : Int) (σ : S) (Q : Int → S → Prop) (E : S → Prop) : Prop := x_S_solve 420 4 [v1, v2, v3] σ Q E
def x_share (v1 : Int) (v2 : Int) (v3 : Int) (σ : S) (Q : Int → S → Prop) (E : S → Prop) : Prop := x_S_solve 420 5 [v1, v2, v3] σ Q E
def x_shareOne (v1 : Int) (v2 : Int) (v3 : Int) (v4 : Int) (σ : S) (Q : Int → S → Prop) (E : S → Prop) : Prop := x_S_solve 420 6 [v1, v2, v3, v4] σ Q E
def x_matchPart (v1 : Int) (v2 : Int) (σ : S) (Q : Int → S → Prop) (E : S → Prop) : Prop :=
  ∀ σ_1, σ_1 = pI σ 121 0 → x_goal v1 v2 σ_1 (fun _ σ_3 => x_solve σ_3 (fun _ σ_4 => Q 0 σ_4) E)
def x_some_j47 (v2 : Int) (v4 : Int) (σ : S) (Q : Int → S → Prop) (E : S → Prop) : Prop :=
  (if gI σ 106 = v4 then Q 0 σ else x_makeSome v2 v4 σ (fun r_10 σ_9 => Q r_10 σ_9) E)
def x_some_j41 (v1 : Int) (v2 : Int) (v3 : Int) (v4 : Int) (v5 : Int) (σ : S) (Q : Int → S → Prop) (E : S → Prop) (X9 : Int → S → Prop) : Prop :=
  X9 (w32 (v5 + 1)) σ
def x_some_L9 (v1 : Int) (v2 : Int) (v3 : Int) (v4 : Int) (v5 : Int) (σ : S) (Q : Int → S → Prop) (E : S → Prop) : Prop :=
  ∀ X9 : Int → S → Prop, (∀ (v5 : Int) (σ : S), (inb v1 200000 ∧ (if v5 < gA σ 68 v1 then (if bAnd (bShr v3 v5) 1 = 1 then x_at v1 v5 σ (fun r_15 σ_14 => x_push r_15 σ_14 (fun _ σ_16 => x_some_j41 v1 v2 v3 v4 v5 σ_16 Q E X9)) else x_some_j41 v1 v2 v3 v4 v5 σ Q E X9) else x_some_j47 v2 v4 σ Q E)) → X9 v5 σ) → X9 v5 σ
def x_some (v1 : Int) (v2 : Int) (v3 : Int) (σ : S) (Q : Int → S → Prop) (E : S → Prop) : Prop :=
  x_some_L9 v1 v2 v3 (gI σ 106) 0 σ Q E
def x_matchBag_L3 (v1 : Int) (v2 : Int) (v3 : Int) (v4 : Int) (σ : S) (Q : Int → S → Prop) (E : S → Prop) : Prop :=
  ∀ X3 : Int → S → Prop, (∀ (v4 : Int) (σ : S), (inb v2 200000 ∧ (if v4 < bShl 1 (gA σ 68 v2) then x_some v2 v3 (bXor v4 (-1)) σ (fun r_6 σ_5 => ∀ σ_8, σ_8 = pI σ_5 126 r_6 → x_some v2 v3 v4 σ_8 (fun r_11 σ_10 => x_matchPart v1 r_11 σ_10 (fun _ σ_13 => X3 (w32 (v4 + 1)) σ_13) E) E) E else Q 0 σ)) → X3 v4 σ) → X3 v4 σ
def x_matchBag (v1 : Int) (v2 : Int) (v3 : Int) (σ : S) (Q : Int → S → Prop) (E : S → Prop) : Prop :=
  x_matchBag_L3 v1 v2 v3 1 σ Q E
def x_span (v1 : Int) (v2 : Int) (v3 : Int) (v4 : Int) (σ : S) (Q : Int → S → Prop) (E : S → Prop) : Prop :=
  x_some v1 v2 (w32 (bShl 1 v4 - (bShl 1 v3))) σ (fun r_2 σ_1 => Q r_2 σ_1) E
def x_matchRow_j83 (v1 : Int) (v2 : Int) (v3 : Int) (v4 : Int) (σ : S) (Q : Int → S → Prop) (E : S → Prop) (X3 : Int → S → Prop) : Prop :=
  X3 (w32 (v4 + 1)) σ
def x_matchRow_L20 (v1 : Int) (v2 : Int) (v3 : Int) (v4 : Int) (v5 : Int) (σ : S) (Q : Int → S → Prop) (E : S → Prop) (X3 : Int → S → Prop) : Prop :=
  ∀ X20 : Int → S → Prop, (∀ (v5 : Int) (σ : S), (inb v2 200000 ∧ (if v5 ≤ gA σ 68 v2 then x_span v2 v3 0 v4 σ (fun r_10 σ_9 => ∀ σ_12, σ_12 = pI σ_9 125 r_10 → inb v2 200000 ∧ x_span v2 v3 v5 (gA σ_12 68 v2) σ_12 (fun r_17 σ_16 => ∀ σ_19, σ_19 = pI σ_16 126 r_17 → x_span v2 v3 v4 v5 σ_19 (fun r_22 σ_21 => x_matchPart v1 r_22 σ_21 (fun _ σ_24 => X20 (w32 (v5 + 1)) σ_24) E) E) E) E else x_matchRow_j83 v1 v2 v3 v4 σ Q E X3)) → X20 v5 σ) → X20 v5 σ
def x_matchRow_L3 (v1 : Int) (v2 : Int) (v3 : Int) (v4 : Int) (σ : S) (Q : Int → S → Prop) (E : S → Prop) : Prop :=
  ∀ X3 : Int → S → Prop, (∀ (v4 : Int) (σ : S), (inb v2 200000 ∧ (if v4 < gA σ 68 v2 then x_matchRow_L20 v1 v2 v3 v4 (w32 (v4 + 1)) σ Q E X3 else Q 0 σ)) → X3 v4 σ) → X3 v4 σ
def x_matchRow (v1 : Int) (v2 : Int) (v3 : Int) (σ : S) (Q : Int → S → Prop) (E : S → Prop) : Prop :=
  x_matchRow_L3 v1 v2 v3 0 σ Q E
def x_matchers_j160 (σ : S) (Q : Int → S → Prop) (E : S → Prop) : Prop :=
  ∀ σ_31, σ_31 = pI σ 121 0 → ∀ σ_35, σ_35 = pI σ_31 128 (w32 (gI σ_31 128 + (gI σ_31 124))) → (if gI σ_35 128 ≤ 6000 then Q (gI σ_35 124) σ_35 else x_stop 4 σ_35 (fun _ σ_41 => E σ_41))
def x_matchers_j150 (v1 : Int) (v2 : Int) (σ : S) (Q : Int → S → Prop) (E : S → Prop) : Prop :=
  x_goal v1 v2 σ (fun _ σ_28 => x_solve σ_28 (fun _ σ_29 => x_matchers_j160 σ_29 Q E) E)
def x_matchers (v1 : Int) (v2 : Int) (v3 : Int) (σ : S) (Q : Int → S → Prop) (E : S → Prop) : Prop :=
  x_isWide v1 v2 σ (fun r_2 σ_1 => (if r_2 = 0 then x_deals v1 v2 σ_1 (fun r_7 σ_6 => ∀ σ_8, σ_8 = pL σ_6 129 (w64 ((gL σ_1 129) + (min 3000001 r_7))) → (if cmpI (gL σ_8 129) (gL σ_8 130) ≤ 0 then ∀ σ_14, σ_14 = pI σ_8 124 0 → ∀ σ_16, σ_16 = pI σ_14 121 0 → ∀ σ_18, σ_18 = pI σ_16 125 0 → ∀ σ_20, σ_20 = pI σ_18 126 0 → inb v1 200000 ∧ ∀ σ_24, σ_24 = pI σ_20 127 (gA σ_20 66 v1) → (if v3 = 0 then x_matchers_j150 v1 v2 σ_24 Q E else (if gA σ_20 66 v1 < 0 then x_matchers_j150 v1 v2 σ_24 Q E else inb (gA σ_20 66 v1) 50 ∧ (if gA σ_24 52 (gA σ_20 66 v1) = 0 then x_matchers_j150 v1 v2 σ_24 Q E else inb v2 200000 ∧ (if gA σ_24 66 v2 = gA σ_20 66 v1 then inb (gA σ_20 66 v1) 50 ∧ (if gA σ_24 53 (gA σ_20 66 v1) = 0 then x_matchRow v1 v2 (gA σ_20 66 v1) σ_24 (fun _ σ_56 => x_matchers_j160 σ_56 Q E) E else x_matchBag v1 v2 (gA σ_20 66 v1) σ_24 (fun _ σ_58 => x_matchers_j160 σ_58 Q E) E) else x_matchers_j150 v1 v2 σ_24 Q E)))) else x_stop 4 σ_8 (fun _ σ_60 => E σ_60))) else x_stop 3 σ_1 (fun _ σ_61 => E σ_61)))
def x_takeRow_L2 (v1 : Int) (v2 : Int) (σ : S) (Q : Int → S → Prop) : Prop :=
  ∀ X2 : Int → S → Prop, (∀ (v2 : Int) (σ : S), ((if v2 < 60 then inb (w32 (w32 (62 * v1) + v2)) 409200 ∧ inb v2 60 ∧ ∀ σ_5, σ_5 = pA σ 83 v2 (gA σ 86 (w32 (w32 (62 * v1) + v2))) → X2 (w32 (v2 + 1)) σ_5 else Q 0 σ)) → X2 v2 σ) → X2 v2 σ
def x_takeRow (v1 : Int) (σ : S) (Q : Int → S → Prop) : Prop :=
  x_takeRow_L2 v1 0 σ Q
def x_unbind_L2 (v1 : Int) (σ : S) (Q : Int → S → Prop) : Prop :=
  ∀ X2 : Int → S → Prop, (∀ (v1 : Int) (σ : S), ((if v1 < 60 then inb v1 60 ∧ ∀ σ_3, σ_3 = pA σ 83 v1 0 → X2 (w32 (v1 + 1)) σ_3 else Q 0 σ)) → X2 v1 σ) → X2 v1 σ
def x_unbind (σ : S) (Q : Int → S → Prop) : Prop :=
  x_unbind_L2 0 σ Q
def x_filled_j64 (G : Orc) (v1 : Int) (v2 : Int) (σ : S) (Q : Int → S → Prop) (E : S → Prop) : Prop :=
  inb v1 200000 ∧ (if gA σ 68 v1 = 0 then Q v1 σ else inb v1 200000 ∧ x_make (gA σ 66 v1) v2 σ (fun r_17 σ_16 => Q r_17 σ_16) E)
def x_filled_L30 (G : Orc) (v1 : Int) (v2 : Int) (v3 : Int) (σ : S) (Q : Int → S → Prop) (E : S → Prop) : Prop :=
  ∀ X30 : Int → S → Prop, (∀ (v3 : Int) (σ : S), (inb v1 200000 ∧ (if v3 < gA σ 68 v1 then x_at v1 v3 σ (fun r_20 σ_19 => G 0 [r_20] σ_19 (fun r_22 σ_21 => x_push r_22 σ_21 (fun _ σ_24 => X30 (w32 (v3 + 1)) σ_24)) E) else x_filled_j64 G v1 v2 σ Q E)) → X30 v3 σ) → X30 v3 σ
def x_filled_F (G : Orc) (v1 : Int) (σ : S) (Q : Int → S → Prop) (E : S → Prop) : Prop :=
  inb v1 200000 ∧ (if gA σ 66 v1 < 0 then inb v1 200000 ∧ inb (w32 ((-1) - (gA σ 66 v1))) 60 ∧ Q (gA σ 83 (w32 ((-1) - (gA σ 66 v1)))) σ else x_filled_L30 G v1 (gI σ 106) 0 σ Q E)
def x_S_filled : Nat → Orc
  | 0 => fun _ _ _ _ _ => False
  | n + 1 => fun i a σ Q E => match i, a with
    | 0, [v1] => x_filled_F (x_S_filled n) v1 σ Q E
    | _, _ => False
def x_filled (v1 : Int) (σ : S) (Q : Int → S → Prop) (E : S → Prop) : Prop := x_S_filled 44 0 [v1] σ Q E
def x_came (v1 : Int) (σ : S) (Q : Int → S → Prop) : Prop :=
  inb v1 200000 ∧ ((¬ gA σ 66 v1 < 0) → (inb v1 200000)) ∧ Q (if gA σ 66 v1 < 0 then v1 else gA σ 75 v1) σ
def x_countStep (σ : S) (Q : Int → S → Prop) (E : S → Prop) : Prop :=
  ∀ σ_2, σ_2 = pI σ 131 (w32 (gI σ 131 + 1)) → (if gI σ_2 131 ≤ 600 then Q 0 σ_2 else x_stop 1 σ_2 (fun _ σ_7 => E σ_7))
def x_beside_j42 (v1 : Int) (v5 : Int) (σ : S) (Q : Int → S → Prop) (E : S → Prop) : Prop :=
  x_make v1 v5 σ (fun r_10 σ_9 => Q r_10 σ_9) E
def x_beside_j26 (v1 : Int) (v3 : Int) (v4 : Int) (v5 : Int) (σ : S) (Q : Int → S → Prop) (E : S → Prop) : Prop :=
  x_push v3 σ (fun _ σ_6 => (if v4 = 0 then x_beside_j42 v1 v5 σ_6 Q E else x_push v4 σ_6 (fun _ σ_12 => x_beside_j42 v1 v5 σ_12 Q E)))
def x_beside (v1 : Int) (v2 : Int) (v3 : Int) (v4 : Int) (σ : S) (Q : Int → S → Prop) (E : S → Prop) : Prop :=
  (if (v2 = 0) ∧ (v4 = 0) then Q v3 σ else (if v2 = 0 then x_beside_j26 v1 v3 v4 (gI σ 106) σ Q E else x_push v2 σ (fun _ σ_13 => x_beside_j26 v1 v3 v4 (gI σ 106) σ_13 Q E)))
def x_countFilled (v1 : Int) (σ : S) (Q : Int → S → Prop) (E : S → Prop) : Prop :=
  inb v1 200000 ∧ ∀ σ_4, σ_4 = pI σ 132 (w32 (gI σ 132 + (gA σ 70 v1))) → (if gI σ_4 132 ≤ 4000 then Q 0 σ_4 else x_stop 7 σ_4 (fun _ σ_9 => E σ_9))
def x_keepBound_L2 (v1 : Int) (σ : S) (Q : Int → S → Prop) : Prop :=
  ∀ X2 : Int → S → Prop, (∀ (v1 : Int) (σ : S), ((if v1 < 60 then ∀ σ_4, σ_4 = pI σ 143 (w32 (gI σ 143 + 1)) → inb v1 60 ∧ inb (gI σ 143) 9000 ∧ ∀ σ_8, σ_8 = pA σ_4 92 (gI σ 143) (gA σ_4 83 v1) → X2 (w32 (v1 + 1)) σ_8 else Q 0 σ)) → X2 v1 σ) → X2 v1 σ
def x_keepBound (σ : S) (Q : Int → S → Prop) : Prop :=
  x_keepBound_L2 0 σ Q
def x_takeBound_L13 (v1 : Int) (σ : S) (Q : Int → S → Prop) : Prop :=
  ∀ X13 : Int → S → Prop, (∀ (v1 : Int) (σ : S), ((if v1 < 60 then inb (w32 (gI σ 143 + v1)) 9000 ∧ inb v1 60 ∧ ∀ σ_9, σ_9 = pA σ 83 v1 (gA σ 92 (w32 (gI σ 143 + v1))) → X13 (w32 (v1 + 1)) σ_9 else Q 0 σ)) → X13 v1 σ) → X13 v1 σ
def x_takeBound (σ : S) (Q : Int → S → Prop) : Prop :=
  ∀ σ_2, σ_2 = pI σ 143 (w32 (gI σ 143 - 60)) → x_takeBound_L13 0 σ_2 Q
def x_toRest_j18 (G : Orc) (v1 : Int) (σ : S) (Q : Int → S → Prop) (E : S → Prop) : Prop :=
  x_came v1 σ (fun r_6 σ_5 => Q r_6 σ_5)
def x_toRest_j207 (G : Orc) (v4 : Int) (σ : S) (Q : Int → S → Prop) (E : S → Prop) : Prop :=
  ∀ σ_30, σ_30 = pI σ 139 (w32 (gI σ 139 - 1)) → Q v4 σ_30
def x_toRest_j183 (G : Orc) (v2 : Int) (v4 : Int) (σ : S) (Q : Int → S → Prop) (E : S → Prop) : Prop :=
  ∀ σ_23, σ_23 = pI σ 141 v2 → inb v4 200000 ∧ (if gA σ_23 66 v4 < 0 then x_toRest_j207 G v4 σ_23 Q E else inb v4 200000 ∧ ∀ σ_32, σ_32 = pA σ_23 75 v4 v4 → x_toRest_j207 G v4 σ_32 Q E)
def x_toRest_L154 (G : Orc) (v2 : Int) (v4 : Int) (v5 : Int) (σ : S) (Q : Int → S → Prop) (E : S → Prop) : Prop :=
  ∀ X154 : Int → S → Prop, (∀ (v5 : Int) (σ : S), ((if v5 < gI σ 141 then inb v5 1600 ∧ inb (gA σ 91 v5) 200000 ∧ ∀ σ_37, σ_37 = pA σ 75 (gA σ 91 v5) v4 → X154 (w32 (v5 + 1)) σ_37 else x_toRest_j183 G v2 v4 σ Q E)) → X154 v5 σ) → X154 v5 σ
def x_toRest_j151 (G : Orc) (v2 : Int) (v4 : Int) (σ : S) (Q : Int → S → Prop) (E : S → Prop) : Prop :=
  x_toRest_L154 G v2 v4 v2 σ Q E
def x_toRest_j148 (G : Orc) (v2 : Int) (v3 : Int) (v4 : Int) (σ : S) (Q : Int → S → Prop) (E : S → Prop) (X59 : Int → Int → S → Prop) : Prop :=
  X59 v3 v4 σ
def x_toRest_j143 (G : Orc) (v2 : Int) (v6 : Int) (s0 : Int) (σ : S) (Q : Int → S → Prop) (E : S → Prop) (X59 : Int → Int → S → Prop) : Prop :=
  x_toRest_j148 G v2 v6 s0 σ Q E X59
def x_toRest_L59 (G : Orc) (v2 : Int) (v3 : Int) (v4 : Int) (σ : S) (Q : Int → S → Prop) (E : S → Prop) : Prop :=
  ∀ X59 : Int → Int → S → Prop, (∀ (v3 : Int) (v4 : Int) (σ : S), ((if v4 = 0 then ∀ σ_41, σ_41 = pI σ 141 (w32 (gI σ 141 + 1)) → inb (gI σ 141) 1600 ∧ ∀ σ_43, σ_43 = pA σ_41 91 (gI σ 141) v3 → G 1 [v3] σ_43 (fun r_47 σ_46 => x_came r_47 σ_46 (fun r_50 σ_49 => (if r_50 = 0 then ∀ σ_54, σ_54 = pI σ_49 141 (w32 (gI σ_49 141 + 1)) → inb (gI σ_49 141) 1600 ∧ ∀ σ_56, σ_56 = pA σ_54 91 (gI σ_49 141) r_47 → G 2 [r_47] σ_56 (fun r_60 σ_59 => (if r_60 = 0 then x_toRest_j143 G v2 r_60 r_47 σ_59 Q E X59 else x_came r_60 σ_59 (fun r_65 σ_64 => x_toRest_j143 G v2 r_60 r_65 σ_64 Q E X59))) E else x_toRest_j148 G v2 v3 r_50 σ_49 Q E X59))) E else x_toRest_j151 G v2 v4 σ Q E)) → X59 v3 v4 σ) → X59 v3 v4 σ
def x_toRest_F (G : Orc) (v1 : Int) (σ : S) (Q : Int → S → Prop) (E : S → Prop) : Prop :=
  inb v1 200000 ∧ (if gA σ 66 v1 < 0 then x_toRest_j18 G v1 σ Q E else inb v1 200000 ∧ (if gA σ 75 v1 = 0 then (if gI σ 139 ≤ 60 then ∀ σ_15, σ_15 = pI σ 139 (w32 (gI σ 139 + 1)) → x_toRest_L59 G (gI σ_15 141) v1 0 σ_15 Q E else x_stop 5 σ (fun _ σ_66 => E σ_66)) else x_toRest_j18 G v1 σ Q E))
def x_reduceRow_j77 (G : Orc) (v1 : Int) (v2 : Int) (v3 : Int) (σ : S) (Q : Int → S → Prop) (E : S → Prop) : Prop :=
  (if v3 = 0 then inb v1 200000 ∧ x_make (gA σ 66 v1) v2 σ (fun r_15 σ_14 => Q r_15 σ_14) E else ∀ σ_17, σ_17 = pI σ 106 v2 → Q v1 σ_17)
def x_reduceRow_L21 (G : Orc) (v1 : Int) (v2 : Int) (v3 : Int) (v4 : Int) (σ : S) (Q : Int → S → Prop) (E : S → Prop) : Prop :=
  ∀ X21 : Int → Int → S → Prop, (∀ (v3 : Int) (v4 : Int) (σ : S), (inb v1 200000 ∧ (if v4 < gA σ 68 v1 then x_at v1 v4 σ (fun r_20 σ_19 => G 0 [r_20] σ_19 (fun r_22 σ_21 => x_at v1 v4 σ_21 (fun r_25 σ_24 => x_push r_22 σ_24 (fun _ σ_27 => X21 (bAnd v3 (bi (r_22 = r_25))) (w32 (v4 + 1)) σ_27))) E) else x_reduceRow_j77 G v1 v2 v3 σ Q E)) → X21 v3 v4 σ) → X21 v3 v4 σ
def x_reduceRow_F (G : Orc) (v1 : Int) (σ : S) (Q : Int → S → Prop) (E : S → Prop) : Prop :=
  inb v1 200000 ∧ (if gA σ 68 v1 = 0 then Q v1 σ else x_reduceRow_L21 G v1 (gI σ 106) 1 0 σ Q E)
def x_tryEquations_j62 (G : Orc) (v1 : Int) (v2 : Int) (σ : S) (Q : Int → S → Prop) (E : S → Prop) (X2 : Int → S → Prop) : Prop :=
  X2 (w32 (v2 + 1)) σ
def x_tryEquations_j56 (G : Orc) (v1 : Int) (v2 : Int) (v3 : Int) (σ : S) (Q : Int → S → Prop) (E : S → Prop) (X2 : Int → S → Prop) (X9 : Int → S → Prop) : Prop :=
  X9 (w32 (v3 + 1)) σ
def x_tryEquations_j49 (G : Orc) (v4 : Int) (σ : S) (Q : Int → S → Prop) (E : S → Prop) : Prop :=
  x_countStep σ (fun _ σ_17 => Q v4 σ_17) E
def x_tryEquations_j33 (G : Orc) (v1 : Int) (v2 : Int) (v3 : Int) (s0 : Int) (s1 : Int) (σ : S) (Q : Int → S → Prop) (E : S → Prop) (X2 : Int → S → Prop) (X9 : Int → S → Prop) : Prop :=
  (if s1 = s0 then G 3 [v3, v1] σ (fun r_13 σ_12 => (if r_13 = 0 then x_tryEquations_j56 G v1 v2 v3 σ_12 Q E X2 X9 else x_tryEquations_j49 G r_13 σ_12 Q E)) E else x_tryEquations_j56 G v1 v2 v3 σ Q E X2 X9)
def x_tryEquations_L9 (G : Orc) (v1 : Int) (v2 : Int) (v3 : Int) (σ : S) (Q : Int → S → Prop) (E : S → Prop) (X2 : Int → S → Prop) : Prop :=
  ∀ X9 : Int → S → Prop, (∀ (v3 : Int) (σ : S), ((if v3 < gI σ 42 then inb v3 70 ∧ (if v2 = 1 then x_tryEquations_j33 G v1 v2 v3 1 (gA σ 26 v3) σ Q E X2 X9 else x_tryEquations_j33 G v1 v2 v3 0 (gA σ 26 v3) σ Q E X2 X9) else x_tryEquations_j62 G v1 v2 σ Q E X2)) → X9 v3 σ) → X9 v3 σ
def x_tryEquations_L2 (G : Orc) (v1 : Int) (v2 : Int) (σ : S) (Q : Int → S → Prop) (E : S → Prop) : Prop :=
  ∀ X2 : Int → S → Prop, (∀ (v2 : Int) (σ : S), ((if v2 < 2 then x_tryEquations_L9 G v1 v2 0 σ Q E X2 else Q 0 σ)) → X2 v2 σ) → X2 v2 σ
def x_tryEquations_F (G : Orc) (v1 : Int) (σ : S) (Q : Int → S → Prop) (E : S → Prop) : Prop :=
  x_tryEquations_L2 G v1 0 σ Q E
def x_tryOne_j139 (G : Orc) (v1 : Int) (v3 : Int) (v4 : Int) (v5 : Int) (v6 : Int) (v7 : Int) (σ : S) (Q : Int → S → Prop) (E : S → Prop) (X50 : Int → Int → S → Prop) : Prop :=
  X50 v6 (w32 (v7 + 1)) σ
def x_tryOne_j145 (G : Orc) (v3 : Int) (v6 : Int) (σ : S) (Q : Int → S → Prop) (E : S → Prop) : Prop :=
  ∀ σ_38, σ_38 = pI σ 123 v3 → Q v6 σ_38
def x_tryOne_L50 (G : Orc) (v1 : Int) (v3 : Int) (v4 : Int) (v5 : Int) (v6 : Int) (v7 : Int) (σ : S) (Q : Int → S → Prop) (E : S → Prop) : Prop :=
  ∀ X50 : Int → Int → S → Prop, (∀ (v6 : Int) (v7 : Int) (σ : S), ((if (v7 < v4) ∧ (v6 = 0) then x_takeRow (w32 (v3 + v7)) σ (fun _ σ_16 => G 4 [v1, 0] σ_16 (fun r_18 σ_17 => (if r_18 = 0 then x_tryOne_j139 G v1 v3 v4 v5 v6 v7 σ_17 Q E X50 else inb v1 70 ∧ x_countFilled (gA σ_17 79 v1) σ_17 (fun _ σ_24 => inb (w32 (w32 (62 * (w32 (v3 + v7))) + 60)) 409200 ∧ inb v1 70 ∧ x_filled (gA σ_24 79 v1) σ_24 (fun r_31 σ_30 => inb (w32 (w32 (w32 (62 * (w32 (v3 + v7))) + 60) + 1)) 409200 ∧ x_beside v5 (gA σ_24 86 (w32 (w32 (62 * (w32 (v3 + v7))) + 60))) r_31 (gA σ_30 86 (w32 (w32 (w32 (62 * (w32 (v3 + v7))) + 60) + 1))) σ_30 (fun r_36 σ_35 => x_tryOne_j139 G v1 v3 v4 v5 r_36 v7 σ_35 Q E X50) E) E) E)) E) else x_tryOne_j145 G v3 v6 σ Q E)) → X50 v6 v7 σ) → X50 v6 v7 σ
def x_tryOne_F (G : Orc) (v1 : Int) (v2 : Int) (σ : S) (Q : Int → S → Prop) (E : S → Prop) : Prop :=
  x_unbind σ (fun _ σ_1 => inb v1 70 ∧ x_matchers (gA σ_1 78 v1) v2 1 σ_1 (fun r_6 σ_5 => inb v1 70 ∧ inb (gA σ_5 78 v1) 200000 ∧ ∀ σ_12, σ_12 = pI σ_5 123 (w32 (gI σ_1 123 + r_6)) → x_tryOne_L50 G v1 (gI σ_1 123) r_6 (gA σ_5 66 (gA σ_5 78 v1)) 0 0 σ_12 Q E) E)
def x_holds_j119 (G : Orc) (v4 : Int) (v6 : Int) (σ : S) (Q : Int → S → Prop) (E : S → Prop) : Prop :=
  ∀ σ_21, σ_21 = pI σ 123 v4 → Q v6 σ_21
def x_holds_L73 (G : Orc) (v1 : Int) (v2 : Int) (v4 : Int) (v5 : Int) (v6 : Int) (v7 : Int) (σ : S) (Q : Int → S → Prop) (E : S → Prop) : Prop :=
  ∀ X73 : Int → Int → S → Prop, (∀ (v6 : Int) (v7 : Int) (σ : S), ((if (v7 < v5) ∧ (v6 = 0) then x_takeRow (w32 (v4 + v7)) σ (fun _ σ_15 => ∀ σ_16, σ_16 = pI σ_15 123 (w32 (v4 + v5)) → G 4 [v1, (w32 (v2 + 1))] σ_16 (fun r_19 σ_18 => X73 r_19 (w32 (v7 + 1)) σ_18) E) else x_holds_j119 G v4 v6 σ Q E)) → X73 v6 v7 σ) → X73 v6 v7 σ
def x_holds_j52 (G : Orc) (σ : S) (Q : Int → S → Prop) (E : S → Prop) : Prop :=
  Q 0 σ
def x_holds_F (G : Orc) (v1 : Int) (v2 : Int) (σ : S) (Q : Int → S → Prop) (E : S → Prop) : Prop :=
  inb v1 70 ∧ (if v2 = gA σ 32 v1 then Q 1 σ else inb (w32 (w32 (6 * v1) + v2)) 420 ∧ (if gA σ 33 (w32 (w32 (6 * v1) + v2)) = 1 then G 7 [(w32 (w32 (6 * v1) + v2))] σ (fun r_11 σ_10 => x_holds_L73 G v1 v2 (gI σ 123) r_11 0 0 σ_10 Q E) E else G 6 [(w32 (w32 (6 * v1) + v2))] σ (fun r_27 σ_26 => (if r_27 = 0 then x_holds_j52 G σ_26 Q E else G 4 [v1, (w32 (v2 + 1))] σ_26 (fun r_32 σ_31 => (if r_32 = 0 then x_holds_j52 G σ_31 Q E else Q 1 σ_31)) E)) E))
def x_reduced_F (G : Orc) (v1 : Int) (σ : S) (Q : Int → S → Prop) (E : S → Prop) : Prop :=
  x_countFilled v1 σ (fun _ σ_1 => x_filled v1 σ_1 (fun r_4 σ_3 => x_keepBound σ_3 (fun _ σ_6 => ∀ σ_9, σ_9 = pI σ_6 139 (max 1 (gI σ_6 139)) → G 0 [r_4] σ_9 (fun r_12 σ_11 => ∀ σ_14, σ_14 = pI σ_11 139 (gI σ_6 139) → x_takeBound σ_14 (fun _ σ_16 => Q r_12 σ_16)) E)) E) E
def x_isTrue_j55 (G : Orc) (σ : S) (Q : Int → S → Prop) (E : S → Prop) : Prop :=
  Q 0 σ
def x_isTrue_F (G : Orc) (v1 : Int) (σ : S) (Q : Int → S → Prop) (E : S → Prop) : Prop :=
  inb v1 420 ∧ G 5 [(gA σ 80 v1)] σ (fun r_4 σ_3 => inb v1 420 ∧ (if gA σ_3 33 v1 = 2 then inb r_4 200000 ∧ (if gA σ_3 69 r_4 = (-2) then x_isTrue_j55 G σ_3 Q E else inb r_4 200000 ∧ inb v1 420 ∧ x_isBelow (gA σ_3 69 r_4) (gA σ_3 81 v1) σ_3 (fun r_27 σ_26 => (if r_27 = 0 then x_isTrue_j55 G σ_26 Q E else Q 1 σ_26))) else inb v1 420 ∧ G 5 [(gA σ_3 81 v1)] σ_3 (fun r_13 σ_12 => Q (bi (r_4 = r_13)) σ_12) E)) E
def x_matchCondition_F (G : Orc) (v1 : Int) (σ : S) (Q : Int → S → Prop) (E : S → Prop) : Prop :=
  inb v1 420 ∧ x_countFilled (gA σ 80 v1) σ (fun _ σ_3 => inb v1 420 ∧ G 5 [(gA σ_3 81 v1)] σ_3 (fun r_8 σ_7 => inb v1 420 ∧ x_matchers (gA σ_7 80 v1) r_8 0 σ_7 (fun r_13 σ_12 => Q r_13 σ_12) E) E) E
def x_S_toRest : Nat → Orc
  | 0 => fun _ _ _ _ _ => False
  | n + 1 => fun i a σ Q E => match i, a with
    | 0, [v1] => x_toRest_F (x_S_toRest n) v1 σ Q E
    | 1, [v1] => x_reduceRow_F (x_S_toRest n) v1 σ Q E
    | 2, [v1] => x_tryEquations_F (x_S_toRest n) v1 σ Q E
    | 3, [v1, v2] => x_tryOne_F (x_S_toRest n) v1 v2 σ Q E
    | 4, [v1, v2] => x_holds_F (x_S_toRest n) v1 v2 σ Q E
    | 5, [v1] => x_reduced_F (x_S_toRest n) v1 σ Q E
    | 6, [v1] => x_isTrue_F (x_S_toRest n) v1 σ Q E
    | 7, [v1] => x_matchCondition_F (x_S_toRest n) v1 σ Q E
    | _, _ => False
def x_toRest (v1 : Int) (σ : S) (Q : Int → S → Prop) (E : S → Prop) : Prop := x_S_toRest 720 0 [v1] σ Q E
def x_reduceRow (v1 : Int) (σ : S) (Q : Int → S → Prop) (E : S → Prop) : Prop := x_S_toRest 720 1 [v1] σ Q E
def x_tryEquations (v1 : Int) (σ : S) (Q : Int → S → Prop) (E : S → Prop) : Prop := x_S_toRest 720 2 [v1] σ Q E
def x_tryOne (v1 : Int) (v2 : Int) (σ : S) (Q : Int → S → Prop) (E : S → Prop) : Prop := x_S_toRest 720 3 [v1, v2] σ Q E
def x_holds (v1 : Int) (v2 : Int) (σ : S) (Q : Int → S → Prop) (E : S → Prop) : Prop := x_S_toRest 720 4 [v1, v2] σ Q E
def x_reduced (v1 : Int) (σ : S) (Q : Int → S → Prop) (E : S → Prop) : Prop := x_S_toRest 720 5 [v1] σ Q E
def x_isTrue (v1 : Int) (σ : S) (Q : Int → S → Prop) (E : S → Prop) : Prop := x_S_toRest 720 6 [v1] σ Q E
def x_matchCondition (v1 : Int) (σ : S) (Q : Int → S → Prop) (E : S → Prop) : Prop := x_S_toRest 720 7 [v1] σ Q E
def x_found_j158 (v1 : Int) (v3 : Int) (σ : S) (Q : Int → S → Prop) (E : S → Prop) : Prop :=
  (if gI σ 146 = 60 then x_stop 2 σ (fun _ σ_29 => E σ_29) else inb (gI σ 146) 61 ∧ ∀ σ_20, σ_20 = pA σ 93 (gI σ 146) v3 → ∀ σ_24, σ_24 = pI σ_20 146 (w32 (gI σ_20 146 + 1)) → inb (gI σ_20 146) 61 ∧ ∀ σ_26, σ_26 = pA σ_24 94 (gI σ_20 146) v1 → Q 0 σ_26)
def x_found_L131 (v1 : Int) (v3 : Int) (v4 : Int) (σ : S) (Q : Int → S → Prop) (E : S → Prop) : Prop :=
  ∀ X131 : Int → S → Prop, (∀ (v4 : Int) (σ : S), ((if v4 < gI σ 146 then inb v4 61 ∧ (if gA σ 93 v4 = v3 then Q 0 σ else X131 (w32 (v4 + 1)) σ) else x_found_j158 v1 v3 σ Q E)) → X131 v4 σ) → X131 v4 σ
def x_found_j105 (v1 : Int) (v3 : Int) (σ : S) (Q : Int → S → Prop) (E : S → Prop) : Prop :=
  x_countFilled v3 σ (fun _ σ_4 => x_keepBound σ_4 (fun _ σ_6 => x_toRest v3 σ_6 (fun r_8 σ_7 => x_takeBound σ_7 (fun _ σ_10 => x_countStep σ_10 (fun _ σ_11 => x_found_L131 v1 r_8 0 σ_11 Q E) E)) E)) E
def x_found_j80 (v1 : Int) (v4 : Int) (v5 : Int) (σ : S) (Q : Int → S → Prop) (E : S → Prop) (X10 : Int → Int → S → Prop) : Prop :=
  inb v4 80 ∧ inb (gA σ 95 v4) 200000 ∧ x_make (gA σ 66 (gA σ 95 v4)) v5 σ (fun r_46 σ_45 => X10 r_46 (w32 (v4 + (-1))) σ_45) E
def x_found_j71 (v1 : Int) (v3 : Int) (v4 : Int) (v5 : Int) (v6 : Int) (s0 : Int) (σ : S) (Q : Int → S → Prop) (E : S → Prop) (X10 : Int → Int → S → Prop) (X24 : Int → S → Prop) : Prop :=
  x_push s0 σ (fun _ σ_56 => X24 (w32 (v6 + 1)) σ_56)
def x_found_L24 (v1 : Int) (v3 : Int) (v4 : Int) (v5 : Int) (v6 : Int) (σ : S) (Q : Int → S → Prop) (E : S → Prop) (X10 : Int → Int → S → Prop) : Prop :=
  ∀ X24 : Int → S → Prop, (∀ (v6 : Int) (σ : S), (inb v4 80 ∧ inb (gA σ 95 v4) 200000 ∧ (if v6 < gA σ 68 (gA σ 95 v4) then inb v4 80 ∧ (if v6 = gA σ 96 v4 then x_found_j71 v1 v3 v4 v5 v6 v3 σ Q E X10 X24 else inb v4 80 ∧ x_at (gA σ 95 v4) v6 σ (fun r_55 σ_54 => x_found_j71 v1 v3 v4 v5 v6 r_55 σ_54 Q E X10 X24)) else x_found_j80 v1 v4 v5 σ Q E X10)) → X24 v6 σ) → X24 v6 σ
def x_found_L10 (v1 : Int) (v3 : Int) (v4 : Int) (σ : S) (Q : Int → S → Prop) (E : S → Prop) : Prop :=
  ∀ X10 : Int → Int → S → Prop, (∀ (v3 : Int) (v4 : Int) (σ : S), ((if v4 < 0 then x_found_j105 v1 v3 σ Q E else x_found_L24 v1 v3 v4 (gI σ 106) 0 σ Q E X10)) → X10 v3 v4 σ) → X10 v3 v4 σ
def x_found (v1 : Int) (v2 : Int) (σ : S) (Q : Int → S → Prop) (E : S → Prop) : Prop :=
  x_found_L10 v1 v2 (w32 (gI σ 149 - 1)) σ Q E
def x_allWays_j183 (G : Orc) (v5 : Int) (σ : S) (Q : Int → S → Prop) (E : S → Prop) : Prop :=
  ∀ σ_16, σ_16 = pI σ 123 v5 → x_takeBound σ_16 (fun _ σ_18 => Q 0 σ_18)
def x_allWays_L143 (G : Orc) (v1 : Int) (v2 : Int) (v3 : Int) (v5 : Int) (v6 : Int) (v7 : Int) (σ : S) (Q : Int → S → Prop) (E : S → Prop) : Prop :=
  ∀ X143 : Int → S → Prop, (∀ (v7 : Int) (σ : S), ((if v7 < v6 then x_takeRow (w32 (v5 + v7)) σ (fun _ σ_19 => ∀ σ_20, σ_20 = pI σ_19 123 (w32 (v5 + v6)) → G 0 [v1, (w32 (v2 + 1)), v3] σ_20 (fun _ σ_22 => X143 (w32 (v7 + 1)) σ_22) E) else x_allWays_j183 G v5 σ Q E)) → X143 v7 σ) → X143 v7 σ
def x_allWays_F (G : Orc) (v1 : Int) (v2 : Int) (v3 : Int) (σ : S) (Q : Int → S → Prop) (E : S → Prop) : Prop :=
  inb v1 70 ∧ (if v2 = gA σ 32 v1 then inb v1 70 ∧ x_countFilled (gA σ 79 v1) σ (fun _ σ_33 => inb v1 70 ∧ inb (gA σ_33 78 v1) 200000 ∧ inb (w32 (w32 (62 * v3) + 60)) 409200 ∧ inb v1 70 ∧ x_filled (gA σ_33 79 v1) σ_33 (fun r_44 σ_43 => inb (w32 (w32 (w32 (62 * v3) + 60) + 1)) 409200 ∧ x_beside (gA σ_33 66 (gA σ_33 78 v1)) (gA σ_33 86 (w32 (w32 (62 * v3) + 60))) r_44 (gA σ_43 86 (w32 (w32 (w32 (62 * v3) + 60) + 1))) σ_43 (fun r_49 σ_48 => x_found (w32 (v1 - 40)) r_49 σ_48 (fun _ σ_51 => Q 0 σ_51) E) E) E) E else inb (w32 (w32 (6 * v1) + v2)) 420 ∧ (if gA σ 33 (w32 (w32 (6 * v1) + v2)) = 1 then x_keepBound σ (fun _ σ_10 => x_matchCondition (w32 (w32 (6 * v1) + v2)) σ_10 (fun r_12 σ_11 => x_allWays_L143 G v1 v2 v3 (gI σ 123) r_12 0 σ_11 Q E) E) else x_isTrue (w32 (w32 (6 * v1) + v2)) σ (fun r_25 σ_24 => (if r_25 = 0 then Q 0 σ_24 else G 0 [v1, (w32 (v2 + 1)), v3] σ_24 (fun _ σ_29 => Q 0 σ_29) E)) E))
def x_S_allWays : Nat → Orc
  | 0 => fun _ _ _ _ _ => False
  | n + 1 => fun i a σ Q E => match i, a with
    | 0, [v1, v2, v3] => x_allWays_F (x_S_allWays n) v1 v2 v3 σ Q E
    | _, _ => False
def x_allWays (v1 : Int) (v2 : Int) (v3 : Int) (σ : S) (Q : Int → S → Prop) (E : S → Prop) : Prop := x_S_allWays 10 0 [v1, v2, v3] σ Q E
def x_applyRule_j65 (v3 : Int) (σ : S) (Q : Int → S → Prop) (E : S → Prop) : Prop :=
  ∀ σ_10, σ_10 = pI σ 123 v3 → Q 0 σ_10
def x_applyRule_L26 (v1 : Int) (v3 : Int) (v4 : Int) (v5 : Int) (σ : S) (Q : Int → S → Prop) (E : S → Prop) : Prop :=
  ∀ X26 : Int → S → Prop, (∀ (v5 : Int) (σ : S), ((if v5 < v4 then ∀ σ_12, σ_12 = pI σ 123 (w32 (v3 + v4)) → x_takeRow (w32 (v3 + v5)) σ_12 (fun _ σ_14 => x_allWays v1 0 (w32 (v3 + v5)) σ_14 (fun _ σ_15 => X26 (w32 (v5 + 1)) σ_15) E) else x_applyRule_j65 v3 σ Q E)) → X26 v5 σ) → X26 v5 σ
def x_applyRule (v1 : Int) (v2 : Int) (σ : S) (Q : Int → S → Prop) (E : S → Prop) : Prop :=
  x_unbind σ (fun _ σ_1 => inb v1 70 ∧ x_matchers (gA σ_1 78 v1) v2 1 σ_1 (fun r_6 σ_5 => x_applyRule_L26 v1 (gI σ_1 123) r_6 0 σ_5 Q E) E)
def x_rulesAt_L51 (G : Orc) (v1 : Int) (v2 : Int) (σ : S) (Q : Int → S → Prop) (E : S → Prop) : Prop :=
  ∀ X51 : Int → S → Prop, (∀ (v2 : Int) (σ : S), (inb v1 200000 ∧ (if v2 < gA σ 68 v1 then inb (gI σ 149) 80 ∧ ∀ σ_9, σ_9 = pA σ 95 (gI σ 149) v1 → ∀ σ_13, σ_13 = pI σ_9 149 (w32 (gI σ_9 149 + 1)) → inb (gI σ_9 149) 80 ∧ ∀ σ_15, σ_15 = pA σ_13 96 (gI σ_9 149) v2 → x_at v1 v2 σ_15 (fun r_19 σ_18 => G 0 [r_19] σ_18 (fun _ σ_20 => ∀ σ_23, σ_23 = pI σ_20 149 (w32 (gI σ_20 149 - 1)) → X51 (w32 (v2 + 1)) σ_23) E) else Q 0 σ)) → X51 v2 σ) → X51 v2 σ
def x_rulesAt_j49 (G : Orc) (v1 : Int) (σ : S) (Q : Int → S → Prop) (E : S → Prop) : Prop :=
  x_rulesAt_L51 G v1 0 σ Q E
def x_rulesAt_j43 (G : Orc) (v1 : Int) (v2 : Int) (σ : S) (Q : Int → S → Prop) (E : S → Prop) (X2 : Int → S → Prop) : Prop :=
  X2 (w32 (v2 + 1)) σ
def x_rulesAt_L2 (G : Orc) (v1 : Int) (v2 : Int) (σ : S) (Q : Int → S → Prop) (E : S → Prop) : Prop :=
  ∀ X2 : Int → S → Prop, (∀ (v2 : Int) (σ : S), ((if v2 < gI σ 43 then ((¬ gI σ 150 = (-2)) → (inb (w32 (40 + v2)) 70)) ∧ (if (gI σ 150 = (-2)) ∨ (gA σ 27 (w32 (40 + v2)) = gI σ 150) then x_applyRule (w32 (40 + v2)) v1 σ (fun _ σ_31 => x_rulesAt_j43 G v1 v2 σ_31 Q E X2) E else x_rulesAt_j43 G v1 v2 σ Q E X2) else x_rulesAt_j49 G v1 σ Q E)) → X2 v2 σ) → X2 v2 σ
def x_rulesAt_F (G : Orc) (v1 : Int) (σ : S) (Q : Int → S → Prop) (E : S → Prop) : Prop :=
  x_rulesAt_L2 G v1 0 σ Q E
def x_S_rulesAt : Nat → Orc
  | 0 => fun _ _ _ _ _ => False
  | n + 1 => fun i a σ Q E => match i, a with
    | 0, [v1] => x_rulesAt_F (x_S_rulesAt n) v1 σ Q E
    | _, _ => False
def x_rulesAt (v1 : Int) (σ : S) (Q : Int → S → Prop) (E : S → Prop) : Prop := x_S_rulesAt 44 0 [v1] σ Q E
def x_rulesOf (v1 : Int) (v2 : Int) (σ : S) (Q : Int → S → Prop) (E : S → Prop) : Prop :=
  ∀ σ_1, σ_1 = pI σ 146 0 → ∀ σ_3, σ_3 = pI σ_1 149 0 → ∀ σ_5, σ_5 = pI σ_3 150 v2 → x_rulesAt v1 σ_5 (fun _ σ_7 => Q 0 σ_7) E
def x_begin (σ : S) (Q : Int → S → Prop) : Prop :=
  x_dropNodes σ (fun _ σ_1 => ∀ σ_2, σ_2 = pI σ_1 121 0 → ∀ σ_4, σ_4 = pI σ_2 134 0 → ∀ σ_6, σ_6 = pI σ_4 138 0 → ∀ σ_8, σ_8 = pI σ_6 139 0 → ∀ σ_10, σ_10 = pI σ_8 141 0 → ∀ σ_12, σ_12 = pI σ_10 143 0 → ∀ σ_14, σ_14 = pI σ_12 123 0 → ∀ σ_16, σ_16 = pI σ_14 128 0 → ∀ σ_18, σ_18 = pL σ_16 129 0 → ∀ σ_20, σ_20 = pL σ_18 130 300000 → ∀ σ_22, σ_22 = pI σ_20 131 0 → ∀ σ_24, σ_24 = pI σ_22 132 0 → x_unbind σ_24 (fun _ σ_26 => Q 0 σ_26))
def x_stopped (σ : S) (Q : Int → S → Prop) : Prop :=
  ∀ σ_2, σ_2 = pI σ 151 (gI σ 1006) → Q (w32 ((-20) - (gI σ_2 1006))) σ_2
def x_madeOf_j6 (σ : S) (Q : Int → S → Prop) : Prop :=
  ∀ σ_4, σ_4 = pI σ 106 0 → Q 0 σ_4
def x_madeOf (v1 : Int) (σ : S) (Q : Int → S → Prop) : Prop :=
  x_termOf v1 σ (fun r_2 σ_1 => Q r_2 σ_1) (fun σ_3 => x_madeOf_j6 σ_3 Q)
def x_term_j103 (s0 : Int) (σ : S) (Q : Int → S → Prop) : Prop :=
  Q (w32 ((-10) - (gI σ 20))) σ
def x_term_j102 (σ : S) (Q : Int → S → Prop) : Prop :=
  x_term_j103 0 σ Q
def x_term_j82 (v1 : Int) (σ : S) (Q : Int → S → Prop) : Prop :=
  (if v1 = 0 then x_term_j102 σ Q else x_wrong 1 (gI σ 17) σ (fun r_29 σ_28 => (if r_29 = 0 then x_term_j102 σ_28 Q else x_term_j103 1 σ_28 Q)))
def x_term_j146 (s0 : Int) (σ : S) (Q : Int → S → Prop) : Prop :=
  (if s0 = 0 then x_wrong 6 0 σ (fun r_52 σ_51 => Q (-16) σ_51) else (if gI σ 111 = 200 then Q (-3) σ else x_newHandle s0 σ (fun r_50 σ_49 => Q r_50 σ_49)))
def x_term_j62 (v1 : Int) (σ : S) (Q : Int → S → Prop) : Prop :=
  inb (gI σ 17) 902 ∧ (if gA σ 2 (gI σ 17) = 3 then (if gI σ 17 = 0 then x_term_j82 v1 σ Q else x_readingOf 0 (gI σ 17) (-2) σ (fun r_37 σ_36 => (if r_37 = (-6) then Q (-4) σ_36 else (if r_37 < 0 then x_term_j146 0 σ_36 Q else x_madeOf r_37 σ_36 (fun r_43 σ_42 => x_term_j146 r_43 σ_42 Q))))) else x_term_j82 v1 σ Q)
def x_term_L37 (v1 : Int) (σ : S) (Q : Int → S → Prop) : Prop :=
  ∀ X37 : Int → S → Prop, (∀ (v1 : Int) (σ : S), (((¬ v1 = 0) → (inb (gI σ 17) 902)) ∧ (if ¬ (v1 = 0) ∧ (gA σ 2 (gI σ 17) < 2) then x_step σ (fun r_18 σ_17 => X37 r_18 σ_17) else x_term_j62 v1 σ Q)) → X37 v1 σ) → X37 v1 σ
def x_term (σ : S) (Q : Int → S → Prop) : Prop :=
  x_takeTape σ (fun _ σ_1 => x_begin σ_1 (fun _ σ_2 => ∀ σ_3, σ_3 = pI σ_2 131 0 → ∀ σ_6, σ_6 = pI σ_3 12 (gI σ_3 15) → ∀ σ_9, σ_9 = pI σ_6 11 (gI σ_6 16) → x_cutWords 32 σ_9 (fun _ σ_11 => x_term_L37 1 σ_11 Q)))
def x_fault (v1 : Int) (σ : S) (Q : Int → S → Prop) : Prop :=
  Q (if v1 = 0 then gI σ 18 else (if v1 = 1 then gI σ 19 else (-1))) σ
def x_count (v1 : Int) (σ : S) (Q : Int → S → Prop) : Prop :=
  (if v1 = 0 then Q (gI σ 22) σ else (if v1 = 1 then Q (gI σ 61) σ else (if v1 = 2 then Q (gI σ 63) σ else (if v1 = 3 then Q (gI σ 29) σ else (if v1 = 4 then Q (gI σ 39) σ else (if v1 = 5 then Q (gI σ 42) σ else (if v1 = 6 then Q (gI σ 43) σ else (if v1 = 7 then Q (gI σ 111) σ else (if v1 = 8 then Q (gI σ 153) σ else (if v1 = 9 then Q (gI σ 151) σ else Q (if v1 = 10 then gI σ 162 else (-1)) σ))))))))))
def x_about (v1 : Int) (v2 : Int) (σ : S) (Q : Int → S → Prop) (E : S → Prop) : Prop :=
  x_isHandle v1 σ (fun r_2 σ_1 => (if r_2 = 0 then Q (-1) σ_1 else x_within v2 0 5 σ_1 (fun r_6 σ_5 => (if r_6 = 0 then Q (-1) σ_5 else x_begin σ_5 (fun _ σ_9 => x_termAt v1 σ_9 (fun r_11 σ_10 => (if v2 = 0 then inb r_11 200000 ∧ Q (gA σ_10 70 r_11) σ_10 else (if v2 = 1 then inb r_11 200000 ∧ Q (gA σ_10 69 r_11) σ_10 else (if v2 = 2 then inb r_11 200000 ∧ ((¬ gA σ_10 66 r_11 < 0) → (inb r_11 200000)) ∧ Q (if gA σ_10 66 r_11 < 0 then (-2) else gA σ_10 66 r_11) σ_10 else (if v2 = 3 then inb r_11 200000 ∧ ((gA σ_10 66 r_11 < 0) → (inb r_11 200000)) ∧ Q (if gA σ_10 66 r_11 < 0 then w32 ((-1) - (gA σ_10 66 r_11)) else (-2)) σ_10 else (if v2 = 4 then inb r_11 200000 ∧ Q (gA σ_10 68 r_11) σ_10 else x_kindAt r_11 σ_10 (fun r_36 σ_35 => Q r_36 σ_35))))))) E)))))
def x_part (v1 : Int) (v2 : Int) (σ : S) (Q : Int → S → Prop) (E : S → Prop) : Prop :=
  x_isHandle v1 σ (fun r_2 σ_1 => (if r_2 = 0 then Q (-1) σ_1 else x_begin σ_1 (fun _ σ_5 => x_termAt v1 σ_5 (fun r_7 σ_6 => inb r_7 200000 ∧ x_within v2 0 (w32 (gA σ_6 68 r_7 - 1)) σ_6 (fun r_12 σ_11 => (if r_12 = 0 then Q (-1) σ_11 else (if gI σ_11 111 = 200 then Q (-3) σ_11 else x_at r_7 v2 σ_11 (fun r_19 σ_18 => x_newHandle r_19 σ_18 (fun r_21 σ_20 => Q r_21 σ_20)))))) E)))
def x_order (v1 : Int) (v2 : Int) (σ : S) (Q : Int → S → Prop) (E : S → Prop) : Prop :=
  x_isHandle v1 σ (fun r_2 σ_1 => (if r_2 = 0 then Q (-9) σ_1 else x_isHandle v2 σ_1 (fun r_6 σ_5 => (if r_6 = 0 then Q (-9) σ_5 else x_begin σ_5 (fun _ σ_9 => x_termAt v1 σ_9 (fun r_11 σ_10 => x_termAt v2 σ_10 (fun r_14 σ_13 => x_compare r_11 r_14 σ_13 (fun r_17 σ_16 => Q r_17 σ_16)) E) E)))))
def x_forget (σ : S) (Q : Int → S → Prop) : Prop :=
  ∀ σ_2, σ_2 = pI σ 111 0 → Q (gI σ 111) σ_2
def x_printByte_j16 (σ : S) (Q : Int → S → Prop) : Prop :=
  ∀ σ_6, σ_6 = pI σ 163 (w32 (gI σ 163 + 1)) → Q 0 σ_6
def x_printByte (v1 : Int) (σ : S) (Q : Int → S → Prop) : Prop :=
  (if gI σ 163 = gI σ 164 then ∀ σ_8, σ_8 = pI σ 165 v1 → x_printByte_j16 σ_8 Q else x_printByte_j16 σ Q)
def x_printWord_L20 (v1 : Int) (v2 : Int) (σ : S) (Q : Int → S → Prop) : Prop :=
  ∀ X20 : Int → S → Prop, (∀ (v2 : Int) (σ : S), (inb v1 1700 ∧ (if v2 < gA σ 8 v1 then inb v2 40000 ∧ x_printByte (gA σ 6 v2) σ (fun _ σ_12 => X20 (w32 (v2 + 1)) σ_12) else Q 0 σ)) → X20 v2 σ) → X20 v2 σ
def x_printWord_j13 (v1 : Int) (σ : S) (Q : Int → S → Prop) : Prop :=
  inb v1 1700 ∧ x_printWord_L20 v1 (gA σ 7 v1) σ Q
def x_printWord (v1 : Int) (σ : S) (Q : Int → S → Prop) : Prop :=
  (if gI σ 163 ≤ 0 then x_printWord_j13 v1 σ Q else x_printByte 32 σ (fun _ σ_13 => x_printWord_j13 v1 σ_13 Q))
def x_printSign_j13 (v1 : Int) (σ : S) (Q : Int → S → Prop) : Prop :=
  x_printByte v1 σ (fun _ σ_4 => Q 0 σ_4)
def x_printSign (v1 : Int) (σ : S) (Q : Int → S → Prop) : Prop :=
  (if gI σ 163 ≤ 0 then x_printSign_j13 v1 σ Q else x_printByte 32 σ (fun _ σ_5 => x_printSign_j13 v1 σ_5 Q))
def x_printTerm_j233 (G : Orc) (v5 : Int) (σ : S) (Q : Int → S → Prop) : Prop :=
  (if v5 = 0 then Q 0 σ else x_printSign 41 σ (fun _ σ_18 => Q 0 σ_18))
def x_printTerm_j227 (G : Orc) (v1 : Int) (v2 : Int) (v4 : Int) (v5 : Int) (v6 : Int) (v7 : Int) (v8 : Int) (σ : S) (Q : Int → S → Prop) (X89 : Int → Int → S → Prop) : Prop :=
  X89 v7 (w32 (v8 + 1)) σ
def x_printTerm_j224 (G : Orc) (v1 : Int) (v2 : Int) (v4 : Int) (v5 : Int) (v6 : Int) (v7 : Int) (v8 : Int) (σ : S) (Q : Int → S → Prop) (X89 : Int → Int → S → Prop) : Prop :=
  x_printTerm_j227 G v1 v2 v4 v5 v6 (w32 (v7 + 1)) v8 σ Q X89
def x_printTerm_j178 (G : Orc) (v1 : Int) (v2 : Int) (v4 : Int) (v5 : Int) (v6 : Int) (v7 : Int) (v8 : Int) (v10 : Int) (σ : S) (Q : Int → S → Prop) (X89 : Int → Int → S → Prop) : Prop :=
  inb v4 50 ∧ x_at v1 (if gA σ 52 v4 = 0 then v7 else (if v7 = 1 then w32 (v2 - 1) else v7)) σ (fun r_37 σ_36 => inb r_37 200000 ∧ G 0 [r_37, (gA σ_36 68 r_37), v10] σ_36 (fun _ σ_40 => x_printTerm_j224 G v1 v2 v4 v5 v6 v7 v8 σ_40 Q X89) (fun _ => False))
def x_printTerm_L89 (G : Orc) (v1 : Int) (v2 : Int) (v4 : Int) (v5 : Int) (v6 : Int) (v7 : Int) (v8 : Int) (σ : S) (Q : Int → S → Prop) : Prop :=
  ∀ X89 : Int → Int → S → Prop, (∀ (v7 : Int) (v8 : Int) (σ : S), (inb v6 50 ∧ (if v8 < gA σ 45 v6 then inb (w32 (w32 (12 * v6) + v8)) 600 ∧ (if gA σ 46 (w32 (w32 (12 * v6) + v8)) = (-1) then inb (w32 (w32 (3 * v4) + v7)) 150 ∧ inb v4 50 ∧ (if gA σ 52 v4 = 0 then x_printTerm_j178 G v1 v2 v4 v5 v6 v7 v8 (gA σ 51 (w32 (w32 (3 * v4) + v7))) σ Q X89 else (if (v7 = 0) ∧ (¬ (v2 ≤ 2)) then G 0 [v1, (w32 (v2 - 1)), (gA σ 51 (w32 (w32 (3 * v4) + v7)))] σ (fun _ σ_43 => x_printTerm_j224 G v1 v2 v4 v5 v6 v7 v8 σ_43 Q X89) (fun _ => False) else x_printTerm_j178 G v1 v2 v4 v5 v6 v7 v8 (gA σ 51 (w32 (w32 (3 * v4) + v7))) σ Q X89)) else x_printWord (gA σ 46 (w32 (w32 (12 * v6) + v8))) σ (fun _ σ_47 => x_printTerm_j227 G v1 v2 v4 v5 v6 v7 v8 σ_47 Q X89)) else x_printTerm_j233 G v5 σ Q)) → X89 v7 v8 σ) → X89 v7 v8 σ
def x_printTerm_j74 (G : Orc) (v1 : Int) (v2 : Int) (v4 : Int) (v5 : Int) (σ : S) (Q : Int → S → Prop) : Prop :=
  inb v4 50 ∧ x_printTerm_L89 G v1 v2 v4 v5 (gA σ 48 v4) 0 0 σ Q
def x_printTerm_F (G : Orc) (v1 : Int) (v2 : Int) (v3 : Int) (σ : S) (Q : Int → S → Prop) : Prop :=
  inb v1 200000 ∧ (if gA σ 66 v1 < 0 then inb (Int.tmod (w32 ((-1) - (gA σ 66 v1))) 30) 30 ∧ x_printWord (gA σ 57 (Int.tmod (w32 ((-1) - (gA σ 66 v1))) 30)) σ (fun _ σ_53 => (if w32 ((-1) - (gA σ 66 v1)) < 30 then Q 0 σ_53 else x_printByte 39 σ_53 (fun _ σ_56 => Q 0 σ_56))) else inb (gA σ 66 v1) 50 ∧ (if bi (¬ (gA σ 50 (gA σ 66 v1) ≤ v3)) = 0 then x_printTerm_j74 G v1 v2 (gA σ 66 v1) (bi (¬ (gA σ 50 (gA σ 66 v1) ≤ v3))) σ Q else x_printSign 40 σ (fun _ σ_48 => x_printTerm_j74 G v1 v2 (gA σ 66 v1) (bi (¬ (gA σ 50 (gA σ 66 v1) ≤ v3))) σ_48 Q)))
def x_S_printTerm : Nat → Orc
  | 0 => fun _ _ _ _ _ => False
  | n + 1 => fun i a σ Q E => match i, a with
    | 0, [v1, v2, v3] => x_printTerm_F (x_S_printTerm n) v1 v2 v3 σ Q
    | _, _ => False
def x_printTerm (v1 : Int) (v2 : Int) (v3 : Int) (σ : S) (Q : Int → S → Prop) : Prop := x_S_printTerm 90 0 [v1, v2, v3] σ Q (fun _ => False)
def x_print (v1 : Int) (v2 : Int) (σ : S) (Q : Int → S → Prop) (E : S → Prop) : Prop :=
  x_isHandle v1 σ (fun r_2 σ_1 => (if (r_2 = 0) ∨ (v2 < (-1)) then Q (-1) σ_1 else x_begin σ_1 (fun _ σ_5 => x_termAt v1 σ_5 (fun r_7 σ_6 => ∀ σ_9, σ_9 = pI σ_6 163 0 → ∀ σ_11, σ_11 = pI σ_9 164 v2 → ∀ σ_13, σ_13 = pI σ_11 165 (-1) → inb r_7 200000 ∧ x_printTerm r_7 (gA σ_13 68 r_7) 99 σ_13 (fun _ σ_17 => Q (if v2 = (-1) then gI σ_17 163 else gI σ_17 165) σ_17)) E)))
def x_isSort (v1 : Int) (σ : S) (Q : Int → S → Prop) : Prop :=
  x_within v1 0 (w32 (gI σ 22 - 1)) σ (fun r_3 σ_2 => Q r_3 σ_2)
def x_below_j16 (σ : S) (Q : Int → S → Prop) : Prop :=
  Q (-1) σ
def x_below (v1 : Int) (v2 : Int) (σ : S) (Q : Int → S → Prop) : Prop :=
  x_isSort v1 σ (fun r_2 σ_1 => (if r_2 = 0 then x_below_j16 σ_1 Q else x_isSort v2 σ_1 (fun r_6 σ_5 => (if r_6 = 0 then x_below_j16 σ_5 Q else x_isBelow v1 v2 σ_5 (fun r_10 σ_9 => Q (bi (¬ (r_10 = 0))) σ_9)))))
def x_kind (v1 : Int) (σ : S) (Q : Int → S → Prop) : Prop :=
  x_isSort v1 σ (fun r_2 σ_1 => ((¬ r_2 = 0) → (inb v1 20)) ∧ Q (if r_2 = 0 then (-1) else gA σ_1 40 v1) σ_1)
def x_rowsOf_L4 (v1 : Int) (v2 : Int) (v3 : Int) (σ : S) (Q : Int → S → Prop) : Prop :=
  ∀ X4 : Int → Int → S → Prop, (∀ (v2 : Int) (v3 : Int) (σ : S), ((if v3 < gI σ 29 then inb v3 50 ∧ X4 (w32 (v2 + (bi (gA σ 41 v3 = v1)))) (w32 (v3 + 1)) σ else Q v2 σ)) → X4 v2 v3 σ) → X4 v2 v3 σ
def x_rowsOf (v1 : Int) (σ : S) (Q : Int → S → Prop) : Prop :=
  x_rowsOf_L4 v1 0 0 σ Q
def x_operator (v1 : Int) (v2 : Int) (σ : S) (Q : Int → S → Prop) : Prop :=
  x_within v1 0 (w32 (gI σ 63 - 1)) σ (fun r_3 σ_2 => (if r_3 = 0 then Q (-1) σ_2 else x_within v2 0 6 σ_2 (fun r_7 σ_6 => (if r_7 = 0 then Q (-1) σ_6 else (if v2 = 0 then inb v1 50 ∧ Q (gA σ_6 49 v1) σ_6 else (if v2 = 1 then inb v1 50 ∧ Q (gA σ_6 50 v1) σ_6 else (if v2 = 2 then inb v1 50 ∧ Q (bi (¬ (gA σ_6 52 v1 = 0))) σ_6 else (if v2 = 3 then inb v1 50 ∧ Q (bi (¬ (gA σ_6 53 v1 = 0))) σ_6 else (if v2 = 4 then inb v1 50 ∧ Q (gA σ_6 54 v1) σ_6 else (if v2 = 5 then x_rowsOf v1 σ_6 (fun r_27 σ_26 => Q r_27 σ_26) else inb v1 50 ∧ Q (gA σ_6 55 v1) σ_6))))))))))
def x_match_j106 (σ : S) (Q : Int → S → Prop) (E : S → Prop) : Prop :=
  x_stopped σ (fun r_26 σ_25 => Q r_26 σ_25)
def x_match (v1 : Int) (v2 : Int) (v3 : Int) (σ : S) (Q : Int → S → Prop) (E : S → Prop) : Prop :=
  x_isHandle v1 σ (fun r_2 σ_1 => (if r_2 = 0 then Q (-1) σ_1 else x_isHandle v2 σ_1 (fun r_6 σ_5 => (if r_6 = 0 then Q (-1) σ_5 else x_begin σ_5 (fun _ σ_9 => x_termAt v1 σ_9 (fun r_11 σ_10 => x_termAt v2 σ_10 (fun r_14 σ_13 => x_kindAt r_11 σ_13 (fun r_17 σ_16 => x_kindAt r_14 σ_16 (fun r_19 σ_18 => (if r_17 = r_19 then x_matchers r_11 r_14 v3 σ_18 (fun r_23 σ_22 => x_saveTo r_11 103 0 σ_22 (fun _ σ_27 => x_saveTo r_14 103 80 σ_27 (fun _ σ_28 => ∀ σ_29, σ_29 = pI σ_28 161 v3 → ∀ σ_31, σ_31 = pI σ_29 152 0 → ∀ σ_33, σ_33 = pI σ_31 153 r_23 → Q r_23 σ_33))) (fun σ_24 => x_match_j106 σ_24 Q E) else Q (-1) σ_18)))) E) E)))))
def x_bound (v1 : Int) (v2 : Int) (σ : S) (Q : Int → S → Prop) (E : S → Prop) : Prop :=
  (if gI σ 152 = 0 then x_within v1 0 (w32 (gI σ 153 - 1)) σ (fun r_6 σ_5 => (if r_6 = 0 then Q (-1) σ_5 else x_within v2 (-2) 59 σ_5 (fun r_10 σ_9 => (if r_10 = 0 then Q (-1) σ_9 else x_begin σ_9 (fun _ σ_13 => x_loadFrom 103 0 σ_13 (fun r_15 σ_14 => x_loadFrom 103 80 σ_14 (fun r_18 σ_17 => x_matchers r_15 r_18 (gI σ_17 161) σ_17 (fun r_22 σ_21 => inb (w32 (w32 (62 * v1) + (if v2 < 0 then w32 (59 - v2) else v2))) 409200 ∧ (if gA σ_21 86 (w32 (w32 (62 * v1) + (if v2 < 0 then w32 (59 - v2) else v2))) = 0 then Q (-2) σ_21 else (if gI σ_21 111 = 200 then Q (-3) σ_21 else x_newHandle (gA σ_21 86 (w32 (w32 (62 * v1) + (if v2 < 0 then w32 (59 - v2) else v2)))) σ_21 (fun r_36 σ_35 => Q r_36 σ_35)))) E) E) E))))) else Q (-1) σ)
def x_tellSteps (σ : S) (Q : Int → S → Prop) : Prop :=
  ∀ σ_2, σ_2 = pI σ 162 (gI σ 131) → Q 0 σ_2
def x_reduce_j47 (σ : S) (Q : Int → S → Prop) : Prop :=
  x_tellSteps σ (fun _ σ_12 => x_stopped σ_12 (fun r_14 σ_13 => Q r_14 σ_13))
def x_reduce (v1 : Int) (σ : S) (Q : Int → S → Prop) : Prop :=
  x_isHandle v1 σ (fun r_2 σ_1 => (if r_2 = 0 then Q (-1) σ_1 else (if gI σ_1 111 = 200 then Q (-3) σ_1 else x_begin σ_1 (fun _ σ_8 => x_termAt v1 σ_8 (fun r_10 σ_9 => x_toRest r_10 σ_9 (fun r_16 σ_15 => x_tellSteps σ_15 (fun _ σ_18 => x_newHandle r_16 σ_18 (fun r_20 σ_19 => Q r_20 σ_19))) (fun σ_17 => x_reduce_j47 σ_17 Q)) (fun σ_11 => x_reduce_j47 σ_11 Q)))))
def x_keepResults (v1 : Int) (v2 : Int) (σ : S) (Q : Int → S → Prop) : Prop :=
  ∀ σ_1, σ_1 = pI σ 152 v1 → ∀ σ_3, σ_3 = pI σ_1 153 v2 → Q 0 σ_3
def x_steps_j98 (σ : S) (Q : Int → S → Prop) : Prop :=
  x_tellSteps σ (fun _ σ_9 => x_stopped σ_9 (fun r_11 σ_10 => Q r_11 σ_10))
def x_steps_j75 (σ : S) (Q : Int → S → Prop) : Prop :=
  x_keepResults 1 (gI σ 146) σ (fun _ σ_21 => ∀ σ_22, σ_22 = pI σ_21 166 1 → x_tellSteps σ_22 (fun _ σ_24 => Q (gI σ_24 146) σ_24))
def x_steps_L31 (v2 : Int) (σ : S) (Q : Int → S → Prop) : Prop :=
  ∀ X31 : Int → S → Prop, (∀ (v2 : Int) (σ : S), ((if v2 < gI σ 146 then inb v2 61 ∧ x_saveTo (gA σ 93 v2) 97 (w32 (80 * v2)) σ (fun _ σ_28 => inb v2 61 ∧ inb v2 120 ∧ ∀ σ_31, σ_31 = pA σ_28 99 v2 (gA σ_28 94 v2) → X31 (w32 (v2 + 1)) σ_31) else x_steps_j75 σ Q)) → X31 v2 σ) → X31 v2 σ
def x_steps (v1 : Int) (σ : S) (Q : Int → S → Prop) : Prop :=
  x_isHandle v1 σ (fun r_2 σ_1 => (if r_2 = 0 then Q (-1) σ_1 else x_begin σ_1 (fun _ σ_5 => x_termAt v1 σ_5 (fun r_7 σ_6 => x_toRest r_7 σ_6 (fun r_13 σ_12 => x_rulesOf r_13 (-2) σ_12 (fun _ σ_15 => x_steps_L31 0 σ_15 Q) (fun σ_16 => x_steps_j98 σ_16 Q)) (fun σ_14 => x_steps_j98 σ_14 Q)) (fun σ_8 => x_steps_j98 σ_8 Q))))
def x_result (v1 : Int) (σ : S) (Q : Int → S → Prop) (E : S → Prop) : Prop :=
  (if (gI σ 152 = 1) ∨ (gI σ 152 = 2) then x_within v1 0 (w32 (gI σ 153 - 1)) σ (fun r_7 σ_6 => (if r_7 = 0 then Q (-1) σ_6 else x_begin σ_6 (fun _ σ_10 => (if gI σ_10 111 = 200 then Q (-3) σ_10 else x_loadFrom 97 (w32 (80 * v1)) σ_10 (fun r_15 σ_14 => x_newHandle r_15 σ_14 (fun r_18 σ_17 => Q r_18 σ_17)) E)))) else Q (-1) σ)
def x_way_j55 (v1 : Int) (v2 : Int) (σ : S) (Q : Int → S → Prop) : Prop :=
  (if gI σ 152 = 2 then ((¬ v2 = 0) → (¬ v2 = 1) → (¬ v2 = 2) → (inb (w32 (v1 + 1)) 121)) ∧ ((¬ v2 = 0) → (¬ v2 = 1) → (¬ v2 = 2) → (inb v1 121)) ∧ ((¬ v2 = 0) → (¬ v2 = 1) → (v2 = 2) → (inb v1 120)) ∧ ((¬ v2 = 0) → (v2 = 1) → (¬ v1 = 0) → (inb v1 120)) ∧ ((v2 = 0) → (inb v1 120)) ∧ Q (if v2 = 0 then gA σ 98 v1 else (if v2 = 1 then (if v1 = 0 then (-2) else gA σ 99 v1) else (if v2 = 2 then gA σ 100 v1 else w32 (gA σ 101 (w32 (v1 + 1)) - (gA σ 101 v1))))) σ else Q (-1) σ)
def x_way (v1 : Int) (v2 : Int) (σ : S) (Q : Int → S → Prop) : Prop :=
  x_within v1 0 (w32 (gI σ 153 - 1)) σ (fun r_3 σ_2 => (if r_3 = 0 then Q (-1) σ_2 else x_within v2 0 3 σ_2 (fun r_7 σ_6 => (if r_7 = 0 then Q (-1) σ_6 else (if gI σ_6 152 = 1 then (if gI σ_6 166 = 0 then x_way_j55 v1 v2 σ_6 Q else ((v2 = 0) → (inb v1 120)) ∧ Q (if v2 = 0 then gA σ_6 99 v1 else (-1)) σ_6) else x_way_j55 v1 v2 σ_6 Q)))))
def x_findStates_j194 (v2 : Int) (v3 : Int) (σ : S) (Q : Int → S → Prop) (E : S → Prop) : Prop :=
  inb v2 121 ∧ ∀ σ_12, σ_12 = pA σ 108 v2 v3 → Q v2 σ_12
def x_findStates_j188 (v2 : Int) (v3 : Int) (v4 : Int) (σ : S) (Q : Int → S → Prop) (E : S → Prop) (X29 : Int → Int → Int → S → Prop) : Prop :=
  X29 v2 v3 (w32 (v4 + 1)) σ
def x_findStates_j171 (v2 : Int) (v3 : Int) (v4 : Int) (v5 : Int) (v6 : Int) (σ : S) (Q : Int → S → Prop) (E : S → Prop) (X29 : Int → Int → Int → S → Prop) (X59 : Int → Int → Int → S → Prop) : Prop :=
  inb v3 7200 ∧ ∀ σ_35, σ_35 = pA σ 109 v3 v6 → X59 v2 (w32 (v3 + 1)) (w32 (v5 + 1)) σ_35
def x_findStates_j107 (σ : S) (Q : Int → S → Prop) (E : S → Prop) : Prop :=
  x_stop 2 σ (fun _ σ_56 => E σ_56)
def x_findStates_j100 (v2 : Int) (v3 : Int) (v4 : Int) (v5 : Int) (v6 : Int) (σ : S) (Q : Int → S → Prop) (E : S → Prop) (X29 : Int → Int → Int → S → Prop) (X59 : Int → Int → Int → S → Prop) : Prop :=
  (if v6 = 120 then x_findStates_j107 σ Q E else (if v6 = v2 then inb v5 61 ∧ inb v2 120 ∧ ∀ σ_40, σ_40 = pA σ 104 v2 (gA σ 93 v5) → inb v2 120 ∧ ∀ σ_43, σ_43 = pA σ_40 105 v2 v4 → inb v5 61 ∧ inb v2 120 ∧ ∀ σ_48, σ_48 = pA σ_43 106 v2 (gA σ_43 94 v5) → inb v4 120 ∧ inb v2 120 ∧ ∀ σ_53, σ_53 = pA σ_48 107 v2 (w32 (gA σ_48 107 v4 + 1)) → x_findStates_j171 (w32 (v2 + 1)) v3 v4 v5 v6 σ_53 Q E X29 X59 else x_findStates_j171 v2 v3 v4 v5 v6 σ Q E X29 X59))
def x_findStates_L71 (v2 : Int) (v3 : Int) (v4 : Int) (v5 : Int) (v6 : Int) (σ : S) (Q : Int → S → Prop) (E : S → Prop) (X29 : Int → Int → Int → S → Prop) (X59 : Int → Int → Int → S → Prop) : Prop :=
  ∀ X71 : Int → S → Prop, (∀ (v6 : Int) (σ : S), (((v6 < v2) → (inb v6 120)) ∧ ((v6 < v2) → (inb v5 61)) ∧ (if (v6 < v2) ∧ (¬ (gA σ 104 v6 = gA σ 93 v5)) then X71 (w32 (v6 + 1)) σ else x_findStates_j100 v2 v3 v4 v5 v6 σ Q E X29 X59)) → X71 v6 σ) → X71 v6 σ
def x_findStates_L59 (v2 : Int) (v3 : Int) (v4 : Int) (v5 : Int) (σ : S) (Q : Int → S → Prop) (E : S → Prop) (X29 : Int → Int → Int → S → Prop) : Prop :=
  ∀ X59 : Int → Int → Int → S → Prop, (∀ (v2 : Int) (v3 : Int) (v5 : Int) (σ : S), ((if v5 < gI σ 146 then x_findStates_L71 v2 v3 v4 v5 0 σ Q E X29 X59 else x_findStates_j188 v2 v3 v4 σ Q E X29)) → X59 v2 v3 v5 σ) → X59 v2 v3 v5 σ
def x_findStates_L29 (v2 : Int) (v3 : Int) (v4 : Int) (σ : S) (Q : Int → S → Prop) (E : S → Prop) : Prop :=
  ∀ X29 : Int → Int → Int → S → Prop, (∀ (v2 : Int) (v3 : Int) (v4 : Int) (σ : S), ((if v4 < v2 then inb v4 121 ∧ ∀ σ_15, σ_15 = pA σ 108 v4 v3 → inb v4 120 ∧ x_rulesOf (gA σ_15 104 v4) (-2) σ_15 (fun _ σ_20 => x_findStates_L59 v2 v3 v4 0 σ_20 Q E X29) E else x_findStates_j194 v2 v3 σ Q E)) → X29 v2 v3 v4 σ) → X29 v2 v3 v4 σ
def x_findStates (v1 : Int) (σ : S) (Q : Int → S → Prop) (E : S → Prop) : Prop :=
  inb 0 120 ∧ ∀ σ_1, σ_1 = pA σ 104 0 v1 → inb 0 120 ∧ ∀ σ_4, σ_4 = pA σ_1 105 0 (-2) → inb 0 120 ∧ ∀ σ_7, σ_7 = pA σ_4 107 0 0 → x_findStates_L29 1 0 0 σ_7 Q E
def x_states_j161 (σ : S) (Q : Int → S → Prop) : Prop :=
  x_tellSteps σ (fun _ σ_9 => x_stopped σ_9 (fun r_11 σ_10 => Q r_11 σ_10))
def x_states_j149 (v2 : Int) (σ : S) (Q : Int → S → Prop) : Prop :=
  x_keepResults 2 v2 σ (fun _ σ_29 => x_tellSteps σ_29 (fun _ σ_30 => Q v2 σ_30))
def x_states_L121 (v2 : Int) (v3 : Int) (σ : S) (Q : Int → S → Prop) : Prop :=
  ∀ X121 : Int → S → Prop, (∀ (v3 : Int) (σ : S), (inb v2 121 ∧ (if v3 < gA σ 101 v2 then inb v3 7200 ∧ inb v3 7200 ∧ ∀ σ_33, σ_33 = pA σ 102 v3 (gA σ 109 v3) → X121 (w32 (v3 + 1)) σ_33 else x_states_j149 v2 σ Q)) → X121 v3 σ) → X121 v3 σ
def x_states_j107 (v2 : Int) (σ : S) (Q : Int → S → Prop) : Prop :=
  inb v2 121 ∧ inb v2 121 ∧ ∀ σ_22, σ_22 = pA σ 101 v2 (gA σ 108 v2) → x_states_L121 v2 0 σ_22 Q
def x_states_L30 (v2 : Int) (v3 : Int) (σ : S) (Q : Int → S → Prop) : Prop :=
  ∀ X30 : Int → S → Prop, (∀ (v3 : Int) (σ : S), ((if v3 < v2 then inb v3 120 ∧ x_saveTo (gA σ 104 v3) 97 (w32 (80 * v3)) σ (fun _ σ_38 => inb v3 120 ∧ inb v3 120 ∧ ∀ σ_41, σ_41 = pA σ_38 98 v3 (gA σ_38 105 v3) → inb v3 120 ∧ inb v3 120 ∧ ∀ σ_46, σ_46 = pA σ_41 99 v3 (gA σ_41 106 v3) → inb v3 120 ∧ inb v3 120 ∧ ∀ σ_51, σ_51 = pA σ_46 100 v3 (gA σ_46 107 v3) → inb v3 121 ∧ inb v3 121 ∧ ∀ σ_56, σ_56 = pA σ_51 101 v3 (gA σ_51 108 v3) → X30 (w32 (v3 + 1)) σ_56) else x_states_j107 v2 σ Q)) → X30 v3 σ) → X30 v3 σ
def x_states (v1 : Int) (σ : S) (Q : Int → S → Prop) : Prop :=
  x_isHandle v1 σ (fun r_2 σ_1 => (if r_2 = 0 then Q (-1) σ_1 else x_begin σ_1 (fun _ σ_5 => x_termAt v1 σ_5 (fun r_7 σ_6 => x_toRest r_7 σ_6 (fun r_13 σ_12 => x_findStates r_13 σ_12 (fun r_16 σ_15 => x_states_L30 r_16 0 σ_15 Q) (fun σ_17 => x_states_j161 σ_17 Q)) (fun σ_14 => x_states_j161 σ_14 Q)) (fun σ_8 => x_states_j161 σ_8 Q))))
def x_isPattern_j40 (σ : S) (Q : Int → S → Prop) (E : S → Prop) : Prop :=
  Q 0 σ
def x_isPattern (v1 : Int) (v2 : Int) (σ : S) (Q : Int → S → Prop) (E : S → Prop) : Prop :=
  x_loadFrom 97 (w32 (80 * v2)) σ (fun r_2 σ_1 => x_kindAt v1 σ_1 (fun r_5 σ_4 => x_kindAt r_2 σ_4 (fun r_7 σ_6 => (if r_5 = r_7 then x_matchers v1 r_2 0 σ_6 (fun r_11 σ_10 => (if r_11 ≤ 0 then x_isPattern_j40 σ_10 Q E else Q 1 σ_10)) E else x_isPattern_j40 σ_6 Q E)))) E
def x_search_j76 (σ : S) (Q : Int → S → Prop) : Prop :=
  x_stopped σ (fun r_16 σ_15 => Q r_16 σ_15)
def x_search_L45 (v3 : Int) (v4 : Int) (σ : S) (Q : Int → S → Prop) : Prop :=
  ∀ X45 : Int → S → Prop, (∀ (v4 : Int) (σ : S), ((if v4 < gI σ 153 then x_isPattern v3 v4 σ (fun r_21 σ_20 => (if r_21 = 0 then X45 (w32 (v4 + 1)) σ_20 else Q v4 σ_20)) (fun σ_22 => x_search_j76 σ_22 Q) else Q (-2) σ)) → X45 v4 σ) → X45 v4 σ
def x_search (v1 : Int) (v2 : Int) (σ : S) (Q : Int → S → Prop) : Prop :=
  x_isHandle v1 σ (fun r_2 σ_1 => (if ¬ (r_2 = 0) ∧ (gI σ_1 152 = 2) then x_within v2 0 (w32 (gI σ_1 153 - 1)) σ_1 (fun r_8 σ_7 => (if r_8 = 0 then Q (-1) σ_7 else x_begin σ_7 (fun _ σ_11 => x_termAt v1 σ_11 (fun r_13 σ_12 => x_search_L45 r_13 v2 σ_12 Q) (fun σ_14 => x_search_j76 σ_14 Q)))) else Q (-1) σ_1))
def x_escapes_j217 (v2 : Nat) (v3 : Int) (σ : S) (Q : Int → S → Prop) (X59 : Int → S → Prop) : Prop :=
  X59 v3 σ
def x_escapes_j168 (v2 : Nat) (v3 : Int) (v5 : Int) (σ : S) (Q : Int → S → Prop) (X59 : Int → S → Prop) : Prop :=
  inb v5 ((dAln dX v2 : Nat) : Int) ∧ ((gA σ v2 v5 = 0) → (inb v5 120)) ∧ (if (gA σ v2 v5 = 0) ∧ (gA σ 112 v5 = 0) then inb v5 120 ∧ ∀ σ_52, σ_52 = pA σ 112 v5 1 → inb v3 120 ∧ ∀ σ_55, σ_55 = pA σ_52 113 v3 v5 → inb v5 121 ∧ inb v3 120 ∧ ∀ σ_60, σ_60 = pA σ_55 114 v3 (gA σ_55 101 v5) → x_escapes_j217 v2 (w32 (v3 + 1)) σ_60 Q X59 else x_escapes_j217 v2 v3 σ Q X59)
def x_escapes_L59 (v2 : Nat) (v3 : Int) (σ : S) (Q : Int → S → Prop) : Prop :=
  ∀ X59 : Int → S → Prop, (∀ (v3 : Int) (σ : S), ((if v3 ≤ 0 then Q 0 σ else inb (w32 (v3 - 1)) 120 ∧ inb (gA σ 113 (w32 (v3 - 1))) 121 ∧ inb (w32 (gA σ 113 (w32 (v3 - 1)) + 1)) 121 ∧ (if gA σ 101 (gA σ 113 (w32 (v3 - 1))) = gA σ 101 (w32 (gA σ 113 (w32 (v3 - 1)) + 1)) then Q 1 σ else inb (w32 (v3 - 1)) 120 ∧ inb (w32 (gA σ 113 (w32 (v3 - 1)) + 1)) 121 ∧ (if gA σ 114 (w32 (v3 - 1)) = gA σ 101 (w32 (gA σ 113 (w32 (v3 - 1)) + 1)) then inb (gA σ 113 (w32 (v3 - 1))) 120 ∧ ∀ σ_70, σ_70 = pA σ 112 (gA σ 113 (w32 (v3 - 1))) 2 → x_escapes_j217 v2 (w32 (v3 + (-1))) σ_70 Q X59 else inb (w32 (v3 - 1)) 120 ∧ inb (w32 (v3 - 1)) 120 ∧ ∀ σ_37, σ_37 = pA σ 114 (w32 (v3 - 1)) (w32 (gA σ 114 (w32 (v3 - 1)) + 1)) → inb (gA σ 114 (w32 (v3 - 1))) 7200 ∧ inb (gA σ_37 102 (gA σ 114 (w32 (v3 - 1)))) ((dAln dX v2 : Nat) : Int) ∧ (if gA σ_37 v2 (gA σ_37 102 (gA σ 114 (w32 (v3 - 1)))) = 0 then inb (gA σ_37 102 (gA σ 114 (w32 (v3 - 1)))) 120 ∧ (if gA σ_37 112 (gA σ_37 102 (gA σ 114 (w32 (v3 - 1)))) = 1 then Q 1 σ_37 else x_escapes_j168 v2 v3 (gA σ_37 102 (gA σ 114 (w32 (v3 - 1)))) σ_37 Q X59) else x_escapes_j168 v2 v3 (gA σ_37 102 (gA σ 114 (w32 (v3 - 1)))) σ_37 Q X59))))) → X59 v3 σ) → X59 v3 σ
def x_escapes_j31 (v1 : Int) (v2 : Nat) (σ : S) (Q : Int → S → Prop) : Prop :=
  inb 0 120 ∧ ∀ σ_8, σ_8 = pA σ 113 0 v1 → inb v1 121 ∧ inb 0 120 ∧ ∀ σ_13, σ_13 = pA σ_8 114 0 (gA σ_8 101 v1) → inb v1 120 ∧ ∀ σ_16, σ_16 = pA σ_13 112 v1 1 → x_escapes_L59 v2 1 σ_16 Q
def x_escapes_L10 (v1 : Int) (v2 : Nat) (v3 : Int) (σ : S) (Q : Int → S → Prop) : Prop :=
  ∀ X10 : Int → S → Prop, (∀ (v3 : Int) (σ : S), ((if v3 < gI σ 153 then inb v3 120 ∧ ∀ σ_73, σ_73 = pA σ 112 v3 0 → X10 (w32 (v3 + 1)) σ_73 else x_escapes_j31 v1 v2 σ Q)) → X10 v3 σ) → X10 v3 σ
def x_escapes (v1 : Int) (v2 : Nat) (σ : S) (Q : Int → S → Prop) : Prop :=
  inb v1 ((dAln dX v2 : Nat) : Int) ∧ (if gA σ v2 v1 = 0 then x_escapes_L10 v1 v2 0 σ Q else Q 0 σ)
def x_law_j141 (σ : S) (Q : Int → S → Prop) : Prop :=
  x_stopped σ (fun r_19 σ_18 => Q (w32 ((-1000) - (w32 ((-20) - r_19)))) σ_18)
def x_law_j301 (v4 : Int) (σ : S) (Q : Int → S → Prop) : Prop :=
  Q (if v4 = (-2) then 1 else w32 ((-10) - v4)) σ
def x_law_j279 (v1 : Int) (v4 : Int) (v5 : Int) (s0 : Int) (σ : S) (Q : Int → S → Prop) (X169 : Int → Int → S → Prop) : Prop :=
  X169 (if s0 = 0 then v4 else v5) (w32 (v5 + (-1))) σ
def x_law_j278 (v1 : Int) (v4 : Int) (v5 : Int) (σ : S) (Q : Int → S → Prop) (X169 : Int → Int → S → Prop) : Prop :=
  x_law_j279 v1 v4 v5 0 σ Q X169
def x_law_j237 (v1 : Int) (v4 : Int) (v5 : Int) (σ : S) (Q : Int → S → Prop) (X169 : Int → Int → S → Prop) : Prop :=
  x_law_j279 v1 v4 v5 0 σ Q X169
def x_law_L169 (v1 : Int) (v4 : Int) (v5 : Int) (σ : S) (Q : Int → S → Prop) : Prop :=
  ∀ X169 : Int → Int → S → Prop, (∀ (v4 : Int) (v5 : Int) (σ : S), ((if v5 < 0 then x_law_j301 v4 σ Q else (if v1 = 0 then inb v5 120 ∧ x_law_j279 v1 v4 v5 (bi (gA σ 110 v5 = 0)) σ Q X169 else (if v1 = 1 then inb v5 120 ∧ x_law_j279 v1 v4 v5 (gA σ 110 v5) σ Q X169 else (if v1 = 2 then (if v5 = 0 then x_escapes 0 110 σ (fun r_67 σ_66 => (if r_67 = 0 then x_law_j237 v1 v4 v5 σ_66 Q X169 else x_law_j279 v1 v4 v5 1 σ_66 Q X169)) else x_law_j237 v1 v4 v5 σ Q X169) else inb v5 120 ∧ ((¬ gA σ 110 v5 = 0) → (inb v5 120)) ∧ (if ¬ (gA σ 110 v5 = 0) ∧ (gA σ 111 v5 = 0) then x_escapes v5 111 σ (fun r_54 σ_53 => (if r_54 = 0 then x_law_j278 v1 v4 v5 σ_53 Q X169 else x_law_j279 v1 v4 v5 1 σ_53 Q X169)) else x_law_j278 v1 v4 v5 σ Q X169)))))) → X169 v4 v5 σ) → X169 v4 v5 σ
def x_law_j138 (v1 : Int) (σ : S) (Q : Int → S → Prop) : Prop :=
  x_law_L169 v1 (-2) (w32 (gI σ 153 - 1)) σ Q
def x_law_L103 (v1 : Int) (v5 : Int) (v6 : Int) (σ : S) (Q : Int → S → Prop) : Prop :=
  ∀ X103 : Int → S → Prop, (∀ (v6 : Int) (σ : S), ((if (v6 < gI σ 153) ∧ (v1 = 3) then x_isPattern v5 v6 σ (fun r_29 σ_28 => inb v6 120 ∧ ∀ σ_31, σ_31 = pA σ_28 111 v6 r_29 → X103 (w32 (v6 + 1)) σ_31) (fun σ_30 => x_law_j141 σ_30 Q) else x_law_j138 v1 σ Q)) → X103 v6 σ) → X103 v6 σ
def x_law_j98 (v1 : Int) (s0 : Int) (σ : S) (Q : Int → S → Prop) : Prop :=
  x_law_L103 v1 s0 0 σ Q
def x_law_j84 (v1 : Int) (v3 : Int) (σ : S) (Q : Int → S → Prop) : Prop :=
  (if v1 = 3 then x_termAt v3 σ (fun r_81 σ_80 => x_law_j98 v1 r_81 σ_80 Q) (fun σ_82 => x_law_j141 σ_82 Q) else x_law_j98 v1 0 σ Q)
def x_law_L54 (v1 : Int) (v3 : Int) (v4 : Int) (v5 : Int) (σ : S) (Q : Int → S → Prop) : Prop :=
  ∀ X54 : Int → S → Prop, (∀ (v5 : Int) (σ : S), ((if v5 < gI σ 153 then x_isPattern v4 v5 σ (fun r_84 σ_83 => inb v5 120 ∧ ∀ σ_86, σ_86 = pA σ_83 110 v5 r_84 → X54 (w32 (v5 + 1)) σ_86) (fun σ_85 => x_law_j141 σ_85 Q) else x_law_j84 v1 v3 σ Q)) → X54 v5 σ) → X54 v5 σ
def x_law_j30 (v1 : Int) (v2 : Int) (v3 : Int) (σ : S) (Q : Int → S → Prop) : Prop :=
  (if gI σ 152 = 2 then x_begin σ (fun _ σ_14 => x_termAt v2 σ_14 (fun r_16 σ_15 => x_law_L54 v1 v3 r_16 0 σ_15 Q) (fun σ_17 => x_law_j141 σ_17 Q)) else Q (-1) σ)
def x_law (v1 : Int) (v2 : Int) (v3 : Int) (σ : S) (Q : Int → S → Prop) : Prop :=
  x_within v1 0 3 σ (fun r_2 σ_1 => (if r_2 = 0 then Q (-1) σ_1 else x_isHandle v2 σ_1 (fun r_6 σ_5 => (if r_6 = 0 then Q (-1) σ_5 else (if v1 = 3 then x_isHandle v3 σ_5 (fun r_90 σ_89 => (if r_90 = 0 then Q (-1) σ_89 else x_law_j30 v1 v2 v3 σ_89 Q)) else x_law_j30 v1 v2 v3 σ_5 Q)))))
def x_zNode (v1 : Int) (v2 : Int) (v3 : Int) (σ : S) (Q : Int → S → Prop) : Prop :=
  inb (gI σ 181) 200 ∧ ∀ σ_2, σ_2 = pA σ 115 (gI σ 181) v1 → inb (gI σ_2 181) 200 ∧ ∀ σ_6, σ_6 = pA σ_2 116 (gI σ_2 181) v2 → inb (gI σ_6 181) 200 ∧ ∀ σ_10, σ_10 = pA σ_6 117 (gI σ_6 181) v3 → ∀ σ_14, σ_14 = pI σ_10 181 (w32 (gI σ_10 181 + 1)) → Q (gI σ_10 181) σ_14
def x_bad (σ : S) (Q : Int → S → Prop) : Prop :=
  x_wrong 1 (gI σ 17) σ (fun r_3 σ_2 => Q (-1) σ_2)
def x_readChoice_j50 (G : Orc) (s0 : Int) (σ : S) (Q : Int → S → Prop) (X5 : Int → S → Prop) : Prop :=
  X5 s0 σ
def x_readChoice_j34 (G : Orc) (v1 : Int) (s0 : Int) (σ : S) (Q : Int → S → Prop) (X5 : Int → S → Prop) : Prop :=
  (if s0 < 0 then x_readChoice_j50 G s0 σ Q X5 else x_zNode 4 v1 s0 σ (fun r_16 σ_15 => x_readChoice_j50 G r_16 σ_15 Q X5))
def x_readChoice_L5 (G : Orc) (v1 : Int) (σ : S) (Q : Int → S → Prop) : Prop :=
  ∀ X5 : Int → S → Prop, (∀ (v1 : Int) (σ : S), ((if v1 < 0 then Q v1 σ else x_isWordText 24 σ (fun r_6 σ_5 => (if r_6 = 0 then Q v1 σ_5 else x_step σ_5 (fun r_10 σ_9 => (if r_10 = 0 then x_readChoice_j34 G v1 (-1) σ_9 Q X5 else G 1 [] σ_9 (fun r_18 σ_17 => x_readChoice_j34 G v1 r_18 σ_17 Q X5) (fun _ => False))))))) → X5 v1 σ) → X5 v1 σ
def x_readChoice_F (G : Orc) (σ : S) (Q : Int → S → Prop) : Prop :=
  G 1 [] σ (fun r_2 σ_1 => x_readChoice_L5 G r_2 σ_1 Q) (fun _ => False)
def x_readThen_j50 (G : Orc) (s0 : Int) (σ : S) (Q : Int → S → Prop) (X5 : Int → S → Prop) : Prop :=
  X5 s0 σ
def x_readThen_j34 (G : Orc) (v1 : Int) (s0 : Int) (σ : S) (Q : Int → S → Prop) (X5 : Int → S → Prop) : Prop :=
  (if s0 < 0 then x_readThen_j50 G s0 σ Q X5 else x_zNode 5 v1 s0 σ (fun r_16 σ_15 => x_readThen_j50 G r_16 σ_15 Q X5))
def x_readThen_L5 (G : Orc) (v1 : Int) (σ : S) (Q : Int → S → Prop) : Prop :=
  ∀ X5 : Int → S → Prop, (∀ (v1 : Int) (σ : S), ((if v1 < 0 then Q v1 σ else x_isWordText 25 σ (fun r_6 σ_5 => (if r_6 = 0 then Q v1 σ_5 else x_step σ_5 (fun r_10 σ_9 => (if r_10 = 0 then x_readThen_j34 G v1 (-1) σ_9 Q X5 else G 2 [] σ_9 (fun r_18 σ_17 => x_readThen_j34 G v1 r_18 σ_17 Q X5) (fun _ => False))))))) → X5 v1 σ) → X5 v1 σ
def x_readThen_F (G : Orc) (σ : S) (Q : Int → S → Prop) : Prop :=
  G 2 [] σ (fun r_2 σ_1 => x_readThen_L5 G r_2 σ_1 Q) (fun _ => False)
def x_readMany_j29 (G : Orc) (v1 : Int) (σ : S) (Q : Int → S → Prop) (X5 : Int → S → Prop) : Prop :=
  x_isWordText 26 σ (fun r_10 σ_9 => x_zNode (if r_10 = 0 then 7 else 6) v1 0 σ_9 (fun r_16 σ_15 => x_step σ_15 (fun r_18 σ_17 => X5 (if r_18 = 0 then (-1) else r_16) σ_17)))
def x_readMany_L5 (G : Orc) (v1 : Int) (σ : S) (Q : Int → S → Prop) : Prop :=
  ∀ X5 : Int → S → Prop, (∀ (v1 : Int) (σ : S), ((if v1 < 0 then Q v1 σ else x_isWordText 26 σ (fun r_6 σ_5 => (if r_6 = 0 then x_isWordText 27 σ_5 (fun r_24 σ_23 => (if r_24 = 0 then Q v1 σ_23 else x_readMany_j29 G v1 σ_23 Q X5)) else x_readMany_j29 G v1 σ_5 Q X5)))) → X5 v1 σ) → X5 v1 σ
def x_readMany_F (G : Orc) (σ : S) (Q : Int → S → Prop) : Prop :=
  G 3 [] σ (fun r_2 σ_1 => x_readMany_L5 G r_2 σ_1 Q) (fun _ => False)
def x_readOne_j73 (G : Orc) (s0 : Int) (σ : S) (Q : Int → S → Prop) : Prop :=
  x_step σ (fun r_20 σ_19 => (if r_20 = 0 then Q (-1) σ_19 else x_zNode s0 0 0 σ_19 (fun r_24 σ_23 => Q r_24 σ_23)))
def x_readOne_j44 (G : Orc) (σ : S) (Q : Int → S → Prop) : Prop :=
  x_isWordText 28 σ (fun r_10 σ_9 => (if r_10 = 0 then x_isWordText 29 σ_9 (fun r_14 σ_13 => x_readOne_j73 G (if r_14 = 0 then 2 else 1) σ_13 Q) else x_readOne_j73 G 0 σ_9 Q))
def x_readOne_j162 (G : Orc) (v1 : Int) (s0 : Int) (σ : S) (Q : Int → S → Prop) : Prop :=
  (if s0 < 0 then Q s0 σ else x_zNode v1 s0 0 σ (fun r_56 σ_55 => Q r_56 σ_55))
def x_readOne_j113 (G : Orc) (σ : S) (Q : Int → S → Prop) : Prop :=
  x_isWordText 31 σ (fun r_38 σ_37 => x_step σ_37 (fun r_44 σ_43 => (if r_44 = 0 then x_readOne_j162 G (if r_38 = 0 then 9 else 8) (-1) σ_43 Q else x_isSign 40 σ_43 (fun r_48 σ_47 => (if r_48 = 0 then x_bad σ_47 (fun r_52 σ_51 => x_readOne_j162 G (if r_38 = 0 then 9 else 8) r_52 σ_51 Q) else G 4 [] σ_47 (fun r_58 σ_57 => x_readOne_j162 G (if r_38 = 0 then 9 else 8) r_58 σ_57 Q) (fun _ => False))))))
def x_readOne_j257 (G : Orc) (σ : S) (Q : Int → S → Prop) : Prop :=
  x_bad σ (fun r_71 σ_70 => Q r_71 σ_70)
def x_readOne_j222 (G : Orc) (σ : S) (Q : Int → S → Prop) : Prop :=
  inb (gI σ 17) 902 ∧ x_step σ (fun r_83 σ_82 => (if r_83 = 0 then Q (-1) σ_82 else x_zNode 3 (gA σ 5 (gI σ 17)) 0 σ_82 (fun r_87 σ_86 => Q r_87 σ_86)))
def x_readOne_L193 (G : Orc) (v1 : Int) (σ : S) (Q : Int → S → Prop) : Prop :=
  ∀ X193 : Int → S → Prop, (∀ (v1 : Int) (σ : S), ((if v1 < gI σ 43 then inb (w32 (40 + v1)) 70 ∧ inb (gI σ 17) 902 ∧ (if gA σ 27 (w32 (40 + v1)) = gA σ 5 (gI σ 17) then x_readOne_j222 G σ Q else X193 (w32 (v1 + 1)) σ) else x_readOne_j257 G σ Q)) → X193 v1 σ) → X193 v1 σ
def x_readOne_F (G : Orc) (σ : S) (Q : Int → S → Prop) : Prop :=
  x_isSign 40 σ (fun r_2 σ_1 => (if r_2 = 0 then x_isWordText 28 σ_1 (fun r_6 σ_5 => (if r_6 = 0 then x_isWordText 29 σ_5 (fun r_26 σ_25 => (if r_26 = 0 then x_isWordText 30 σ_25 (fun r_30 σ_29 => (if r_30 = 0 then x_isWordText 31 σ_29 (fun r_34 σ_33 => (if r_34 = 0 then x_isWordText 32 σ_33 (fun r_60 σ_59 => (if r_60 = 0 then x_isWord σ_59 (fun r_64 σ_63 => (if r_64 = 0 then x_bad σ_63 (fun r_89 σ_88 => Q r_89 σ_88) else x_readOne_L193 G 0 σ_63 Q)) else x_readOne_j113 G σ_59 Q)) else x_readOne_j113 G σ_33 Q)) else x_readOne_j44 G σ_29 Q)) else x_readOne_j44 G σ_25 Q)) else x_readOne_j44 G σ_5 Q)) else G 4 [] σ_1 (fun r_91 σ_90 => Q r_91 σ_90) (fun _ => False)))
def x_readBracket_F (G : Orc) (σ : S) (Q : Int → S → Prop) : Prop :=
  x_step σ (fun r_2 σ_1 => (if r_2 = 0 then Q (-1) σ_1 else G 0 [] σ_1 (fun r_6 σ_5 => (if r_6 < 0 then Q r_6 σ_5 else x_isSign 41 σ_5 (fun r_10 σ_9 => (if r_10 = 0 then x_bad σ_9 (fun r_20 σ_19 => Q r_20 σ_19) else x_step σ_9 (fun r_14 σ_13 => Q (if r_14 = 0 then (-1) else r_6) σ_13))))) (fun _ => False)))
def x_S_readChoice : Nat → Orc
  | 0 => fun _ _ _ _ _ => False
  | n + 1 => fun i a σ Q E => match i, a with
    | 0, [] => x_readChoice_F (x_S_readChoice n) σ Q
    | 1, [] => x_readThen_F (x_S_readChoice n) σ Q
    | 2, [] => x_readMany_F (x_S_readChoice n) σ Q
    | 3, [] => x_readOne_F (x_S_readChoice n) σ Q
    | 4, [] => x_readBracket_F (x_S_readChoice n) σ Q
    | _, _ => False
def x_readChoice (σ : S) (Q : Int → S → Prop) : Prop := x_S_readChoice 320 0 [] σ Q (fun _ => False)
def x_readThen (σ : S) (Q : Int → S → Prop) : Prop := x_S_readChoice 320 1 [] σ Q (fun _ => False)
def x_readMany (σ : S) (Q : Int → S → Prop) : Prop := x_S_readChoice 320 2 [] σ Q (fun _ => False)
def x_readOne (σ : S) (Q : Int → S → Prop) : Prop := x_S_readChoice 320 3 [] σ Q (fun _ => False)
def x_readBracket (σ : S) (Q : Int → S → Prop) : Prop := x_S_readChoice 320 4 [] σ Q (fun _ => False)
def x_addAnswer_j30 (v1 : Int) (v2 : Int) (v3 : Int) (σ : S) (Q : Int → S → Prop) (E : S → Prop) : Prop :=
  (if v2 = 60 then x_stop 2 σ (fun _ σ_8 => E σ_8) else inb (w32 (v1 + v2)) 20000 ∧ ∀ σ_5, σ_5 = pA σ 118 (w32 (v1 + v2)) v3 → Q (w32 (v2 + 1)) σ_5)
def x_addAnswer_L3 (v1 : Int) (v2 : Int) (v3 : Int) (v4 : Int) (σ : S) (Q : Int → S → Prop) (E : S → Prop) : Prop :=
  ∀ X3 : Int → S → Prop, (∀ (v4 : Int) (σ : S), ((if v4 < v2 then inb (w32 (v1 + v4)) 20000 ∧ (if gA σ 118 (w32 (v1 + v4)) = v3 then Q v2 σ else X3 (w32 (v4 + 1)) σ) else x_addAnswer_j30 v1 v2 v3 σ Q E)) → X3 v4 σ) → X3 v4 σ
def x_addAnswer (v1 : Int) (v2 : Int) (v3 : Int) (σ : S) (Q : Int → S → Prop) (E : S → Prop) : Prop :=
  x_addAnswer_L3 v1 v2 v3 0 σ Q E
def x_join_L6 (v1 : Int) (v3 : Int) (v4 : Int) (v5 : Int) (σ : S) (Q : Int → S → Prop) (E : S → Prop) : Prop :=
  ∀ X6 : Int → Int → S → Prop, (∀ (v4 : Int) (v5 : Int) (σ : S), ((if v5 < v3 then inb (w32 (w32 (w32 (v1 + 60) + 1) + v5)) 20000 ∧ x_addAnswer v1 v4 (gA σ 118 (w32 (w32 (w32 (v1 + 60) + 1) + v5))) σ (fun r_6 σ_5 => X6 r_6 (w32 (v5 + 1)) σ_5) E else Q v4 σ)) → X6 v4 v5 σ) → X6 v4 v5 σ
def x_join (v1 : Int) (v2 : Int) (v3 : Int) (σ : S) (Q : Int → S → Prop) (E : S → Prop) : Prop :=
  x_join_L6 v1 v3 v2 0 σ Q E
def x_answers_L103 (G : Orc) (v3 : Int) (v4 : Int) (v5 : Int) (σ : S) (Q : Int → S → Prop) (E : S → Prop) : Prop :=
  ∀ X103 : Int → Int → S → Prop, (∀ (v4 : Int) (v5 : Int) (σ : S), ((if v5 < gI σ 146 then inb v5 61 ∧ x_addAnswer v3 v4 (gA σ 93 v5) σ (fun r_22 σ_21 => X103 r_22 (w32 (v5 + 1)) σ_21) E else Q v4 σ)) → X103 v4 v5 σ) → X103 v4 v5 σ
def x_answers_F (G : Orc) (v1 : Int) (v2 : Int) (v3 : Int) (σ : S) (Q : Int → S → Prop) (E : S → Prop) : Prop :=
  inb v1 200 ∧ (if gA σ 115 v1 = 0 then x_addAnswer v3 0 v2 σ (fun r_4 σ_3 => Q r_4 σ_3) E else (if gA σ 115 v1 = 1 then Q 0 σ else (if gA σ 115 v1 = 2 then inb v1 200 ∧ ((¬ gA σ 115 v1 = 2) → (inb v1 200)) ∧ x_rulesOf v2 (if gA σ 115 v1 = 2 then (-2) else gA σ 116 v1) σ (fun _ σ_14 => x_answers_L103 G v3 0 0 σ_14 Q E) E else (if gA σ 115 v1 = 3 then inb v1 200 ∧ ((¬ gA σ 115 v1 = 2) → (inb v1 200)) ∧ x_rulesOf v2 (if gA σ 115 v1 = 2 then (-2) else gA σ 116 v1) σ (fun _ σ_32 => x_answers_L103 G v3 0 0 σ_32 Q E) E else (if gA σ 115 v1 = 4 then inb v1 200 ∧ G 0 [(gA σ 116 v1), v2, v3] σ (fun r_37 σ_36 => inb v1 200 ∧ G 0 [(gA σ_36 117 v1), v2, (w32 (w32 (v3 + 60) + 1))] σ_36 (fun r_42 σ_41 => x_join v3 r_37 r_42 σ_41 (fun r_45 σ_44 => Q r_45 σ_44) E) E) E else (if gA σ 115 v1 = 5 then G 1 [v1, v2, v3] σ (fun r_48 σ_47 => Q r_48 σ_47) E else (if gA σ 115 v1 = 6 then G 2 [v1, v2, v3] σ (fun r_51 σ_50 => Q r_51 σ_50) E else (if gA σ 115 v1 = 7 then G 2 [v1, v2, v3] σ (fun r_54 σ_53 => Q r_54 σ_53) E else (if gA σ 115 v1 = 8 then inb v1 200 ∧ G 0 [(gA σ 116 v1), v2, v3] σ (fun r_59 σ_58 => (if r_59 = 0 then x_addAnswer v3 0 v2 σ_58 (fun r_64 σ_63 => Q r_64 σ_63) E else Q 0 σ_58)) E else (if gA σ 115 v1 = 9 then inb v1 200 ∧ G 0 [(gA σ 116 v1), v2, v3] σ (fun r_69 σ_68 => Q (min 1 r_69) σ_68) E else G 2 [v1, v2, v3] σ (fun r_72 σ_71 => Q r_72 σ_71) E))))))))))
def x_answersThen_j104 (G : Orc) (v1 : Int) (v3 : Int) (v4 : Int) (v5 : Int) (v6 : Int) (v7 : Int) (σ : S) (Q : Int → S → Prop) (E : S → Prop) (X29 : Int → Int → S → Prop) : Prop :=
  X29 v6 (w32 (v7 + 1)) σ
def x_answersThen_L72 (G : Orc) (v1 : Int) (v3 : Int) (v4 : Int) (v5 : Int) (v6 : Int) (v7 : Int) (v8 : Int) (v9 : Int) (v10 : Int) (σ : S) (Q : Int → S → Prop) (E : S → Prop) (X29 : Int → Int → S → Prop) : Prop :=
  ∀ X72 : Int → Int → S → Prop, (∀ (v6 : Int) (v10 : Int) (σ : S), ((if v10 < v9 then inb (w32 (v8 + v10)) 20000 ∧ x_addAnswer v3 v6 (gA σ 118 (w32 (v8 + v10))) σ (fun r_20 σ_19 => X72 r_20 (w32 (v10 + 1)) σ_19) E else x_answersThen_j104 G v1 v3 v4 v5 v6 v7 σ Q E X29)) → X72 v6 v10 σ) → X72 v6 v10 σ
def x_answersThen_L29 (G : Orc) (v1 : Int) (v3 : Int) (v4 : Int) (v5 : Int) (v6 : Int) (v7 : Int) (σ : S) (Q : Int → S → Prop) (E : S → Prop) : Prop :=
  ∀ X29 : Int → Int → S → Prop, (∀ (v6 : Int) (v7 : Int) (σ : S), ((if v7 < v5 then inb v1 200 ∧ inb (w32 (v4 + v7)) 20000 ∧ G 0 [(gA σ 117 v1), (gA σ 118 (w32 (v4 + v7))), (w32 (w32 (v4 + 60) + 1))] σ (fun r_13 σ_12 => x_answersThen_L72 G v1 v3 v4 v5 v6 v7 (w32 (w32 (v4 + 60) + 1)) r_13 0 σ_12 Q E X29) E else Q v6 σ)) → X29 v6 v7 σ) → X29 v6 v7 σ
def x_answersThen_F (G : Orc) (v1 : Int) (v2 : Int) (v3 : Int) (σ : S) (Q : Int → S → Prop) (E : S → Prop) : Prop :=
  inb v1 200 ∧ G 0 [(gA σ 116 v1), v2, (w32 (w32 (v3 + 60) + 1))] σ (fun r_4 σ_3 => x_answersThen_L29 G v1 v3 (w32 (w32 (v3 + 60) + 1)) r_4 0 0 σ_3 Q E) E
def x_answersMany_j147 (G : Orc) (v1 : Int) (v3 : Int) (v4 : Int) (v5 : Int) (v6 : Int) (v7 : Int) (v8 : Int) (σ : S) (Q : Int → S → Prop) (E : S → Prop) (X42 : Int → Int → Int → S → Prop) : Prop :=
  X42 v6 v7 (w32 (v8 + 1)) σ
def x_answersMany_j118 (G : Orc) (v1 : Int) (v3 : Int) (v4 : Int) (v5 : Int) (v6 : Int) (v7 : Int) (v8 : Int) (v10 : Int) (σ : S) (Q : Int → S → Prop) (E : S → Prop) (X42 : Int → Int → Int → S → Prop) : Prop :=
  (if (v5 = 0) ∨ (v10 = 0) then inb (w32 (v4 + v8)) 20000 ∧ x_addAnswer v3 v7 (gA σ 118 (w32 (v4 + v8))) σ (fun r_23 σ_22 => x_answersMany_j147 G v1 v3 v4 v5 v6 r_23 v8 σ_22 Q E X42) E else x_answersMany_j147 G v1 v3 v4 v5 v6 v7 v8 σ Q E X42)
def x_answersMany_L85 (G : Orc) (v1 : Int) (v3 : Int) (v4 : Int) (v5 : Int) (v6 : Int) (v7 : Int) (v8 : Int) (v9 : Int) (v10 : Int) (v11 : Int) (σ : S) (Q : Int → S → Prop) (E : S → Prop) (X42 : Int → Int → Int → S → Prop) : Prop :=
  ∀ X85 : Int → Int → S → Prop, (∀ (v6 : Int) (v11 : Int) (σ : S), ((if v11 < v10 then inb (w32 (v9 + v11)) 20000 ∧ x_addAnswer v4 v6 (gA σ 118 (w32 (v9 + v11))) σ (fun r_31 σ_30 => X85 r_31 (w32 (v11 + 1)) σ_30) E else x_answersMany_j118 G v1 v3 v4 v5 v6 v7 v8 v10 σ Q E X42)) → X85 v6 v11 σ) → X85 v6 v11 σ
def x_answersMany_L42 (G : Orc) (v1 : Int) (v3 : Int) (v4 : Int) (v5 : Int) (v6 : Int) (v7 : Int) (v8 : Int) (σ : S) (Q : Int → S → Prop) (E : S → Prop) : Prop :=
  ∀ X42 : Int → Int → Int → S → Prop, (∀ (v6 : Int) (v7 : Int) (v8 : Int) (σ : S), ((if v8 < v6 then inb v1 200 ∧ inb (w32 (v4 + v8)) 20000 ∧ G 0 [(gA σ 116 v1), (gA σ 118 (w32 (v4 + v8))), (w32 (w32 (v4 + 60) + 1))] σ (fun r_14 σ_13 => x_answersMany_L85 G v1 v3 v4 v5 v6 v7 v8 (w32 (w32 (v4 + 60) + 1)) r_14 0 σ_13 Q E X42) E else Q v7 σ)) → X42 v6 v7 v8 σ) → X42 v6 v7 v8 σ
def x_answersMany_F (G : Orc) (v1 : Int) (v2 : Int) (v3 : Int) (σ : S) (Q : Int → S → Prop) (E : S → Prop) : Prop :=
  inb v1 200 ∧ x_addAnswer (w32 (w32 (v3 + 60) + 1)) 0 v2 σ (fun r_5 σ_4 => x_answersMany_L42 G v1 v3 (w32 (w32 (v3 + 60) + 1)) (bi (gA σ 115 v1 = 7)) r_5 0 0 σ_4 Q E) E
def x_S_answers : Nat → Orc
  | 0 => fun _ _ _ _ _ => False
  | n + 1 => fun i a σ Q E => match i, a with
    | 0, [v1, v2, v3] => x_answers_F (x_S_answers n) v1 v2 v3 σ Q E
    | 1, [v1, v2, v3] => x_answersThen_F (x_S_answers n) v1 v2 v3 σ Q E
    | 2, [v1, v2, v3] => x_answersMany_F (x_S_answers n) v1 v2 v3 σ Q E
    | _, _ => False
def x_answers (v1 : Int) (v2 : Int) (v3 : Int) (σ : S) (Q : Int → S → Prop) (E : S → Prop) : Prop := x_S_answers 140 0 [v1, v2, v3] σ Q E
def x_answersThen (v1 : Int) (v2 : Int) (v3 : Int) (σ : S) (Q : Int → S → Prop) (E : S → Prop) : Prop := x_S_answers 140 1 [v1, v2, v3] σ Q E
def x_answersMany (v1 : Int) (v2 : Int) (v3 : Int) (σ : S) (Q : Int → S → Prop) (E : S → Prop) : Prop := x_S_answers 140 2 [v1, v2, v3] σ Q E
def x_strategy_j152 (σ : S) (Q : Int → S → Prop) : Prop :=
  x_tellSteps σ (fun _ σ_30 => x_stopped σ_30 (fun r_32 σ_31 => Q r_32 σ_31))
def x_strategy_j135 (v3 : Int) (σ : S) (Q : Int → S → Prop) : Prop :=
  x_keepResults 1 v3 σ (fun _ σ_41 => ∀ σ_42, σ_42 = pI σ_41 166 0 → x_tellSteps σ_42 (fun _ σ_44 => Q v3 σ_44))
def x_strategy_L103 (v3 : Int) (v4 : Int) (σ : S) (Q : Int → S → Prop) : Prop :=
  ∀ X103 : Int → S → Prop, (∀ (v4 : Int) (σ : S), ((if v4 < v3 then inb v4 20000 ∧ x_saveTo (gA σ 118 v4) 97 (w32 (80 * v4)) σ (fun _ σ_47 => X103 (w32 (v4 + 1)) σ_47) else x_strategy_j135 v3 σ Q)) → X103 v4 σ) → X103 v4 σ
def x_strategy_j72 (v1 : Int) (v2 : Int) (σ : S) (Q : Int → S → Prop) : Prop :=
  (if v2 < 0 then Q (w32 ((-10) - (gI σ 20))) σ else x_termAt v1 σ (fun r_28 σ_27 => x_toRest r_28 σ_27 (fun r_34 σ_33 => x_answers v2 r_34 0 σ_33 (fun r_37 σ_36 => x_strategy_L103 r_37 0 σ_36 Q) (fun σ_38 => x_strategy_j152 σ_38 Q)) (fun σ_35 => x_strategy_j152 σ_35 Q)) (fun σ_29 => x_strategy_j152 σ_29 Q))
def x_strategy (v1 : Int) (σ : S) (Q : Int → S → Prop) : Prop :=
  x_isHandle v1 σ (fun r_2 σ_1 => (if r_2 = 0 then Q (-1) σ_1 else x_takeTape σ_1 (fun _ σ_5 => x_begin σ_5 (fun _ σ_6 => ∀ σ_8, σ_8 = pI σ_6 12 (gI σ_6 15) → ∀ σ_11, σ_11 = pI σ_8 11 (gI σ_8 16) → x_cutWords 60 σ_11 (fun _ σ_13 => ∀ σ_14, σ_14 = pI σ_13 181 0 → x_readChoice σ_14 (fun r_17 σ_16 => ((¬ r_17 < 0) → (inb (gI σ_16 17) 902)) ∧ (if ¬ (r_17 < 0) ∧ (¬ (gA σ_16 2 (gI σ_16 17) = 3)) then x_bad σ_16 (fun r_24 σ_23 => x_strategy_j72 v1 r_24 σ_23 Q) else x_strategy_j72 v1 r_17 σ_16 Q)))))))
def x_hasRow_j59 (v1 : Int) (v2 : Int) (v3 : Int) (σ : S) (Q : Int → S → Prop) (X2 : Int → S → Prop) : Prop :=
  X2 (w32 (v3 + 1)) σ
def x_hasRow_L2 (v1 : Int) (v2 : Int) (v3 : Int) (σ : S) (Q : Int → S → Prop) : Prop :=
  ∀ X2 : Int → S → Prop, (∀ (v3 : Int) (σ : S), ((if v3 < gI σ 29 then inb v3 50 ∧ (if gA σ 41 v3 = v1 then x_isRowAbove v3 76 v2 0 σ (fun r_9 σ_8 => (if r_9 = 0 then inb v1 50 ∧ (if gA σ_8 53 v1 = 0 then x_hasRow_j59 v1 v2 v3 σ_8 Q X2 else x_isRowAbove v3 76 v2 1 σ_8 (fun r_17 σ_16 => (if r_17 = 0 then x_hasRow_j59 v1 v2 v3 σ_16 Q X2 else Q 1 σ_16))) else Q 1 σ_8)) else x_hasRow_j59 v1 v2 v3 σ Q X2) else Q 0 σ)) → X2 v3 σ) → X2 v3 σ
def x_hasRow (v1 : Int) (v2 : Int) (σ : S) (Q : Int → S → Prop) : Prop :=
  x_hasRow_L2 v1 v2 0 σ Q
def x_joined (v1 : Int) (v2 : Int) (v3 : Int) (σ : S) (Q : Int → S → Prop) : Prop :=
  inb 0 3 ∧ ∀ σ_1, σ_1 = pA σ 76 0 v2 → inb 1 3 ∧ ∀ σ_4, σ_4 = pA σ_1 76 1 v3 → x_leastBy v1 76 2 σ_4 (fun r_8 σ_7 => Q r_8 σ_7)
def x_isOneJoined_j169 (v1 : Int) (v2 : Int) (σ : S) (Q : Int → S → Prop) (X2 : Int → S → Prop) : Prop :=
  X2 (w32 (v2 + 1)) σ
def x_isOneJoined_j163 (v1 : Int) (v2 : Int) (v3 : Int) (σ : S) (Q : Int → S → Prop) (X2 : Int → S → Prop) (X12 : Int → S → Prop) : Prop :=
  X12 (w32 (v3 + 1)) σ
def x_isOneJoined_j157 (v1 : Int) (v2 : Int) (v3 : Int) (v4 : Int) (σ : S) (Q : Int → S → Prop) (X2 : Int → S → Prop) (X12 : Int → S → Prop) (X23 : Int → S → Prop) : Prop :=
  X23 (w32 (v4 + 1)) σ
def x_isOneJoined_j121 (v1 : Int) (v2 : Int) (v3 : Int) (v4 : Int) (σ : S) (Q : Int → S → Prop) : Prop :=
  inb 0 4 ∧ ∀ σ_37, σ_37 = pA σ 119 0 v1 → inb 1 4 ∧ ∀ σ_40, σ_40 = pA σ_37 119 1 v2 → inb 2 4 ∧ ∀ σ_43, σ_43 = pA σ_40 119 2 v3 → inb 3 4 ∧ ∀ σ_46, σ_46 = pA σ_43 119 3 v4 → ∀ σ_49, σ_49 = pI σ_46 184 3 → Q 0 σ_49
def x_isOneJoined_L23 (v1 : Int) (v2 : Int) (v3 : Int) (v4 : Int) (σ : S) (Q : Int → S → Prop) (X2 : Int → S → Prop) (X12 : Int → S → Prop) : Prop :=
  ∀ X23 : Int → S → Prop, (∀ (v4 : Int) (σ : S), ((if v4 < gI σ 22 then inb v2 20 ∧ inb v1 50 ∧ ((gA σ 40 v2 = gA σ 55 v1) → (inb v3 20)) ∧ ((gA σ 40 v2 = gA σ 55 v1) → (inb v1 50)) ∧ ((gA σ 40 v2 = gA σ 55 v1) → (gA σ 40 v3 = gA σ 55 v1) → (inb v4 20)) ∧ ((gA σ 40 v2 = gA σ 55 v1) → (gA σ 40 v3 = gA σ 55 v1) → (inb v1 50)) ∧ (if bi ((gA σ 40 v2 = gA σ 55 v1) ∧ ((gA σ 40 v3 = gA σ 55 v1) ∧ (gA σ 40 v4 = gA σ 55 v1))) = 0 then x_isOneJoined_j157 v1 v2 v3 v4 σ Q X2 X12 X23 else x_joined v1 v2 v3 σ (fun r_28 σ_27 => x_joined v1 r_28 v4 σ_27 (fun r_30 σ_29 => x_joined v1 v3 v4 σ_29 (fun r_32 σ_31 => x_joined v1 v2 r_32 σ_31 (fun r_34 σ_33 => (if r_30 = r_34 then x_isOneJoined_j157 v1 v2 v3 v4 σ_33 Q X2 X12 X23 else x_isOneJoined_j121 v1 v2 v3 v4 σ_33 Q)))))) else x_isOneJoined_j163 v1 v2 v3 σ Q X2 X12)) → X23 v4 σ) → X23 v4 σ
def x_isOneJoined_L12 (v1 : Int) (v2 : Int) (v3 : Int) (σ : S) (Q : Int → S → Prop) (X2 : Int → S → Prop) : Prop :=
  ∀ X12 : Int → S → Prop, (∀ (v3 : Int) (σ : S), ((if v3 < gI σ 22 then x_isOneJoined_L23 v1 v2 v3 0 σ Q X2 X12 else x_isOneJoined_j169 v1 v2 σ Q X2)) → X12 v3 σ) → X12 v3 σ
def x_isOneJoined_L2 (v1 : Int) (v2 : Int) (σ : S) (Q : Int → S → Prop) : Prop :=
  ∀ X2 : Int → S → Prop, (∀ (v2 : Int) (σ : S), ((if v2 < gI σ 22 then x_isOneJoined_L12 v1 v2 0 σ Q X2 else Q 1 σ)) → X2 v2 σ) → X2 v2 σ
def x_isOneJoined (v1 : Int) (σ : S) (Q : Int → S → Prop) : Prop :=
  x_isOneJoined_L2 v1 0 σ Q
def x_nextSort_L14 (v2 : Int) (v3 : Int) (σ : S) (Q : Int → S → Prop) : Prop :=
  ∀ X14 : Int → S → Prop, (∀ (v3 : Int) (σ : S), ((if v3 < gI σ 22 then inb v3 20 ∧ (if gA σ 40 v3 = v2 then Q v3 σ else X14 (w32 (v3 + 1)) σ) else Q (-2) σ)) → X14 v3 σ) → X14 v3 σ
def x_nextSort (v1 : Int) (v2 : Int) (σ : S) (Q : Int → S → Prop) : Prop :=
  x_nextSort_L14 v2 (if v1 = (-2) then 0 else w32 (v1 + 1)) σ Q
def x_isOneLeast_j271 (σ : S) (Q : Int → S → Prop) : Prop :=
  Q 1 σ
def x_isOneLeast_j254 (v1 : Int) (σ : S) (Q : Int → S → Prop) : Prop :=
  inb v1 50 ∧ (if gA σ 52 v1 = 0 then x_isOneLeast_j271 σ Q else x_isOneJoined v1 σ (fun r_14 σ_13 => (if r_14 = 0 then Q 0 σ_13 else x_isOneLeast_j271 σ_13 Q)))
def x_isOneLeast_j251 (v1 : Int) (v3 : Int) (v4 : Int) (σ : S) (Q : Int → S → Prop) (X61 : Int → S → Prop) : Prop :=
  X61 v4 σ
def x_isOneLeast_j204 (v1 : Int) (v3 : Int) (v5 : Int) (σ : S) (Q : Int → S → Prop) (X61 : Int → S → Prop) : Prop :=
  (if bi (¬ (v5 < 0)) = 0 then x_isOneLeast_j251 v1 v3 (bi (¬ (v5 < 0))) σ Q X61 else inb v5 3 ∧ inb v5 3 ∧ inb (gA σ 76 v5) 20 ∧ x_nextSort (gA σ 76 v5) (gA σ 40 (gA σ 76 v5)) σ (fun r_33 σ_32 => inb v5 3 ∧ ∀ σ_34, σ_34 = pA σ_32 76 v5 r_33 → x_isOneLeast_j251 v1 v3 (bi (¬ (v5 < 0))) σ_34 Q X61))
def x_isOneLeast_L140 (v1 : Int) (v3 : Int) (v5 : Int) (σ : S) (Q : Int → S → Prop) (X61 : Int → S → Prop) : Prop :=
  ∀ X140 : Int → S → Prop, (∀ (v5 : Int) (σ : S), ((if v5 < 0 then x_isOneLeast_j204 v1 v3 v5 σ Q X61 else inb v5 3 ∧ inb v5 3 ∧ inb (gA σ 76 v5) 20 ∧ x_nextSort (gA σ 76 v5) (gA σ 40 (gA σ 76 v5)) σ (fun r_46 σ_45 => (if r_46 = (-2) then inb v5 3 ∧ inb (gA σ_45 76 v5) 20 ∧ x_nextSort (-2) (gA σ_45 40 (gA σ_45 76 v5)) σ_45 (fun r_54 σ_53 => inb v5 3 ∧ ∀ σ_55, σ_55 = pA σ_53 76 v5 r_54 → X140 (w32 (v5 + (-1))) σ_55) else x_isOneLeast_j204 v1 v3 v5 σ_45 Q X61)))) → X140 v5 σ) → X140 v5 σ
def x_isOneLeast_j135 (v1 : Int) (v3 : Int) (σ : S) (Q : Int → S → Prop) (X61 : Int → S → Prop) : Prop :=
  x_isOneLeast_L140 v1 v3 (w32 (v3 - 1)) σ Q X61
def x_isOneLeast_j128 (v3 : Int) (σ : S) (Q : Int → S → Prop) : Prop :=
  ∀ σ_67, σ_67 = pI σ 184 v3 → Q 0 σ_67
def x_isOneLeast_L100 (v3 : Int) (v5 : Int) (σ : S) (Q : Int → S → Prop) : Prop :=
  ∀ X100 : Int → S → Prop, (∀ (v5 : Int) (σ : S), ((if v5 < v3 then inb v5 3 ∧ inb (w32 (1 + v5)) 4 ∧ ∀ σ_71, σ_71 = pA σ 119 (w32 (1 + v5)) (gA σ 76 v5) → X100 (w32 (v5 + 1)) σ_71 else x_isOneLeast_j128 v3 σ Q)) → X100 v5 σ) → X100 v5 σ
def x_isOneLeast_j90 (v1 : Int) (v3 : Int) (σ : S) (Q : Int → S → Prop) : Prop :=
  inb 0 4 ∧ ∀ σ_62, σ_62 = pA σ 119 0 v1 → x_isOneLeast_L100 v3 0 σ_62 Q
def x_isOneLeast_L61 (v1 : Int) (v3 : Int) (v4 : Int) (σ : S) (Q : Int → S → Prop) : Prop :=
  ∀ X61 : Int → S → Prop, (∀ (v4 : Int) (σ : S), ((if v4 = 0 then x_isOneLeast_j254 v1 σ Q else x_hasRow v1 v3 σ (fun r_18 σ_17 => (if r_18 = 0 then x_isOneLeast_j135 v1 v3 σ_17 Q X61 else x_leastBy v1 76 v3 σ_17 (fun r_59 σ_58 => (if r_59 = (-2) then x_isOneLeast_j90 v1 v3 σ_58 Q else x_isOneLeast_j135 v1 v3 σ_58 Q X61)))))) → X61 v4 σ) → X61 v4 σ
def x_isOneLeast_j58 (v1 : Int) (v3 : Int) (σ : S) (Q : Int → S → Prop) : Prop :=
  x_isOneLeast_L61 v1 v3 1 σ Q
def x_isOneLeast_L17 (v1 : Int) (v2 : Int) (v3 : Int) (v4 : Int) (σ : S) (Q : Int → S → Prop) : Prop :=
  ∀ X17 : Int → S → Prop, (∀ (v4 : Int) (σ : S), ((if v4 < v3 then inb (w32 (w32 (3 * v2) + v4)) 150 ∧ inb (gA σ 42 (w32 (w32 (3 * v2) + v4))) 20 ∧ x_nextSort (-2) (gA σ 40 (gA σ 42 (w32 (w32 (3 * v2) + v4)))) σ (fun r_79 σ_78 => inb v4 3 ∧ ∀ σ_80, σ_80 = pA σ_78 76 v4 r_79 → X17 (w32 (v4 + 1)) σ_80) else x_isOneLeast_j58 v1 v3 σ Q)) → X17 v4 σ) → X17 v4 σ
def x_isOneLeast (v1 : Int) (σ : S) (Q : Int → S → Prop) : Prop :=
  inb v1 50 ∧ inb v1 50 ∧ x_isOneLeast_L17 v1 (gA σ 48 v1) (gA σ 49 v1) 0 σ Q
def x_allOneLeast_L2 (v1 : Int) (σ : S) (Q : Int → S → Prop) : Prop :=
  ∀ X2 : Int → S → Prop, (∀ (v1 : Int) (σ : S), ((if v1 < gI σ 63 then x_isOneLeast v1 σ (fun r_5 σ_4 => (if r_5 = 0 then Q 0 σ_4 else X2 (w32 (v1 + 1)) σ_4)) else Q 1 σ)) → X2 v1 σ) → X2 v1 σ
def x_allOneLeast (σ : S) (Q : Int → S → Prop) : Prop :=
  x_allOneLeast_L2 0 σ Q
def x_countIn_L5 (v1 : Int) (v2 : Int) (v3 : Int) (v4 : Int) (σ : S) (Q : Int → S → Prop) : Prop :=
  ∀ X5 : Int → Int → S → Prop, (∀ (v3 : Int) (v4 : Int) (σ : S), (inb v1 200000 ∧ (if v4 < gA σ 68 v1 then x_at v1 v4 σ (fun r_6 σ_5 => X5 (w32 (v3 + (bi (r_6 = v2)))) (w32 (v4 + 1)) σ_5) else Q v3 σ)) → X5 v3 v4 σ) → X5 v3 v4 σ
def x_countIn (v1 : Int) (v2 : Int) (σ : S) (Q : Int → S → Prop) : Prop :=
  x_countIn_L5 v1 v2 0 0 σ Q
def x_isLeft_j44 (v1 : Int) (v2 : Int) (v3 : Int) (v4 : Int) (σ : S) (Q : Int → S → Prop) : Prop :=
  x_at v1 v2 σ (fun r_4 σ_3 => x_countIn v3 r_4 σ_3 (fun r_6 σ_5 => Q (bi (¬ (v4 ≤ r_6))) σ_5))
def x_isLeft_L6 (v1 : Int) (v2 : Int) (v3 : Int) (v4 : Int) (v5 : Int) (σ : S) (Q : Int → S → Prop) : Prop :=
  ∀ X6 : Int → Int → S → Prop, (∀ (v4 : Int) (v5 : Int) (σ : S), ((if v5 ≤ v2 then x_at v1 v5 σ (fun r_11 σ_10 => x_at v1 v2 σ_10 (fun r_13 σ_12 => X6 (w32 (v4 + (bi (r_11 = r_13)))) (w32 (v5 + 1)) σ_12)) else x_isLeft_j44 v1 v2 v3 v4 σ Q)) → X6 v4 v5 σ) → X6 v4 v5 σ
def x_isLeft (v1 : Int) (v2 : Int) (v3 : Int) (σ : S) (Q : Int → S → Prop) : Prop :=
  x_isLeft_L6 v1 v2 v3 0 0 σ Q
def x_isAbove_j114 (G : Orc) (v1 : Int) (v2 : Int) (v4 : Int) (s0 : Int) (σ : S) (Q : Int → S → Prop) (X68 : Int → Int → S → Prop) : Prop :=
  X68 s0 (w32 (v4 + 1)) σ
def x_isAbove_j109 (G : Orc) (v1 : Int) (v2 : Int) (v4 : Int) (σ : S) (Q : Int → S → Prop) (X68 : Int → Int → S → Prop) : Prop :=
  x_isAbove_j114 G v1 v2 v4 1 σ Q X68
def x_isAbove_j148 (G : Orc) (v1 : Int) (v2 : Int) (s0 : Int) (σ : S) (Q : Int → S → Prop) : Prop :=
  (if gI σ 188 < 1600 then inb (gI σ 188) 1600 ∧ ∀ σ_28, σ_28 = pA σ 120 (gI σ 188) v1 → inb (gI σ_28 188) 1600 ∧ ∀ σ_32, σ_32 = pA σ_28 121 (gI σ_28 188) v2 → ∀ σ_36, σ_36 = pI σ_32 188 (w32 (gI σ_32 188 + 1)) → inb (gI σ_32 188) 1600 ∧ ∀ σ_39, σ_39 = pA σ_36 122 (gI σ_32 188) (b8 (bi (¬ (s0 = 0)))) → Q s0 σ_39 else Q s0 σ)
def x_isAbove_j143 (G : Orc) (v1 : Int) (v2 : Int) (σ : S) (Q : Int → S → Prop) : Prop :=
  x_isAbove_j148 G v1 v2 1 σ Q
def x_isAbove_j147 (G : Orc) (v1 : Int) (v2 : Int) (σ : S) (Q : Int → S → Prop) : Prop :=
  x_isAbove_j148 G v1 v2 0 σ Q
def x_isAbove_j121 (G : Orc) (v1 : Int) (v2 : Int) (v3 : Int) (σ : S) (Q : Int → S → Prop) : Prop :=
  (if v3 = 0 then inb v2 200000 ∧ (if gA σ 66 v2 < 0 then x_isAbove_j147 G v1 v2 σ Q else G 1 [v1, v2] σ (fun r_49 σ_48 => (if r_49 = 0 then x_isAbove_j147 G v1 v2 σ_48 Q else x_isAbove_j143 G v1 v2 σ_48 Q)) (fun _ => False)) else x_isAbove_j143 G v1 v2 σ Q)
def x_isAbove_L68 (G : Orc) (v1 : Int) (v2 : Int) (v3 : Int) (v4 : Int) (σ : S) (Q : Int → S → Prop) : Prop :=
  ∀ X68 : Int → Int → S → Prop, (∀ (v3 : Int) (v4 : Int) (σ : S), (inb v1 200000 ∧ (if (v4 < gA σ 68 v1) ∧ (v3 = 0) then x_at v1 v4 σ (fun r_13 σ_12 => (if r_13 = v2 then x_isAbove_j109 G v1 v2 v4 σ_12 Q X68 else x_at v1 v4 σ_12 (fun r_17 σ_16 => G 0 [r_17, v2] σ_16 (fun r_19 σ_18 => (if r_19 = 0 then x_isAbove_j114 G v1 v2 v4 0 σ_18 Q X68 else x_isAbove_j109 G v1 v2 v4 σ_18 Q X68)) (fun _ => False)))) else x_isAbove_j121 G v1 v2 v3 σ Q)) → X68 v3 v4 σ) → X68 v3 v4 σ
def x_isAbove_j63 (G : Orc) (v1 : Int) (v2 : Int) (σ : S) (Q : Int → S → Prop) : Prop :=
  x_isAbove_L68 G v1 v2 0 0 σ Q
def x_isAbove_j41 (G : Orc) (v3 : Int) (σ : S) (Q : Int → S → Prop) : Prop :=
  inb v3 1600 ∧ Q (bi (gA σ 122 v3 = 1)) σ
def x_isAbove_L13 (G : Orc) (v1 : Int) (v2 : Int) (v3 : Int) (σ : S) (Q : Int → S → Prop) : Prop :=
  ∀ X13 : Int → S → Prop, (∀ (v3 : Int) (σ : S), ((if v3 < gI σ 188 then inb v3 1600 ∧ ((gA σ 120 v3 = v1) → (inb v3 1600)) ∧ (if (gA σ 120 v3 = v1) ∧ (gA σ 121 v3 = v2) then x_isAbove_j41 G v3 σ Q else X13 (w32 (v3 + 1)) σ) else x_isAbove_j63 G v1 v2 σ Q)) → X13 v3 σ) → X13 v3 σ
def x_isAbove_F (G : Orc) (v1 : Int) (v2 : Int) (σ : S) (Q : Int → S → Prop) : Prop :=
  inb v1 200000 ∧ (if gA σ 66 v1 < 0 then Q 0 σ else x_isAbove_L13 G v1 v2 0 σ Q)
def x_isAboveRow_j123 (G : Orc) (v1 : Int) (v2 : Int) (v4 : Int) (σ : S) (Q : Int → S → Prop) : Prop :=
  x_at v1 v4 σ (fun r_30 σ_29 => x_at v2 v4 σ_29 (fun r_32 σ_31 => G 0 [r_30, r_32] σ_31 (fun r_34 σ_33 => Q r_34 σ_33) (fun _ => False)))
def x_isAboveRow_L95 (G : Orc) (v1 : Int) (v2 : Int) (v4 : Int) (σ : S) (Q : Int → S → Prop) : Prop :=
  ∀ X95 : Int → S → Prop, (∀ (v4 : Int) (σ : S), (inb v1 200000 ∧ (if v4 < gA σ 68 v1 then x_at v1 v4 σ (fun r_24 σ_23 => x_at v2 v4 σ_23 (fun r_26 σ_25 => (if r_24 = r_26 then X95 (w32 (v4 + 1)) σ_25 else x_isAboveRow_j123 G v1 v2 v4 σ_25 Q))) else Q 0 σ)) → X95 v4 σ) → X95 v4 σ
def x_isAboveRow_j34 (G : Orc) (v1 : Int) (v2 : Int) (σ : S) (Q : Int → S → Prop) : Prop :=
  inb v1 200000 ∧ inb v2 200000 ∧ (if gA σ 66 v1 = gA σ 66 v2 then inb (gA σ 66 v1) 50 ∧ ((gA σ 53 (gA σ 66 v1) = 0) → (inb (gA σ 66 v1) 50)) ∧ (if ¬ (gA σ 53 (gA σ 66 v1) = 0) ∨ (¬ (gA σ 52 (gA σ 66 v1) = 0)) then G 2 [v1, v2] σ (fun r_18 σ_17 => Q r_18 σ_17) (fun _ => False) else x_isAboveRow_L95 G v1 v2 0 σ Q) else inb v2 200000 ∧ Q (bi (¬ (gA σ 66 v1 ≤ gA σ 66 v2))) σ)
def x_isAboveRow_L2 (G : Orc) (v1 : Int) (v2 : Int) (v3 : Int) (σ : S) (Q : Int → S → Prop) : Prop :=
  ∀ X2 : Int → S → Prop, (∀ (v3 : Int) (σ : S), (inb v2 200000 ∧ (if v3 < gA σ 68 v2 then x_at v2 v3 σ (fun r_44 σ_43 => G 0 [v1, r_44] σ_43 (fun r_46 σ_45 => (if r_46 = 0 then Q 0 σ_45 else X2 (w32 (v3 + 1)) σ_45)) (fun _ => False)) else x_isAboveRow_j34 G v1 v2 σ Q)) → X2 v3 σ) → X2 v3 σ
def x_isAboveRow_F (G : Orc) (v1 : Int) (v2 : Int) (σ : S) (Q : Int → S → Prop) : Prop :=
  x_isAboveRow_L2 G v1 v2 0 σ Q
def x_isAboveBag_j137 (G : Orc) (v1 : Int) (v2 : Int) (v4 : Int) (v5 : Int) (σ : S) (Q : Int → S → Prop) (X39 : Int → Int → S → Prop) : Prop :=
  X39 v4 (w32 (v5 + 1)) σ
def x_isAboveBag_j125 (G : Orc) (v1 : Int) (v2 : Int) (v5 : Int) (v7 : Int) (s0 : Int) (σ : S) (Q : Int → S → Prop) (X39 : Int → Int → S → Prop) (X72 : Int → Int → S → Prop) : Prop :=
  X72 s0 (w32 (v7 + 1)) σ
def x_isAboveBag_j124 (G : Orc) (v1 : Int) (v2 : Int) (v5 : Int) (v7 : Int) (σ : S) (Q : Int → S → Prop) (X39 : Int → Int → S → Prop) (X72 : Int → Int → S → Prop) : Prop :=
  x_isAboveBag_j125 G v1 v2 v5 v7 0 σ Q X39 X72
def x_isAboveBag_j133 (G : Orc) (v1 : Int) (v2 : Int) (v5 : Int) (v6 : Int) (σ : S) (Q : Int → S → Prop) (X39 : Int → Int → S → Prop) : Prop :=
  x_isAboveBag_j137 G v1 v2 v6 v5 σ Q X39
def x_isAboveBag_L72 (G : Orc) (v1 : Int) (v2 : Int) (v5 : Int) (v6 : Int) (v7 : Int) (σ : S) (Q : Int → S → Prop) (X39 : Int → Int → S → Prop) : Prop :=
  ∀ X72 : Int → Int → S → Prop, (∀ (v6 : Int) (v7 : Int) (σ : S), (inb v1 200000 ∧ (if (v7 < gA σ 68 v1) ∧ (v6 = 0) then x_isLeft v1 v7 v2 σ (fun r_18 σ_17 => (if r_18 = 0 then x_isAboveBag_j124 G v1 v2 v5 v7 σ_17 Q X39 X72 else x_at v1 v7 σ_17 (fun r_22 σ_21 => x_at v2 v5 σ_21 (fun r_24 σ_23 => G 0 [r_22, r_24] σ_23 (fun r_26 σ_25 => (if r_26 = 0 then x_isAboveBag_j124 G v1 v2 v5 v7 σ_25 Q X39 X72 else x_isAboveBag_j125 G v1 v2 v5 v7 1 σ_25 Q X39 X72)) (fun _ => False))))) else x_isAboveBag_j133 G v1 v2 v5 v6 σ Q X39)) → X72 v6 v7 σ) → X72 v6 v7 σ
def x_isAboveBag_L39 (G : Orc) (v1 : Int) (v2 : Int) (v4 : Int) (v5 : Int) (σ : S) (Q : Int → S → Prop) : Prop :=
  ∀ X39 : Int → Int → S → Prop, (∀ (v4 : Int) (v5 : Int) (σ : S), (inb v2 200000 ∧ (if (v5 < gA σ 68 v2) ∧ (¬ (v4 = 0)) then x_isLeft v2 v5 v1 σ (fun r_10 σ_9 => (if r_10 = 0 then x_isAboveBag_j137 G v1 v2 v4 v5 σ_9 Q X39 else x_isAboveBag_L72 G v1 v2 v5 0 0 σ_9 Q X39)) else Q v4 σ)) → X39 v4 v5 σ) → X39 v4 v5 σ
def x_isAboveBag_j33 (G : Orc) (v1 : Int) (v2 : Int) (v3 : Int) (σ : S) (Q : Int → S → Prop) : Prop :=
  x_isAboveBag_L39 G v1 v2 v3 0 σ Q
def x_isAboveBag_L5 (G : Orc) (v1 : Int) (v2 : Int) (v3 : Int) (v4 : Int) (σ : S) (Q : Int → S → Prop) : Prop :=
  ∀ X5 : Int → Int → S → Prop, (∀ (v3 : Int) (v4 : Int) (σ : S), (inb v1 200000 ∧ (if v4 < gA σ 68 v1 then x_isLeft v1 v4 v2 σ (fun r_36 σ_35 => X5 (bOr v3 r_36) (w32 (v4 + 1)) σ_35) else x_isAboveBag_j33 G v1 v2 v3 σ Q)) → X5 v3 v4 σ) → X5 v3 v4 σ
def x_isAboveBag_F (G : Orc) (v1 : Int) (v2 : Int) (σ : S) (Q : Int → S → Prop) : Prop :=
  x_isAboveBag_L5 G v1 v2 0 0 σ Q
def x_S_isAbove : Nat → Orc
  | 0 => fun _ _ _ _ _ => False
  | n + 1 => fun i a σ Q E => match i, a with
    | 0, [v1, v2] => x_isAbove_F (x_S_isAbove n) v1 v2 σ Q
    | 1, [v1, v2] => x_isAboveRow_F (x_S_isAbove n) v1 v2 σ Q
    | 2, [v1, v2] => x_isAboveBag_F (x_S_isAbove n) v1 v2 σ Q
    | _, _ => False
def x_isAbove (v1 : Int) (v2 : Int) (σ : S) (Q : Int → S → Prop) : Prop := x_S_isAbove 260 0 [v1, v2] σ Q (fun _ => False)
def x_isAboveRow (v1 : Int) (v2 : Int) (σ : S) (Q : Int → S → Prop) : Prop := x_S_isAbove 260 1 [v1, v2] σ Q (fun _ => False)
def x_isAboveBag (v1 : Int) (v2 : Int) (σ : S) (Q : Int → S → Prop) : Prop := x_S_isAbove 260 2 [v1, v2] σ Q (fun _ => False)
def x_isAboveAnew (v1 : Int) (v2 : Int) (σ : S) (Q : Int → S → Prop) : Prop :=
  ∀ σ_1, σ_1 = pI σ 188 0 → x_isAbove v1 v2 σ_1 (fun r_4 σ_3 => Q r_4 σ_3)
def x_falls_j94 (v1 : Int) (v3 : Int) (s0 : Int) (σ : S) (Q : Int → S → Prop) (X22 : Int → Int → S → Prop) : Prop :=
  X22 s0 (w32 (v3 + 1)) σ
def x_falls_j93 (v1 : Int) (v3 : Int) (σ : S) (Q : Int → S → Prop) (X22 : Int → Int → S → Prop) : Prop :=
  x_falls_j94 v1 v3 0 σ Q X22
def x_falls_j89 (v1 : Int) (v3 : Int) (σ : S) (Q : Int → S → Prop) (X22 : Int → Int → S → Prop) : Prop :=
  x_falls_j94 v1 v3 1 σ Q X22
def x_falls_L22 (v1 : Int) (v2 : Int) (v3 : Int) (σ : S) (Q : Int → S → Prop) : Prop :=
  ∀ X22 : Int → Int → S → Prop, (∀ (v2 : Int) (v3 : Int) (σ : S), (inb v1 70 ∧ (if (v3 < w32 (w32 (6 * v1) + (gA σ 32 v1))) ∧ (¬ (v2 = 0)) then inb v1 70 ∧ inb v3 420 ∧ x_isAboveAnew (gA σ 78 v1) (gA σ 80 v3) σ (fun r_16 σ_15 => (if r_16 = 0 then x_falls_j93 v1 v3 σ_15 Q X22 else inb v3 420 ∧ (if gA σ_15 33 v3 = 2 then x_falls_j89 v1 v3 σ_15 Q X22 else inb v1 70 ∧ inb v3 420 ∧ x_isAboveAnew (gA σ_15 78 v1) (gA σ_15 81 v3) σ_15 (fun r_28 σ_27 => (if r_28 = 0 then x_falls_j93 v1 v3 σ_27 Q X22 else x_falls_j89 v1 v3 σ_27 Q X22))))) else Q v2 σ)) → X22 v2 v3 σ) → X22 v2 v3 σ
def x_falls (v1 : Int) (σ : S) (Q : Int → S → Prop) : Prop :=
  inb v1 70 ∧ inb v1 70 ∧ x_isAboveAnew (gA σ 78 v1) (gA σ 79 v1) σ (fun r_6 σ_5 => x_falls_L22 v1 r_6 (w32 (6 * v1)) σ_5 Q)
def x_firstNotFalling_L2 (v1 : Int) (σ : S) (Q : Int → S → Prop) : Prop :=
  ∀ X2 : Int → S → Prop, (∀ (v1 : Int) (σ : S), ((if v1 < gI σ 42 then x_falls v1 σ (fun r_5 σ_4 => (if r_5 = 0 then Q v1 σ_4 else X2 (w32 (v1 + 1)) σ_4)) else Q (-2) σ)) → X2 v1 σ) → X2 v1 σ
def x_firstNotFalling (σ : S) (Q : Int → S → Prop) : Prop :=
  x_firstNotFalling_L2 0 σ Q
def x_check (v1 : Int) (σ : S) (Q : Int → S → Prop) : Prop :=
  x_within v1 0 1 σ (fun r_2 σ_1 => (if r_2 = 0 then Q (-1) σ_1 else x_begin σ_1 (fun _ σ_5 => (if v1 = 0 then x_allOneLeast σ_5 (fun r_14 σ_13 => Q (bi (¬ (r_14 = 0))) σ_13) else x_firstNotFalling σ_5 (fun r_9 σ_8 => Q (bi (r_9 = (-2))) σ_8)))))
def x_witness (v1 : Int) (v2 : Int) (σ : S) (Q : Int → S → Prop) : Prop :=
  x_within v1 0 1 σ (fun r_2 σ_1 => (if (r_2 = 0) ∨ ((v2 < 0) ∨ ((v1 = 1) ∧ (¬ (v2 ≤ 0)))) then Q (-1) σ_1 else x_begin σ_1 (fun _ σ_7 => (if v1 = 1 then x_firstNotFalling σ_7 (fun r_22 σ_21 => Q r_22 σ_21) else x_allOneLeast σ_7 (fun r_11 σ_10 => (if r_11 = 0 then ((v2 ≤ gI σ_10 184) → (inb v2 4)) ∧ Q (if v2 ≤ gI σ_10 184 then gA σ_10 119 v2 else (-1)) σ_10 else Q (-2) σ_10))))))
def x_countWay (σ : S) (Q : Int → S → Prop) (E : S → Prop) : Prop :=
  (if w32 (gI σ 190 + (gI σ 192)) = 4000 then x_stop 2 σ (fun _ σ_5 => E σ_5) else Q 0 σ)
def x_open (σ : S) (Q : Int → S → Prop) (E : S → Prop) : Prop :=
  x_countWay σ (fun _ σ_1 => ∀ σ_4, σ_4 = pI σ_1 192 (w32 (gI σ_1 192 + 1)) → Q 0 σ_4) E
def x_dropTo_j95 (v1 : Int) (v2 : Int) (σ : S) (Q : Int → S → Prop) : Prop :=
  ∀ σ_4, σ_4 = pI σ 93 v1 → ∀ σ_6, σ_6 = pI σ_4 102 v2 → Q 0 σ_6
def x_dropTo_j62 (v1 : Int) (v2 : Int) (v3 : Int) (v4 : Int) (σ : S) (Q : Int → S → Prop) (X7 : Int → S → Prop) : Prop :=
  inb v3 200000 ∧ x_slotOf (gA σ 66 v3) (gI σ 106) v4 σ (fun r_16 σ_15 => inb v3 200000 ∧ inb r_16 131072 ∧ ∀ σ_19, σ_19 = pA σ_15 72 r_16 (gA σ_15 71 v3) → X7 (w32 (v3 + (-1))) σ_19)
def x_dropTo_L23 (v1 : Int) (v2 : Int) (v3 : Int) (v4 : Int) (v5 : Int) (σ : S) (Q : Int → S → Prop) (X7 : Int → S → Prop) : Prop :=
  ∀ X23 : Int → S → Prop, (∀ (v5 : Int) (σ : S), ((if v5 < v4 then inb v3 200000 ∧ inb (w32 (gA σ 67 v3 + v5)) 600000 ∧ inb (w32 (gI σ 106 + v5)) 20000 ∧ ∀ σ_27, σ_27 = pA σ 74 (w32 (gI σ 106 + v5)) (gA σ 73 (w32 (gA σ 67 v3 + v5))) → X23 (w32 (v5 + 1)) σ_27 else x_dropTo_j62 v1 v2 v3 v4 σ Q X7)) → X23 v5 σ) → X23 v5 σ
def x_dropTo_L7 (v1 : Int) (v2 : Int) (v3 : Int) (σ : S) (Q : Int → S → Prop) : Prop :=
  ∀ X7 : Int → S → Prop, (∀ (v3 : Int) (σ : S), ((if v3 < v1 then x_dropTo_j95 v1 v2 σ Q else inb v3 200000 ∧ x_dropTo_L23 v1 v2 v3 (gA σ 68 v3) 0 σ Q X7)) → X7 v3 σ) → X7 v3 σ
def x_dropTo (v1 : Int) (v2 : Int) (σ : S) (Q : Int → S → Prop) : Prop :=
  x_dropTo_L7 v1 v2 (w32 (gI σ 93 - 1)) σ Q
def x_apart_j64 (G : Orc) (v1 : Int) (v2 : Int) (σ : S) (Q : Int → S → Prop) (E : S → Prop) : Prop :=
  inb v1 200000 ∧ x_make (gA σ 66 v1) v2 σ (fun r_13 σ_12 => Q r_13 σ_12) E
def x_apart_L30 (G : Orc) (v1 : Int) (v2 : Int) (v3 : Int) (σ : S) (Q : Int → S → Prop) (E : S → Prop) : Prop :=
  ∀ X30 : Int → S → Prop, (∀ (v3 : Int) (σ : S), (inb v1 200000 ∧ (if v3 < gA σ 68 v1 then x_at v1 v3 σ (fun r_16 σ_15 => G 0 [r_16] σ_15 (fun r_18 σ_17 => x_push r_18 σ_17 (fun _ σ_20 => X30 (w32 (v3 + 1)) σ_20)) E) else x_apart_j64 G v1 v2 σ Q E)) → X30 v3 σ) → X30 v3 σ
def x_apart_F (G : Orc) (v1 : Int) (σ : S) (Q : Int → S → Prop) (E : S → Prop) : Prop :=
  inb v1 200000 ∧ (if gA σ 66 v1 < 0 then inb v1 200000 ∧ x_variableNode (w32 (29 - (gA σ 66 v1))) σ (fun r_24 σ_23 => Q r_24 σ_23) E else x_apart_L30 G v1 (gI σ 106) 0 σ Q E)
def x_S_apart : Nat → Orc
  | 0 => fun _ _ _ _ _ => False
  | n + 1 => fun i a σ Q E => match i, a with
    | 0, [v1] => x_apart_F (x_S_apart n) v1 σ Q E
    | _, _ => False
def x_apart (v1 : Int) (σ : S) (Q : Int → S → Prop) (E : S → Prop) : Prop := x_S_apart 44 0 [v1] σ Q E
def x_walk_L2 (v2 : Int) (σ : S) (Q : Int → S → Prop) : Prop :=
  ∀ X2 : Int → S → Prop, (∀ (v2 : Int) (σ : S), (inb v2 200000 ∧ ((gA σ 66 v2 < 0) → (inb v2 200000)) ∧ ((gA σ 66 v2 < 0) → (inb (w32 ((-1) - (gA σ 66 v2))) 60)) ∧ (if (gA σ 66 v2 < 0) ∧ (¬ (gA σ 123 (w32 ((-1) - (gA σ 66 v2))) = 0)) then inb v2 200000 ∧ inb (w32 ((-1) - (gA σ 66 v2))) 60 ∧ X2 (gA σ 123 (w32 ((-1) - (gA σ 66 v2)))) σ else Q v2 σ)) → X2 v2 σ) → X2 v2 σ
def x_walk (v1 : Int) (σ : S) (Q : Int → S → Prop) : Prop :=
  x_walk_L2 v1 σ Q
def x_given_j61 (G : Orc) (v2 : Int) (v3 : Int) (σ : S) (Q : Int → S → Prop) (E : S → Prop) : Prop :=
  inb v2 200000 ∧ x_make (gA σ 66 v2) v3 σ (fun r_15 σ_14 => Q r_15 σ_14) E
def x_given_L25 (G : Orc) (v2 : Int) (v3 : Int) (v4 : Int) (σ : S) (Q : Int → S → Prop) (E : S → Prop) : Prop :=
  ∀ X25 : Int → S → Prop, (∀ (v4 : Int) (σ : S), (inb v2 200000 ∧ (if v4 < gA σ 68 v2 then x_at v2 v4 σ (fun r_18 σ_17 => G 0 [r_18] σ_17 (fun r_20 σ_19 => x_push r_20 σ_19 (fun _ σ_22 => X25 (w32 (v4 + 1)) σ_22)) E) else x_given_j61 G v2 v3 σ Q E)) → X25 v4 σ) → X25 v4 σ
def x_given_F (G : Orc) (v1 : Int) (σ : S) (Q : Int → S → Prop) (E : S → Prop) : Prop :=
  x_walk v1 σ (fun r_2 σ_1 => inb r_2 200000 ∧ (if gA σ_1 68 r_2 = 0 then Q r_2 σ_1 else x_given_L25 G r_2 (gI σ_1 106) 0 σ_1 Q E))
def x_S_given : Nat → Orc
  | 0 => fun _ _ _ _ _ => False
  | n + 1 => fun i a σ Q E => match i, a with
    | 0, [v1] => x_given_F (x_S_given n) v1 σ Q E
    | _, _ => False
def x_given (v1 : Int) (σ : S) (Q : Int → S → Prop) (E : S → Prop) : Prop := x_S_given 90 0 [v1] σ Q E
def x_occurs_L19 (G : Orc) (v1 : Int) (v2 : Int) (v3 : Int) (v4 : Int) (σ : S) (Q : Int → S → Prop) : Prop :=
  ∀ X19 : Int → Int → S → Prop, (∀ (v3 : Int) (v4 : Int) (σ : S), (inb v2 200000 ∧ (if (v4 < gA σ 68 v2) ∧ (v3 = 0) then x_at v2 v4 σ (fun r_9 σ_8 => G 0 [v1, r_9] σ_8 (fun r_11 σ_10 => X19 r_11 (w32 (v4 + 1)) σ_10) (fun _ => False)) else Q v3 σ)) → X19 v3 v4 σ) → X19 v3 v4 σ
def x_occurs_F (G : Orc) (v1 : Int) (v2 : Int) (σ : S) (Q : Int → S → Prop) : Prop :=
  inb v2 200000 ∧ x_occurs_L19 G v1 v2 (bi (gA σ 66 v2 = v1)) 0 σ Q
def x_S_occurs : Nat → Orc
  | 0 => fun _ _ _ _ _ => False
  | n + 1 => fun i a σ Q E => match i, a with
    | 0, [v1, v2] => x_occurs_F (x_S_occurs n) v1 v2 σ Q
    | _, _ => False
def x_occurs (v1 : Int) (v2 : Int) (σ : S) (Q : Int → S → Prop) : Prop := x_S_occurs 44 0 [v1, v2] σ Q (fun _ => False)
def x_hasRowBelow_j36 (v1 : Int) (v2 : Int) (v3 : Int) (σ : S) (Q : Int → S → Prop) (X2 : Int → S → Prop) : Prop :=
  X2 (w32 (v3 + 1)) σ
def x_hasRowBelow_L2 (v1 : Int) (v2 : Int) (v3 : Int) (σ : S) (Q : Int → S → Prop) : Prop :=
  ∀ X2 : Int → S → Prop, (∀ (v3 : Int) (σ : S), ((if v3 < gI σ 29 then inb v3 50 ∧ (if gA σ 41 v3 = v1 then inb v3 50 ∧ x_isBelow (gA σ 44 v3) v2 σ (fun r_11 σ_10 => (if r_11 = 0 then x_hasRowBelow_j36 v1 v2 v3 σ_10 Q X2 else Q 1 σ_10)) else x_hasRowBelow_j36 v1 v2 v3 σ Q X2) else Q 0 σ)) → X2 v3 σ) → X2 v3 σ
def x_hasRowBelow (v1 : Int) (v2 : Int) (σ : S) (Q : Int → S → Prop) : Prop :=
  x_hasRowBelow_L2 v1 v2 0 σ Q
def x_hasSortBelow_j30 (v1 : Int) (v2 : Int) (v3 : Int) (σ : S) (Q : Int → S → Prop) (X2 : Int → S → Prop) : Prop :=
  X2 (w32 (v3 + 1)) σ
def x_hasSortBelow_L2 (v1 : Int) (v2 : Int) (v3 : Int) (σ : S) (Q : Int → S → Prop) : Prop :=
  ∀ X2 : Int → S → Prop, (∀ (v3 : Int) (σ : S), ((if v3 < gI σ 22 then x_isBelow v3 v1 σ (fun r_5 σ_4 => (if r_5 = 0 then x_hasSortBelow_j30 v1 v2 v3 σ_4 Q X2 else x_isBelow v3 v2 σ_4 (fun r_9 σ_8 => (if r_9 = 0 then x_hasSortBelow_j30 v1 v2 v3 σ_8 Q X2 else Q 1 σ_8)))) else Q 0 σ)) → X2 v3 σ) → X2 v3 σ
def x_hasSortBelow (v1 : Int) (v2 : Int) (σ : S) (Q : Int → S → Prop) : Prop :=
  x_hasSortBelow_L2 v1 v2 0 σ Q
def x_leftWith_j75 (v3 : Int) (v4 : Int) (σ : S) (Q : Int → S → Prop) (E : S → Prop) (X9 : Int → Int → S → Prop) : Prop :=
  inb v3 80 ∧ inb (gA σ 95 v3) 200000 ∧ x_make (gA σ 66 (gA σ 95 v3)) v4 σ (fun r_16 σ_15 => X9 r_16 (w32 (v3 + (-1))) σ_15) E
def x_leftWith_j66 (v2 : Int) (v3 : Int) (v4 : Int) (v5 : Int) (s0 : Int) (σ : S) (Q : Int → S → Prop) (E : S → Prop) (X9 : Int → Int → S → Prop) (X22 : Int → S → Prop) : Prop :=
  x_push s0 σ (fun _ σ_26 => X22 (w32 (v5 + 1)) σ_26)
def x_leftWith_L22 (v2 : Int) (v3 : Int) (v4 : Int) (v5 : Int) (σ : S) (Q : Int → S → Prop) (E : S → Prop) (X9 : Int → Int → S → Prop) : Prop :=
  ∀ X22 : Int → S → Prop, (∀ (v5 : Int) (σ : S), (inb v3 80 ∧ inb (gA σ 95 v3) 200000 ∧ (if v5 < gA σ 68 (gA σ 95 v3) then inb v3 80 ∧ (if v5 = gA σ 96 v3 then x_leftWith_j66 v2 v3 v4 v5 v2 σ Q E X9 X22 else inb v3 80 ∧ x_at (gA σ 95 v3) v5 σ (fun r_25 σ_24 => x_leftWith_j66 v2 v3 v4 v5 r_25 σ_24 Q E X9 X22)) else x_leftWith_j75 v3 v4 σ Q E X9)) → X22 v5 σ) → X22 v5 σ
def x_leftWith_L9 (v2 : Int) (v3 : Int) (σ : S) (Q : Int → S → Prop) (E : S → Prop) : Prop :=
  ∀ X9 : Int → Int → S → Prop, (∀ (v2 : Int) (v3 : Int) (σ : S), ((if v3 < 0 then Q v2 σ else x_leftWith_L22 v2 v3 (gI σ 106) 0 σ Q E X9)) → X9 v2 v3 σ) → X9 v2 v3 σ
def x_leftWith (v1 : Int) (σ : S) (Q : Int → S → Prop) (E : S → Prop) : Prop :=
  x_leftWith_L9 v1 (w32 (gI σ 149 - 1)) σ Q E
def x_meet_L170 (v6 : Int) (σ : S) (Q : Int → S → Prop) (E : S → Prop) : Prop :=
  ∀ X170 : Int → S → Prop, (∀ (v6 : Int) (σ : S), ((if v6 < gI σ 93 then inb v6 200000 ∧ ∀ σ_42, σ_42 = pA σ 75 v6 0 → X170 (w32 (v6 + 1)) σ_42 else Q 0 σ)) → X170 v6 σ) → X170 v6 σ
def x_meet_j151 (v2 : Int) (v3 : Int) (σ : S) (Q : Int → S → Prop) (E : S → Prop) : Prop :=
  ∀ σ_36, σ_36 = pI σ 190 (w32 (gI σ 190 + 1)) → x_dropTo v2 v3 σ_36 (fun _ σ_38 => x_meet_L170 0 σ_38 Q E)
def x_meet_j141 (v2 : Int) (v3 : Int) (σ : S) (Q : Int → S → Prop) (E : S → Prop) : Prop :=
  ∀ σ_50, σ_50 = pI σ 191 (w32 (gI σ 191 + 1)) → x_meet_j151 v2 v3 σ_50 Q E
def x_meet (σ : S) (Q : Int → S → Prop) (E : S → Prop) : Prop :=
  x_countWay σ (fun _ σ_1 => ∀ σ_6, σ_6 = pI σ_1 121 0 → ∀ σ_8, σ_8 = pI σ_6 128 0 → ∀ σ_10, σ_10 = pI σ_8 131 0 → ∀ σ_12, σ_12 = pI σ_10 132 0 → x_given (gI σ_12 198) σ_12 (fun r_16 σ_15 => x_leftWith (gI σ_15 197) σ_15 (fun r_20 σ_19 => x_given r_20 σ_19 (fun r_23 σ_22 => x_toRest r_16 σ_22 (fun r_26 σ_25 => x_toRest r_23 σ_25 (fun r_29 σ_28 => ∀ σ_31, σ_31 = pI σ_28 121 (gI σ_1 121) → (if r_26 = r_29 then x_meet_j151 (gI σ_1 93) (gI σ_1 102) σ_31 Q E else (if gI σ_31 191 = gI σ_31 193 then x_saveTo r_26 124 0 σ_31 (fun _ σ_52 => x_saveTo r_29 124 80 σ_52 (fun _ σ_53 => ∀ σ_55, σ_55 = pI σ_53 195 (gI σ_53 200) → ∀ σ_58, σ_58 = pI σ_55 196 (gI σ_55 201) → x_meet_j141 (gI σ_1 93) (gI σ_1 102) σ_58 Q E)) else x_meet_j141 (gI σ_1 93) (gI σ_1 102) σ_31 Q E))) E) E) E) E) E) E
def x_unify_j226 (G : Orc) (v1 : Int) (v2 : Int) (v3 : Int) (v4 : Int) (v5 : Int) (σ : S) (Q : Int → S → Prop) (E : S → Prop) : Prop :=
  inb (w32 (v1 - 1)) 400 ∧ ∀ σ_41, σ_41 = pA σ 84 (w32 (v1 - 1)) v4 → inb (w32 (v1 - 1)) 400 ∧ ∀ σ_44, σ_44 = pA σ_41 85 (w32 (v1 - 1)) v5 → x_dropTo v2 v3 σ_44 (fun _ σ_47 => ∀ σ_49, σ_49 = pI σ_47 199 (w32 (gI σ_47 199 - 1)) → Q 0 σ_49)
def x_unify_j130 (G : Orc) (v1 : Int) (v2 : Int) (v3 : Int) (v4 : Int) (v5 : Int) (v6 : Int) (v7 : Int) (σ : S) (Q : Int → S → Prop) (E : S → Prop) : Prop :=
  inb v6 200000 ∧ (if gA σ 66 v6 < 0 then G 4 [v1, v6, v7] σ (fun _ σ_63 => x_unify_j226 G v1 v2 v3 v4 v5 σ_63 Q E) E else inb v7 200000 ∧ (if gA σ 66 v7 < 0 then G 4 [v1, v7, v6] σ (fun _ σ_61 => x_unify_j226 G v1 v2 v3 v4 v5 σ_61 Q E) E else inb v6 200000 ∧ inb v7 200000 ∧ (if gA σ 66 v6 = gA σ 66 v7 then G 1 [v1, v6, v7, 0] σ (fun _ σ_51 => inb v6 200000 ∧ inb (gA σ_51 66 v6) 50 ∧ (if gA σ_51 53 (gA σ_51 66 v6) = 0 then x_unify_j226 G v1 v2 v3 v4 v5 σ_51 Q E else G 1 [v1, v6, v7, 1] σ_51 (fun _ σ_59 => x_unify_j226 G v1 v2 v3 v4 v5 σ_59 Q E) E)) E else x_unify_j226 G v1 v2 v3 v4 v5 σ Q E)))
def x_unify_F (G : Orc) (v1 : Int) (σ : S) (Q : Int → S → Prop) (E : S → Prop) : Prop :=
  (if v1 = 0 then x_meet σ (fun _ σ_74 => Q 0 σ_74) E else (if gI σ 199 = 150 then x_stop 5 σ (fun _ σ_73 => E σ_73) else ∀ σ_7, σ_7 = pI σ 199 (w32 (gI σ 199 + 1)) → inb (w32 (v1 - 1)) 400 ∧ inb (w32 (v1 - 1)) 400 ∧ x_given (gA σ_7 84 (w32 (v1 - 1))) σ_7 (fun r_16 σ_15 => x_given (gA σ_7 85 (w32 (v1 - 1))) σ_15 (fun r_19 σ_18 => (if r_16 = r_19 then G 0 [(w32 (v1 - 1))] σ_18 (fun _ σ_71 => x_unify_j226 G v1 (gI σ_7 93) (gI σ_7 102) (gA σ_7 84 (w32 (v1 - 1))) (gA σ_7 85 (w32 (v1 - 1))) σ_71 Q E) E else inb r_16 200000 ∧ (if gA σ_18 66 r_16 < 0 then inb r_19 200000 ∧ (if gA σ_18 66 r_19 < 0 then G 3 [v1, r_16, r_19] σ_18 (fun _ σ_69 => x_unify_j226 G v1 (gI σ_7 93) (gI σ_7 102) (gA σ_7 84 (w32 (v1 - 1))) (gA σ_7 85 (w32 (v1 - 1))) σ_69 Q E) E else x_unify_j130 G v1 (gI σ_7 93) (gI σ_7 102) (gA σ_7 84 (w32 (v1 - 1))) (gA σ_7 85 (w32 (v1 - 1))) r_16 r_19 σ_18 Q E) else x_unify_j130 G v1 (gI σ_7 93) (gI σ_7 102) (gA σ_7 84 (w32 (v1 - 1))) (gA σ_7 85 (w32 (v1 - 1))) r_16 r_19 σ_18 Q E))) E) E))
def x_unifyRows_j85 (G : Orc) (v1 : Int) (v5 : Int) (σ : S) (Q : Int → S → Prop) (E : S → Prop) : Prop :=
  G 0 [(w32 (w32 (v1 - 1) + v5))] σ (fun _ σ_5 => Q 0 σ_5) E
def x_unifyRows_L11 (G : Orc) (v1 : Int) (v2 : Int) (v3 : Int) (v4 : Int) (v5 : Int) (v6 : Int) (σ : S) (Q : Int → S → Prop) (E : S → Prop) : Prop :=
  ∀ X11 : Int → S → Prop, (∀ (v6 : Int) (σ : S), ((if v6 < v5 then x_at v2 v6 σ (fun r_8 σ_7 => inb (w32 (w32 (w32 (w32 (v1 - 1) + v5) - 1) - v6)) 400 ∧ ∀ σ_9, σ_9 = pA σ_7 84 (w32 (w32 (w32 (w32 (v1 - 1) + v5) - 1) - v6)) r_8 → x_at v3 (if v4 = 0 then v6 else w32 (w32 (v5 - 1) - v6)) σ_9 (fun r_17 σ_16 => inb (w32 (w32 (w32 (w32 (v1 - 1) + v5) - 1) - v6)) 400 ∧ ∀ σ_18, σ_18 = pA σ_16 85 (w32 (w32 (w32 (w32 (v1 - 1) + v5) - 1) - v6)) r_17 → X11 (w32 (v6 + 1)) σ_18)) else x_unifyRows_j85 G v1 v5 σ Q E)) → X11 v6 σ) → X11 v6 σ
def x_unifyRows_F (G : Orc) (v1 : Int) (v2 : Int) (v3 : Int) (v4 : Int) (σ : S) (Q : Int → S → Prop) (E : S → Prop) : Prop :=
  inb v2 200000 ∧ x_unifyRows_L11 G v1 v2 v3 v4 (gA σ 68 v2) 0 σ Q E
def x_give_F (G : Orc) (v1 : Int) (v2 : Int) (v3 : Int) (σ : S) (Q : Int → S → Prop) (E : S → Prop) : Prop :=
  inb v2 200000 ∧ inb (w32 ((-1) - (gA σ 66 v2))) 60 ∧ ∀ σ_3, σ_3 = pA σ 123 (w32 ((-1) - (gA σ 66 v2))) v3 → G 0 [(w32 (v1 - 1))] σ_3 (fun _ σ_6 => inb v2 200000 ∧ inb (w32 ((-1) - (gA σ_6 66 v2))) 60 ∧ ∀ σ_10, σ_10 = pA σ_6 123 (w32 ((-1) - (gA σ_6 66 v2))) 0 → Q 0 σ_10) E
def x_unifyVariables_F (G : Orc) (v1 : Int) (v2 : Int) (v3 : Int) (σ : S) (Q : Int → S → Prop) (E : S → Prop) : Prop :=
  inb v2 200000 ∧ inb v3 200000 ∧ x_isBelow (gA σ 69 v2) (gA σ 69 v3) σ (fun r_6 σ_5 => (if r_6 = 0 then inb v3 200000 ∧ inb v2 200000 ∧ x_isBelow (gA σ_5 69 v3) (gA σ_5 69 v2) σ_5 (fun r_14 σ_13 => (if r_14 = 0 then inb v2 200000 ∧ inb v3 200000 ∧ x_hasSortBelow (gA σ_13 69 v2) (gA σ_13 69 v3) σ_13 (fun r_22 σ_21 => (if r_22 = 0 then Q 0 σ_21 else x_open σ_21 (fun _ σ_25 => Q 0 σ_25) E)) else G 2 [v1, v2, v3] σ_13 (fun _ σ_27 => Q 0 σ_27) E)) else G 2 [v1, v3, v2] σ_5 (fun _ σ_29 => Q 0 σ_29) E))
def x_unifyVariable_j55 (G : Orc) (v2 : Int) (v3 : Int) (σ : S) (Q : Int → S → Prop) (E : S → Prop) : Prop :=
  inb v3 200000 ∧ inb v2 200000 ∧ x_hasRowBelow (gA σ 66 v3) (gA σ 69 v2) σ (fun r_16 σ_15 => (if r_16 = 0 then Q 0 σ_15 else x_open σ_15 (fun _ σ_19 => Q 0 σ_19) E))
def x_unifyVariable_F (G : Orc) (v1 : Int) (v2 : Int) (v3 : Int) (σ : S) (Q : Int → S → Prop) (E : S → Prop) : Prop :=
  inb v2 200000 ∧ x_occurs (gA σ 66 v2) v3 σ (fun r_4 σ_3 => (if r_4 = 0 then inb v3 200000 ∧ (if gA σ_3 69 v3 = (-2) then x_unifyVariable_j55 G v2 v3 σ_3 Q E else inb v2 200000 ∧ x_isBelow (gA σ_3 69 v3) (gA σ_3 69 v2) σ_3 (fun r_24 σ_23 => (if r_24 = 0 then x_unifyVariable_j55 G v2 v3 σ_23 Q E else G 2 [v1, v2, v3] σ_23 (fun _ σ_27 => Q 0 σ_27) E))) else Q 0 σ_3))
def x_S_unify : Nat → Orc
  | 0 => fun _ _ _ _ _ => False
  | n + 1 => fun i a σ Q E => match i, a with
    | 0, [v1] => x_unify_F (x_S_unify n) v1 σ Q E
    | 1, [v1, v2, v3, v4] => x_unifyRows_F (x_S_unify n) v1 v2 v3 v4 σ Q E
    | 2, [v1, v2, v3] => x_give_F (x_S_unify n) v1 v2 v3 σ Q E
    | 3, [v1, v2, v3] => x_unifyVariables_F (x_S_unify n) v1 v2 v3 σ Q E
    | 4, [v1, v2, v3] => x_unifyVariable_F (x_S_unify n) v1 v2 v3 σ Q E
    | _, _ => False
def x_unify (v1 : Int) (σ : S) (Q : Int → S → Prop) (E : S → Prop) : Prop := x_S_unify 470 0 [v1] σ Q E
def x_unifyRows (v1 : Int) (v2 : Int) (v3 : Int) (v4 : Int) (σ : S) (Q : Int → S → Prop) (E : S → Prop) : Prop := x_S_unify 470 1 [v1, v2, v3, v4] σ Q E
def x_give (v1 : Int) (v2 : Int) (v3 : Int) (σ : S) (Q : Int → S → Prop) (E : S → Prop) : Prop := x_S_unify 470 2 [v1, v2, v3] σ Q E
def x_unifyVariables (v1 : Int) (v2 : Int) (v3 : Int) (σ : S) (Q : Int → S → Prop) (E : S → Prop) : Prop := x_S_unify 470 3 [v1, v2, v3] σ Q E
def x_unifyVariable (v1 : Int) (v2 : Int) (v3 : Int) (σ : S) (Q : Int → S → Prop) (E : S → Prop) : Prop := x_S_unify 470 4 [v1, v2, v3] σ Q E
def x_hasAxiom_L47 (G : Orc) (v1 : Int) (v2 : Int) (v3 : Int) (σ : S) (Q : Int → S → Prop) : Prop :=
  ∀ X47 : Int → Int → S → Prop, (∀ (v2 : Int) (v3 : Int) (σ : S), (inb v1 200000 ∧ (if (v3 < gA σ 68 v1) ∧ (v2 = 0) then x_at v1 v3 σ (fun r_19 σ_18 => G 0 [r_19] σ_18 (fun r_21 σ_20 => X47 r_21 (w32 (v3 + 1)) σ_20) (fun _ => False)) else Q v2 σ)) → X47 v2 v3 σ) → X47 v2 v3 σ
def x_hasAxiom_F (G : Orc) (v1 : Int) (σ : S) (Q : Int → S → Prop) : Prop :=
  inb v1 200000 ∧ ((¬ gA σ 66 v1 < 0) → (inb v1 200000)) ∧ ((¬ gA σ 66 v1 < 0) → (inb (gA σ 66 v1) 50)) ∧ ((¬ gA σ 66 v1 < 0) → (gA σ 52 (gA σ 66 v1) = 0) → (inb v1 200000)) ∧ ((¬ gA σ 66 v1 < 0) → (gA σ 52 (gA σ 66 v1) = 0) → (inb (gA σ 66 v1) 50)) ∧ x_hasAxiom_L47 G v1 (bi (¬ (gA σ 66 v1 < 0) ∧ (¬ (gA σ 52 (gA σ 66 v1) = 0) ∨ (¬ (gA σ 54 (gA σ 66 v1) = (-2)))))) 0 σ Q
def x_S_hasAxiom : Nat → Orc
  | 0 => fun _ _ _ _ _ => False
  | n + 1 => fun i a σ Q E => match i, a with
    | 0, [v1] => x_hasAxiom_F (x_S_hasAxiom n) v1 σ Q
    | _, _ => False
def x_hasAxiom (v1 : Int) (σ : S) (Q : Int → S → Prop) : Prop := x_S_hasAxiom 44 0 [v1] σ Q (fun _ => False)
def x_mayPair_L2 (v1 : Int) (σ : S) (Q : Int → S → Prop) : Prop :=
  ∀ X2 : Int → S → Prop, (∀ (v1 : Int) (σ : S), ((if v1 < gI σ 42 then inb v1 70 ∧ ((gA σ 26 v1 = 0) → (inb v1 70)) ∧ (if (gA σ 26 v1 = 0) ∧ (gA σ 32 v1 ≤ 0) then inb v1 70 ∧ x_hasAxiom (gA σ 78 v1) σ (fun r_13 σ_12 => (if r_13 = 0 then inb v1 70 ∧ x_hasAxiom (gA σ_12 79 v1) σ_12 (fun r_19 σ_18 => (if r_19 = 0 then X2 (w32 (v1 + 1)) σ_18 else Q 0 σ_18)) else Q 0 σ_12)) else Q 0 σ) else Q 1 σ)) → X2 v1 σ) → X2 v1 σ
def x_mayPair (σ : S) (Q : Int → S → Prop) : Prop :=
  x_mayPair_L2 0 σ Q
def x_hasComm_L31 (G : Orc) (v1 : Int) (v2 : Int) (v3 : Int) (σ : S) (Q : Int → S → Prop) : Prop :=
  ∀ X31 : Int → Int → S → Prop, (∀ (v2 : Int) (v3 : Int) (σ : S), (inb v1 200000 ∧ (if (v3 < gA σ 68 v1) ∧ (v2 = 0) then x_at v1 v3 σ (fun r_14 σ_13 => G 0 [r_14] σ_13 (fun r_16 σ_15 => X31 r_16 (w32 (v3 + 1)) σ_15) (fun _ => False)) else Q v2 σ)) → X31 v2 v3 σ) → X31 v2 v3 σ
def x_hasComm_F (G : Orc) (v1 : Int) (σ : S) (Q : Int → S → Prop) : Prop :=
  inb v1 200000 ∧ ((¬ gA σ 66 v1 < 0) → (inb v1 200000)) ∧ ((¬ gA σ 66 v1 < 0) → (inb (gA σ 66 v1) 50)) ∧ x_hasComm_L31 G v1 (bi (¬ (gA σ 66 v1 < 0) ∧ (¬ (gA σ 53 (gA σ 66 v1) = 0)))) 0 σ Q
def x_S_hasComm : Nat → Orc
  | 0 => fun _ _ _ _ _ => False
  | n + 1 => fun i a σ Q E => match i, a with
    | 0, [v1] => x_hasComm_F (x_S_hasComm n) v1 σ Q
    | _, _ => False
def x_hasComm (v1 : Int) (σ : S) (Q : Int → S → Prop) : Prop := x_S_hasComm 44 0 [v1] σ Q (fun _ => False)
def x_layPairsAt_L71 (G : Orc) (v1 : Int) (v2 : Int) (v3 : Int) (v5 : Int) (σ : S) (Q : Int → S → Prop) (E : S → Prop) : Prop :=
  ∀ X71 : Int → S → Prop, (∀ (v5 : Int) (σ : S), (inb v3 200000 ∧ (if v5 < gA σ 68 v3 then inb (gI σ 149) 80 ∧ ∀ σ_12, σ_12 = pA σ 95 (gI σ 149) v3 → ∀ σ_16, σ_16 = pI σ_12 149 (w32 (gI σ_12 149 + 1)) → inb (gI σ_12 149) 80 ∧ ∀ σ_18, σ_18 = pA σ_16 96 (gI σ_12 149) v5 → x_at v3 v5 σ_18 (fun r_22 σ_21 => G 0 [v1, v2, r_22, 1] σ_21 (fun _ σ_23 => ∀ σ_26, σ_26 = pI σ_23 149 (w32 (gI σ_23 149 - 1)) → X71 (w32 (v5 + 1)) σ_26) E) else Q 0 σ)) → X71 v5 σ) → X71 v5 σ
def x_layPairsAt_j68 (G : Orc) (v1 : Int) (v2 : Int) (v3 : Int) (σ : S) (Q : Int → S → Prop) (E : S → Prop) : Prop :=
  x_layPairsAt_L71 G v1 v2 v3 0 σ Q E
def x_layPairsAt_j44 (G : Orc) (v1 : Int) (v2 : Int) (v3 : Int) (σ : S) (Q : Int → S → Prop) (E : S → Prop) : Prop :=
  inb 0 400 ∧ ∀ σ_32, σ_32 = pA σ 84 0 v1 → inb 0 400 ∧ ∀ σ_35, σ_35 = pA σ_32 85 0 v3 → ∀ σ_38, σ_38 = pI σ_35 199 0 → x_unify 1 σ_38 (fun _ σ_40 => x_layPairsAt_j68 G v1 v2 v3 σ_40 Q E) E
def x_layPairsAt_L23 (G : Orc) (v1 : Int) (v2 : Int) (v3 : Int) (v5 : Int) (σ : S) (Q : Int → S → Prop) (E : S → Prop) : Prop :=
  ∀ X23 : Int → S → Prop, (∀ (v5 : Int) (σ : S), ((if v5 < 60 then inb v5 60 ∧ ∀ σ_42, σ_42 = pA σ 123 v5 0 → X23 (w32 (v5 + 1)) σ_42 else x_layPairsAt_j44 G v1 v2 v3 σ Q E)) → X23 v5 σ) → X23 v5 σ
def x_layPairsAt_F (G : Orc) (v1 : Int) (v2 : Int) (v3 : Int) (v4 : Int) (σ : S) (Q : Int → S → Prop) (E : S → Prop) : Prop :=
  inb v3 200000 ∧ (if gA σ 66 v3 < 0 then Q 0 σ else (if v4 = 0 then x_layPairsAt_j68 G v1 v2 v3 σ Q E else ∀ σ_28, σ_28 = pI σ 197 v2 → x_layPairsAt_L23 G v1 v2 v3 0 σ_28 Q E))
def x_S_layPairsAt : Nat → Orc
  | 0 => fun _ _ _ _ _ => False
  | n + 1 => fun i a σ Q E => match i, a with
    | 0, [v1, v2, v3, v4] => x_layPairsAt_F (x_S_layPairsAt n) v1 v2 v3 v4 σ Q E
    | _, _ => False
def x_layPairsAt (v1 : Int) (v2 : Int) (v3 : Int) (v4 : Int) (σ : S) (Q : Int → S → Prop) (E : S → Prop) : Prop := x_S_layPairsAt 44 0 [v1, v2, v3, v4] σ Q E
def x_layPairs_j144 (v2 : Int) (σ : S) (Q : Int → S → Prop) (E : S → Prop) (X29 : Int → S → Prop) : Prop :=
  X29 (w32 (v2 + 1)) σ
def x_layPairs_j135 (v2 : Int) (v3 : Int) (s0 : Int) (s1 : Int) (s2 : Int) (s3 : Int) (σ : S) (Q : Int → S → Prop) (E : S → Prop) (X29 : Int → S → Prop) (X39 : Int → S → Prop) : Prop :=
  x_layPairsAt s3 s2 s1 s0 σ (fun _ σ_41 => X39 (w32 (v3 + 1)) σ_41) E
def x_layPairs_j130 (v2 : Int) (v3 : Int) (s0 : Int) (s1 : Int) (s2 : Int) (σ : S) (Q : Int → S → Prop) (E : S → Prop) (X29 : Int → S → Prop) (X39 : Int → S → Prop) : Prop :=
  x_layPairs_j135 v2 v3 1 s0 s1 s2 σ Q E X29 X39
def x_layPairs_j134 (v2 : Int) (v3 : Int) (s0 : Int) (s1 : Int) (s2 : Int) (σ : S) (Q : Int → S → Prop) (E : S → Prop) (X29 : Int → S → Prop) (X39 : Int → S → Prop) : Prop :=
  x_layPairs_j135 v2 v3 0 s0 s1 s2 σ Q E X29 X39
def x_layPairs_L39 (v2 : Int) (v3 : Int) (σ : S) (Q : Int → S → Prop) (E : S → Prop) (X29 : Int → S → Prop) : Prop :=
  ∀ X39 : Int → S → Prop, (∀ (v3 : Int) (σ : S), ((if v3 < gI σ 42 then ∀ σ_17, σ_17 = pI σ 200 v2 → ∀ σ_19, σ_19 = pI σ_17 201 v3 → ∀ σ_21, σ_21 = pI σ_19 149 0 → inb v2 70 ∧ x_apart (gA σ_21 78 v2) σ_21 (fun r_26 σ_25 => inb v2 70 ∧ x_apart (gA σ_25 79 v2) σ_25 (fun r_31 σ_30 => inb v3 70 ∧ ∀ σ_35, σ_35 = pI σ_30 198 (gA σ_30 79 v3) → inb v3 70 ∧ (if v2 < v3 then x_layPairs_j130 v2 v3 (gA σ_35 78 v3) r_31 r_26 σ_35 Q E X29 X39 else (if v2 = v3 then inb v3 70 ∧ x_hasComm (gA σ_35 78 v3) σ_35 (fun r_48 σ_47 => (if r_48 = 0 then x_layPairs_j134 v2 v3 (gA σ_35 78 v3) r_31 r_26 σ_47 Q E X29 X39 else x_layPairs_j130 v2 v3 (gA σ_35 78 v3) r_31 r_26 σ_47 Q E X29 X39)) else x_layPairs_j134 v2 v3 (gA σ_35 78 v3) r_31 r_26 σ_35 Q E X29 X39))) E) E else x_layPairs_j144 v2 σ Q E X29)) → X39 v3 σ) → X39 v3 σ
def x_layPairs_L29 (v2 : Int) (σ : S) (Q : Int → S → Prop) (E : S → Prop) : Prop :=
  ∀ X29 : Int → S → Prop, (∀ (v2 : Int) (σ : S), ((if v2 < gI σ 42 then x_layPairs_L39 v2 0 σ Q E X29 else Q 0 σ)) → X29 v2 σ) → X29 v2 σ
def x_layPairs (v1 : Int) (σ : S) (Q : Int → S → Prop) (E : S → Prop) : Prop :=
  ∀ σ_1, σ_1 = pL σ 130 3000000 → ∀ σ_3, σ_3 = pI σ_1 190 0 → ∀ σ_5, σ_5 = pI σ_3 191 0 → ∀ σ_7, σ_7 = pI σ_5 192 0 → ∀ σ_9, σ_9 = pI σ_7 193 v1 → x_layPairs_L29 0 σ_9 Q E
def x_pairs_j59 (σ : S) (Q : Int → S → Prop) : Prop :=
  x_stopped σ (fun r_13 σ_12 => Q r_13 σ_12)
def x_pairs (v1 : Int) (σ : S) (Q : Int → S → Prop) : Prop :=
  x_within v1 0 2 σ (fun r_2 σ_1 => (if r_2 = 0 then Q (-1) σ_1 else x_begin σ_1 (fun _ σ_5 => x_mayPair σ_5 (fun r_7 σ_6 => (if r_7 = 0 then Q (-2) σ_6 else x_layPairs (-2) σ_6 (fun _ σ_10 => Q (if v1 = 0 then gI σ_10 190 else (if v1 = 1 then gI σ_10 191 else gI σ_10 192)) σ_10) (fun σ_11 => x_pairs_j59 σ_11 Q))))))
def x_pair_j105 (σ : S) (Q : Int → S → Prop) : Prop :=
  x_stopped σ (fun r_15 σ_14 => Q r_15 σ_14)
def x_pair (v1 : Int) (v2 : Int) (σ : S) (Q : Int → S → Prop) : Prop :=
  (if v1 < 0 then Q (-1) σ else x_within v2 0 3 σ (fun r_4 σ_3 => (if r_4 = 0 then Q (-1) σ_3 else x_begin σ_3 (fun _ σ_7 => x_mayPair σ_7 (fun r_9 σ_8 => (if r_9 = 0 then Q (-1) σ_8 else x_layPairs v1 σ_8 (fun _ σ_12 => (if v1 < gI σ_12 191 then (if v2 < 2 then Q (if v2 = 0 then gI σ_12 195 else gI σ_12 196) σ_12 else (if gI σ_12 111 = 200 then Q (-3) σ_12 else x_loadFrom 124 (if v2 = 2 then 0 else 80) σ_12 (fun r_29 σ_28 => x_newHandle r_29 σ_28 (fun r_32 σ_31 => Q r_32 σ_31)) (fun σ_30 => x_pair_j105 σ_30 Q))) else Q (-1) σ_12)) (fun σ_13 => x_pair_j105 σ_13 Q)))))))

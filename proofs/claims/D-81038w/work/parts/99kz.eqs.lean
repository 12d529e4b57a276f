/-! equations of the recursive groups -/
theorem xe_solve_0 (n : Nat) (σ : S) (Q : Int → S → Prop) (E : S → Prop) : x_S_solve (n + 1) 0 [] σ Q E = x_solve_F (x_S_solve n) σ Q E := rfl
theorem xe_solve_1 (n : Nat) (a b : Int) (σ : S) (Q : Int → S → Prop) (E : S → Prop) : x_S_solve (n + 1) 1 [a, b] σ Q E = x_solveVariable_F (x_S_solve n) a b σ Q E := rfl
theorem xe_solve_2 (n : Nat) (a b c : Int) (σ : S) (Q : Int → S → Prop) (E : S → Prop) : x_S_solve (n + 1) 2 [a, b, c] σ Q E = x_solvePair_F (x_S_solve n) a b c σ Q E := rfl
theorem xe_solve_3 (n : Nat) (a b c : Int) (σ : S) (Q : Int → S → Prop) (E : S → Prop) : x_S_solve (n + 1) 3 [a, b, c] σ Q E = x_solveTwo_F (x_S_solve n) a b c σ Q E := rfl
theorem xe_solve_4 (n : Nat) (a b c : Int) (σ : S) (Q : Int → S → Prop) (E : S → Prop) : x_S_solve (n + 1) 4 [a, b, c] σ Q E = x_solveAssoc_F (x_S_solve n) a b c σ Q E := rfl
theorem xe_solve_5 (n : Nat) (a b c : Int) (σ : S) (Q : Int → S → Prop) (E : S → Prop) : x_S_solve (n + 1) 5 [a, b, c] σ Q E = x_share_F (x_S_solve n) a b c σ Q E := rfl
theorem xe_solve_6 (n : Nat) (a b c d : Int) (σ : S) (Q : Int → S → Prop) (E : S → Prop) : x_S_solve (n + 1) 6 [a, b, c, d] σ Q E = x_shareOne_F (x_S_solve n) a b c d σ Q E := rfl
theorem te_solve_0 (n : Nat) (a : Int) (σ : S) (Q : Int → S → Prop) (E : S → Prop) : t_S_solve (n + 1) 0 [a] σ Q E = t_solve_F (t_S_solve n) a σ Q E := rfl
theorem te_solve_1 (n : Nat) (a b c : Int) (σ : S) (Q : Int → S → Prop) (E : S → Prop) : t_S_solve (n + 1) 1 [a, b, c] σ Q E = t_solvePair_F (t_S_solve n) a b c σ Q E := rfl
theorem te_solve_2 (n : Nat) (a : Int) (σ : S) (Q : Int → S → Prop) (E : S → Prop) : t_S_solve (n + 1) 2 [a] σ Q E = t_solveSide_F (t_S_solve n) a σ Q E := rfl
theorem te_solve_3 (n : Nat) (a : Int) (σ : S) (Q : Int → S → Prop) (E : S → Prop) : t_S_solve (n + 1) 3 [a] σ Q E = t_solveAny_F (t_S_solve n) a σ Q E := rfl

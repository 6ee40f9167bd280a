/-! the reference: methods without loops (by program) -/
set_option maxRecDepth 100000
theorem c_X7_isIn_T {fi fl : HI} {cr : HR} {sh : HS} {nx sl d : Nat} {x0 x1 x2 : Int} (h1 : -2147483648 ≤ x0 ∧ x0 < 2147483648 := by omega) (h2 : -2147483648 ≤ x1 ∧ x1 < 2147483648 := by omega) (h3 : x0 < x1 := by omega) :
  CD mt (d + 1) 154 [iv x0, iv x1, iv x2] (G fi fl cr sh nx sl) = some (.returned (some (iv 0)), (G fi fl cr sh nx sl)) :=
  Eq.trans (CD_at (ls := [iv x0, iv x1, iv x2]) _ _ mt_X7_isIn rfl rfl) <|
  Eq.trans (e_ldI lin_X7_isIn n_X7_isIn_0 rfl) <|
  Eq.trans (e_ldI lin_X7_isIn n_X7_isIn_1 rfl) <|
  Eq.trans (e_IcLtT lin_X7_isIn n_X7_isIn_2 h1 h2 h3) <|
  Eq.trans (e_KI lin_X7_isIn n_X7_isIn_14 k_0) <|
  e_retZ lin_X7_isIn n_X7_isIn_15 (by decide)
theorem c_X7_isIn_FT {fi fl : HI} {cr : HR} {sh : HS} {nx sl d : Nat} {x0 x1 x2 : Int} (h1 : -2147483648 ≤ x0 ∧ x0 < 2147483648 := by omega) (h2 : -2147483648 ≤ x1 ∧ x1 < 2147483648 := by omega) (h3 : x1 ≤ x0 := by omega) (h4 : -2147483648 ≤ x2 ∧ x2 < 2147483648 := by omega) (h5 : x0 ≤ x2 := by omega) :
  CD mt (d + 1) 154 [iv x0, iv x1, iv x2] (G fi fl cr sh nx sl) = some (.returned (some (iv 1)), (G fi fl cr sh nx sl)) :=
  Eq.trans (CD_at (ls := [iv x0, iv x1, iv x2]) _ _ mt_X7_isIn rfl rfl) <|
  Eq.trans (e_ldI lin_X7_isIn n_X7_isIn_0 rfl) <|
  Eq.trans (e_ldI lin_X7_isIn n_X7_isIn_1 rfl) <|
  Eq.trans (e_IcLtF lin_X7_isIn n_X7_isIn_2 h1 h2 h3) <|
  Eq.trans (e_ldI lin_X7_isIn n_X7_isIn_5 rfl) <|
  Eq.trans (e_ldI lin_X7_isIn n_X7_isIn_6 rfl) <|
  Eq.trans (e_IcLeT lin_X7_isIn n_X7_isIn_7 h1 h4 h5) <|
  Eq.trans (e_KI lin_X7_isIn n_X7_isIn_10 k_1) <|
  Eq.trans (e_goto lin_X7_isIn n_X7_isIn_11) <|
  e_retZ lin_X7_isIn n_X7_isIn_15 (by decide)
theorem c_X7_isIn_FF {fi fl : HI} {cr : HR} {sh : HS} {nx sl d : Nat} {x0 x1 x2 : Int} (h1 : -2147483648 ≤ x0 ∧ x0 < 2147483648 := by omega) (h2 : -2147483648 ≤ x1 ∧ x1 < 2147483648 := by omega) (h3 : x1 ≤ x0 := by omega) (h4 : -2147483648 ≤ x2 ∧ x2 < 2147483648 := by omega) (h5 : x2 < x0 := by omega) :
  CD mt (d + 1) 154 [iv x0, iv x1, iv x2] (G fi fl cr sh nx sl) = some (.returned (some (iv 0)), (G fi fl cr sh nx sl)) :=
  Eq.trans (CD_at (ls := [iv x0, iv x1, iv x2]) _ _ mt_X7_isIn rfl rfl) <|
  Eq.trans (e_ldI lin_X7_isIn n_X7_isIn_0 rfl) <|
  Eq.trans (e_ldI lin_X7_isIn n_X7_isIn_1 rfl) <|
  Eq.trans (e_IcLtF lin_X7_isIn n_X7_isIn_2 h1 h2 h3) <|
  Eq.trans (e_ldI lin_X7_isIn n_X7_isIn_5 rfl) <|
  Eq.trans (e_ldI lin_X7_isIn n_X7_isIn_6 rfl) <|
  Eq.trans (e_IcLeF lin_X7_isIn n_X7_isIn_7 h1 h4 h5) <|
  Eq.trans (e_KI lin_X7_isIn n_X7_isIn_14 k_0) <|
  e_retZ lin_X7_isIn n_X7_isIn_15 (by decide)
theorem b_X7_isIn_T {fi fl : HI} {cr : HR} {sh : HS} {nx sl d : Nat} {x0 x1 x2 : Int} (rx0 : -2147483648 ≤ x0 ∧ x0 < 2147483648) (rx1 : -2147483648 ≤ x1 ∧ x1 < 2147483648) (rx2 : -2147483648 ≤ x2 ∧ x2 < 2147483648) (h : x1 ≤ x0 ∧ x0 ≤ x2) : CD mt (d + 1) 154 [iv x0, iv x1, iv x2] (G fi fl cr sh nx sl) = some (.returned (some (iv 1)), (G fi fl cr sh nx sl)) := by
  exact c_X7_isIn_FT (by omega) (by omega) (by omega) (by omega) (by omega)
theorem b_X7_isIn_F {fi fl : HI} {cr : HR} {sh : HS} {nx sl d : Nat} {x0 x1 x2 : Int} (rx0 : -2147483648 ≤ x0 ∧ x0 < 2147483648) (rx1 : -2147483648 ≤ x1 ∧ x1 < 2147483648) (rx2 : -2147483648 ≤ x2 ∧ x2 < 2147483648) (h : ¬ (x1 ≤ x0 ∧ x0 ≤ x2)) : CD mt (d + 1) 154 [iv x0, iv x1, iv x2] (G fi fl cr sh nx sl) = some (.returned (some (iv 0)), (G fi fl cr sh nx sl)) := by
  rcases Classical.em (x1 ≤ x0) with q | q <;> first | exact c_X7_isIn_T (by omega) (by omega) (by omega) | exact c_X7_isIn_FF (by omega) (by omega) (by omega) (by omega) (by omega)
theorem c_X7_isSmall_T {fi fl : HI} {cr : HR} {sh : HS} {nx sl d : Nat} {x0 : Int} (h1 : -2147483648 ≤ x0 ∧ x0 < 2147483648 := by omega) (h2 : x0 < 97 := by omega) :
  CD mt (d + 1) 164 [iv x0] (G fi fl cr sh nx sl) = some (.returned (some (iv 0)), (G fi fl cr sh nx sl)) :=
  Eq.trans (CD_at (ls := [iv x0]) _ _ mt_X7_isSmall rfl rfl) <|
  Eq.trans (e_ldI lin_X7_isSmall n_X7_isSmall_0 rfl) <|
  Eq.trans (e_KI lin_X7_isSmall n_X7_isSmall_1 k_97) <|
  Eq.trans (e_IcLtT lin_X7_isSmall n_X7_isSmall_3 h1 (by decide) h2) <|
  Eq.trans (e_KI lin_X7_isSmall n_X7_isSmall_16 k_0) <|
  e_retZ lin_X7_isSmall n_X7_isSmall_17 (by decide)
theorem c_X7_isSmall_FT {fi fl : HI} {cr : HR} {sh : HS} {nx sl d : Nat} {x0 : Int} (h1 : -2147483648 ≤ x0 ∧ x0 < 2147483648 := by omega) (h2 : 97 ≤ x0 := by omega) (h3 : x0 ≤ 122 := by omega) :
  CD mt (d + 1) 164 [iv x0] (G fi fl cr sh nx sl) = some (.returned (some (iv 1)), (G fi fl cr sh nx sl)) :=
  Eq.trans (CD_at (ls := [iv x0]) _ _ mt_X7_isSmall rfl rfl) <|
  Eq.trans (e_ldI lin_X7_isSmall n_X7_isSmall_0 rfl) <|
  Eq.trans (e_KI lin_X7_isSmall n_X7_isSmall_1 k_97) <|
  Eq.trans (e_IcLtF lin_X7_isSmall n_X7_isSmall_3 h1 (by decide) h2) <|
  Eq.trans (e_ldI lin_X7_isSmall n_X7_isSmall_6 rfl) <|
  Eq.trans (e_KI lin_X7_isSmall n_X7_isSmall_7 k_122) <|
  Eq.trans (e_IcLeT lin_X7_isSmall n_X7_isSmall_9 h1 (by decide) h3) <|
  Eq.trans (e_KI lin_X7_isSmall n_X7_isSmall_12 k_1) <|
  Eq.trans (e_goto lin_X7_isSmall n_X7_isSmall_13) <|
  e_retZ lin_X7_isSmall n_X7_isSmall_17 (by decide)
theorem c_X7_isSmall_FF {fi fl : HI} {cr : HR} {sh : HS} {nx sl d : Nat} {x0 : Int} (h1 : -2147483648 ≤ x0 ∧ x0 < 2147483648 := by omega) (h2 : 97 ≤ x0 := by omega) (h3 : 122 < x0 := by omega) :
  CD mt (d + 1) 164 [iv x0] (G fi fl cr sh nx sl) = some (.returned (some (iv 0)), (G fi fl cr sh nx sl)) :=
  Eq.trans (CD_at (ls := [iv x0]) _ _ mt_X7_isSmall rfl rfl) <|
  Eq.trans (e_ldI lin_X7_isSmall n_X7_isSmall_0 rfl) <|
  Eq.trans (e_KI lin_X7_isSmall n_X7_isSmall_1 k_97) <|
  Eq.trans (e_IcLtF lin_X7_isSmall n_X7_isSmall_3 h1 (by decide) h2) <|
  Eq.trans (e_ldI lin_X7_isSmall n_X7_isSmall_6 rfl) <|
  Eq.trans (e_KI lin_X7_isSmall n_X7_isSmall_7 k_122) <|
  Eq.trans (e_IcLeF lin_X7_isSmall n_X7_isSmall_9 h1 (by decide) h3) <|
  Eq.trans (e_KI lin_X7_isSmall n_X7_isSmall_16 k_0) <|
  e_retZ lin_X7_isSmall n_X7_isSmall_17 (by decide)
theorem b_X7_isSmall_T {fi fl : HI} {cr : HR} {sh : HS} {nx sl d : Nat} {x0 : Int} (rx0 : -2147483648 ≤ x0 ∧ x0 < 2147483648) (h : 97 ≤ x0 ∧ x0 ≤ 122) : CD mt (d + 1) 164 [iv x0] (G fi fl cr sh nx sl) = some (.returned (some (iv 1)), (G fi fl cr sh nx sl)) := by
  exact c_X7_isSmall_FT (by omega) (by omega) (by omega)
theorem b_X7_isSmall_F {fi fl : HI} {cr : HR} {sh : HS} {nx sl d : Nat} {x0 : Int} (rx0 : -2147483648 ≤ x0 ∧ x0 < 2147483648) (h : ¬ (97 ≤ x0 ∧ x0 ≤ 122)) : CD mt (d + 1) 164 [iv x0] (G fi fl cr sh nx sl) = some (.returned (some (iv 0)), (G fi fl cr sh nx sl)) := by
  rcases Classical.em (97 ≤ x0) with q | q <;> first | exact c_X7_isSmall_T (by omega) (by omega) | exact c_X7_isSmall_FF (by omega) (by omega) (by omega)
theorem c_X7_isDigit_T {fi fl : HI} {cr : HR} {sh : HS} {nx sl d : Nat} {x0 : Int} (h1 : -2147483648 ≤ x0 ∧ x0 < 2147483648 := by omega) (h2 : x0 < 48 := by omega) :
  CD mt (d + 1) 165 [iv x0] (G fi fl cr sh nx sl) = some (.returned (some (iv 0)), (G fi fl cr sh nx sl)) :=
  Eq.trans (CD_at (ls := [iv x0]) _ _ mt_X7_isDigit rfl rfl) <|
  Eq.trans (e_ldI lin_X7_isDigit n_X7_isDigit_0 rfl) <|
  Eq.trans (e_KI lin_X7_isDigit n_X7_isDigit_1 k_48) <|
  Eq.trans (e_IcLtT lin_X7_isDigit n_X7_isDigit_3 h1 (by decide) h2) <|
  Eq.trans (e_KI lin_X7_isDigit n_X7_isDigit_16 k_0) <|
  e_retZ lin_X7_isDigit n_X7_isDigit_17 (by decide)
theorem c_X7_isDigit_FT {fi fl : HI} {cr : HR} {sh : HS} {nx sl d : Nat} {x0 : Int} (h1 : -2147483648 ≤ x0 ∧ x0 < 2147483648 := by omega) (h2 : 48 ≤ x0 := by omega) (h3 : x0 ≤ 57 := by omega) :
  CD mt (d + 1) 165 [iv x0] (G fi fl cr sh nx sl) = some (.returned (some (iv 1)), (G fi fl cr sh nx sl)) :=
  Eq.trans (CD_at (ls := [iv x0]) _ _ mt_X7_isDigit rfl rfl) <|
  Eq.trans (e_ldI lin_X7_isDigit n_X7_isDigit_0 rfl) <|
  Eq.trans (e_KI lin_X7_isDigit n_X7_isDigit_1 k_48) <|
  Eq.trans (e_IcLtF lin_X7_isDigit n_X7_isDigit_3 h1 (by decide) h2) <|
  Eq.trans (e_ldI lin_X7_isDigit n_X7_isDigit_6 rfl) <|
  Eq.trans (e_KI lin_X7_isDigit n_X7_isDigit_7 k_57) <|
  Eq.trans (e_IcLeT lin_X7_isDigit n_X7_isDigit_9 h1 (by decide) h3) <|
  Eq.trans (e_KI lin_X7_isDigit n_X7_isDigit_12 k_1) <|
  Eq.trans (e_goto lin_X7_isDigit n_X7_isDigit_13) <|
  e_retZ lin_X7_isDigit n_X7_isDigit_17 (by decide)
theorem c_X7_isDigit_FF {fi fl : HI} {cr : HR} {sh : HS} {nx sl d : Nat} {x0 : Int} (h1 : -2147483648 ≤ x0 ∧ x0 < 2147483648 := by omega) (h2 : 48 ≤ x0 := by omega) (h3 : 57 < x0 := by omega) :
  CD mt (d + 1) 165 [iv x0] (G fi fl cr sh nx sl) = some (.returned (some (iv 0)), (G fi fl cr sh nx sl)) :=
  Eq.trans (CD_at (ls := [iv x0]) _ _ mt_X7_isDigit rfl rfl) <|
  Eq.trans (e_ldI lin_X7_isDigit n_X7_isDigit_0 rfl) <|
  Eq.trans (e_KI lin_X7_isDigit n_X7_isDigit_1 k_48) <|
  Eq.trans (e_IcLtF lin_X7_isDigit n_X7_isDigit_3 h1 (by decide) h2) <|
  Eq.trans (e_ldI lin_X7_isDigit n_X7_isDigit_6 rfl) <|
  Eq.trans (e_KI lin_X7_isDigit n_X7_isDigit_7 k_57) <|
  Eq.trans (e_IcLeF lin_X7_isDigit n_X7_isDigit_9 h1 (by decide) h3) <|
  Eq.trans (e_KI lin_X7_isDigit n_X7_isDigit_16 k_0) <|
  e_retZ lin_X7_isDigit n_X7_isDigit_17 (by decide)
theorem b_X7_isDigit_T {fi fl : HI} {cr : HR} {sh : HS} {nx sl d : Nat} {x0 : Int} (rx0 : -2147483648 ≤ x0 ∧ x0 < 2147483648) (h : 48 ≤ x0 ∧ x0 ≤ 57) : CD mt (d + 1) 165 [iv x0] (G fi fl cr sh nx sl) = some (.returned (some (iv 1)), (G fi fl cr sh nx sl)) := by
  exact c_X7_isDigit_FT (by omega) (by omega) (by omega)
theorem b_X7_isDigit_F {fi fl : HI} {cr : HR} {sh : HS} {nx sl d : Nat} {x0 : Int} (rx0 : -2147483648 ≤ x0 ∧ x0 < 2147483648) (h : ¬ (48 ≤ x0 ∧ x0 ≤ 57)) : CD mt (d + 1) 165 [iv x0] (G fi fl cr sh nx sl) = some (.returned (some (iv 0)), (G fi fl cr sh nx sl)) := by
  rcases Classical.em (48 ≤ x0) with q | q <;> first | exact c_X7_isDigit_T (by omega) (by omega) | exact c_X7_isDigit_FF (by omega) (by omega) (by omega)
theorem c_X7_isBox_T {fi fl : HI} {cr : HR} {sh : HS} {nx sl d : Nat} {x0 : Int} (h1 : -2147483648 ≤ x0 ∧ x0 < 2147483648 := by omega) (h2 : 0 ≤ x0 ∧ x0 ≤ 7 := by omega) :
  CD mt (d + 2) 153 [iv x0] (G fi fl cr sh nx sl) = some (.returned (some (iv 1)), (G fi fl cr sh nx sl)) :=
  Eq.trans (CD_at (ls := [iv x0]) _ _ mt_X7_isBox rfl rfl) <|
  Eq.trans (e_ldI lin_X7_isBox n_X7_isBox_0 rfl) <|
  Eq.trans (e_KI lin_X7_isBox n_X7_isBox_1 k_0) <|
  Eq.trans (e_KI lin_X7_isBox n_X7_isBox_2 k_7) <|
  Eq.trans (e_calS lin_X7_isBox n_X7_isBox_4 rfl rfl (b_X7_isIn_T h1 (by decide) (by decide) h2)) <|
  e_retZ lin_X7_isBox n_X7_isBox_7 (by decide)
theorem c_X7_isBox_F {fi fl : HI} {cr : HR} {sh : HS} {nx sl d : Nat} {x0 : Int} (h1 : -2147483648 ≤ x0 ∧ x0 < 2147483648 := by omega) (h2 : ¬ (0 ≤ x0 ∧ x0 ≤ 7) := by omega) :
  CD mt (d + 2) 153 [iv x0] (G fi fl cr sh nx sl) = some (.returned (some (iv 0)), (G fi fl cr sh nx sl)) :=
  Eq.trans (CD_at (ls := [iv x0]) _ _ mt_X7_isBox rfl rfl) <|
  Eq.trans (e_ldI lin_X7_isBox n_X7_isBox_0 rfl) <|
  Eq.trans (e_KI lin_X7_isBox n_X7_isBox_1 k_0) <|
  Eq.trans (e_KI lin_X7_isBox n_X7_isBox_2 k_7) <|
  Eq.trans (e_calS lin_X7_isBox n_X7_isBox_4 rfl rfl (b_X7_isIn_F h1 (by decide) (by decide) h2)) <|
  e_retZ lin_X7_isBox n_X7_isBox_7 (by decide)
theorem b_X7_isBox_T {fi fl : HI} {cr : HR} {sh : HS} {nx sl d : Nat} {x0 : Int} (rx0 : -2147483648 ≤ x0 ∧ x0 < 2147483648) (h : 0 ≤ x0 ∧ x0 ≤ 7) : CD mt (d + 2) 153 [iv x0] (G fi fl cr sh nx sl) = some (.returned (some (iv 1)), (G fi fl cr sh nx sl)) := by
  exact c_X7_isBox_T (by omega) (by omega)
theorem b_X7_isBox_F {fi fl : HI} {cr : HR} {sh : HS} {nx sl d : Nat} {x0 : Int} (rx0 : -2147483648 ≤ x0 ∧ x0 < 2147483648) (h : ¬ (0 ≤ x0 ∧ x0 ≤ 7)) : CD mt (d + 2) 153 [iv x0] (G fi fl cr sh nx sl) = some (.returned (some (iv 0)), (G fi fl cr sh nx sl)) := by
  exact c_X7_isBox_F (by omega) (by omega)
theorem c_X7_takesOnly_T {fi fl : HI} {cr : HR} {sh : HS} {nx sl d : Nat} {x0 : Int} (h1 : -2147483648 ≤ x0 ∧ x0 < 2147483648 := by omega) (h2 : 96 ≤ x0 ∧ x0 ≤ 180 := by omega) :
  CD mt (d + 2) 173 [iv x0] (G fi fl cr sh nx sl) = some (.returned (some (iv 1)), (G fi fl cr sh nx sl)) :=
  Eq.trans (CD_at (ls := [iv x0]) _ _ mt_X7_takesOnly rfl rfl) <|
  Eq.trans (e_ldI lin_X7_takesOnly n_X7_takesOnly_0 rfl) <|
  Eq.trans (e_KI lin_X7_takesOnly n_X7_takesOnly_1 k_96) <|
  Eq.trans (e_KI lin_X7_takesOnly n_X7_takesOnly_3 k_180) <|
  Eq.trans (e_calS lin_X7_takesOnly n_X7_takesOnly_6 rfl rfl (b_X7_isIn_T h1 (by decide) (by decide) h2)) <|
  e_retZ lin_X7_takesOnly n_X7_takesOnly_9 (by decide)
theorem c_X7_takesOnly_F {fi fl : HI} {cr : HR} {sh : HS} {nx sl d : Nat} {x0 : Int} (h1 : -2147483648 ≤ x0 ∧ x0 < 2147483648 := by omega) (h2 : ¬ (96 ≤ x0 ∧ x0 ≤ 180) := by omega) :
  CD mt (d + 2) 173 [iv x0] (G fi fl cr sh nx sl) = some (.returned (some (iv 0)), (G fi fl cr sh nx sl)) :=
  Eq.trans (CD_at (ls := [iv x0]) _ _ mt_X7_takesOnly rfl rfl) <|
  Eq.trans (e_ldI lin_X7_takesOnly n_X7_takesOnly_0 rfl) <|
  Eq.trans (e_KI lin_X7_takesOnly n_X7_takesOnly_1 k_96) <|
  Eq.trans (e_KI lin_X7_takesOnly n_X7_takesOnly_3 k_180) <|
  Eq.trans (e_calS lin_X7_takesOnly n_X7_takesOnly_6 rfl rfl (b_X7_isIn_F h1 (by decide) (by decide) h2)) <|
  e_retZ lin_X7_takesOnly n_X7_takesOnly_9 (by decide)
theorem b_X7_takesOnly_T {fi fl : HI} {cr : HR} {sh : HS} {nx sl d : Nat} {x0 : Int} (rx0 : -2147483648 ≤ x0 ∧ x0 < 2147483648) (h : 96 ≤ x0 ∧ x0 ≤ 180) : CD mt (d + 2) 173 [iv x0] (G fi fl cr sh nx sl) = some (.returned (some (iv 1)), (G fi fl cr sh nx sl)) := by
  exact c_X7_takesOnly_T (by omega) (by omega)
theorem b_X7_takesOnly_F {fi fl : HI} {cr : HR} {sh : HS} {nx sl d : Nat} {x0 : Int} (rx0 : -2147483648 ≤ x0 ∧ x0 < 2147483648) (h : ¬ (96 ≤ x0 ∧ x0 ≤ 180)) : CD mt (d + 2) 173 [iv x0] (G fi fl cr sh nx sl) = some (.returned (some (iv 0)), (G fi fl cr sh nx sl)) := by
  exact c_X7_takesOnly_F (by omega) (by omega)
theorem c_X7_thrown {fi fl : HI} {cr : HR} {sh : HS} {nx sl d : Nat}  (hS : Stat cr sh) :
  CD mt (d + 1) 147 [.ref 574] (G fi fl cr sh nx sl) = some (.returned (some (iv (fi 574 0))), (G fi fl cr sh nx sl)) :=
  Eq.trans (CD_at (ls := [.ref 574]) _ _ mt_X7_thrown rfl rfl) <|
  Eq.trans (e_ldA lin_X7_thrown n_X7_thrown_0 rfl) <|
  Eq.trans (e_getI lin_X7_thrown n_X7_thrown_1 (s_574 hS) rfl (j := 0) rfl (v := fi 574 0) rfl) <|
  e_retI lin_X7_thrown n_X7_thrown_4
theorem c_X7_end_T {fi fl : HI} {cr : HR} {sh : HS} {nx sl d : Nat} {x1 : Int} (hS : Stat cr sh) (h1 : -2147483648 ≤ x1 ∧ x1 < 2147483648 := by omega) (h2 : x1 < 0 := by omega) :
  CD mt (d + 1) 150 [.ref 574, iv x1] (G fi fl cr sh nx sl) = some (.returned (some (iv 0)), (G (up fi 574 0 0) fl cr sh nx sl)) :=
  Eq.trans (CD_at (ls := [.ref 574, iv x1]) _ _ mt_X7_end rfl rfl) <|
  Eq.trans (e_ldA lin_X7_end n_X7_end_0 rfl) <|
  Eq.trans (e_KI lin_X7_end n_X7_end_1 k_0) <|
  Eq.trans (e_putI lin_X7_end n_X7_end_2 rfl (s_574 hS) rfl (j := 0) rfl) <|
  Eq.trans (e_ldI lin_X7_end n_X7_end_5 rfl) <|
  Eq.trans (e_IfLtT lin_X7_end n_X7_end_6 h1 h2) <|
  Eq.trans (e_KI lin_X7_end n_X7_end_17 k_0) <|
  e_retZ lin_X7_end n_X7_end_18 (by decide)
theorem c_X7_end_FT {fi fl : HI} {cr : HR} {sh : HS} {nx sl d : Nat} {x1 : Int} (hS : Stat cr sh) (h1 : -2147483648 ≤ x1 ∧ x1 < 2147483648 := by omega) (h2 : 0 ≤ x1 := by omega) (h3 : -2147483648 ≤ fi 574 2 ∧ fi 574 2 < 2147483648 := by omega) (h4 : x1 ≤ fi 574 2 := by omega) :
  CD mt (d + 1) 150 [.ref 574, iv x1] (G fi fl cr sh nx sl) = some (.returned (some (iv 1)), (G (up (up fi 574 0 0) 574 2 x1) fl cr sh nx sl)) :=
  Eq.trans (CD_at (ls := [.ref 574, iv x1]) _ _ mt_X7_end rfl rfl) <|
  Eq.trans (e_ldA lin_X7_end n_X7_end_0 rfl) <|
  Eq.trans (e_KI lin_X7_end n_X7_end_1 k_0) <|
  Eq.trans (e_putI lin_X7_end n_X7_end_2 rfl (s_574 hS) rfl (j := 0) rfl) <|
  Eq.trans (e_ldI lin_X7_end n_X7_end_5 rfl) <|
  Eq.trans (e_IfLtF lin_X7_end n_X7_end_6 h1 h2) <|
  Eq.trans (e_ldI lin_X7_end n_X7_end_9 rfl) <|
  Eq.trans (e_ldA lin_X7_end n_X7_end_10 rfl) <|
  Eq.trans (e_getI lin_X7_end n_X7_end_11 (s_574 hS) rfl (j := 2) rfl (v := fi 574 2) rfl) <|
  Eq.trans (e_IcLeT lin_X7_end n_X7_end_14 h1 h3 h4) <|
  Eq.trans (e_ldA lin_X7_end n_X7_end_19 rfl) <|
  Eq.trans (e_ldI lin_X7_end n_X7_end_20 rfl) <|
  Eq.trans (e_putI lin_X7_end n_X7_end_21 rfl (s_574 hS) rfl (j := 2) rfl) <|
  Eq.trans (e_KI lin_X7_end n_X7_end_24 k_1) <|
  e_retZ lin_X7_end n_X7_end_25 (by decide)
theorem c_X7_end_FF {fi fl : HI} {cr : HR} {sh : HS} {nx sl d : Nat} {x1 : Int} (hS : Stat cr sh) (h1 : -2147483648 ≤ x1 ∧ x1 < 2147483648 := by omega) (h2 : 0 ≤ x1 := by omega) (h3 : -2147483648 ≤ fi 574 2 ∧ fi 574 2 < 2147483648 := by omega) (h4 : fi 574 2 < x1 := by omega) :
  CD mt (d + 1) 150 [.ref 574, iv x1] (G fi fl cr sh nx sl) = some (.returned (some (iv 0)), (G (up fi 574 0 0) fl cr sh nx sl)) :=
  Eq.trans (CD_at (ls := [.ref 574, iv x1]) _ _ mt_X7_end rfl rfl) <|
  Eq.trans (e_ldA lin_X7_end n_X7_end_0 rfl) <|
  Eq.trans (e_KI lin_X7_end n_X7_end_1 k_0) <|
  Eq.trans (e_putI lin_X7_end n_X7_end_2 rfl (s_574 hS) rfl (j := 0) rfl) <|
  Eq.trans (e_ldI lin_X7_end n_X7_end_5 rfl) <|
  Eq.trans (e_IfLtF lin_X7_end n_X7_end_6 h1 h2) <|
  Eq.trans (e_ldI lin_X7_end n_X7_end_9 rfl) <|
  Eq.trans (e_ldA lin_X7_end n_X7_end_10 rfl) <|
  Eq.trans (e_getI lin_X7_end n_X7_end_11 (s_574 hS) rfl (j := 2) rfl (v := fi 574 2) rfl) <|
  Eq.trans (e_IcLeF lin_X7_end n_X7_end_14 h1 h3 h4) <|
  Eq.trans (e_KI lin_X7_end n_X7_end_17 k_0) <|
  e_retZ lin_X7_end n_X7_end_18 (by decide)
theorem c_X7_taken {fi fl : HI} {cr : HR} {sh : HS} {nx sl d : Nat}  (hS : Stat cr sh) :
  CD mt (d + 1) 152 [.ref 574] (G fi fl cr sh nx sl) = some (.returned none, (G (up (up (up fi 574 3 (fi 574 2)) 574 2 0) 574 4 0) fl cr sh nx sl)) :=
  Eq.trans (CD_at (ls := [.ref 574]) _ _ mt_X7_taken rfl rfl) <|
  Eq.trans (e_ldA lin_X7_taken n_X7_taken_0 rfl) <|
  Eq.trans (e_ldA lin_X7_taken n_X7_taken_1 rfl) <|
  Eq.trans (e_getI lin_X7_taken n_X7_taken_2 (s_574 hS) rfl (j := 2) rfl (v := fi 574 2) rfl) <|
  Eq.trans (e_putI lin_X7_taken n_X7_taken_5 rfl (s_574 hS) rfl (j := 3) rfl) <|
  Eq.trans (e_ldA lin_X7_taken n_X7_taken_8 rfl) <|
  Eq.trans (e_KI lin_X7_taken n_X7_taken_9 k_0) <|
  Eq.trans (e_putI lin_X7_taken n_X7_taken_10 rfl (s_574 hS) rfl (j := 2) rfl) <|
  Eq.trans (e_ldA lin_X7_taken n_X7_taken_13 rfl) <|
  Eq.trans (e_KI lin_X7_taken n_X7_taken_14 k_0) <|
  Eq.trans (e_putI lin_X7_taken n_X7_taken_15 rfl (s_574 hS) rfl (j := 4) rfl) <|
  e_retV lin_X7_taken n_X7_taken_18
theorem c_X7_octet {fi fl : HI} {cr : HR} {sh : HS} {nx sl d : Nat} {x1 : Int} (hS : Stat cr sh) (h1 : 0 ≤ x1 := by omega) (h2 : x1 < 740 := by omega) :
  CD mt (d + 1) 155 [.ref 574, iv x1] (G fi fl cr sh nx sl) = some (.returned (some (iv (iand (fi 575 x1) 255))), (G fi fl cr sh nx sl)) :=
  Eq.trans (CD_at (ls := [.ref 574, iv x1]) _ _ mt_X7_octet rfl rfl) <|
  Eq.trans (e_ldA lin_X7_octet n_X7_octet_0 rfl) <|
  Eq.trans (e_getR lin_X7_octet n_X7_octet_1 (s_574 hS) rfl (j := 1) rfl (rr_574_1 hS)) <|
  Eq.trans (e_ldI lin_X7_octet n_X7_octet_4 rfl) <|
  Eq.trans (e_aldB lin_X7_octet n_X7_octet_5 (s_575 hS) h1 h2 (by decide) (v := fi 575 x1) rfl) <|
  Eq.trans (e_KI lin_X7_octet n_X7_octet_6 k_255) <|
  Eq.trans (e_iand lin_X7_octet n_X7_octet_9) <|
  e_retI lin_X7_octet n_X7_octet_10
theorem c_X7_cards_T {fi fl : HI} {cr : HR} {sh : HS} {nx sl d : Nat} {x1 : Int} (hS : Stat cr sh) (h1 : -2147483648 ≤ x1 ∧ x1 < 2147483648 := by omega) (h2 : 0 ≤ x1 ∧ x1 ≤ 7 := by omega) (h3 : 0 ≤ x1 := by omega) (h4 : x1 < 8 := by omega) :
  CD mt (d + 3) 156 [.ref 574, iv x1] (G fi fl cr sh nx sl) = some (.returned (some (iv (fi 577 x1))), (G (up fi 574 0 0) fl cr sh nx sl)) :=
  Eq.trans (CD_at (ls := [.ref 574, iv x1]) _ _ mt_X7_cards rfl rfl) <|
  Eq.trans (e_ldA lin_X7_cards n_X7_cards_0 rfl) <|
  Eq.trans (e_KI lin_X7_cards n_X7_cards_1 k_0) <|
  Eq.trans (e_putI lin_X7_cards n_X7_cards_2 rfl (s_574 hS) rfl (j := 0) rfl) <|
  Eq.trans (e_ldI lin_X7_cards n_X7_cards_5 rfl) <|
  Eq.trans (e_calS lin_X7_cards n_X7_cards_6 rfl rfl (b_X7_isBox_T h1 h2)) <|
  Eq.trans (e_IfEqF lin_X7_cards n_X7_cards_9 (by decide) (by decide)) <|
  Eq.trans (e_ldA lin_X7_cards n_X7_cards_12 rfl) <|
  Eq.trans (e_getR lin_X7_cards n_X7_cards_13 (s_574 hS) rfl (j := 6) rfl (rr_574_6 hS)) <|
  Eq.trans (e_ldI lin_X7_cards n_X7_cards_16 rfl) <|
  Eq.trans (e_aldI lin_X7_cards n_X7_cards_17 (s_577 hS) h3 h4 (by decide) (v := fi 577 x1) rfl) <|
  Eq.trans (e_goto lin_X7_cards n_X7_cards_18) <|
  e_retI lin_X7_cards n_X7_cards_22
theorem c_X7_cards_F {fi fl : HI} {cr : HR} {sh : HS} {nx sl d : Nat} {x1 : Int} (hS : Stat cr sh) (h1 : -2147483648 ≤ x1 ∧ x1 < 2147483648 := by omega) (h2 : ¬ (0 ≤ x1 ∧ x1 ≤ 7) := by omega) :
  CD mt (d + 3) 156 [.ref 574, iv x1] (G fi fl cr sh nx sl) = some (.returned (some (iv (-1))), (G (up fi 574 0 0) fl cr sh nx sl)) :=
  Eq.trans (CD_at (ls := [.ref 574, iv x1]) _ _ mt_X7_cards rfl rfl) <|
  Eq.trans (e_ldA lin_X7_cards n_X7_cards_0 rfl) <|
  Eq.trans (e_KI lin_X7_cards n_X7_cards_1 k_0) <|
  Eq.trans (e_putI lin_X7_cards n_X7_cards_2 rfl (s_574 hS) rfl (j := 0) rfl) <|
  Eq.trans (e_ldI lin_X7_cards n_X7_cards_5 rfl) <|
  Eq.trans (e_calS lin_X7_cards n_X7_cards_6 rfl rfl (b_X7_isBox_F h1 h2)) <|
  Eq.trans (e_IfEqT lin_X7_cards n_X7_cards_9 (by decide) (by decide)) <|
  Eq.trans (e_KI lin_X7_cards n_X7_cards_21 k_m1) <|
  e_retI lin_X7_cards n_X7_cards_22
theorem c_X7_throwsIf_T {fi fl : HI} {cr : HR} {sh : HS} {nx sl d : Nat} {x1 : Int} (hS : Stat cr sh) (h1 : -2147483648 ≤ x1 ∧ x1 < 2147483648 := by omega) (h2 : x1 = 0 := by omega) (h3 : x1 = 0 ∨ x1 = 1 := by omega) :
  CD mt (d + 1) 158 [.ref 574, iv x1] (G fi fl cr sh nx sl) = some (.returned (some (iv x1)), (G (up fi 574 0 0) fl cr sh nx sl)) :=
  Eq.trans (CD_at (ls := [.ref 574, iv x1]) _ _ mt_X7_throwsIf rfl rfl) <|
  Eq.trans (e_ldA lin_X7_throwsIf n_X7_throwsIf_0 rfl) <|
  Eq.trans (e_ldI lin_X7_throwsIf n_X7_throwsIf_1 rfl) <|
  Eq.trans (e_IfEqT lin_X7_throwsIf n_X7_throwsIf_2 h1 h2) <|
  Eq.trans (e_KI lin_X7_throwsIf n_X7_throwsIf_9 k_0) <|
  Eq.trans (e_putI lin_X7_throwsIf n_X7_throwsIf_10 rfl (s_574 hS) rfl (j := 0) rfl) <|
  Eq.trans (e_ldI lin_X7_throwsIf n_X7_throwsIf_13 rfl) <|
  e_retZ lin_X7_throwsIf n_X7_throwsIf_14 h3
theorem c_X7_throwsIf_F {fi fl : HI} {cr : HR} {sh : HS} {nx sl d : Nat} {x1 : Int} (hS : Stat cr sh) (h1 : -2147483648 ≤ x1 ∧ x1 < 2147483648 := by omega) (h2 : x1 ≠ 0 := by omega) (h3 : x1 = 0 ∨ x1 = 1 := by omega) :
  CD mt (d + 1) 158 [.ref 574, iv x1] (G fi fl cr sh nx sl) = some (.returned (some (iv x1)), (G (up fi 574 0 1) fl cr sh nx sl)) :=
  Eq.trans (CD_at (ls := [.ref 574, iv x1]) _ _ mt_X7_throwsIf rfl rfl) <|
  Eq.trans (e_ldA lin_X7_throwsIf n_X7_throwsIf_0 rfl) <|
  Eq.trans (e_ldI lin_X7_throwsIf n_X7_throwsIf_1 rfl) <|
  Eq.trans (e_IfEqF lin_X7_throwsIf n_X7_throwsIf_2 h1 h2) <|
  Eq.trans (e_KI lin_X7_throwsIf n_X7_throwsIf_5 k_1) <|
  Eq.trans (e_goto lin_X7_throwsIf n_X7_throwsIf_6) <|
  Eq.trans (e_putI lin_X7_throwsIf n_X7_throwsIf_10 rfl (s_574 hS) rfl (j := 0) rfl) <|
  Eq.trans (e_ldI lin_X7_throwsIf n_X7_throwsIf_13 rfl) <|
  e_retZ lin_X7_throwsIf n_X7_throwsIf_14 h3
theorem c_X7_empty_T {fi fl : HI} {cr : HR} {sh : HS} {nx sl d : Nat} {x1 : Int} (hS : Stat cr sh) (h1 : -2147483648 ≤ x1 ∧ x1 < 2147483648 := by omega) (h2 : 0 ≤ x1 ∧ x1 ≤ 7 := by omega) (h3 : 0 ≤ x1 := by omega) (h4 : x1 < 8 := by omega) :
  CD mt (d + 3) 159 [.ref 574, iv x1] (G fi fl cr sh nx sl) = some (.returned (some (iv (fi 577 x1))), (G (up (up fi 574 0 0) 577 x1 0) fl cr sh nx sl)) :=
  Eq.trans (CD_at (ls := [.ref 574, iv x1, nv]) _ _ mt_X7_empty rfl rfl) <|
  Eq.trans (e_ldA lin_X7_empty n_X7_empty_0 rfl) <|
  Eq.trans (e_KI lin_X7_empty n_X7_empty_1 k_0) <|
  Eq.trans (e_putI lin_X7_empty n_X7_empty_2 rfl (s_574 hS) rfl (j := 0) rfl) <|
  Eq.trans (e_ldI lin_X7_empty n_X7_empty_5 rfl) <|
  Eq.trans (e_calS lin_X7_empty n_X7_empty_6 rfl rfl (b_X7_isBox_T h1 h2)) <|
  Eq.trans (e_IfEqF lin_X7_empty n_X7_empty_9 (by decide) (by decide)) <|
  Eq.trans (e_ldA lin_X7_empty n_X7_empty_14 rfl) <|
  Eq.trans (e_getR lin_X7_empty n_X7_empty_15 (s_574 hS) rfl (j := 6) rfl (rr_574_6 hS)) <|
  Eq.trans (e_ldI lin_X7_empty n_X7_empty_18 rfl) <|
  Eq.trans (e_aldI lin_X7_empty n_X7_empty_19 (s_577 hS) h3 h4 (by decide) (v := fi 577 x1) rfl) <|
  Eq.trans (e_stI lin_X7_empty n_X7_empty_20 rfl (ls' := [.ref 574, iv x1, iv (fi 577 x1)]) rfl) <|
  Eq.trans (e_ldA lin_X7_empty n_X7_empty_21 rfl) <|
  Eq.trans (e_getR lin_X7_empty n_X7_empty_22 (s_574 hS) rfl (j := 6) rfl (rr_574_6 hS)) <|
  Eq.trans (e_ldI lin_X7_empty n_X7_empty_25 rfl) <|
  Eq.trans (e_KI lin_X7_empty n_X7_empty_26 k_0) <|
  Eq.trans (e_astI lin_X7_empty n_X7_empty_27 rfl (s_577 hS) h3 h4 (by decide)) <|
  Eq.trans (e_ldI lin_X7_empty n_X7_empty_28 rfl) <|
  e_retI lin_X7_empty n_X7_empty_29
theorem c_X7_empty_F {fi fl : HI} {cr : HR} {sh : HS} {nx sl d : Nat} {x1 : Int} (hS : Stat cr sh) (h1 : -2147483648 ≤ x1 ∧ x1 < 2147483648 := by omega) (h2 : ¬ (0 ≤ x1 ∧ x1 ≤ 7) := by omega) :
  CD mt (d + 3) 159 [.ref 574, iv x1] (G fi fl cr sh nx sl) = some (.returned (some (iv (-1))), (G (up fi 574 0 0) fl cr sh nx sl)) :=
  Eq.trans (CD_at (ls := [.ref 574, iv x1, nv]) _ _ mt_X7_empty rfl rfl) <|
  Eq.trans (e_ldA lin_X7_empty n_X7_empty_0 rfl) <|
  Eq.trans (e_KI lin_X7_empty n_X7_empty_1 k_0) <|
  Eq.trans (e_putI lin_X7_empty n_X7_empty_2 rfl (s_574 hS) rfl (j := 0) rfl) <|
  Eq.trans (e_ldI lin_X7_empty n_X7_empty_5 rfl) <|
  Eq.trans (e_calS lin_X7_empty n_X7_empty_6 rfl rfl (b_X7_isBox_F h1 h2)) <|
  Eq.trans (e_IfEqT lin_X7_empty n_X7_empty_9 (by decide) (by decide)) <|
  Eq.trans (e_KI lin_X7_empty n_X7_empty_12 k_m1) <|
  e_retI lin_X7_empty n_X7_empty_13
theorem c_X7_fault {fi fl : HI} {cr : HR} {sh : HS} {nx sl d : Nat}  (hS : Stat cr sh) :
  CD mt (d + 1) 160 [.ref 574] (G fi fl cr sh nx sl) = some (.returned (some (iv (fi 574 10))), (G (up fi 574 0 0) fl cr sh nx sl)) :=
  Eq.trans (CD_at (ls := [.ref 574]) _ _ mt_X7_fault rfl rfl) <|
  Eq.trans (e_ldA lin_X7_fault n_X7_fault_0 rfl) <|
  Eq.trans (e_KI lin_X7_fault n_X7_fault_1 k_0) <|
  Eq.trans (e_putI lin_X7_fault n_X7_fault_2 rfl (s_574 hS) rfl (j := 0) rfl) <|
  Eq.trans (e_ldA lin_X7_fault n_X7_fault_5 rfl) <|
  Eq.trans (e_getI lin_X7_fault n_X7_fault_6 (s_574 hS) rfl (j := 10) rfl (v := fi 574 10) rfl) <|
  e_retI lin_X7_fault n_X7_fault_9
theorem c_X7_peek_T {fi fl : HI} {cr : HR} {sh : HS} {nx sl d : Nat}  (hS : Stat cr sh) (h1 : -2147483648 ≤ fi 574 4 ∧ fi 574 4 < 2147483648 := by omega) (h2 : -2147483648 ≤ fi 574 3 ∧ fi 574 3 < 2147483648 := by omega) (h3 : fi 574 4 < fi 574 3 := by omega) (h4 : 0 ≤ fi 574 4 := by omega) (h5 : fi 574 4 < 740 := by omega) :
  CD mt (d + 1) 163 [.ref 574] (G fi fl cr sh nx sl) = some (.returned (some (iv (iand (fi 575 (fi 574 4)) 255))), (G fi fl cr sh nx sl)) :=
  Eq.trans (CD_at (ls := [.ref 574]) _ _ mt_X7_peek rfl rfl) <|
  Eq.trans (e_ldA lin_X7_peek n_X7_peek_0 rfl) <|
  Eq.trans (e_getI lin_X7_peek n_X7_peek_1 (s_574 hS) rfl (j := 4) rfl (v := fi 574 4) rfl) <|
  Eq.trans (e_ldA lin_X7_peek n_X7_peek_4 rfl) <|
  Eq.trans (e_getI lin_X7_peek n_X7_peek_5 (s_574 hS) rfl (j := 3) rfl (v := fi 574 3) rfl) <|
  Eq.trans (e_IcLtT lin_X7_peek n_X7_peek_8 h1 h2 h3) <|
  Eq.trans (e_ldA lin_X7_peek n_X7_peek_11 rfl) <|
  Eq.trans (e_getR lin_X7_peek n_X7_peek_12 (s_574 hS) rfl (j := 1) rfl (rr_574_1 hS)) <|
  Eq.trans (e_ldA lin_X7_peek n_X7_peek_15 rfl) <|
  Eq.trans (e_getI lin_X7_peek n_X7_peek_16 (s_574 hS) rfl (j := 4) rfl (v := fi 574 4) rfl) <|
  Eq.trans (e_aldB lin_X7_peek n_X7_peek_19 (s_575 hS) h4 h5 (by decide) (v := fi 575 (fi 574 4)) rfl) <|
  Eq.trans (e_KI lin_X7_peek n_X7_peek_20 k_255) <|
  Eq.trans (e_iand lin_X7_peek n_X7_peek_23) <|
  Eq.trans (e_goto lin_X7_peek n_X7_peek_24) <|
  e_retI lin_X7_peek n_X7_peek_28
theorem c_X7_peek_F {fi fl : HI} {cr : HR} {sh : HS} {nx sl d : Nat}  (hS : Stat cr sh) (h1 : -2147483648 ≤ fi 574 4 ∧ fi 574 4 < 2147483648 := by omega) (h2 : -2147483648 ≤ fi 574 3 ∧ fi 574 3 < 2147483648 := by omega) (h3 : fi 574 3 ≤ fi 574 4 := by omega) :
  CD mt (d + 1) 163 [.ref 574] (G fi fl cr sh nx sl) = some (.returned (some (iv (-1))), (G fi fl cr sh nx sl)) :=
  Eq.trans (CD_at (ls := [.ref 574]) _ _ mt_X7_peek rfl rfl) <|
  Eq.trans (e_ldA lin_X7_peek n_X7_peek_0 rfl) <|
  Eq.trans (e_getI lin_X7_peek n_X7_peek_1 (s_574 hS) rfl (j := 4) rfl (v := fi 574 4) rfl) <|
  Eq.trans (e_ldA lin_X7_peek n_X7_peek_4 rfl) <|
  Eq.trans (e_getI lin_X7_peek n_X7_peek_5 (s_574 hS) rfl (j := 3) rfl (v := fi 574 3) rfl) <|
  Eq.trans (e_IcLtF lin_X7_peek n_X7_peek_8 h1 h2 h3) <|
  Eq.trans (e_KI lin_X7_peek n_X7_peek_27 k_m1) <|
  e_retI lin_X7_peek n_X7_peek_28
theorem c_X7_isHub_E {fi fl : HI} {cr : HR} {sh : HS} {nx sl d : Nat} {x1 : Int} (hS : Stat cr sh) (h1 : -9223372036854775808 ≤ x1 ∧ x1 < 9223372036854775808 := by omega) (h2 : x1 = 99 := by omega) :
  CD mt (d + 1) 167 [.ref 574, lv x1] (G fi fl cr sh nx sl) = some (.returned (some (iv 1)), (G (up (up (up fi 574 22 1) 574 21 20) 574 20 0) fl cr sh nx sl)) :=
  Eq.trans (CD_at (ls := [.ref 574, lv x1, nv]) _ _ mt_X7_isHub rfl rfl) <|
  Eq.trans (e_ldA lin_X7_isHub n_X7_isHub_0 rfl) <|
  Eq.trans (e_KI lin_X7_isHub n_X7_isHub_1 k_1) <|
  Eq.trans (e_putI lin_X7_isHub n_X7_isHub_2 rfl (s_574 hS) rfl (j := 22) rfl) <|
  Eq.trans (e_ldA lin_X7_isHub n_X7_isHub_5 rfl) <|
  Eq.trans (e_KI lin_X7_isHub n_X7_isHub_6 k_20) <|
  Eq.trans (e_putI lin_X7_isHub n_X7_isHub_8 rfl (s_574 hS) rfl (j := 21) rfl) <|
  Eq.trans (e_ldA lin_X7_isHub n_X7_isHub_11 rfl) <|
  Eq.trans (e_ldL lin_X7_isHub n_X7_isHub_12 rfl) <|
  Eq.trans (e_KL lin_X7_isHub n_X7_isHub_13 kl_99) <|
  Eq.trans (e_lcmpE lin_X7_isHub n_X7_isHub_16 h2) <|
  Eq.trans (e_IfEqT lin_X7_isHub n_X7_isHub_17 (by decide) (by decide)) <|
  Eq.trans (e_KI lin_X7_isHub n_X7_isHub_20 k_0) <|
  Eq.trans (e_goto lin_X7_isHub n_X7_isHub_21) <|
  Eq.trans (e_putI lin_X7_isHub n_X7_isHub_65 rfl (s_574 hS) rfl (j := 20) rfl) <|
  Eq.trans (e_ldA lin_X7_isHub n_X7_isHub_68 rfl) <|
  Eq.trans (e_getI lin_X7_isHub n_X7_isHub_69 (s_574 hS) rfl (j := 20) rfl (v := 0) rfl) <|
  Eq.trans (e_IfLtF lin_X7_isHub n_X7_isHub_72 (by decide) (by decide)) <|
  Eq.trans (e_KI lin_X7_isHub n_X7_isHub_75 k_1) <|
  e_retZ lin_X7_isHub n_X7_isHub_76 (by decide)
theorem c_X7_isHub_NE {fi fl : HI} {cr : HR} {sh : HS} {nx sl d : Nat} {x1 : Int} (hS : Stat cr sh) (h1 : -9223372036854775808 ≤ x1 ∧ x1 < 9223372036854775808 := by omega) (h2 : x1 ≠ 99 := by omega) (h3 : x1 = 97 := by omega) :
  CD mt (d + 1) 167 [.ref 574, lv x1] (G fi fl cr sh nx sl) = some (.returned (some (iv 1)), (G (up (up (up fi 574 22 1) 574 21 20) 574 20 20) fl cr sh nx sl)) :=
  Eq.trans (CD_at (ls := [.ref 574, lv x1, nv]) _ _ mt_X7_isHub rfl rfl) <|
  Eq.trans (e_ldA lin_X7_isHub n_X7_isHub_0 rfl) <|
  Eq.trans (e_KI lin_X7_isHub n_X7_isHub_1 k_1) <|
  Eq.trans (e_putI lin_X7_isHub n_X7_isHub_2 rfl (s_574 hS) rfl (j := 22) rfl) <|
  Eq.trans (e_ldA lin_X7_isHub n_X7_isHub_5 rfl) <|
  Eq.trans (e_KI lin_X7_isHub n_X7_isHub_6 k_20) <|
  Eq.trans (e_putI lin_X7_isHub n_X7_isHub_8 rfl (s_574 hS) rfl (j := 21) rfl) <|
  Eq.trans (e_ldA lin_X7_isHub n_X7_isHub_11 rfl) <|
  Eq.trans (e_ldL lin_X7_isHub n_X7_isHub_12 rfl) <|
  Eq.trans (e_KL lin_X7_isHub n_X7_isHub_13 kl_99) <|
  Eq.trans (e_lcmp lin_X7_isHub n_X7_isHub_16 h1 (by decide)) <|
  Eq.trans (e_IfEqF lin_X7_isHub n_X7_isHub_17 (R_lcm _ _) (lcm_ne h2)) <|
  Eq.trans (e_ldL lin_X7_isHub n_X7_isHub_24 rfl) <|
  Eq.trans (e_KL lin_X7_isHub n_X7_isHub_25 kl_97) <|
  Eq.trans (e_lcmpE lin_X7_isHub n_X7_isHub_28 h3) <|
  Eq.trans (e_IfEqT lin_X7_isHub n_X7_isHub_29 (by decide) (by decide)) <|
  Eq.trans (e_KI lin_X7_isHub n_X7_isHub_32 k_20) <|
  Eq.trans (e_goto lin_X7_isHub n_X7_isHub_34) <|
  Eq.trans (e_putI lin_X7_isHub n_X7_isHub_65 rfl (s_574 hS) rfl (j := 20) rfl) <|
  Eq.trans (e_ldA lin_X7_isHub n_X7_isHub_68 rfl) <|
  Eq.trans (e_getI lin_X7_isHub n_X7_isHub_69 (s_574 hS) rfl (j := 20) rfl (v := 20) rfl) <|
  Eq.trans (e_IfLtF lin_X7_isHub n_X7_isHub_72 (by decide) (by decide)) <|
  Eq.trans (e_KI lin_X7_isHub n_X7_isHub_75 k_1) <|
  e_retZ lin_X7_isHub n_X7_isHub_76 (by decide)
theorem c_X7_isHub_NNE {fi fl : HI} {cr : HR} {sh : HS} {nx sl d : Nat} {x1 : Int} (hS : Stat cr sh) (h1 : -9223372036854775808 ≤ x1 ∧ x1 < 9223372036854775808 := by omega) (h2 : x1 ≠ 99 := by omega) (h3 : x1 ≠ 97 := by omega) (h4 : x1 = 120 := by omega) :
  CD mt (d + 1) 167 [.ref 574, lv x1] (G fi fl cr sh nx sl) = some (.returned (some (iv 1)), (G (up (up (up fi 574 22 1) 574 21 20) 574 20 40) fl cr sh nx sl)) :=
  Eq.trans (CD_at (ls := [.ref 574, lv x1, nv]) _ _ mt_X7_isHub rfl rfl) <|
  Eq.trans (e_ldA lin_X7_isHub n_X7_isHub_0 rfl) <|
  Eq.trans (e_KI lin_X7_isHub n_X7_isHub_1 k_1) <|
  Eq.trans (e_putI lin_X7_isHub n_X7_isHub_2 rfl (s_574 hS) rfl (j := 22) rfl) <|
  Eq.trans (e_ldA lin_X7_isHub n_X7_isHub_5 rfl) <|
  Eq.trans (e_KI lin_X7_isHub n_X7_isHub_6 k_20) <|
  Eq.trans (e_putI lin_X7_isHub n_X7_isHub_8 rfl (s_574 hS) rfl (j := 21) rfl) <|
  Eq.trans (e_ldA lin_X7_isHub n_X7_isHub_11 rfl) <|
  Eq.trans (e_ldL lin_X7_isHub n_X7_isHub_12 rfl) <|
  Eq.trans (e_KL lin_X7_isHub n_X7_isHub_13 kl_99) <|
  Eq.trans (e_lcmp lin_X7_isHub n_X7_isHub_16 h1 (by decide)) <|
  Eq.trans (e_IfEqF lin_X7_isHub n_X7_isHub_17 (R_lcm _ _) (lcm_ne h2)) <|
  Eq.trans (e_ldL lin_X7_isHub n_X7_isHub_24 rfl) <|
  Eq.trans (e_KL lin_X7_isHub n_X7_isHub_25 kl_97) <|
  Eq.trans (e_lcmp lin_X7_isHub n_X7_isHub_28 h1 (by decide)) <|
  Eq.trans (e_IfEqF lin_X7_isHub n_X7_isHub_29 (R_lcm _ _) (lcm_ne h3)) <|
  Eq.trans (e_ldL lin_X7_isHub n_X7_isHub_37 rfl) <|
  Eq.trans (e_KL lin_X7_isHub n_X7_isHub_38 kl_120) <|
  Eq.trans (e_lcmpE lin_X7_isHub n_X7_isHub_41 h4) <|
  Eq.trans (e_IfEqT lin_X7_isHub n_X7_isHub_42 (by decide) (by decide)) <|
  Eq.trans (e_KI lin_X7_isHub n_X7_isHub_45 k_40) <|
  Eq.trans (e_goto lin_X7_isHub n_X7_isHub_47) <|
  Eq.trans (e_putI lin_X7_isHub n_X7_isHub_65 rfl (s_574 hS) rfl (j := 20) rfl) <|
  Eq.trans (e_ldA lin_X7_isHub n_X7_isHub_68 rfl) <|
  Eq.trans (e_getI lin_X7_isHub n_X7_isHub_69 (s_574 hS) rfl (j := 20) rfl (v := 40) rfl) <|
  Eq.trans (e_IfLtF lin_X7_isHub n_X7_isHub_72 (by decide) (by decide)) <|
  Eq.trans (e_KI lin_X7_isHub n_X7_isHub_75 k_1) <|
  e_retZ lin_X7_isHub n_X7_isHub_76 (by decide)
theorem c_X7_isHub_NNNE {fi fl : HI} {cr : HR} {sh : HS} {nx sl d : Nat} {x1 : Int} (hS : Stat cr sh) (h1 : -9223372036854775808 ≤ x1 ∧ x1 < 9223372036854775808 := by omega) (h2 : x1 ≠ 99 := by omega) (h3 : x1 ≠ 97 := by omega) (h4 : x1 ≠ 120 := by omega) (h5 : x1 = 113 := by omega) :
  CD mt (d + 1) 167 [.ref 574, lv x1] (G fi fl cr sh nx sl) = some (.returned (some (iv 1)), (G (up (up (up fi 574 22 1) 574 21 20) 574 20 159) fl cr sh nx sl)) :=
  Eq.trans (CD_at (ls := [.ref 574, lv x1, nv]) _ _ mt_X7_isHub rfl rfl) <|
  Eq.trans (e_ldA lin_X7_isHub n_X7_isHub_0 rfl) <|
  Eq.trans (e_KI lin_X7_isHub n_X7_isHub_1 k_1) <|
  Eq.trans (e_putI lin_X7_isHub n_X7_isHub_2 rfl (s_574 hS) rfl (j := 22) rfl) <|
  Eq.trans (e_ldA lin_X7_isHub n_X7_isHub_5 rfl) <|
  Eq.trans (e_KI lin_X7_isHub n_X7_isHub_6 k_20) <|
  Eq.trans (e_putI lin_X7_isHub n_X7_isHub_8 rfl (s_574 hS) rfl (j := 21) rfl) <|
  Eq.trans (e_ldA lin_X7_isHub n_X7_isHub_11 rfl) <|
  Eq.trans (e_ldL lin_X7_isHub n_X7_isHub_12 rfl) <|
  Eq.trans (e_KL lin_X7_isHub n_X7_isHub_13 kl_99) <|
  Eq.trans (e_lcmp lin_X7_isHub n_X7_isHub_16 h1 (by decide)) <|
  Eq.trans (e_IfEqF lin_X7_isHub n_X7_isHub_17 (R_lcm _ _) (lcm_ne h2)) <|
  Eq.trans (e_ldL lin_X7_isHub n_X7_isHub_24 rfl) <|
  Eq.trans (e_KL lin_X7_isHub n_X7_isHub_25 kl_97) <|
  Eq.trans (e_lcmp lin_X7_isHub n_X7_isHub_28 h1 (by decide)) <|
  Eq.trans (e_IfEqF lin_X7_isHub n_X7_isHub_29 (R_lcm _ _) (lcm_ne h3)) <|
  Eq.trans (e_ldL lin_X7_isHub n_X7_isHub_37 rfl) <|
  Eq.trans (e_KL lin_X7_isHub n_X7_isHub_38 kl_120) <|
  Eq.trans (e_lcmp lin_X7_isHub n_X7_isHub_41 h1 (by decide)) <|
  Eq.trans (e_IfEqF lin_X7_isHub n_X7_isHub_42 (R_lcm _ _) (lcm_ne h4)) <|
  Eq.trans (e_ldL lin_X7_isHub n_X7_isHub_50 rfl) <|
  Eq.trans (e_KL lin_X7_isHub n_X7_isHub_51 kl_113) <|
  Eq.trans (e_lcmpE lin_X7_isHub n_X7_isHub_54 h5) <|
  Eq.trans (e_IfEqT lin_X7_isHub n_X7_isHub_55 (by decide) (by decide)) <|
  Eq.trans (e_KI lin_X7_isHub n_X7_isHub_58 k_159) <|
  Eq.trans (e_goto lin_X7_isHub n_X7_isHub_61) <|
  Eq.trans (e_putI lin_X7_isHub n_X7_isHub_65 rfl (s_574 hS) rfl (j := 20) rfl) <|
  Eq.trans (e_ldA lin_X7_isHub n_X7_isHub_68 rfl) <|
  Eq.trans (e_getI lin_X7_isHub n_X7_isHub_69 (s_574 hS) rfl (j := 20) rfl (v := 159) rfl) <|
  Eq.trans (e_IfLtF lin_X7_isHub n_X7_isHub_72 (by decide) (by decide)) <|
  Eq.trans (e_KI lin_X7_isHub n_X7_isHub_75 k_1) <|
  e_retZ lin_X7_isHub n_X7_isHub_76 (by decide)
theorem c_X7_isHub_NNNNE {fi fl : HI} {cr : HR} {sh : HS} {nx sl d : Nat} {x1 : Int} (hS : Stat cr sh) (h1 : -9223372036854775808 ≤ x1 ∧ x1 < 9223372036854775808 := by omega) (h2 : x1 ≠ 99 := by omega) (h3 : x1 ≠ 97 := by omega) (h4 : x1 ≠ 120 := by omega) (h5 : x1 ≠ 113 := by omega) (h6 : x1 = 101 := by omega) :
  CD mt (d + 1) 167 [.ref 574, lv x1] (G fi fl cr sh nx sl) = some (.returned (some (iv 1)), (G (up (up (up (up (up fi 574 22 1) 574 21 20) 574 20 (-1)) 574 21 1) 574 20 60) fl cr sh nx sl)) :=
  Eq.trans (CD_at (ls := [.ref 574, lv x1, nv]) _ _ mt_X7_isHub rfl rfl) <|
  Eq.trans (e_ldA lin_X7_isHub n_X7_isHub_0 rfl) <|
  Eq.trans (e_KI lin_X7_isHub n_X7_isHub_1 k_1) <|
  Eq.trans (e_putI lin_X7_isHub n_X7_isHub_2 rfl (s_574 hS) rfl (j := 22) rfl) <|
  Eq.trans (e_ldA lin_X7_isHub n_X7_isHub_5 rfl) <|
  Eq.trans (e_KI lin_X7_isHub n_X7_isHub_6 k_20) <|
  Eq.trans (e_putI lin_X7_isHub n_X7_isHub_8 rfl (s_574 hS) rfl (j := 21) rfl) <|
  Eq.trans (e_ldA lin_X7_isHub n_X7_isHub_11 rfl) <|
  Eq.trans (e_ldL lin_X7_isHub n_X7_isHub_12 rfl) <|
  Eq.trans (e_KL lin_X7_isHub n_X7_isHub_13 kl_99) <|
  Eq.trans (e_lcmp lin_X7_isHub n_X7_isHub_16 h1 (by decide)) <|
  Eq.trans (e_IfEqF lin_X7_isHub n_X7_isHub_17 (R_lcm _ _) (lcm_ne h2)) <|
  Eq.trans (e_ldL lin_X7_isHub n_X7_isHub_24 rfl) <|
  Eq.trans (e_KL lin_X7_isHub n_X7_isHub_25 kl_97) <|
  Eq.trans (e_lcmp lin_X7_isHub n_X7_isHub_28 h1 (by decide)) <|
  Eq.trans (e_IfEqF lin_X7_isHub n_X7_isHub_29 (R_lcm _ _) (lcm_ne h3)) <|
  Eq.trans (e_ldL lin_X7_isHub n_X7_isHub_37 rfl) <|
  Eq.trans (e_KL lin_X7_isHub n_X7_isHub_38 kl_120) <|
  Eq.trans (e_lcmp lin_X7_isHub n_X7_isHub_41 h1 (by decide)) <|
  Eq.trans (e_IfEqF lin_X7_isHub n_X7_isHub_42 (R_lcm _ _) (lcm_ne h4)) <|
  Eq.trans (e_ldL lin_X7_isHub n_X7_isHub_50 rfl) <|
  Eq.trans (e_KL lin_X7_isHub n_X7_isHub_51 kl_113) <|
  Eq.trans (e_lcmp lin_X7_isHub n_X7_isHub_54 h1 (by decide)) <|
  Eq.trans (e_IfEqF lin_X7_isHub n_X7_isHub_55 (R_lcm _ _) (lcm_ne h5)) <|
  Eq.trans (e_KI lin_X7_isHub n_X7_isHub_64 k_m1) <|
  Eq.trans (e_putI lin_X7_isHub n_X7_isHub_65 rfl (s_574 hS) rfl (j := 20) rfl) <|
  Eq.trans (e_ldA lin_X7_isHub n_X7_isHub_68 rfl) <|
  Eq.trans (e_getI lin_X7_isHub n_X7_isHub_69 (s_574 hS) rfl (j := 20) rfl (v := (-1)) rfl) <|
  Eq.trans (e_IfLtT lin_X7_isHub n_X7_isHub_72 (by decide) (by decide)) <|
  Eq.trans (e_ldA lin_X7_isHub n_X7_isHub_77 rfl) <|
  Eq.trans (e_KI lin_X7_isHub n_X7_isHub_78 k_1) <|
  Eq.trans (e_putI lin_X7_isHub n_X7_isHub_79 rfl (s_574 hS) rfl (j := 21) rfl) <|
  Eq.trans (e_ldA lin_X7_isHub n_X7_isHub_82 rfl) <|
  Eq.trans (e_ldL lin_X7_isHub n_X7_isHub_83 rfl) <|
  Eq.trans (e_KL lin_X7_isHub n_X7_isHub_84 kl_101) <|
  Eq.trans (e_lcmpE lin_X7_isHub n_X7_isHub_87 h6) <|
  Eq.trans (e_IfEqT lin_X7_isHub n_X7_isHub_88 (by decide) (by decide)) <|
  Eq.trans (e_KI lin_X7_isHub n_X7_isHub_91 k_60) <|
  Eq.trans (e_goto lin_X7_isHub n_X7_isHub_93) <|
  Eq.trans (e_putI lin_X7_isHub n_X7_isHub_125 rfl (s_574 hS) rfl (j := 20) rfl) <|
  Eq.trans (e_ldA lin_X7_isHub n_X7_isHub_128 rfl) <|
  Eq.trans (e_getI lin_X7_isHub n_X7_isHub_129 (s_574 hS) rfl (j := 20) rfl (v := 60) rfl) <|
  Eq.trans (e_IfLtF lin_X7_isHub n_X7_isHub_132 (by decide) (by decide)) <|
  Eq.trans (e_KI lin_X7_isHub n_X7_isHub_135 k_1) <|
  e_retZ lin_X7_isHub n_X7_isHub_136 (by decide)
theorem c_X7_isHub_NNNNNE {fi fl : HI} {cr : HR} {sh : HS} {nx sl d : Nat} {x1 : Int} (hS : Stat cr sh) (h1 : -9223372036854775808 ≤ x1 ∧ x1 < 9223372036854775808 := by omega) (h2 : x1 ≠ 99 := by omega) (h3 : x1 ≠ 97 := by omega) (h4 : x1 ≠ 120 := by omega) (h5 : x1 ≠ 113 := by omega) (h6 : x1 ≠ 101 := by omega) (h7 : x1 = 109 := by omega) :
  CD mt (d + 1) 167 [.ref 574, lv x1] (G fi fl cr sh nx sl) = some (.returned (some (iv 1)), (G (up (up (up (up (up fi 574 22 1) 574 21 20) 574 20 (-1)) 574 21 1) 574 20 179) fl cr sh nx sl)) :=
  Eq.trans (CD_at (ls := [.ref 574, lv x1, nv]) _ _ mt_X7_isHub rfl rfl) <|
  Eq.trans (e_ldA lin_X7_isHub n_X7_isHub_0 rfl) <|
  Eq.trans (e_KI lin_X7_isHub n_X7_isHub_1 k_1) <|
  Eq.trans (e_putI lin_X7_isHub n_X7_isHub_2 rfl (s_574 hS) rfl (j := 22) rfl) <|
  Eq.trans (e_ldA lin_X7_isHub n_X7_isHub_5 rfl) <|
  Eq.trans (e_KI lin_X7_isHub n_X7_isHub_6 k_20) <|
  Eq.trans (e_putI lin_X7_isHub n_X7_isHub_8 rfl (s_574 hS) rfl (j := 21) rfl) <|
  Eq.trans (e_ldA lin_X7_isHub n_X7_isHub_11 rfl) <|
  Eq.trans (e_ldL lin_X7_isHub n_X7_isHub_12 rfl) <|
  Eq.trans (e_KL lin_X7_isHub n_X7_isHub_13 kl_99) <|
  Eq.trans (e_lcmp lin_X7_isHub n_X7_isHub_16 h1 (by decide)) <|
  Eq.trans (e_IfEqF lin_X7_isHub n_X7_isHub_17 (R_lcm _ _) (lcm_ne h2)) <|
  Eq.trans (e_ldL lin_X7_isHub n_X7_isHub_24 rfl) <|
  Eq.trans (e_KL lin_X7_isHub n_X7_isHub_25 kl_97) <|
  Eq.trans (e_lcmp lin_X7_isHub n_X7_isHub_28 h1 (by decide)) <|
  Eq.trans (e_IfEqF lin_X7_isHub n_X7_isHub_29 (R_lcm _ _) (lcm_ne h3)) <|
  Eq.trans (e_ldL lin_X7_isHub n_X7_isHub_37 rfl) <|
  Eq.trans (e_KL lin_X7_isHub n_X7_isHub_38 kl_120) <|
  Eq.trans (e_lcmp lin_X7_isHub n_X7_isHub_41 h1 (by decide)) <|
  Eq.trans (e_IfEqF lin_X7_isHub n_X7_isHub_42 (R_lcm _ _) (lcm_ne h4)) <|
  Eq.trans (e_ldL lin_X7_isHub n_X7_isHub_50 rfl) <|
  Eq.trans (e_KL lin_X7_isHub n_X7_isHub_51 kl_113) <|
  Eq.trans (e_lcmp lin_X7_isHub n_X7_isHub_54 h1 (by decide)) <|
  Eq.trans (e_IfEqF lin_X7_isHub n_X7_isHub_55 (R_lcm _ _) (lcm_ne h5)) <|
  Eq.trans (e_KI lin_X7_isHub n_X7_isHub_64 k_m1) <|
  Eq.trans (e_putI lin_X7_isHub n_X7_isHub_65 rfl (s_574 hS) rfl (j := 20) rfl) <|
  Eq.trans (e_ldA lin_X7_isHub n_X7_isHub_68 rfl) <|
  Eq.trans (e_getI lin_X7_isHub n_X7_isHub_69 (s_574 hS) rfl (j := 20) rfl (v := (-1)) rfl) <|
  Eq.trans (e_IfLtT lin_X7_isHub n_X7_isHub_72 (by decide) (by decide)) <|
  Eq.trans (e_ldA lin_X7_isHub n_X7_isHub_77 rfl) <|
  Eq.trans (e_KI lin_X7_isHub n_X7_isHub_78 k_1) <|
  Eq.trans (e_putI lin_X7_isHub n_X7_isHub_79 rfl (s_574 hS) rfl (j := 21) rfl) <|
  Eq.trans (e_ldA lin_X7_isHub n_X7_isHub_82 rfl) <|
  Eq.trans (e_ldL lin_X7_isHub n_X7_isHub_83 rfl) <|
  Eq.trans (e_KL lin_X7_isHub n_X7_isHub_84 kl_101) <|
  Eq.trans (e_lcmp lin_X7_isHub n_X7_isHub_87 h1 (by decide)) <|
  Eq.trans (e_IfEqF lin_X7_isHub n_X7_isHub_88 (R_lcm _ _) (lcm_ne h6)) <|
  Eq.trans (e_ldL lin_X7_isHub n_X7_isHub_96 rfl) <|
  Eq.trans (e_KL lin_X7_isHub n_X7_isHub_97 kl_109) <|
  Eq.trans (e_lcmpE lin_X7_isHub n_X7_isHub_100 h7) <|
  Eq.trans (e_IfEqT lin_X7_isHub n_X7_isHub_101 (by decide) (by decide)) <|
  Eq.trans (e_KI lin_X7_isHub n_X7_isHub_104 k_179) <|
  Eq.trans (e_goto lin_X7_isHub n_X7_isHub_107) <|
  Eq.trans (e_putI lin_X7_isHub n_X7_isHub_125 rfl (s_574 hS) rfl (j := 20) rfl) <|
  Eq.trans (e_ldA lin_X7_isHub n_X7_isHub_128 rfl) <|
  Eq.trans (e_getI lin_X7_isHub n_X7_isHub_129 (s_574 hS) rfl (j := 20) rfl (v := 179) rfl) <|
  Eq.trans (e_IfLtF lin_X7_isHub n_X7_isHub_132 (by decide) (by decide)) <|
  Eq.trans (e_KI lin_X7_isHub n_X7_isHub_135 k_1) <|
  e_retZ lin_X7_isHub n_X7_isHub_136 (by decide)
theorem c_X7_isHub_NNNNNNE {fi fl : HI} {cr : HR} {sh : HS} {nx sl d : Nat} {x1 : Int} (hS : Stat cr sh) (h1 : -9223372036854775808 ≤ x1 ∧ x1 < 9223372036854775808 := by omega) (h2 : x1 ≠ 99 := by omega) (h3 : x1 ≠ 97 := by omega) (h4 : x1 ≠ 120 := by omega) (h5 : x1 ≠ 113 := by omega) (h6 : x1 ≠ 101 := by omega) (h7 : x1 ≠ 109 := by omega) (h8 : x1 = 1751215220 := by omega) :
  CD mt (d + 1) 167 [.ref 574, lv x1] (G fi fl cr sh nx sl) = some (.returned (some (iv 1)), (G (up (up (up (up (up fi 574 22 1) 574 21 20) 574 20 (-1)) 574 21 1) 574 20 180) fl cr sh nx sl)) :=
  Eq.trans (CD_at (ls := [.ref 574, lv x1, nv]) _ _ mt_X7_isHub rfl rfl) <|
  Eq.trans (e_ldA lin_X7_isHub n_X7_isHub_0 rfl) <|
  Eq.trans (e_KI lin_X7_isHub n_X7_isHub_1 k_1) <|
  Eq.trans (e_putI lin_X7_isHub n_X7_isHub_2 rfl (s_574 hS) rfl (j := 22) rfl) <|
  Eq.trans (e_ldA lin_X7_isHub n_X7_isHub_5 rfl) <|
  Eq.trans (e_KI lin_X7_isHub n_X7_isHub_6 k_20) <|
  Eq.trans (e_putI lin_X7_isHub n_X7_isHub_8 rfl (s_574 hS) rfl (j := 21) rfl) <|
  Eq.trans (e_ldA lin_X7_isHub n_X7_isHub_11 rfl) <|
  Eq.trans (e_ldL lin_X7_isHub n_X7_isHub_12 rfl) <|
  Eq.trans (e_KL lin_X7_isHub n_X7_isHub_13 kl_99) <|
  Eq.trans (e_lcmp lin_X7_isHub n_X7_isHub_16 h1 (by decide)) <|
  Eq.trans (e_IfEqF lin_X7_isHub n_X7_isHub_17 (R_lcm _ _) (lcm_ne h2)) <|
  Eq.trans (e_ldL lin_X7_isHub n_X7_isHub_24 rfl) <|
  Eq.trans (e_KL lin_X7_isHub n_X7_isHub_25 kl_97) <|
  Eq.trans (e_lcmp lin_X7_isHub n_X7_isHub_28 h1 (by decide)) <|
  Eq.trans (e_IfEqF lin_X7_isHub n_X7_isHub_29 (R_lcm _ _) (lcm_ne h3)) <|
  Eq.trans (e_ldL lin_X7_isHub n_X7_isHub_37 rfl) <|
  Eq.trans (e_KL lin_X7_isHub n_X7_isHub_38 kl_120) <|
  Eq.trans (e_lcmp lin_X7_isHub n_X7_isHub_41 h1 (by decide)) <|
  Eq.trans (e_IfEqF lin_X7_isHub n_X7_isHub_42 (R_lcm _ _) (lcm_ne h4)) <|
  Eq.trans (e_ldL lin_X7_isHub n_X7_isHub_50 rfl) <|
  Eq.trans (e_KL lin_X7_isHub n_X7_isHub_51 kl_113) <|
  Eq.trans (e_lcmp lin_X7_isHub n_X7_isHub_54 h1 (by decide)) <|
  Eq.trans (e_IfEqF lin_X7_isHub n_X7_isHub_55 (R_lcm _ _) (lcm_ne h5)) <|
  Eq.trans (e_KI lin_X7_isHub n_X7_isHub_64 k_m1) <|
  Eq.trans (e_putI lin_X7_isHub n_X7_isHub_65 rfl (s_574 hS) rfl (j := 20) rfl) <|
  Eq.trans (e_ldA lin_X7_isHub n_X7_isHub_68 rfl) <|
  Eq.trans (e_getI lin_X7_isHub n_X7_isHub_69 (s_574 hS) rfl (j := 20) rfl (v := (-1)) rfl) <|
  Eq.trans (e_IfLtT lin_X7_isHub n_X7_isHub_72 (by decide) (by decide)) <|
  Eq.trans (e_ldA lin_X7_isHub n_X7_isHub_77 rfl) <|
  Eq.trans (e_KI lin_X7_isHub n_X7_isHub_78 k_1) <|
  Eq.trans (e_putI lin_X7_isHub n_X7_isHub_79 rfl (s_574 hS) rfl (j := 21) rfl) <|
  Eq.trans (e_ldA lin_X7_isHub n_X7_isHub_82 rfl) <|
  Eq.trans (e_ldL lin_X7_isHub n_X7_isHub_83 rfl) <|
  Eq.trans (e_KL lin_X7_isHub n_X7_isHub_84 kl_101) <|
  Eq.trans (e_lcmp lin_X7_isHub n_X7_isHub_87 h1 (by decide)) <|
  Eq.trans (e_IfEqF lin_X7_isHub n_X7_isHub_88 (R_lcm _ _) (lcm_ne h6)) <|
  Eq.trans (e_ldL lin_X7_isHub n_X7_isHub_96 rfl) <|
  Eq.trans (e_KL lin_X7_isHub n_X7_isHub_97 kl_109) <|
  Eq.trans (e_lcmp lin_X7_isHub n_X7_isHub_100 h1 (by decide)) <|
  Eq.trans (e_IfEqF lin_X7_isHub n_X7_isHub_101 (R_lcm _ _) (lcm_ne h7)) <|
  Eq.trans (e_ldL lin_X7_isHub n_X7_isHub_110 rfl) <|
  Eq.trans (e_KL lin_X7_isHub n_X7_isHub_111 kl_1751215220) <|
  Eq.trans (e_lcmpE lin_X7_isHub n_X7_isHub_114 h8) <|
  Eq.trans (e_IfEqT lin_X7_isHub n_X7_isHub_115 (by decide) (by decide)) <|
  Eq.trans (e_KI lin_X7_isHub n_X7_isHub_118 k_180) <|
  Eq.trans (e_goto lin_X7_isHub n_X7_isHub_121) <|
  Eq.trans (e_putI lin_X7_isHub n_X7_isHub_125 rfl (s_574 hS) rfl (j := 20) rfl) <|
  Eq.trans (e_ldA lin_X7_isHub n_X7_isHub_128 rfl) <|
  Eq.trans (e_getI lin_X7_isHub n_X7_isHub_129 (s_574 hS) rfl (j := 20) rfl (v := 180) rfl) <|
  Eq.trans (e_IfLtF lin_X7_isHub n_X7_isHub_132 (by decide) (by decide)) <|
  Eq.trans (e_KI lin_X7_isHub n_X7_isHub_135 k_1) <|
  e_retZ lin_X7_isHub n_X7_isHub_136 (by decide)
theorem c_X7_isHub_NNNNNNNE {fi fl : HI} {cr : HR} {sh : HS} {nx sl d : Nat} {x1 : Int} (hS : Stat cr sh) (h1 : -9223372036854775808 ≤ x1 ∧ x1 < 9223372036854775808 := by omega) (h2 : x1 ≠ 99 := by omega) (h3 : x1 ≠ 97 := by omega) (h4 : x1 ≠ 120 := by omega) (h5 : x1 ≠ 113 := by omega) (h6 : x1 ≠ 101 := by omega) (h7 : x1 ≠ 109 := by omega) (h8 : x1 ≠ 1751215220 := by omega) (h9 : x1 = 117 := by omega) :
  CD mt (d + 1) 167 [.ref 574, lv x1] (G fi fl cr sh nx sl) = some (.returned (some (iv 1)), (G (up (up (up (up (up (up (up fi 574 22 1) 574 21 20) 574 20 (-1)) 574 21 1) 574 20 (-1)) 574 21 4) 574 20 61) fl cr sh nx sl)) :=
  Eq.trans (CD_at (ls := [.ref 574, lv x1, nv]) _ _ mt_X7_isHub rfl rfl) <|
  Eq.trans (e_ldA lin_X7_isHub n_X7_isHub_0 rfl) <|
  Eq.trans (e_KI lin_X7_isHub n_X7_isHub_1 k_1) <|
  Eq.trans (e_putI lin_X7_isHub n_X7_isHub_2 rfl (s_574 hS) rfl (j := 22) rfl) <|
  Eq.trans (e_ldA lin_X7_isHub n_X7_isHub_5 rfl) <|
  Eq.trans (e_KI lin_X7_isHub n_X7_isHub_6 k_20) <|
  Eq.trans (e_putI lin_X7_isHub n_X7_isHub_8 rfl (s_574 hS) rfl (j := 21) rfl) <|
  Eq.trans (e_ldA lin_X7_isHub n_X7_isHub_11 rfl) <|
  Eq.trans (e_ldL lin_X7_isHub n_X7_isHub_12 rfl) <|
  Eq.trans (e_KL lin_X7_isHub n_X7_isHub_13 kl_99) <|
  Eq.trans (e_lcmp lin_X7_isHub n_X7_isHub_16 h1 (by decide)) <|
  Eq.trans (e_IfEqF lin_X7_isHub n_X7_isHub_17 (R_lcm _ _) (lcm_ne h2)) <|
  Eq.trans (e_ldL lin_X7_isHub n_X7_isHub_24 rfl) <|
  Eq.trans (e_KL lin_X7_isHub n_X7_isHub_25 kl_97) <|
  Eq.trans (e_lcmp lin_X7_isHub n_X7_isHub_28 h1 (by decide)) <|
  Eq.trans (e_IfEqF lin_X7_isHub n_X7_isHub_29 (R_lcm _ _) (lcm_ne h3)) <|
  Eq.trans (e_ldL lin_X7_isHub n_X7_isHub_37 rfl) <|
  Eq.trans (e_KL lin_X7_isHub n_X7_isHub_38 kl_120) <|
  Eq.trans (e_lcmp lin_X7_isHub n_X7_isHub_41 h1 (by decide)) <|
  Eq.trans (e_IfEqF lin_X7_isHub n_X7_isHub_42 (R_lcm _ _) (lcm_ne h4)) <|
  Eq.trans (e_ldL lin_X7_isHub n_X7_isHub_50 rfl) <|
  Eq.trans (e_KL lin_X7_isHub n_X7_isHub_51 kl_113) <|
  Eq.trans (e_lcmp lin_X7_isHub n_X7_isHub_54 h1 (by decide)) <|
  Eq.trans (e_IfEqF lin_X7_isHub n_X7_isHub_55 (R_lcm _ _) (lcm_ne h5)) <|
  Eq.trans (e_KI lin_X7_isHub n_X7_isHub_64 k_m1) <|
  Eq.trans (e_putI lin_X7_isHub n_X7_isHub_65 rfl (s_574 hS) rfl (j := 20) rfl) <|
  Eq.trans (e_ldA lin_X7_isHub n_X7_isHub_68 rfl) <|
  Eq.trans (e_getI lin_X7_isHub n_X7_isHub_69 (s_574 hS) rfl (j := 20) rfl (v := (-1)) rfl) <|
  Eq.trans (e_IfLtT lin_X7_isHub n_X7_isHub_72 (by decide) (by decide)) <|
  Eq.trans (e_ldA lin_X7_isHub n_X7_isHub_77 rfl) <|
  Eq.trans (e_KI lin_X7_isHub n_X7_isHub_78 k_1) <|
  Eq.trans (e_putI lin_X7_isHub n_X7_isHub_79 rfl (s_574 hS) rfl (j := 21) rfl) <|
  Eq.trans (e_ldA lin_X7_isHub n_X7_isHub_82 rfl) <|
  Eq.trans (e_ldL lin_X7_isHub n_X7_isHub_83 rfl) <|
  Eq.trans (e_KL lin_X7_isHub n_X7_isHub_84 kl_101) <|
  Eq.trans (e_lcmp lin_X7_isHub n_X7_isHub_87 h1 (by decide)) <|
  Eq.trans (e_IfEqF lin_X7_isHub n_X7_isHub_88 (R_lcm _ _) (lcm_ne h6)) <|
  Eq.trans (e_ldL lin_X7_isHub n_X7_isHub_96 rfl) <|
  Eq.trans (e_KL lin_X7_isHub n_X7_isHub_97 kl_109) <|
  Eq.trans (e_lcmp lin_X7_isHub n_X7_isHub_100 h1 (by decide)) <|
  Eq.trans (e_IfEqF lin_X7_isHub n_X7_isHub_101 (R_lcm _ _) (lcm_ne h7)) <|
  Eq.trans (e_ldL lin_X7_isHub n_X7_isHub_110 rfl) <|
  Eq.trans (e_KL lin_X7_isHub n_X7_isHub_111 kl_1751215220) <|
  Eq.trans (e_lcmp lin_X7_isHub n_X7_isHub_114 h1 (by decide)) <|
  Eq.trans (e_IfEqF lin_X7_isHub n_X7_isHub_115 (R_lcm _ _) (lcm_ne h8)) <|
  Eq.trans (e_KI lin_X7_isHub n_X7_isHub_124 k_m1) <|
  Eq.trans (e_putI lin_X7_isHub n_X7_isHub_125 rfl (s_574 hS) rfl (j := 20) rfl) <|
  Eq.trans (e_ldA lin_X7_isHub n_X7_isHub_128 rfl) <|
  Eq.trans (e_getI lin_X7_isHub n_X7_isHub_129 (s_574 hS) rfl (j := 20) rfl (v := (-1)) rfl) <|
  Eq.trans (e_IfLtT lin_X7_isHub n_X7_isHub_132 (by decide) (by decide)) <|
  Eq.trans (e_ldA lin_X7_isHub n_X7_isHub_137 rfl) <|
  Eq.trans (e_KI lin_X7_isHub n_X7_isHub_138 k_4) <|
  Eq.trans (e_putI lin_X7_isHub n_X7_isHub_139 rfl (s_574 hS) rfl (j := 21) rfl) <|
  Eq.trans (e_ldA lin_X7_isHub n_X7_isHub_142 rfl) <|
  Eq.trans (e_ldL lin_X7_isHub n_X7_isHub_143 rfl) <|
  Eq.trans (e_KL lin_X7_isHub n_X7_isHub_144 kl_117) <|
  Eq.trans (e_lcmpE lin_X7_isHub n_X7_isHub_147 h9) <|
  Eq.trans (e_IfEqT lin_X7_isHub n_X7_isHub_148 (by decide) (by decide)) <|
  Eq.trans (e_KI lin_X7_isHub n_X7_isHub_151 k_61) <|
  Eq.trans (e_goto lin_X7_isHub n_X7_isHub_153) <|
  Eq.trans (e_putI lin_X7_isHub n_X7_isHub_252 rfl (s_574 hS) rfl (j := 20) rfl) <|
  Eq.trans (e_ldA lin_X7_isHub n_X7_isHub_255 rfl) <|
  Eq.trans (e_getI lin_X7_isHub n_X7_isHub_256 (s_574 hS) rfl (j := 20) rfl (v := 61) rfl) <|
  Eq.trans (e_IfLtF lin_X7_isHub n_X7_isHub_259 (by decide) (by decide)) <|
  Eq.trans (e_KI lin_X7_isHub n_X7_isHub_262 k_1) <|
  e_retZ lin_X7_isHub n_X7_isHub_263 (by decide)
theorem c_X7_isHub_NNNNNNNNE {fi fl : HI} {cr : HR} {sh : HS} {nx sl d : Nat} {x1 : Int} (hS : Stat cr sh) (h1 : -9223372036854775808 ≤ x1 ∧ x1 < 9223372036854775808 := by omega) (h2 : x1 ≠ 99 := by omega) (h3 : x1 ≠ 97 := by omega) (h4 : x1 ≠ 120 := by omega) (h5 : x1 ≠ 113 := by omega) (h6 : x1 ≠ 101 := by omega) (h7 : x1 ≠ 109 := by omega) (h8 : x1 ≠ 1751215220 := by omega) (h9 : x1 ≠ 117 := by omega) (h10 : x1 = 122 := by omega) :
  CD mt (d + 1) 167 [.ref 574, lv x1] (G fi fl cr sh nx sl) = some (.returned (some (iv 1)), (G (up (up (up (up (up (up (up fi 574 22 1) 574 21 20) 574 20 (-1)) 574 21 1) 574 20 (-1)) 574 21 4) 574 20 92) fl cr sh nx sl)) :=
  Eq.trans (CD_at (ls := [.ref 574, lv x1, nv]) _ _ mt_X7_isHub rfl rfl) <|
  Eq.trans (e_ldA lin_X7_isHub n_X7_isHub_0 rfl) <|
  Eq.trans (e_KI lin_X7_isHub n_X7_isHub_1 k_1) <|
  Eq.trans (e_putI lin_X7_isHub n_X7_isHub_2 rfl (s_574 hS) rfl (j := 22) rfl) <|
  Eq.trans (e_ldA lin_X7_isHub n_X7_isHub_5 rfl) <|
  Eq.trans (e_KI lin_X7_isHub n_X7_isHub_6 k_20) <|
  Eq.trans (e_putI lin_X7_isHub n_X7_isHub_8 rfl (s_574 hS) rfl (j := 21) rfl) <|
  Eq.trans (e_ldA lin_X7_isHub n_X7_isHub_11 rfl) <|
  Eq.trans (e_ldL lin_X7_isHub n_X7_isHub_12 rfl) <|
  Eq.trans (e_KL lin_X7_isHub n_X7_isHub_13 kl_99) <|
  Eq.trans (e_lcmp lin_X7_isHub n_X7_isHub_16 h1 (by decide)) <|
  Eq.trans (e_IfEqF lin_X7_isHub n_X7_isHub_17 (R_lcm _ _) (lcm_ne h2)) <|
  Eq.trans (e_ldL lin_X7_isHub n_X7_isHub_24 rfl) <|
  Eq.trans (e_KL lin_X7_isHub n_X7_isHub_25 kl_97) <|
  Eq.trans (e_lcmp lin_X7_isHub n_X7_isHub_28 h1 (by decide)) <|
  Eq.trans (e_IfEqF lin_X7_isHub n_X7_isHub_29 (R_lcm _ _) (lcm_ne h3)) <|
  Eq.trans (e_ldL lin_X7_isHub n_X7_isHub_37 rfl) <|
  Eq.trans (e_KL lin_X7_isHub n_X7_isHub_38 kl_120) <|
  Eq.trans (e_lcmp lin_X7_isHub n_X7_isHub_41 h1 (by decide)) <|
  Eq.trans (e_IfEqF lin_X7_isHub n_X7_isHub_42 (R_lcm _ _) (lcm_ne h4)) <|
  Eq.trans (e_ldL lin_X7_isHub n_X7_isHub_50 rfl) <|
  Eq.trans (e_KL lin_X7_isHub n_X7_isHub_51 kl_113) <|
  Eq.trans (e_lcmp lin_X7_isHub n_X7_isHub_54 h1 (by decide)) <|
  Eq.trans (e_IfEqF lin_X7_isHub n_X7_isHub_55 (R_lcm _ _) (lcm_ne h5)) <|
  Eq.trans (e_KI lin_X7_isHub n_X7_isHub_64 k_m1) <|
  Eq.trans (e_putI lin_X7_isHub n_X7_isHub_65 rfl (s_574 hS) rfl (j := 20) rfl) <|
  Eq.trans (e_ldA lin_X7_isHub n_X7_isHub_68 rfl) <|
  Eq.trans (e_getI lin_X7_isHub n_X7_isHub_69 (s_574 hS) rfl (j := 20) rfl (v := (-1)) rfl) <|
  Eq.trans (e_IfLtT lin_X7_isHub n_X7_isHub_72 (by decide) (by decide)) <|
  Eq.trans (e_ldA lin_X7_isHub n_X7_isHub_77 rfl) <|
  Eq.trans (e_KI lin_X7_isHub n_X7_isHub_78 k_1) <|
  Eq.trans (e_putI lin_X7_isHub n_X7_isHub_79 rfl (s_574 hS) rfl (j := 21) rfl) <|
  Eq.trans (e_ldA lin_X7_isHub n_X7_isHub_82 rfl) <|
  Eq.trans (e_ldL lin_X7_isHub n_X7_isHub_83 rfl) <|
  Eq.trans (e_KL lin_X7_isHub n_X7_isHub_84 kl_101) <|
  Eq.trans (e_lcmp lin_X7_isHub n_X7_isHub_87 h1 (by decide)) <|
  Eq.trans (e_IfEqF lin_X7_isHub n_X7_isHub_88 (R_lcm _ _) (lcm_ne h6)) <|
  Eq.trans (e_ldL lin_X7_isHub n_X7_isHub_96 rfl) <|
  Eq.trans (e_KL lin_X7_isHub n_X7_isHub_97 kl_109) <|
  Eq.trans (e_lcmp lin_X7_isHub n_X7_isHub_100 h1 (by decide)) <|
  Eq.trans (e_IfEqF lin_X7_isHub n_X7_isHub_101 (R_lcm _ _) (lcm_ne h7)) <|
  Eq.trans (e_ldL lin_X7_isHub n_X7_isHub_110 rfl) <|
  Eq.trans (e_KL lin_X7_isHub n_X7_isHub_111 kl_1751215220) <|
  Eq.trans (e_lcmp lin_X7_isHub n_X7_isHub_114 h1 (by decide)) <|
  Eq.trans (e_IfEqF lin_X7_isHub n_X7_isHub_115 (R_lcm _ _) (lcm_ne h8)) <|
  Eq.trans (e_KI lin_X7_isHub n_X7_isHub_124 k_m1) <|
  Eq.trans (e_putI lin_X7_isHub n_X7_isHub_125 rfl (s_574 hS) rfl (j := 20) rfl) <|
  Eq.trans (e_ldA lin_X7_isHub n_X7_isHub_128 rfl) <|
  Eq.trans (e_getI lin_X7_isHub n_X7_isHub_129 (s_574 hS) rfl (j := 20) rfl (v := (-1)) rfl) <|
  Eq.trans (e_IfLtT lin_X7_isHub n_X7_isHub_132 (by decide) (by decide)) <|
  Eq.trans (e_ldA lin_X7_isHub n_X7_isHub_137 rfl) <|
  Eq.trans (e_KI lin_X7_isHub n_X7_isHub_138 k_4) <|
  Eq.trans (e_putI lin_X7_isHub n_X7_isHub_139 rfl (s_574 hS) rfl (j := 21) rfl) <|
  Eq.trans (e_ldA lin_X7_isHub n_X7_isHub_142 rfl) <|
  Eq.trans (e_ldL lin_X7_isHub n_X7_isHub_143 rfl) <|
  Eq.trans (e_KL lin_X7_isHub n_X7_isHub_144 kl_117) <|
  Eq.trans (e_lcmp lin_X7_isHub n_X7_isHub_147 h1 (by decide)) <|
  Eq.trans (e_IfEqF lin_X7_isHub n_X7_isHub_148 (R_lcm _ _) (lcm_ne h9)) <|
  Eq.trans (e_ldL lin_X7_isHub n_X7_isHub_156 rfl) <|
  Eq.trans (e_KL lin_X7_isHub n_X7_isHub_157 kl_122) <|
  Eq.trans (e_lcmpE lin_X7_isHub n_X7_isHub_160 h10) <|
  Eq.trans (e_IfEqT lin_X7_isHub n_X7_isHub_161 (by decide) (by decide)) <|
  Eq.trans (e_KI lin_X7_isHub n_X7_isHub_164 k_92) <|
  Eq.trans (e_goto lin_X7_isHub n_X7_isHub_166) <|
  Eq.trans (e_putI lin_X7_isHub n_X7_isHub_252 rfl (s_574 hS) rfl (j := 20) rfl) <|
  Eq.trans (e_ldA lin_X7_isHub n_X7_isHub_255 rfl) <|
  Eq.trans (e_getI lin_X7_isHub n_X7_isHub_256 (s_574 hS) rfl (j := 20) rfl (v := 92) rfl) <|
  Eq.trans (e_IfLtF lin_X7_isHub n_X7_isHub_259 (by decide) (by decide)) <|
  Eq.trans (e_KI lin_X7_isHub n_X7_isHub_262 k_1) <|
  e_retZ lin_X7_isHub n_X7_isHub_263 (by decide)
theorem c_X7_isHub_NNNNNNNNNE {fi fl : HI} {cr : HR} {sh : HS} {nx sl d : Nat} {x1 : Int} (hS : Stat cr sh) (h1 : -9223372036854775808 ≤ x1 ∧ x1 < 9223372036854775808 := by omega) (h2 : x1 ≠ 99 := by omega) (h3 : x1 ≠ 97 := by omega) (h4 : x1 ≠ 120 := by omega) (h5 : x1 ≠ 113 := by omega) (h6 : x1 ≠ 101 := by omega) (h7 : x1 ≠ 109 := by omega) (h8 : x1 ≠ 1751215220 := by omega) (h9 : x1 ≠ 117 := by omega) (h10 : x1 ≠ 122 := by omega) (h11 : x1 = 1886156147 := by omega) :
  CD mt (d + 1) 167 [.ref 574, lv x1] (G fi fl cr sh nx sl) = some (.returned (some (iv 1)), (G (up (up (up (up (up (up (up fi 574 22 1) 574 21 20) 574 20 (-1)) 574 21 1) 574 20 (-1)) 574 21 4) 574 20 120) fl cr sh nx sl)) :=
  Eq.trans (CD_at (ls := [.ref 574, lv x1, nv]) _ _ mt_X7_isHub rfl rfl) <|
  Eq.trans (e_ldA lin_X7_isHub n_X7_isHub_0 rfl) <|
  Eq.trans (e_KI lin_X7_isHub n_X7_isHub_1 k_1) <|
  Eq.trans (e_putI lin_X7_isHub n_X7_isHub_2 rfl (s_574 hS) rfl (j := 22) rfl) <|
  Eq.trans (e_ldA lin_X7_isHub n_X7_isHub_5 rfl) <|
  Eq.trans (e_KI lin_X7_isHub n_X7_isHub_6 k_20) <|
  Eq.trans (e_putI lin_X7_isHub n_X7_isHub_8 rfl (s_574 hS) rfl (j := 21) rfl) <|
  Eq.trans (e_ldA lin_X7_isHub n_X7_isHub_11 rfl) <|
  Eq.trans (e_ldL lin_X7_isHub n_X7_isHub_12 rfl) <|
  Eq.trans (e_KL lin_X7_isHub n_X7_isHub_13 kl_99) <|
  Eq.trans (e_lcmp lin_X7_isHub n_X7_isHub_16 h1 (by decide)) <|
  Eq.trans (e_IfEqF lin_X7_isHub n_X7_isHub_17 (R_lcm _ _) (lcm_ne h2)) <|
  Eq.trans (e_ldL lin_X7_isHub n_X7_isHub_24 rfl) <|
  Eq.trans (e_KL lin_X7_isHub n_X7_isHub_25 kl_97) <|
  Eq.trans (e_lcmp lin_X7_isHub n_X7_isHub_28 h1 (by decide)) <|
  Eq.trans (e_IfEqF lin_X7_isHub n_X7_isHub_29 (R_lcm _ _) (lcm_ne h3)) <|
  Eq.trans (e_ldL lin_X7_isHub n_X7_isHub_37 rfl) <|
  Eq.trans (e_KL lin_X7_isHub n_X7_isHub_38 kl_120) <|
  Eq.trans (e_lcmp lin_X7_isHub n_X7_isHub_41 h1 (by decide)) <|
  Eq.trans (e_IfEqF lin_X7_isHub n_X7_isHub_42 (R_lcm _ _) (lcm_ne h4)) <|
  Eq.trans (e_ldL lin_X7_isHub n_X7_isHub_50 rfl) <|
  Eq.trans (e_KL lin_X7_isHub n_X7_isHub_51 kl_113) <|
  Eq.trans (e_lcmp lin_X7_isHub n_X7_isHub_54 h1 (by decide)) <|
  Eq.trans (e_IfEqF lin_X7_isHub n_X7_isHub_55 (R_lcm _ _) (lcm_ne h5)) <|
  Eq.trans (e_KI lin_X7_isHub n_X7_isHub_64 k_m1) <|
  Eq.trans (e_putI lin_X7_isHub n_X7_isHub_65 rfl (s_574 hS) rfl (j := 20) rfl) <|
  Eq.trans (e_ldA lin_X7_isHub n_X7_isHub_68 rfl) <|
  Eq.trans (e_getI lin_X7_isHub n_X7_isHub_69 (s_574 hS) rfl (j := 20) rfl (v := (-1)) rfl) <|
  Eq.trans (e_IfLtT lin_X7_isHub n_X7_isHub_72 (by decide) (by decide)) <|
  Eq.trans (e_ldA lin_X7_isHub n_X7_isHub_77 rfl) <|
  Eq.trans (e_KI lin_X7_isHub n_X7_isHub_78 k_1) <|
  Eq.trans (e_putI lin_X7_isHub n_X7_isHub_79 rfl (s_574 hS) rfl (j := 21) rfl) <|
  Eq.trans (e_ldA lin_X7_isHub n_X7_isHub_82 rfl) <|
  Eq.trans (e_ldL lin_X7_isHub n_X7_isHub_83 rfl) <|
  Eq.trans (e_KL lin_X7_isHub n_X7_isHub_84 kl_101) <|
  Eq.trans (e_lcmp lin_X7_isHub n_X7_isHub_87 h1 (by decide)) <|
  Eq.trans (e_IfEqF lin_X7_isHub n_X7_isHub_88 (R_lcm _ _) (lcm_ne h6)) <|
  Eq.trans (e_ldL lin_X7_isHub n_X7_isHub_96 rfl) <|
  Eq.trans (e_KL lin_X7_isHub n_X7_isHub_97 kl_109) <|
  Eq.trans (e_lcmp lin_X7_isHub n_X7_isHub_100 h1 (by decide)) <|
  Eq.trans (e_IfEqF lin_X7_isHub n_X7_isHub_101 (R_lcm _ _) (lcm_ne h7)) <|
  Eq.trans (e_ldL lin_X7_isHub n_X7_isHub_110 rfl) <|
  Eq.trans (e_KL lin_X7_isHub n_X7_isHub_111 kl_1751215220) <|
  Eq.trans (e_lcmp lin_X7_isHub n_X7_isHub_114 h1 (by decide)) <|
  Eq.trans (e_IfEqF lin_X7_isHub n_X7_isHub_115 (R_lcm _ _) (lcm_ne h8)) <|
  Eq.trans (e_KI lin_X7_isHub n_X7_isHub_124 k_m1) <|
  Eq.trans (e_putI lin_X7_isHub n_X7_isHub_125 rfl (s_574 hS) rfl (j := 20) rfl) <|
  Eq.trans (e_ldA lin_X7_isHub n_X7_isHub_128 rfl) <|
  Eq.trans (e_getI lin_X7_isHub n_X7_isHub_129 (s_574 hS) rfl (j := 20) rfl (v := (-1)) rfl) <|
  Eq.trans (e_IfLtT lin_X7_isHub n_X7_isHub_132 (by decide) (by decide)) <|
  Eq.trans (e_ldA lin_X7_isHub n_X7_isHub_137 rfl) <|
  Eq.trans (e_KI lin_X7_isHub n_X7_isHub_138 k_4) <|
  Eq.trans (e_putI lin_X7_isHub n_X7_isHub_139 rfl (s_574 hS) rfl (j := 21) rfl) <|
  Eq.trans (e_ldA lin_X7_isHub n_X7_isHub_142 rfl) <|
  Eq.trans (e_ldL lin_X7_isHub n_X7_isHub_143 rfl) <|
  Eq.trans (e_KL lin_X7_isHub n_X7_isHub_144 kl_117) <|
  Eq.trans (e_lcmp lin_X7_isHub n_X7_isHub_147 h1 (by decide)) <|
  Eq.trans (e_IfEqF lin_X7_isHub n_X7_isHub_148 (R_lcm _ _) (lcm_ne h9)) <|
  Eq.trans (e_ldL lin_X7_isHub n_X7_isHub_156 rfl) <|
  Eq.trans (e_KL lin_X7_isHub n_X7_isHub_157 kl_122) <|
  Eq.trans (e_lcmp lin_X7_isHub n_X7_isHub_160 h1 (by decide)) <|
  Eq.trans (e_IfEqF lin_X7_isHub n_X7_isHub_161 (R_lcm _ _) (lcm_ne h10)) <|
  Eq.trans (e_ldL lin_X7_isHub n_X7_isHub_169 rfl) <|
  Eq.trans (e_KL lin_X7_isHub n_X7_isHub_170 kl_1886156147) <|
  Eq.trans (e_lcmpE lin_X7_isHub n_X7_isHub_173 h11) <|
  Eq.trans (e_IfEqT lin_X7_isHub n_X7_isHub_174 (by decide) (by decide)) <|
  Eq.trans (e_KI lin_X7_isHub n_X7_isHub_177 k_120) <|
  Eq.trans (e_goto lin_X7_isHub n_X7_isHub_179) <|
  Eq.trans (e_putI lin_X7_isHub n_X7_isHub_252 rfl (s_574 hS) rfl (j := 20) rfl) <|
  Eq.trans (e_ldA lin_X7_isHub n_X7_isHub_255 rfl) <|
  Eq.trans (e_getI lin_X7_isHub n_X7_isHub_256 (s_574 hS) rfl (j := 20) rfl (v := 120) rfl) <|
  Eq.trans (e_IfLtF lin_X7_isHub n_X7_isHub_259 (by decide) (by decide)) <|
  Eq.trans (e_KI lin_X7_isHub n_X7_isHub_262 k_1) <|
  e_retZ lin_X7_isHub n_X7_isHub_263 (by decide)
theorem c_X7_isHub_NNNNNNNNNNE {fi fl : HI} {cr : HR} {sh : HS} {nx sl d : Nat} {x1 : Int} (hS : Stat cr sh) (h1 : -9223372036854775808 ≤ x1 ∧ x1 < 9223372036854775808 := by omega) (h2 : x1 ≠ 99 := by omega) (h3 : x1 ≠ 97 := by omega) (h4 : x1 ≠ 120 := by omega) (h5 : x1 ≠ 113 := by omega) (h6 : x1 ≠ 101 := by omega) (h7 : x1 ≠ 109 := by omega) (h8 : x1 ≠ 1751215220 := by omega) (h9 : x1 ≠ 117 := by omega) (h10 : x1 ≠ 122 := by omega) (h11 : x1 ≠ 1886156147 := by omega) (h12 : x1 = 469920281971 := by omega) :
  CD mt (d + 1) 167 [.ref 574, lv x1] (G fi fl cr sh nx sl) = some (.returned (some (iv 1)), (G (up (up (up (up (up (up (up fi 574 22 1) 574 21 20) 574 20 (-1)) 574 21 1) 574 20 (-1)) 574 21 4) 574 20 124) fl cr sh nx sl)) :=
  Eq.trans (CD_at (ls := [.ref 574, lv x1, nv]) _ _ mt_X7_isHub rfl rfl) <|
  Eq.trans (e_ldA lin_X7_isHub n_X7_isHub_0 rfl) <|
  Eq.trans (e_KI lin_X7_isHub n_X7_isHub_1 k_1) <|
  Eq.trans (e_putI lin_X7_isHub n_X7_isHub_2 rfl (s_574 hS) rfl (j := 22) rfl) <|
  Eq.trans (e_ldA lin_X7_isHub n_X7_isHub_5 rfl) <|
  Eq.trans (e_KI lin_X7_isHub n_X7_isHub_6 k_20) <|
  Eq.trans (e_putI lin_X7_isHub n_X7_isHub_8 rfl (s_574 hS) rfl (j := 21) rfl) <|
  Eq.trans (e_ldA lin_X7_isHub n_X7_isHub_11 rfl) <|
  Eq.trans (e_ldL lin_X7_isHub n_X7_isHub_12 rfl) <|
  Eq.trans (e_KL lin_X7_isHub n_X7_isHub_13 kl_99) <|
  Eq.trans (e_lcmp lin_X7_isHub n_X7_isHub_16 h1 (by decide)) <|
  Eq.trans (e_IfEqF lin_X7_isHub n_X7_isHub_17 (R_lcm _ _) (lcm_ne h2)) <|
  Eq.trans (e_ldL lin_X7_isHub n_X7_isHub_24 rfl) <|
  Eq.trans (e_KL lin_X7_isHub n_X7_isHub_25 kl_97) <|
  Eq.trans (e_lcmp lin_X7_isHub n_X7_isHub_28 h1 (by decide)) <|
  Eq.trans (e_IfEqF lin_X7_isHub n_X7_isHub_29 (R_lcm _ _) (lcm_ne h3)) <|
  Eq.trans (e_ldL lin_X7_isHub n_X7_isHub_37 rfl) <|
  Eq.trans (e_KL lin_X7_isHub n_X7_isHub_38 kl_120) <|
  Eq.trans (e_lcmp lin_X7_isHub n_X7_isHub_41 h1 (by decide)) <|
  Eq.trans (e_IfEqF lin_X7_isHub n_X7_isHub_42 (R_lcm _ _) (lcm_ne h4)) <|
  Eq.trans (e_ldL lin_X7_isHub n_X7_isHub_50 rfl) <|
  Eq.trans (e_KL lin_X7_isHub n_X7_isHub_51 kl_113) <|
  Eq.trans (e_lcmp lin_X7_isHub n_X7_isHub_54 h1 (by decide)) <|
  Eq.trans (e_IfEqF lin_X7_isHub n_X7_isHub_55 (R_lcm _ _) (lcm_ne h5)) <|
  Eq.trans (e_KI lin_X7_isHub n_X7_isHub_64 k_m1) <|
  Eq.trans (e_putI lin_X7_isHub n_X7_isHub_65 rfl (s_574 hS) rfl (j := 20) rfl) <|
  Eq.trans (e_ldA lin_X7_isHub n_X7_isHub_68 rfl) <|
  Eq.trans (e_getI lin_X7_isHub n_X7_isHub_69 (s_574 hS) rfl (j := 20) rfl (v := (-1)) rfl) <|
  Eq.trans (e_IfLtT lin_X7_isHub n_X7_isHub_72 (by decide) (by decide)) <|
  Eq.trans (e_ldA lin_X7_isHub n_X7_isHub_77 rfl) <|
  Eq.trans (e_KI lin_X7_isHub n_X7_isHub_78 k_1) <|
  Eq.trans (e_putI lin_X7_isHub n_X7_isHub_79 rfl (s_574 hS) rfl (j := 21) rfl) <|
  Eq.trans (e_ldA lin_X7_isHub n_X7_isHub_82 rfl) <|
  Eq.trans (e_ldL lin_X7_isHub n_X7_isHub_83 rfl) <|
  Eq.trans (e_KL lin_X7_isHub n_X7_isHub_84 kl_101) <|
  Eq.trans (e_lcmp lin_X7_isHub n_X7_isHub_87 h1 (by decide)) <|
  Eq.trans (e_IfEqF lin_X7_isHub n_X7_isHub_88 (R_lcm _ _) (lcm_ne h6)) <|
  Eq.trans (e_ldL lin_X7_isHub n_X7_isHub_96 rfl) <|
  Eq.trans (e_KL lin_X7_isHub n_X7_isHub_97 kl_109) <|
  Eq.trans (e_lcmp lin_X7_isHub n_X7_isHub_100 h1 (by decide)) <|
  Eq.trans (e_IfEqF lin_X7_isHub n_X7_isHub_101 (R_lcm _ _) (lcm_ne h7)) <|
  Eq.trans (e_ldL lin_X7_isHub n_X7_isHub_110 rfl) <|
  Eq.trans (e_KL lin_X7_isHub n_X7_isHub_111 kl_1751215220) <|
  Eq.trans (e_lcmp lin_X7_isHub n_X7_isHub_114 h1 (by decide)) <|
  Eq.trans (e_IfEqF lin_X7_isHub n_X7_isHub_115 (R_lcm _ _) (lcm_ne h8)) <|
  Eq.trans (e_KI lin_X7_isHub n_X7_isHub_124 k_m1) <|
  Eq.trans (e_putI lin_X7_isHub n_X7_isHub_125 rfl (s_574 hS) rfl (j := 20) rfl) <|
  Eq.trans (e_ldA lin_X7_isHub n_X7_isHub_128 rfl) <|
  Eq.trans (e_getI lin_X7_isHub n_X7_isHub_129 (s_574 hS) rfl (j := 20) rfl (v := (-1)) rfl) <|
  Eq.trans (e_IfLtT lin_X7_isHub n_X7_isHub_132 (by decide) (by decide)) <|
  Eq.trans (e_ldA lin_X7_isHub n_X7_isHub_137 rfl) <|
  Eq.trans (e_KI lin_X7_isHub n_X7_isHub_138 k_4) <|
  Eq.trans (e_putI lin_X7_isHub n_X7_isHub_139 rfl (s_574 hS) rfl (j := 21) rfl) <|
  Eq.trans (e_ldA lin_X7_isHub n_X7_isHub_142 rfl) <|
  Eq.trans (e_ldL lin_X7_isHub n_X7_isHub_143 rfl) <|
  Eq.trans (e_KL lin_X7_isHub n_X7_isHub_144 kl_117) <|
  Eq.trans (e_lcmp lin_X7_isHub n_X7_isHub_147 h1 (by decide)) <|
  Eq.trans (e_IfEqF lin_X7_isHub n_X7_isHub_148 (R_lcm _ _) (lcm_ne h9)) <|
  Eq.trans (e_ldL lin_X7_isHub n_X7_isHub_156 rfl) <|
  Eq.trans (e_KL lin_X7_isHub n_X7_isHub_157 kl_122) <|
  Eq.trans (e_lcmp lin_X7_isHub n_X7_isHub_160 h1 (by decide)) <|
  Eq.trans (e_IfEqF lin_X7_isHub n_X7_isHub_161 (R_lcm _ _) (lcm_ne h10)) <|
  Eq.trans (e_ldL lin_X7_isHub n_X7_isHub_169 rfl) <|
  Eq.trans (e_KL lin_X7_isHub n_X7_isHub_170 kl_1886156147) <|
  Eq.trans (e_lcmp lin_X7_isHub n_X7_isHub_173 h1 (by decide)) <|
  Eq.trans (e_IfEqF lin_X7_isHub n_X7_isHub_174 (R_lcm _ _) (lcm_ne h11)) <|
  Eq.trans (e_ldL lin_X7_isHub n_X7_isHub_182 rfl) <|
  Eq.trans (e_KL lin_X7_isHub n_X7_isHub_183 kl_469920281971) <|
  Eq.trans (e_lcmpE lin_X7_isHub n_X7_isHub_186 h12) <|
  Eq.trans (e_IfEqT lin_X7_isHub n_X7_isHub_187 (by decide) (by decide)) <|
  Eq.trans (e_KI lin_X7_isHub n_X7_isHub_190 k_124) <|
  Eq.trans (e_goto lin_X7_isHub n_X7_isHub_192) <|
  Eq.trans (e_putI lin_X7_isHub n_X7_isHub_252 rfl (s_574 hS) rfl (j := 20) rfl) <|
  Eq.trans (e_ldA lin_X7_isHub n_X7_isHub_255 rfl) <|
  Eq.trans (e_getI lin_X7_isHub n_X7_isHub_256 (s_574 hS) rfl (j := 20) rfl (v := 124) rfl) <|
  Eq.trans (e_IfLtF lin_X7_isHub n_X7_isHub_259 (by decide) (by decide)) <|
  Eq.trans (e_KI lin_X7_isHub n_X7_isHub_262 k_1) <|
  e_retZ lin_X7_isHub n_X7_isHub_263 (by decide)
theorem c_X7_isHub_NNNNNNNNNNNE {fi fl : HI} {cr : HR} {sh : HS} {nx sl d : Nat} {x1 : Int} (hS : Stat cr sh) (h1 : -9223372036854775808 ≤ x1 ∧ x1 < 9223372036854775808 := by omega) (h2 : x1 ≠ 99 := by omega) (h3 : x1 ≠ 97 := by omega) (h4 : x1 ≠ 120 := by omega) (h5 : x1 ≠ 113 := by omega) (h6 : x1 ≠ 101 := by omega) (h7 : x1 ≠ 109 := by omega) (h8 : x1 ≠ 1751215220 := by omega) (h9 : x1 ≠ 117 := by omega) (h10 : x1 ≠ 122 := by omega) (h11 : x1 ≠ 1886156147 := by omega) (h12 : x1 ≠ 469920281971 := by omega) (h13 : x1 = 427020345714 := by omega) :
  CD mt (d + 1) 167 [.ref 574, lv x1] (G fi fl cr sh nx sl) = some (.returned (some (iv 1)), (G (up (up (up (up (up (up (up fi 574 22 1) 574 21 20) 574 20 (-1)) 574 21 1) 574 20 (-1)) 574 21 4) 574 20 128) fl cr sh nx sl)) :=
  Eq.trans (CD_at (ls := [.ref 574, lv x1, nv]) _ _ mt_X7_isHub rfl rfl) <|
  Eq.trans (e_ldA lin_X7_isHub n_X7_isHub_0 rfl) <|
  Eq.trans (e_KI lin_X7_isHub n_X7_isHub_1 k_1) <|
  Eq.trans (e_putI lin_X7_isHub n_X7_isHub_2 rfl (s_574 hS) rfl (j := 22) rfl) <|
  Eq.trans (e_ldA lin_X7_isHub n_X7_isHub_5 rfl) <|
  Eq.trans (e_KI lin_X7_isHub n_X7_isHub_6 k_20) <|
  Eq.trans (e_putI lin_X7_isHub n_X7_isHub_8 rfl (s_574 hS) rfl (j := 21) rfl) <|
  Eq.trans (e_ldA lin_X7_isHub n_X7_isHub_11 rfl) <|
  Eq.trans (e_ldL lin_X7_isHub n_X7_isHub_12 rfl) <|
  Eq.trans (e_KL lin_X7_isHub n_X7_isHub_13 kl_99) <|
  Eq.trans (e_lcmp lin_X7_isHub n_X7_isHub_16 h1 (by decide)) <|
  Eq.trans (e_IfEqF lin_X7_isHub n_X7_isHub_17 (R_lcm _ _) (lcm_ne h2)) <|
  Eq.trans (e_ldL lin_X7_isHub n_X7_isHub_24 rfl) <|
  Eq.trans (e_KL lin_X7_isHub n_X7_isHub_25 kl_97) <|
  Eq.trans (e_lcmp lin_X7_isHub n_X7_isHub_28 h1 (by decide)) <|
  Eq.trans (e_IfEqF lin_X7_isHub n_X7_isHub_29 (R_lcm _ _) (lcm_ne h3)) <|
  Eq.trans (e_ldL lin_X7_isHub n_X7_isHub_37 rfl) <|
  Eq.trans (e_KL lin_X7_isHub n_X7_isHub_38 kl_120) <|
  Eq.trans (e_lcmp lin_X7_isHub n_X7_isHub_41 h1 (by decide)) <|
  Eq.trans (e_IfEqF lin_X7_isHub n_X7_isHub_42 (R_lcm _ _) (lcm_ne h4)) <|
  Eq.trans (e_ldL lin_X7_isHub n_X7_isHub_50 rfl) <|
  Eq.trans (e_KL lin_X7_isHub n_X7_isHub_51 kl_113) <|
  Eq.trans (e_lcmp lin_X7_isHub n_X7_isHub_54 h1 (by decide)) <|
  Eq.trans (e_IfEqF lin_X7_isHub n_X7_isHub_55 (R_lcm _ _) (lcm_ne h5)) <|
  Eq.trans (e_KI lin_X7_isHub n_X7_isHub_64 k_m1) <|
  Eq.trans (e_putI lin_X7_isHub n_X7_isHub_65 rfl (s_574 hS) rfl (j := 20) rfl) <|
  Eq.trans (e_ldA lin_X7_isHub n_X7_isHub_68 rfl) <|
  Eq.trans (e_getI lin_X7_isHub n_X7_isHub_69 (s_574 hS) rfl (j := 20) rfl (v := (-1)) rfl) <|
  Eq.trans (e_IfLtT lin_X7_isHub n_X7_isHub_72 (by decide) (by decide)) <|
  Eq.trans (e_ldA lin_X7_isHub n_X7_isHub_77 rfl) <|
  Eq.trans (e_KI lin_X7_isHub n_X7_isHub_78 k_1) <|
  Eq.trans (e_putI lin_X7_isHub n_X7_isHub_79 rfl (s_574 hS) rfl (j := 21) rfl) <|
  Eq.trans (e_ldA lin_X7_isHub n_X7_isHub_82 rfl) <|
  Eq.trans (e_ldL lin_X7_isHub n_X7_isHub_83 rfl) <|
  Eq.trans (e_KL lin_X7_isHub n_X7_isHub_84 kl_101) <|
  Eq.trans (e_lcmp lin_X7_isHub n_X7_isHub_87 h1 (by decide)) <|
  Eq.trans (e_IfEqF lin_X7_isHub n_X7_isHub_88 (R_lcm _ _) (lcm_ne h6)) <|
  Eq.trans (e_ldL lin_X7_isHub n_X7_isHub_96 rfl) <|
  Eq.trans (e_KL lin_X7_isHub n_X7_isHub_97 kl_109) <|
  Eq.trans (e_lcmp lin_X7_isHub n_X7_isHub_100 h1 (by decide)) <|
  Eq.trans (e_IfEqF lin_X7_isHub n_X7_isHub_101 (R_lcm _ _) (lcm_ne h7)) <|
  Eq.trans (e_ldL lin_X7_isHub n_X7_isHub_110 rfl) <|
  Eq.trans (e_KL lin_X7_isHub n_X7_isHub_111 kl_1751215220) <|
  Eq.trans (e_lcmp lin_X7_isHub n_X7_isHub_114 h1 (by decide)) <|
  Eq.trans (e_IfEqF lin_X7_isHub n_X7_isHub_115 (R_lcm _ _) (lcm_ne h8)) <|
  Eq.trans (e_KI lin_X7_isHub n_X7_isHub_124 k_m1) <|
  Eq.trans (e_putI lin_X7_isHub n_X7_isHub_125 rfl (s_574 hS) rfl (j := 20) rfl) <|
  Eq.trans (e_ldA lin_X7_isHub n_X7_isHub_128 rfl) <|
  Eq.trans (e_getI lin_X7_isHub n_X7_isHub_129 (s_574 hS) rfl (j := 20) rfl (v := (-1)) rfl) <|
  Eq.trans (e_IfLtT lin_X7_isHub n_X7_isHub_132 (by decide) (by decide)) <|
  Eq.trans (e_ldA lin_X7_isHub n_X7_isHub_137 rfl) <|
  Eq.trans (e_KI lin_X7_isHub n_X7_isHub_138 k_4) <|
  Eq.trans (e_putI lin_X7_isHub n_X7_isHub_139 rfl (s_574 hS) rfl (j := 21) rfl) <|
  Eq.trans (e_ldA lin_X7_isHub n_X7_isHub_142 rfl) <|
  Eq.trans (e_ldL lin_X7_isHub n_X7_isHub_143 rfl) <|
  Eq.trans (e_KL lin_X7_isHub n_X7_isHub_144 kl_117) <|
  Eq.trans (e_lcmp lin_X7_isHub n_X7_isHub_147 h1 (by decide)) <|
  Eq.trans (e_IfEqF lin_X7_isHub n_X7_isHub_148 (R_lcm _ _) (lcm_ne h9)) <|
  Eq.trans (e_ldL lin_X7_isHub n_X7_isHub_156 rfl) <|
  Eq.trans (e_KL lin_X7_isHub n_X7_isHub_157 kl_122) <|
  Eq.trans (e_lcmp lin_X7_isHub n_X7_isHub_160 h1 (by decide)) <|
  Eq.trans (e_IfEqF lin_X7_isHub n_X7_isHub_161 (R_lcm _ _) (lcm_ne h10)) <|
  Eq.trans (e_ldL lin_X7_isHub n_X7_isHub_169 rfl) <|
  Eq.trans (e_KL lin_X7_isHub n_X7_isHub_170 kl_1886156147) <|
  Eq.trans (e_lcmp lin_X7_isHub n_X7_isHub_173 h1 (by decide)) <|
  Eq.trans (e_IfEqF lin_X7_isHub n_X7_isHub_174 (R_lcm _ _) (lcm_ne h11)) <|
  Eq.trans (e_ldL lin_X7_isHub n_X7_isHub_182 rfl) <|
  Eq.trans (e_KL lin_X7_isHub n_X7_isHub_183 kl_469920281971) <|
  Eq.trans (e_lcmp lin_X7_isHub n_X7_isHub_186 h1 (by decide)) <|
  Eq.trans (e_IfEqF lin_X7_isHub n_X7_isHub_187 (R_lcm _ _) (lcm_ne h12)) <|
  Eq.trans (e_ldL lin_X7_isHub n_X7_isHub_195 rfl) <|
  Eq.trans (e_KL lin_X7_isHub n_X7_isHub_196 kl_427020345714) <|
  Eq.trans (e_lcmpE lin_X7_isHub n_X7_isHub_199 h13) <|
  Eq.trans (e_IfEqT lin_X7_isHub n_X7_isHub_200 (by decide) (by decide)) <|
  Eq.trans (e_KI lin_X7_isHub n_X7_isHub_203 k_128) <|
  Eq.trans (e_goto lin_X7_isHub n_X7_isHub_206) <|
  Eq.trans (e_putI lin_X7_isHub n_X7_isHub_252 rfl (s_574 hS) rfl (j := 20) rfl) <|
  Eq.trans (e_ldA lin_X7_isHub n_X7_isHub_255 rfl) <|
  Eq.trans (e_getI lin_X7_isHub n_X7_isHub_256 (s_574 hS) rfl (j := 20) rfl (v := 128) rfl) <|
  Eq.trans (e_IfLtF lin_X7_isHub n_X7_isHub_259 (by decide) (by decide)) <|
  Eq.trans (e_KI lin_X7_isHub n_X7_isHub_262 k_1) <|
  e_retZ lin_X7_isHub n_X7_isHub_263 (by decide)
theorem c_X7_isHub_NNNNNNNNNNNNE {fi fl : HI} {cr : HR} {sh : HS} {nx sl d : Nat} {x1 : Int} (hS : Stat cr sh) (h1 : -9223372036854775808 ≤ x1 ∧ x1 < 9223372036854775808 := by omega) (h2 : x1 ≠ 99 := by omega) (h3 : x1 ≠ 97 := by omega) (h4 : x1 ≠ 120 := by omega) (h5 : x1 ≠ 113 := by omega) (h6 : x1 ≠ 101 := by omega) (h7 : x1 ≠ 109 := by omega) (h8 : x1 ≠ 1751215220 := by omega) (h9 : x1 ≠ 117 := by omega) (h10 : x1 ≠ 122 := by omega) (h11 : x1 ≠ 1886156147 := by omega) (h12 : x1 ≠ 469920281971 := by omega) (h13 : x1 ≠ 427020345714 := by omega) (h14 : x1 = 115 := by omega) :
  CD mt (d + 1) 167 [.ref 574, lv x1] (G fi fl cr sh nx sl) = some (.returned (some (iv 1)), (G (up (up (up (up (up (up (up fi 574 22 1) 574 21 20) 574 20 (-1)) 574 21 1) 574 20 (-1)) 574 21 4) 574 20 144) fl cr sh nx sl)) :=
  Eq.trans (CD_at (ls := [.ref 574, lv x1, nv]) _ _ mt_X7_isHub rfl rfl) <|
  Eq.trans (e_ldA lin_X7_isHub n_X7_isHub_0 rfl) <|
  Eq.trans (e_KI lin_X7_isHub n_X7_isHub_1 k_1) <|
  Eq.trans (e_putI lin_X7_isHub n_X7_isHub_2 rfl (s_574 hS) rfl (j := 22) rfl) <|
  Eq.trans (e_ldA lin_X7_isHub n_X7_isHub_5 rfl) <|
  Eq.trans (e_KI lin_X7_isHub n_X7_isHub_6 k_20) <|
  Eq.trans (e_putI lin_X7_isHub n_X7_isHub_8 rfl (s_574 hS) rfl (j := 21) rfl) <|
  Eq.trans (e_ldA lin_X7_isHub n_X7_isHub_11 rfl) <|
  Eq.trans (e_ldL lin_X7_isHub n_X7_isHub_12 rfl) <|
  Eq.trans (e_KL lin_X7_isHub n_X7_isHub_13 kl_99) <|
  Eq.trans (e_lcmp lin_X7_isHub n_X7_isHub_16 h1 (by decide)) <|
  Eq.trans (e_IfEqF lin_X7_isHub n_X7_isHub_17 (R_lcm _ _) (lcm_ne h2)) <|
  Eq.trans (e_ldL lin_X7_isHub n_X7_isHub_24 rfl) <|
  Eq.trans (e_KL lin_X7_isHub n_X7_isHub_25 kl_97) <|
  Eq.trans (e_lcmp lin_X7_isHub n_X7_isHub_28 h1 (by decide)) <|
  Eq.trans (e_IfEqF lin_X7_isHub n_X7_isHub_29 (R_lcm _ _) (lcm_ne h3)) <|
  Eq.trans (e_ldL lin_X7_isHub n_X7_isHub_37 rfl) <|
  Eq.trans (e_KL lin_X7_isHub n_X7_isHub_38 kl_120) <|
  Eq.trans (e_lcmp lin_X7_isHub n_X7_isHub_41 h1 (by decide)) <|
  Eq.trans (e_IfEqF lin_X7_isHub n_X7_isHub_42 (R_lcm _ _) (lcm_ne h4)) <|
  Eq.trans (e_ldL lin_X7_isHub n_X7_isHub_50 rfl) <|
  Eq.trans (e_KL lin_X7_isHub n_X7_isHub_51 kl_113) <|
  Eq.trans (e_lcmp lin_X7_isHub n_X7_isHub_54 h1 (by decide)) <|
  Eq.trans (e_IfEqF lin_X7_isHub n_X7_isHub_55 (R_lcm _ _) (lcm_ne h5)) <|
  Eq.trans (e_KI lin_X7_isHub n_X7_isHub_64 k_m1) <|
  Eq.trans (e_putI lin_X7_isHub n_X7_isHub_65 rfl (s_574 hS) rfl (j := 20) rfl) <|
  Eq.trans (e_ldA lin_X7_isHub n_X7_isHub_68 rfl) <|
  Eq.trans (e_getI lin_X7_isHub n_X7_isHub_69 (s_574 hS) rfl (j := 20) rfl (v := (-1)) rfl) <|
  Eq.trans (e_IfLtT lin_X7_isHub n_X7_isHub_72 (by decide) (by decide)) <|
  Eq.trans (e_ldA lin_X7_isHub n_X7_isHub_77 rfl) <|
  Eq.trans (e_KI lin_X7_isHub n_X7_isHub_78 k_1) <|
  Eq.trans (e_putI lin_X7_isHub n_X7_isHub_79 rfl (s_574 hS) rfl (j := 21) rfl) <|
  Eq.trans (e_ldA lin_X7_isHub n_X7_isHub_82 rfl) <|
  Eq.trans (e_ldL lin_X7_isHub n_X7_isHub_83 rfl) <|
  Eq.trans (e_KL lin_X7_isHub n_X7_isHub_84 kl_101) <|
  Eq.trans (e_lcmp lin_X7_isHub n_X7_isHub_87 h1 (by decide)) <|
  Eq.trans (e_IfEqF lin_X7_isHub n_X7_isHub_88 (R_lcm _ _) (lcm_ne h6)) <|
  Eq.trans (e_ldL lin_X7_isHub n_X7_isHub_96 rfl) <|
  Eq.trans (e_KL lin_X7_isHub n_X7_isHub_97 kl_109) <|
  Eq.trans (e_lcmp lin_X7_isHub n_X7_isHub_100 h1 (by decide)) <|
  Eq.trans (e_IfEqF lin_X7_isHub n_X7_isHub_101 (R_lcm _ _) (lcm_ne h7)) <|
  Eq.trans (e_ldL lin_X7_isHub n_X7_isHub_110 rfl) <|
  Eq.trans (e_KL lin_X7_isHub n_X7_isHub_111 kl_1751215220) <|
  Eq.trans (e_lcmp lin_X7_isHub n_X7_isHub_114 h1 (by decide)) <|
  Eq.trans (e_IfEqF lin_X7_isHub n_X7_isHub_115 (R_lcm _ _) (lcm_ne h8)) <|
  Eq.trans (e_KI lin_X7_isHub n_X7_isHub_124 k_m1) <|
  Eq.trans (e_putI lin_X7_isHub n_X7_isHub_125 rfl (s_574 hS) rfl (j := 20) rfl) <|
  Eq.trans (e_ldA lin_X7_isHub n_X7_isHub_128 rfl) <|
  Eq.trans (e_getI lin_X7_isHub n_X7_isHub_129 (s_574 hS) rfl (j := 20) rfl (v := (-1)) rfl) <|
  Eq.trans (e_IfLtT lin_X7_isHub n_X7_isHub_132 (by decide) (by decide)) <|
  Eq.trans (e_ldA lin_X7_isHub n_X7_isHub_137 rfl) <|
  Eq.trans (e_KI lin_X7_isHub n_X7_isHub_138 k_4) <|
  Eq.trans (e_putI lin_X7_isHub n_X7_isHub_139 rfl (s_574 hS) rfl (j := 21) rfl) <|
  Eq.trans (e_ldA lin_X7_isHub n_X7_isHub_142 rfl) <|
  Eq.trans (e_ldL lin_X7_isHub n_X7_isHub_143 rfl) <|
  Eq.trans (e_KL lin_X7_isHub n_X7_isHub_144 kl_117) <|
  Eq.trans (e_lcmp lin_X7_isHub n_X7_isHub_147 h1 (by decide)) <|
  Eq.trans (e_IfEqF lin_X7_isHub n_X7_isHub_148 (R_lcm _ _) (lcm_ne h9)) <|
  Eq.trans (e_ldL lin_X7_isHub n_X7_isHub_156 rfl) <|
  Eq.trans (e_KL lin_X7_isHub n_X7_isHub_157 kl_122) <|
  Eq.trans (e_lcmp lin_X7_isHub n_X7_isHub_160 h1 (by decide)) <|
  Eq.trans (e_IfEqF lin_X7_isHub n_X7_isHub_161 (R_lcm _ _) (lcm_ne h10)) <|
  Eq.trans (e_ldL lin_X7_isHub n_X7_isHub_169 rfl) <|
  Eq.trans (e_KL lin_X7_isHub n_X7_isHub_170 kl_1886156147) <|
  Eq.trans (e_lcmp lin_X7_isHub n_X7_isHub_173 h1 (by decide)) <|
  Eq.trans (e_IfEqF lin_X7_isHub n_X7_isHub_174 (R_lcm _ _) (lcm_ne h11)) <|
  Eq.trans (e_ldL lin_X7_isHub n_X7_isHub_182 rfl) <|
  Eq.trans (e_KL lin_X7_isHub n_X7_isHub_183 kl_469920281971) <|
  Eq.trans (e_lcmp lin_X7_isHub n_X7_isHub_186 h1 (by decide)) <|
  Eq.trans (e_IfEqF lin_X7_isHub n_X7_isHub_187 (R_lcm _ _) (lcm_ne h12)) <|
  Eq.trans (e_ldL lin_X7_isHub n_X7_isHub_195 rfl) <|
  Eq.trans (e_KL lin_X7_isHub n_X7_isHub_196 kl_427020345714) <|
  Eq.trans (e_lcmp lin_X7_isHub n_X7_isHub_199 h1 (by decide)) <|
  Eq.trans (e_IfEqF lin_X7_isHub n_X7_isHub_200 (R_lcm _ _) (lcm_ne h13)) <|
  Eq.trans (e_ldL lin_X7_isHub n_X7_isHub_209 rfl) <|
  Eq.trans (e_KL lin_X7_isHub n_X7_isHub_210 kl_115) <|
  Eq.trans (e_lcmpE lin_X7_isHub n_X7_isHub_213 h14) <|
  Eq.trans (e_IfEqT lin_X7_isHub n_X7_isHub_214 (by decide) (by decide)) <|
  Eq.trans (e_KI lin_X7_isHub n_X7_isHub_217 k_144) <|
  Eq.trans (e_goto lin_X7_isHub n_X7_isHub_220) <|
  Eq.trans (e_putI lin_X7_isHub n_X7_isHub_252 rfl (s_574 hS) rfl (j := 20) rfl) <|
  Eq.trans (e_ldA lin_X7_isHub n_X7_isHub_255 rfl) <|
  Eq.trans (e_getI lin_X7_isHub n_X7_isHub_256 (s_574 hS) rfl (j := 20) rfl (v := 144) rfl) <|
  Eq.trans (e_IfLtF lin_X7_isHub n_X7_isHub_259 (by decide) (by decide)) <|
  Eq.trans (e_KI lin_X7_isHub n_X7_isHub_262 k_1) <|
  e_retZ lin_X7_isHub n_X7_isHub_263 (by decide)
theorem c_X7_isHub_NNNNNNNNNNNNNE {fi fl : HI} {cr : HR} {sh : HS} {nx sl d : Nat} {x1 : Int} (hS : Stat cr sh) (h1 : -9223372036854775808 ≤ x1 ∧ x1 < 9223372036854775808 := by omega) (h2 : x1 ≠ 99 := by omega) (h3 : x1 ≠ 97 := by omega) (h4 : x1 ≠ 120 := by omega) (h5 : x1 ≠ 113 := by omega) (h6 : x1 ≠ 101 := by omega) (h7 : x1 ≠ 109 := by omega) (h8 : x1 ≠ 1751215220 := by omega) (h9 : x1 ≠ 117 := by omega) (h10 : x1 ≠ 122 := by omega) (h11 : x1 ≠ 1886156147 := by omega) (h12 : x1 ≠ 469920281971 := by omega) (h13 : x1 ≠ 427020345714 := by omega) (h14 : x1 ≠ 115 := by omega) (h15 : x1 = 27489 := by omega) :
  CD mt (d + 1) 167 [.ref 574, lv x1] (G fi fl cr sh nx sl) = some (.returned (some (iv 1)), (G (up (up (up (up (up (up (up fi 574 22 1) 574 21 20) 574 20 (-1)) 574 21 1) 574 20 (-1)) 574 21 4) 574 20 148) fl cr sh nx sl)) :=
  Eq.trans (CD_at (ls := [.ref 574, lv x1, nv]) _ _ mt_X7_isHub rfl rfl) <|
  Eq.trans (e_ldA lin_X7_isHub n_X7_isHub_0 rfl) <|
  Eq.trans (e_KI lin_X7_isHub n_X7_isHub_1 k_1) <|
  Eq.trans (e_putI lin_X7_isHub n_X7_isHub_2 rfl (s_574 hS) rfl (j := 22) rfl) <|
  Eq.trans (e_ldA lin_X7_isHub n_X7_isHub_5 rfl) <|
  Eq.trans (e_KI lin_X7_isHub n_X7_isHub_6 k_20) <|
  Eq.trans (e_putI lin_X7_isHub n_X7_isHub_8 rfl (s_574 hS) rfl (j := 21) rfl) <|
  Eq.trans (e_ldA lin_X7_isHub n_X7_isHub_11 rfl) <|
  Eq.trans (e_ldL lin_X7_isHub n_X7_isHub_12 rfl) <|
  Eq.trans (e_KL lin_X7_isHub n_X7_isHub_13 kl_99) <|
  Eq.trans (e_lcmp lin_X7_isHub n_X7_isHub_16 h1 (by decide)) <|
  Eq.trans (e_IfEqF lin_X7_isHub n_X7_isHub_17 (R_lcm _ _) (lcm_ne h2)) <|
  Eq.trans (e_ldL lin_X7_isHub n_X7_isHub_24 rfl) <|
  Eq.trans (e_KL lin_X7_isHub n_X7_isHub_25 kl_97) <|
  Eq.trans (e_lcmp lin_X7_isHub n_X7_isHub_28 h1 (by decide)) <|
  Eq.trans (e_IfEqF lin_X7_isHub n_X7_isHub_29 (R_lcm _ _) (lcm_ne h3)) <|
  Eq.trans (e_ldL lin_X7_isHub n_X7_isHub_37 rfl) <|
  Eq.trans (e_KL lin_X7_isHub n_X7_isHub_38 kl_120) <|
  Eq.trans (e_lcmp lin_X7_isHub n_X7_isHub_41 h1 (by decide)) <|
  Eq.trans (e_IfEqF lin_X7_isHub n_X7_isHub_42 (R_lcm _ _) (lcm_ne h4)) <|
  Eq.trans (e_ldL lin_X7_isHub n_X7_isHub_50 rfl) <|
  Eq.trans (e_KL lin_X7_isHub n_X7_isHub_51 kl_113) <|
  Eq.trans (e_lcmp lin_X7_isHub n_X7_isHub_54 h1 (by decide)) <|
  Eq.trans (e_IfEqF lin_X7_isHub n_X7_isHub_55 (R_lcm _ _) (lcm_ne h5)) <|
  Eq.trans (e_KI lin_X7_isHub n_X7_isHub_64 k_m1) <|
  Eq.trans (e_putI lin_X7_isHub n_X7_isHub_65 rfl (s_574 hS) rfl (j := 20) rfl) <|
  Eq.trans (e_ldA lin_X7_isHub n_X7_isHub_68 rfl) <|
  Eq.trans (e_getI lin_X7_isHub n_X7_isHub_69 (s_574 hS) rfl (j := 20) rfl (v := (-1)) rfl) <|
  Eq.trans (e_IfLtT lin_X7_isHub n_X7_isHub_72 (by decide) (by decide)) <|
  Eq.trans (e_ldA lin_X7_isHub n_X7_isHub_77 rfl) <|
  Eq.trans (e_KI lin_X7_isHub n_X7_isHub_78 k_1) <|
  Eq.trans (e_putI lin_X7_isHub n_X7_isHub_79 rfl (s_574 hS) rfl (j := 21) rfl) <|
  Eq.trans (e_ldA lin_X7_isHub n_X7_isHub_82 rfl) <|
  Eq.trans (e_ldL lin_X7_isHub n_X7_isHub_83 rfl) <|
  Eq.trans (e_KL lin_X7_isHub n_X7_isHub_84 kl_101) <|
  Eq.trans (e_lcmp lin_X7_isHub n_X7_isHub_87 h1 (by decide)) <|
  Eq.trans (e_IfEqF lin_X7_isHub n_X7_isHub_88 (R_lcm _ _) (lcm_ne h6)) <|
  Eq.trans (e_ldL lin_X7_isHub n_X7_isHub_96 rfl) <|
  Eq.trans (e_KL lin_X7_isHub n_X7_isHub_97 kl_109) <|
  Eq.trans (e_lcmp lin_X7_isHub n_X7_isHub_100 h1 (by decide)) <|
  Eq.trans (e_IfEqF lin_X7_isHub n_X7_isHub_101 (R_lcm _ _) (lcm_ne h7)) <|
  Eq.trans (e_ldL lin_X7_isHub n_X7_isHub_110 rfl) <|
  Eq.trans (e_KL lin_X7_isHub n_X7_isHub_111 kl_1751215220) <|
  Eq.trans (e_lcmp lin_X7_isHub n_X7_isHub_114 h1 (by decide)) <|
  Eq.trans (e_IfEqF lin_X7_isHub n_X7_isHub_115 (R_lcm _ _) (lcm_ne h8)) <|
  Eq.trans (e_KI lin_X7_isHub n_X7_isHub_124 k_m1) <|
  Eq.trans (e_putI lin_X7_isHub n_X7_isHub_125 rfl (s_574 hS) rfl (j := 20) rfl) <|
  Eq.trans (e_ldA lin_X7_isHub n_X7_isHub_128 rfl) <|
  Eq.trans (e_getI lin_X7_isHub n_X7_isHub_129 (s_574 hS) rfl (j := 20) rfl (v := (-1)) rfl) <|
  Eq.trans (e_IfLtT lin_X7_isHub n_X7_isHub_132 (by decide) (by decide)) <|
  Eq.trans (e_ldA lin_X7_isHub n_X7_isHub_137 rfl) <|
  Eq.trans (e_KI lin_X7_isHub n_X7_isHub_138 k_4) <|
  Eq.trans (e_putI lin_X7_isHub n_X7_isHub_139 rfl (s_574 hS) rfl (j := 21) rfl) <|
  Eq.trans (e_ldA lin_X7_isHub n_X7_isHub_142 rfl) <|
  Eq.trans (e_ldL lin_X7_isHub n_X7_isHub_143 rfl) <|
  Eq.trans (e_KL lin_X7_isHub n_X7_isHub_144 kl_117) <|
  Eq.trans (e_lcmp lin_X7_isHub n_X7_isHub_147 h1 (by decide)) <|
  Eq.trans (e_IfEqF lin_X7_isHub n_X7_isHub_148 (R_lcm _ _) (lcm_ne h9)) <|
  Eq.trans (e_ldL lin_X7_isHub n_X7_isHub_156 rfl) <|
  Eq.trans (e_KL lin_X7_isHub n_X7_isHub_157 kl_122) <|
  Eq.trans (e_lcmp lin_X7_isHub n_X7_isHub_160 h1 (by decide)) <|
  Eq.trans (e_IfEqF lin_X7_isHub n_X7_isHub_161 (R_lcm _ _) (lcm_ne h10)) <|
  Eq.trans (e_ldL lin_X7_isHub n_X7_isHub_169 rfl) <|
  Eq.trans (e_KL lin_X7_isHub n_X7_isHub_170 kl_1886156147) <|
  Eq.trans (e_lcmp lin_X7_isHub n_X7_isHub_173 h1 (by decide)) <|
  Eq.trans (e_IfEqF lin_X7_isHub n_X7_isHub_174 (R_lcm _ _) (lcm_ne h11)) <|
  Eq.trans (e_ldL lin_X7_isHub n_X7_isHub_182 rfl) <|
  Eq.trans (e_KL lin_X7_isHub n_X7_isHub_183 kl_469920281971) <|
  Eq.trans (e_lcmp lin_X7_isHub n_X7_isHub_186 h1 (by decide)) <|
  Eq.trans (e_IfEqF lin_X7_isHub n_X7_isHub_187 (R_lcm _ _) (lcm_ne h12)) <|
  Eq.trans (e_ldL lin_X7_isHub n_X7_isHub_195 rfl) <|
  Eq.trans (e_KL lin_X7_isHub n_X7_isHub_196 kl_427020345714) <|
  Eq.trans (e_lcmp lin_X7_isHub n_X7_isHub_199 h1 (by decide)) <|
  Eq.trans (e_IfEqF lin_X7_isHub n_X7_isHub_200 (R_lcm _ _) (lcm_ne h13)) <|
  Eq.trans (e_ldL lin_X7_isHub n_X7_isHub_209 rfl) <|
  Eq.trans (e_KL lin_X7_isHub n_X7_isHub_210 kl_115) <|
  Eq.trans (e_lcmp lin_X7_isHub n_X7_isHub_213 h1 (by decide)) <|
  Eq.trans (e_IfEqF lin_X7_isHub n_X7_isHub_214 (R_lcm _ _) (lcm_ne h14)) <|
  Eq.trans (e_ldL lin_X7_isHub n_X7_isHub_223 rfl) <|
  Eq.trans (e_KL lin_X7_isHub n_X7_isHub_224 kl_27489) <|
  Eq.trans (e_lcmpE lin_X7_isHub n_X7_isHub_227 h15) <|
  Eq.trans (e_IfEqT lin_X7_isHub n_X7_isHub_228 (by decide) (by decide)) <|
  Eq.trans (e_KI lin_X7_isHub n_X7_isHub_231 k_148) <|
  Eq.trans (e_goto lin_X7_isHub n_X7_isHub_234) <|
  Eq.trans (e_putI lin_X7_isHub n_X7_isHub_252 rfl (s_574 hS) rfl (j := 20) rfl) <|
  Eq.trans (e_ldA lin_X7_isHub n_X7_isHub_255 rfl) <|
  Eq.trans (e_getI lin_X7_isHub n_X7_isHub_256 (s_574 hS) rfl (j := 20) rfl (v := 148) rfl) <|
  Eq.trans (e_IfLtF lin_X7_isHub n_X7_isHub_259 (by decide) (by decide)) <|
  Eq.trans (e_KI lin_X7_isHub n_X7_isHub_262 k_1) <|
  e_retZ lin_X7_isHub n_X7_isHub_263 (by decide)
theorem c_X7_isHub_NNNNNNNNNNNNNNE {fi fl : HI} {cr : HR} {sh : HS} {nx sl d : Nat} {x1 : Int} (hS : Stat cr sh) (h1 : -9223372036854775808 ≤ x1 ∧ x1 < 9223372036854775808 := by omega) (h2 : x1 ≠ 99 := by omega) (h3 : x1 ≠ 97 := by omega) (h4 : x1 ≠ 120 := by omega) (h5 : x1 ≠ 113 := by omega) (h6 : x1 ≠ 101 := by omega) (h7 : x1 ≠ 109 := by omega) (h8 : x1 ≠ 1751215220 := by omega) (h9 : x1 ≠ 117 := by omega) (h10 : x1 ≠ 122 := by omega) (h11 : x1 ≠ 1886156147 := by omega) (h12 : x1 ≠ 469920281971 := by omega) (h13 : x1 ≠ 427020345714 := by omega) (h14 : x1 ≠ 115 := by omega) (h15 : x1 ≠ 27489 := by omega) (h16 : x1 = 27490 := by omega) :
  CD mt (d + 1) 167 [.ref 574, lv x1] (G fi fl cr sh nx sl) = some (.returned (some (iv 1)), (G (up (up (up (up (up (up (up fi 574 22 1) 574 21 20) 574 20 (-1)) 574 21 1) 574 20 (-1)) 574 21 4) 574 20 152) fl cr sh nx sl)) :=
  Eq.trans (CD_at (ls := [.ref 574, lv x1, nv]) _ _ mt_X7_isHub rfl rfl) <|
  Eq.trans (e_ldA lin_X7_isHub n_X7_isHub_0 rfl) <|
  Eq.trans (e_KI lin_X7_isHub n_X7_isHub_1 k_1) <|
  Eq.trans (e_putI lin_X7_isHub n_X7_isHub_2 rfl (s_574 hS) rfl (j := 22) rfl) <|
  Eq.trans (e_ldA lin_X7_isHub n_X7_isHub_5 rfl) <|
  Eq.trans (e_KI lin_X7_isHub n_X7_isHub_6 k_20) <|
  Eq.trans (e_putI lin_X7_isHub n_X7_isHub_8 rfl (s_574 hS) rfl (j := 21) rfl) <|
  Eq.trans (e_ldA lin_X7_isHub n_X7_isHub_11 rfl) <|
  Eq.trans (e_ldL lin_X7_isHub n_X7_isHub_12 rfl) <|
  Eq.trans (e_KL lin_X7_isHub n_X7_isHub_13 kl_99) <|
  Eq.trans (e_lcmp lin_X7_isHub n_X7_isHub_16 h1 (by decide)) <|
  Eq.trans (e_IfEqF lin_X7_isHub n_X7_isHub_17 (R_lcm _ _) (lcm_ne h2)) <|
  Eq.trans (e_ldL lin_X7_isHub n_X7_isHub_24 rfl) <|
  Eq.trans (e_KL lin_X7_isHub n_X7_isHub_25 kl_97) <|
  Eq.trans (e_lcmp lin_X7_isHub n_X7_isHub_28 h1 (by decide)) <|
  Eq.trans (e_IfEqF lin_X7_isHub n_X7_isHub_29 (R_lcm _ _) (lcm_ne h3)) <|
  Eq.trans (e_ldL lin_X7_isHub n_X7_isHub_37 rfl) <|
  Eq.trans (e_KL lin_X7_isHub n_X7_isHub_38 kl_120) <|
  Eq.trans (e_lcmp lin_X7_isHub n_X7_isHub_41 h1 (by decide)) <|
  Eq.trans (e_IfEqF lin_X7_isHub n_X7_isHub_42 (R_lcm _ _) (lcm_ne h4)) <|
  Eq.trans (e_ldL lin_X7_isHub n_X7_isHub_50 rfl) <|
  Eq.trans (e_KL lin_X7_isHub n_X7_isHub_51 kl_113) <|
  Eq.trans (e_lcmp lin_X7_isHub n_X7_isHub_54 h1 (by decide)) <|
  Eq.trans (e_IfEqF lin_X7_isHub n_X7_isHub_55 (R_lcm _ _) (lcm_ne h5)) <|
  Eq.trans (e_KI lin_X7_isHub n_X7_isHub_64 k_m1) <|
  Eq.trans (e_putI lin_X7_isHub n_X7_isHub_65 rfl (s_574 hS) rfl (j := 20) rfl) <|
  Eq.trans (e_ldA lin_X7_isHub n_X7_isHub_68 rfl) <|
  Eq.trans (e_getI lin_X7_isHub n_X7_isHub_69 (s_574 hS) rfl (j := 20) rfl (v := (-1)) rfl) <|
  Eq.trans (e_IfLtT lin_X7_isHub n_X7_isHub_72 (by decide) (by decide)) <|
  Eq.trans (e_ldA lin_X7_isHub n_X7_isHub_77 rfl) <|
  Eq.trans (e_KI lin_X7_isHub n_X7_isHub_78 k_1) <|
  Eq.trans (e_putI lin_X7_isHub n_X7_isHub_79 rfl (s_574 hS) rfl (j := 21) rfl) <|
  Eq.trans (e_ldA lin_X7_isHub n_X7_isHub_82 rfl) <|
  Eq.trans (e_ldL lin_X7_isHub n_X7_isHub_83 rfl) <|
  Eq.trans (e_KL lin_X7_isHub n_X7_isHub_84 kl_101) <|
  Eq.trans (e_lcmp lin_X7_isHub n_X7_isHub_87 h1 (by decide)) <|
  Eq.trans (e_IfEqF lin_X7_isHub n_X7_isHub_88 (R_lcm _ _) (lcm_ne h6)) <|
  Eq.trans (e_ldL lin_X7_isHub n_X7_isHub_96 rfl) <|
  Eq.trans (e_KL lin_X7_isHub n_X7_isHub_97 kl_109) <|
  Eq.trans (e_lcmp lin_X7_isHub n_X7_isHub_100 h1 (by decide)) <|
  Eq.trans (e_IfEqF lin_X7_isHub n_X7_isHub_101 (R_lcm _ _) (lcm_ne h7)) <|
  Eq.trans (e_ldL lin_X7_isHub n_X7_isHub_110 rfl) <|
  Eq.trans (e_KL lin_X7_isHub n_X7_isHub_111 kl_1751215220) <|
  Eq.trans (e_lcmp lin_X7_isHub n_X7_isHub_114 h1 (by decide)) <|
  Eq.trans (e_IfEqF lin_X7_isHub n_X7_isHub_115 (R_lcm _ _) (lcm_ne h8)) <|
  Eq.trans (e_KI lin_X7_isHub n_X7_isHub_124 k_m1) <|
  Eq.trans (e_putI lin_X7_isHub n_X7_isHub_125 rfl (s_574 hS) rfl (j := 20) rfl) <|
  Eq.trans (e_ldA lin_X7_isHub n_X7_isHub_128 rfl) <|
  Eq.trans (e_getI lin_X7_isHub n_X7_isHub_129 (s_574 hS) rfl (j := 20) rfl (v := (-1)) rfl) <|
  Eq.trans (e_IfLtT lin_X7_isHub n_X7_isHub_132 (by decide) (by decide)) <|
  Eq.trans (e_ldA lin_X7_isHub n_X7_isHub_137 rfl) <|
  Eq.trans (e_KI lin_X7_isHub n_X7_isHub_138 k_4) <|
  Eq.trans (e_putI lin_X7_isHub n_X7_isHub_139 rfl (s_574 hS) rfl (j := 21) rfl) <|
  Eq.trans (e_ldA lin_X7_isHub n_X7_isHub_142 rfl) <|
  Eq.trans (e_ldL lin_X7_isHub n_X7_isHub_143 rfl) <|
  Eq.trans (e_KL lin_X7_isHub n_X7_isHub_144 kl_117) <|
  Eq.trans (e_lcmp lin_X7_isHub n_X7_isHub_147 h1 (by decide)) <|
  Eq.trans (e_IfEqF lin_X7_isHub n_X7_isHub_148 (R_lcm _ _) (lcm_ne h9)) <|
  Eq.trans (e_ldL lin_X7_isHub n_X7_isHub_156 rfl) <|
  Eq.trans (e_KL lin_X7_isHub n_X7_isHub_157 kl_122) <|
  Eq.trans (e_lcmp lin_X7_isHub n_X7_isHub_160 h1 (by decide)) <|
  Eq.trans (e_IfEqF lin_X7_isHub n_X7_isHub_161 (R_lcm _ _) (lcm_ne h10)) <|
  Eq.trans (e_ldL lin_X7_isHub n_X7_isHub_169 rfl) <|
  Eq.trans (e_KL lin_X7_isHub n_X7_isHub_170 kl_1886156147) <|
  Eq.trans (e_lcmp lin_X7_isHub n_X7_isHub_173 h1 (by decide)) <|
  Eq.trans (e_IfEqF lin_X7_isHub n_X7_isHub_174 (R_lcm _ _) (lcm_ne h11)) <|
  Eq.trans (e_ldL lin_X7_isHub n_X7_isHub_182 rfl) <|
  Eq.trans (e_KL lin_X7_isHub n_X7_isHub_183 kl_469920281971) <|
  Eq.trans (e_lcmp lin_X7_isHub n_X7_isHub_186 h1 (by decide)) <|
  Eq.trans (e_IfEqF lin_X7_isHub n_X7_isHub_187 (R_lcm _ _) (lcm_ne h12)) <|
  Eq.trans (e_ldL lin_X7_isHub n_X7_isHub_195 rfl) <|
  Eq.trans (e_KL lin_X7_isHub n_X7_isHub_196 kl_427020345714) <|
  Eq.trans (e_lcmp lin_X7_isHub n_X7_isHub_199 h1 (by decide)) <|
  Eq.trans (e_IfEqF lin_X7_isHub n_X7_isHub_200 (R_lcm _ _) (lcm_ne h13)) <|
  Eq.trans (e_ldL lin_X7_isHub n_X7_isHub_209 rfl) <|
  Eq.trans (e_KL lin_X7_isHub n_X7_isHub_210 kl_115) <|
  Eq.trans (e_lcmp lin_X7_isHub n_X7_isHub_213 h1 (by decide)) <|
  Eq.trans (e_IfEqF lin_X7_isHub n_X7_isHub_214 (R_lcm _ _) (lcm_ne h14)) <|
  Eq.trans (e_ldL lin_X7_isHub n_X7_isHub_223 rfl) <|
  Eq.trans (e_KL lin_X7_isHub n_X7_isHub_224 kl_27489) <|
  Eq.trans (e_lcmp lin_X7_isHub n_X7_isHub_227 h1 (by decide)) <|
  Eq.trans (e_IfEqF lin_X7_isHub n_X7_isHub_228 (R_lcm _ _) (lcm_ne h15)) <|
  Eq.trans (e_ldL lin_X7_isHub n_X7_isHub_237 rfl) <|
  Eq.trans (e_KL lin_X7_isHub n_X7_isHub_238 kl_27490) <|
  Eq.trans (e_lcmpE lin_X7_isHub n_X7_isHub_241 h16) <|
  Eq.trans (e_IfEqT lin_X7_isHub n_X7_isHub_242 (by decide) (by decide)) <|
  Eq.trans (e_KI lin_X7_isHub n_X7_isHub_245 k_152) <|
  Eq.trans (e_goto lin_X7_isHub n_X7_isHub_248) <|
  Eq.trans (e_putI lin_X7_isHub n_X7_isHub_252 rfl (s_574 hS) rfl (j := 20) rfl) <|
  Eq.trans (e_ldA lin_X7_isHub n_X7_isHub_255 rfl) <|
  Eq.trans (e_getI lin_X7_isHub n_X7_isHub_256 (s_574 hS) rfl (j := 20) rfl (v := 152) rfl) <|
  Eq.trans (e_IfLtF lin_X7_isHub n_X7_isHub_259 (by decide) (by decide)) <|
  Eq.trans (e_KI lin_X7_isHub n_X7_isHub_262 k_1) <|
  e_retZ lin_X7_isHub n_X7_isHub_263 (by decide)
theorem c_X7_isHub_NNNNNNNNNNNNNNNE {fi fl : HI} {cr : HR} {sh : HS} {nx sl d : Nat} {x1 : Int} (hS : Stat cr sh) (h1 : -9223372036854775808 ≤ x1 ∧ x1 < 9223372036854775808 := by omega) (h2 : x1 ≠ 99 := by omega) (h3 : x1 ≠ 97 := by omega) (h4 : x1 ≠ 120 := by omega) (h5 : x1 ≠ 113 := by omega) (h6 : x1 ≠ 101 := by omega) (h7 : x1 ≠ 109 := by omega) (h8 : x1 ≠ 1751215220 := by omega) (h9 : x1 ≠ 117 := by omega) (h10 : x1 ≠ 122 := by omega) (h11 : x1 ≠ 1886156147 := by omega) (h12 : x1 ≠ 469920281971 := by omega) (h13 : x1 ≠ 427020345714 := by omega) (h14 : x1 ≠ 115 := by omega) (h15 : x1 ≠ 27489 := by omega) (h16 : x1 ≠ 27490 := by omega) (h17 : x1 = 111 := by omega) :
  CD mt (d + 1) 167 [.ref 574, lv x1] (G fi fl cr sh nx sl) = some (.returned (some (iv 1)), (G (up (up (up (up (up (up (up (up (up fi 574 22 1) 574 21 20) 574 20 (-1)) 574 21 1) 574 20 (-1)) 574 21 4) 574 20 (-1)) 574 22 6) 574 20 68) fl cr sh nx sl)) :=
  Eq.trans (CD_at (ls := [.ref 574, lv x1, nv]) _ _ mt_X7_isHub rfl rfl) <|
  Eq.trans (e_ldA lin_X7_isHub n_X7_isHub_0 rfl) <|
  Eq.trans (e_KI lin_X7_isHub n_X7_isHub_1 k_1) <|
  Eq.trans (e_putI lin_X7_isHub n_X7_isHub_2 rfl (s_574 hS) rfl (j := 22) rfl) <|
  Eq.trans (e_ldA lin_X7_isHub n_X7_isHub_5 rfl) <|
  Eq.trans (e_KI lin_X7_isHub n_X7_isHub_6 k_20) <|
  Eq.trans (e_putI lin_X7_isHub n_X7_isHub_8 rfl (s_574 hS) rfl (j := 21) rfl) <|
  Eq.trans (e_ldA lin_X7_isHub n_X7_isHub_11 rfl) <|
  Eq.trans (e_ldL lin_X7_isHub n_X7_isHub_12 rfl) <|
  Eq.trans (e_KL lin_X7_isHub n_X7_isHub_13 kl_99) <|
  Eq.trans (e_lcmp lin_X7_isHub n_X7_isHub_16 h1 (by decide)) <|
  Eq.trans (e_IfEqF lin_X7_isHub n_X7_isHub_17 (R_lcm _ _) (lcm_ne h2)) <|
  Eq.trans (e_ldL lin_X7_isHub n_X7_isHub_24 rfl) <|
  Eq.trans (e_KL lin_X7_isHub n_X7_isHub_25 kl_97) <|
  Eq.trans (e_lcmp lin_X7_isHub n_X7_isHub_28 h1 (by decide)) <|
  Eq.trans (e_IfEqF lin_X7_isHub n_X7_isHub_29 (R_lcm _ _) (lcm_ne h3)) <|
  Eq.trans (e_ldL lin_X7_isHub n_X7_isHub_37 rfl) <|
  Eq.trans (e_KL lin_X7_isHub n_X7_isHub_38 kl_120) <|
  Eq.trans (e_lcmp lin_X7_isHub n_X7_isHub_41 h1 (by decide)) <|
  Eq.trans (e_IfEqF lin_X7_isHub n_X7_isHub_42 (R_lcm _ _) (lcm_ne h4)) <|
  Eq.trans (e_ldL lin_X7_isHub n_X7_isHub_50 rfl) <|
  Eq.trans (e_KL lin_X7_isHub n_X7_isHub_51 kl_113) <|
  Eq.trans (e_lcmp lin_X7_isHub n_X7_isHub_54 h1 (by decide)) <|
  Eq.trans (e_IfEqF lin_X7_isHub n_X7_isHub_55 (R_lcm _ _) (lcm_ne h5)) <|
  Eq.trans (e_KI lin_X7_isHub n_X7_isHub_64 k_m1) <|
  Eq.trans (e_putI lin_X7_isHub n_X7_isHub_65 rfl (s_574 hS) rfl (j := 20) rfl) <|
  Eq.trans (e_ldA lin_X7_isHub n_X7_isHub_68 rfl) <|
  Eq.trans (e_getI lin_X7_isHub n_X7_isHub_69 (s_574 hS) rfl (j := 20) rfl (v := (-1)) rfl) <|
  Eq.trans (e_IfLtT lin_X7_isHub n_X7_isHub_72 (by decide) (by decide)) <|
  Eq.trans (e_ldA lin_X7_isHub n_X7_isHub_77 rfl) <|
  Eq.trans (e_KI lin_X7_isHub n_X7_isHub_78 k_1) <|
  Eq.trans (e_putI lin_X7_isHub n_X7_isHub_79 rfl (s_574 hS) rfl (j := 21) rfl) <|
  Eq.trans (e_ldA lin_X7_isHub n_X7_isHub_82 rfl) <|
  Eq.trans (e_ldL lin_X7_isHub n_X7_isHub_83 rfl) <|
  Eq.trans (e_KL lin_X7_isHub n_X7_isHub_84 kl_101) <|
  Eq.trans (e_lcmp lin_X7_isHub n_X7_isHub_87 h1 (by decide)) <|
  Eq.trans (e_IfEqF lin_X7_isHub n_X7_isHub_88 (R_lcm _ _) (lcm_ne h6)) <|
  Eq.trans (e_ldL lin_X7_isHub n_X7_isHub_96 rfl) <|
  Eq.trans (e_KL lin_X7_isHub n_X7_isHub_97 kl_109) <|
  Eq.trans (e_lcmp lin_X7_isHub n_X7_isHub_100 h1 (by decide)) <|
  Eq.trans (e_IfEqF lin_X7_isHub n_X7_isHub_101 (R_lcm _ _) (lcm_ne h7)) <|
  Eq.trans (e_ldL lin_X7_isHub n_X7_isHub_110 rfl) <|
  Eq.trans (e_KL lin_X7_isHub n_X7_isHub_111 kl_1751215220) <|
  Eq.trans (e_lcmp lin_X7_isHub n_X7_isHub_114 h1 (by decide)) <|
  Eq.trans (e_IfEqF lin_X7_isHub n_X7_isHub_115 (R_lcm _ _) (lcm_ne h8)) <|
  Eq.trans (e_KI lin_X7_isHub n_X7_isHub_124 k_m1) <|
  Eq.trans (e_putI lin_X7_isHub n_X7_isHub_125 rfl (s_574 hS) rfl (j := 20) rfl) <|
  Eq.trans (e_ldA lin_X7_isHub n_X7_isHub_128 rfl) <|
  Eq.trans (e_getI lin_X7_isHub n_X7_isHub_129 (s_574 hS) rfl (j := 20) rfl (v := (-1)) rfl) <|
  Eq.trans (e_IfLtT lin_X7_isHub n_X7_isHub_132 (by decide) (by decide)) <|
  Eq.trans (e_ldA lin_X7_isHub n_X7_isHub_137 rfl) <|
  Eq.trans (e_KI lin_X7_isHub n_X7_isHub_138 k_4) <|
  Eq.trans (e_putI lin_X7_isHub n_X7_isHub_139 rfl (s_574 hS) rfl (j := 21) rfl) <|
  Eq.trans (e_ldA lin_X7_isHub n_X7_isHub_142 rfl) <|
  Eq.trans (e_ldL lin_X7_isHub n_X7_isHub_143 rfl) <|
  Eq.trans (e_KL lin_X7_isHub n_X7_isHub_144 kl_117) <|
  Eq.trans (e_lcmp lin_X7_isHub n_X7_isHub_147 h1 (by decide)) <|
  Eq.trans (e_IfEqF lin_X7_isHub n_X7_isHub_148 (R_lcm _ _) (lcm_ne h9)) <|
  Eq.trans (e_ldL lin_X7_isHub n_X7_isHub_156 rfl) <|
  Eq.trans (e_KL lin_X7_isHub n_X7_isHub_157 kl_122) <|
  Eq.trans (e_lcmp lin_X7_isHub n_X7_isHub_160 h1 (by decide)) <|
  Eq.trans (e_IfEqF lin_X7_isHub n_X7_isHub_161 (R_lcm _ _) (lcm_ne h10)) <|
  Eq.trans (e_ldL lin_X7_isHub n_X7_isHub_169 rfl) <|
  Eq.trans (e_KL lin_X7_isHub n_X7_isHub_170 kl_1886156147) <|
  Eq.trans (e_lcmp lin_X7_isHub n_X7_isHub_173 h1 (by decide)) <|
  Eq.trans (e_IfEqF lin_X7_isHub n_X7_isHub_174 (R_lcm _ _) (lcm_ne h11)) <|
  Eq.trans (e_ldL lin_X7_isHub n_X7_isHub_182 rfl) <|
  Eq.trans (e_KL lin_X7_isHub n_X7_isHub_183 kl_469920281971) <|
  Eq.trans (e_lcmp lin_X7_isHub n_X7_isHub_186 h1 (by decide)) <|
  Eq.trans (e_IfEqF lin_X7_isHub n_X7_isHub_187 (R_lcm _ _) (lcm_ne h12)) <|
  Eq.trans (e_ldL lin_X7_isHub n_X7_isHub_195 rfl) <|
  Eq.trans (e_KL lin_X7_isHub n_X7_isHub_196 kl_427020345714) <|
  Eq.trans (e_lcmp lin_X7_isHub n_X7_isHub_199 h1 (by decide)) <|
  Eq.trans (e_IfEqF lin_X7_isHub n_X7_isHub_200 (R_lcm _ _) (lcm_ne h13)) <|
  Eq.trans (e_ldL lin_X7_isHub n_X7_isHub_209 rfl) <|
  Eq.trans (e_KL lin_X7_isHub n_X7_isHub_210 kl_115) <|
  Eq.trans (e_lcmp lin_X7_isHub n_X7_isHub_213 h1 (by decide)) <|
  Eq.trans (e_IfEqF lin_X7_isHub n_X7_isHub_214 (R_lcm _ _) (lcm_ne h14)) <|
  Eq.trans (e_ldL lin_X7_isHub n_X7_isHub_223 rfl) <|
  Eq.trans (e_KL lin_X7_isHub n_X7_isHub_224 kl_27489) <|
  Eq.trans (e_lcmp lin_X7_isHub n_X7_isHub_227 h1 (by decide)) <|
  Eq.trans (e_IfEqF lin_X7_isHub n_X7_isHub_228 (R_lcm _ _) (lcm_ne h15)) <|
  Eq.trans (e_ldL lin_X7_isHub n_X7_isHub_237 rfl) <|
  Eq.trans (e_KL lin_X7_isHub n_X7_isHub_238 kl_27490) <|
  Eq.trans (e_lcmp lin_X7_isHub n_X7_isHub_241 h1 (by decide)) <|
  Eq.trans (e_IfEqF lin_X7_isHub n_X7_isHub_242 (R_lcm _ _) (lcm_ne h16)) <|
  Eq.trans (e_KI lin_X7_isHub n_X7_isHub_251 k_m1) <|
  Eq.trans (e_putI lin_X7_isHub n_X7_isHub_252 rfl (s_574 hS) rfl (j := 20) rfl) <|
  Eq.trans (e_ldA lin_X7_isHub n_X7_isHub_255 rfl) <|
  Eq.trans (e_getI lin_X7_isHub n_X7_isHub_256 (s_574 hS) rfl (j := 20) rfl (v := (-1)) rfl) <|
  Eq.trans (e_IfLtT lin_X7_isHub n_X7_isHub_259 (by decide) (by decide)) <|
  Eq.trans (e_ldA lin_X7_isHub n_X7_isHub_264 rfl) <|
  Eq.trans (e_ldL lin_X7_isHub n_X7_isHub_265 rfl) <|
  Eq.trans (e_KL lin_X7_isHub n_X7_isHub_266 kl_111) <|
  Eq.trans (e_lcmpE lin_X7_isHub n_X7_isHub_269 h17) <|
  Eq.trans (e_IfEqT lin_X7_isHub n_X7_isHub_270 (by decide) (by decide)) <|
  Eq.trans (e_KI lin_X7_isHub n_X7_isHub_281 k_6) <|
  Eq.trans (e_goto lin_X7_isHub n_X7_isHub_283) <|
  Eq.trans (e_putI lin_X7_isHub n_X7_isHub_287 rfl (s_574 hS) rfl (j := 22) rfl) <|
  Eq.trans (e_ldA lin_X7_isHub n_X7_isHub_290 rfl) <|
  Eq.trans (e_ldL lin_X7_isHub n_X7_isHub_291 rfl) <|
  Eq.trans (e_KL lin_X7_isHub n_X7_isHub_292 kl_111) <|
  Eq.trans (e_lcmpE lin_X7_isHub n_X7_isHub_295 h17) <|
  Eq.trans (e_IfEqT lin_X7_isHub n_X7_isHub_296 (by decide) (by decide)) <|
  Eq.trans (e_KI lin_X7_isHub n_X7_isHub_299 k_68) <|
  Eq.trans (e_goto lin_X7_isHub n_X7_isHub_301) <|
  Eq.trans (e_putI lin_X7_isHub n_X7_isHub_360 rfl (s_574 hS) rfl (j := 20) rfl) <|
  Eq.trans (e_ldA lin_X7_isHub n_X7_isHub_363 rfl) <|
  Eq.trans (e_getI lin_X7_isHub n_X7_isHub_364 (s_574 hS) rfl (j := 20) rfl (v := 68) rfl) <|
  Eq.trans (e_IfLtF lin_X7_isHub n_X7_isHub_367 (by decide) (by decide)) <|
  Eq.trans (e_KI lin_X7_isHub n_X7_isHub_370 k_1) <|
  e_retZ lin_X7_isHub n_X7_isHub_371 (by decide)
theorem c_X7_isHub_NNNNNNNNNNNNNNNNE {fi fl : HI} {cr : HR} {sh : HS} {nx sl d : Nat} {x1 : Int} (hS : Stat cr sh) (h1 : -9223372036854775808 ≤ x1 ∧ x1 < 9223372036854775808 := by omega) (h2 : x1 ≠ 99 := by omega) (h3 : x1 ≠ 97 := by omega) (h4 : x1 ≠ 120 := by omega) (h5 : x1 ≠ 113 := by omega) (h6 : x1 ≠ 101 := by omega) (h7 : x1 ≠ 109 := by omega) (h8 : x1 ≠ 1751215220 := by omega) (h9 : x1 ≠ 117 := by omega) (h10 : x1 ≠ 122 := by omega) (h11 : x1 ≠ 1886156147 := by omega) (h12 : x1 ≠ 469920281971 := by omega) (h13 : x1 ≠ 427020345714 := by omega) (h14 : x1 ≠ 115 := by omega) (h15 : x1 ≠ 27489 := by omega) (h16 : x1 ≠ 27490 := by omega) (h17 : x1 ≠ 111 := by omega) (h18 : x1 = 105 := by omega) :
  CD mt (d + 1) 167 [.ref 574, lv x1] (G fi fl cr sh nx sl) = some (.returned (some (iv 1)), (G (up (up (up (up (up (up (up (up (up fi 574 22 1) 574 21 20) 574 20 (-1)) 574 21 1) 574 20 (-1)) 574 21 4) 574 20 (-1)) 574 22 6) 574 20 96) fl cr sh nx sl)) :=
  Eq.trans (CD_at (ls := [.ref 574, lv x1, nv]) _ _ mt_X7_isHub rfl rfl) <|
  Eq.trans (e_ldA lin_X7_isHub n_X7_isHub_0 rfl) <|
  Eq.trans (e_KI lin_X7_isHub n_X7_isHub_1 k_1) <|
  Eq.trans (e_putI lin_X7_isHub n_X7_isHub_2 rfl (s_574 hS) rfl (j := 22) rfl) <|
  Eq.trans (e_ldA lin_X7_isHub n_X7_isHub_5 rfl) <|
  Eq.trans (e_KI lin_X7_isHub n_X7_isHub_6 k_20) <|
  Eq.trans (e_putI lin_X7_isHub n_X7_isHub_8 rfl (s_574 hS) rfl (j := 21) rfl) <|
  Eq.trans (e_ldA lin_X7_isHub n_X7_isHub_11 rfl) <|
  Eq.trans (e_ldL lin_X7_isHub n_X7_isHub_12 rfl) <|
  Eq.trans (e_KL lin_X7_isHub n_X7_isHub_13 kl_99) <|
  Eq.trans (e_lcmp lin_X7_isHub n_X7_isHub_16 h1 (by decide)) <|
  Eq.trans (e_IfEqF lin_X7_isHub n_X7_isHub_17 (R_lcm _ _) (lcm_ne h2)) <|
  Eq.trans (e_ldL lin_X7_isHub n_X7_isHub_24 rfl) <|
  Eq.trans (e_KL lin_X7_isHub n_X7_isHub_25 kl_97) <|
  Eq.trans (e_lcmp lin_X7_isHub n_X7_isHub_28 h1 (by decide)) <|
  Eq.trans (e_IfEqF lin_X7_isHub n_X7_isHub_29 (R_lcm _ _) (lcm_ne h3)) <|
  Eq.trans (e_ldL lin_X7_isHub n_X7_isHub_37 rfl) <|
  Eq.trans (e_KL lin_X7_isHub n_X7_isHub_38 kl_120) <|
  Eq.trans (e_lcmp lin_X7_isHub n_X7_isHub_41 h1 (by decide)) <|
  Eq.trans (e_IfEqF lin_X7_isHub n_X7_isHub_42 (R_lcm _ _) (lcm_ne h4)) <|
  Eq.trans (e_ldL lin_X7_isHub n_X7_isHub_50 rfl) <|
  Eq.trans (e_KL lin_X7_isHub n_X7_isHub_51 kl_113) <|
  Eq.trans (e_lcmp lin_X7_isHub n_X7_isHub_54 h1 (by decide)) <|
  Eq.trans (e_IfEqF lin_X7_isHub n_X7_isHub_55 (R_lcm _ _) (lcm_ne h5)) <|
  Eq.trans (e_KI lin_X7_isHub n_X7_isHub_64 k_m1) <|
  Eq.trans (e_putI lin_X7_isHub n_X7_isHub_65 rfl (s_574 hS) rfl (j := 20) rfl) <|
  Eq.trans (e_ldA lin_X7_isHub n_X7_isHub_68 rfl) <|
  Eq.trans (e_getI lin_X7_isHub n_X7_isHub_69 (s_574 hS) rfl (j := 20) rfl (v := (-1)) rfl) <|
  Eq.trans (e_IfLtT lin_X7_isHub n_X7_isHub_72 (by decide) (by decide)) <|
  Eq.trans (e_ldA lin_X7_isHub n_X7_isHub_77 rfl) <|
  Eq.trans (e_KI lin_X7_isHub n_X7_isHub_78 k_1) <|
  Eq.trans (e_putI lin_X7_isHub n_X7_isHub_79 rfl (s_574 hS) rfl (j := 21) rfl) <|
  Eq.trans (e_ldA lin_X7_isHub n_X7_isHub_82 rfl) <|
  Eq.trans (e_ldL lin_X7_isHub n_X7_isHub_83 rfl) <|
  Eq.trans (e_KL lin_X7_isHub n_X7_isHub_84 kl_101) <|
  Eq.trans (e_lcmp lin_X7_isHub n_X7_isHub_87 h1 (by decide)) <|
  Eq.trans (e_IfEqF lin_X7_isHub n_X7_isHub_88 (R_lcm _ _) (lcm_ne h6)) <|
  Eq.trans (e_ldL lin_X7_isHub n_X7_isHub_96 rfl) <|
  Eq.trans (e_KL lin_X7_isHub n_X7_isHub_97 kl_109) <|
  Eq.trans (e_lcmp lin_X7_isHub n_X7_isHub_100 h1 (by decide)) <|
  Eq.trans (e_IfEqF lin_X7_isHub n_X7_isHub_101 (R_lcm _ _) (lcm_ne h7)) <|
  Eq.trans (e_ldL lin_X7_isHub n_X7_isHub_110 rfl) <|
  Eq.trans (e_KL lin_X7_isHub n_X7_isHub_111 kl_1751215220) <|
  Eq.trans (e_lcmp lin_X7_isHub n_X7_isHub_114 h1 (by decide)) <|
  Eq.trans (e_IfEqF lin_X7_isHub n_X7_isHub_115 (R_lcm _ _) (lcm_ne h8)) <|
  Eq.trans (e_KI lin_X7_isHub n_X7_isHub_124 k_m1) <|
  Eq.trans (e_putI lin_X7_isHub n_X7_isHub_125 rfl (s_574 hS) rfl (j := 20) rfl) <|
  Eq.trans (e_ldA lin_X7_isHub n_X7_isHub_128 rfl) <|
  Eq.trans (e_getI lin_X7_isHub n_X7_isHub_129 (s_574 hS) rfl (j := 20) rfl (v := (-1)) rfl) <|
  Eq.trans (e_IfLtT lin_X7_isHub n_X7_isHub_132 (by decide) (by decide)) <|
  Eq.trans (e_ldA lin_X7_isHub n_X7_isHub_137 rfl) <|
  Eq.trans (e_KI lin_X7_isHub n_X7_isHub_138 k_4) <|
  Eq.trans (e_putI lin_X7_isHub n_X7_isHub_139 rfl (s_574 hS) rfl (j := 21) rfl) <|
  Eq.trans (e_ldA lin_X7_isHub n_X7_isHub_142 rfl) <|
  Eq.trans (e_ldL lin_X7_isHub n_X7_isHub_143 rfl) <|
  Eq.trans (e_KL lin_X7_isHub n_X7_isHub_144 kl_117) <|
  Eq.trans (e_lcmp lin_X7_isHub n_X7_isHub_147 h1 (by decide)) <|
  Eq.trans (e_IfEqF lin_X7_isHub n_X7_isHub_148 (R_lcm _ _) (lcm_ne h9)) <|
  Eq.trans (e_ldL lin_X7_isHub n_X7_isHub_156 rfl) <|
  Eq.trans (e_KL lin_X7_isHub n_X7_isHub_157 kl_122) <|
  Eq.trans (e_lcmp lin_X7_isHub n_X7_isHub_160 h1 (by decide)) <|
  Eq.trans (e_IfEqF lin_X7_isHub n_X7_isHub_161 (R_lcm _ _) (lcm_ne h10)) <|
  Eq.trans (e_ldL lin_X7_isHub n_X7_isHub_169 rfl) <|
  Eq.trans (e_KL lin_X7_isHub n_X7_isHub_170 kl_1886156147) <|
  Eq.trans (e_lcmp lin_X7_isHub n_X7_isHub_173 h1 (by decide)) <|
  Eq.trans (e_IfEqF lin_X7_isHub n_X7_isHub_174 (R_lcm _ _) (lcm_ne h11)) <|
  Eq.trans (e_ldL lin_X7_isHub n_X7_isHub_182 rfl) <|
  Eq.trans (e_KL lin_X7_isHub n_X7_isHub_183 kl_469920281971) <|
  Eq.trans (e_lcmp lin_X7_isHub n_X7_isHub_186 h1 (by decide)) <|
  Eq.trans (e_IfEqF lin_X7_isHub n_X7_isHub_187 (R_lcm _ _) (lcm_ne h12)) <|
  Eq.trans (e_ldL lin_X7_isHub n_X7_isHub_195 rfl) <|
  Eq.trans (e_KL lin_X7_isHub n_X7_isHub_196 kl_427020345714) <|
  Eq.trans (e_lcmp lin_X7_isHub n_X7_isHub_199 h1 (by decide)) <|
  Eq.trans (e_IfEqF lin_X7_isHub n_X7_isHub_200 (R_lcm _ _) (lcm_ne h13)) <|
  Eq.trans (e_ldL lin_X7_isHub n_X7_isHub_209 rfl) <|
  Eq.trans (e_KL lin_X7_isHub n_X7_isHub_210 kl_115) <|
  Eq.trans (e_lcmp lin_X7_isHub n_X7_isHub_213 h1 (by decide)) <|
  Eq.trans (e_IfEqF lin_X7_isHub n_X7_isHub_214 (R_lcm _ _) (lcm_ne h14)) <|
  Eq.trans (e_ldL lin_X7_isHub n_X7_isHub_223 rfl) <|
  Eq.trans (e_KL lin_X7_isHub n_X7_isHub_224 kl_27489) <|
  Eq.trans (e_lcmp lin_X7_isHub n_X7_isHub_227 h1 (by decide)) <|
  Eq.trans (e_IfEqF lin_X7_isHub n_X7_isHub_228 (R_lcm _ _) (lcm_ne h15)) <|
  Eq.trans (e_ldL lin_X7_isHub n_X7_isHub_237 rfl) <|
  Eq.trans (e_KL lin_X7_isHub n_X7_isHub_238 kl_27490) <|
  Eq.trans (e_lcmp lin_X7_isHub n_X7_isHub_241 h1 (by decide)) <|
  Eq.trans (e_IfEqF lin_X7_isHub n_X7_isHub_242 (R_lcm _ _) (lcm_ne h16)) <|
  Eq.trans (e_KI lin_X7_isHub n_X7_isHub_251 k_m1) <|
  Eq.trans (e_putI lin_X7_isHub n_X7_isHub_252 rfl (s_574 hS) rfl (j := 20) rfl) <|
  Eq.trans (e_ldA lin_X7_isHub n_X7_isHub_255 rfl) <|
  Eq.trans (e_getI lin_X7_isHub n_X7_isHub_256 (s_574 hS) rfl (j := 20) rfl (v := (-1)) rfl) <|
  Eq.trans (e_IfLtT lin_X7_isHub n_X7_isHub_259 (by decide) (by decide)) <|
  Eq.trans (e_ldA lin_X7_isHub n_X7_isHub_264 rfl) <|
  Eq.trans (e_ldL lin_X7_isHub n_X7_isHub_265 rfl) <|
  Eq.trans (e_KL lin_X7_isHub n_X7_isHub_266 kl_111) <|
  Eq.trans (e_lcmp lin_X7_isHub n_X7_isHub_269 h1 (by decide)) <|
  Eq.trans (e_IfEqF lin_X7_isHub n_X7_isHub_270 (R_lcm _ _) (lcm_ne h17)) <|
  Eq.trans (e_ldL lin_X7_isHub n_X7_isHub_273 rfl) <|
  Eq.trans (e_KL lin_X7_isHub n_X7_isHub_274 kl_105) <|
  Eq.trans (e_lcmpE lin_X7_isHub n_X7_isHub_277 h18) <|
  Eq.trans (e_IfEqT lin_X7_isHub n_X7_isHub_278 (by decide) (by decide)) <|
  Eq.trans (e_KI lin_X7_isHub n_X7_isHub_281 k_6) <|
  Eq.trans (e_goto lin_X7_isHub n_X7_isHub_283) <|
  Eq.trans (e_putI lin_X7_isHub n_X7_isHub_287 rfl (s_574 hS) rfl (j := 22) rfl) <|
  Eq.trans (e_ldA lin_X7_isHub n_X7_isHub_290 rfl) <|
  Eq.trans (e_ldL lin_X7_isHub n_X7_isHub_291 rfl) <|
  Eq.trans (e_KL lin_X7_isHub n_X7_isHub_292 kl_111) <|
  Eq.trans (e_lcmp lin_X7_isHub n_X7_isHub_295 h1 (by decide)) <|
  Eq.trans (e_IfEqF lin_X7_isHub n_X7_isHub_296 (R_lcm _ _) (lcm_ne h17)) <|
  Eq.trans (e_ldL lin_X7_isHub n_X7_isHub_304 rfl) <|
  Eq.trans (e_KL lin_X7_isHub n_X7_isHub_305 kl_105) <|
  Eq.trans (e_lcmpE lin_X7_isHub n_X7_isHub_308 h18) <|
  Eq.trans (e_IfEqT lin_X7_isHub n_X7_isHub_309 (by decide) (by decide)) <|
  Eq.trans (e_KI lin_X7_isHub n_X7_isHub_312 k_96) <|
  Eq.trans (e_goto lin_X7_isHub n_X7_isHub_314) <|
  Eq.trans (e_putI lin_X7_isHub n_X7_isHub_360 rfl (s_574 hS) rfl (j := 20) rfl) <|
  Eq.trans (e_ldA lin_X7_isHub n_X7_isHub_363 rfl) <|
  Eq.trans (e_getI lin_X7_isHub n_X7_isHub_364 (s_574 hS) rfl (j := 20) rfl (v := 96) rfl) <|
  Eq.trans (e_IfLtF lin_X7_isHub n_X7_isHub_367 (by decide) (by decide)) <|
  Eq.trans (e_KI lin_X7_isHub n_X7_isHub_370 k_1) <|
  e_retZ lin_X7_isHub n_X7_isHub_371 (by decide)
theorem c_X7_isHub_NNNNNNNNNNNNNNNNNE {fi fl : HI} {cr : HR} {sh : HS} {nx sl d : Nat} {x1 : Int} (hS : Stat cr sh) (h1 : -9223372036854775808 ≤ x1 ∧ x1 < 9223372036854775808 := by omega) (h2 : x1 ≠ 99 := by omega) (h3 : x1 ≠ 97 := by omega) (h4 : x1 ≠ 120 := by omega) (h5 : x1 ≠ 113 := by omega) (h6 : x1 ≠ 101 := by omega) (h7 : x1 ≠ 109 := by omega) (h8 : x1 ≠ 1751215220 := by omega) (h9 : x1 ≠ 117 := by omega) (h10 : x1 ≠ 122 := by omega) (h11 : x1 ≠ 1886156147 := by omega) (h12 : x1 ≠ 469920281971 := by omega) (h13 : x1 ≠ 427020345714 := by omega) (h14 : x1 ≠ 115 := by omega) (h15 : x1 ≠ 27489 := by omega) (h16 : x1 ≠ 27490 := by omega) (h17 : x1 ≠ 111 := by omega) (h18 : x1 ≠ 105 := by omega) (h19 : x1 = 29283 := by omega) :
  CD mt (d + 1) 167 [.ref 574, lv x1] (G fi fl cr sh nx sl) = some (.returned (some (iv 1)), (G (up (up (up (up (up (up (up (up (up fi 574 22 1) 574 21 20) 574 20 (-1)) 574 21 1) 574 20 (-1)) 574 21 4) 574 20 (-1)) 574 22 3) 574 20 181) fl cr sh nx sl)) :=
  Eq.trans (CD_at (ls := [.ref 574, lv x1, nv]) _ _ mt_X7_isHub rfl rfl) <|
  Eq.trans (e_ldA lin_X7_isHub n_X7_isHub_0 rfl) <|
  Eq.trans (e_KI lin_X7_isHub n_X7_isHub_1 k_1) <|
  Eq.trans (e_putI lin_X7_isHub n_X7_isHub_2 rfl (s_574 hS) rfl (j := 22) rfl) <|
  Eq.trans (e_ldA lin_X7_isHub n_X7_isHub_5 rfl) <|
  Eq.trans (e_KI lin_X7_isHub n_X7_isHub_6 k_20) <|
  Eq.trans (e_putI lin_X7_isHub n_X7_isHub_8 rfl (s_574 hS) rfl (j := 21) rfl) <|
  Eq.trans (e_ldA lin_X7_isHub n_X7_isHub_11 rfl) <|
  Eq.trans (e_ldL lin_X7_isHub n_X7_isHub_12 rfl) <|
  Eq.trans (e_KL lin_X7_isHub n_X7_isHub_13 kl_99) <|
  Eq.trans (e_lcmp lin_X7_isHub n_X7_isHub_16 h1 (by decide)) <|
  Eq.trans (e_IfEqF lin_X7_isHub n_X7_isHub_17 (R_lcm _ _) (lcm_ne h2)) <|
  Eq.trans (e_ldL lin_X7_isHub n_X7_isHub_24 rfl) <|
  Eq.trans (e_KL lin_X7_isHub n_X7_isHub_25 kl_97) <|
  Eq.trans (e_lcmp lin_X7_isHub n_X7_isHub_28 h1 (by decide)) <|
  Eq.trans (e_IfEqF lin_X7_isHub n_X7_isHub_29 (R_lcm _ _) (lcm_ne h3)) <|
  Eq.trans (e_ldL lin_X7_isHub n_X7_isHub_37 rfl) <|
  Eq.trans (e_KL lin_X7_isHub n_X7_isHub_38 kl_120) <|
  Eq.trans (e_lcmp lin_X7_isHub n_X7_isHub_41 h1 (by decide)) <|
  Eq.trans (e_IfEqF lin_X7_isHub n_X7_isHub_42 (R_lcm _ _) (lcm_ne h4)) <|
  Eq.trans (e_ldL lin_X7_isHub n_X7_isHub_50 rfl) <|
  Eq.trans (e_KL lin_X7_isHub n_X7_isHub_51 kl_113) <|
  Eq.trans (e_lcmp lin_X7_isHub n_X7_isHub_54 h1 (by decide)) <|
  Eq.trans (e_IfEqF lin_X7_isHub n_X7_isHub_55 (R_lcm _ _) (lcm_ne h5)) <|
  Eq.trans (e_KI lin_X7_isHub n_X7_isHub_64 k_m1) <|
  Eq.trans (e_putI lin_X7_isHub n_X7_isHub_65 rfl (s_574 hS) rfl (j := 20) rfl) <|
  Eq.trans (e_ldA lin_X7_isHub n_X7_isHub_68 rfl) <|
  Eq.trans (e_getI lin_X7_isHub n_X7_isHub_69 (s_574 hS) rfl (j := 20) rfl (v := (-1)) rfl) <|
  Eq.trans (e_IfLtT lin_X7_isHub n_X7_isHub_72 (by decide) (by decide)) <|
  Eq.trans (e_ldA lin_X7_isHub n_X7_isHub_77 rfl) <|
  Eq.trans (e_KI lin_X7_isHub n_X7_isHub_78 k_1) <|
  Eq.trans (e_putI lin_X7_isHub n_X7_isHub_79 rfl (s_574 hS) rfl (j := 21) rfl) <|
  Eq.trans (e_ldA lin_X7_isHub n_X7_isHub_82 rfl) <|
  Eq.trans (e_ldL lin_X7_isHub n_X7_isHub_83 rfl) <|
  Eq.trans (e_KL lin_X7_isHub n_X7_isHub_84 kl_101) <|
  Eq.trans (e_lcmp lin_X7_isHub n_X7_isHub_87 h1 (by decide)) <|
  Eq.trans (e_IfEqF lin_X7_isHub n_X7_isHub_88 (R_lcm _ _) (lcm_ne h6)) <|
  Eq.trans (e_ldL lin_X7_isHub n_X7_isHub_96 rfl) <|
  Eq.trans (e_KL lin_X7_isHub n_X7_isHub_97 kl_109) <|
  Eq.trans (e_lcmp lin_X7_isHub n_X7_isHub_100 h1 (by decide)) <|
  Eq.trans (e_IfEqF lin_X7_isHub n_X7_isHub_101 (R_lcm _ _) (lcm_ne h7)) <|
  Eq.trans (e_ldL lin_X7_isHub n_X7_isHub_110 rfl) <|
  Eq.trans (e_KL lin_X7_isHub n_X7_isHub_111 kl_1751215220) <|
  Eq.trans (e_lcmp lin_X7_isHub n_X7_isHub_114 h1 (by decide)) <|
  Eq.trans (e_IfEqF lin_X7_isHub n_X7_isHub_115 (R_lcm _ _) (lcm_ne h8)) <|
  Eq.trans (e_KI lin_X7_isHub n_X7_isHub_124 k_m1) <|
  Eq.trans (e_putI lin_X7_isHub n_X7_isHub_125 rfl (s_574 hS) rfl (j := 20) rfl) <|
  Eq.trans (e_ldA lin_X7_isHub n_X7_isHub_128 rfl) <|
  Eq.trans (e_getI lin_X7_isHub n_X7_isHub_129 (s_574 hS) rfl (j := 20) rfl (v := (-1)) rfl) <|
  Eq.trans (e_IfLtT lin_X7_isHub n_X7_isHub_132 (by decide) (by decide)) <|
  Eq.trans (e_ldA lin_X7_isHub n_X7_isHub_137 rfl) <|
  Eq.trans (e_KI lin_X7_isHub n_X7_isHub_138 k_4) <|
  Eq.trans (e_putI lin_X7_isHub n_X7_isHub_139 rfl (s_574 hS) rfl (j := 21) rfl) <|
  Eq.trans (e_ldA lin_X7_isHub n_X7_isHub_142 rfl) <|
  Eq.trans (e_ldL lin_X7_isHub n_X7_isHub_143 rfl) <|
  Eq.trans (e_KL lin_X7_isHub n_X7_isHub_144 kl_117) <|
  Eq.trans (e_lcmp lin_X7_isHub n_X7_isHub_147 h1 (by decide)) <|
  Eq.trans (e_IfEqF lin_X7_isHub n_X7_isHub_148 (R_lcm _ _) (lcm_ne h9)) <|
  Eq.trans (e_ldL lin_X7_isHub n_X7_isHub_156 rfl) <|
  Eq.trans (e_KL lin_X7_isHub n_X7_isHub_157 kl_122) <|
  Eq.trans (e_lcmp lin_X7_isHub n_X7_isHub_160 h1 (by decide)) <|
  Eq.trans (e_IfEqF lin_X7_isHub n_X7_isHub_161 (R_lcm _ _) (lcm_ne h10)) <|
  Eq.trans (e_ldL lin_X7_isHub n_X7_isHub_169 rfl) <|
  Eq.trans (e_KL lin_X7_isHub n_X7_isHub_170 kl_1886156147) <|
  Eq.trans (e_lcmp lin_X7_isHub n_X7_isHub_173 h1 (by decide)) <|
  Eq.trans (e_IfEqF lin_X7_isHub n_X7_isHub_174 (R_lcm _ _) (lcm_ne h11)) <|
  Eq.trans (e_ldL lin_X7_isHub n_X7_isHub_182 rfl) <|
  Eq.trans (e_KL lin_X7_isHub n_X7_isHub_183 kl_469920281971) <|
  Eq.trans (e_lcmp lin_X7_isHub n_X7_isHub_186 h1 (by decide)) <|
  Eq.trans (e_IfEqF lin_X7_isHub n_X7_isHub_187 (R_lcm _ _) (lcm_ne h12)) <|
  Eq.trans (e_ldL lin_X7_isHub n_X7_isHub_195 rfl) <|
  Eq.trans (e_KL lin_X7_isHub n_X7_isHub_196 kl_427020345714) <|
  Eq.trans (e_lcmp lin_X7_isHub n_X7_isHub_199 h1 (by decide)) <|
  Eq.trans (e_IfEqF lin_X7_isHub n_X7_isHub_200 (R_lcm _ _) (lcm_ne h13)) <|
  Eq.trans (e_ldL lin_X7_isHub n_X7_isHub_209 rfl) <|
  Eq.trans (e_KL lin_X7_isHub n_X7_isHub_210 kl_115) <|
  Eq.trans (e_lcmp lin_X7_isHub n_X7_isHub_213 h1 (by decide)) <|
  Eq.trans (e_IfEqF lin_X7_isHub n_X7_isHub_214 (R_lcm _ _) (lcm_ne h14)) <|
  Eq.trans (e_ldL lin_X7_isHub n_X7_isHub_223 rfl) <|
  Eq.trans (e_KL lin_X7_isHub n_X7_isHub_224 kl_27489) <|
  Eq.trans (e_lcmp lin_X7_isHub n_X7_isHub_227 h1 (by decide)) <|
  Eq.trans (e_IfEqF lin_X7_isHub n_X7_isHub_228 (R_lcm _ _) (lcm_ne h15)) <|
  Eq.trans (e_ldL lin_X7_isHub n_X7_isHub_237 rfl) <|
  Eq.trans (e_KL lin_X7_isHub n_X7_isHub_238 kl_27490) <|
  Eq.trans (e_lcmp lin_X7_isHub n_X7_isHub_241 h1 (by decide)) <|
  Eq.trans (e_IfEqF lin_X7_isHub n_X7_isHub_242 (R_lcm _ _) (lcm_ne h16)) <|
  Eq.trans (e_KI lin_X7_isHub n_X7_isHub_251 k_m1) <|
  Eq.trans (e_putI lin_X7_isHub n_X7_isHub_252 rfl (s_574 hS) rfl (j := 20) rfl) <|
  Eq.trans (e_ldA lin_X7_isHub n_X7_isHub_255 rfl) <|
  Eq.trans (e_getI lin_X7_isHub n_X7_isHub_256 (s_574 hS) rfl (j := 20) rfl (v := (-1)) rfl) <|
  Eq.trans (e_IfLtT lin_X7_isHub n_X7_isHub_259 (by decide) (by decide)) <|
  Eq.trans (e_ldA lin_X7_isHub n_X7_isHub_264 rfl) <|
  Eq.trans (e_ldL lin_X7_isHub n_X7_isHub_265 rfl) <|
  Eq.trans (e_KL lin_X7_isHub n_X7_isHub_266 kl_111) <|
  Eq.trans (e_lcmp lin_X7_isHub n_X7_isHub_269 h1 (by decide)) <|
  Eq.trans (e_IfEqF lin_X7_isHub n_X7_isHub_270 (R_lcm _ _) (lcm_ne h17)) <|
  Eq.trans (e_ldL lin_X7_isHub n_X7_isHub_273 rfl) <|
  Eq.trans (e_KL lin_X7_isHub n_X7_isHub_274 kl_105) <|
  Eq.trans (e_lcmp lin_X7_isHub n_X7_isHub_277 h1 (by decide)) <|
  Eq.trans (e_IfEqF lin_X7_isHub n_X7_isHub_278 (R_lcm _ _) (lcm_ne h18)) <|
  Eq.trans (e_KI lin_X7_isHub n_X7_isHub_286 k_3) <|
  Eq.trans (e_putI lin_X7_isHub n_X7_isHub_287 rfl (s_574 hS) rfl (j := 22) rfl) <|
  Eq.trans (e_ldA lin_X7_isHub n_X7_isHub_290 rfl) <|
  Eq.trans (e_ldL lin_X7_isHub n_X7_isHub_291 rfl) <|
  Eq.trans (e_KL lin_X7_isHub n_X7_isHub_292 kl_111) <|
  Eq.trans (e_lcmp lin_X7_isHub n_X7_isHub_295 h1 (by decide)) <|
  Eq.trans (e_IfEqF lin_X7_isHub n_X7_isHub_296 (R_lcm _ _) (lcm_ne h17)) <|
  Eq.trans (e_ldL lin_X7_isHub n_X7_isHub_304 rfl) <|
  Eq.trans (e_KL lin_X7_isHub n_X7_isHub_305 kl_105) <|
  Eq.trans (e_lcmp lin_X7_isHub n_X7_isHub_308 h1 (by decide)) <|
  Eq.trans (e_IfEqF lin_X7_isHub n_X7_isHub_309 (R_lcm _ _) (lcm_ne h18)) <|
  Eq.trans (e_ldL lin_X7_isHub n_X7_isHub_317 rfl) <|
  Eq.trans (e_KL lin_X7_isHub n_X7_isHub_318 kl_29283) <|
  Eq.trans (e_lcmpE lin_X7_isHub n_X7_isHub_321 h19) <|
  Eq.trans (e_IfEqT lin_X7_isHub n_X7_isHub_322 (by decide) (by decide)) <|
  Eq.trans (e_KI lin_X7_isHub n_X7_isHub_325 k_181) <|
  Eq.trans (e_goto lin_X7_isHub n_X7_isHub_328) <|
  Eq.trans (e_putI lin_X7_isHub n_X7_isHub_360 rfl (s_574 hS) rfl (j := 20) rfl) <|
  Eq.trans (e_ldA lin_X7_isHub n_X7_isHub_363 rfl) <|
  Eq.trans (e_getI lin_X7_isHub n_X7_isHub_364 (s_574 hS) rfl (j := 20) rfl (v := 181) rfl) <|
  Eq.trans (e_IfLtF lin_X7_isHub n_X7_isHub_367 (by decide) (by decide)) <|
  Eq.trans (e_KI lin_X7_isHub n_X7_isHub_370 k_1) <|
  e_retZ lin_X7_isHub n_X7_isHub_371 (by decide)
theorem c_X7_isHub_NNNNNNNNNNNNNNNNNNE {fi fl : HI} {cr : HR} {sh : HS} {nx sl d : Nat} {x1 : Int} (hS : Stat cr sh) (h1 : -9223372036854775808 ≤ x1 ∧ x1 < 9223372036854775808 := by omega) (h2 : x1 ≠ 99 := by omega) (h3 : x1 ≠ 97 := by omega) (h4 : x1 ≠ 120 := by omega) (h5 : x1 ≠ 113 := by omega) (h6 : x1 ≠ 101 := by omega) (h7 : x1 ≠ 109 := by omega) (h8 : x1 ≠ 1751215220 := by omega) (h9 : x1 ≠ 117 := by omega) (h10 : x1 ≠ 122 := by omega) (h11 : x1 ≠ 1886156147 := by omega) (h12 : x1 ≠ 469920281971 := by omega) (h13 : x1 ≠ 427020345714 := by omega) (h14 : x1 ≠ 115 := by omega) (h15 : x1 ≠ 27489 := by omega) (h16 : x1 ≠ 27490 := by omega) (h17 : x1 ≠ 111 := by omega) (h18 : x1 ≠ 105 := by omega) (h19 : x1 ≠ 29283 := by omega) (h20 : x1 = 29294 := by omega) :
  CD mt (d + 1) 167 [.ref 574, lv x1] (G fi fl cr sh nx sl) = some (.returned (some (iv 1)), (G (up (up (up (up (up (up (up (up (up fi 574 22 1) 574 21 20) 574 20 (-1)) 574 21 1) 574 20 (-1)) 574 21 4) 574 20 (-1)) 574 22 3) 574 20 193) fl cr sh nx sl)) :=
  Eq.trans (CD_at (ls := [.ref 574, lv x1, nv]) _ _ mt_X7_isHub rfl rfl) <|
  Eq.trans (e_ldA lin_X7_isHub n_X7_isHub_0 rfl) <|
  Eq.trans (e_KI lin_X7_isHub n_X7_isHub_1 k_1) <|
  Eq.trans (e_putI lin_X7_isHub n_X7_isHub_2 rfl (s_574 hS) rfl (j := 22) rfl) <|
  Eq.trans (e_ldA lin_X7_isHub n_X7_isHub_5 rfl) <|
  Eq.trans (e_KI lin_X7_isHub n_X7_isHub_6 k_20) <|
  Eq.trans (e_putI lin_X7_isHub n_X7_isHub_8 rfl (s_574 hS) rfl (j := 21) rfl) <|
  Eq.trans (e_ldA lin_X7_isHub n_X7_isHub_11 rfl) <|
  Eq.trans (e_ldL lin_X7_isHub n_X7_isHub_12 rfl) <|
  Eq.trans (e_KL lin_X7_isHub n_X7_isHub_13 kl_99) <|
  Eq.trans (e_lcmp lin_X7_isHub n_X7_isHub_16 h1 (by decide)) <|
  Eq.trans (e_IfEqF lin_X7_isHub n_X7_isHub_17 (R_lcm _ _) (lcm_ne h2)) <|
  Eq.trans (e_ldL lin_X7_isHub n_X7_isHub_24 rfl) <|
  Eq.trans (e_KL lin_X7_isHub n_X7_isHub_25 kl_97) <|
  Eq.trans (e_lcmp lin_X7_isHub n_X7_isHub_28 h1 (by decide)) <|
  Eq.trans (e_IfEqF lin_X7_isHub n_X7_isHub_29 (R_lcm _ _) (lcm_ne h3)) <|
  Eq.trans (e_ldL lin_X7_isHub n_X7_isHub_37 rfl) <|
  Eq.trans (e_KL lin_X7_isHub n_X7_isHub_38 kl_120) <|
  Eq.trans (e_lcmp lin_X7_isHub n_X7_isHub_41 h1 (by decide)) <|
  Eq.trans (e_IfEqF lin_X7_isHub n_X7_isHub_42 (R_lcm _ _) (lcm_ne h4)) <|
  Eq.trans (e_ldL lin_X7_isHub n_X7_isHub_50 rfl) <|
  Eq.trans (e_KL lin_X7_isHub n_X7_isHub_51 kl_113) <|
  Eq.trans (e_lcmp lin_X7_isHub n_X7_isHub_54 h1 (by decide)) <|
  Eq.trans (e_IfEqF lin_X7_isHub n_X7_isHub_55 (R_lcm _ _) (lcm_ne h5)) <|
  Eq.trans (e_KI lin_X7_isHub n_X7_isHub_64 k_m1) <|
  Eq.trans (e_putI lin_X7_isHub n_X7_isHub_65 rfl (s_574 hS) rfl (j := 20) rfl) <|
  Eq.trans (e_ldA lin_X7_isHub n_X7_isHub_68 rfl) <|
  Eq.trans (e_getI lin_X7_isHub n_X7_isHub_69 (s_574 hS) rfl (j := 20) rfl (v := (-1)) rfl) <|
  Eq.trans (e_IfLtT lin_X7_isHub n_X7_isHub_72 (by decide) (by decide)) <|
  Eq.trans (e_ldA lin_X7_isHub n_X7_isHub_77 rfl) <|
  Eq.trans (e_KI lin_X7_isHub n_X7_isHub_78 k_1) <|
  Eq.trans (e_putI lin_X7_isHub n_X7_isHub_79 rfl (s_574 hS) rfl (j := 21) rfl) <|
  Eq.trans (e_ldA lin_X7_isHub n_X7_isHub_82 rfl) <|
  Eq.trans (e_ldL lin_X7_isHub n_X7_isHub_83 rfl) <|
  Eq.trans (e_KL lin_X7_isHub n_X7_isHub_84 kl_101) <|
  Eq.trans (e_lcmp lin_X7_isHub n_X7_isHub_87 h1 (by decide)) <|
  Eq.trans (e_IfEqF lin_X7_isHub n_X7_isHub_88 (R_lcm _ _) (lcm_ne h6)) <|
  Eq.trans (e_ldL lin_X7_isHub n_X7_isHub_96 rfl) <|
  Eq.trans (e_KL lin_X7_isHub n_X7_isHub_97 kl_109) <|
  Eq.trans (e_lcmp lin_X7_isHub n_X7_isHub_100 h1 (by decide)) <|
  Eq.trans (e_IfEqF lin_X7_isHub n_X7_isHub_101 (R_lcm _ _) (lcm_ne h7)) <|
  Eq.trans (e_ldL lin_X7_isHub n_X7_isHub_110 rfl) <|
  Eq.trans (e_KL lin_X7_isHub n_X7_isHub_111 kl_1751215220) <|
  Eq.trans (e_lcmp lin_X7_isHub n_X7_isHub_114 h1 (by decide)) <|
  Eq.trans (e_IfEqF lin_X7_isHub n_X7_isHub_115 (R_lcm _ _) (lcm_ne h8)) <|
  Eq.trans (e_KI lin_X7_isHub n_X7_isHub_124 k_m1) <|
  Eq.trans (e_putI lin_X7_isHub n_X7_isHub_125 rfl (s_574 hS) rfl (j := 20) rfl) <|
  Eq.trans (e_ldA lin_X7_isHub n_X7_isHub_128 rfl) <|
  Eq.trans (e_getI lin_X7_isHub n_X7_isHub_129 (s_574 hS) rfl (j := 20) rfl (v := (-1)) rfl) <|
  Eq.trans (e_IfLtT lin_X7_isHub n_X7_isHub_132 (by decide) (by decide)) <|
  Eq.trans (e_ldA lin_X7_isHub n_X7_isHub_137 rfl) <|
  Eq.trans (e_KI lin_X7_isHub n_X7_isHub_138 k_4) <|
  Eq.trans (e_putI lin_X7_isHub n_X7_isHub_139 rfl (s_574 hS) rfl (j := 21) rfl) <|
  Eq.trans (e_ldA lin_X7_isHub n_X7_isHub_142 rfl) <|
  Eq.trans (e_ldL lin_X7_isHub n_X7_isHub_143 rfl) <|
  Eq.trans (e_KL lin_X7_isHub n_X7_isHub_144 kl_117) <|
  Eq.trans (e_lcmp lin_X7_isHub n_X7_isHub_147 h1 (by decide)) <|
  Eq.trans (e_IfEqF lin_X7_isHub n_X7_isHub_148 (R_lcm _ _) (lcm_ne h9)) <|
  Eq.trans (e_ldL lin_X7_isHub n_X7_isHub_156 rfl) <|
  Eq.trans (e_KL lin_X7_isHub n_X7_isHub_157 kl_122) <|
  Eq.trans (e_lcmp lin_X7_isHub n_X7_isHub_160 h1 (by decide)) <|
  Eq.trans (e_IfEqF lin_X7_isHub n_X7_isHub_161 (R_lcm _ _) (lcm_ne h10)) <|
  Eq.trans (e_ldL lin_X7_isHub n_X7_isHub_169 rfl) <|
  Eq.trans (e_KL lin_X7_isHub n_X7_isHub_170 kl_1886156147) <|
  Eq.trans (e_lcmp lin_X7_isHub n_X7_isHub_173 h1 (by decide)) <|
  Eq.trans (e_IfEqF lin_X7_isHub n_X7_isHub_174 (R_lcm _ _) (lcm_ne h11)) <|
  Eq.trans (e_ldL lin_X7_isHub n_X7_isHub_182 rfl) <|
  Eq.trans (e_KL lin_X7_isHub n_X7_isHub_183 kl_469920281971) <|
  Eq.trans (e_lcmp lin_X7_isHub n_X7_isHub_186 h1 (by decide)) <|
  Eq.trans (e_IfEqF lin_X7_isHub n_X7_isHub_187 (R_lcm _ _) (lcm_ne h12)) <|
  Eq.trans (e_ldL lin_X7_isHub n_X7_isHub_195 rfl) <|
  Eq.trans (e_KL lin_X7_isHub n_X7_isHub_196 kl_427020345714) <|
  Eq.trans (e_lcmp lin_X7_isHub n_X7_isHub_199 h1 (by decide)) <|
  Eq.trans (e_IfEqF lin_X7_isHub n_X7_isHub_200 (R_lcm _ _) (lcm_ne h13)) <|
  Eq.trans (e_ldL lin_X7_isHub n_X7_isHub_209 rfl) <|
  Eq.trans (e_KL lin_X7_isHub n_X7_isHub_210 kl_115) <|
  Eq.trans (e_lcmp lin_X7_isHub n_X7_isHub_213 h1 (by decide)) <|
  Eq.trans (e_IfEqF lin_X7_isHub n_X7_isHub_214 (R_lcm _ _) (lcm_ne h14)) <|
  Eq.trans (e_ldL lin_X7_isHub n_X7_isHub_223 rfl) <|
  Eq.trans (e_KL lin_X7_isHub n_X7_isHub_224 kl_27489) <|
  Eq.trans (e_lcmp lin_X7_isHub n_X7_isHub_227 h1 (by decide)) <|
  Eq.trans (e_IfEqF lin_X7_isHub n_X7_isHub_228 (R_lcm _ _) (lcm_ne h15)) <|
  Eq.trans (e_ldL lin_X7_isHub n_X7_isHub_237 rfl) <|
  Eq.trans (e_KL lin_X7_isHub n_X7_isHub_238 kl_27490) <|
  Eq.trans (e_lcmp lin_X7_isHub n_X7_isHub_241 h1 (by decide)) <|
  Eq.trans (e_IfEqF lin_X7_isHub n_X7_isHub_242 (R_lcm _ _) (lcm_ne h16)) <|
  Eq.trans (e_KI lin_X7_isHub n_X7_isHub_251 k_m1) <|
  Eq.trans (e_putI lin_X7_isHub n_X7_isHub_252 rfl (s_574 hS) rfl (j := 20) rfl) <|
  Eq.trans (e_ldA lin_X7_isHub n_X7_isHub_255 rfl) <|
  Eq.trans (e_getI lin_X7_isHub n_X7_isHub_256 (s_574 hS) rfl (j := 20) rfl (v := (-1)) rfl) <|
  Eq.trans (e_IfLtT lin_X7_isHub n_X7_isHub_259 (by decide) (by decide)) <|
  Eq.trans (e_ldA lin_X7_isHub n_X7_isHub_264 rfl) <|
  Eq.trans (e_ldL lin_X7_isHub n_X7_isHub_265 rfl) <|
  Eq.trans (e_KL lin_X7_isHub n_X7_isHub_266 kl_111) <|
  Eq.trans (e_lcmp lin_X7_isHub n_X7_isHub_269 h1 (by decide)) <|
  Eq.trans (e_IfEqF lin_X7_isHub n_X7_isHub_270 (R_lcm _ _) (lcm_ne h17)) <|
  Eq.trans (e_ldL lin_X7_isHub n_X7_isHub_273 rfl) <|
  Eq.trans (e_KL lin_X7_isHub n_X7_isHub_274 kl_105) <|
  Eq.trans (e_lcmp lin_X7_isHub n_X7_isHub_277 h1 (by decide)) <|
  Eq.trans (e_IfEqF lin_X7_isHub n_X7_isHub_278 (R_lcm _ _) (lcm_ne h18)) <|
  Eq.trans (e_KI lin_X7_isHub n_X7_isHub_286 k_3) <|
  Eq.trans (e_putI lin_X7_isHub n_X7_isHub_287 rfl (s_574 hS) rfl (j := 22) rfl) <|
  Eq.trans (e_ldA lin_X7_isHub n_X7_isHub_290 rfl) <|
  Eq.trans (e_ldL lin_X7_isHub n_X7_isHub_291 rfl) <|
  Eq.trans (e_KL lin_X7_isHub n_X7_isHub_292 kl_111) <|
  Eq.trans (e_lcmp lin_X7_isHub n_X7_isHub_295 h1 (by decide)) <|
  Eq.trans (e_IfEqF lin_X7_isHub n_X7_isHub_296 (R_lcm _ _) (lcm_ne h17)) <|
  Eq.trans (e_ldL lin_X7_isHub n_X7_isHub_304 rfl) <|
  Eq.trans (e_KL lin_X7_isHub n_X7_isHub_305 kl_105) <|
  Eq.trans (e_lcmp lin_X7_isHub n_X7_isHub_308 h1 (by decide)) <|
  Eq.trans (e_IfEqF lin_X7_isHub n_X7_isHub_309 (R_lcm _ _) (lcm_ne h18)) <|
  Eq.trans (e_ldL lin_X7_isHub n_X7_isHub_317 rfl) <|
  Eq.trans (e_KL lin_X7_isHub n_X7_isHub_318 kl_29283) <|
  Eq.trans (e_lcmp lin_X7_isHub n_X7_isHub_321 h1 (by decide)) <|
  Eq.trans (e_IfEqF lin_X7_isHub n_X7_isHub_322 (R_lcm _ _) (lcm_ne h19)) <|
  Eq.trans (e_ldL lin_X7_isHub n_X7_isHub_331 rfl) <|
  Eq.trans (e_KL lin_X7_isHub n_X7_isHub_332 kl_29294) <|
  Eq.trans (e_lcmpE lin_X7_isHub n_X7_isHub_335 h20) <|
  Eq.trans (e_IfEqT lin_X7_isHub n_X7_isHub_336 (by decide) (by decide)) <|
  Eq.trans (e_KI lin_X7_isHub n_X7_isHub_339 k_193) <|
  Eq.trans (e_goto lin_X7_isHub n_X7_isHub_342) <|
  Eq.trans (e_putI lin_X7_isHub n_X7_isHub_360 rfl (s_574 hS) rfl (j := 20) rfl) <|
  Eq.trans (e_ldA lin_X7_isHub n_X7_isHub_363 rfl) <|
  Eq.trans (e_getI lin_X7_isHub n_X7_isHub_364 (s_574 hS) rfl (j := 20) rfl (v := 193) rfl) <|
  Eq.trans (e_IfLtF lin_X7_isHub n_X7_isHub_367 (by decide) (by decide)) <|
  Eq.trans (e_KI lin_X7_isHub n_X7_isHub_370 k_1) <|
  e_retZ lin_X7_isHub n_X7_isHub_371 (by decide)
theorem c_X7_isHub_NNNNNNNNNNNNNNNNNNNE {fi fl : HI} {cr : HR} {sh : HS} {nx sl d : Nat} {x1 : Int} (hS : Stat cr sh) (h1 : -9223372036854775808 ≤ x1 ∧ x1 < 9223372036854775808 := by omega) (h2 : x1 ≠ 99 := by omega) (h3 : x1 ≠ 97 := by omega) (h4 : x1 ≠ 120 := by omega) (h5 : x1 ≠ 113 := by omega) (h6 : x1 ≠ 101 := by omega) (h7 : x1 ≠ 109 := by omega) (h8 : x1 ≠ 1751215220 := by omega) (h9 : x1 ≠ 117 := by omega) (h10 : x1 ≠ 122 := by omega) (h11 : x1 ≠ 1886156147 := by omega) (h12 : x1 ≠ 469920281971 := by omega) (h13 : x1 ≠ 427020345714 := by omega) (h14 : x1 ≠ 115 := by omega) (h15 : x1 ≠ 27489 := by omega) (h16 : x1 ≠ 27490 := by omega) (h17 : x1 ≠ 111 := by omega) (h18 : x1 ≠ 105 := by omega) (h19 : x1 ≠ 29283 := by omega) (h20 : x1 ≠ 29294 := by omega) (h21 : x1 = 29300 := by omega) :
  CD mt (d + 1) 167 [.ref 574, lv x1] (G fi fl cr sh nx sl) = some (.returned (some (iv 1)), (G (up (up (up (up (up (up (up (up (up fi 574 22 1) 574 21 20) 574 20 (-1)) 574 21 1) 574 20 (-1)) 574 21 4) 574 20 (-1)) 574 22 3) 574 20 205) fl cr sh nx sl)) :=
  Eq.trans (CD_at (ls := [.ref 574, lv x1, nv]) _ _ mt_X7_isHub rfl rfl) <|
  Eq.trans (e_ldA lin_X7_isHub n_X7_isHub_0 rfl) <|
  Eq.trans (e_KI lin_X7_isHub n_X7_isHub_1 k_1) <|
  Eq.trans (e_putI lin_X7_isHub n_X7_isHub_2 rfl (s_574 hS) rfl (j := 22) rfl) <|
  Eq.trans (e_ldA lin_X7_isHub n_X7_isHub_5 rfl) <|
  Eq.trans (e_KI lin_X7_isHub n_X7_isHub_6 k_20) <|
  Eq.trans (e_putI lin_X7_isHub n_X7_isHub_8 rfl (s_574 hS) rfl (j := 21) rfl) <|
  Eq.trans (e_ldA lin_X7_isHub n_X7_isHub_11 rfl) <|
  Eq.trans (e_ldL lin_X7_isHub n_X7_isHub_12 rfl) <|
  Eq.trans (e_KL lin_X7_isHub n_X7_isHub_13 kl_99) <|
  Eq.trans (e_lcmp lin_X7_isHub n_X7_isHub_16 h1 (by decide)) <|
  Eq.trans (e_IfEqF lin_X7_isHub n_X7_isHub_17 (R_lcm _ _) (lcm_ne h2)) <|
  Eq.trans (e_ldL lin_X7_isHub n_X7_isHub_24 rfl) <|
  Eq.trans (e_KL lin_X7_isHub n_X7_isHub_25 kl_97) <|
  Eq.trans (e_lcmp lin_X7_isHub n_X7_isHub_28 h1 (by decide)) <|
  Eq.trans (e_IfEqF lin_X7_isHub n_X7_isHub_29 (R_lcm _ _) (lcm_ne h3)) <|
  Eq.trans (e_ldL lin_X7_isHub n_X7_isHub_37 rfl) <|
  Eq.trans (e_KL lin_X7_isHub n_X7_isHub_38 kl_120) <|
  Eq.trans (e_lcmp lin_X7_isHub n_X7_isHub_41 h1 (by decide)) <|
  Eq.trans (e_IfEqF lin_X7_isHub n_X7_isHub_42 (R_lcm _ _) (lcm_ne h4)) <|
  Eq.trans (e_ldL lin_X7_isHub n_X7_isHub_50 rfl) <|
  Eq.trans (e_KL lin_X7_isHub n_X7_isHub_51 kl_113) <|
  Eq.trans (e_lcmp lin_X7_isHub n_X7_isHub_54 h1 (by decide)) <|
  Eq.trans (e_IfEqF lin_X7_isHub n_X7_isHub_55 (R_lcm _ _) (lcm_ne h5)) <|
  Eq.trans (e_KI lin_X7_isHub n_X7_isHub_64 k_m1) <|
  Eq.trans (e_putI lin_X7_isHub n_X7_isHub_65 rfl (s_574 hS) rfl (j := 20) rfl) <|
  Eq.trans (e_ldA lin_X7_isHub n_X7_isHub_68 rfl) <|
  Eq.trans (e_getI lin_X7_isHub n_X7_isHub_69 (s_574 hS) rfl (j := 20) rfl (v := (-1)) rfl) <|
  Eq.trans (e_IfLtT lin_X7_isHub n_X7_isHub_72 (by decide) (by decide)) <|
  Eq.trans (e_ldA lin_X7_isHub n_X7_isHub_77 rfl) <|
  Eq.trans (e_KI lin_X7_isHub n_X7_isHub_78 k_1) <|
  Eq.trans (e_putI lin_X7_isHub n_X7_isHub_79 rfl (s_574 hS) rfl (j := 21) rfl) <|
  Eq.trans (e_ldA lin_X7_isHub n_X7_isHub_82 rfl) <|
  Eq.trans (e_ldL lin_X7_isHub n_X7_isHub_83 rfl) <|
  Eq.trans (e_KL lin_X7_isHub n_X7_isHub_84 kl_101) <|
  Eq.trans (e_lcmp lin_X7_isHub n_X7_isHub_87 h1 (by decide)) <|
  Eq.trans (e_IfEqF lin_X7_isHub n_X7_isHub_88 (R_lcm _ _) (lcm_ne h6)) <|
  Eq.trans (e_ldL lin_X7_isHub n_X7_isHub_96 rfl) <|
  Eq.trans (e_KL lin_X7_isHub n_X7_isHub_97 kl_109) <|
  Eq.trans (e_lcmp lin_X7_isHub n_X7_isHub_100 h1 (by decide)) <|
  Eq.trans (e_IfEqF lin_X7_isHub n_X7_isHub_101 (R_lcm _ _) (lcm_ne h7)) <|
  Eq.trans (e_ldL lin_X7_isHub n_X7_isHub_110 rfl) <|
  Eq.trans (e_KL lin_X7_isHub n_X7_isHub_111 kl_1751215220) <|
  Eq.trans (e_lcmp lin_X7_isHub n_X7_isHub_114 h1 (by decide)) <|
  Eq.trans (e_IfEqF lin_X7_isHub n_X7_isHub_115 (R_lcm _ _) (lcm_ne h8)) <|
  Eq.trans (e_KI lin_X7_isHub n_X7_isHub_124 k_m1) <|
  Eq.trans (e_putI lin_X7_isHub n_X7_isHub_125 rfl (s_574 hS) rfl (j := 20) rfl) <|
  Eq.trans (e_ldA lin_X7_isHub n_X7_isHub_128 rfl) <|
  Eq.trans (e_getI lin_X7_isHub n_X7_isHub_129 (s_574 hS) rfl (j := 20) rfl (v := (-1)) rfl) <|
  Eq.trans (e_IfLtT lin_X7_isHub n_X7_isHub_132 (by decide) (by decide)) <|
  Eq.trans (e_ldA lin_X7_isHub n_X7_isHub_137 rfl) <|
  Eq.trans (e_KI lin_X7_isHub n_X7_isHub_138 k_4) <|
  Eq.trans (e_putI lin_X7_isHub n_X7_isHub_139 rfl (s_574 hS) rfl (j := 21) rfl) <|
  Eq.trans (e_ldA lin_X7_isHub n_X7_isHub_142 rfl) <|
  Eq.trans (e_ldL lin_X7_isHub n_X7_isHub_143 rfl) <|
  Eq.trans (e_KL lin_X7_isHub n_X7_isHub_144 kl_117) <|
  Eq.trans (e_lcmp lin_X7_isHub n_X7_isHub_147 h1 (by decide)) <|
  Eq.trans (e_IfEqF lin_X7_isHub n_X7_isHub_148 (R_lcm _ _) (lcm_ne h9)) <|
  Eq.trans (e_ldL lin_X7_isHub n_X7_isHub_156 rfl) <|
  Eq.trans (e_KL lin_X7_isHub n_X7_isHub_157 kl_122) <|
  Eq.trans (e_lcmp lin_X7_isHub n_X7_isHub_160 h1 (by decide)) <|
  Eq.trans (e_IfEqF lin_X7_isHub n_X7_isHub_161 (R_lcm _ _) (lcm_ne h10)) <|
  Eq.trans (e_ldL lin_X7_isHub n_X7_isHub_169 rfl) <|
  Eq.trans (e_KL lin_X7_isHub n_X7_isHub_170 kl_1886156147) <|
  Eq.trans (e_lcmp lin_X7_isHub n_X7_isHub_173 h1 (by decide)) <|
  Eq.trans (e_IfEqF lin_X7_isHub n_X7_isHub_174 (R_lcm _ _) (lcm_ne h11)) <|
  Eq.trans (e_ldL lin_X7_isHub n_X7_isHub_182 rfl) <|
  Eq.trans (e_KL lin_X7_isHub n_X7_isHub_183 kl_469920281971) <|
  Eq.trans (e_lcmp lin_X7_isHub n_X7_isHub_186 h1 (by decide)) <|
  Eq.trans (e_IfEqF lin_X7_isHub n_X7_isHub_187 (R_lcm _ _) (lcm_ne h12)) <|
  Eq.trans (e_ldL lin_X7_isHub n_X7_isHub_195 rfl) <|
  Eq.trans (e_KL lin_X7_isHub n_X7_isHub_196 kl_427020345714) <|
  Eq.trans (e_lcmp lin_X7_isHub n_X7_isHub_199 h1 (by decide)) <|
  Eq.trans (e_IfEqF lin_X7_isHub n_X7_isHub_200 (R_lcm _ _) (lcm_ne h13)) <|
  Eq.trans (e_ldL lin_X7_isHub n_X7_isHub_209 rfl) <|
  Eq.trans (e_KL lin_X7_isHub n_X7_isHub_210 kl_115) <|
  Eq.trans (e_lcmp lin_X7_isHub n_X7_isHub_213 h1 (by decide)) <|
  Eq.trans (e_IfEqF lin_X7_isHub n_X7_isHub_214 (R_lcm _ _) (lcm_ne h14)) <|
  Eq.trans (e_ldL lin_X7_isHub n_X7_isHub_223 rfl) <|
  Eq.trans (e_KL lin_X7_isHub n_X7_isHub_224 kl_27489) <|
  Eq.trans (e_lcmp lin_X7_isHub n_X7_isHub_227 h1 (by decide)) <|
  Eq.trans (e_IfEqF lin_X7_isHub n_X7_isHub_228 (R_lcm _ _) (lcm_ne h15)) <|
  Eq.trans (e_ldL lin_X7_isHub n_X7_isHub_237 rfl) <|
  Eq.trans (e_KL lin_X7_isHub n_X7_isHub_238 kl_27490) <|
  Eq.trans (e_lcmp lin_X7_isHub n_X7_isHub_241 h1 (by decide)) <|
  Eq.trans (e_IfEqF lin_X7_isHub n_X7_isHub_242 (R_lcm _ _) (lcm_ne h16)) <|
  Eq.trans (e_KI lin_X7_isHub n_X7_isHub_251 k_m1) <|
  Eq.trans (e_putI lin_X7_isHub n_X7_isHub_252 rfl (s_574 hS) rfl (j := 20) rfl) <|
  Eq.trans (e_ldA lin_X7_isHub n_X7_isHub_255 rfl) <|
  Eq.trans (e_getI lin_X7_isHub n_X7_isHub_256 (s_574 hS) rfl (j := 20) rfl (v := (-1)) rfl) <|
  Eq.trans (e_IfLtT lin_X7_isHub n_X7_isHub_259 (by decide) (by decide)) <|
  Eq.trans (e_ldA lin_X7_isHub n_X7_isHub_264 rfl) <|
  Eq.trans (e_ldL lin_X7_isHub n_X7_isHub_265 rfl) <|
  Eq.trans (e_KL lin_X7_isHub n_X7_isHub_266 kl_111) <|
  Eq.trans (e_lcmp lin_X7_isHub n_X7_isHub_269 h1 (by decide)) <|
  Eq.trans (e_IfEqF lin_X7_isHub n_X7_isHub_270 (R_lcm _ _) (lcm_ne h17)) <|
  Eq.trans (e_ldL lin_X7_isHub n_X7_isHub_273 rfl) <|
  Eq.trans (e_KL lin_X7_isHub n_X7_isHub_274 kl_105) <|
  Eq.trans (e_lcmp lin_X7_isHub n_X7_isHub_277 h1 (by decide)) <|
  Eq.trans (e_IfEqF lin_X7_isHub n_X7_isHub_278 (R_lcm _ _) (lcm_ne h18)) <|
  Eq.trans (e_KI lin_X7_isHub n_X7_isHub_286 k_3) <|
  Eq.trans (e_putI lin_X7_isHub n_X7_isHub_287 rfl (s_574 hS) rfl (j := 22) rfl) <|
  Eq.trans (e_ldA lin_X7_isHub n_X7_isHub_290 rfl) <|
  Eq.trans (e_ldL lin_X7_isHub n_X7_isHub_291 rfl) <|
  Eq.trans (e_KL lin_X7_isHub n_X7_isHub_292 kl_111) <|
  Eq.trans (e_lcmp lin_X7_isHub n_X7_isHub_295 h1 (by decide)) <|
  Eq.trans (e_IfEqF lin_X7_isHub n_X7_isHub_296 (R_lcm _ _) (lcm_ne h17)) <|
  Eq.trans (e_ldL lin_X7_isHub n_X7_isHub_304 rfl) <|
  Eq.trans (e_KL lin_X7_isHub n_X7_isHub_305 kl_105) <|
  Eq.trans (e_lcmp lin_X7_isHub n_X7_isHub_308 h1 (by decide)) <|
  Eq.trans (e_IfEqF lin_X7_isHub n_X7_isHub_309 (R_lcm _ _) (lcm_ne h18)) <|
  Eq.trans (e_ldL lin_X7_isHub n_X7_isHub_317 rfl) <|
  Eq.trans (e_KL lin_X7_isHub n_X7_isHub_318 kl_29283) <|
  Eq.trans (e_lcmp lin_X7_isHub n_X7_isHub_321 h1 (by decide)) <|
  Eq.trans (e_IfEqF lin_X7_isHub n_X7_isHub_322 (R_lcm _ _) (lcm_ne h19)) <|
  Eq.trans (e_ldL lin_X7_isHub n_X7_isHub_331 rfl) <|
  Eq.trans (e_KL lin_X7_isHub n_X7_isHub_332 kl_29294) <|
  Eq.trans (e_lcmp lin_X7_isHub n_X7_isHub_335 h1 (by decide)) <|
  Eq.trans (e_IfEqF lin_X7_isHub n_X7_isHub_336 (R_lcm _ _) (lcm_ne h20)) <|
  Eq.trans (e_ldL lin_X7_isHub n_X7_isHub_345 rfl) <|
  Eq.trans (e_KL lin_X7_isHub n_X7_isHub_346 kl_29300) <|
  Eq.trans (e_lcmpE lin_X7_isHub n_X7_isHub_349 h21) <|
  Eq.trans (e_IfEqT lin_X7_isHub n_X7_isHub_350 (by decide) (by decide)) <|
  Eq.trans (e_KI lin_X7_isHub n_X7_isHub_353 k_205) <|
  Eq.trans (e_goto lin_X7_isHub n_X7_isHub_356) <|
  Eq.trans (e_putI lin_X7_isHub n_X7_isHub_360 rfl (s_574 hS) rfl (j := 20) rfl) <|
  Eq.trans (e_ldA lin_X7_isHub n_X7_isHub_363 rfl) <|
  Eq.trans (e_getI lin_X7_isHub n_X7_isHub_364 (s_574 hS) rfl (j := 20) rfl (v := 205) rfl) <|
  Eq.trans (e_IfLtF lin_X7_isHub n_X7_isHub_367 (by decide) (by decide)) <|
  Eq.trans (e_KI lin_X7_isHub n_X7_isHub_370 k_1) <|
  e_retZ lin_X7_isHub n_X7_isHub_371 (by decide)
theorem c_X7_isHub_NNNNNNNNNNNNNNNNNNNNE {fi fl : HI} {cr : HR} {sh : HS} {nx sl d : Nat} {x1 : Int} (hS : Stat cr sh) (h1 : -9223372036854775808 ≤ x1 ∧ x1 < 9223372036854775808 := by omega) (h2 : x1 ≠ 99 := by omega) (h3 : x1 ≠ 97 := by omega) (h4 : x1 ≠ 120 := by omega) (h5 : x1 ≠ 113 := by omega) (h6 : x1 ≠ 101 := by omega) (h7 : x1 ≠ 109 := by omega) (h8 : x1 ≠ 1751215220 := by omega) (h9 : x1 ≠ 117 := by omega) (h10 : x1 ≠ 122 := by omega) (h11 : x1 ≠ 1886156147 := by omega) (h12 : x1 ≠ 469920281971 := by omega) (h13 : x1 ≠ 427020345714 := by omega) (h14 : x1 ≠ 115 := by omega) (h15 : x1 ≠ 27489 := by omega) (h16 : x1 ≠ 27490 := by omega) (h17 : x1 ≠ 111 := by omega) (h18 : x1 ≠ 105 := by omega) (h19 : x1 ≠ 29283 := by omega) (h20 : x1 ≠ 29294 := by omega) (h21 : x1 ≠ 29300 := by omega) (h22 : x1 = 112 := by omega) :
  CD mt (d + 1) 167 [.ref 574, lv x1] (G fi fl cr sh nx sl) = some (.returned (some (iv 1)), (G (up (up (up (up (up (up (up (up (up (up (up (up fi 574 22 1) 574 21 20) 574 20 (-1)) 574 21 1) 574 20 (-1)) 574 21 4) 574 20 (-1)) 574 22 3) 574 20 (-1)) 574 22 1) 574 21 12) 574 20 132) fl cr sh nx sl)) :=
  Eq.trans (CD_at (ls := [.ref 574, lv x1, nv]) _ _ mt_X7_isHub rfl rfl) <|
  Eq.trans (e_ldA lin_X7_isHub n_X7_isHub_0 rfl) <|
  Eq.trans (e_KI lin_X7_isHub n_X7_isHub_1 k_1) <|
  Eq.trans (e_putI lin_X7_isHub n_X7_isHub_2 rfl (s_574 hS) rfl (j := 22) rfl) <|
  Eq.trans (e_ldA lin_X7_isHub n_X7_isHub_5 rfl) <|
  Eq.trans (e_KI lin_X7_isHub n_X7_isHub_6 k_20) <|
  Eq.trans (e_putI lin_X7_isHub n_X7_isHub_8 rfl (s_574 hS) rfl (j := 21) rfl) <|
  Eq.trans (e_ldA lin_X7_isHub n_X7_isHub_11 rfl) <|
  Eq.trans (e_ldL lin_X7_isHub n_X7_isHub_12 rfl) <|
  Eq.trans (e_KL lin_X7_isHub n_X7_isHub_13 kl_99) <|
  Eq.trans (e_lcmp lin_X7_isHub n_X7_isHub_16 h1 (by decide)) <|
  Eq.trans (e_IfEqF lin_X7_isHub n_X7_isHub_17 (R_lcm _ _) (lcm_ne h2)) <|
  Eq.trans (e_ldL lin_X7_isHub n_X7_isHub_24 rfl) <|
  Eq.trans (e_KL lin_X7_isHub n_X7_isHub_25 kl_97) <|
  Eq.trans (e_lcmp lin_X7_isHub n_X7_isHub_28 h1 (by decide)) <|
  Eq.trans (e_IfEqF lin_X7_isHub n_X7_isHub_29 (R_lcm _ _) (lcm_ne h3)) <|
  Eq.trans (e_ldL lin_X7_isHub n_X7_isHub_37 rfl) <|
  Eq.trans (e_KL lin_X7_isHub n_X7_isHub_38 kl_120) <|
  Eq.trans (e_lcmp lin_X7_isHub n_X7_isHub_41 h1 (by decide)) <|
  Eq.trans (e_IfEqF lin_X7_isHub n_X7_isHub_42 (R_lcm _ _) (lcm_ne h4)) <|
  Eq.trans (e_ldL lin_X7_isHub n_X7_isHub_50 rfl) <|
  Eq.trans (e_KL lin_X7_isHub n_X7_isHub_51 kl_113) <|
  Eq.trans (e_lcmp lin_X7_isHub n_X7_isHub_54 h1 (by decide)) <|
  Eq.trans (e_IfEqF lin_X7_isHub n_X7_isHub_55 (R_lcm _ _) (lcm_ne h5)) <|
  Eq.trans (e_KI lin_X7_isHub n_X7_isHub_64 k_m1) <|
  Eq.trans (e_putI lin_X7_isHub n_X7_isHub_65 rfl (s_574 hS) rfl (j := 20) rfl) <|
  Eq.trans (e_ldA lin_X7_isHub n_X7_isHub_68 rfl) <|
  Eq.trans (e_getI lin_X7_isHub n_X7_isHub_69 (s_574 hS) rfl (j := 20) rfl (v := (-1)) rfl) <|
  Eq.trans (e_IfLtT lin_X7_isHub n_X7_isHub_72 (by decide) (by decide)) <|
  Eq.trans (e_ldA lin_X7_isHub n_X7_isHub_77 rfl) <|
  Eq.trans (e_KI lin_X7_isHub n_X7_isHub_78 k_1) <|
  Eq.trans (e_putI lin_X7_isHub n_X7_isHub_79 rfl (s_574 hS) rfl (j := 21) rfl) <|
  Eq.trans (e_ldA lin_X7_isHub n_X7_isHub_82 rfl) <|
  Eq.trans (e_ldL lin_X7_isHub n_X7_isHub_83 rfl) <|
  Eq.trans (e_KL lin_X7_isHub n_X7_isHub_84 kl_101) <|
  Eq.trans (e_lcmp lin_X7_isHub n_X7_isHub_87 h1 (by decide)) <|
  Eq.trans (e_IfEqF lin_X7_isHub n_X7_isHub_88 (R_lcm _ _) (lcm_ne h6)) <|
  Eq.trans (e_ldL lin_X7_isHub n_X7_isHub_96 rfl) <|
  Eq.trans (e_KL lin_X7_isHub n_X7_isHub_97 kl_109) <|
  Eq.trans (e_lcmp lin_X7_isHub n_X7_isHub_100 h1 (by decide)) <|
  Eq.trans (e_IfEqF lin_X7_isHub n_X7_isHub_101 (R_lcm _ _) (lcm_ne h7)) <|
  Eq.trans (e_ldL lin_X7_isHub n_X7_isHub_110 rfl) <|
  Eq.trans (e_KL lin_X7_isHub n_X7_isHub_111 kl_1751215220) <|
  Eq.trans (e_lcmp lin_X7_isHub n_X7_isHub_114 h1 (by decide)) <|
  Eq.trans (e_IfEqF lin_X7_isHub n_X7_isHub_115 (R_lcm _ _) (lcm_ne h8)) <|
  Eq.trans (e_KI lin_X7_isHub n_X7_isHub_124 k_m1) <|
  Eq.trans (e_putI lin_X7_isHub n_X7_isHub_125 rfl (s_574 hS) rfl (j := 20) rfl) <|
  Eq.trans (e_ldA lin_X7_isHub n_X7_isHub_128 rfl) <|
  Eq.trans (e_getI lin_X7_isHub n_X7_isHub_129 (s_574 hS) rfl (j := 20) rfl (v := (-1)) rfl) <|
  Eq.trans (e_IfLtT lin_X7_isHub n_X7_isHub_132 (by decide) (by decide)) <|
  Eq.trans (e_ldA lin_X7_isHub n_X7_isHub_137 rfl) <|
  Eq.trans (e_KI lin_X7_isHub n_X7_isHub_138 k_4) <|
  Eq.trans (e_putI lin_X7_isHub n_X7_isHub_139 rfl (s_574 hS) rfl (j := 21) rfl) <|
  Eq.trans (e_ldA lin_X7_isHub n_X7_isHub_142 rfl) <|
  Eq.trans (e_ldL lin_X7_isHub n_X7_isHub_143 rfl) <|
  Eq.trans (e_KL lin_X7_isHub n_X7_isHub_144 kl_117) <|
  Eq.trans (e_lcmp lin_X7_isHub n_X7_isHub_147 h1 (by decide)) <|
  Eq.trans (e_IfEqF lin_X7_isHub n_X7_isHub_148 (R_lcm _ _) (lcm_ne h9)) <|
  Eq.trans (e_ldL lin_X7_isHub n_X7_isHub_156 rfl) <|
  Eq.trans (e_KL lin_X7_isHub n_X7_isHub_157 kl_122) <|
  Eq.trans (e_lcmp lin_X7_isHub n_X7_isHub_160 h1 (by decide)) <|
  Eq.trans (e_IfEqF lin_X7_isHub n_X7_isHub_161 (R_lcm _ _) (lcm_ne h10)) <|
  Eq.trans (e_ldL lin_X7_isHub n_X7_isHub_169 rfl) <|
  Eq.trans (e_KL lin_X7_isHub n_X7_isHub_170 kl_1886156147) <|
  Eq.trans (e_lcmp lin_X7_isHub n_X7_isHub_173 h1 (by decide)) <|
  Eq.trans (e_IfEqF lin_X7_isHub n_X7_isHub_174 (R_lcm _ _) (lcm_ne h11)) <|
  Eq.trans (e_ldL lin_X7_isHub n_X7_isHub_182 rfl) <|
  Eq.trans (e_KL lin_X7_isHub n_X7_isHub_183 kl_469920281971) <|
  Eq.trans (e_lcmp lin_X7_isHub n_X7_isHub_186 h1 (by decide)) <|
  Eq.trans (e_IfEqF lin_X7_isHub n_X7_isHub_187 (R_lcm _ _) (lcm_ne h12)) <|
  Eq.trans (e_ldL lin_X7_isHub n_X7_isHub_195 rfl) <|
  Eq.trans (e_KL lin_X7_isHub n_X7_isHub_196 kl_427020345714) <|
  Eq.trans (e_lcmp lin_X7_isHub n_X7_isHub_199 h1 (by decide)) <|
  Eq.trans (e_IfEqF lin_X7_isHub n_X7_isHub_200 (R_lcm _ _) (lcm_ne h13)) <|
  Eq.trans (e_ldL lin_X7_isHub n_X7_isHub_209 rfl) <|
  Eq.trans (e_KL lin_X7_isHub n_X7_isHub_210 kl_115) <|
  Eq.trans (e_lcmp lin_X7_isHub n_X7_isHub_213 h1 (by decide)) <|
  Eq.trans (e_IfEqF lin_X7_isHub n_X7_isHub_214 (R_lcm _ _) (lcm_ne h14)) <|
  Eq.trans (e_ldL lin_X7_isHub n_X7_isHub_223 rfl) <|
  Eq.trans (e_KL lin_X7_isHub n_X7_isHub_224 kl_27489) <|
  Eq.trans (e_lcmp lin_X7_isHub n_X7_isHub_227 h1 (by decide)) <|
  Eq.trans (e_IfEqF lin_X7_isHub n_X7_isHub_228 (R_lcm _ _) (lcm_ne h15)) <|
  Eq.trans (e_ldL lin_X7_isHub n_X7_isHub_237 rfl) <|
  Eq.trans (e_KL lin_X7_isHub n_X7_isHub_238 kl_27490) <|
  Eq.trans (e_lcmp lin_X7_isHub n_X7_isHub_241 h1 (by decide)) <|
  Eq.trans (e_IfEqF lin_X7_isHub n_X7_isHub_242 (R_lcm _ _) (lcm_ne h16)) <|
  Eq.trans (e_KI lin_X7_isHub n_X7_isHub_251 k_m1) <|
  Eq.trans (e_putI lin_X7_isHub n_X7_isHub_252 rfl (s_574 hS) rfl (j := 20) rfl) <|
  Eq.trans (e_ldA lin_X7_isHub n_X7_isHub_255 rfl) <|
  Eq.trans (e_getI lin_X7_isHub n_X7_isHub_256 (s_574 hS) rfl (j := 20) rfl (v := (-1)) rfl) <|
  Eq.trans (e_IfLtT lin_X7_isHub n_X7_isHub_259 (by decide) (by decide)) <|
  Eq.trans (e_ldA lin_X7_isHub n_X7_isHub_264 rfl) <|
  Eq.trans (e_ldL lin_X7_isHub n_X7_isHub_265 rfl) <|
  Eq.trans (e_KL lin_X7_isHub n_X7_isHub_266 kl_111) <|
  Eq.trans (e_lcmp lin_X7_isHub n_X7_isHub_269 h1 (by decide)) <|
  Eq.trans (e_IfEqF lin_X7_isHub n_X7_isHub_270 (R_lcm _ _) (lcm_ne h17)) <|
  Eq.trans (e_ldL lin_X7_isHub n_X7_isHub_273 rfl) <|
  Eq.trans (e_KL lin_X7_isHub n_X7_isHub_274 kl_105) <|
  Eq.trans (e_lcmp lin_X7_isHub n_X7_isHub_277 h1 (by decide)) <|
  Eq.trans (e_IfEqF lin_X7_isHub n_X7_isHub_278 (R_lcm _ _) (lcm_ne h18)) <|
  Eq.trans (e_KI lin_X7_isHub n_X7_isHub_286 k_3) <|
  Eq.trans (e_putI lin_X7_isHub n_X7_isHub_287 rfl (s_574 hS) rfl (j := 22) rfl) <|
  Eq.trans (e_ldA lin_X7_isHub n_X7_isHub_290 rfl) <|
  Eq.trans (e_ldL lin_X7_isHub n_X7_isHub_291 rfl) <|
  Eq.trans (e_KL lin_X7_isHub n_X7_isHub_292 kl_111) <|
  Eq.trans (e_lcmp lin_X7_isHub n_X7_isHub_295 h1 (by decide)) <|
  Eq.trans (e_IfEqF lin_X7_isHub n_X7_isHub_296 (R_lcm _ _) (lcm_ne h17)) <|
  Eq.trans (e_ldL lin_X7_isHub n_X7_isHub_304 rfl) <|
  Eq.trans (e_KL lin_X7_isHub n_X7_isHub_305 kl_105) <|
  Eq.trans (e_lcmp lin_X7_isHub n_X7_isHub_308 h1 (by decide)) <|
  Eq.trans (e_IfEqF lin_X7_isHub n_X7_isHub_309 (R_lcm _ _) (lcm_ne h18)) <|
  Eq.trans (e_ldL lin_X7_isHub n_X7_isHub_317 rfl) <|
  Eq.trans (e_KL lin_X7_isHub n_X7_isHub_318 kl_29283) <|
  Eq.trans (e_lcmp lin_X7_isHub n_X7_isHub_321 h1 (by decide)) <|
  Eq.trans (e_IfEqF lin_X7_isHub n_X7_isHub_322 (R_lcm _ _) (lcm_ne h19)) <|
  Eq.trans (e_ldL lin_X7_isHub n_X7_isHub_331 rfl) <|
  Eq.trans (e_KL lin_X7_isHub n_X7_isHub_332 kl_29294) <|
  Eq.trans (e_lcmp lin_X7_isHub n_X7_isHub_335 h1 (by decide)) <|
  Eq.trans (e_IfEqF lin_X7_isHub n_X7_isHub_336 (R_lcm _ _) (lcm_ne h20)) <|
  Eq.trans (e_ldL lin_X7_isHub n_X7_isHub_345 rfl) <|
  Eq.trans (e_KL lin_X7_isHub n_X7_isHub_346 kl_29300) <|
  Eq.trans (e_lcmp lin_X7_isHub n_X7_isHub_349 h1 (by decide)) <|
  Eq.trans (e_IfEqF lin_X7_isHub n_X7_isHub_350 (R_lcm _ _) (lcm_ne h21)) <|
  Eq.trans (e_KI lin_X7_isHub n_X7_isHub_359 k_m1) <|
  Eq.trans (e_putI lin_X7_isHub n_X7_isHub_360 rfl (s_574 hS) rfl (j := 20) rfl) <|
  Eq.trans (e_ldA lin_X7_isHub n_X7_isHub_363 rfl) <|
  Eq.trans (e_getI lin_X7_isHub n_X7_isHub_364 (s_574 hS) rfl (j := 20) rfl (v := (-1)) rfl) <|
  Eq.trans (e_IfLtT lin_X7_isHub n_X7_isHub_367 (by decide) (by decide)) <|
  Eq.trans (e_ldA lin_X7_isHub n_X7_isHub_372 rfl) <|
  Eq.trans (e_KI lin_X7_isHub n_X7_isHub_373 k_1) <|
  Eq.trans (e_putI lin_X7_isHub n_X7_isHub_374 rfl (s_574 hS) rfl (j := 22) rfl) <|
  Eq.trans (e_ldA lin_X7_isHub n_X7_isHub_377 rfl) <|
  Eq.trans (e_ldL lin_X7_isHub n_X7_isHub_378 rfl) <|
  Eq.trans (e_KL lin_X7_isHub n_X7_isHub_379 kl_112) <|
  Eq.trans (e_lcmpE lin_X7_isHub n_X7_isHub_382 h22) <|
  Eq.trans (e_IfEqT lin_X7_isHub n_X7_isHub_383 (by decide) (by decide)) <|
  Eq.trans (e_KI lin_X7_isHub n_X7_isHub_386 k_12) <|
  Eq.trans (e_goto lin_X7_isHub n_X7_isHub_388) <|
  Eq.trans (e_putI lin_X7_isHub n_X7_isHub_392 rfl (s_574 hS) rfl (j := 21) rfl) <|
  Eq.trans (e_ldA lin_X7_isHub n_X7_isHub_395 rfl) <|
  Eq.trans (e_ldL lin_X7_isHub n_X7_isHub_396 rfl) <|
  Eq.trans (e_KL lin_X7_isHub n_X7_isHub_397 kl_112) <|
  Eq.trans (e_lcmpE lin_X7_isHub n_X7_isHub_400 h22) <|
  Eq.trans (e_IfEqT lin_X7_isHub n_X7_isHub_401 (by decide) (by decide)) <|
  Eq.trans (e_KI lin_X7_isHub n_X7_isHub_404 k_132) <|
  Eq.trans (e_goto lin_X7_isHub n_X7_isHub_407) <|
  Eq.trans (e_putI lin_X7_isHub n_X7_isHub_438 rfl (s_574 hS) rfl (j := 20) rfl) <|
  Eq.trans (e_ldA lin_X7_isHub n_X7_isHub_441 rfl) <|
  Eq.trans (e_getI lin_X7_isHub n_X7_isHub_442 (s_574 hS) rfl (j := 20) rfl (v := 132) rfl) <|
  Eq.trans (e_IfLtF lin_X7_isHub n_X7_isHub_445 (by decide) (by decide)) <|
  Eq.trans (e_KI lin_X7_isHub n_X7_isHub_448 k_1) <|
  Eq.trans (e_goto lin_X7_isHub n_X7_isHub_449) <|
  e_retZ lin_X7_isHub n_X7_isHub_453 (by decide)
theorem c_X7_isHub_NNNNNNNNNNNNNNNNNNNNNE {fi fl : HI} {cr : HR} {sh : HS} {nx sl d : Nat} {x1 : Int} (hS : Stat cr sh) (h1 : -9223372036854775808 ≤ x1 ∧ x1 < 9223372036854775808 := by omega) (h2 : x1 ≠ 99 := by omega) (h3 : x1 ≠ 97 := by omega) (h4 : x1 ≠ 120 := by omega) (h5 : x1 ≠ 113 := by omega) (h6 : x1 ≠ 101 := by omega) (h7 : x1 ≠ 109 := by omega) (h8 : x1 ≠ 1751215220 := by omega) (h9 : x1 ≠ 117 := by omega) (h10 : x1 ≠ 122 := by omega) (h11 : x1 ≠ 1886156147 := by omega) (h12 : x1 ≠ 469920281971 := by omega) (h13 : x1 ≠ 427020345714 := by omega) (h14 : x1 ≠ 115 := by omega) (h15 : x1 ≠ 27489 := by omega) (h16 : x1 ≠ 27490 := by omega) (h17 : x1 ≠ 111 := by omega) (h18 : x1 ≠ 105 := by omega) (h19 : x1 ≠ 29283 := by omega) (h20 : x1 ≠ 29294 := by omega) (h21 : x1 ≠ 29300 := by omega) (h22 : x1 ≠ 112 := by omega) (h23 : x1 = 116 := by omega) :
  CD mt (d + 1) 167 [.ref 574, lv x1] (G fi fl cr sh nx sl) = some (.returned (some (iv 1)), (G (up (up (up (up (up (up (up (up (up (up (up (up fi 574 22 1) 574 21 20) 574 20 (-1)) 574 21 1) 574 20 (-1)) 574 21 4) 574 20 (-1)) 574 22 3) 574 20 (-1)) 574 22 1) 574 21 3) 574 20 65) fl cr sh nx sl)) :=
  Eq.trans (CD_at (ls := [.ref 574, lv x1, nv]) _ _ mt_X7_isHub rfl rfl) <|
  Eq.trans (e_ldA lin_X7_isHub n_X7_isHub_0 rfl) <|
  Eq.trans (e_KI lin_X7_isHub n_X7_isHub_1 k_1) <|
  Eq.trans (e_putI lin_X7_isHub n_X7_isHub_2 rfl (s_574 hS) rfl (j := 22) rfl) <|
  Eq.trans (e_ldA lin_X7_isHub n_X7_isHub_5 rfl) <|
  Eq.trans (e_KI lin_X7_isHub n_X7_isHub_6 k_20) <|
  Eq.trans (e_putI lin_X7_isHub n_X7_isHub_8 rfl (s_574 hS) rfl (j := 21) rfl) <|
  Eq.trans (e_ldA lin_X7_isHub n_X7_isHub_11 rfl) <|
  Eq.trans (e_ldL lin_X7_isHub n_X7_isHub_12 rfl) <|
  Eq.trans (e_KL lin_X7_isHub n_X7_isHub_13 kl_99) <|
  Eq.trans (e_lcmp lin_X7_isHub n_X7_isHub_16 h1 (by decide)) <|
  Eq.trans (e_IfEqF lin_X7_isHub n_X7_isHub_17 (R_lcm _ _) (lcm_ne h2)) <|
  Eq.trans (e_ldL lin_X7_isHub n_X7_isHub_24 rfl) <|
  Eq.trans (e_KL lin_X7_isHub n_X7_isHub_25 kl_97) <|
  Eq.trans (e_lcmp lin_X7_isHub n_X7_isHub_28 h1 (by decide)) <|
  Eq.trans (e_IfEqF lin_X7_isHub n_X7_isHub_29 (R_lcm _ _) (lcm_ne h3)) <|
  Eq.trans (e_ldL lin_X7_isHub n_X7_isHub_37 rfl) <|
  Eq.trans (e_KL lin_X7_isHub n_X7_isHub_38 kl_120) <|
  Eq.trans (e_lcmp lin_X7_isHub n_X7_isHub_41 h1 (by decide)) <|
  Eq.trans (e_IfEqF lin_X7_isHub n_X7_isHub_42 (R_lcm _ _) (lcm_ne h4)) <|
  Eq.trans (e_ldL lin_X7_isHub n_X7_isHub_50 rfl) <|
  Eq.trans (e_KL lin_X7_isHub n_X7_isHub_51 kl_113) <|
  Eq.trans (e_lcmp lin_X7_isHub n_X7_isHub_54 h1 (by decide)) <|
  Eq.trans (e_IfEqF lin_X7_isHub n_X7_isHub_55 (R_lcm _ _) (lcm_ne h5)) <|
  Eq.trans (e_KI lin_X7_isHub n_X7_isHub_64 k_m1) <|
  Eq.trans (e_putI lin_X7_isHub n_X7_isHub_65 rfl (s_574 hS) rfl (j := 20) rfl) <|
  Eq.trans (e_ldA lin_X7_isHub n_X7_isHub_68 rfl) <|
  Eq.trans (e_getI lin_X7_isHub n_X7_isHub_69 (s_574 hS) rfl (j := 20) rfl (v := (-1)) rfl) <|
  Eq.trans (e_IfLtT lin_X7_isHub n_X7_isHub_72 (by decide) (by decide)) <|
  Eq.trans (e_ldA lin_X7_isHub n_X7_isHub_77 rfl) <|
  Eq.trans (e_KI lin_X7_isHub n_X7_isHub_78 k_1) <|
  Eq.trans (e_putI lin_X7_isHub n_X7_isHub_79 rfl (s_574 hS) rfl (j := 21) rfl) <|
  Eq.trans (e_ldA lin_X7_isHub n_X7_isHub_82 rfl) <|
  Eq.trans (e_ldL lin_X7_isHub n_X7_isHub_83 rfl) <|
  Eq.trans (e_KL lin_X7_isHub n_X7_isHub_84 kl_101) <|
  Eq.trans (e_lcmp lin_X7_isHub n_X7_isHub_87 h1 (by decide)) <|
  Eq.trans (e_IfEqF lin_X7_isHub n_X7_isHub_88 (R_lcm _ _) (lcm_ne h6)) <|
  Eq.trans (e_ldL lin_X7_isHub n_X7_isHub_96 rfl) <|
  Eq.trans (e_KL lin_X7_isHub n_X7_isHub_97 kl_109) <|
  Eq.trans (e_lcmp lin_X7_isHub n_X7_isHub_100 h1 (by decide)) <|
  Eq.trans (e_IfEqF lin_X7_isHub n_X7_isHub_101 (R_lcm _ _) (lcm_ne h7)) <|
  Eq.trans (e_ldL lin_X7_isHub n_X7_isHub_110 rfl) <|
  Eq.trans (e_KL lin_X7_isHub n_X7_isHub_111 kl_1751215220) <|
  Eq.trans (e_lcmp lin_X7_isHub n_X7_isHub_114 h1 (by decide)) <|
  Eq.trans (e_IfEqF lin_X7_isHub n_X7_isHub_115 (R_lcm _ _) (lcm_ne h8)) <|
  Eq.trans (e_KI lin_X7_isHub n_X7_isHub_124 k_m1) <|
  Eq.trans (e_putI lin_X7_isHub n_X7_isHub_125 rfl (s_574 hS) rfl (j := 20) rfl) <|
  Eq.trans (e_ldA lin_X7_isHub n_X7_isHub_128 rfl) <|
  Eq.trans (e_getI lin_X7_isHub n_X7_isHub_129 (s_574 hS) rfl (j := 20) rfl (v := (-1)) rfl) <|
  Eq.trans (e_IfLtT lin_X7_isHub n_X7_isHub_132 (by decide) (by decide)) <|
  Eq.trans (e_ldA lin_X7_isHub n_X7_isHub_137 rfl) <|
  Eq.trans (e_KI lin_X7_isHub n_X7_isHub_138 k_4) <|
  Eq.trans (e_putI lin_X7_isHub n_X7_isHub_139 rfl (s_574 hS) rfl (j := 21) rfl) <|
  Eq.trans (e_ldA lin_X7_isHub n_X7_isHub_142 rfl) <|
  Eq.trans (e_ldL lin_X7_isHub n_X7_isHub_143 rfl) <|
  Eq.trans (e_KL lin_X7_isHub n_X7_isHub_144 kl_117) <|
  Eq.trans (e_lcmp lin_X7_isHub n_X7_isHub_147 h1 (by decide)) <|
  Eq.trans (e_IfEqF lin_X7_isHub n_X7_isHub_148 (R_lcm _ _) (lcm_ne h9)) <|
  Eq.trans (e_ldL lin_X7_isHub n_X7_isHub_156 rfl) <|
  Eq.trans (e_KL lin_X7_isHub n_X7_isHub_157 kl_122) <|
  Eq.trans (e_lcmp lin_X7_isHub n_X7_isHub_160 h1 (by decide)) <|
  Eq.trans (e_IfEqF lin_X7_isHub n_X7_isHub_161 (R_lcm _ _) (lcm_ne h10)) <|
  Eq.trans (e_ldL lin_X7_isHub n_X7_isHub_169 rfl) <|
  Eq.trans (e_KL lin_X7_isHub n_X7_isHub_170 kl_1886156147) <|
  Eq.trans (e_lcmp lin_X7_isHub n_X7_isHub_173 h1 (by decide)) <|
  Eq.trans (e_IfEqF lin_X7_isHub n_X7_isHub_174 (R_lcm _ _) (lcm_ne h11)) <|
  Eq.trans (e_ldL lin_X7_isHub n_X7_isHub_182 rfl) <|
  Eq.trans (e_KL lin_X7_isHub n_X7_isHub_183 kl_469920281971) <|
  Eq.trans (e_lcmp lin_X7_isHub n_X7_isHub_186 h1 (by decide)) <|
  Eq.trans (e_IfEqF lin_X7_isHub n_X7_isHub_187 (R_lcm _ _) (lcm_ne h12)) <|
  Eq.trans (e_ldL lin_X7_isHub n_X7_isHub_195 rfl) <|
  Eq.trans (e_KL lin_X7_isHub n_X7_isHub_196 kl_427020345714) <|
  Eq.trans (e_lcmp lin_X7_isHub n_X7_isHub_199 h1 (by decide)) <|
  Eq.trans (e_IfEqF lin_X7_isHub n_X7_isHub_200 (R_lcm _ _) (lcm_ne h13)) <|
  Eq.trans (e_ldL lin_X7_isHub n_X7_isHub_209 rfl) <|
  Eq.trans (e_KL lin_X7_isHub n_X7_isHub_210 kl_115) <|
  Eq.trans (e_lcmp lin_X7_isHub n_X7_isHub_213 h1 (by decide)) <|
  Eq.trans (e_IfEqF lin_X7_isHub n_X7_isHub_214 (R_lcm _ _) (lcm_ne h14)) <|
  Eq.trans (e_ldL lin_X7_isHub n_X7_isHub_223 rfl) <|
  Eq.trans (e_KL lin_X7_isHub n_X7_isHub_224 kl_27489) <|
  Eq.trans (e_lcmp lin_X7_isHub n_X7_isHub_227 h1 (by decide)) <|
  Eq.trans (e_IfEqF lin_X7_isHub n_X7_isHub_228 (R_lcm _ _) (lcm_ne h15)) <|
  Eq.trans (e_ldL lin_X7_isHub n_X7_isHub_237 rfl) <|
  Eq.trans (e_KL lin_X7_isHub n_X7_isHub_238 kl_27490) <|
  Eq.trans (e_lcmp lin_X7_isHub n_X7_isHub_241 h1 (by decide)) <|
  Eq.trans (e_IfEqF lin_X7_isHub n_X7_isHub_242 (R_lcm _ _) (lcm_ne h16)) <|
  Eq.trans (e_KI lin_X7_isHub n_X7_isHub_251 k_m1) <|
  Eq.trans (e_putI lin_X7_isHub n_X7_isHub_252 rfl (s_574 hS) rfl (j := 20) rfl) <|
  Eq.trans (e_ldA lin_X7_isHub n_X7_isHub_255 rfl) <|
  Eq.trans (e_getI lin_X7_isHub n_X7_isHub_256 (s_574 hS) rfl (j := 20) rfl (v := (-1)) rfl) <|
  Eq.trans (e_IfLtT lin_X7_isHub n_X7_isHub_259 (by decide) (by decide)) <|
  Eq.trans (e_ldA lin_X7_isHub n_X7_isHub_264 rfl) <|
  Eq.trans (e_ldL lin_X7_isHub n_X7_isHub_265 rfl) <|
  Eq.trans (e_KL lin_X7_isHub n_X7_isHub_266 kl_111) <|
  Eq.trans (e_lcmp lin_X7_isHub n_X7_isHub_269 h1 (by decide)) <|
  Eq.trans (e_IfEqF lin_X7_isHub n_X7_isHub_270 (R_lcm _ _) (lcm_ne h17)) <|
  Eq.trans (e_ldL lin_X7_isHub n_X7_isHub_273 rfl) <|
  Eq.trans (e_KL lin_X7_isHub n_X7_isHub_274 kl_105) <|
  Eq.trans (e_lcmp lin_X7_isHub n_X7_isHub_277 h1 (by decide)) <|
  Eq.trans (e_IfEqF lin_X7_isHub n_X7_isHub_278 (R_lcm _ _) (lcm_ne h18)) <|
  Eq.trans (e_KI lin_X7_isHub n_X7_isHub_286 k_3) <|
  Eq.trans (e_putI lin_X7_isHub n_X7_isHub_287 rfl (s_574 hS) rfl (j := 22) rfl) <|
  Eq.trans (e_ldA lin_X7_isHub n_X7_isHub_290 rfl) <|
  Eq.trans (e_ldL lin_X7_isHub n_X7_isHub_291 rfl) <|
  Eq.trans (e_KL lin_X7_isHub n_X7_isHub_292 kl_111) <|
  Eq.trans (e_lcmp lin_X7_isHub n_X7_isHub_295 h1 (by decide)) <|
  Eq.trans (e_IfEqF lin_X7_isHub n_X7_isHub_296 (R_lcm _ _) (lcm_ne h17)) <|
  Eq.trans (e_ldL lin_X7_isHub n_X7_isHub_304 rfl) <|
  Eq.trans (e_KL lin_X7_isHub n_X7_isHub_305 kl_105) <|
  Eq.trans (e_lcmp lin_X7_isHub n_X7_isHub_308 h1 (by decide)) <|
  Eq.trans (e_IfEqF lin_X7_isHub n_X7_isHub_309 (R_lcm _ _) (lcm_ne h18)) <|
  Eq.trans (e_ldL lin_X7_isHub n_X7_isHub_317 rfl) <|
  Eq.trans (e_KL lin_X7_isHub n_X7_isHub_318 kl_29283) <|
  Eq.trans (e_lcmp lin_X7_isHub n_X7_isHub_321 h1 (by decide)) <|
  Eq.trans (e_IfEqF lin_X7_isHub n_X7_isHub_322 (R_lcm _ _) (lcm_ne h19)) <|
  Eq.trans (e_ldL lin_X7_isHub n_X7_isHub_331 rfl) <|
  Eq.trans (e_KL lin_X7_isHub n_X7_isHub_332 kl_29294) <|
  Eq.trans (e_lcmp lin_X7_isHub n_X7_isHub_335 h1 (by decide)) <|
  Eq.trans (e_IfEqF lin_X7_isHub n_X7_isHub_336 (R_lcm _ _) (lcm_ne h20)) <|
  Eq.trans (e_ldL lin_X7_isHub n_X7_isHub_345 rfl) <|
  Eq.trans (e_KL lin_X7_isHub n_X7_isHub_346 kl_29300) <|
  Eq.trans (e_lcmp lin_X7_isHub n_X7_isHub_349 h1 (by decide)) <|
  Eq.trans (e_IfEqF lin_X7_isHub n_X7_isHub_350 (R_lcm _ _) (lcm_ne h21)) <|
  Eq.trans (e_KI lin_X7_isHub n_X7_isHub_359 k_m1) <|
  Eq.trans (e_putI lin_X7_isHub n_X7_isHub_360 rfl (s_574 hS) rfl (j := 20) rfl) <|
  Eq.trans (e_ldA lin_X7_isHub n_X7_isHub_363 rfl) <|
  Eq.trans (e_getI lin_X7_isHub n_X7_isHub_364 (s_574 hS) rfl (j := 20) rfl (v := (-1)) rfl) <|
  Eq.trans (e_IfLtT lin_X7_isHub n_X7_isHub_367 (by decide) (by decide)) <|
  Eq.trans (e_ldA lin_X7_isHub n_X7_isHub_372 rfl) <|
  Eq.trans (e_KI lin_X7_isHub n_X7_isHub_373 k_1) <|
  Eq.trans (e_putI lin_X7_isHub n_X7_isHub_374 rfl (s_574 hS) rfl (j := 22) rfl) <|
  Eq.trans (e_ldA lin_X7_isHub n_X7_isHub_377 rfl) <|
  Eq.trans (e_ldL lin_X7_isHub n_X7_isHub_378 rfl) <|
  Eq.trans (e_KL lin_X7_isHub n_X7_isHub_379 kl_112) <|
  Eq.trans (e_lcmp lin_X7_isHub n_X7_isHub_382 h1 (by decide)) <|
  Eq.trans (e_IfEqF lin_X7_isHub n_X7_isHub_383 (R_lcm _ _) (lcm_ne h22)) <|
  Eq.trans (e_KI lin_X7_isHub n_X7_isHub_391 k_3) <|
  Eq.trans (e_putI lin_X7_isHub n_X7_isHub_392 rfl (s_574 hS) rfl (j := 21) rfl) <|
  Eq.trans (e_ldA lin_X7_isHub n_X7_isHub_395 rfl) <|
  Eq.trans (e_ldL lin_X7_isHub n_X7_isHub_396 rfl) <|
  Eq.trans (e_KL lin_X7_isHub n_X7_isHub_397 kl_112) <|
  Eq.trans (e_lcmp lin_X7_isHub n_X7_isHub_400 h1 (by decide)) <|
  Eq.trans (e_IfEqF lin_X7_isHub n_X7_isHub_401 (R_lcm _ _) (lcm_ne h22)) <|
  Eq.trans (e_ldL lin_X7_isHub n_X7_isHub_410 rfl) <|
  Eq.trans (e_KL lin_X7_isHub n_X7_isHub_411 kl_116) <|
  Eq.trans (e_lcmpE lin_X7_isHub n_X7_isHub_414 h23) <|
  Eq.trans (e_IfEqT lin_X7_isHub n_X7_isHub_415 (by decide) (by decide)) <|
  Eq.trans (e_KI lin_X7_isHub n_X7_isHub_418 k_65) <|
  Eq.trans (e_goto lin_X7_isHub n_X7_isHub_420) <|
  Eq.trans (e_putI lin_X7_isHub n_X7_isHub_438 rfl (s_574 hS) rfl (j := 20) rfl) <|
  Eq.trans (e_ldA lin_X7_isHub n_X7_isHub_441 rfl) <|
  Eq.trans (e_getI lin_X7_isHub n_X7_isHub_442 (s_574 hS) rfl (j := 20) rfl (v := 65) rfl) <|
  Eq.trans (e_IfLtF lin_X7_isHub n_X7_isHub_445 (by decide) (by decide)) <|
  Eq.trans (e_KI lin_X7_isHub n_X7_isHub_448 k_1) <|
  Eq.trans (e_goto lin_X7_isHub n_X7_isHub_449) <|
  e_retZ lin_X7_isHub n_X7_isHub_453 (by decide)
theorem c_X7_isHub_NNNNNNNNNNNNNNNNNNNNNNE {fi fl : HI} {cr : HR} {sh : HS} {nx sl d : Nat} {x1 : Int} (hS : Stat cr sh) (h1 : -9223372036854775808 ≤ x1 ∧ x1 < 9223372036854775808 := by omega) (h2 : x1 ≠ 99 := by omega) (h3 : x1 ≠ 97 := by omega) (h4 : x1 ≠ 120 := by omega) (h5 : x1 ≠ 113 := by omega) (h6 : x1 ≠ 101 := by omega) (h7 : x1 ≠ 109 := by omega) (h8 : x1 ≠ 1751215220 := by omega) (h9 : x1 ≠ 117 := by omega) (h10 : x1 ≠ 122 := by omega) (h11 : x1 ≠ 1886156147 := by omega) (h12 : x1 ≠ 469920281971 := by omega) (h13 : x1 ≠ 427020345714 := by omega) (h14 : x1 ≠ 115 := by omega) (h15 : x1 ≠ 27489 := by omega) (h16 : x1 ≠ 27490 := by omega) (h17 : x1 ≠ 111 := by omega) (h18 : x1 ≠ 105 := by omega) (h19 : x1 ≠ 29283 := by omega) (h20 : x1 ≠ 29294 := by omega) (h21 : x1 ≠ 29300 := by omega) (h22 : x1 ≠ 112 := by omega) (h23 : x1 ≠ 116 := by omega) (h24 : x1 = 98 := by omega) :
  CD mt (d + 1) 167 [.ref 574, lv x1] (G fi fl cr sh nx sl) = some (.returned (some (iv 1)), (G (up (up (up (up (up (up (up (up (up (up (up (up fi 574 22 1) 574 21 20) 574 20 (-1)) 574 21 1) 574 20 (-1)) 574 21 4) 574 20 (-1)) 574 22 3) 574 20 (-1)) 574 22 1) 574 21 3) 574 20 156) fl cr sh nx sl)) :=
  Eq.trans (CD_at (ls := [.ref 574, lv x1, nv]) _ _ mt_X7_isHub rfl rfl) <|
  Eq.trans (e_ldA lin_X7_isHub n_X7_isHub_0 rfl) <|
  Eq.trans (e_KI lin_X7_isHub n_X7_isHub_1 k_1) <|
  Eq.trans (e_putI lin_X7_isHub n_X7_isHub_2 rfl (s_574 hS) rfl (j := 22) rfl) <|
  Eq.trans (e_ldA lin_X7_isHub n_X7_isHub_5 rfl) <|
  Eq.trans (e_KI lin_X7_isHub n_X7_isHub_6 k_20) <|
  Eq.trans (e_putI lin_X7_isHub n_X7_isHub_8 rfl (s_574 hS) rfl (j := 21) rfl) <|
  Eq.trans (e_ldA lin_X7_isHub n_X7_isHub_11 rfl) <|
  Eq.trans (e_ldL lin_X7_isHub n_X7_isHub_12 rfl) <|
  Eq.trans (e_KL lin_X7_isHub n_X7_isHub_13 kl_99) <|
  Eq.trans (e_lcmp lin_X7_isHub n_X7_isHub_16 h1 (by decide)) <|
  Eq.trans (e_IfEqF lin_X7_isHub n_X7_isHub_17 (R_lcm _ _) (lcm_ne h2)) <|
  Eq.trans (e_ldL lin_X7_isHub n_X7_isHub_24 rfl) <|
  Eq.trans (e_KL lin_X7_isHub n_X7_isHub_25 kl_97) <|
  Eq.trans (e_lcmp lin_X7_isHub n_X7_isHub_28 h1 (by decide)) <|
  Eq.trans (e_IfEqF lin_X7_isHub n_X7_isHub_29 (R_lcm _ _) (lcm_ne h3)) <|
  Eq.trans (e_ldL lin_X7_isHub n_X7_isHub_37 rfl) <|
  Eq.trans (e_KL lin_X7_isHub n_X7_isHub_38 kl_120) <|
  Eq.trans (e_lcmp lin_X7_isHub n_X7_isHub_41 h1 (by decide)) <|
  Eq.trans (e_IfEqF lin_X7_isHub n_X7_isHub_42 (R_lcm _ _) (lcm_ne h4)) <|
  Eq.trans (e_ldL lin_X7_isHub n_X7_isHub_50 rfl) <|
  Eq.trans (e_KL lin_X7_isHub n_X7_isHub_51 kl_113) <|
  Eq.trans (e_lcmp lin_X7_isHub n_X7_isHub_54 h1 (by decide)) <|
  Eq.trans (e_IfEqF lin_X7_isHub n_X7_isHub_55 (R_lcm _ _) (lcm_ne h5)) <|
  Eq.trans (e_KI lin_X7_isHub n_X7_isHub_64 k_m1) <|
  Eq.trans (e_putI lin_X7_isHub n_X7_isHub_65 rfl (s_574 hS) rfl (j := 20) rfl) <|
  Eq.trans (e_ldA lin_X7_isHub n_X7_isHub_68 rfl) <|
  Eq.trans (e_getI lin_X7_isHub n_X7_isHub_69 (s_574 hS) rfl (j := 20) rfl (v := (-1)) rfl) <|
  Eq.trans (e_IfLtT lin_X7_isHub n_X7_isHub_72 (by decide) (by decide)) <|
  Eq.trans (e_ldA lin_X7_isHub n_X7_isHub_77 rfl) <|
  Eq.trans (e_KI lin_X7_isHub n_X7_isHub_78 k_1) <|
  Eq.trans (e_putI lin_X7_isHub n_X7_isHub_79 rfl (s_574 hS) rfl (j := 21) rfl) <|
  Eq.trans (e_ldA lin_X7_isHub n_X7_isHub_82 rfl) <|
  Eq.trans (e_ldL lin_X7_isHub n_X7_isHub_83 rfl) <|
  Eq.trans (e_KL lin_X7_isHub n_X7_isHub_84 kl_101) <|
  Eq.trans (e_lcmp lin_X7_isHub n_X7_isHub_87 h1 (by decide)) <|
  Eq.trans (e_IfEqF lin_X7_isHub n_X7_isHub_88 (R_lcm _ _) (lcm_ne h6)) <|
  Eq.trans (e_ldL lin_X7_isHub n_X7_isHub_96 rfl) <|
  Eq.trans (e_KL lin_X7_isHub n_X7_isHub_97 kl_109) <|
  Eq.trans (e_lcmp lin_X7_isHub n_X7_isHub_100 h1 (by decide)) <|
  Eq.trans (e_IfEqF lin_X7_isHub n_X7_isHub_101 (R_lcm _ _) (lcm_ne h7)) <|
  Eq.trans (e_ldL lin_X7_isHub n_X7_isHub_110 rfl) <|
  Eq.trans (e_KL lin_X7_isHub n_X7_isHub_111 kl_1751215220) <|
  Eq.trans (e_lcmp lin_X7_isHub n_X7_isHub_114 h1 (by decide)) <|
  Eq.trans (e_IfEqF lin_X7_isHub n_X7_isHub_115 (R_lcm _ _) (lcm_ne h8)) <|
  Eq.trans (e_KI lin_X7_isHub n_X7_isHub_124 k_m1) <|
  Eq.trans (e_putI lin_X7_isHub n_X7_isHub_125 rfl (s_574 hS) rfl (j := 20) rfl) <|
  Eq.trans (e_ldA lin_X7_isHub n_X7_isHub_128 rfl) <|
  Eq.trans (e_getI lin_X7_isHub n_X7_isHub_129 (s_574 hS) rfl (j := 20) rfl (v := (-1)) rfl) <|
  Eq.trans (e_IfLtT lin_X7_isHub n_X7_isHub_132 (by decide) (by decide)) <|
  Eq.trans (e_ldA lin_X7_isHub n_X7_isHub_137 rfl) <|
  Eq.trans (e_KI lin_X7_isHub n_X7_isHub_138 k_4) <|
  Eq.trans (e_putI lin_X7_isHub n_X7_isHub_139 rfl (s_574 hS) rfl (j := 21) rfl) <|
  Eq.trans (e_ldA lin_X7_isHub n_X7_isHub_142 rfl) <|
  Eq.trans (e_ldL lin_X7_isHub n_X7_isHub_143 rfl) <|
  Eq.trans (e_KL lin_X7_isHub n_X7_isHub_144 kl_117) <|
  Eq.trans (e_lcmp lin_X7_isHub n_X7_isHub_147 h1 (by decide)) <|
  Eq.trans (e_IfEqF lin_X7_isHub n_X7_isHub_148 (R_lcm _ _) (lcm_ne h9)) <|
  Eq.trans (e_ldL lin_X7_isHub n_X7_isHub_156 rfl) <|
  Eq.trans (e_KL lin_X7_isHub n_X7_isHub_157 kl_122) <|
  Eq.trans (e_lcmp lin_X7_isHub n_X7_isHub_160 h1 (by decide)) <|
  Eq.trans (e_IfEqF lin_X7_isHub n_X7_isHub_161 (R_lcm _ _) (lcm_ne h10)) <|
  Eq.trans (e_ldL lin_X7_isHub n_X7_isHub_169 rfl) <|
  Eq.trans (e_KL lin_X7_isHub n_X7_isHub_170 kl_1886156147) <|
  Eq.trans (e_lcmp lin_X7_isHub n_X7_isHub_173 h1 (by decide)) <|
  Eq.trans (e_IfEqF lin_X7_isHub n_X7_isHub_174 (R_lcm _ _) (lcm_ne h11)) <|
  Eq.trans (e_ldL lin_X7_isHub n_X7_isHub_182 rfl) <|
  Eq.trans (e_KL lin_X7_isHub n_X7_isHub_183 kl_469920281971) <|
  Eq.trans (e_lcmp lin_X7_isHub n_X7_isHub_186 h1 (by decide)) <|
  Eq.trans (e_IfEqF lin_X7_isHub n_X7_isHub_187 (R_lcm _ _) (lcm_ne h12)) <|
  Eq.trans (e_ldL lin_X7_isHub n_X7_isHub_195 rfl) <|
  Eq.trans (e_KL lin_X7_isHub n_X7_isHub_196 kl_427020345714) <|
  Eq.trans (e_lcmp lin_X7_isHub n_X7_isHub_199 h1 (by decide)) <|
  Eq.trans (e_IfEqF lin_X7_isHub n_X7_isHub_200 (R_lcm _ _) (lcm_ne h13)) <|
  Eq.trans (e_ldL lin_X7_isHub n_X7_isHub_209 rfl) <|
  Eq.trans (e_KL lin_X7_isHub n_X7_isHub_210 kl_115) <|
  Eq.trans (e_lcmp lin_X7_isHub n_X7_isHub_213 h1 (by decide)) <|
  Eq.trans (e_IfEqF lin_X7_isHub n_X7_isHub_214 (R_lcm _ _) (lcm_ne h14)) <|
  Eq.trans (e_ldL lin_X7_isHub n_X7_isHub_223 rfl) <|
  Eq.trans (e_KL lin_X7_isHub n_X7_isHub_224 kl_27489) <|
  Eq.trans (e_lcmp lin_X7_isHub n_X7_isHub_227 h1 (by decide)) <|
  Eq.trans (e_IfEqF lin_X7_isHub n_X7_isHub_228 (R_lcm _ _) (lcm_ne h15)) <|
  Eq.trans (e_ldL lin_X7_isHub n_X7_isHub_237 rfl) <|
  Eq.trans (e_KL lin_X7_isHub n_X7_isHub_238 kl_27490) <|
  Eq.trans (e_lcmp lin_X7_isHub n_X7_isHub_241 h1 (by decide)) <|
  Eq.trans (e_IfEqF lin_X7_isHub n_X7_isHub_242 (R_lcm _ _) (lcm_ne h16)) <|
  Eq.trans (e_KI lin_X7_isHub n_X7_isHub_251 k_m1) <|
  Eq.trans (e_putI lin_X7_isHub n_X7_isHub_252 rfl (s_574 hS) rfl (j := 20) rfl) <|
  Eq.trans (e_ldA lin_X7_isHub n_X7_isHub_255 rfl) <|
  Eq.trans (e_getI lin_X7_isHub n_X7_isHub_256 (s_574 hS) rfl (j := 20) rfl (v := (-1)) rfl) <|
  Eq.trans (e_IfLtT lin_X7_isHub n_X7_isHub_259 (by decide) (by decide)) <|
  Eq.trans (e_ldA lin_X7_isHub n_X7_isHub_264 rfl) <|
  Eq.trans (e_ldL lin_X7_isHub n_X7_isHub_265 rfl) <|
  Eq.trans (e_KL lin_X7_isHub n_X7_isHub_266 kl_111) <|
  Eq.trans (e_lcmp lin_X7_isHub n_X7_isHub_269 h1 (by decide)) <|
  Eq.trans (e_IfEqF lin_X7_isHub n_X7_isHub_270 (R_lcm _ _) (lcm_ne h17)) <|
  Eq.trans (e_ldL lin_X7_isHub n_X7_isHub_273 rfl) <|
  Eq.trans (e_KL lin_X7_isHub n_X7_isHub_274 kl_105) <|
  Eq.trans (e_lcmp lin_X7_isHub n_X7_isHub_277 h1 (by decide)) <|
  Eq.trans (e_IfEqF lin_X7_isHub n_X7_isHub_278 (R_lcm _ _) (lcm_ne h18)) <|
  Eq.trans (e_KI lin_X7_isHub n_X7_isHub_286 k_3) <|
  Eq.trans (e_putI lin_X7_isHub n_X7_isHub_287 rfl (s_574 hS) rfl (j := 22) rfl) <|
  Eq.trans (e_ldA lin_X7_isHub n_X7_isHub_290 rfl) <|
  Eq.trans (e_ldL lin_X7_isHub n_X7_isHub_291 rfl) <|
  Eq.trans (e_KL lin_X7_isHub n_X7_isHub_292 kl_111) <|
  Eq.trans (e_lcmp lin_X7_isHub n_X7_isHub_295 h1 (by decide)) <|
  Eq.trans (e_IfEqF lin_X7_isHub n_X7_isHub_296 (R_lcm _ _) (lcm_ne h17)) <|
  Eq.trans (e_ldL lin_X7_isHub n_X7_isHub_304 rfl) <|
  Eq.trans (e_KL lin_X7_isHub n_X7_isHub_305 kl_105) <|
  Eq.trans (e_lcmp lin_X7_isHub n_X7_isHub_308 h1 (by decide)) <|
  Eq.trans (e_IfEqF lin_X7_isHub n_X7_isHub_309 (R_lcm _ _) (lcm_ne h18)) <|
  Eq.trans (e_ldL lin_X7_isHub n_X7_isHub_317 rfl) <|
  Eq.trans (e_KL lin_X7_isHub n_X7_isHub_318 kl_29283) <|
  Eq.trans (e_lcmp lin_X7_isHub n_X7_isHub_321 h1 (by decide)) <|
  Eq.trans (e_IfEqF lin_X7_isHub n_X7_isHub_322 (R_lcm _ _) (lcm_ne h19)) <|
  Eq.trans (e_ldL lin_X7_isHub n_X7_isHub_331 rfl) <|
  Eq.trans (e_KL lin_X7_isHub n_X7_isHub_332 kl_29294) <|
  Eq.trans (e_lcmp lin_X7_isHub n_X7_isHub_335 h1 (by decide)) <|
  Eq.trans (e_IfEqF lin_X7_isHub n_X7_isHub_336 (R_lcm _ _) (lcm_ne h20)) <|
  Eq.trans (e_ldL lin_X7_isHub n_X7_isHub_345 rfl) <|
  Eq.trans (e_KL lin_X7_isHub n_X7_isHub_346 kl_29300) <|
  Eq.trans (e_lcmp lin_X7_isHub n_X7_isHub_349 h1 (by decide)) <|
  Eq.trans (e_IfEqF lin_X7_isHub n_X7_isHub_350 (R_lcm _ _) (lcm_ne h21)) <|
  Eq.trans (e_KI lin_X7_isHub n_X7_isHub_359 k_m1) <|
  Eq.trans (e_putI lin_X7_isHub n_X7_isHub_360 rfl (s_574 hS) rfl (j := 20) rfl) <|
  Eq.trans (e_ldA lin_X7_isHub n_X7_isHub_363 rfl) <|
  Eq.trans (e_getI lin_X7_isHub n_X7_isHub_364 (s_574 hS) rfl (j := 20) rfl (v := (-1)) rfl) <|
  Eq.trans (e_IfLtT lin_X7_isHub n_X7_isHub_367 (by decide) (by decide)) <|
  Eq.trans (e_ldA lin_X7_isHub n_X7_isHub_372 rfl) <|
  Eq.trans (e_KI lin_X7_isHub n_X7_isHub_373 k_1) <|
  Eq.trans (e_putI lin_X7_isHub n_X7_isHub_374 rfl (s_574 hS) rfl (j := 22) rfl) <|
  Eq.trans (e_ldA lin_X7_isHub n_X7_isHub_377 rfl) <|
  Eq.trans (e_ldL lin_X7_isHub n_X7_isHub_378 rfl) <|
  Eq.trans (e_KL lin_X7_isHub n_X7_isHub_379 kl_112) <|
  Eq.trans (e_lcmp lin_X7_isHub n_X7_isHub_382 h1 (by decide)) <|
  Eq.trans (e_IfEqF lin_X7_isHub n_X7_isHub_383 (R_lcm _ _) (lcm_ne h22)) <|
  Eq.trans (e_KI lin_X7_isHub n_X7_isHub_391 k_3) <|
  Eq.trans (e_putI lin_X7_isHub n_X7_isHub_392 rfl (s_574 hS) rfl (j := 21) rfl) <|
  Eq.trans (e_ldA lin_X7_isHub n_X7_isHub_395 rfl) <|
  Eq.trans (e_ldL lin_X7_isHub n_X7_isHub_396 rfl) <|
  Eq.trans (e_KL lin_X7_isHub n_X7_isHub_397 kl_112) <|
  Eq.trans (e_lcmp lin_X7_isHub n_X7_isHub_400 h1 (by decide)) <|
  Eq.trans (e_IfEqF lin_X7_isHub n_X7_isHub_401 (R_lcm _ _) (lcm_ne h22)) <|
  Eq.trans (e_ldL lin_X7_isHub n_X7_isHub_410 rfl) <|
  Eq.trans (e_KL lin_X7_isHub n_X7_isHub_411 kl_116) <|
  Eq.trans (e_lcmp lin_X7_isHub n_X7_isHub_414 h1 (by decide)) <|
  Eq.trans (e_IfEqF lin_X7_isHub n_X7_isHub_415 (R_lcm _ _) (lcm_ne h23)) <|
  Eq.trans (e_ldL lin_X7_isHub n_X7_isHub_423 rfl) <|
  Eq.trans (e_KL lin_X7_isHub n_X7_isHub_424 kl_98) <|
  Eq.trans (e_lcmpE lin_X7_isHub n_X7_isHub_427 h24) <|
  Eq.trans (e_IfEqT lin_X7_isHub n_X7_isHub_428 (by decide) (by decide)) <|
  Eq.trans (e_KI lin_X7_isHub n_X7_isHub_431 k_156) <|
  Eq.trans (e_goto lin_X7_isHub n_X7_isHub_434) <|
  Eq.trans (e_putI lin_X7_isHub n_X7_isHub_438 rfl (s_574 hS) rfl (j := 20) rfl) <|
  Eq.trans (e_ldA lin_X7_isHub n_X7_isHub_441 rfl) <|
  Eq.trans (e_getI lin_X7_isHub n_X7_isHub_442 (s_574 hS) rfl (j := 20) rfl (v := 156) rfl) <|
  Eq.trans (e_IfLtF lin_X7_isHub n_X7_isHub_445 (by decide) (by decide)) <|
  Eq.trans (e_KI lin_X7_isHub n_X7_isHub_448 k_1) <|
  Eq.trans (e_goto lin_X7_isHub n_X7_isHub_449) <|
  e_retZ lin_X7_isHub n_X7_isHub_453 (by decide)
theorem c_X7_isHub_NNNNNNNNNNNNNNNNNNNNNNN {fi fl : HI} {cr : HR} {sh : HS} {nx sl d : Nat} {x1 : Int} (hS : Stat cr sh) (h1 : -9223372036854775808 ≤ x1 ∧ x1 < 9223372036854775808 := by omega) (h2 : x1 ≠ 99 := by omega) (h3 : x1 ≠ 97 := by omega) (h4 : x1 ≠ 120 := by omega) (h5 : x1 ≠ 113 := by omega) (h6 : x1 ≠ 101 := by omega) (h7 : x1 ≠ 109 := by omega) (h8 : x1 ≠ 1751215220 := by omega) (h9 : x1 ≠ 117 := by omega) (h10 : x1 ≠ 122 := by omega) (h11 : x1 ≠ 1886156147 := by omega) (h12 : x1 ≠ 469920281971 := by omega) (h13 : x1 ≠ 427020345714 := by omega) (h14 : x1 ≠ 115 := by omega) (h15 : x1 ≠ 27489 := by omega) (h16 : x1 ≠ 27490 := by omega) (h17 : x1 ≠ 111 := by omega) (h18 : x1 ≠ 105 := by omega) (h19 : x1 ≠ 29283 := by omega) (h20 : x1 ≠ 29294 := by omega) (h21 : x1 ≠ 29300 := by omega) (h22 : x1 ≠ 112 := by omega) (h23 : x1 ≠ 116 := by omega) (h24 : x1 ≠ 98 := by omega) :
  CD mt (d + 1) 167 [.ref 574, lv x1] (G fi fl cr sh nx sl) = some (.returned (some (iv 0)), (G (up (up (up (up (up (up (up (up (up (up (up (up fi 574 22 1) 574 21 20) 574 20 (-1)) 574 21 1) 574 20 (-1)) 574 21 4) 574 20 (-1)) 574 22 3) 574 20 (-1)) 574 22 1) 574 21 3) 574 20 (-1)) fl cr sh nx sl)) :=
  Eq.trans (CD_at (ls := [.ref 574, lv x1, nv]) _ _ mt_X7_isHub rfl rfl) <|
  Eq.trans (e_ldA lin_X7_isHub n_X7_isHub_0 rfl) <|
  Eq.trans (e_KI lin_X7_isHub n_X7_isHub_1 k_1) <|
  Eq.trans (e_putI lin_X7_isHub n_X7_isHub_2 rfl (s_574 hS) rfl (j := 22) rfl) <|
  Eq.trans (e_ldA lin_X7_isHub n_X7_isHub_5 rfl) <|
  Eq.trans (e_KI lin_X7_isHub n_X7_isHub_6 k_20) <|
  Eq.trans (e_putI lin_X7_isHub n_X7_isHub_8 rfl (s_574 hS) rfl (j := 21) rfl) <|
  Eq.trans (e_ldA lin_X7_isHub n_X7_isHub_11 rfl) <|
  Eq.trans (e_ldL lin_X7_isHub n_X7_isHub_12 rfl) <|
  Eq.trans (e_KL lin_X7_isHub n_X7_isHub_13 kl_99) <|
  Eq.trans (e_lcmp lin_X7_isHub n_X7_isHub_16 h1 (by decide)) <|
  Eq.trans (e_IfEqF lin_X7_isHub n_X7_isHub_17 (R_lcm _ _) (lcm_ne h2)) <|
  Eq.trans (e_ldL lin_X7_isHub n_X7_isHub_24 rfl) <|
  Eq.trans (e_KL lin_X7_isHub n_X7_isHub_25 kl_97) <|
  Eq.trans (e_lcmp lin_X7_isHub n_X7_isHub_28 h1 (by decide)) <|
  Eq.trans (e_IfEqF lin_X7_isHub n_X7_isHub_29 (R_lcm _ _) (lcm_ne h3)) <|
  Eq.trans (e_ldL lin_X7_isHub n_X7_isHub_37 rfl) <|
  Eq.trans (e_KL lin_X7_isHub n_X7_isHub_38 kl_120) <|
  Eq.trans (e_lcmp lin_X7_isHub n_X7_isHub_41 h1 (by decide)) <|
  Eq.trans (e_IfEqF lin_X7_isHub n_X7_isHub_42 (R_lcm _ _) (lcm_ne h4)) <|
  Eq.trans (e_ldL lin_X7_isHub n_X7_isHub_50 rfl) <|
  Eq.trans (e_KL lin_X7_isHub n_X7_isHub_51 kl_113) <|
  Eq.trans (e_lcmp lin_X7_isHub n_X7_isHub_54 h1 (by decide)) <|
  Eq.trans (e_IfEqF lin_X7_isHub n_X7_isHub_55 (R_lcm _ _) (lcm_ne h5)) <|
  Eq.trans (e_KI lin_X7_isHub n_X7_isHub_64 k_m1) <|
  Eq.trans (e_putI lin_X7_isHub n_X7_isHub_65 rfl (s_574 hS) rfl (j := 20) rfl) <|
  Eq.trans (e_ldA lin_X7_isHub n_X7_isHub_68 rfl) <|
  Eq.trans (e_getI lin_X7_isHub n_X7_isHub_69 (s_574 hS) rfl (j := 20) rfl (v := (-1)) rfl) <|
  Eq.trans (e_IfLtT lin_X7_isHub n_X7_isHub_72 (by decide) (by decide)) <|
  Eq.trans (e_ldA lin_X7_isHub n_X7_isHub_77 rfl) <|
  Eq.trans (e_KI lin_X7_isHub n_X7_isHub_78 k_1) <|
  Eq.trans (e_putI lin_X7_isHub n_X7_isHub_79 rfl (s_574 hS) rfl (j := 21) rfl) <|
  Eq.trans (e_ldA lin_X7_isHub n_X7_isHub_82 rfl) <|
  Eq.trans (e_ldL lin_X7_isHub n_X7_isHub_83 rfl) <|
  Eq.trans (e_KL lin_X7_isHub n_X7_isHub_84 kl_101) <|
  Eq.trans (e_lcmp lin_X7_isHub n_X7_isHub_87 h1 (by decide)) <|
  Eq.trans (e_IfEqF lin_X7_isHub n_X7_isHub_88 (R_lcm _ _) (lcm_ne h6)) <|
  Eq.trans (e_ldL lin_X7_isHub n_X7_isHub_96 rfl) <|
  Eq.trans (e_KL lin_X7_isHub n_X7_isHub_97 kl_109) <|
  Eq.trans (e_lcmp lin_X7_isHub n_X7_isHub_100 h1 (by decide)) <|
  Eq.trans (e_IfEqF lin_X7_isHub n_X7_isHub_101 (R_lcm _ _) (lcm_ne h7)) <|
  Eq.trans (e_ldL lin_X7_isHub n_X7_isHub_110 rfl) <|
  Eq.trans (e_KL lin_X7_isHub n_X7_isHub_111 kl_1751215220) <|
  Eq.trans (e_lcmp lin_X7_isHub n_X7_isHub_114 h1 (by decide)) <|
  Eq.trans (e_IfEqF lin_X7_isHub n_X7_isHub_115 (R_lcm _ _) (lcm_ne h8)) <|
  Eq.trans (e_KI lin_X7_isHub n_X7_isHub_124 k_m1) <|
  Eq.trans (e_putI lin_X7_isHub n_X7_isHub_125 rfl (s_574 hS) rfl (j := 20) rfl) <|
  Eq.trans (e_ldA lin_X7_isHub n_X7_isHub_128 rfl) <|
  Eq.trans (e_getI lin_X7_isHub n_X7_isHub_129 (s_574 hS) rfl (j := 20) rfl (v := (-1)) rfl) <|
  Eq.trans (e_IfLtT lin_X7_isHub n_X7_isHub_132 (by decide) (by decide)) <|
  Eq.trans (e_ldA lin_X7_isHub n_X7_isHub_137 rfl) <|
  Eq.trans (e_KI lin_X7_isHub n_X7_isHub_138 k_4) <|
  Eq.trans (e_putI lin_X7_isHub n_X7_isHub_139 rfl (s_574 hS) rfl (j := 21) rfl) <|
  Eq.trans (e_ldA lin_X7_isHub n_X7_isHub_142 rfl) <|
  Eq.trans (e_ldL lin_X7_isHub n_X7_isHub_143 rfl) <|
  Eq.trans (e_KL lin_X7_isHub n_X7_isHub_144 kl_117) <|
  Eq.trans (e_lcmp lin_X7_isHub n_X7_isHub_147 h1 (by decide)) <|
  Eq.trans (e_IfEqF lin_X7_isHub n_X7_isHub_148 (R_lcm _ _) (lcm_ne h9)) <|
  Eq.trans (e_ldL lin_X7_isHub n_X7_isHub_156 rfl) <|
  Eq.trans (e_KL lin_X7_isHub n_X7_isHub_157 kl_122) <|
  Eq.trans (e_lcmp lin_X7_isHub n_X7_isHub_160 h1 (by decide)) <|
  Eq.trans (e_IfEqF lin_X7_isHub n_X7_isHub_161 (R_lcm _ _) (lcm_ne h10)) <|
  Eq.trans (e_ldL lin_X7_isHub n_X7_isHub_169 rfl) <|
  Eq.trans (e_KL lin_X7_isHub n_X7_isHub_170 kl_1886156147) <|
  Eq.trans (e_lcmp lin_X7_isHub n_X7_isHub_173 h1 (by decide)) <|
  Eq.trans (e_IfEqF lin_X7_isHub n_X7_isHub_174 (R_lcm _ _) (lcm_ne h11)) <|
  Eq.trans (e_ldL lin_X7_isHub n_X7_isHub_182 rfl) <|
  Eq.trans (e_KL lin_X7_isHub n_X7_isHub_183 kl_469920281971) <|
  Eq.trans (e_lcmp lin_X7_isHub n_X7_isHub_186 h1 (by decide)) <|
  Eq.trans (e_IfEqF lin_X7_isHub n_X7_isHub_187 (R_lcm _ _) (lcm_ne h12)) <|
  Eq.trans (e_ldL lin_X7_isHub n_X7_isHub_195 rfl) <|
  Eq.trans (e_KL lin_X7_isHub n_X7_isHub_196 kl_427020345714) <|
  Eq.trans (e_lcmp lin_X7_isHub n_X7_isHub_199 h1 (by decide)) <|
  Eq.trans (e_IfEqF lin_X7_isHub n_X7_isHub_200 (R_lcm _ _) (lcm_ne h13)) <|
  Eq.trans (e_ldL lin_X7_isHub n_X7_isHub_209 rfl) <|
  Eq.trans (e_KL lin_X7_isHub n_X7_isHub_210 kl_115) <|
  Eq.trans (e_lcmp lin_X7_isHub n_X7_isHub_213 h1 (by decide)) <|
  Eq.trans (e_IfEqF lin_X7_isHub n_X7_isHub_214 (R_lcm _ _) (lcm_ne h14)) <|
  Eq.trans (e_ldL lin_X7_isHub n_X7_isHub_223 rfl) <|
  Eq.trans (e_KL lin_X7_isHub n_X7_isHub_224 kl_27489) <|
  Eq.trans (e_lcmp lin_X7_isHub n_X7_isHub_227 h1 (by decide)) <|
  Eq.trans (e_IfEqF lin_X7_isHub n_X7_isHub_228 (R_lcm _ _) (lcm_ne h15)) <|
  Eq.trans (e_ldL lin_X7_isHub n_X7_isHub_237 rfl) <|
  Eq.trans (e_KL lin_X7_isHub n_X7_isHub_238 kl_27490) <|
  Eq.trans (e_lcmp lin_X7_isHub n_X7_isHub_241 h1 (by decide)) <|
  Eq.trans (e_IfEqF lin_X7_isHub n_X7_isHub_242 (R_lcm _ _) (lcm_ne h16)) <|
  Eq.trans (e_KI lin_X7_isHub n_X7_isHub_251 k_m1) <|
  Eq.trans (e_putI lin_X7_isHub n_X7_isHub_252 rfl (s_574 hS) rfl (j := 20) rfl) <|
  Eq.trans (e_ldA lin_X7_isHub n_X7_isHub_255 rfl) <|
  Eq.trans (e_getI lin_X7_isHub n_X7_isHub_256 (s_574 hS) rfl (j := 20) rfl (v := (-1)) rfl) <|
  Eq.trans (e_IfLtT lin_X7_isHub n_X7_isHub_259 (by decide) (by decide)) <|
  Eq.trans (e_ldA lin_X7_isHub n_X7_isHub_264 rfl) <|
  Eq.trans (e_ldL lin_X7_isHub n_X7_isHub_265 rfl) <|
  Eq.trans (e_KL lin_X7_isHub n_X7_isHub_266 kl_111) <|
  Eq.trans (e_lcmp lin_X7_isHub n_X7_isHub_269 h1 (by decide)) <|
  Eq.trans (e_IfEqF lin_X7_isHub n_X7_isHub_270 (R_lcm _ _) (lcm_ne h17)) <|
  Eq.trans (e_ldL lin_X7_isHub n_X7_isHub_273 rfl) <|
  Eq.trans (e_KL lin_X7_isHub n_X7_isHub_274 kl_105) <|
  Eq.trans (e_lcmp lin_X7_isHub n_X7_isHub_277 h1 (by decide)) <|
  Eq.trans (e_IfEqF lin_X7_isHub n_X7_isHub_278 (R_lcm _ _) (lcm_ne h18)) <|
  Eq.trans (e_KI lin_X7_isHub n_X7_isHub_286 k_3) <|
  Eq.trans (e_putI lin_X7_isHub n_X7_isHub_287 rfl (s_574 hS) rfl (j := 22) rfl) <|
  Eq.trans (e_ldA lin_X7_isHub n_X7_isHub_290 rfl) <|
  Eq.trans (e_ldL lin_X7_isHub n_X7_isHub_291 rfl) <|
  Eq.trans (e_KL lin_X7_isHub n_X7_isHub_292 kl_111) <|
  Eq.trans (e_lcmp lin_X7_isHub n_X7_isHub_295 h1 (by decide)) <|
  Eq.trans (e_IfEqF lin_X7_isHub n_X7_isHub_296 (R_lcm _ _) (lcm_ne h17)) <|
  Eq.trans (e_ldL lin_X7_isHub n_X7_isHub_304 rfl) <|
  Eq.trans (e_KL lin_X7_isHub n_X7_isHub_305 kl_105) <|
  Eq.trans (e_lcmp lin_X7_isHub n_X7_isHub_308 h1 (by decide)) <|
  Eq.trans (e_IfEqF lin_X7_isHub n_X7_isHub_309 (R_lcm _ _) (lcm_ne h18)) <|
  Eq.trans (e_ldL lin_X7_isHub n_X7_isHub_317 rfl) <|
  Eq.trans (e_KL lin_X7_isHub n_X7_isHub_318 kl_29283) <|
  Eq.trans (e_lcmp lin_X7_isHub n_X7_isHub_321 h1 (by decide)) <|
  Eq.trans (e_IfEqF lin_X7_isHub n_X7_isHub_322 (R_lcm _ _) (lcm_ne h19)) <|
  Eq.trans (e_ldL lin_X7_isHub n_X7_isHub_331 rfl) <|
  Eq.trans (e_KL lin_X7_isHub n_X7_isHub_332 kl_29294) <|
  Eq.trans (e_lcmp lin_X7_isHub n_X7_isHub_335 h1 (by decide)) <|
  Eq.trans (e_IfEqF lin_X7_isHub n_X7_isHub_336 (R_lcm _ _) (lcm_ne h20)) <|
  Eq.trans (e_ldL lin_X7_isHub n_X7_isHub_345 rfl) <|
  Eq.trans (e_KL lin_X7_isHub n_X7_isHub_346 kl_29300) <|
  Eq.trans (e_lcmp lin_X7_isHub n_X7_isHub_349 h1 (by decide)) <|
  Eq.trans (e_IfEqF lin_X7_isHub n_X7_isHub_350 (R_lcm _ _) (lcm_ne h21)) <|
  Eq.trans (e_KI lin_X7_isHub n_X7_isHub_359 k_m1) <|
  Eq.trans (e_putI lin_X7_isHub n_X7_isHub_360 rfl (s_574 hS) rfl (j := 20) rfl) <|
  Eq.trans (e_ldA lin_X7_isHub n_X7_isHub_363 rfl) <|
  Eq.trans (e_getI lin_X7_isHub n_X7_isHub_364 (s_574 hS) rfl (j := 20) rfl (v := (-1)) rfl) <|
  Eq.trans (e_IfLtT lin_X7_isHub n_X7_isHub_367 (by decide) (by decide)) <|
  Eq.trans (e_ldA lin_X7_isHub n_X7_isHub_372 rfl) <|
  Eq.trans (e_KI lin_X7_isHub n_X7_isHub_373 k_1) <|
  Eq.trans (e_putI lin_X7_isHub n_X7_isHub_374 rfl (s_574 hS) rfl (j := 22) rfl) <|
  Eq.trans (e_ldA lin_X7_isHub n_X7_isHub_377 rfl) <|
  Eq.trans (e_ldL lin_X7_isHub n_X7_isHub_378 rfl) <|
  Eq.trans (e_KL lin_X7_isHub n_X7_isHub_379 kl_112) <|
  Eq.trans (e_lcmp lin_X7_isHub n_X7_isHub_382 h1 (by decide)) <|
  Eq.trans (e_IfEqF lin_X7_isHub n_X7_isHub_383 (R_lcm _ _) (lcm_ne h22)) <|
  Eq.trans (e_KI lin_X7_isHub n_X7_isHub_391 k_3) <|
  Eq.trans (e_putI lin_X7_isHub n_X7_isHub_392 rfl (s_574 hS) rfl (j := 21) rfl) <|
  Eq.trans (e_ldA lin_X7_isHub n_X7_isHub_395 rfl) <|
  Eq.trans (e_ldL lin_X7_isHub n_X7_isHub_396 rfl) <|
  Eq.trans (e_KL lin_X7_isHub n_X7_isHub_397 kl_112) <|
  Eq.trans (e_lcmp lin_X7_isHub n_X7_isHub_400 h1 (by decide)) <|
  Eq.trans (e_IfEqF lin_X7_isHub n_X7_isHub_401 (R_lcm _ _) (lcm_ne h22)) <|
  Eq.trans (e_ldL lin_X7_isHub n_X7_isHub_410 rfl) <|
  Eq.trans (e_KL lin_X7_isHub n_X7_isHub_411 kl_116) <|
  Eq.trans (e_lcmp lin_X7_isHub n_X7_isHub_414 h1 (by decide)) <|
  Eq.trans (e_IfEqF lin_X7_isHub n_X7_isHub_415 (R_lcm _ _) (lcm_ne h23)) <|
  Eq.trans (e_ldL lin_X7_isHub n_X7_isHub_423 rfl) <|
  Eq.trans (e_KL lin_X7_isHub n_X7_isHub_424 kl_98) <|
  Eq.trans (e_lcmp lin_X7_isHub n_X7_isHub_427 h1 (by decide)) <|
  Eq.trans (e_IfEqF lin_X7_isHub n_X7_isHub_428 (R_lcm _ _) (lcm_ne h24)) <|
  Eq.trans (e_KI lin_X7_isHub n_X7_isHub_437 k_m1) <|
  Eq.trans (e_putI lin_X7_isHub n_X7_isHub_438 rfl (s_574 hS) rfl (j := 20) rfl) <|
  Eq.trans (e_ldA lin_X7_isHub n_X7_isHub_441 rfl) <|
  Eq.trans (e_getI lin_X7_isHub n_X7_isHub_442 (s_574 hS) rfl (j := 20) rfl (v := (-1)) rfl) <|
  Eq.trans (e_IfLtT lin_X7_isHub n_X7_isHub_445 (by decide) (by decide)) <|
  Eq.trans (e_KI lin_X7_isHub n_X7_isHub_452 k_0) <|
  e_retZ lin_X7_isHub n_X7_isHub_453 (by decide)
theorem c_X7_bad {fi fl : HI} {cr : HR} {sh : HS} {nx sl d : Nat} {x1 x2 : Int} (hS : Stat cr sh) :
  CD mt (d + 1) 168 [.ref 574, iv x1, iv x2] (G fi fl cr sh nx sl) = some (.returned (some (iv 0)), (G (up (up fi 574 10 x1) 574 11 x2) fl cr sh nx sl)) :=
  Eq.trans (CD_at (ls := [.ref 574, iv x1, iv x2]) _ _ mt_X7_bad rfl rfl) <|
  Eq.trans (e_ldA lin_X7_bad n_X7_bad_0 rfl) <|
  Eq.trans (e_ldI lin_X7_bad n_X7_bad_1 rfl) <|
  Eq.trans (e_putI lin_X7_bad n_X7_bad_2 rfl (s_574 hS) rfl (j := 10) rfl) <|
  Eq.trans (e_ldA lin_X7_bad n_X7_bad_5 rfl) <|
  Eq.trans (e_ldI lin_X7_bad n_X7_bad_6 rfl) <|
  Eq.trans (e_putI lin_X7_bad n_X7_bad_7 rfl (s_574 hS) rfl (j := 11) rfl) <|
  Eq.trans (e_KI lin_X7_bad n_X7_bad_10 k_0) <|
  e_retZ lin_X7_bad n_X7_bad_11 (by decide)
theorem c_X7_most_T {fi fl : HI} {cr : HR} {sh : HS} {nx sl d : Nat} {x0 : Int} (h1 : -2147483648 ≤ x0 ∧ x0 < 2147483648 := by omega) (h2 : 96 ≤ x0 ∧ x0 ≤ 180 := by omega) :
  CD mt (d + 3) 172 [iv x0] (G fi fl cr sh nx sl) = some (.returned (some (iv 1)), (G fi fl cr sh nx sl)) :=
  Eq.trans (CD_at (ls := [iv x0]) _ _ mt_X7_most rfl rfl) <|
  Eq.trans (e_ldI lin_X7_most n_X7_most_0 rfl) <|
  Eq.trans (e_calS lin_X7_most n_X7_most_1 rfl rfl (b_X7_takesOnly_T h1 h2)) <|
  Eq.trans (e_IfEqF lin_X7_most n_X7_most_4 (by decide) (by decide)) <|
  Eq.trans (e_KI lin_X7_most n_X7_most_7 k_1) <|
  Eq.trans (e_goto lin_X7_most n_X7_most_8) <|
  e_retI lin_X7_most n_X7_most_13
theorem c_X7_most_F {fi fl : HI} {cr : HR} {sh : HS} {nx sl d : Nat} {x0 : Int} (h1 : -2147483648 ≤ x0 ∧ x0 < 2147483648 := by omega) (h2 : ¬ (96 ≤ x0 ∧ x0 ≤ 180) := by omega) :
  CD mt (d + 3) 172 [iv x0] (G fi fl cr sh nx sl) = some (.returned (some (iv 8)), (G fi fl cr sh nx sl)) :=
  Eq.trans (CD_at (ls := [iv x0]) _ _ mt_X7_most rfl rfl) <|
  Eq.trans (e_ldI lin_X7_most n_X7_most_0 rfl) <|
  Eq.trans (e_calS lin_X7_most n_X7_most_1 rfl rfl (b_X7_takesOnly_F h1 h2)) <|
  Eq.trans (e_IfEqT lin_X7_most n_X7_most_4 (by decide) (by decide)) <|
  Eq.trans (e_KI lin_X7_most n_X7_most_11 k_8) <|
  e_retI lin_X7_most n_X7_most_13
theorem c_X7_joins_T {fi fl : HI} {cr : HR} {sh : HS} {nx sl d : Nat} {a0 n1 : Nat} {x1 x2 : Int} (h1 : sh a0 = some (100, n1)) (h2 : 0 ≤ x1 := by omega) (h3 : x1 < n1 := by omega) (h4 : n1 ≤ 2147483648 := by omega) (h5 : 0 ≤ x2 := by omega) (h6 : x2 < n1 := by omega) (h7 : -2147483648 ≤ fi a0 x1 ∧ fi a0 x1 < 2147483648 := by omega) (h8 : -2147483648 ≤ fi a0 x2 ∧ fi a0 x2 < 2147483648 := by omega) (h9 : fi a0 x1 = fi a0 x2 := by omega) :
  CD mt (d + 1) 179 [.ref a0, iv x1, iv x2] (G fi fl cr sh nx sl) = some (.returned (some (iv 0)), (G fi fl cr sh nx sl)) :=
  Eq.trans (CD_at (ls := [.ref a0, iv x1, iv x2, nv]) _ _ mt_X7_joins rfl rfl) <|
  Eq.trans (e_ldA lin_X7_joins n_X7_joins_0 rfl) <|
  Eq.trans (e_ldI lin_X7_joins n_X7_joins_1 rfl) <|
  Eq.trans (e_aldI lin_X7_joins n_X7_joins_2 h1 h2 h3 h4 (v := fi a0 x1) rfl) <|
  Eq.trans (e_ldA lin_X7_joins n_X7_joins_3 rfl) <|
  Eq.trans (e_ldI lin_X7_joins n_X7_joins_4 rfl) <|
  Eq.trans (e_aldI lin_X7_joins n_X7_joins_5 h1 h5 h6 h4 (v := fi a0 x2) rfl) <|
  Eq.trans (e_IcEqT lin_X7_joins n_X7_joins_6 h7 h8 h9) <|
  Eq.trans (e_KI lin_X7_joins n_X7_joins_9 k_0) <|
  e_retZ lin_X7_joins n_X7_joins_10 (by decide)
theorem c_X7_joins_FT {fi fl : HI} {cr : HR} {sh : HS} {nx sl d : Nat} {a0 n1 : Nat} {x1 x2 : Int} (h1 : sh a0 = some (100, n1)) (h2 : 0 ≤ x1 := by omega) (h3 : x1 < n1 := by omega) (h4 : n1 ≤ 2147483648 := by omega) (h5 : 0 ≤ x2 := by omega) (h6 : x2 < n1 := by omega) (h7 : -2147483648 ≤ fi a0 x1 ∧ fi a0 x1 < 2147483648 := by omega) (h8 : -2147483648 ≤ fi a0 x2 ∧ fi a0 x2 < 2147483648 := by omega) (h9 : fi a0 x1 ≠ fi a0 x2 := by omega) (h10 : fi a0 x1 < fi a0 x2 := by omega) (h11 : 100 ≤ a0 := by omega) :
  CD mt (d + 1) 179 [.ref a0, iv x1, iv x2] (G fi fl cr sh nx sl) = some (.returned (some (iv 1)), (G (up (up fi a0 x1 (fi a0 x1)) a0 x2 (fi a0 x1)) fl cr sh nx sl)) :=
  Eq.trans (CD_at (ls := [.ref a0, iv x1, iv x2, nv]) _ _ mt_X7_joins rfl rfl) <|
  Eq.trans (e_ldA lin_X7_joins n_X7_joins_0 rfl) <|
  Eq.trans (e_ldI lin_X7_joins n_X7_joins_1 rfl) <|
  Eq.trans (e_aldI lin_X7_joins n_X7_joins_2 h1 h2 h3 h4 (v := fi a0 x1) rfl) <|
  Eq.trans (e_ldA lin_X7_joins n_X7_joins_3 rfl) <|
  Eq.trans (e_ldI lin_X7_joins n_X7_joins_4 rfl) <|
  Eq.trans (e_aldI lin_X7_joins n_X7_joins_5 h1 h5 h6 h4 (v := fi a0 x2) rfl) <|
  Eq.trans (e_IcEqF lin_X7_joins n_X7_joins_6 h7 h8 h9) <|
  Eq.trans (e_ldA lin_X7_joins n_X7_joins_11 rfl) <|
  Eq.trans (e_ldI lin_X7_joins n_X7_joins_12 rfl) <|
  Eq.trans (e_aldI lin_X7_joins n_X7_joins_13 h1 h2 h3 h4 (v := fi a0 x1) rfl) <|
  Eq.trans (e_ldA lin_X7_joins n_X7_joins_14 rfl) <|
  Eq.trans (e_ldI lin_X7_joins n_X7_joins_15 rfl) <|
  Eq.trans (e_aldI lin_X7_joins n_X7_joins_16 h1 h5 h6 h4 (v := fi a0 x2) rfl) <|
  Eq.trans (e_IcLtT lin_X7_joins n_X7_joins_17 h7 h8 h10) <|
  Eq.trans (e_ldA lin_X7_joins n_X7_joins_20 rfl) <|
  Eq.trans (e_ldI lin_X7_joins n_X7_joins_21 rfl) <|
  Eq.trans (e_aldI lin_X7_joins n_X7_joins_22 h1 h2 h3 h4 (v := fi a0 x1) rfl) <|
  Eq.trans (e_goto lin_X7_joins n_X7_joins_23) <|
  Eq.trans (e_stI lin_X7_joins n_X7_joins_29 rfl (ls' := [.ref a0, iv x1, iv x2, iv (fi a0 x1)]) rfl) <|
  Eq.trans (e_ldA lin_X7_joins n_X7_joins_30 rfl) <|
  Eq.trans (e_ldI lin_X7_joins n_X7_joins_31 rfl) <|
  Eq.trans (e_ldI lin_X7_joins n_X7_joins_32 rfl) <|
  Eq.trans (e_astI lin_X7_joins n_X7_joins_33 (isNewN h11) h1 h2 h3 h4) <|
  Eq.trans (e_ldA lin_X7_joins n_X7_joins_34 rfl) <|
  Eq.trans (e_ldI lin_X7_joins n_X7_joins_35 rfl) <|
  Eq.trans (e_ldI lin_X7_joins n_X7_joins_36 rfl) <|
  Eq.trans (e_astI lin_X7_joins n_X7_joins_37 (isNewN h11) h1 h5 h6 h4) <|
  Eq.trans (e_KI lin_X7_joins n_X7_joins_38 k_1) <|
  e_retZ lin_X7_joins n_X7_joins_39 (by decide)
theorem c_X7_joins_FF {fi fl : HI} {cr : HR} {sh : HS} {nx sl d : Nat} {a0 n1 : Nat} {x1 x2 : Int} (h1 : sh a0 = some (100, n1)) (h2 : 0 ≤ x1 := by omega) (h3 : x1 < n1 := by omega) (h4 : n1 ≤ 2147483648 := by omega) (h5 : 0 ≤ x2 := by omega) (h6 : x2 < n1 := by omega) (h7 : -2147483648 ≤ fi a0 x1 ∧ fi a0 x1 < 2147483648 := by omega) (h8 : -2147483648 ≤ fi a0 x2 ∧ fi a0 x2 < 2147483648 := by omega) (h9 : fi a0 x1 ≠ fi a0 x2 := by omega) (h10 : fi a0 x2 ≤ fi a0 x1 := by omega) (h11 : 100 ≤ a0 := by omega) :
  CD mt (d + 1) 179 [.ref a0, iv x1, iv x2] (G fi fl cr sh nx sl) = some (.returned (some (iv 1)), (G (up (up fi a0 x1 (fi a0 x2)) a0 x2 (fi a0 x2)) fl cr sh nx sl)) :=
  Eq.trans (CD_at (ls := [.ref a0, iv x1, iv x2, nv]) _ _ mt_X7_joins rfl rfl) <|
  Eq.trans (e_ldA lin_X7_joins n_X7_joins_0 rfl) <|
  Eq.trans (e_ldI lin_X7_joins n_X7_joins_1 rfl) <|
  Eq.trans (e_aldI lin_X7_joins n_X7_joins_2 h1 h2 h3 h4 (v := fi a0 x1) rfl) <|
  Eq.trans (e_ldA lin_X7_joins n_X7_joins_3 rfl) <|
  Eq.trans (e_ldI lin_X7_joins n_X7_joins_4 rfl) <|
  Eq.trans (e_aldI lin_X7_joins n_X7_joins_5 h1 h5 h6 h4 (v := fi a0 x2) rfl) <|
  Eq.trans (e_IcEqF lin_X7_joins n_X7_joins_6 h7 h8 h9) <|
  Eq.trans (e_ldA lin_X7_joins n_X7_joins_11 rfl) <|
  Eq.trans (e_ldI lin_X7_joins n_X7_joins_12 rfl) <|
  Eq.trans (e_aldI lin_X7_joins n_X7_joins_13 h1 h2 h3 h4 (v := fi a0 x1) rfl) <|
  Eq.trans (e_ldA lin_X7_joins n_X7_joins_14 rfl) <|
  Eq.trans (e_ldI lin_X7_joins n_X7_joins_15 rfl) <|
  Eq.trans (e_aldI lin_X7_joins n_X7_joins_16 h1 h5 h6 h4 (v := fi a0 x2) rfl) <|
  Eq.trans (e_IcLtF lin_X7_joins n_X7_joins_17 h7 h8 h10) <|
  Eq.trans (e_ldA lin_X7_joins n_X7_joins_26 rfl) <|
  Eq.trans (e_ldI lin_X7_joins n_X7_joins_27 rfl) <|
  Eq.trans (e_aldI lin_X7_joins n_X7_joins_28 h1 h5 h6 h4 (v := fi a0 x2) rfl) <|
  Eq.trans (e_stI lin_X7_joins n_X7_joins_29 rfl (ls' := [.ref a0, iv x1, iv x2, iv (fi a0 x2)]) rfl) <|
  Eq.trans (e_ldA lin_X7_joins n_X7_joins_30 rfl) <|
  Eq.trans (e_ldI lin_X7_joins n_X7_joins_31 rfl) <|
  Eq.trans (e_ldI lin_X7_joins n_X7_joins_32 rfl) <|
  Eq.trans (e_astI lin_X7_joins n_X7_joins_33 (isNewN h11) h1 h2 h3 h4) <|
  Eq.trans (e_ldA lin_X7_joins n_X7_joins_34 rfl) <|
  Eq.trans (e_ldI lin_X7_joins n_X7_joins_35 rfl) <|
  Eq.trans (e_ldI lin_X7_joins n_X7_joins_36 rfl) <|
  Eq.trans (e_astI lin_X7_joins n_X7_joins_37 (isNewN h11) h1 h5 h6 h4) <|
  Eq.trans (e_KI lin_X7_joins n_X7_joins_38 k_1) <|
  e_retZ lin_X7_joins n_X7_joins_39 (by decide)
theorem c_X7_digit_TT {fi fl : HI} {cr : HR} {sh : HS} {nx sl d : Nat} {x1 x2 : Int} (hS : Stat cr sh) (h1 : -2147483648 ≤ x1 ∧ x1 < 2147483648 := by omega) (h2 : -2147483648 ≤ fi 574 41 ∧ fi 574 41 < 2147483648 := by omega) (h3 : x1 < fi 574 41 := by omega) (h4 : 0 ≤ 20 * x1 + x2 := by omega) (h5 : 20 * x1 + x2 < 800 := by omega) (h6 : 0 ≤ fi 583 (20 * x1 + x2) ∧ fi 583 (20 * x1 + x2) < 2147483648 := by omega) (h7 : -2147483648 ≤ (fi 583 (20 * x1 + x2)) % 16 ∧ (fi 583 (20 * x1 + x2)) % 16 < 2147483648 := by omega) (h8 : (fi 583 (20 * x1 + x2)) % 16 = 15 := by omega) :
  CD mt (d + 1) 180 [.ref 574, iv x1, iv x2] (G fi fl cr sh nx sl) = some (.returned (some (iv (-1))), (G fi fl cr sh nx sl)) :=
  Eq.trans (CD_at (ls := [.ref 574, iv x1, iv x2, nv]) _ _ mt_X7_digit rfl rfl) <|
  Eq.trans (e_ldI lin_X7_digit n_X7_digit_0 rfl) <|
  Eq.trans (e_ldA lin_X7_digit n_X7_digit_1 rfl) <|
  Eq.trans (e_getI lin_X7_digit n_X7_digit_2 (s_574 hS) rfl (j := 41) rfl (v := fi 574 41) rfl) <|
  Eq.trans (e_IcLtT lin_X7_digit n_X7_digit_5 h1 h2 h3) <|
  Eq.trans (e_ldA lin_X7_digit n_X7_digit_10 rfl) <|
  Eq.trans (e_getR lin_X7_digit n_X7_digit_11 (s_574 hS) rfl (j := 23) rfl (rr_574_23 hS)) <|
  Eq.trans (e_KI lin_X7_digit n_X7_digit_14 k_20) <|
  Eq.trans (e_ldI lin_X7_digit n_X7_digit_16 rfl) <|
  Eq.trans (e_mul lin_X7_digit n_X7_digit_17 (z := 20 * x1) rfl) <|
  Eq.trans (e_ldI lin_X7_digit n_X7_digit_18 rfl) <|
  Eq.trans (e_add lin_X7_digit n_X7_digit_19 (z := 20 * x1 + x2) rfl) <|
  Eq.trans (e_aldI lin_X7_digit n_X7_digit_20 (s_583 hS) h4 h5 (by decide) (v := fi 583 (20 * x1 + x2)) rfl) <|
  Eq.trans (e_KI lin_X7_digit n_X7_digit_21 k_16) <|
  Eq.trans (e_rem lin_X7_digit n_X7_digit_23 h6 (by decide)) <|
  Eq.trans (e_stI lin_X7_digit n_X7_digit_24 rfl (ls' := [.ref 574, iv x1, iv x2, iv ((fi 583 (20 * x1 + x2)) % 16)]) rfl) <|
  Eq.trans (e_ldI lin_X7_digit n_X7_digit_25 rfl) <|
  Eq.trans (e_KI lin_X7_digit n_X7_digit_26 k_15) <|
  Eq.trans (e_IcEqT lin_X7_digit n_X7_digit_28 h7 (by decide) h8) <|
  Eq.trans (e_KI lin_X7_digit n_X7_digit_31 k_m1) <|
  Eq.trans (e_goto lin_X7_digit n_X7_digit_32) <|
  e_retI lin_X7_digit n_X7_digit_36
theorem c_X7_digit_TF {fi fl : HI} {cr : HR} {sh : HS} {nx sl d : Nat} {x1 x2 : Int} (hS : Stat cr sh) (h1 : -2147483648 ≤ x1 ∧ x1 < 2147483648 := by omega) (h2 : -2147483648 ≤ fi 574 41 ∧ fi 574 41 < 2147483648 := by omega) (h3 : x1 < fi 574 41 := by omega) (h4 : 0 ≤ 20 * x1 + x2 := by omega) (h5 : 20 * x1 + x2 < 800 := by omega) (h6 : 0 ≤ fi 583 (20 * x1 + x2) ∧ fi 583 (20 * x1 + x2) < 2147483648 := by omega) (h7 : -2147483648 ≤ (fi 583 (20 * x1 + x2)) % 16 ∧ (fi 583 (20 * x1 + x2)) % 16 < 2147483648 := by omega) (h8 : (fi 583 (20 * x1 + x2)) % 16 ≠ 15 := by omega) :
  CD mt (d + 1) 180 [.ref 574, iv x1, iv x2] (G fi fl cr sh nx sl) = some (.returned (some (iv ((fi 583 (20 * x1 + x2)) % 16))), (G fi fl cr sh nx sl)) :=
  Eq.trans (CD_at (ls := [.ref 574, iv x1, iv x2, nv]) _ _ mt_X7_digit rfl rfl) <|
  Eq.trans (e_ldI lin_X7_digit n_X7_digit_0 rfl) <|
  Eq.trans (e_ldA lin_X7_digit n_X7_digit_1 rfl) <|
  Eq.trans (e_getI lin_X7_digit n_X7_digit_2 (s_574 hS) rfl (j := 41) rfl (v := fi 574 41) rfl) <|
  Eq.trans (e_IcLtT lin_X7_digit n_X7_digit_5 h1 h2 h3) <|
  Eq.trans (e_ldA lin_X7_digit n_X7_digit_10 rfl) <|
  Eq.trans (e_getR lin_X7_digit n_X7_digit_11 (s_574 hS) rfl (j := 23) rfl (rr_574_23 hS)) <|
  Eq.trans (e_KI lin_X7_digit n_X7_digit_14 k_20) <|
  Eq.trans (e_ldI lin_X7_digit n_X7_digit_16 rfl) <|
  Eq.trans (e_mul lin_X7_digit n_X7_digit_17 (z := 20 * x1) rfl) <|
  Eq.trans (e_ldI lin_X7_digit n_X7_digit_18 rfl) <|
  Eq.trans (e_add lin_X7_digit n_X7_digit_19 (z := 20 * x1 + x2) rfl) <|
  Eq.trans (e_aldI lin_X7_digit n_X7_digit_20 (s_583 hS) h4 h5 (by decide) (v := fi 583 (20 * x1 + x2)) rfl) <|
  Eq.trans (e_KI lin_X7_digit n_X7_digit_21 k_16) <|
  Eq.trans (e_rem lin_X7_digit n_X7_digit_23 h6 (by decide)) <|
  Eq.trans (e_stI lin_X7_digit n_X7_digit_24 rfl (ls' := [.ref 574, iv x1, iv x2, iv ((fi 583 (20 * x1 + x2)) % 16)]) rfl) <|
  Eq.trans (e_ldI lin_X7_digit n_X7_digit_25 rfl) <|
  Eq.trans (e_KI lin_X7_digit n_X7_digit_26 k_15) <|
  Eq.trans (e_IcEqF lin_X7_digit n_X7_digit_28 h7 (by decide) h8) <|
  Eq.trans (e_ldI lin_X7_digit n_X7_digit_35 rfl) <|
  e_retI lin_X7_digit n_X7_digit_36
theorem c_X7_digit_F {fi fl : HI} {cr : HR} {sh : HS} {nx sl d : Nat} {x1 x2 : Int} (hS : Stat cr sh) (h1 : -2147483648 ≤ x1 ∧ x1 < 2147483648 := by omega) (h2 : -2147483648 ≤ fi 574 41 ∧ fi 574 41 < 2147483648 := by omega) (h3 : fi 574 41 ≤ x1 := by omega) :
  CD mt (d + 1) 180 [.ref 574, iv x1, iv x2] (G fi fl cr sh nx sl) = some (.returned (some (iv (-1))), (G fi fl cr sh nx sl)) :=
  Eq.trans (CD_at (ls := [.ref 574, iv x1, iv x2, nv]) _ _ mt_X7_digit rfl rfl) <|
  Eq.trans (e_ldI lin_X7_digit n_X7_digit_0 rfl) <|
  Eq.trans (e_ldA lin_X7_digit n_X7_digit_1 rfl) <|
  Eq.trans (e_getI lin_X7_digit n_X7_digit_2 (s_574 hS) rfl (j := 41) rfl (v := fi 574 41) rfl) <|
  Eq.trans (e_IcLtF lin_X7_digit n_X7_digit_5 h1 h2 h3) <|
  Eq.trans (e_KI lin_X7_digit n_X7_digit_8 k_m1) <|
  e_retI lin_X7_digit n_X7_digit_9
def dg (f : Int → Int) (m k n : Int) : Int := if m ≤ k then -1 else if f (20 * k + n) % 16 = 15 then -1 else f (20 * k + n) % 16
def DgOk (f : Int → Int) (m k n : Int) : Prop := (-2147483648 ≤ k ∧ k < 2147483648) ∧ (-2147483648 ≤ m ∧ m < 2147483648) ∧ (k < m → (0 ≤ 20 * k + n ∧ 20 * k + n < 800) ∧ 0 ≤ f (20 * k + n) ∧ f (20 * k + n) < 2147483648)
theorem b_X7_digit {fi fl : HI} {cr : HR} {sh : HS} {nx sl d : Nat} {x1 x2 : Int} (hS : Stat cr sh) (h : DgOk (fi 583) (fi 574 41) x1 x2) : CD mt (d + 1) 180 [.ref 574, iv x1, iv x2] (G fi fl cr sh nx sl) = some (.returned (some (iv (dg (fi 583) (fi 574 41) x1 x2))), (G fi fl cr sh nx sl)) := by
  obtain ⟨h1, h2, h3⟩ := h
  unfold dg
  by_cases q : fi 574 41 ≤ x1
  · rw [if_pos q]; exact c_X7_digit_F hS
  · obtain ⟨h4, h5⟩ := h3 (by omega)
    rw [if_neg q]
    by_cases z : fi 583 (20 * x1 + x2) % 16 = 15
    · rw [if_pos z]; exact c_X7_digit_TT hS
    · rw [if_neg z]; exact c_X7_digit_TF hS
theorem c_X7_take_T {fi fl : HI} {cr : HR} {sh : HS} {nx sl d : Nat} {a1 n1 : Nat} {x2 : Int} (hS : Stat cr sh) (h1 : sh a1 = some (100, n1)) (h2 : 0 ≤ x2 := by omega) (h3 : x2 < n1 := by omega) (h4 : n1 ≤ 2147483648 := by omega) (h5 : 0 ≤ fi a1 x2 := by omega) (h6 : fi a1 x2 < 217 := by omega) (h7 : -2147483648 ≤ fi 588 (fi a1 x2) ∧ fi 588 (fi a1 x2) < 2147483648 := by omega) (h8 : fi 588 (fi a1 x2) = 0 := by omega) :
  CD mt (d + 1) 184 [.ref 574, .ref a1, iv x2] (G fi fl cr sh nx sl) = some (.returned (some (iv (-1))), (G fi fl cr sh nx sl)) :=
  Eq.trans (CD_at (ls := [.ref 574, .ref a1, iv x2]) _ _ mt_X7_take rfl rfl) <|
  Eq.trans (e_ldA lin_X7_take n_X7_take_0 rfl) <|
  Eq.trans (e_getR lin_X7_take n_X7_take_1 (s_574 hS) rfl (j := 28) rfl (rr_574_28 hS)) <|
  Eq.trans (e_ldA lin_X7_take n_X7_take_4 rfl) <|
  Eq.trans (e_ldI lin_X7_take n_X7_take_5 rfl) <|
  Eq.trans (e_aldI lin_X7_take n_X7_take_6 h1 h2 h3 h4 (v := fi a1 x2) rfl) <|
  Eq.trans (e_aldI lin_X7_take n_X7_take_7 (s_588 hS) h5 h6 (by decide) (v := fi 588 (fi a1 x2)) rfl) <|
  Eq.trans (e_IfEqT lin_X7_take n_X7_take_8 h7 h8) <|
  Eq.trans (e_KI lin_X7_take n_X7_take_11 k_m1) <|
  Eq.trans (e_goto lin_X7_take n_X7_take_12) <|
  e_retI lin_X7_take n_X7_take_28
theorem c_X7_take_F {fi fl : HI} {cr : HR} {sh : HS} {nx sl d : Nat} {a1 n1 : Nat} {x2 : Int} (hS : Stat cr sh) (h1 : sh a1 = some (100, n1)) (h2 : 0 ≤ x2 := by omega) (h3 : x2 < n1 := by omega) (h4 : n1 ≤ 2147483648 := by omega) (h5 : 0 ≤ fi a1 x2 := by omega) (h6 : fi a1 x2 < 217 := by omega) (h7 : -2147483648 ≤ fi 588 (fi a1 x2) ∧ fi 588 (fi a1 x2) < 2147483648 := by omega) (h8 : fi 588 (fi a1 x2) ≠ 0 := by omega) (h9 : 0 ≤ fi 587 (fi a1 x2) := by omega) (h10 : fi 587 (fi a1 x2) < 96 := by omega) :
  CD mt (d + 1) 184 [.ref 574, .ref a1, iv x2] (G fi fl cr sh nx sl) = some (.returned (some (iv (fi 584 (fi 587 (fi a1 x2))))), (G fi fl cr sh nx sl)) :=
  Eq.trans (CD_at (ls := [.ref 574, .ref a1, iv x2]) _ _ mt_X7_take rfl rfl) <|
  Eq.trans (e_ldA lin_X7_take n_X7_take_0 rfl) <|
  Eq.trans (e_getR lin_X7_take n_X7_take_1 (s_574 hS) rfl (j := 28) rfl (rr_574_28 hS)) <|
  Eq.trans (e_ldA lin_X7_take n_X7_take_4 rfl) <|
  Eq.trans (e_ldI lin_X7_take n_X7_take_5 rfl) <|
  Eq.trans (e_aldI lin_X7_take n_X7_take_6 h1 h2 h3 h4 (v := fi a1 x2) rfl) <|
  Eq.trans (e_aldI lin_X7_take n_X7_take_7 (s_588 hS) h5 h6 (by decide) (v := fi 588 (fi a1 x2)) rfl) <|
  Eq.trans (e_IfEqF lin_X7_take n_X7_take_8 h7 h8) <|
  Eq.trans (e_ldA lin_X7_take n_X7_take_15 rfl) <|
  Eq.trans (e_getR lin_X7_take n_X7_take_16 (s_574 hS) rfl (j := 24) rfl (rr_574_24 hS)) <|
  Eq.trans (e_ldA lin_X7_take n_X7_take_19 rfl) <|
  Eq.trans (e_getR lin_X7_take n_X7_take_20 (s_574 hS) rfl (j := 27) rfl (rr_574_27 hS)) <|
  Eq.trans (e_ldA lin_X7_take n_X7_take_23 rfl) <|
  Eq.trans (e_ldI lin_X7_take n_X7_take_24 rfl) <|
  Eq.trans (e_aldI lin_X7_take n_X7_take_25 h1 h2 h3 h4 (v := fi a1 x2) rfl) <|
  Eq.trans (e_aldI lin_X7_take n_X7_take_26 (s_587 hS) h5 h6 (by decide) (v := fi 587 (fi a1 x2)) rfl) <|
  Eq.trans (e_aldI lin_X7_take n_X7_take_27 (s_584 hS) h9 h10 (by decide) (v := fi 584 (fi 587 (fi a1 x2))) rfl) <|
  e_retI lin_X7_take n_X7_take_28
theorem c_X7_ran_T {fi fl : HI} {cr : HR} {sh : HS} {nx sl d : Nat} {x1 : Int} (hS : Stat cr sh) (h1 : -2147483648 ≤ fi 574 44 ∧ fi 574 44 < 2147483648 := by omega) (h2 : fi 574 44 = 0 := by omega) :
  CD mt (d + 1) 190 [.ref 574, iv x1] (G fi fl cr sh nx sl) = some (.returned (some (iv (-1))), (G (up fi 574 0 0) fl cr sh nx sl)) :=
  Eq.trans (CD_at (ls := [.ref 574, iv x1]) _ _ mt_X7_ran rfl rfl) <|
  Eq.trans (e_ldA lin_X7_ran n_X7_ran_0 rfl) <|
  Eq.trans (e_KI lin_X7_ran n_X7_ran_1 k_0) <|
  Eq.trans (e_putI lin_X7_ran n_X7_ran_2 rfl (s_574 hS) rfl (j := 0) rfl) <|
  Eq.trans (e_ldA lin_X7_ran n_X7_ran_5 rfl) <|
  Eq.trans (e_getI lin_X7_ran n_X7_ran_6 (s_574 hS) rfl (j := 44) rfl (v := fi 574 44) rfl) <|
  Eq.trans (e_IfEqT lin_X7_ran n_X7_ran_9 h1 h2) <|
  Eq.trans (e_KI lin_X7_ran n_X7_ran_12 k_m1) <|
  e_retI lin_X7_ran n_X7_ran_13
theorem c_X7_ran_Fc0 {fi fl : HI} {cr : HR} {sh : HS} {nx sl d : Nat} {x1 : Int} (hS : Stat cr sh) (h1 : -2147483648 ≤ fi 574 44 ∧ fi 574 44 < 2147483648 := by omega) (h2 : fi 574 44 ≠ 0 := by omega) (h3 : -2147483648 ≤ x1 ∧ x1 < 2147483648 := by omega) (h4 : x1 = 0 := by omega) :
  CD mt (d + 1) 190 [.ref 574, iv x1] (G fi fl cr sh nx sl) = some (.returned (some (iv (fi 596 1))), (G (up fi 574 0 0) fl cr sh nx sl)) :=
  Eq.trans (CD_at (ls := [.ref 574, iv x1]) _ _ mt_X7_ran rfl rfl) <|
  Eq.trans (e_ldA lin_X7_ran n_X7_ran_0 rfl) <|
  Eq.trans (e_KI lin_X7_ran n_X7_ran_1 k_0) <|
  Eq.trans (e_putI lin_X7_ran n_X7_ran_2 rfl (s_574 hS) rfl (j := 0) rfl) <|
  Eq.trans (e_ldA lin_X7_ran n_X7_ran_5 rfl) <|
  Eq.trans (e_getI lin_X7_ran n_X7_ran_6 (s_574 hS) rfl (j := 44) rfl (v := fi 574 44) rfl) <|
  Eq.trans (e_IfEqF lin_X7_ran n_X7_ran_9 h1 h2) <|
  Eq.trans (e_ldI lin_X7_ran n_X7_ran_14 rfl) <|
  Eq.trans (e_swK lin_X7_ran n_X7_ran_15 (k := 0) h4 rfl rfl) <|
  Eq.trans (e_ldA lin_X7_ran n_X7_ran_56 rfl) <|
  Eq.trans (e_getR lin_X7_ran n_X7_ran_57 (s_574 hS) rfl (j := 36) rfl (rr_574_36 hS)) <|
  Eq.trans (e_KI lin_X7_ran n_X7_ran_60 k_1) <|
  Eq.trans (e_aldI lin_X7_ran n_X7_ran_61 (s_596 hS) (by decide) (by decide) (by decide) (v := fi 596 1) rfl) <|
  e_retI lin_X7_ran n_X7_ran_62
theorem c_X7_ran_Fc1 {fi fl : HI} {cr : HR} {sh : HS} {nx sl d : Nat} {x1 : Int} (hS : Stat cr sh) (h1 : -2147483648 ≤ fi 574 44 ∧ fi 574 44 < 2147483648 := by omega) (h2 : fi 574 44 ≠ 0 := by omega) (h3 : -2147483648 ≤ x1 ∧ x1 < 2147483648 := by omega) (h4 : x1 = 1 := by omega) :
  CD mt (d + 1) 190 [.ref 574, iv x1] (G fi fl cr sh nx sl) = some (.returned (some (iv (fi 597 1))), (G (up fi 574 0 0) fl cr sh nx sl)) :=
  Eq.trans (CD_at (ls := [.ref 574, iv x1]) _ _ mt_X7_ran rfl rfl) <|
  Eq.trans (e_ldA lin_X7_ran n_X7_ran_0 rfl) <|
  Eq.trans (e_KI lin_X7_ran n_X7_ran_1 k_0) <|
  Eq.trans (e_putI lin_X7_ran n_X7_ran_2 rfl (s_574 hS) rfl (j := 0) rfl) <|
  Eq.trans (e_ldA lin_X7_ran n_X7_ran_5 rfl) <|
  Eq.trans (e_getI lin_X7_ran n_X7_ran_6 (s_574 hS) rfl (j := 44) rfl (v := fi 574 44) rfl) <|
  Eq.trans (e_IfEqF lin_X7_ran n_X7_ran_9 h1 h2) <|
  Eq.trans (e_ldI lin_X7_ran n_X7_ran_14 rfl) <|
  Eq.trans (e_swK lin_X7_ran n_X7_ran_15 (k := 1) h4 rfl rfl) <|
  Eq.trans (e_ldA lin_X7_ran n_X7_ran_63 rfl) <|
  Eq.trans (e_getR lin_X7_ran n_X7_ran_64 (s_574 hS) rfl (j := 37) rfl (rr_574_37 hS)) <|
  Eq.trans (e_KI lin_X7_ran n_X7_ran_67 k_1) <|
  Eq.trans (e_aldI lin_X7_ran n_X7_ran_68 (s_597 hS) (by decide) (by decide) (by decide) (v := fi 597 1) rfl) <|
  e_retI lin_X7_ran n_X7_ran_69
theorem c_X7_ran_Fc2 {fi fl : HI} {cr : HR} {sh : HS} {nx sl d : Nat} {x1 : Int} (hS : Stat cr sh) (h1 : -2147483648 ≤ fi 574 44 ∧ fi 574 44 < 2147483648 := by omega) (h2 : fi 574 44 ≠ 0 := by omega) (h3 : -2147483648 ≤ x1 ∧ x1 < 2147483648 := by omega) (h4 : x1 = 2 := by omega) :
  CD mt (d + 1) 190 [.ref 574, iv x1] (G fi fl cr sh nx sl) = some (.returned (some (iv (fi 591 1))), (G (up fi 574 0 0) fl cr sh nx sl)) :=
  Eq.trans (CD_at (ls := [.ref 574, iv x1]) _ _ mt_X7_ran rfl rfl) <|
  Eq.trans (e_ldA lin_X7_ran n_X7_ran_0 rfl) <|
  Eq.trans (e_KI lin_X7_ran n_X7_ran_1 k_0) <|
  Eq.trans (e_putI lin_X7_ran n_X7_ran_2 rfl (s_574 hS) rfl (j := 0) rfl) <|
  Eq.trans (e_ldA lin_X7_ran n_X7_ran_5 rfl) <|
  Eq.trans (e_getI lin_X7_ran n_X7_ran_6 (s_574 hS) rfl (j := 44) rfl (v := fi 574 44) rfl) <|
  Eq.trans (e_IfEqF lin_X7_ran n_X7_ran_9 h1 h2) <|
  Eq.trans (e_ldI lin_X7_ran n_X7_ran_14 rfl) <|
  Eq.trans (e_swK lin_X7_ran n_X7_ran_15 (k := 2) h4 rfl rfl) <|
  Eq.trans (e_ldA lin_X7_ran n_X7_ran_70 rfl) <|
  Eq.trans (e_getR lin_X7_ran n_X7_ran_71 (s_574 hS) rfl (j := 31) rfl (rr_574_31 hS)) <|
  Eq.trans (e_KI lin_X7_ran n_X7_ran_74 k_1) <|
  Eq.trans (e_aldI lin_X7_ran n_X7_ran_75 (s_591 hS) (by decide) (by decide) (by decide) (v := fi 591 1) rfl) <|
  e_retI lin_X7_ran n_X7_ran_76
theorem c_X7_ran_Fc3 {fi fl : HI} {cr : HR} {sh : HS} {nx sl d : Nat} {x1 : Int} (hS : Stat cr sh) (h1 : -2147483648 ≤ fi 574 44 ∧ fi 574 44 < 2147483648 := by omega) (h2 : fi 574 44 ≠ 0 := by omega) (h3 : -2147483648 ≤ x1 ∧ x1 < 2147483648 := by omega) (h4 : x1 = 3 := by omega) :
  CD mt (d + 1) 190 [.ref 574, iv x1] (G fi fl cr sh nx sl) = some (.returned (some (iv (fi 592 1))), (G (up fi 574 0 0) fl cr sh nx sl)) :=
  Eq.trans (CD_at (ls := [.ref 574, iv x1]) _ _ mt_X7_ran rfl rfl) <|
  Eq.trans (e_ldA lin_X7_ran n_X7_ran_0 rfl) <|
  Eq.trans (e_KI lin_X7_ran n_X7_ran_1 k_0) <|
  Eq.trans (e_putI lin_X7_ran n_X7_ran_2 rfl (s_574 hS) rfl (j := 0) rfl) <|
  Eq.trans (e_ldA lin_X7_ran n_X7_ran_5 rfl) <|
  Eq.trans (e_getI lin_X7_ran n_X7_ran_6 (s_574 hS) rfl (j := 44) rfl (v := fi 574 44) rfl) <|
  Eq.trans (e_IfEqF lin_X7_ran n_X7_ran_9 h1 h2) <|
  Eq.trans (e_ldI lin_X7_ran n_X7_ran_14 rfl) <|
  Eq.trans (e_swK lin_X7_ran n_X7_ran_15 (k := 3) h4 rfl rfl) <|
  Eq.trans (e_ldA lin_X7_ran n_X7_ran_77 rfl) <|
  Eq.trans (e_getR lin_X7_ran n_X7_ran_78 (s_574 hS) rfl (j := 32) rfl (rr_574_32 hS)) <|
  Eq.trans (e_KI lin_X7_ran n_X7_ran_81 k_1) <|
  Eq.trans (e_aldI lin_X7_ran n_X7_ran_82 (s_592 hS) (by decide) (by decide) (by decide) (v := fi 592 1) rfl) <|
  e_retI lin_X7_ran n_X7_ran_83
theorem c_X7_ran_Fc4 {fi fl : HI} {cr : HR} {sh : HS} {nx sl d : Nat} {x1 : Int} (hS : Stat cr sh) (h1 : -2147483648 ≤ fi 574 44 ∧ fi 574 44 < 2147483648 := by omega) (h2 : fi 574 44 ≠ 0 := by omega) (h3 : -2147483648 ≤ x1 ∧ x1 < 2147483648 := by omega) (h4 : x1 = 4 := by omega) :
  CD mt (d + 1) 190 [.ref 574, iv x1] (G fi fl cr sh nx sl) = some (.returned (some (iv (fi 598 1))), (G (up fi 574 0 0) fl cr sh nx sl)) :=
  Eq.trans (CD_at (ls := [.ref 574, iv x1]) _ _ mt_X7_ran rfl rfl) <|
  Eq.trans (e_ldA lin_X7_ran n_X7_ran_0 rfl) <|
  Eq.trans (e_KI lin_X7_ran n_X7_ran_1 k_0) <|
  Eq.trans (e_putI lin_X7_ran n_X7_ran_2 rfl (s_574 hS) rfl (j := 0) rfl) <|
  Eq.trans (e_ldA lin_X7_ran n_X7_ran_5 rfl) <|
  Eq.trans (e_getI lin_X7_ran n_X7_ran_6 (s_574 hS) rfl (j := 44) rfl (v := fi 574 44) rfl) <|
  Eq.trans (e_IfEqF lin_X7_ran n_X7_ran_9 h1 h2) <|
  Eq.trans (e_ldI lin_X7_ran n_X7_ran_14 rfl) <|
  Eq.trans (e_swK lin_X7_ran n_X7_ran_15 (k := 4) h4 rfl rfl) <|
  Eq.trans (e_ldA lin_X7_ran n_X7_ran_84 rfl) <|
  Eq.trans (e_getR lin_X7_ran n_X7_ran_85 (s_574 hS) rfl (j := 38) rfl (rr_574_38 hS)) <|
  Eq.trans (e_KI lin_X7_ran n_X7_ran_88 k_1) <|
  Eq.trans (e_aldI lin_X7_ran n_X7_ran_89 (s_598 hS) (by decide) (by decide) (by decide) (v := fi 598 1) rfl) <|
  e_retI lin_X7_ran n_X7_ran_90
theorem c_X7_ran_Fc5 {fi fl : HI} {cr : HR} {sh : HS} {nx sl d : Nat} {x1 : Int} (hS : Stat cr sh) (h1 : -2147483648 ≤ fi 574 44 ∧ fi 574 44 < 2147483648 := by omega) (h2 : fi 574 44 ≠ 0 := by omega) (h3 : -2147483648 ≤ x1 ∧ x1 < 2147483648 := by omega) (h4 : x1 = 5 := by omega) :
  CD mt (d + 1) 190 [.ref 574, iv x1] (G fi fl cr sh nx sl) = some (.returned (some (iv (fi 599 1))), (G (up fi 574 0 0) fl cr sh nx sl)) :=
  Eq.trans (CD_at (ls := [.ref 574, iv x1]) _ _ mt_X7_ran rfl rfl) <|
  Eq.trans (e_ldA lin_X7_ran n_X7_ran_0 rfl) <|
  Eq.trans (e_KI lin_X7_ran n_X7_ran_1 k_0) <|
  Eq.trans (e_putI lin_X7_ran n_X7_ran_2 rfl (s_574 hS) rfl (j := 0) rfl) <|
  Eq.trans (e_ldA lin_X7_ran n_X7_ran_5 rfl) <|
  Eq.trans (e_getI lin_X7_ran n_X7_ran_6 (s_574 hS) rfl (j := 44) rfl (v := fi 574 44) rfl) <|
  Eq.trans (e_IfEqF lin_X7_ran n_X7_ran_9 h1 h2) <|
  Eq.trans (e_ldI lin_X7_ran n_X7_ran_14 rfl) <|
  Eq.trans (e_swK lin_X7_ran n_X7_ran_15 (k := 5) h4 rfl rfl) <|
  Eq.trans (e_ldA lin_X7_ran n_X7_ran_91 rfl) <|
  Eq.trans (e_getR lin_X7_ran n_X7_ran_92 (s_574 hS) rfl (j := 39) rfl (rr_574_39 hS)) <|
  Eq.trans (e_KI lin_X7_ran n_X7_ran_95 k_1) <|
  Eq.trans (e_aldI lin_X7_ran n_X7_ran_96 (s_599 hS) (by decide) (by decide) (by decide) (v := fi 599 1) rfl) <|
  e_retI lin_X7_ran n_X7_ran_97
theorem c_X7_ran_Fc6 {fi fl : HI} {cr : HR} {sh : HS} {nx sl d : Nat} {x1 : Int} (hS : Stat cr sh) (h1 : -2147483648 ≤ fi 574 44 ∧ fi 574 44 < 2147483648 := by omega) (h2 : fi 574 44 ≠ 0 := by omega) (h3 : -2147483648 ≤ x1 ∧ x1 < 2147483648 := by omega) (h4 : x1 = 6 := by omega) :
  CD mt (d + 1) 190 [.ref 574, iv x1] (G fi fl cr sh nx sl) = some (.returned (some (iv (fi 600 1))), (G (up fi 574 0 0) fl cr sh nx sl)) :=
  Eq.trans (CD_at (ls := [.ref 574, iv x1]) _ _ mt_X7_ran rfl rfl) <|
  Eq.trans (e_ldA lin_X7_ran n_X7_ran_0 rfl) <|
  Eq.trans (e_KI lin_X7_ran n_X7_ran_1 k_0) <|
  Eq.trans (e_putI lin_X7_ran n_X7_ran_2 rfl (s_574 hS) rfl (j := 0) rfl) <|
  Eq.trans (e_ldA lin_X7_ran n_X7_ran_5 rfl) <|
  Eq.trans (e_getI lin_X7_ran n_X7_ran_6 (s_574 hS) rfl (j := 44) rfl (v := fi 574 44) rfl) <|
  Eq.trans (e_IfEqF lin_X7_ran n_X7_ran_9 h1 h2) <|
  Eq.trans (e_ldI lin_X7_ran n_X7_ran_14 rfl) <|
  Eq.trans (e_swK lin_X7_ran n_X7_ran_15 (k := 6) h4 rfl rfl) <|
  Eq.trans (e_ldA lin_X7_ran n_X7_ran_98 rfl) <|
  Eq.trans (e_getR lin_X7_ran n_X7_ran_99 (s_574 hS) rfl (j := 40) rfl (rr_574_40 hS)) <|
  Eq.trans (e_KI lin_X7_ran n_X7_ran_102 k_1) <|
  Eq.trans (e_aldI lin_X7_ran n_X7_ran_103 (s_600 hS) (by decide) (by decide) (by decide) (v := fi 600 1) rfl) <|
  e_retI lin_X7_ran n_X7_ran_104
theorem c_X7_ran_Fcd {fi fl : HI} {cr : HR} {sh : HS} {nx sl d : Nat} {x1 : Int} (hS : Stat cr sh) (h4 : ∀ j : Nat, j < 7 → x1 ≠ j) (h1 : -2147483648 ≤ fi 574 44 ∧ fi 574 44 < 2147483648 := by omega) (h2 : fi 574 44 ≠ 0 := by omega) (h3 : -2147483648 ≤ x1 ∧ x1 < 2147483648 := by omega) :
  CD mt (d + 1) 190 [.ref 574, iv x1] (G fi fl cr sh nx sl) = some (.returned (some (iv (-1))), (G (up fi 574 0 0) fl cr sh nx sl)) :=
  Eq.trans (CD_at (ls := [.ref 574, iv x1]) _ _ mt_X7_ran rfl rfl) <|
  Eq.trans (e_ldA lin_X7_ran n_X7_ran_0 rfl) <|
  Eq.trans (e_KI lin_X7_ran n_X7_ran_1 k_0) <|
  Eq.trans (e_putI lin_X7_ran n_X7_ran_2 rfl (s_574 hS) rfl (j := 0) rfl) <|
  Eq.trans (e_ldA lin_X7_ran n_X7_ran_5 rfl) <|
  Eq.trans (e_getI lin_X7_ran n_X7_ran_6 (s_574 hS) rfl (j := 44) rfl (v := fi 574 44) rfl) <|
  Eq.trans (e_IfEqF lin_X7_ran n_X7_ran_9 h1 h2) <|
  Eq.trans (e_ldI lin_X7_ran n_X7_ran_14 rfl) <|
  Eq.trans (e_swD lin_X7_ran n_X7_ran_15 h3 rfl h4) <|
  Eq.trans (e_KI lin_X7_ran n_X7_ran_105 k_m1) <|
  e_retI lin_X7_ran n_X7_ran_106
theorem c_X7_bar_T {fi fl : HI} {cr : HR} {sh : HS} {nx sl d : Nat} {x1 x2 : Int} (hS : Stat cr sh) (h1 : -2147483648 ≤ fi 574 44 ∧ fi 574 44 < 2147483648 := by omega) (h2 : fi 574 44 = 0 := by omega) :
  CD mt (d + 2) 191 [.ref 574, iv x1, iv x2] (G fi fl cr sh nx sl) = some (.returned (some (iv 0)), (G (up fi 574 0 1) fl cr sh nx sl)) :=
  Eq.trans (CD_at (ls := [.ref 574, iv x1, iv x2]) _ _ mt_X7_bar rfl rfl) <|
  Eq.trans (e_ldA lin_X7_bar n_X7_bar_0 rfl) <|
  Eq.trans (e_ldA lin_X7_bar n_X7_bar_1 rfl) <|
  Eq.trans (e_getI lin_X7_bar n_X7_bar_2 (s_574 hS) rfl (j := 44) rfl (v := fi 574 44) rfl) <|
  Eq.trans (e_IfEqT lin_X7_bar n_X7_bar_5 h1 h2) <|
  Eq.trans (e_KI lin_X7_bar n_X7_bar_34 k_1) <|
  Eq.trans (e_goto lin_X7_bar n_X7_bar_35) <|
  Eq.trans (e_calV lin_X7_bar n_X7_bar_39 rfl (s_574 hS) rfl rfl (v := iv 1) (g' := (G (up fi 574 0 1) fl cr sh nx sl)) (c_X7_throwsIf_F hS (by decide) (by decide) (by decide))) <|
  Eq.trans (e_IfEqF lin_X7_bar n_X7_bar_42 (by decide) (by decide)) <|
  Eq.trans (e_KI lin_X7_bar n_X7_bar_45 k_0) <|
  e_retI lin_X7_bar n_X7_bar_46
theorem c_X7_bar_FTT {fi fl : HI} {cr : HR} {sh : HS} {nx sl d : Nat} {x1 x2 : Int} (hS : Stat cr sh) (h1 : -2147483648 ≤ fi 574 44 ∧ fi 574 44 < 2147483648 := by omega) (h2 : fi 574 44 ≠ 0 := by omega) (h3 : -2147483648 ≤ x1 ∧ x1 < 2147483648 := by omega) (h4 : -2147483648 ≤ fi 591 1 - 1 ∧ fi 591 1 - 1 < 2147483648 := by omega) (h5 : 0 ≤ x1 ∧ x1 ≤ fi 591 1 - 1 := by omega) (h6 : -2147483648 ≤ x2 ∧ x2 < 2147483648 := by omega) (h7 : 1 ≤ x2 ∧ x2 ≤ 12 := by omega) (h8 : 0 ≤ 720 + (12 * x1) + x2 - 1 := by omega) (h9 : 720 + (12 * x1) + x2 - 1 < 2160 := by omega) :
  CD mt (d + 2) 191 [.ref 574, iv x1, iv x2] (G fi fl cr sh nx sl) = some (.returned (some (iv (fi 593 (720 + (12 * x1) + x2 - 1)))), (G (up fi 574 0 0) fl cr sh nx sl)) :=
  Eq.trans (CD_at (ls := [.ref 574, iv x1, iv x2]) _ _ mt_X7_bar rfl rfl) <|
  Eq.trans (e_ldA lin_X7_bar n_X7_bar_0 rfl) <|
  Eq.trans (e_ldA lin_X7_bar n_X7_bar_1 rfl) <|
  Eq.trans (e_getI lin_X7_bar n_X7_bar_2 (s_574 hS) rfl (j := 44) rfl (v := fi 574 44) rfl) <|
  Eq.trans (e_IfEqF lin_X7_bar n_X7_bar_5 h1 h2) <|
  Eq.trans (e_ldI lin_X7_bar n_X7_bar_8 rfl) <|
  Eq.trans (e_KI lin_X7_bar n_X7_bar_9 k_0) <|
  Eq.trans (e_ldA lin_X7_bar n_X7_bar_10 rfl) <|
  Eq.trans (e_getR lin_X7_bar n_X7_bar_11 (s_574 hS) rfl (j := 31) rfl (rr_574_31 hS)) <|
  Eq.trans (e_KI lin_X7_bar n_X7_bar_14 k_1) <|
  Eq.trans (e_aldI lin_X7_bar n_X7_bar_15 (s_591 hS) (by decide) (by decide) (by decide) (v := fi 591 1) rfl) <|
  Eq.trans (e_KI lin_X7_bar n_X7_bar_16 k_1) <|
  Eq.trans (e_sub lin_X7_bar n_X7_bar_17 (z := fi 591 1 - 1) rfl) <|
  Eq.trans (e_calS lin_X7_bar n_X7_bar_18 rfl rfl (b_X7_isIn_T h3 (by decide) h4 h5)) <|
  Eq.trans (e_IfEqF lin_X7_bar n_X7_bar_21 (by decide) (by decide)) <|
  Eq.trans (e_ldI lin_X7_bar n_X7_bar_24 rfl) <|
  Eq.trans (e_KI lin_X7_bar n_X7_bar_25 k_1) <|
  Eq.trans (e_KI lin_X7_bar n_X7_bar_26 k_12) <|
  Eq.trans (e_calS lin_X7_bar n_X7_bar_28 rfl rfl (b_X7_isIn_T h6 (by decide) (by decide) h7)) <|
  Eq.trans (e_IfEqF lin_X7_bar n_X7_bar_31 (by decide) (by decide)) <|
  Eq.trans (e_KI lin_X7_bar n_X7_bar_38 k_0) <|
  Eq.trans (e_calV lin_X7_bar n_X7_bar_39 rfl (s_574 hS) rfl rfl (v := iv 0) (g' := (G (up fi 574 0 0) fl cr sh nx sl)) (c_X7_throwsIf_T hS (by decide) (by decide) (by decide))) <|
  Eq.trans (e_IfEqT lin_X7_bar n_X7_bar_42 (by decide) (by decide)) <|
  Eq.trans (e_ldA lin_X7_bar n_X7_bar_47 rfl) <|
  Eq.trans (e_getR lin_X7_bar n_X7_bar_48 (s_574 hS) rfl (j := 33) rfl (rr_574_33 hS)) <|
  Eq.trans (e_KI lin_X7_bar n_X7_bar_51 k_720) <|
  Eq.trans (e_KI lin_X7_bar n_X7_bar_54 k_12) <|
  Eq.trans (e_ldI lin_X7_bar n_X7_bar_56 rfl) <|
  Eq.trans (e_mul lin_X7_bar n_X7_bar_57 (z := 12 * x1) rfl) <|
  Eq.trans (e_add lin_X7_bar n_X7_bar_58 (z := 720 + (12 * x1)) rfl) <|
  Eq.trans (e_ldI lin_X7_bar n_X7_bar_59 rfl) <|
  Eq.trans (e_add lin_X7_bar n_X7_bar_60 (z := 720 + (12 * x1) + x2) rfl) <|
  Eq.trans (e_KI lin_X7_bar n_X7_bar_61 k_1) <|
  Eq.trans (e_sub lin_X7_bar n_X7_bar_62 (z := 720 + (12 * x1) + x2 - 1) rfl) <|
  Eq.trans (e_aldI lin_X7_bar n_X7_bar_63 (s_593 hS) h8 h9 (by decide) (v := fi 593 (720 + (12 * x1) + x2 - 1)) rfl) <|
  e_retI lin_X7_bar n_X7_bar_64
theorem c_X7_bar_FTF {fi fl : HI} {cr : HR} {sh : HS} {nx sl d : Nat} {x1 x2 : Int} (hS : Stat cr sh) (h1 : -2147483648 ≤ fi 574 44 ∧ fi 574 44 < 2147483648 := by omega) (h2 : fi 574 44 ≠ 0 := by omega) (h3 : -2147483648 ≤ x1 ∧ x1 < 2147483648 := by omega) (h4 : -2147483648 ≤ fi 591 1 - 1 ∧ fi 591 1 - 1 < 2147483648 := by omega) (h5 : 0 ≤ x1 ∧ x1 ≤ fi 591 1 - 1 := by omega) (h6 : -2147483648 ≤ x2 ∧ x2 < 2147483648 := by omega) (h7 : ¬ (1 ≤ x2 ∧ x2 ≤ 12) := by omega) :
  CD mt (d + 2) 191 [.ref 574, iv x1, iv x2] (G fi fl cr sh nx sl) = some (.returned (some (iv 0)), (G (up fi 574 0 1) fl cr sh nx sl)) :=
  Eq.trans (CD_at (ls := [.ref 574, iv x1, iv x2]) _ _ mt_X7_bar rfl rfl) <|
  Eq.trans (e_ldA lin_X7_bar n_X7_bar_0 rfl) <|
  Eq.trans (e_ldA lin_X7_bar n_X7_bar_1 rfl) <|
  Eq.trans (e_getI lin_X7_bar n_X7_bar_2 (s_574 hS) rfl (j := 44) rfl (v := fi 574 44) rfl) <|
  Eq.trans (e_IfEqF lin_X7_bar n_X7_bar_5 h1 h2) <|
  Eq.trans (e_ldI lin_X7_bar n_X7_bar_8 rfl) <|
  Eq.trans (e_KI lin_X7_bar n_X7_bar_9 k_0) <|
  Eq.trans (e_ldA lin_X7_bar n_X7_bar_10 rfl) <|
  Eq.trans (e_getR lin_X7_bar n_X7_bar_11 (s_574 hS) rfl (j := 31) rfl (rr_574_31 hS)) <|
  Eq.trans (e_KI lin_X7_bar n_X7_bar_14 k_1) <|
  Eq.trans (e_aldI lin_X7_bar n_X7_bar_15 (s_591 hS) (by decide) (by decide) (by decide) (v := fi 591 1) rfl) <|
  Eq.trans (e_KI lin_X7_bar n_X7_bar_16 k_1) <|
  Eq.trans (e_sub lin_X7_bar n_X7_bar_17 (z := fi 591 1 - 1) rfl) <|
  Eq.trans (e_calS lin_X7_bar n_X7_bar_18 rfl rfl (b_X7_isIn_T h3 (by decide) h4 h5)) <|
  Eq.trans (e_IfEqF lin_X7_bar n_X7_bar_21 (by decide) (by decide)) <|
  Eq.trans (e_ldI lin_X7_bar n_X7_bar_24 rfl) <|
  Eq.trans (e_KI lin_X7_bar n_X7_bar_25 k_1) <|
  Eq.trans (e_KI lin_X7_bar n_X7_bar_26 k_12) <|
  Eq.trans (e_calS lin_X7_bar n_X7_bar_28 rfl rfl (b_X7_isIn_F h6 (by decide) (by decide) h7)) <|
  Eq.trans (e_IfEqT lin_X7_bar n_X7_bar_31 (by decide) (by decide)) <|
  Eq.trans (e_KI lin_X7_bar n_X7_bar_34 k_1) <|
  Eq.trans (e_goto lin_X7_bar n_X7_bar_35) <|
  Eq.trans (e_calV lin_X7_bar n_X7_bar_39 rfl (s_574 hS) rfl rfl (v := iv 1) (g' := (G (up fi 574 0 1) fl cr sh nx sl)) (c_X7_throwsIf_F hS (by decide) (by decide) (by decide))) <|
  Eq.trans (e_IfEqF lin_X7_bar n_X7_bar_42 (by decide) (by decide)) <|
  Eq.trans (e_KI lin_X7_bar n_X7_bar_45 k_0) <|
  e_retI lin_X7_bar n_X7_bar_46
theorem c_X7_bar_FF {fi fl : HI} {cr : HR} {sh : HS} {nx sl d : Nat} {x1 x2 : Int} (hS : Stat cr sh) (h1 : -2147483648 ≤ fi 574 44 ∧ fi 574 44 < 2147483648 := by omega) (h2 : fi 574 44 ≠ 0 := by omega) (h3 : -2147483648 ≤ x1 ∧ x1 < 2147483648 := by omega) (h4 : -2147483648 ≤ fi 591 1 - 1 ∧ fi 591 1 - 1 < 2147483648 := by omega) (h5 : ¬ (0 ≤ x1 ∧ x1 ≤ fi 591 1 - 1) := by omega) :
  CD mt (d + 2) 191 [.ref 574, iv x1, iv x2] (G fi fl cr sh nx sl) = some (.returned (some (iv 0)), (G (up fi 574 0 1) fl cr sh nx sl)) :=
  Eq.trans (CD_at (ls := [.ref 574, iv x1, iv x2]) _ _ mt_X7_bar rfl rfl) <|
  Eq.trans (e_ldA lin_X7_bar n_X7_bar_0 rfl) <|
  Eq.trans (e_ldA lin_X7_bar n_X7_bar_1 rfl) <|
  Eq.trans (e_getI lin_X7_bar n_X7_bar_2 (s_574 hS) rfl (j := 44) rfl (v := fi 574 44) rfl) <|
  Eq.trans (e_IfEqF lin_X7_bar n_X7_bar_5 h1 h2) <|
  Eq.trans (e_ldI lin_X7_bar n_X7_bar_8 rfl) <|
  Eq.trans (e_KI lin_X7_bar n_X7_bar_9 k_0) <|
  Eq.trans (e_ldA lin_X7_bar n_X7_bar_10 rfl) <|
  Eq.trans (e_getR lin_X7_bar n_X7_bar_11 (s_574 hS) rfl (j := 31) rfl (rr_574_31 hS)) <|
  Eq.trans (e_KI lin_X7_bar n_X7_bar_14 k_1) <|
  Eq.trans (e_aldI lin_X7_bar n_X7_bar_15 (s_591 hS) (by decide) (by decide) (by decide) (v := fi 591 1) rfl) <|
  Eq.trans (e_KI lin_X7_bar n_X7_bar_16 k_1) <|
  Eq.trans (e_sub lin_X7_bar n_X7_bar_17 (z := fi 591 1 - 1) rfl) <|
  Eq.trans (e_calS lin_X7_bar n_X7_bar_18 rfl rfl (b_X7_isIn_F h3 (by decide) h4 h5)) <|
  Eq.trans (e_IfEqT lin_X7_bar n_X7_bar_21 (by decide) (by decide)) <|
  Eq.trans (e_KI lin_X7_bar n_X7_bar_34 k_1) <|
  Eq.trans (e_goto lin_X7_bar n_X7_bar_35) <|
  Eq.trans (e_calV lin_X7_bar n_X7_bar_39 rfl (s_574 hS) rfl rfl (v := iv 1) (g' := (G (up fi 574 0 1) fl cr sh nx sl)) (c_X7_throwsIf_F hS (by decide) (by decide) (by decide))) <|
  Eq.trans (e_IfEqF lin_X7_bar n_X7_bar_42 (by decide) (by decide)) <|
  Eq.trans (e_KI lin_X7_bar n_X7_bar_45 k_0) <|
  e_retI lin_X7_bar n_X7_bar_46
theorem c_X7_wheel_T {fi fl : HI} {cr : HR} {sh : HS} {nx sl d : Nat} {x1 : Int} (hS : Stat cr sh) (h1 : -2147483648 ≤ fi 574 44 ∧ fi 574 44 < 2147483648 := by omega) (h2 : fi 574 44 = 0 := by omega) :
  CD mt (d + 2) 192 [.ref 574, iv x1] (G fi fl cr sh nx sl) = some (.returned (some (iv 0)), (G (up fi 574 0 1) fl cr sh nx sl)) :=
  Eq.trans (CD_at (ls := [.ref 574, iv x1]) _ _ mt_X7_wheel rfl rfl) <|
  Eq.trans (e_ldA lin_X7_wheel n_X7_wheel_0 rfl) <|
  Eq.trans (e_ldA lin_X7_wheel n_X7_wheel_1 rfl) <|
  Eq.trans (e_getI lin_X7_wheel n_X7_wheel_2 (s_574 hS) rfl (j := 44) rfl (v := fi 574 44) rfl) <|
  Eq.trans (e_IfEqT lin_X7_wheel n_X7_wheel_5 h1 h2) <|
  Eq.trans (e_KI lin_X7_wheel n_X7_wheel_17 k_1) <|
  Eq.trans (e_goto lin_X7_wheel n_X7_wheel_18) <|
  Eq.trans (e_calV lin_X7_wheel n_X7_wheel_22 rfl (s_574 hS) rfl rfl (v := iv 1) (g' := (G (up fi 574 0 1) fl cr sh nx sl)) (c_X7_throwsIf_F hS (by decide) (by decide) (by decide))) <|
  Eq.trans (e_IfEqF lin_X7_wheel n_X7_wheel_25 (by decide) (by decide)) <|
  Eq.trans (e_KI lin_X7_wheel n_X7_wheel_28 k_0) <|
  e_retI lin_X7_wheel n_X7_wheel_29
theorem c_X7_wheel_FT {fi fl : HI} {cr : HR} {sh : HS} {nx sl d : Nat} {x1 : Int} (hS : Stat cr sh) (h1 : -2147483648 ≤ fi 574 44 ∧ fi 574 44 < 2147483648 := by omega) (h2 : fi 574 44 ≠ 0 := by omega) (h3 : -2147483648 ≤ x1 ∧ x1 < 2147483648 := by omega) (h4 : 1 ≤ x1 ∧ x1 ≤ 4 := by omega) (h5 : 0 ≤ 4 + x1 - 1 := by omega) (h6 : 4 + x1 - 1 < 12 := by omega) :
  CD mt (d + 2) 192 [.ref 574, iv x1] (G fi fl cr sh nx sl) = some (.returned (some (iv (fi 594 (4 + x1 - 1)))), (G (up fi 574 0 0) fl cr sh nx sl)) :=
  Eq.trans (CD_at (ls := [.ref 574, iv x1]) _ _ mt_X7_wheel rfl rfl) <|
  Eq.trans (e_ldA lin_X7_wheel n_X7_wheel_0 rfl) <|
  Eq.trans (e_ldA lin_X7_wheel n_X7_wheel_1 rfl) <|
  Eq.trans (e_getI lin_X7_wheel n_X7_wheel_2 (s_574 hS) rfl (j := 44) rfl (v := fi 574 44) rfl) <|
  Eq.trans (e_IfEqF lin_X7_wheel n_X7_wheel_5 h1 h2) <|
  Eq.trans (e_ldI lin_X7_wheel n_X7_wheel_8 rfl) <|
  Eq.trans (e_KI lin_X7_wheel n_X7_wheel_9 k_1) <|
  Eq.trans (e_KI lin_X7_wheel n_X7_wheel_10 k_4) <|
  Eq.trans (e_calS lin_X7_wheel n_X7_wheel_11 rfl rfl (b_X7_isIn_T h3 (by decide) (by decide) h4)) <|
  Eq.trans (e_IfEqF lin_X7_wheel n_X7_wheel_14 (by decide) (by decide)) <|
  Eq.trans (e_KI lin_X7_wheel n_X7_wheel_21 k_0) <|
  Eq.trans (e_calV lin_X7_wheel n_X7_wheel_22 rfl (s_574 hS) rfl rfl (v := iv 0) (g' := (G (up fi 574 0 0) fl cr sh nx sl)) (c_X7_throwsIf_T hS (by decide) (by decide) (by decide))) <|
  Eq.trans (e_IfEqT lin_X7_wheel n_X7_wheel_25 (by decide) (by decide)) <|
  Eq.trans (e_ldA lin_X7_wheel n_X7_wheel_30 rfl) <|
  Eq.trans (e_getR lin_X7_wheel n_X7_wheel_31 (s_574 hS) rfl (j := 34) rfl (rr_574_34 hS)) <|
  Eq.trans (e_KI lin_X7_wheel n_X7_wheel_34 k_4) <|
  Eq.trans (e_ldI lin_X7_wheel n_X7_wheel_35 rfl) <|
  Eq.trans (e_add lin_X7_wheel n_X7_wheel_36 (z := 4 + x1) rfl) <|
  Eq.trans (e_KI lin_X7_wheel n_X7_wheel_37 k_1) <|
  Eq.trans (e_sub lin_X7_wheel n_X7_wheel_38 (z := 4 + x1 - 1) rfl) <|
  Eq.trans (e_aldI lin_X7_wheel n_X7_wheel_39 (s_594 hS) h5 h6 (by decide) (v := fi 594 (4 + x1 - 1)) rfl) <|
  e_retI lin_X7_wheel n_X7_wheel_40
theorem c_X7_wheel_FF {fi fl : HI} {cr : HR} {sh : HS} {nx sl d : Nat} {x1 : Int} (hS : Stat cr sh) (h1 : -2147483648 ≤ fi 574 44 ∧ fi 574 44 < 2147483648 := by omega) (h2 : fi 574 44 ≠ 0 := by omega) (h3 : -2147483648 ≤ x1 ∧ x1 < 2147483648 := by omega) (h4 : ¬ (1 ≤ x1 ∧ x1 ≤ 4) := by omega) :
  CD mt (d + 2) 192 [.ref 574, iv x1] (G fi fl cr sh nx sl) = some (.returned (some (iv 0)), (G (up fi 574 0 1) fl cr sh nx sl)) :=
  Eq.trans (CD_at (ls := [.ref 574, iv x1]) _ _ mt_X7_wheel rfl rfl) <|
  Eq.trans (e_ldA lin_X7_wheel n_X7_wheel_0 rfl) <|
  Eq.trans (e_ldA lin_X7_wheel n_X7_wheel_1 rfl) <|
  Eq.trans (e_getI lin_X7_wheel n_X7_wheel_2 (s_574 hS) rfl (j := 44) rfl (v := fi 574 44) rfl) <|
  Eq.trans (e_IfEqF lin_X7_wheel n_X7_wheel_5 h1 h2) <|
  Eq.trans (e_ldI lin_X7_wheel n_X7_wheel_8 rfl) <|
  Eq.trans (e_KI lin_X7_wheel n_X7_wheel_9 k_1) <|
  Eq.trans (e_KI lin_X7_wheel n_X7_wheel_10 k_4) <|
  Eq.trans (e_calS lin_X7_wheel n_X7_wheel_11 rfl rfl (b_X7_isIn_F h3 (by decide) (by decide) h4)) <|
  Eq.trans (e_IfEqT lin_X7_wheel n_X7_wheel_14 (by decide) (by decide)) <|
  Eq.trans (e_KI lin_X7_wheel n_X7_wheel_17 k_1) <|
  Eq.trans (e_goto lin_X7_wheel n_X7_wheel_18) <|
  Eq.trans (e_calV lin_X7_wheel n_X7_wheel_22 rfl (s_574 hS) rfl rfl (v := iv 1) (g' := (G (up fi 574 0 1) fl cr sh nx sl)) (c_X7_throwsIf_F hS (by decide) (by decide) (by decide))) <|
  Eq.trans (e_IfEqF lin_X7_wheel n_X7_wheel_25 (by decide) (by decide)) <|
  Eq.trans (e_KI lin_X7_wheel n_X7_wheel_28 k_0) <|
  e_retI lin_X7_wheel n_X7_wheel_29
theorem c_X7_neededSet {fi fl : HI} {cr : HR} {sh : HS} {nx sl d : Nat}  (hS : Stat cr sh) :
  CD mt (d + 1) 198 [.ref 574] (G fi fl cr sh nx sl) = some (.returned (some (iv (fi 574 47))), (G (up fi 574 0 0) fl cr sh nx sl)) :=
  Eq.trans (CD_at (ls := [.ref 574]) _ _ mt_X7_neededSet rfl rfl) <|
  Eq.trans (e_ldA lin_X7_neededSet n_X7_neededSet_0 rfl) <|
  Eq.trans (e_KI lin_X7_neededSet n_X7_neededSet_1 k_0) <|
  Eq.trans (e_putI lin_X7_neededSet n_X7_neededSet_2 rfl (s_574 hS) rfl (j := 0) rfl) <|
  Eq.trans (e_ldA lin_X7_neededSet n_X7_neededSet_5 rfl) <|
  Eq.trans (e_getI lin_X7_neededSet n_X7_neededSet_6 (s_574 hS) rfl (j := 47) rfl (v := fi 574 47) rfl) <|
  e_retI lin_X7_neededSet n_X7_neededSet_9
theorem c_X7_wire_T {fi fl : HI} {cr : HR} {sh : HS} {nx sl d : Nat} {x1 : Int} (hS : Stat cr sh) (h1 : -2147483648 ≤ x1 ∧ x1 < 2147483648 := by omega) (h2 : -2147483648 ≤ fi 574 53 - 1 ∧ fi 574 53 - 1 < 2147483648 := by omega) (h3 : 0 ≤ x1 ∧ x1 ≤ fi 574 53 - 1 := by omega) (h4 : 0 ≤ x1 := by omega) (h5 : x1 < 60 := by omega) :
  CD mt (d + 2) 204 [.ref 574, iv x1] (G fi fl cr sh nx sl) = some (.returned (some (iv (fi 603 x1))), (G (up fi 574 0 0) fl cr sh nx sl)) :=
  Eq.trans (CD_at (ls := [.ref 574, iv x1]) _ _ mt_X7_wire rfl rfl) <|
  Eq.trans (e_ldA lin_X7_wire n_X7_wire_0 rfl) <|
  Eq.trans (e_KI lin_X7_wire n_X7_wire_1 k_0) <|
  Eq.trans (e_putI lin_X7_wire n_X7_wire_2 rfl (s_574 hS) rfl (j := 0) rfl) <|
  Eq.trans (e_ldI lin_X7_wire n_X7_wire_5 rfl) <|
  Eq.trans (e_KI lin_X7_wire n_X7_wire_6 k_0) <|
  Eq.trans (e_ldA lin_X7_wire n_X7_wire_7 rfl) <|
  Eq.trans (e_getI lin_X7_wire n_X7_wire_8 (s_574 hS) rfl (j := 53) rfl (v := fi 574 53) rfl) <|
  Eq.trans (e_KI lin_X7_wire n_X7_wire_11 k_1) <|
  Eq.trans (e_sub lin_X7_wire n_X7_wire_12 (z := fi 574 53 - 1) rfl) <|
  Eq.trans (e_calS lin_X7_wire n_X7_wire_13 rfl rfl (b_X7_isIn_T h1 (by decide) h2 h3)) <|
  Eq.trans (e_IfEqF lin_X7_wire n_X7_wire_16 (by decide) (by decide)) <|
  Eq.trans (e_ldA lin_X7_wire n_X7_wire_19 rfl) <|
  Eq.trans (e_getR lin_X7_wire n_X7_wire_20 (s_574 hS) rfl (j := 48) rfl (rr_574_48 hS)) <|
  Eq.trans (e_ldI lin_X7_wire n_X7_wire_23 rfl) <|
  Eq.trans (e_aldI lin_X7_wire n_X7_wire_24 (s_603 hS) h4 h5 (by decide) (v := fi 603 x1) rfl) <|
  Eq.trans (e_goto lin_X7_wire n_X7_wire_25) <|
  e_retI lin_X7_wire n_X7_wire_29
theorem c_X7_wire_F {fi fl : HI} {cr : HR} {sh : HS} {nx sl d : Nat} {x1 : Int} (hS : Stat cr sh) (h1 : -2147483648 ≤ x1 ∧ x1 < 2147483648 := by omega) (h2 : -2147483648 ≤ fi 574 53 - 1 ∧ fi 574 53 - 1 < 2147483648 := by omega) (h3 : ¬ (0 ≤ x1 ∧ x1 ≤ fi 574 53 - 1) := by omega) :
  CD mt (d + 2) 204 [.ref 574, iv x1] (G fi fl cr sh nx sl) = some (.returned (some (iv (-1))), (G (up fi 574 0 0) fl cr sh nx sl)) :=
  Eq.trans (CD_at (ls := [.ref 574, iv x1]) _ _ mt_X7_wire rfl rfl) <|
  Eq.trans (e_ldA lin_X7_wire n_X7_wire_0 rfl) <|
  Eq.trans (e_KI lin_X7_wire n_X7_wire_1 k_0) <|
  Eq.trans (e_putI lin_X7_wire n_X7_wire_2 rfl (s_574 hS) rfl (j := 0) rfl) <|
  Eq.trans (e_ldI lin_X7_wire n_X7_wire_5 rfl) <|
  Eq.trans (e_KI lin_X7_wire n_X7_wire_6 k_0) <|
  Eq.trans (e_ldA lin_X7_wire n_X7_wire_7 rfl) <|
  Eq.trans (e_getI lin_X7_wire n_X7_wire_8 (s_574 hS) rfl (j := 53) rfl (v := fi 574 53) rfl) <|
  Eq.trans (e_KI lin_X7_wire n_X7_wire_11 k_1) <|
  Eq.trans (e_sub lin_X7_wire n_X7_wire_12 (z := fi 574 53 - 1) rfl) <|
  Eq.trans (e_calS lin_X7_wire n_X7_wire_13 rfl rfl (b_X7_isIn_F h1 (by decide) h2 h3)) <|
  Eq.trans (e_IfEqT lin_X7_wire n_X7_wire_16 (by decide) (by decide)) <|
  Eq.trans (e_KI lin_X7_wire n_X7_wire_28 k_m1) <|
  e_retI lin_X7_wire n_X7_wire_29
theorem c_X7_testSet {fi fl : HI} {cr : HR} {sh : HS} {nx sl d : Nat}  (hS : Stat cr sh) :
  CD mt (d + 1) 206 [.ref 574] (G fi fl cr sh nx sl) = some (.returned (some (iv (fi 574 56))), (G (up fi 574 0 0) fl cr sh nx sl)) :=
  Eq.trans (CD_at (ls := [.ref 574]) _ _ mt_X7_testSet rfl rfl) <|
  Eq.trans (e_ldA lin_X7_testSet n_X7_testSet_0 rfl) <|
  Eq.trans (e_KI lin_X7_testSet n_X7_testSet_1 k_0) <|
  Eq.trans (e_putI lin_X7_testSet n_X7_testSet_2 rfl (s_574 hS) rfl (j := 0) rfl) <|
  Eq.trans (e_ldA lin_X7_testSet n_X7_testSet_5 rfl) <|
  Eq.trans (e_getI lin_X7_testSet n_X7_testSet_6 (s_574 hS) rfl (j := 56) rfl (v := fi 574 56) rfl) <|
  e_retI lin_X7_testSet n_X7_testSet_9
theorem c_X7_shown {fi fl : HI} {cr : HR} {sh : HS} {nx sl d : Nat}  (hS : Stat cr sh) :
  CD mt (d + 1) 207 [.ref 574] (G fi fl cr sh nx sl) = some (.returned (some (iv (fi 574 57))), (G (up fi 574 0 0) fl cr sh nx sl)) :=
  Eq.trans (CD_at (ls := [.ref 574]) _ _ mt_X7_shown rfl rfl) <|
  Eq.trans (e_ldA lin_X7_shown n_X7_shown_0 rfl) <|
  Eq.trans (e_KI lin_X7_shown n_X7_shown_1 k_0) <|
  Eq.trans (e_putI lin_X7_shown n_X7_shown_2 rfl (s_574 hS) rfl (j := 0) rfl) <|
  Eq.trans (e_ldA lin_X7_shown n_X7_shown_5 rfl) <|
  Eq.trans (e_getI lin_X7_shown n_X7_shown_6 (s_574 hS) rfl (j := 57) rfl (v := fi 574 57) rfl) <|
  e_retI lin_X7_shown n_X7_shown_9
theorem c_X7_unseenAt_T {fi fl : HI} {cr : HR} {sh : HS} {nx sl d : Nat} {x1 : Int} (hS : Stat cr sh) (h1 : -2147483648 ≤ x1 ∧ x1 < 2147483648 := by omega) (h2 : -2147483648 ≤ fi 574 54 - 1 ∧ fi 574 54 - 1 < 2147483648 := by omega) (h3 : 0 ≤ x1 ∧ x1 ≤ fi 574 54 - 1 := by omega) (h4 : 0 ≤ x1 := by omega) (h5 : x1 < 40 := by omega) :
  CD mt (d + 2) 209 [.ref 574, iv x1] (G fi fl cr sh nx sl) = some (.returned (some (iv (fi 604 x1))), (G (up fi 574 0 0) fl cr sh nx sl)) :=
  Eq.trans (CD_at (ls := [.ref 574, iv x1]) _ _ mt_X7_unseenAt rfl rfl) <|
  Eq.trans (e_ldA lin_X7_unseenAt n_X7_unseenAt_0 rfl) <|
  Eq.trans (e_KI lin_X7_unseenAt n_X7_unseenAt_1 k_0) <|
  Eq.trans (e_putI lin_X7_unseenAt n_X7_unseenAt_2 rfl (s_574 hS) rfl (j := 0) rfl) <|
  Eq.trans (e_ldI lin_X7_unseenAt n_X7_unseenAt_5 rfl) <|
  Eq.trans (e_KI lin_X7_unseenAt n_X7_unseenAt_6 k_0) <|
  Eq.trans (e_ldA lin_X7_unseenAt n_X7_unseenAt_7 rfl) <|
  Eq.trans (e_getI lin_X7_unseenAt n_X7_unseenAt_8 (s_574 hS) rfl (j := 54) rfl (v := fi 574 54) rfl) <|
  Eq.trans (e_KI lin_X7_unseenAt n_X7_unseenAt_11 k_1) <|
  Eq.trans (e_sub lin_X7_unseenAt n_X7_unseenAt_12 (z := fi 574 54 - 1) rfl) <|
  Eq.trans (e_calS lin_X7_unseenAt n_X7_unseenAt_13 rfl rfl (b_X7_isIn_T h1 (by decide) h2 h3)) <|
  Eq.trans (e_IfEqF lin_X7_unseenAt n_X7_unseenAt_16 (by decide) (by decide)) <|
  Eq.trans (e_ldA lin_X7_unseenAt n_X7_unseenAt_19 rfl) <|
  Eq.trans (e_getR lin_X7_unseenAt n_X7_unseenAt_20 (s_574 hS) rfl (j := 49) rfl (rr_574_49 hS)) <|
  Eq.trans (e_ldI lin_X7_unseenAt n_X7_unseenAt_23 rfl) <|
  Eq.trans (e_aldI lin_X7_unseenAt n_X7_unseenAt_24 (s_604 hS) h4 h5 (by decide) (v := fi 604 x1) rfl) <|
  Eq.trans (e_goto lin_X7_unseenAt n_X7_unseenAt_25) <|
  e_retI lin_X7_unseenAt n_X7_unseenAt_29
theorem c_X7_unseenAt_F {fi fl : HI} {cr : HR} {sh : HS} {nx sl d : Nat} {x1 : Int} (hS : Stat cr sh) (h1 : -2147483648 ≤ x1 ∧ x1 < 2147483648 := by omega) (h2 : -2147483648 ≤ fi 574 54 - 1 ∧ fi 574 54 - 1 < 2147483648 := by omega) (h3 : ¬ (0 ≤ x1 ∧ x1 ≤ fi 574 54 - 1) := by omega) :
  CD mt (d + 2) 209 [.ref 574, iv x1] (G fi fl cr sh nx sl) = some (.returned (some (iv (-1))), (G (up fi 574 0 0) fl cr sh nx sl)) :=
  Eq.trans (CD_at (ls := [.ref 574, iv x1]) _ _ mt_X7_unseenAt rfl rfl) <|
  Eq.trans (e_ldA lin_X7_unseenAt n_X7_unseenAt_0 rfl) <|
  Eq.trans (e_KI lin_X7_unseenAt n_X7_unseenAt_1 k_0) <|
  Eq.trans (e_putI lin_X7_unseenAt n_X7_unseenAt_2 rfl (s_574 hS) rfl (j := 0) rfl) <|
  Eq.trans (e_ldI lin_X7_unseenAt n_X7_unseenAt_5 rfl) <|
  Eq.trans (e_KI lin_X7_unseenAt n_X7_unseenAt_6 k_0) <|
  Eq.trans (e_ldA lin_X7_unseenAt n_X7_unseenAt_7 rfl) <|
  Eq.trans (e_getI lin_X7_unseenAt n_X7_unseenAt_8 (s_574 hS) rfl (j := 54) rfl (v := fi 574 54) rfl) <|
  Eq.trans (e_KI lin_X7_unseenAt n_X7_unseenAt_11 k_1) <|
  Eq.trans (e_sub lin_X7_unseenAt n_X7_unseenAt_12 (z := fi 574 54 - 1) rfl) <|
  Eq.trans (e_calS lin_X7_unseenAt n_X7_unseenAt_13 rfl rfl (b_X7_isIn_F h1 (by decide) h2 h3)) <|
  Eq.trans (e_IfEqT lin_X7_unseenAt n_X7_unseenAt_16 (by decide) (by decide)) <|
  Eq.trans (e_KI lin_X7_unseenAt n_X7_unseenAt_28 k_m1) <|
  e_retI lin_X7_unseenAt n_X7_unseenAt_29
theorem c_X7_beginOf_T {fi fl : HI} {cr : HR} {sh : HS} {nx sl d : Nat} {x0 : Int} (h1 : -2147483648 ≤ x0 ∧ x0 < 2147483648 := by omega) (h2 : x0 < 20 := by omega) :
  CD mt (d + 1) 211 [iv x0] (G fi fl cr sh nx sl) = some (.returned (some (iv 0)), (G fi fl cr sh nx sl)) :=
  Eq.trans (CD_at (ls := [iv x0]) _ _ mt_X7_beginOf rfl rfl) <|
  Eq.trans (e_ldI lin_X7_beginOf n_X7_beginOf_0 rfl) <|
  Eq.trans (e_KI lin_X7_beginOf n_X7_beginOf_1 k_20) <|
  Eq.trans (e_IcLtT lin_X7_beginOf n_X7_beginOf_3 h1 (by decide) h2) <|
  Eq.trans (e_KI lin_X7_beginOf n_X7_beginOf_6 k_0) <|
  Eq.trans (e_goto lin_X7_beginOf n_X7_beginOf_7) <|
  e_retI lin_X7_beginOf n_X7_beginOf_267
theorem c_X7_beginOf_FT {fi fl : HI} {cr : HR} {sh : HS} {nx sl d : Nat} {x0 : Int} (h1 : -2147483648 ≤ x0 ∧ x0 < 2147483648 := by omega) (h2 : 20 ≤ x0 := by omega) (h3 : x0 < 40 := by omega) :
  CD mt (d + 1) 211 [iv x0] (G fi fl cr sh nx sl) = some (.returned (some (iv 20)), (G fi fl cr sh nx sl)) :=
  Eq.trans (CD_at (ls := [iv x0]) _ _ mt_X7_beginOf rfl rfl) <|
  Eq.trans (e_ldI lin_X7_beginOf n_X7_beginOf_0 rfl) <|
  Eq.trans (e_KI lin_X7_beginOf n_X7_beginOf_1 k_20) <|
  Eq.trans (e_IcLtF lin_X7_beginOf n_X7_beginOf_3 h1 (by decide) h2) <|
  Eq.trans (e_ldI lin_X7_beginOf n_X7_beginOf_10 rfl) <|
  Eq.trans (e_KI lin_X7_beginOf n_X7_beginOf_11 k_40) <|
  Eq.trans (e_IcLtT lin_X7_beginOf n_X7_beginOf_13 h1 (by decide) h3) <|
  Eq.trans (e_KI lin_X7_beginOf n_X7_beginOf_16 k_20) <|
  Eq.trans (e_goto lin_X7_beginOf n_X7_beginOf_18) <|
  e_retI lin_X7_beginOf n_X7_beginOf_267
theorem c_X7_beginOf_FFT {fi fl : HI} {cr : HR} {sh : HS} {nx sl d : Nat} {x0 : Int} (h1 : -2147483648 ≤ x0 ∧ x0 < 2147483648 := by omega) (h2 : 20 ≤ x0 := by omega) (h3 : 40 ≤ x0 := by omega) (h4 : x0 < 60 := by omega) :
  CD mt (d + 1) 211 [iv x0] (G fi fl cr sh nx sl) = some (.returned (some (iv 40)), (G fi fl cr sh nx sl)) :=
  Eq.trans (CD_at (ls := [iv x0]) _ _ mt_X7_beginOf rfl rfl) <|
  Eq.trans (e_ldI lin_X7_beginOf n_X7_beginOf_0 rfl) <|
  Eq.trans (e_KI lin_X7_beginOf n_X7_beginOf_1 k_20) <|
  Eq.trans (e_IcLtF lin_X7_beginOf n_X7_beginOf_3 h1 (by decide) h2) <|
  Eq.trans (e_ldI lin_X7_beginOf n_X7_beginOf_10 rfl) <|
  Eq.trans (e_KI lin_X7_beginOf n_X7_beginOf_11 k_40) <|
  Eq.trans (e_IcLtF lin_X7_beginOf n_X7_beginOf_13 h1 (by decide) h3) <|
  Eq.trans (e_ldI lin_X7_beginOf n_X7_beginOf_21 rfl) <|
  Eq.trans (e_KI lin_X7_beginOf n_X7_beginOf_22 k_60) <|
  Eq.trans (e_IcLtT lin_X7_beginOf n_X7_beginOf_24 h1 (by decide) h4) <|
  Eq.trans (e_KI lin_X7_beginOf n_X7_beginOf_27 k_40) <|
  Eq.trans (e_goto lin_X7_beginOf n_X7_beginOf_29) <|
  e_retI lin_X7_beginOf n_X7_beginOf_267
theorem c_X7_beginOf_FFFT {fi fl : HI} {cr : HR} {sh : HS} {nx sl d : Nat} {x0 : Int} (h1 : -2147483648 ≤ x0 ∧ x0 < 2147483648 := by omega) (h2 : 20 ≤ x0 := by omega) (h3 : 40 ≤ x0 := by omega) (h4 : 60 ≤ x0 := by omega) (h5 : x0 < 61 := by omega) :
  CD mt (d + 1) 211 [iv x0] (G fi fl cr sh nx sl) = some (.returned (some (iv 60)), (G fi fl cr sh nx sl)) :=
  Eq.trans (CD_at (ls := [iv x0]) _ _ mt_X7_beginOf rfl rfl) <|
  Eq.trans (e_ldI lin_X7_beginOf n_X7_beginOf_0 rfl) <|
  Eq.trans (e_KI lin_X7_beginOf n_X7_beginOf_1 k_20) <|
  Eq.trans (e_IcLtF lin_X7_beginOf n_X7_beginOf_3 h1 (by decide) h2) <|
  Eq.trans (e_ldI lin_X7_beginOf n_X7_beginOf_10 rfl) <|
  Eq.trans (e_KI lin_X7_beginOf n_X7_beginOf_11 k_40) <|
  Eq.trans (e_IcLtF lin_X7_beginOf n_X7_beginOf_13 h1 (by decide) h3) <|
  Eq.trans (e_ldI lin_X7_beginOf n_X7_beginOf_21 rfl) <|
  Eq.trans (e_KI lin_X7_beginOf n_X7_beginOf_22 k_60) <|
  Eq.trans (e_IcLtF lin_X7_beginOf n_X7_beginOf_24 h1 (by decide) h4) <|
  Eq.trans (e_ldI lin_X7_beginOf n_X7_beginOf_32 rfl) <|
  Eq.trans (e_KI lin_X7_beginOf n_X7_beginOf_33 k_61) <|
  Eq.trans (e_IcLtT lin_X7_beginOf n_X7_beginOf_35 h1 (by decide) h5) <|
  Eq.trans (e_KI lin_X7_beginOf n_X7_beginOf_38 k_60) <|
  Eq.trans (e_goto lin_X7_beginOf n_X7_beginOf_40) <|
  e_retI lin_X7_beginOf n_X7_beginOf_267
theorem c_X7_beginOf_FFFFT {fi fl : HI} {cr : HR} {sh : HS} {nx sl d : Nat} {x0 : Int} (h1 : -2147483648 ≤ x0 ∧ x0 < 2147483648 := by omega) (h2 : 20 ≤ x0 := by omega) (h3 : 40 ≤ x0 := by omega) (h4 : 60 ≤ x0 := by omega) (h5 : 61 ≤ x0 := by omega) (h6 : x0 < 65 := by omega) :
  CD mt (d + 1) 211 [iv x0] (G fi fl cr sh nx sl) = some (.returned (some (iv 61)), (G fi fl cr sh nx sl)) :=
  Eq.trans (CD_at (ls := [iv x0]) _ _ mt_X7_beginOf rfl rfl) <|
  Eq.trans (e_ldI lin_X7_beginOf n_X7_beginOf_0 rfl) <|
  Eq.trans (e_KI lin_X7_beginOf n_X7_beginOf_1 k_20) <|
  Eq.trans (e_IcLtF lin_X7_beginOf n_X7_beginOf_3 h1 (by decide) h2) <|
  Eq.trans (e_ldI lin_X7_beginOf n_X7_beginOf_10 rfl) <|
  Eq.trans (e_KI lin_X7_beginOf n_X7_beginOf_11 k_40) <|
  Eq.trans (e_IcLtF lin_X7_beginOf n_X7_beginOf_13 h1 (by decide) h3) <|
  Eq.trans (e_ldI lin_X7_beginOf n_X7_beginOf_21 rfl) <|
  Eq.trans (e_KI lin_X7_beginOf n_X7_beginOf_22 k_60) <|
  Eq.trans (e_IcLtF lin_X7_beginOf n_X7_beginOf_24 h1 (by decide) h4) <|
  Eq.trans (e_ldI lin_X7_beginOf n_X7_beginOf_32 rfl) <|
  Eq.trans (e_KI lin_X7_beginOf n_X7_beginOf_33 k_61) <|
  Eq.trans (e_IcLtF lin_X7_beginOf n_X7_beginOf_35 h1 (by decide) h5) <|
  Eq.trans (e_ldI lin_X7_beginOf n_X7_beginOf_43 rfl) <|
  Eq.trans (e_KI lin_X7_beginOf n_X7_beginOf_44 k_65) <|
  Eq.trans (e_IcLtT lin_X7_beginOf n_X7_beginOf_46 h1 (by decide) h6) <|
  Eq.trans (e_KI lin_X7_beginOf n_X7_beginOf_49 k_61) <|
  Eq.trans (e_goto lin_X7_beginOf n_X7_beginOf_51) <|
  e_retI lin_X7_beginOf n_X7_beginOf_267
theorem c_X7_beginOf_FFFFFT {fi fl : HI} {cr : HR} {sh : HS} {nx sl d : Nat} {x0 : Int} (h1 : -2147483648 ≤ x0 ∧ x0 < 2147483648 := by omega) (h2 : 20 ≤ x0 := by omega) (h3 : 40 ≤ x0 := by omega) (h4 : 60 ≤ x0 := by omega) (h5 : 61 ≤ x0 := by omega) (h6 : 65 ≤ x0 := by omega) (h7 : x0 < 68 := by omega) :
  CD mt (d + 1) 211 [iv x0] (G fi fl cr sh nx sl) = some (.returned (some (iv 65)), (G fi fl cr sh nx sl)) :=
  Eq.trans (CD_at (ls := [iv x0]) _ _ mt_X7_beginOf rfl rfl) <|
  Eq.trans (e_ldI lin_X7_beginOf n_X7_beginOf_0 rfl) <|
  Eq.trans (e_KI lin_X7_beginOf n_X7_beginOf_1 k_20) <|
  Eq.trans (e_IcLtF lin_X7_beginOf n_X7_beginOf_3 h1 (by decide) h2) <|
  Eq.trans (e_ldI lin_X7_beginOf n_X7_beginOf_10 rfl) <|
  Eq.trans (e_KI lin_X7_beginOf n_X7_beginOf_11 k_40) <|
  Eq.trans (e_IcLtF lin_X7_beginOf n_X7_beginOf_13 h1 (by decide) h3) <|
  Eq.trans (e_ldI lin_X7_beginOf n_X7_beginOf_21 rfl) <|
  Eq.trans (e_KI lin_X7_beginOf n_X7_beginOf_22 k_60) <|
  Eq.trans (e_IcLtF lin_X7_beginOf n_X7_beginOf_24 h1 (by decide) h4) <|
  Eq.trans (e_ldI lin_X7_beginOf n_X7_beginOf_32 rfl) <|
  Eq.trans (e_KI lin_X7_beginOf n_X7_beginOf_33 k_61) <|
  Eq.trans (e_IcLtF lin_X7_beginOf n_X7_beginOf_35 h1 (by decide) h5) <|
  Eq.trans (e_ldI lin_X7_beginOf n_X7_beginOf_43 rfl) <|
  Eq.trans (e_KI lin_X7_beginOf n_X7_beginOf_44 k_65) <|
  Eq.trans (e_IcLtF lin_X7_beginOf n_X7_beginOf_46 h1 (by decide) h6) <|
  Eq.trans (e_ldI lin_X7_beginOf n_X7_beginOf_54 rfl) <|
  Eq.trans (e_KI lin_X7_beginOf n_X7_beginOf_55 k_68) <|
  Eq.trans (e_IcLtT lin_X7_beginOf n_X7_beginOf_57 h1 (by decide) h7) <|
  Eq.trans (e_KI lin_X7_beginOf n_X7_beginOf_60 k_65) <|
  Eq.trans (e_goto lin_X7_beginOf n_X7_beginOf_62) <|
  e_retI lin_X7_beginOf n_X7_beginOf_267
theorem c_X7_beginOf_FFFFFFT {fi fl : HI} {cr : HR} {sh : HS} {nx sl d : Nat} {x0 : Int} (h1 : -2147483648 ≤ x0 ∧ x0 < 2147483648 := by omega) (h2 : 20 ≤ x0 := by omega) (h3 : 40 ≤ x0 := by omega) (h4 : 60 ≤ x0 := by omega) (h5 : 61 ≤ x0 := by omega) (h6 : 65 ≤ x0 := by omega) (h7 : 68 ≤ x0 := by omega) (h8 : x0 < 92 := by omega) :
  CD mt (d + 1) 211 [iv x0] (G fi fl cr sh nx sl) = some (.returned (some (iv 68)), (G fi fl cr sh nx sl)) :=
  Eq.trans (CD_at (ls := [iv x0]) _ _ mt_X7_beginOf rfl rfl) <|
  Eq.trans (e_ldI lin_X7_beginOf n_X7_beginOf_0 rfl) <|
  Eq.trans (e_KI lin_X7_beginOf n_X7_beginOf_1 k_20) <|
  Eq.trans (e_IcLtF lin_X7_beginOf n_X7_beginOf_3 h1 (by decide) h2) <|
  Eq.trans (e_ldI lin_X7_beginOf n_X7_beginOf_10 rfl) <|
  Eq.trans (e_KI lin_X7_beginOf n_X7_beginOf_11 k_40) <|
  Eq.trans (e_IcLtF lin_X7_beginOf n_X7_beginOf_13 h1 (by decide) h3) <|
  Eq.trans (e_ldI lin_X7_beginOf n_X7_beginOf_21 rfl) <|
  Eq.trans (e_KI lin_X7_beginOf n_X7_beginOf_22 k_60) <|
  Eq.trans (e_IcLtF lin_X7_beginOf n_X7_beginOf_24 h1 (by decide) h4) <|
  Eq.trans (e_ldI lin_X7_beginOf n_X7_beginOf_32 rfl) <|
  Eq.trans (e_KI lin_X7_beginOf n_X7_beginOf_33 k_61) <|
  Eq.trans (e_IcLtF lin_X7_beginOf n_X7_beginOf_35 h1 (by decide) h5) <|
  Eq.trans (e_ldI lin_X7_beginOf n_X7_beginOf_43 rfl) <|
  Eq.trans (e_KI lin_X7_beginOf n_X7_beginOf_44 k_65) <|
  Eq.trans (e_IcLtF lin_X7_beginOf n_X7_beginOf_46 h1 (by decide) h6) <|
  Eq.trans (e_ldI lin_X7_beginOf n_X7_beginOf_54 rfl) <|
  Eq.trans (e_KI lin_X7_beginOf n_X7_beginOf_55 k_68) <|
  Eq.trans (e_IcLtF lin_X7_beginOf n_X7_beginOf_57 h1 (by decide) h7) <|
  Eq.trans (e_ldI lin_X7_beginOf n_X7_beginOf_65 rfl) <|
  Eq.trans (e_KI lin_X7_beginOf n_X7_beginOf_66 k_92) <|
  Eq.trans (e_IcLtT lin_X7_beginOf n_X7_beginOf_68 h1 (by decide) h8) <|
  Eq.trans (e_KI lin_X7_beginOf n_X7_beginOf_71 k_68) <|
  Eq.trans (e_goto lin_X7_beginOf n_X7_beginOf_73) <|
  e_retI lin_X7_beginOf n_X7_beginOf_267
theorem c_X7_beginOf_FFFFFFFT {fi fl : HI} {cr : HR} {sh : HS} {nx sl d : Nat} {x0 : Int} (h1 : -2147483648 ≤ x0 ∧ x0 < 2147483648 := by omega) (h2 : 20 ≤ x0 := by omega) (h3 : 40 ≤ x0 := by omega) (h4 : 60 ≤ x0 := by omega) (h5 : 61 ≤ x0 := by omega) (h6 : 65 ≤ x0 := by omega) (h7 : 68 ≤ x0 := by omega) (h8 : 92 ≤ x0 := by omega) (h9 : x0 < 96 := by omega) :
  CD mt (d + 1) 211 [iv x0] (G fi fl cr sh nx sl) = some (.returned (some (iv 92)), (G fi fl cr sh nx sl)) :=
  Eq.trans (CD_at (ls := [iv x0]) _ _ mt_X7_beginOf rfl rfl) <|
  Eq.trans (e_ldI lin_X7_beginOf n_X7_beginOf_0 rfl) <|
  Eq.trans (e_KI lin_X7_beginOf n_X7_beginOf_1 k_20) <|
  Eq.trans (e_IcLtF lin_X7_beginOf n_X7_beginOf_3 h1 (by decide) h2) <|
  Eq.trans (e_ldI lin_X7_beginOf n_X7_beginOf_10 rfl) <|
  Eq.trans (e_KI lin_X7_beginOf n_X7_beginOf_11 k_40) <|
  Eq.trans (e_IcLtF lin_X7_beginOf n_X7_beginOf_13 h1 (by decide) h3) <|
  Eq.trans (e_ldI lin_X7_beginOf n_X7_beginOf_21 rfl) <|
  Eq.trans (e_KI lin_X7_beginOf n_X7_beginOf_22 k_60) <|
  Eq.trans (e_IcLtF lin_X7_beginOf n_X7_beginOf_24 h1 (by decide) h4) <|
  Eq.trans (e_ldI lin_X7_beginOf n_X7_beginOf_32 rfl) <|
  Eq.trans (e_KI lin_X7_beginOf n_X7_beginOf_33 k_61) <|
  Eq.trans (e_IcLtF lin_X7_beginOf n_X7_beginOf_35 h1 (by decide) h5) <|
  Eq.trans (e_ldI lin_X7_beginOf n_X7_beginOf_43 rfl) <|
  Eq.trans (e_KI lin_X7_beginOf n_X7_beginOf_44 k_65) <|
  Eq.trans (e_IcLtF lin_X7_beginOf n_X7_beginOf_46 h1 (by decide) h6) <|
  Eq.trans (e_ldI lin_X7_beginOf n_X7_beginOf_54 rfl) <|
  Eq.trans (e_KI lin_X7_beginOf n_X7_beginOf_55 k_68) <|
  Eq.trans (e_IcLtF lin_X7_beginOf n_X7_beginOf_57 h1 (by decide) h7) <|
  Eq.trans (e_ldI lin_X7_beginOf n_X7_beginOf_65 rfl) <|
  Eq.trans (e_KI lin_X7_beginOf n_X7_beginOf_66 k_92) <|
  Eq.trans (e_IcLtF lin_X7_beginOf n_X7_beginOf_68 h1 (by decide) h8) <|
  Eq.trans (e_ldI lin_X7_beginOf n_X7_beginOf_76 rfl) <|
  Eq.trans (e_KI lin_X7_beginOf n_X7_beginOf_77 k_96) <|
  Eq.trans (e_IcLtT lin_X7_beginOf n_X7_beginOf_79 h1 (by decide) h9) <|
  Eq.trans (e_KI lin_X7_beginOf n_X7_beginOf_82 k_92) <|
  Eq.trans (e_goto lin_X7_beginOf n_X7_beginOf_84) <|
  e_retI lin_X7_beginOf n_X7_beginOf_267
theorem c_X7_beginOf_FFFFFFFFT {fi fl : HI} {cr : HR} {sh : HS} {nx sl d : Nat} {x0 : Int} (h1 : -2147483648 ≤ x0 ∧ x0 < 2147483648 := by omega) (h2 : 20 ≤ x0 := by omega) (h3 : 40 ≤ x0 := by omega) (h4 : 60 ≤ x0 := by omega) (h5 : 61 ≤ x0 := by omega) (h6 : 65 ≤ x0 := by omega) (h7 : 68 ≤ x0 := by omega) (h8 : 92 ≤ x0 := by omega) (h9 : 96 ≤ x0 := by omega) (h10 : x0 < 120 := by omega) :
  CD mt (d + 1) 211 [iv x0] (G fi fl cr sh nx sl) = some (.returned (some (iv 96)), (G fi fl cr sh nx sl)) :=
  Eq.trans (CD_at (ls := [iv x0]) _ _ mt_X7_beginOf rfl rfl) <|
  Eq.trans (e_ldI lin_X7_beginOf n_X7_beginOf_0 rfl) <|
  Eq.trans (e_KI lin_X7_beginOf n_X7_beginOf_1 k_20) <|
  Eq.trans (e_IcLtF lin_X7_beginOf n_X7_beginOf_3 h1 (by decide) h2) <|
  Eq.trans (e_ldI lin_X7_beginOf n_X7_beginOf_10 rfl) <|
  Eq.trans (e_KI lin_X7_beginOf n_X7_beginOf_11 k_40) <|
  Eq.trans (e_IcLtF lin_X7_beginOf n_X7_beginOf_13 h1 (by decide) h3) <|
  Eq.trans (e_ldI lin_X7_beginOf n_X7_beginOf_21 rfl) <|
  Eq.trans (e_KI lin_X7_beginOf n_X7_beginOf_22 k_60) <|
  Eq.trans (e_IcLtF lin_X7_beginOf n_X7_beginOf_24 h1 (by decide) h4) <|
  Eq.trans (e_ldI lin_X7_beginOf n_X7_beginOf_32 rfl) <|
  Eq.trans (e_KI lin_X7_beginOf n_X7_beginOf_33 k_61) <|
  Eq.trans (e_IcLtF lin_X7_beginOf n_X7_beginOf_35 h1 (by decide) h5) <|
  Eq.trans (e_ldI lin_X7_beginOf n_X7_beginOf_43 rfl) <|
  Eq.trans (e_KI lin_X7_beginOf n_X7_beginOf_44 k_65) <|
  Eq.trans (e_IcLtF lin_X7_beginOf n_X7_beginOf_46 h1 (by decide) h6) <|
  Eq.trans (e_ldI lin_X7_beginOf n_X7_beginOf_54 rfl) <|
  Eq.trans (e_KI lin_X7_beginOf n_X7_beginOf_55 k_68) <|
  Eq.trans (e_IcLtF lin_X7_beginOf n_X7_beginOf_57 h1 (by decide) h7) <|
  Eq.trans (e_ldI lin_X7_beginOf n_X7_beginOf_65 rfl) <|
  Eq.trans (e_KI lin_X7_beginOf n_X7_beginOf_66 k_92) <|
  Eq.trans (e_IcLtF lin_X7_beginOf n_X7_beginOf_68 h1 (by decide) h8) <|
  Eq.trans (e_ldI lin_X7_beginOf n_X7_beginOf_76 rfl) <|
  Eq.trans (e_KI lin_X7_beginOf n_X7_beginOf_77 k_96) <|
  Eq.trans (e_IcLtF lin_X7_beginOf n_X7_beginOf_79 h1 (by decide) h9) <|
  Eq.trans (e_ldI lin_X7_beginOf n_X7_beginOf_87 rfl) <|
  Eq.trans (e_KI lin_X7_beginOf n_X7_beginOf_88 k_120) <|
  Eq.trans (e_IcLtT lin_X7_beginOf n_X7_beginOf_90 h1 (by decide) h10) <|
  Eq.trans (e_KI lin_X7_beginOf n_X7_beginOf_93 k_96) <|
  Eq.trans (e_goto lin_X7_beginOf n_X7_beginOf_95) <|
  e_retI lin_X7_beginOf n_X7_beginOf_267
theorem c_X7_beginOf_FFFFFFFFFT {fi fl : HI} {cr : HR} {sh : HS} {nx sl d : Nat} {x0 : Int} (h1 : -2147483648 ≤ x0 ∧ x0 < 2147483648 := by omega) (h2 : 20 ≤ x0 := by omega) (h3 : 40 ≤ x0 := by omega) (h4 : 60 ≤ x0 := by omega) (h5 : 61 ≤ x0 := by omega) (h6 : 65 ≤ x0 := by omega) (h7 : 68 ≤ x0 := by omega) (h8 : 92 ≤ x0 := by omega) (h9 : 96 ≤ x0 := by omega) (h10 : 120 ≤ x0 := by omega) (h11 : x0 < 124 := by omega) :
  CD mt (d + 1) 211 [iv x0] (G fi fl cr sh nx sl) = some (.returned (some (iv 120)), (G fi fl cr sh nx sl)) :=
  Eq.trans (CD_at (ls := [iv x0]) _ _ mt_X7_beginOf rfl rfl) <|
  Eq.trans (e_ldI lin_X7_beginOf n_X7_beginOf_0 rfl) <|
  Eq.trans (e_KI lin_X7_beginOf n_X7_beginOf_1 k_20) <|
  Eq.trans (e_IcLtF lin_X7_beginOf n_X7_beginOf_3 h1 (by decide) h2) <|
  Eq.trans (e_ldI lin_X7_beginOf n_X7_beginOf_10 rfl) <|
  Eq.trans (e_KI lin_X7_beginOf n_X7_beginOf_11 k_40) <|
  Eq.trans (e_IcLtF lin_X7_beginOf n_X7_beginOf_13 h1 (by decide) h3) <|
  Eq.trans (e_ldI lin_X7_beginOf n_X7_beginOf_21 rfl) <|
  Eq.trans (e_KI lin_X7_beginOf n_X7_beginOf_22 k_60) <|
  Eq.trans (e_IcLtF lin_X7_beginOf n_X7_beginOf_24 h1 (by decide) h4) <|
  Eq.trans (e_ldI lin_X7_beginOf n_X7_beginOf_32 rfl) <|
  Eq.trans (e_KI lin_X7_beginOf n_X7_beginOf_33 k_61) <|
  Eq.trans (e_IcLtF lin_X7_beginOf n_X7_beginOf_35 h1 (by decide) h5) <|
  Eq.trans (e_ldI lin_X7_beginOf n_X7_beginOf_43 rfl) <|
  Eq.trans (e_KI lin_X7_beginOf n_X7_beginOf_44 k_65) <|
  Eq.trans (e_IcLtF lin_X7_beginOf n_X7_beginOf_46 h1 (by decide) h6) <|
  Eq.trans (e_ldI lin_X7_beginOf n_X7_beginOf_54 rfl) <|
  Eq.trans (e_KI lin_X7_beginOf n_X7_beginOf_55 k_68) <|
  Eq.trans (e_IcLtF lin_X7_beginOf n_X7_beginOf_57 h1 (by decide) h7) <|
  Eq.trans (e_ldI lin_X7_beginOf n_X7_beginOf_65 rfl) <|
  Eq.trans (e_KI lin_X7_beginOf n_X7_beginOf_66 k_92) <|
  Eq.trans (e_IcLtF lin_X7_beginOf n_X7_beginOf_68 h1 (by decide) h8) <|
  Eq.trans (e_ldI lin_X7_beginOf n_X7_beginOf_76 rfl) <|
  Eq.trans (e_KI lin_X7_beginOf n_X7_beginOf_77 k_96) <|
  Eq.trans (e_IcLtF lin_X7_beginOf n_X7_beginOf_79 h1 (by decide) h9) <|
  Eq.trans (e_ldI lin_X7_beginOf n_X7_beginOf_87 rfl) <|
  Eq.trans (e_KI lin_X7_beginOf n_X7_beginOf_88 k_120) <|
  Eq.trans (e_IcLtF lin_X7_beginOf n_X7_beginOf_90 h1 (by decide) h10) <|
  Eq.trans (e_ldI lin_X7_beginOf n_X7_beginOf_98 rfl) <|
  Eq.trans (e_KI lin_X7_beginOf n_X7_beginOf_99 k_124) <|
  Eq.trans (e_IcLtT lin_X7_beginOf n_X7_beginOf_101 h1 (by decide) h11) <|
  Eq.trans (e_KI lin_X7_beginOf n_X7_beginOf_104 k_120) <|
  Eq.trans (e_goto lin_X7_beginOf n_X7_beginOf_106) <|
  e_retI lin_X7_beginOf n_X7_beginOf_267
theorem c_X7_beginOf_FFFFFFFFFFT {fi fl : HI} {cr : HR} {sh : HS} {nx sl d : Nat} {x0 : Int} (h1 : -2147483648 ≤ x0 ∧ x0 < 2147483648 := by omega) (h2 : 20 ≤ x0 := by omega) (h3 : 40 ≤ x0 := by omega) (h4 : 60 ≤ x0 := by omega) (h5 : 61 ≤ x0 := by omega) (h6 : 65 ≤ x0 := by omega) (h7 : 68 ≤ x0 := by omega) (h8 : 92 ≤ x0 := by omega) (h9 : 96 ≤ x0 := by omega) (h10 : 120 ≤ x0 := by omega) (h11 : 124 ≤ x0 := by omega) (h12 : x0 < 128 := by omega) :
  CD mt (d + 1) 211 [iv x0] (G fi fl cr sh nx sl) = some (.returned (some (iv 124)), (G fi fl cr sh nx sl)) :=
  Eq.trans (CD_at (ls := [iv x0]) _ _ mt_X7_beginOf rfl rfl) <|
  Eq.trans (e_ldI lin_X7_beginOf n_X7_beginOf_0 rfl) <|
  Eq.trans (e_KI lin_X7_beginOf n_X7_beginOf_1 k_20) <|
  Eq.trans (e_IcLtF lin_X7_beginOf n_X7_beginOf_3 h1 (by decide) h2) <|
  Eq.trans (e_ldI lin_X7_beginOf n_X7_beginOf_10 rfl) <|
  Eq.trans (e_KI lin_X7_beginOf n_X7_beginOf_11 k_40) <|
  Eq.trans (e_IcLtF lin_X7_beginOf n_X7_beginOf_13 h1 (by decide) h3) <|
  Eq.trans (e_ldI lin_X7_beginOf n_X7_beginOf_21 rfl) <|
  Eq.trans (e_KI lin_X7_beginOf n_X7_beginOf_22 k_60) <|
  Eq.trans (e_IcLtF lin_X7_beginOf n_X7_beginOf_24 h1 (by decide) h4) <|
  Eq.trans (e_ldI lin_X7_beginOf n_X7_beginOf_32 rfl) <|
  Eq.trans (e_KI lin_X7_beginOf n_X7_beginOf_33 k_61) <|
  Eq.trans (e_IcLtF lin_X7_beginOf n_X7_beginOf_35 h1 (by decide) h5) <|
  Eq.trans (e_ldI lin_X7_beginOf n_X7_beginOf_43 rfl) <|
  Eq.trans (e_KI lin_X7_beginOf n_X7_beginOf_44 k_65) <|
  Eq.trans (e_IcLtF lin_X7_beginOf n_X7_beginOf_46 h1 (by decide) h6) <|
  Eq.trans (e_ldI lin_X7_beginOf n_X7_beginOf_54 rfl) <|
  Eq.trans (e_KI lin_X7_beginOf n_X7_beginOf_55 k_68) <|
  Eq.trans (e_IcLtF lin_X7_beginOf n_X7_beginOf_57 h1 (by decide) h7) <|
  Eq.trans (e_ldI lin_X7_beginOf n_X7_beginOf_65 rfl) <|
  Eq.trans (e_KI lin_X7_beginOf n_X7_beginOf_66 k_92) <|
  Eq.trans (e_IcLtF lin_X7_beginOf n_X7_beginOf_68 h1 (by decide) h8) <|
  Eq.trans (e_ldI lin_X7_beginOf n_X7_beginOf_76 rfl) <|
  Eq.trans (e_KI lin_X7_beginOf n_X7_beginOf_77 k_96) <|
  Eq.trans (e_IcLtF lin_X7_beginOf n_X7_beginOf_79 h1 (by decide) h9) <|
  Eq.trans (e_ldI lin_X7_beginOf n_X7_beginOf_87 rfl) <|
  Eq.trans (e_KI lin_X7_beginOf n_X7_beginOf_88 k_120) <|
  Eq.trans (e_IcLtF lin_X7_beginOf n_X7_beginOf_90 h1 (by decide) h10) <|
  Eq.trans (e_ldI lin_X7_beginOf n_X7_beginOf_98 rfl) <|
  Eq.trans (e_KI lin_X7_beginOf n_X7_beginOf_99 k_124) <|
  Eq.trans (e_IcLtF lin_X7_beginOf n_X7_beginOf_101 h1 (by decide) h11) <|
  Eq.trans (e_ldI lin_X7_beginOf n_X7_beginOf_109 rfl) <|
  Eq.trans (e_KI lin_X7_beginOf n_X7_beginOf_110 k_128) <|
  Eq.trans (e_IcLtT lin_X7_beginOf n_X7_beginOf_113 h1 (by decide) h12) <|
  Eq.trans (e_KI lin_X7_beginOf n_X7_beginOf_116 k_124) <|
  Eq.trans (e_goto lin_X7_beginOf n_X7_beginOf_118) <|
  e_retI lin_X7_beginOf n_X7_beginOf_267
theorem c_X7_beginOf_FFFFFFFFFFFT {fi fl : HI} {cr : HR} {sh : HS} {nx sl d : Nat} {x0 : Int} (h1 : -2147483648 ≤ x0 ∧ x0 < 2147483648 := by omega) (h2 : 20 ≤ x0 := by omega) (h3 : 40 ≤ x0 := by omega) (h4 : 60 ≤ x0 := by omega) (h5 : 61 ≤ x0 := by omega) (h6 : 65 ≤ x0 := by omega) (h7 : 68 ≤ x0 := by omega) (h8 : 92 ≤ x0 := by omega) (h9 : 96 ≤ x0 := by omega) (h10 : 120 ≤ x0 := by omega) (h11 : 124 ≤ x0 := by omega) (h12 : 128 ≤ x0 := by omega) (h13 : x0 < 132 := by omega) :
  CD mt (d + 1) 211 [iv x0] (G fi fl cr sh nx sl) = some (.returned (some (iv 128)), (G fi fl cr sh nx sl)) :=
  Eq.trans (CD_at (ls := [iv x0]) _ _ mt_X7_beginOf rfl rfl) <|
  Eq.trans (e_ldI lin_X7_beginOf n_X7_beginOf_0 rfl) <|
  Eq.trans (e_KI lin_X7_beginOf n_X7_beginOf_1 k_20) <|
  Eq.trans (e_IcLtF lin_X7_beginOf n_X7_beginOf_3 h1 (by decide) h2) <|
  Eq.trans (e_ldI lin_X7_beginOf n_X7_beginOf_10 rfl) <|
  Eq.trans (e_KI lin_X7_beginOf n_X7_beginOf_11 k_40) <|
  Eq.trans (e_IcLtF lin_X7_beginOf n_X7_beginOf_13 h1 (by decide) h3) <|
  Eq.trans (e_ldI lin_X7_beginOf n_X7_beginOf_21 rfl) <|
  Eq.trans (e_KI lin_X7_beginOf n_X7_beginOf_22 k_60) <|
  Eq.trans (e_IcLtF lin_X7_beginOf n_X7_beginOf_24 h1 (by decide) h4) <|
  Eq.trans (e_ldI lin_X7_beginOf n_X7_beginOf_32 rfl) <|
  Eq.trans (e_KI lin_X7_beginOf n_X7_beginOf_33 k_61) <|
  Eq.trans (e_IcLtF lin_X7_beginOf n_X7_beginOf_35 h1 (by decide) h5) <|
  Eq.trans (e_ldI lin_X7_beginOf n_X7_beginOf_43 rfl) <|
  Eq.trans (e_KI lin_X7_beginOf n_X7_beginOf_44 k_65) <|
  Eq.trans (e_IcLtF lin_X7_beginOf n_X7_beginOf_46 h1 (by decide) h6) <|
  Eq.trans (e_ldI lin_X7_beginOf n_X7_beginOf_54 rfl) <|
  Eq.trans (e_KI lin_X7_beginOf n_X7_beginOf_55 k_68) <|
  Eq.trans (e_IcLtF lin_X7_beginOf n_X7_beginOf_57 h1 (by decide) h7) <|
  Eq.trans (e_ldI lin_X7_beginOf n_X7_beginOf_65 rfl) <|
  Eq.trans (e_KI lin_X7_beginOf n_X7_beginOf_66 k_92) <|
  Eq.trans (e_IcLtF lin_X7_beginOf n_X7_beginOf_68 h1 (by decide) h8) <|
  Eq.trans (e_ldI lin_X7_beginOf n_X7_beginOf_76 rfl) <|
  Eq.trans (e_KI lin_X7_beginOf n_X7_beginOf_77 k_96) <|
  Eq.trans (e_IcLtF lin_X7_beginOf n_X7_beginOf_79 h1 (by decide) h9) <|
  Eq.trans (e_ldI lin_X7_beginOf n_X7_beginOf_87 rfl) <|
  Eq.trans (e_KI lin_X7_beginOf n_X7_beginOf_88 k_120) <|
  Eq.trans (e_IcLtF lin_X7_beginOf n_X7_beginOf_90 h1 (by decide) h10) <|
  Eq.trans (e_ldI lin_X7_beginOf n_X7_beginOf_98 rfl) <|
  Eq.trans (e_KI lin_X7_beginOf n_X7_beginOf_99 k_124) <|
  Eq.trans (e_IcLtF lin_X7_beginOf n_X7_beginOf_101 h1 (by decide) h11) <|
  Eq.trans (e_ldI lin_X7_beginOf n_X7_beginOf_109 rfl) <|
  Eq.trans (e_KI lin_X7_beginOf n_X7_beginOf_110 k_128) <|
  Eq.trans (e_IcLtF lin_X7_beginOf n_X7_beginOf_113 h1 (by decide) h12) <|
  Eq.trans (e_ldI lin_X7_beginOf n_X7_beginOf_121 rfl) <|
  Eq.trans (e_KI lin_X7_beginOf n_X7_beginOf_122 k_132) <|
  Eq.trans (e_IcLtT lin_X7_beginOf n_X7_beginOf_125 h1 (by decide) h13) <|
  Eq.trans (e_KI lin_X7_beginOf n_X7_beginOf_128 k_128) <|
  Eq.trans (e_goto lin_X7_beginOf n_X7_beginOf_131) <|
  e_retI lin_X7_beginOf n_X7_beginOf_267
theorem c_X7_beginOf_FFFFFFFFFFFFT {fi fl : HI} {cr : HR} {sh : HS} {nx sl d : Nat} {x0 : Int} (h1 : -2147483648 ≤ x0 ∧ x0 < 2147483648 := by omega) (h2 : 20 ≤ x0 := by omega) (h3 : 40 ≤ x0 := by omega) (h4 : 60 ≤ x0 := by omega) (h5 : 61 ≤ x0 := by omega) (h6 : 65 ≤ x0 := by omega) (h7 : 68 ≤ x0 := by omega) (h8 : 92 ≤ x0 := by omega) (h9 : 96 ≤ x0 := by omega) (h10 : 120 ≤ x0 := by omega) (h11 : 124 ≤ x0 := by omega) (h12 : 128 ≤ x0 := by omega) (h13 : 132 ≤ x0 := by omega) (h14 : x0 < 144 := by omega) :
  CD mt (d + 1) 211 [iv x0] (G fi fl cr sh nx sl) = some (.returned (some (iv 132)), (G fi fl cr sh nx sl)) :=
  Eq.trans (CD_at (ls := [iv x0]) _ _ mt_X7_beginOf rfl rfl) <|
  Eq.trans (e_ldI lin_X7_beginOf n_X7_beginOf_0 rfl) <|
  Eq.trans (e_KI lin_X7_beginOf n_X7_beginOf_1 k_20) <|
  Eq.trans (e_IcLtF lin_X7_beginOf n_X7_beginOf_3 h1 (by decide) h2) <|
  Eq.trans (e_ldI lin_X7_beginOf n_X7_beginOf_10 rfl) <|
  Eq.trans (e_KI lin_X7_beginOf n_X7_beginOf_11 k_40) <|
  Eq.trans (e_IcLtF lin_X7_beginOf n_X7_beginOf_13 h1 (by decide) h3) <|
  Eq.trans (e_ldI lin_X7_beginOf n_X7_beginOf_21 rfl) <|
  Eq.trans (e_KI lin_X7_beginOf n_X7_beginOf_22 k_60) <|
  Eq.trans (e_IcLtF lin_X7_beginOf n_X7_beginOf_24 h1 (by decide) h4) <|
  Eq.trans (e_ldI lin_X7_beginOf n_X7_beginOf_32 rfl) <|
  Eq.trans (e_KI lin_X7_beginOf n_X7_beginOf_33 k_61) <|
  Eq.trans (e_IcLtF lin_X7_beginOf n_X7_beginOf_35 h1 (by decide) h5) <|
  Eq.trans (e_ldI lin_X7_beginOf n_X7_beginOf_43 rfl) <|
  Eq.trans (e_KI lin_X7_beginOf n_X7_beginOf_44 k_65) <|
  Eq.trans (e_IcLtF lin_X7_beginOf n_X7_beginOf_46 h1 (by decide) h6) <|
  Eq.trans (e_ldI lin_X7_beginOf n_X7_beginOf_54 rfl) <|
  Eq.trans (e_KI lin_X7_beginOf n_X7_beginOf_55 k_68) <|
  Eq.trans (e_IcLtF lin_X7_beginOf n_X7_beginOf_57 h1 (by decide) h7) <|
  Eq.trans (e_ldI lin_X7_beginOf n_X7_beginOf_65 rfl) <|
  Eq.trans (e_KI lin_X7_beginOf n_X7_beginOf_66 k_92) <|
  Eq.trans (e_IcLtF lin_X7_beginOf n_X7_beginOf_68 h1 (by decide) h8) <|
  Eq.trans (e_ldI lin_X7_beginOf n_X7_beginOf_76 rfl) <|
  Eq.trans (e_KI lin_X7_beginOf n_X7_beginOf_77 k_96) <|
  Eq.trans (e_IcLtF lin_X7_beginOf n_X7_beginOf_79 h1 (by decide) h9) <|
  Eq.trans (e_ldI lin_X7_beginOf n_X7_beginOf_87 rfl) <|
  Eq.trans (e_KI lin_X7_beginOf n_X7_beginOf_88 k_120) <|
  Eq.trans (e_IcLtF lin_X7_beginOf n_X7_beginOf_90 h1 (by decide) h10) <|
  Eq.trans (e_ldI lin_X7_beginOf n_X7_beginOf_98 rfl) <|
  Eq.trans (e_KI lin_X7_beginOf n_X7_beginOf_99 k_124) <|
  Eq.trans (e_IcLtF lin_X7_beginOf n_X7_beginOf_101 h1 (by decide) h11) <|
  Eq.trans (e_ldI lin_X7_beginOf n_X7_beginOf_109 rfl) <|
  Eq.trans (e_KI lin_X7_beginOf n_X7_beginOf_110 k_128) <|
  Eq.trans (e_IcLtF lin_X7_beginOf n_X7_beginOf_113 h1 (by decide) h12) <|
  Eq.trans (e_ldI lin_X7_beginOf n_X7_beginOf_121 rfl) <|
  Eq.trans (e_KI lin_X7_beginOf n_X7_beginOf_122 k_132) <|
  Eq.trans (e_IcLtF lin_X7_beginOf n_X7_beginOf_125 h1 (by decide) h13) <|
  Eq.trans (e_ldI lin_X7_beginOf n_X7_beginOf_134 rfl) <|
  Eq.trans (e_KI lin_X7_beginOf n_X7_beginOf_135 k_144) <|
  Eq.trans (e_IcLtT lin_X7_beginOf n_X7_beginOf_138 h1 (by decide) h14) <|
  Eq.trans (e_KI lin_X7_beginOf n_X7_beginOf_141 k_132) <|
  Eq.trans (e_goto lin_X7_beginOf n_X7_beginOf_144) <|
  e_retI lin_X7_beginOf n_X7_beginOf_267
theorem c_X7_beginOf_FFFFFFFFFFFFFT {fi fl : HI} {cr : HR} {sh : HS} {nx sl d : Nat} {x0 : Int} (h1 : -2147483648 ≤ x0 ∧ x0 < 2147483648 := by omega) (h2 : 20 ≤ x0 := by omega) (h3 : 40 ≤ x0 := by omega) (h4 : 60 ≤ x0 := by omega) (h5 : 61 ≤ x0 := by omega) (h6 : 65 ≤ x0 := by omega) (h7 : 68 ≤ x0 := by omega) (h8 : 92 ≤ x0 := by omega) (h9 : 96 ≤ x0 := by omega) (h10 : 120 ≤ x0 := by omega) (h11 : 124 ≤ x0 := by omega) (h12 : 128 ≤ x0 := by omega) (h13 : 132 ≤ x0 := by omega) (h14 : 144 ≤ x0 := by omega) (h15 : x0 < 148 := by omega) :
  CD mt (d + 1) 211 [iv x0] (G fi fl cr sh nx sl) = some (.returned (some (iv 144)), (G fi fl cr sh nx sl)) :=
  Eq.trans (CD_at (ls := [iv x0]) _ _ mt_X7_beginOf rfl rfl) <|
  Eq.trans (e_ldI lin_X7_beginOf n_X7_beginOf_0 rfl) <|
  Eq.trans (e_KI lin_X7_beginOf n_X7_beginOf_1 k_20) <|
  Eq.trans (e_IcLtF lin_X7_beginOf n_X7_beginOf_3 h1 (by decide) h2) <|
  Eq.trans (e_ldI lin_X7_beginOf n_X7_beginOf_10 rfl) <|
  Eq.trans (e_KI lin_X7_beginOf n_X7_beginOf_11 k_40) <|
  Eq.trans (e_IcLtF lin_X7_beginOf n_X7_beginOf_13 h1 (by decide) h3) <|
  Eq.trans (e_ldI lin_X7_beginOf n_X7_beginOf_21 rfl) <|
  Eq.trans (e_KI lin_X7_beginOf n_X7_beginOf_22 k_60) <|
  Eq.trans (e_IcLtF lin_X7_beginOf n_X7_beginOf_24 h1 (by decide) h4) <|
  Eq.trans (e_ldI lin_X7_beginOf n_X7_beginOf_32 rfl) <|
  Eq.trans (e_KI lin_X7_beginOf n_X7_beginOf_33 k_61) <|
  Eq.trans (e_IcLtF lin_X7_beginOf n_X7_beginOf_35 h1 (by decide) h5) <|
  Eq.trans (e_ldI lin_X7_beginOf n_X7_beginOf_43 rfl) <|
  Eq.trans (e_KI lin_X7_beginOf n_X7_beginOf_44 k_65) <|
  Eq.trans (e_IcLtF lin_X7_beginOf n_X7_beginOf_46 h1 (by decide) h6) <|
  Eq.trans (e_ldI lin_X7_beginOf n_X7_beginOf_54 rfl) <|
  Eq.trans (e_KI lin_X7_beginOf n_X7_beginOf_55 k_68) <|
  Eq.trans (e_IcLtF lin_X7_beginOf n_X7_beginOf_57 h1 (by decide) h7) <|
  Eq.trans (e_ldI lin_X7_beginOf n_X7_beginOf_65 rfl) <|
  Eq.trans (e_KI lin_X7_beginOf n_X7_beginOf_66 k_92) <|
  Eq.trans (e_IcLtF lin_X7_beginOf n_X7_beginOf_68 h1 (by decide) h8) <|
  Eq.trans (e_ldI lin_X7_beginOf n_X7_beginOf_76 rfl) <|
  Eq.trans (e_KI lin_X7_beginOf n_X7_beginOf_77 k_96) <|
  Eq.trans (e_IcLtF lin_X7_beginOf n_X7_beginOf_79 h1 (by decide) h9) <|
  Eq.trans (e_ldI lin_X7_beginOf n_X7_beginOf_87 rfl) <|
  Eq.trans (e_KI lin_X7_beginOf n_X7_beginOf_88 k_120) <|
  Eq.trans (e_IcLtF lin_X7_beginOf n_X7_beginOf_90 h1 (by decide) h10) <|
  Eq.trans (e_ldI lin_X7_beginOf n_X7_beginOf_98 rfl) <|
  Eq.trans (e_KI lin_X7_beginOf n_X7_beginOf_99 k_124) <|
  Eq.trans (e_IcLtF lin_X7_beginOf n_X7_beginOf_101 h1 (by decide) h11) <|
  Eq.trans (e_ldI lin_X7_beginOf n_X7_beginOf_109 rfl) <|
  Eq.trans (e_KI lin_X7_beginOf n_X7_beginOf_110 k_128) <|
  Eq.trans (e_IcLtF lin_X7_beginOf n_X7_beginOf_113 h1 (by decide) h12) <|
  Eq.trans (e_ldI lin_X7_beginOf n_X7_beginOf_121 rfl) <|
  Eq.trans (e_KI lin_X7_beginOf n_X7_beginOf_122 k_132) <|
  Eq.trans (e_IcLtF lin_X7_beginOf n_X7_beginOf_125 h1 (by decide) h13) <|
  Eq.trans (e_ldI lin_X7_beginOf n_X7_beginOf_134 rfl) <|
  Eq.trans (e_KI lin_X7_beginOf n_X7_beginOf_135 k_144) <|
  Eq.trans (e_IcLtF lin_X7_beginOf n_X7_beginOf_138 h1 (by decide) h14) <|
  Eq.trans (e_ldI lin_X7_beginOf n_X7_beginOf_147 rfl) <|
  Eq.trans (e_KI lin_X7_beginOf n_X7_beginOf_148 k_148) <|
  Eq.trans (e_IcLtT lin_X7_beginOf n_X7_beginOf_151 h1 (by decide) h15) <|
  Eq.trans (e_KI lin_X7_beginOf n_X7_beginOf_154 k_144) <|
  Eq.trans (e_goto lin_X7_beginOf n_X7_beginOf_157) <|
  e_retI lin_X7_beginOf n_X7_beginOf_267
theorem c_X7_beginOf_FFFFFFFFFFFFFFT {fi fl : HI} {cr : HR} {sh : HS} {nx sl d : Nat} {x0 : Int} (h1 : -2147483648 ≤ x0 ∧ x0 < 2147483648 := by omega) (h2 : 20 ≤ x0 := by omega) (h3 : 40 ≤ x0 := by omega) (h4 : 60 ≤ x0 := by omega) (h5 : 61 ≤ x0 := by omega) (h6 : 65 ≤ x0 := by omega) (h7 : 68 ≤ x0 := by omega) (h8 : 92 ≤ x0 := by omega) (h9 : 96 ≤ x0 := by omega) (h10 : 120 ≤ x0 := by omega) (h11 : 124 ≤ x0 := by omega) (h12 : 128 ≤ x0 := by omega) (h13 : 132 ≤ x0 := by omega) (h14 : 144 ≤ x0 := by omega) (h15 : 148 ≤ x0 := by omega) (h16 : x0 < 152 := by omega) :
  CD mt (d + 1) 211 [iv x0] (G fi fl cr sh nx sl) = some (.returned (some (iv 148)), (G fi fl cr sh nx sl)) :=
  Eq.trans (CD_at (ls := [iv x0]) _ _ mt_X7_beginOf rfl rfl) <|
  Eq.trans (e_ldI lin_X7_beginOf n_X7_beginOf_0 rfl) <|
  Eq.trans (e_KI lin_X7_beginOf n_X7_beginOf_1 k_20) <|
  Eq.trans (e_IcLtF lin_X7_beginOf n_X7_beginOf_3 h1 (by decide) h2) <|
  Eq.trans (e_ldI lin_X7_beginOf n_X7_beginOf_10 rfl) <|
  Eq.trans (e_KI lin_X7_beginOf n_X7_beginOf_11 k_40) <|
  Eq.trans (e_IcLtF lin_X7_beginOf n_X7_beginOf_13 h1 (by decide) h3) <|
  Eq.trans (e_ldI lin_X7_beginOf n_X7_beginOf_21 rfl) <|
  Eq.trans (e_KI lin_X7_beginOf n_X7_beginOf_22 k_60) <|
  Eq.trans (e_IcLtF lin_X7_beginOf n_X7_beginOf_24 h1 (by decide) h4) <|
  Eq.trans (e_ldI lin_X7_beginOf n_X7_beginOf_32 rfl) <|
  Eq.trans (e_KI lin_X7_beginOf n_X7_beginOf_33 k_61) <|
  Eq.trans (e_IcLtF lin_X7_beginOf n_X7_beginOf_35 h1 (by decide) h5) <|
  Eq.trans (e_ldI lin_X7_beginOf n_X7_beginOf_43 rfl) <|
  Eq.trans (e_KI lin_X7_beginOf n_X7_beginOf_44 k_65) <|
  Eq.trans (e_IcLtF lin_X7_beginOf n_X7_beginOf_46 h1 (by decide) h6) <|
  Eq.trans (e_ldI lin_X7_beginOf n_X7_beginOf_54 rfl) <|
  Eq.trans (e_KI lin_X7_beginOf n_X7_beginOf_55 k_68) <|
  Eq.trans (e_IcLtF lin_X7_beginOf n_X7_beginOf_57 h1 (by decide) h7) <|
  Eq.trans (e_ldI lin_X7_beginOf n_X7_beginOf_65 rfl) <|
  Eq.trans (e_KI lin_X7_beginOf n_X7_beginOf_66 k_92) <|
  Eq.trans (e_IcLtF lin_X7_beginOf n_X7_beginOf_68 h1 (by decide) h8) <|
  Eq.trans (e_ldI lin_X7_beginOf n_X7_beginOf_76 rfl) <|
  Eq.trans (e_KI lin_X7_beginOf n_X7_beginOf_77 k_96) <|
  Eq.trans (e_IcLtF lin_X7_beginOf n_X7_beginOf_79 h1 (by decide) h9) <|
  Eq.trans (e_ldI lin_X7_beginOf n_X7_beginOf_87 rfl) <|
  Eq.trans (e_KI lin_X7_beginOf n_X7_beginOf_88 k_120) <|
  Eq.trans (e_IcLtF lin_X7_beginOf n_X7_beginOf_90 h1 (by decide) h10) <|
  Eq.trans (e_ldI lin_X7_beginOf n_X7_beginOf_98 rfl) <|
  Eq.trans (e_KI lin_X7_beginOf n_X7_beginOf_99 k_124) <|
  Eq.trans (e_IcLtF lin_X7_beginOf n_X7_beginOf_101 h1 (by decide) h11) <|
  Eq.trans (e_ldI lin_X7_beginOf n_X7_beginOf_109 rfl) <|
  Eq.trans (e_KI lin_X7_beginOf n_X7_beginOf_110 k_128) <|
  Eq.trans (e_IcLtF lin_X7_beginOf n_X7_beginOf_113 h1 (by decide) h12) <|
  Eq.trans (e_ldI lin_X7_beginOf n_X7_beginOf_121 rfl) <|
  Eq.trans (e_KI lin_X7_beginOf n_X7_beginOf_122 k_132) <|
  Eq.trans (e_IcLtF lin_X7_beginOf n_X7_beginOf_125 h1 (by decide) h13) <|
  Eq.trans (e_ldI lin_X7_beginOf n_X7_beginOf_134 rfl) <|
  Eq.trans (e_KI lin_X7_beginOf n_X7_beginOf_135 k_144) <|
  Eq.trans (e_IcLtF lin_X7_beginOf n_X7_beginOf_138 h1 (by decide) h14) <|
  Eq.trans (e_ldI lin_X7_beginOf n_X7_beginOf_147 rfl) <|
  Eq.trans (e_KI lin_X7_beginOf n_X7_beginOf_148 k_148) <|
  Eq.trans (e_IcLtF lin_X7_beginOf n_X7_beginOf_151 h1 (by decide) h15) <|
  Eq.trans (e_ldI lin_X7_beginOf n_X7_beginOf_160 rfl) <|
  Eq.trans (e_KI lin_X7_beginOf n_X7_beginOf_161 k_152) <|
  Eq.trans (e_IcLtT lin_X7_beginOf n_X7_beginOf_164 h1 (by decide) h16) <|
  Eq.trans (e_KI lin_X7_beginOf n_X7_beginOf_167 k_148) <|
  Eq.trans (e_goto lin_X7_beginOf n_X7_beginOf_170) <|
  e_retI lin_X7_beginOf n_X7_beginOf_267
theorem c_X7_beginOf_FFFFFFFFFFFFFFFT {fi fl : HI} {cr : HR} {sh : HS} {nx sl d : Nat} {x0 : Int} (h1 : -2147483648 ≤ x0 ∧ x0 < 2147483648 := by omega) (h2 : 20 ≤ x0 := by omega) (h3 : 40 ≤ x0 := by omega) (h4 : 60 ≤ x0 := by omega) (h5 : 61 ≤ x0 := by omega) (h6 : 65 ≤ x0 := by omega) (h7 : 68 ≤ x0 := by omega) (h8 : 92 ≤ x0 := by omega) (h9 : 96 ≤ x0 := by omega) (h10 : 120 ≤ x0 := by omega) (h11 : 124 ≤ x0 := by omega) (h12 : 128 ≤ x0 := by omega) (h13 : 132 ≤ x0 := by omega) (h14 : 144 ≤ x0 := by omega) (h15 : 148 ≤ x0 := by omega) (h16 : 152 ≤ x0 := by omega) (h17 : x0 < 156 := by omega) :
  CD mt (d + 1) 211 [iv x0] (G fi fl cr sh nx sl) = some (.returned (some (iv 152)), (G fi fl cr sh nx sl)) :=
  Eq.trans (CD_at (ls := [iv x0]) _ _ mt_X7_beginOf rfl rfl) <|
  Eq.trans (e_ldI lin_X7_beginOf n_X7_beginOf_0 rfl) <|
  Eq.trans (e_KI lin_X7_beginOf n_X7_beginOf_1 k_20) <|
  Eq.trans (e_IcLtF lin_X7_beginOf n_X7_beginOf_3 h1 (by decide) h2) <|
  Eq.trans (e_ldI lin_X7_beginOf n_X7_beginOf_10 rfl) <|
  Eq.trans (e_KI lin_X7_beginOf n_X7_beginOf_11 k_40) <|
  Eq.trans (e_IcLtF lin_X7_beginOf n_X7_beginOf_13 h1 (by decide) h3) <|
  Eq.trans (e_ldI lin_X7_beginOf n_X7_beginOf_21 rfl) <|
  Eq.trans (e_KI lin_X7_beginOf n_X7_beginOf_22 k_60) <|
  Eq.trans (e_IcLtF lin_X7_beginOf n_X7_beginOf_24 h1 (by decide) h4) <|
  Eq.trans (e_ldI lin_X7_beginOf n_X7_beginOf_32 rfl) <|
  Eq.trans (e_KI lin_X7_beginOf n_X7_beginOf_33 k_61) <|
  Eq.trans (e_IcLtF lin_X7_beginOf n_X7_beginOf_35 h1 (by decide) h5) <|
  Eq.trans (e_ldI lin_X7_beginOf n_X7_beginOf_43 rfl) <|
  Eq.trans (e_KI lin_X7_beginOf n_X7_beginOf_44 k_65) <|
  Eq.trans (e_IcLtF lin_X7_beginOf n_X7_beginOf_46 h1 (by decide) h6) <|
  Eq.trans (e_ldI lin_X7_beginOf n_X7_beginOf_54 rfl) <|
  Eq.trans (e_KI lin_X7_beginOf n_X7_beginOf_55 k_68) <|
  Eq.trans (e_IcLtF lin_X7_beginOf n_X7_beginOf_57 h1 (by decide) h7) <|
  Eq.trans (e_ldI lin_X7_beginOf n_X7_beginOf_65 rfl) <|
  Eq.trans (e_KI lin_X7_beginOf n_X7_beginOf_66 k_92) <|
  Eq.trans (e_IcLtF lin_X7_beginOf n_X7_beginOf_68 h1 (by decide) h8) <|
  Eq.trans (e_ldI lin_X7_beginOf n_X7_beginOf_76 rfl) <|
  Eq.trans (e_KI lin_X7_beginOf n_X7_beginOf_77 k_96) <|
  Eq.trans (e_IcLtF lin_X7_beginOf n_X7_beginOf_79 h1 (by decide) h9) <|
  Eq.trans (e_ldI lin_X7_beginOf n_X7_beginOf_87 rfl) <|
  Eq.trans (e_KI lin_X7_beginOf n_X7_beginOf_88 k_120) <|
  Eq.trans (e_IcLtF lin_X7_beginOf n_X7_beginOf_90 h1 (by decide) h10) <|
  Eq.trans (e_ldI lin_X7_beginOf n_X7_beginOf_98 rfl) <|
  Eq.trans (e_KI lin_X7_beginOf n_X7_beginOf_99 k_124) <|
  Eq.trans (e_IcLtF lin_X7_beginOf n_X7_beginOf_101 h1 (by decide) h11) <|
  Eq.trans (e_ldI lin_X7_beginOf n_X7_beginOf_109 rfl) <|
  Eq.trans (e_KI lin_X7_beginOf n_X7_beginOf_110 k_128) <|
  Eq.trans (e_IcLtF lin_X7_beginOf n_X7_beginOf_113 h1 (by decide) h12) <|
  Eq.trans (e_ldI lin_X7_beginOf n_X7_beginOf_121 rfl) <|
  Eq.trans (e_KI lin_X7_beginOf n_X7_beginOf_122 k_132) <|
  Eq.trans (e_IcLtF lin_X7_beginOf n_X7_beginOf_125 h1 (by decide) h13) <|
  Eq.trans (e_ldI lin_X7_beginOf n_X7_beginOf_134 rfl) <|
  Eq.trans (e_KI lin_X7_beginOf n_X7_beginOf_135 k_144) <|
  Eq.trans (e_IcLtF lin_X7_beginOf n_X7_beginOf_138 h1 (by decide) h14) <|
  Eq.trans (e_ldI lin_X7_beginOf n_X7_beginOf_147 rfl) <|
  Eq.trans (e_KI lin_X7_beginOf n_X7_beginOf_148 k_148) <|
  Eq.trans (e_IcLtF lin_X7_beginOf n_X7_beginOf_151 h1 (by decide) h15) <|
  Eq.trans (e_ldI lin_X7_beginOf n_X7_beginOf_160 rfl) <|
  Eq.trans (e_KI lin_X7_beginOf n_X7_beginOf_161 k_152) <|
  Eq.trans (e_IcLtF lin_X7_beginOf n_X7_beginOf_164 h1 (by decide) h16) <|
  Eq.trans (e_ldI lin_X7_beginOf n_X7_beginOf_173 rfl) <|
  Eq.trans (e_KI lin_X7_beginOf n_X7_beginOf_174 k_156) <|
  Eq.trans (e_IcLtT lin_X7_beginOf n_X7_beginOf_177 h1 (by decide) h17) <|
  Eq.trans (e_KI lin_X7_beginOf n_X7_beginOf_180 k_152) <|
  Eq.trans (e_goto lin_X7_beginOf n_X7_beginOf_183) <|
  e_retI lin_X7_beginOf n_X7_beginOf_267
theorem c_X7_beginOf_FFFFFFFFFFFFFFFFT {fi fl : HI} {cr : HR} {sh : HS} {nx sl d : Nat} {x0 : Int} (h1 : -2147483648 ≤ x0 ∧ x0 < 2147483648 := by omega) (h2 : 20 ≤ x0 := by omega) (h3 : 40 ≤ x0 := by omega) (h4 : 60 ≤ x0 := by omega) (h5 : 61 ≤ x0 := by omega) (h6 : 65 ≤ x0 := by omega) (h7 : 68 ≤ x0 := by omega) (h8 : 92 ≤ x0 := by omega) (h9 : 96 ≤ x0 := by omega) (h10 : 120 ≤ x0 := by omega) (h11 : 124 ≤ x0 := by omega) (h12 : 128 ≤ x0 := by omega) (h13 : 132 ≤ x0 := by omega) (h14 : 144 ≤ x0 := by omega) (h15 : 148 ≤ x0 := by omega) (h16 : 152 ≤ x0 := by omega) (h17 : 156 ≤ x0 := by omega) (h18 : x0 < 159 := by omega) :
  CD mt (d + 1) 211 [iv x0] (G fi fl cr sh nx sl) = some (.returned (some (iv 156)), (G fi fl cr sh nx sl)) :=
  Eq.trans (CD_at (ls := [iv x0]) _ _ mt_X7_beginOf rfl rfl) <|
  Eq.trans (e_ldI lin_X7_beginOf n_X7_beginOf_0 rfl) <|
  Eq.trans (e_KI lin_X7_beginOf n_X7_beginOf_1 k_20) <|
  Eq.trans (e_IcLtF lin_X7_beginOf n_X7_beginOf_3 h1 (by decide) h2) <|
  Eq.trans (e_ldI lin_X7_beginOf n_X7_beginOf_10 rfl) <|
  Eq.trans (e_KI lin_X7_beginOf n_X7_beginOf_11 k_40) <|
  Eq.trans (e_IcLtF lin_X7_beginOf n_X7_beginOf_13 h1 (by decide) h3) <|
  Eq.trans (e_ldI lin_X7_beginOf n_X7_beginOf_21 rfl) <|
  Eq.trans (e_KI lin_X7_beginOf n_X7_beginOf_22 k_60) <|
  Eq.trans (e_IcLtF lin_X7_beginOf n_X7_beginOf_24 h1 (by decide) h4) <|
  Eq.trans (e_ldI lin_X7_beginOf n_X7_beginOf_32 rfl) <|
  Eq.trans (e_KI lin_X7_beginOf n_X7_beginOf_33 k_61) <|
  Eq.trans (e_IcLtF lin_X7_beginOf n_X7_beginOf_35 h1 (by decide) h5) <|
  Eq.trans (e_ldI lin_X7_beginOf n_X7_beginOf_43 rfl) <|
  Eq.trans (e_KI lin_X7_beginOf n_X7_beginOf_44 k_65) <|
  Eq.trans (e_IcLtF lin_X7_beginOf n_X7_beginOf_46 h1 (by decide) h6) <|
  Eq.trans (e_ldI lin_X7_beginOf n_X7_beginOf_54 rfl) <|
  Eq.trans (e_KI lin_X7_beginOf n_X7_beginOf_55 k_68) <|
  Eq.trans (e_IcLtF lin_X7_beginOf n_X7_beginOf_57 h1 (by decide) h7) <|
  Eq.trans (e_ldI lin_X7_beginOf n_X7_beginOf_65 rfl) <|
  Eq.trans (e_KI lin_X7_beginOf n_X7_beginOf_66 k_92) <|
  Eq.trans (e_IcLtF lin_X7_beginOf n_X7_beginOf_68 h1 (by decide) h8) <|
  Eq.trans (e_ldI lin_X7_beginOf n_X7_beginOf_76 rfl) <|
  Eq.trans (e_KI lin_X7_beginOf n_X7_beginOf_77 k_96) <|
  Eq.trans (e_IcLtF lin_X7_beginOf n_X7_beginOf_79 h1 (by decide) h9) <|
  Eq.trans (e_ldI lin_X7_beginOf n_X7_beginOf_87 rfl) <|
  Eq.trans (e_KI lin_X7_beginOf n_X7_beginOf_88 k_120) <|
  Eq.trans (e_IcLtF lin_X7_beginOf n_X7_beginOf_90 h1 (by decide) h10) <|
  Eq.trans (e_ldI lin_X7_beginOf n_X7_beginOf_98 rfl) <|
  Eq.trans (e_KI lin_X7_beginOf n_X7_beginOf_99 k_124) <|
  Eq.trans (e_IcLtF lin_X7_beginOf n_X7_beginOf_101 h1 (by decide) h11) <|
  Eq.trans (e_ldI lin_X7_beginOf n_X7_beginOf_109 rfl) <|
  Eq.trans (e_KI lin_X7_beginOf n_X7_beginOf_110 k_128) <|
  Eq.trans (e_IcLtF lin_X7_beginOf n_X7_beginOf_113 h1 (by decide) h12) <|
  Eq.trans (e_ldI lin_X7_beginOf n_X7_beginOf_121 rfl) <|
  Eq.trans (e_KI lin_X7_beginOf n_X7_beginOf_122 k_132) <|
  Eq.trans (e_IcLtF lin_X7_beginOf n_X7_beginOf_125 h1 (by decide) h13) <|
  Eq.trans (e_ldI lin_X7_beginOf n_X7_beginOf_134 rfl) <|
  Eq.trans (e_KI lin_X7_beginOf n_X7_beginOf_135 k_144) <|
  Eq.trans (e_IcLtF lin_X7_beginOf n_X7_beginOf_138 h1 (by decide) h14) <|
  Eq.trans (e_ldI lin_X7_beginOf n_X7_beginOf_147 rfl) <|
  Eq.trans (e_KI lin_X7_beginOf n_X7_beginOf_148 k_148) <|
  Eq.trans (e_IcLtF lin_X7_beginOf n_X7_beginOf_151 h1 (by decide) h15) <|
  Eq.trans (e_ldI lin_X7_beginOf n_X7_beginOf_160 rfl) <|
  Eq.trans (e_KI lin_X7_beginOf n_X7_beginOf_161 k_152) <|
  Eq.trans (e_IcLtF lin_X7_beginOf n_X7_beginOf_164 h1 (by decide) h16) <|
  Eq.trans (e_ldI lin_X7_beginOf n_X7_beginOf_173 rfl) <|
  Eq.trans (e_KI lin_X7_beginOf n_X7_beginOf_174 k_156) <|
  Eq.trans (e_IcLtF lin_X7_beginOf n_X7_beginOf_177 h1 (by decide) h17) <|
  Eq.trans (e_ldI lin_X7_beginOf n_X7_beginOf_186 rfl) <|
  Eq.trans (e_KI lin_X7_beginOf n_X7_beginOf_187 k_159) <|
  Eq.trans (e_IcLtT lin_X7_beginOf n_X7_beginOf_190 h1 (by decide) h18) <|
  Eq.trans (e_KI lin_X7_beginOf n_X7_beginOf_193 k_156) <|
  Eq.trans (e_goto lin_X7_beginOf n_X7_beginOf_196) <|
  e_retI lin_X7_beginOf n_X7_beginOf_267
theorem c_X7_beginOf_FFFFFFFFFFFFFFFFFT {fi fl : HI} {cr : HR} {sh : HS} {nx sl d : Nat} {x0 : Int} (h1 : -2147483648 ≤ x0 ∧ x0 < 2147483648 := by omega) (h2 : 20 ≤ x0 := by omega) (h3 : 40 ≤ x0 := by omega) (h4 : 60 ≤ x0 := by omega) (h5 : 61 ≤ x0 := by omega) (h6 : 65 ≤ x0 := by omega) (h7 : 68 ≤ x0 := by omega) (h8 : 92 ≤ x0 := by omega) (h9 : 96 ≤ x0 := by omega) (h10 : 120 ≤ x0 := by omega) (h11 : 124 ≤ x0 := by omega) (h12 : 128 ≤ x0 := by omega) (h13 : 132 ≤ x0 := by omega) (h14 : 144 ≤ x0 := by omega) (h15 : 148 ≤ x0 := by omega) (h16 : 152 ≤ x0 := by omega) (h17 : 156 ≤ x0 := by omega) (h18 : 159 ≤ x0 := by omega) (h19 : x0 < 179 := by omega) :
  CD mt (d + 1) 211 [iv x0] (G fi fl cr sh nx sl) = some (.returned (some (iv 159)), (G fi fl cr sh nx sl)) :=
  Eq.trans (CD_at (ls := [iv x0]) _ _ mt_X7_beginOf rfl rfl) <|
  Eq.trans (e_ldI lin_X7_beginOf n_X7_beginOf_0 rfl) <|
  Eq.trans (e_KI lin_X7_beginOf n_X7_beginOf_1 k_20) <|
  Eq.trans (e_IcLtF lin_X7_beginOf n_X7_beginOf_3 h1 (by decide) h2) <|
  Eq.trans (e_ldI lin_X7_beginOf n_X7_beginOf_10 rfl) <|
  Eq.trans (e_KI lin_X7_beginOf n_X7_beginOf_11 k_40) <|
  Eq.trans (e_IcLtF lin_X7_beginOf n_X7_beginOf_13 h1 (by decide) h3) <|
  Eq.trans (e_ldI lin_X7_beginOf n_X7_beginOf_21 rfl) <|
  Eq.trans (e_KI lin_X7_beginOf n_X7_beginOf_22 k_60) <|
  Eq.trans (e_IcLtF lin_X7_beginOf n_X7_beginOf_24 h1 (by decide) h4) <|
  Eq.trans (e_ldI lin_X7_beginOf n_X7_beginOf_32 rfl) <|
  Eq.trans (e_KI lin_X7_beginOf n_X7_beginOf_33 k_61) <|
  Eq.trans (e_IcLtF lin_X7_beginOf n_X7_beginOf_35 h1 (by decide) h5) <|
  Eq.trans (e_ldI lin_X7_beginOf n_X7_beginOf_43 rfl) <|
  Eq.trans (e_KI lin_X7_beginOf n_X7_beginOf_44 k_65) <|
  Eq.trans (e_IcLtF lin_X7_beginOf n_X7_beginOf_46 h1 (by decide) h6) <|
  Eq.trans (e_ldI lin_X7_beginOf n_X7_beginOf_54 rfl) <|
  Eq.trans (e_KI lin_X7_beginOf n_X7_beginOf_55 k_68) <|
  Eq.trans (e_IcLtF lin_X7_beginOf n_X7_beginOf_57 h1 (by decide) h7) <|
  Eq.trans (e_ldI lin_X7_beginOf n_X7_beginOf_65 rfl) <|
  Eq.trans (e_KI lin_X7_beginOf n_X7_beginOf_66 k_92) <|
  Eq.trans (e_IcLtF lin_X7_beginOf n_X7_beginOf_68 h1 (by decide) h8) <|
  Eq.trans (e_ldI lin_X7_beginOf n_X7_beginOf_76 rfl) <|
  Eq.trans (e_KI lin_X7_beginOf n_X7_beginOf_77 k_96) <|
  Eq.trans (e_IcLtF lin_X7_beginOf n_X7_beginOf_79 h1 (by decide) h9) <|
  Eq.trans (e_ldI lin_X7_beginOf n_X7_beginOf_87 rfl) <|
  Eq.trans (e_KI lin_X7_beginOf n_X7_beginOf_88 k_120) <|
  Eq.trans (e_IcLtF lin_X7_beginOf n_X7_beginOf_90 h1 (by decide) h10) <|
  Eq.trans (e_ldI lin_X7_beginOf n_X7_beginOf_98 rfl) <|
  Eq.trans (e_KI lin_X7_beginOf n_X7_beginOf_99 k_124) <|
  Eq.trans (e_IcLtF lin_X7_beginOf n_X7_beginOf_101 h1 (by decide) h11) <|
  Eq.trans (e_ldI lin_X7_beginOf n_X7_beginOf_109 rfl) <|
  Eq.trans (e_KI lin_X7_beginOf n_X7_beginOf_110 k_128) <|
  Eq.trans (e_IcLtF lin_X7_beginOf n_X7_beginOf_113 h1 (by decide) h12) <|
  Eq.trans (e_ldI lin_X7_beginOf n_X7_beginOf_121 rfl) <|
  Eq.trans (e_KI lin_X7_beginOf n_X7_beginOf_122 k_132) <|
  Eq.trans (e_IcLtF lin_X7_beginOf n_X7_beginOf_125 h1 (by decide) h13) <|
  Eq.trans (e_ldI lin_X7_beginOf n_X7_beginOf_134 rfl) <|
  Eq.trans (e_KI lin_X7_beginOf n_X7_beginOf_135 k_144) <|
  Eq.trans (e_IcLtF lin_X7_beginOf n_X7_beginOf_138 h1 (by decide) h14) <|
  Eq.trans (e_ldI lin_X7_beginOf n_X7_beginOf_147 rfl) <|
  Eq.trans (e_KI lin_X7_beginOf n_X7_beginOf_148 k_148) <|
  Eq.trans (e_IcLtF lin_X7_beginOf n_X7_beginOf_151 h1 (by decide) h15) <|
  Eq.trans (e_ldI lin_X7_beginOf n_X7_beginOf_160 rfl) <|
  Eq.trans (e_KI lin_X7_beginOf n_X7_beginOf_161 k_152) <|
  Eq.trans (e_IcLtF lin_X7_beginOf n_X7_beginOf_164 h1 (by decide) h16) <|
  Eq.trans (e_ldI lin_X7_beginOf n_X7_beginOf_173 rfl) <|
  Eq.trans (e_KI lin_X7_beginOf n_X7_beginOf_174 k_156) <|
  Eq.trans (e_IcLtF lin_X7_beginOf n_X7_beginOf_177 h1 (by decide) h17) <|
  Eq.trans (e_ldI lin_X7_beginOf n_X7_beginOf_186 rfl) <|
  Eq.trans (e_KI lin_X7_beginOf n_X7_beginOf_187 k_159) <|
  Eq.trans (e_IcLtF lin_X7_beginOf n_X7_beginOf_190 h1 (by decide) h18) <|
  Eq.trans (e_ldI lin_X7_beginOf n_X7_beginOf_199 rfl) <|
  Eq.trans (e_KI lin_X7_beginOf n_X7_beginOf_200 k_179) <|
  Eq.trans (e_IcLtT lin_X7_beginOf n_X7_beginOf_203 h1 (by decide) h19) <|
  Eq.trans (e_KI lin_X7_beginOf n_X7_beginOf_206 k_159) <|
  Eq.trans (e_goto lin_X7_beginOf n_X7_beginOf_209) <|
  e_retI lin_X7_beginOf n_X7_beginOf_267
theorem c_X7_beginOf_FFFFFFFFFFFFFFFFFFT {fi fl : HI} {cr : HR} {sh : HS} {nx sl d : Nat} {x0 : Int} (h1 : -2147483648 ≤ x0 ∧ x0 < 2147483648 := by omega) (h2 : 20 ≤ x0 := by omega) (h3 : 40 ≤ x0 := by omega) (h4 : 60 ≤ x0 := by omega) (h5 : 61 ≤ x0 := by omega) (h6 : 65 ≤ x0 := by omega) (h7 : 68 ≤ x0 := by omega) (h8 : 92 ≤ x0 := by omega) (h9 : 96 ≤ x0 := by omega) (h10 : 120 ≤ x0 := by omega) (h11 : 124 ≤ x0 := by omega) (h12 : 128 ≤ x0 := by omega) (h13 : 132 ≤ x0 := by omega) (h14 : 144 ≤ x0 := by omega) (h15 : 148 ≤ x0 := by omega) (h16 : 152 ≤ x0 := by omega) (h17 : 156 ≤ x0 := by omega) (h18 : 159 ≤ x0 := by omega) (h19 : 179 ≤ x0 := by omega) (h20 : x0 < 180 := by omega) :
  CD mt (d + 1) 211 [iv x0] (G fi fl cr sh nx sl) = some (.returned (some (iv 179)), (G fi fl cr sh nx sl)) :=
  Eq.trans (CD_at (ls := [iv x0]) _ _ mt_X7_beginOf rfl rfl) <|
  Eq.trans (e_ldI lin_X7_beginOf n_X7_beginOf_0 rfl) <|
  Eq.trans (e_KI lin_X7_beginOf n_X7_beginOf_1 k_20) <|
  Eq.trans (e_IcLtF lin_X7_beginOf n_X7_beginOf_3 h1 (by decide) h2) <|
  Eq.trans (e_ldI lin_X7_beginOf n_X7_beginOf_10 rfl) <|
  Eq.trans (e_KI lin_X7_beginOf n_X7_beginOf_11 k_40) <|
  Eq.trans (e_IcLtF lin_X7_beginOf n_X7_beginOf_13 h1 (by decide) h3) <|
  Eq.trans (e_ldI lin_X7_beginOf n_X7_beginOf_21 rfl) <|
  Eq.trans (e_KI lin_X7_beginOf n_X7_beginOf_22 k_60) <|
  Eq.trans (e_IcLtF lin_X7_beginOf n_X7_beginOf_24 h1 (by decide) h4) <|
  Eq.trans (e_ldI lin_X7_beginOf n_X7_beginOf_32 rfl) <|
  Eq.trans (e_KI lin_X7_beginOf n_X7_beginOf_33 k_61) <|
  Eq.trans (e_IcLtF lin_X7_beginOf n_X7_beginOf_35 h1 (by decide) h5) <|
  Eq.trans (e_ldI lin_X7_beginOf n_X7_beginOf_43 rfl) <|
  Eq.trans (e_KI lin_X7_beginOf n_X7_beginOf_44 k_65) <|
  Eq.trans (e_IcLtF lin_X7_beginOf n_X7_beginOf_46 h1 (by decide) h6) <|
  Eq.trans (e_ldI lin_X7_beginOf n_X7_beginOf_54 rfl) <|
  Eq.trans (e_KI lin_X7_beginOf n_X7_beginOf_55 k_68) <|
  Eq.trans (e_IcLtF lin_X7_beginOf n_X7_beginOf_57 h1 (by decide) h7) <|
  Eq.trans (e_ldI lin_X7_beginOf n_X7_beginOf_65 rfl) <|
  Eq.trans (e_KI lin_X7_beginOf n_X7_beginOf_66 k_92) <|
  Eq.trans (e_IcLtF lin_X7_beginOf n_X7_beginOf_68 h1 (by decide) h8) <|
  Eq.trans (e_ldI lin_X7_beginOf n_X7_beginOf_76 rfl) <|
  Eq.trans (e_KI lin_X7_beginOf n_X7_beginOf_77 k_96) <|
  Eq.trans (e_IcLtF lin_X7_beginOf n_X7_beginOf_79 h1 (by decide) h9) <|
  Eq.trans (e_ldI lin_X7_beginOf n_X7_beginOf_87 rfl) <|
  Eq.trans (e_KI lin_X7_beginOf n_X7_beginOf_88 k_120) <|
  Eq.trans (e_IcLtF lin_X7_beginOf n_X7_beginOf_90 h1 (by decide) h10) <|
  Eq.trans (e_ldI lin_X7_beginOf n_X7_beginOf_98 rfl) <|
  Eq.trans (e_KI lin_X7_beginOf n_X7_beginOf_99 k_124) <|
  Eq.trans (e_IcLtF lin_X7_beginOf n_X7_beginOf_101 h1 (by decide) h11) <|
  Eq.trans (e_ldI lin_X7_beginOf n_X7_beginOf_109 rfl) <|
  Eq.trans (e_KI lin_X7_beginOf n_X7_beginOf_110 k_128) <|
  Eq.trans (e_IcLtF lin_X7_beginOf n_X7_beginOf_113 h1 (by decide) h12) <|
  Eq.trans (e_ldI lin_X7_beginOf n_X7_beginOf_121 rfl) <|
  Eq.trans (e_KI lin_X7_beginOf n_X7_beginOf_122 k_132) <|
  Eq.trans (e_IcLtF lin_X7_beginOf n_X7_beginOf_125 h1 (by decide) h13) <|
  Eq.trans (e_ldI lin_X7_beginOf n_X7_beginOf_134 rfl) <|
  Eq.trans (e_KI lin_X7_beginOf n_X7_beginOf_135 k_144) <|
  Eq.trans (e_IcLtF lin_X7_beginOf n_X7_beginOf_138 h1 (by decide) h14) <|
  Eq.trans (e_ldI lin_X7_beginOf n_X7_beginOf_147 rfl) <|
  Eq.trans (e_KI lin_X7_beginOf n_X7_beginOf_148 k_148) <|
  Eq.trans (e_IcLtF lin_X7_beginOf n_X7_beginOf_151 h1 (by decide) h15) <|
  Eq.trans (e_ldI lin_X7_beginOf n_X7_beginOf_160 rfl) <|
  Eq.trans (e_KI lin_X7_beginOf n_X7_beginOf_161 k_152) <|
  Eq.trans (e_IcLtF lin_X7_beginOf n_X7_beginOf_164 h1 (by decide) h16) <|
  Eq.trans (e_ldI lin_X7_beginOf n_X7_beginOf_173 rfl) <|
  Eq.trans (e_KI lin_X7_beginOf n_X7_beginOf_174 k_156) <|
  Eq.trans (e_IcLtF lin_X7_beginOf n_X7_beginOf_177 h1 (by decide) h17) <|
  Eq.trans (e_ldI lin_X7_beginOf n_X7_beginOf_186 rfl) <|
  Eq.trans (e_KI lin_X7_beginOf n_X7_beginOf_187 k_159) <|
  Eq.trans (e_IcLtF lin_X7_beginOf n_X7_beginOf_190 h1 (by decide) h18) <|
  Eq.trans (e_ldI lin_X7_beginOf n_X7_beginOf_199 rfl) <|
  Eq.trans (e_KI lin_X7_beginOf n_X7_beginOf_200 k_179) <|
  Eq.trans (e_IcLtF lin_X7_beginOf n_X7_beginOf_203 h1 (by decide) h19) <|
  Eq.trans (e_ldI lin_X7_beginOf n_X7_beginOf_212 rfl) <|
  Eq.trans (e_KI lin_X7_beginOf n_X7_beginOf_213 k_180) <|
  Eq.trans (e_IcLtT lin_X7_beginOf n_X7_beginOf_216 h1 (by decide) h20) <|
  Eq.trans (e_KI lin_X7_beginOf n_X7_beginOf_219 k_179) <|
  Eq.trans (e_goto lin_X7_beginOf n_X7_beginOf_222) <|
  e_retI lin_X7_beginOf n_X7_beginOf_267
theorem c_X7_beginOf_FFFFFFFFFFFFFFFFFFFT {fi fl : HI} {cr : HR} {sh : HS} {nx sl d : Nat} {x0 : Int} (h1 : -2147483648 ≤ x0 ∧ x0 < 2147483648 := by omega) (h2 : 20 ≤ x0 := by omega) (h3 : 40 ≤ x0 := by omega) (h4 : 60 ≤ x0 := by omega) (h5 : 61 ≤ x0 := by omega) (h6 : 65 ≤ x0 := by omega) (h7 : 68 ≤ x0 := by omega) (h8 : 92 ≤ x0 := by omega) (h9 : 96 ≤ x0 := by omega) (h10 : 120 ≤ x0 := by omega) (h11 : 124 ≤ x0 := by omega) (h12 : 128 ≤ x0 := by omega) (h13 : 132 ≤ x0 := by omega) (h14 : 144 ≤ x0 := by omega) (h15 : 148 ≤ x0 := by omega) (h16 : 152 ≤ x0 := by omega) (h17 : 156 ≤ x0 := by omega) (h18 : 159 ≤ x0 := by omega) (h19 : 179 ≤ x0 := by omega) (h20 : 180 ≤ x0 := by omega) (h21 : x0 < 181 := by omega) :
  CD mt (d + 1) 211 [iv x0] (G fi fl cr sh nx sl) = some (.returned (some (iv 180)), (G fi fl cr sh nx sl)) :=
  Eq.trans (CD_at (ls := [iv x0]) _ _ mt_X7_beginOf rfl rfl) <|
  Eq.trans (e_ldI lin_X7_beginOf n_X7_beginOf_0 rfl) <|
  Eq.trans (e_KI lin_X7_beginOf n_X7_beginOf_1 k_20) <|
  Eq.trans (e_IcLtF lin_X7_beginOf n_X7_beginOf_3 h1 (by decide) h2) <|
  Eq.trans (e_ldI lin_X7_beginOf n_X7_beginOf_10 rfl) <|
  Eq.trans (e_KI lin_X7_beginOf n_X7_beginOf_11 k_40) <|
  Eq.trans (e_IcLtF lin_X7_beginOf n_X7_beginOf_13 h1 (by decide) h3) <|
  Eq.trans (e_ldI lin_X7_beginOf n_X7_beginOf_21 rfl) <|
  Eq.trans (e_KI lin_X7_beginOf n_X7_beginOf_22 k_60) <|
  Eq.trans (e_IcLtF lin_X7_beginOf n_X7_beginOf_24 h1 (by decide) h4) <|
  Eq.trans (e_ldI lin_X7_beginOf n_X7_beginOf_32 rfl) <|
  Eq.trans (e_KI lin_X7_beginOf n_X7_beginOf_33 k_61) <|
  Eq.trans (e_IcLtF lin_X7_beginOf n_X7_beginOf_35 h1 (by decide) h5) <|
  Eq.trans (e_ldI lin_X7_beginOf n_X7_beginOf_43 rfl) <|
  Eq.trans (e_KI lin_X7_beginOf n_X7_beginOf_44 k_65) <|
  Eq.trans (e_IcLtF lin_X7_beginOf n_X7_beginOf_46 h1 (by decide) h6) <|
  Eq.trans (e_ldI lin_X7_beginOf n_X7_beginOf_54 rfl) <|
  Eq.trans (e_KI lin_X7_beginOf n_X7_beginOf_55 k_68) <|
  Eq.trans (e_IcLtF lin_X7_beginOf n_X7_beginOf_57 h1 (by decide) h7) <|
  Eq.trans (e_ldI lin_X7_beginOf n_X7_beginOf_65 rfl) <|
  Eq.trans (e_KI lin_X7_beginOf n_X7_beginOf_66 k_92) <|
  Eq.trans (e_IcLtF lin_X7_beginOf n_X7_beginOf_68 h1 (by decide) h8) <|
  Eq.trans (e_ldI lin_X7_beginOf n_X7_beginOf_76 rfl) <|
  Eq.trans (e_KI lin_X7_beginOf n_X7_beginOf_77 k_96) <|
  Eq.trans (e_IcLtF lin_X7_beginOf n_X7_beginOf_79 h1 (by decide) h9) <|
  Eq.trans (e_ldI lin_X7_beginOf n_X7_beginOf_87 rfl) <|
  Eq.trans (e_KI lin_X7_beginOf n_X7_beginOf_88 k_120) <|
  Eq.trans (e_IcLtF lin_X7_beginOf n_X7_beginOf_90 h1 (by decide) h10) <|
  Eq.trans (e_ldI lin_X7_beginOf n_X7_beginOf_98 rfl) <|
  Eq.trans (e_KI lin_X7_beginOf n_X7_beginOf_99 k_124) <|
  Eq.trans (e_IcLtF lin_X7_beginOf n_X7_beginOf_101 h1 (by decide) h11) <|
  Eq.trans (e_ldI lin_X7_beginOf n_X7_beginOf_109 rfl) <|
  Eq.trans (e_KI lin_X7_beginOf n_X7_beginOf_110 k_128) <|
  Eq.trans (e_IcLtF lin_X7_beginOf n_X7_beginOf_113 h1 (by decide) h12) <|
  Eq.trans (e_ldI lin_X7_beginOf n_X7_beginOf_121 rfl) <|
  Eq.trans (e_KI lin_X7_beginOf n_X7_beginOf_122 k_132) <|
  Eq.trans (e_IcLtF lin_X7_beginOf n_X7_beginOf_125 h1 (by decide) h13) <|
  Eq.trans (e_ldI lin_X7_beginOf n_X7_beginOf_134 rfl) <|
  Eq.trans (e_KI lin_X7_beginOf n_X7_beginOf_135 k_144) <|
  Eq.trans (e_IcLtF lin_X7_beginOf n_X7_beginOf_138 h1 (by decide) h14) <|
  Eq.trans (e_ldI lin_X7_beginOf n_X7_beginOf_147 rfl) <|
  Eq.trans (e_KI lin_X7_beginOf n_X7_beginOf_148 k_148) <|
  Eq.trans (e_IcLtF lin_X7_beginOf n_X7_beginOf_151 h1 (by decide) h15) <|
  Eq.trans (e_ldI lin_X7_beginOf n_X7_beginOf_160 rfl) <|
  Eq.trans (e_KI lin_X7_beginOf n_X7_beginOf_161 k_152) <|
  Eq.trans (e_IcLtF lin_X7_beginOf n_X7_beginOf_164 h1 (by decide) h16) <|
  Eq.trans (e_ldI lin_X7_beginOf n_X7_beginOf_173 rfl) <|
  Eq.trans (e_KI lin_X7_beginOf n_X7_beginOf_174 k_156) <|
  Eq.trans (e_IcLtF lin_X7_beginOf n_X7_beginOf_177 h1 (by decide) h17) <|
  Eq.trans (e_ldI lin_X7_beginOf n_X7_beginOf_186 rfl) <|
  Eq.trans (e_KI lin_X7_beginOf n_X7_beginOf_187 k_159) <|
  Eq.trans (e_IcLtF lin_X7_beginOf n_X7_beginOf_190 h1 (by decide) h18) <|
  Eq.trans (e_ldI lin_X7_beginOf n_X7_beginOf_199 rfl) <|
  Eq.trans (e_KI lin_X7_beginOf n_X7_beginOf_200 k_179) <|
  Eq.trans (e_IcLtF lin_X7_beginOf n_X7_beginOf_203 h1 (by decide) h19) <|
  Eq.trans (e_ldI lin_X7_beginOf n_X7_beginOf_212 rfl) <|
  Eq.trans (e_KI lin_X7_beginOf n_X7_beginOf_213 k_180) <|
  Eq.trans (e_IcLtF lin_X7_beginOf n_X7_beginOf_216 h1 (by decide) h20) <|
  Eq.trans (e_ldI lin_X7_beginOf n_X7_beginOf_225 rfl) <|
  Eq.trans (e_KI lin_X7_beginOf n_X7_beginOf_226 k_181) <|
  Eq.trans (e_IcLtT lin_X7_beginOf n_X7_beginOf_229 h1 (by decide) h21) <|
  Eq.trans (e_KI lin_X7_beginOf n_X7_beginOf_232 k_180) <|
  Eq.trans (e_goto lin_X7_beginOf n_X7_beginOf_235) <|
  e_retI lin_X7_beginOf n_X7_beginOf_267
theorem c_X7_beginOf_FFFFFFFFFFFFFFFFFFFFT {fi fl : HI} {cr : HR} {sh : HS} {nx sl d : Nat} {x0 : Int} (h1 : -2147483648 ≤ x0 ∧ x0 < 2147483648 := by omega) (h2 : 20 ≤ x0 := by omega) (h3 : 40 ≤ x0 := by omega) (h4 : 60 ≤ x0 := by omega) (h5 : 61 ≤ x0 := by omega) (h6 : 65 ≤ x0 := by omega) (h7 : 68 ≤ x0 := by omega) (h8 : 92 ≤ x0 := by omega) (h9 : 96 ≤ x0 := by omega) (h10 : 120 ≤ x0 := by omega) (h11 : 124 ≤ x0 := by omega) (h12 : 128 ≤ x0 := by omega) (h13 : 132 ≤ x0 := by omega) (h14 : 144 ≤ x0 := by omega) (h15 : 148 ≤ x0 := by omega) (h16 : 152 ≤ x0 := by omega) (h17 : 156 ≤ x0 := by omega) (h18 : 159 ≤ x0 := by omega) (h19 : 179 ≤ x0 := by omega) (h20 : 180 ≤ x0 := by omega) (h21 : 181 ≤ x0 := by omega) (h22 : x0 < 193 := by omega) :
  CD mt (d + 1) 211 [iv x0] (G fi fl cr sh nx sl) = some (.returned (some (iv 181)), (G fi fl cr sh nx sl)) :=
  Eq.trans (CD_at (ls := [iv x0]) _ _ mt_X7_beginOf rfl rfl) <|
  Eq.trans (e_ldI lin_X7_beginOf n_X7_beginOf_0 rfl) <|
  Eq.trans (e_KI lin_X7_beginOf n_X7_beginOf_1 k_20) <|
  Eq.trans (e_IcLtF lin_X7_beginOf n_X7_beginOf_3 h1 (by decide) h2) <|
  Eq.trans (e_ldI lin_X7_beginOf n_X7_beginOf_10 rfl) <|
  Eq.trans (e_KI lin_X7_beginOf n_X7_beginOf_11 k_40) <|
  Eq.trans (e_IcLtF lin_X7_beginOf n_X7_beginOf_13 h1 (by decide) h3) <|
  Eq.trans (e_ldI lin_X7_beginOf n_X7_beginOf_21 rfl) <|
  Eq.trans (e_KI lin_X7_beginOf n_X7_beginOf_22 k_60) <|
  Eq.trans (e_IcLtF lin_X7_beginOf n_X7_beginOf_24 h1 (by decide) h4) <|
  Eq.trans (e_ldI lin_X7_beginOf n_X7_beginOf_32 rfl) <|
  Eq.trans (e_KI lin_X7_beginOf n_X7_beginOf_33 k_61) <|
  Eq.trans (e_IcLtF lin_X7_beginOf n_X7_beginOf_35 h1 (by decide) h5) <|
  Eq.trans (e_ldI lin_X7_beginOf n_X7_beginOf_43 rfl) <|
  Eq.trans (e_KI lin_X7_beginOf n_X7_beginOf_44 k_65) <|
  Eq.trans (e_IcLtF lin_X7_beginOf n_X7_beginOf_46 h1 (by decide) h6) <|
  Eq.trans (e_ldI lin_X7_beginOf n_X7_beginOf_54 rfl) <|
  Eq.trans (e_KI lin_X7_beginOf n_X7_beginOf_55 k_68) <|
  Eq.trans (e_IcLtF lin_X7_beginOf n_X7_beginOf_57 h1 (by decide) h7) <|
  Eq.trans (e_ldI lin_X7_beginOf n_X7_beginOf_65 rfl) <|
  Eq.trans (e_KI lin_X7_beginOf n_X7_beginOf_66 k_92) <|
  Eq.trans (e_IcLtF lin_X7_beginOf n_X7_beginOf_68 h1 (by decide) h8) <|
  Eq.trans (e_ldI lin_X7_beginOf n_X7_beginOf_76 rfl) <|
  Eq.trans (e_KI lin_X7_beginOf n_X7_beginOf_77 k_96) <|
  Eq.trans (e_IcLtF lin_X7_beginOf n_X7_beginOf_79 h1 (by decide) h9) <|
  Eq.trans (e_ldI lin_X7_beginOf n_X7_beginOf_87 rfl) <|
  Eq.trans (e_KI lin_X7_beginOf n_X7_beginOf_88 k_120) <|
  Eq.trans (e_IcLtF lin_X7_beginOf n_X7_beginOf_90 h1 (by decide) h10) <|
  Eq.trans (e_ldI lin_X7_beginOf n_X7_beginOf_98 rfl) <|
  Eq.trans (e_KI lin_X7_beginOf n_X7_beginOf_99 k_124) <|
  Eq.trans (e_IcLtF lin_X7_beginOf n_X7_beginOf_101 h1 (by decide) h11) <|
  Eq.trans (e_ldI lin_X7_beginOf n_X7_beginOf_109 rfl) <|
  Eq.trans (e_KI lin_X7_beginOf n_X7_beginOf_110 k_128) <|
  Eq.trans (e_IcLtF lin_X7_beginOf n_X7_beginOf_113 h1 (by decide) h12) <|
  Eq.trans (e_ldI lin_X7_beginOf n_X7_beginOf_121 rfl) <|
  Eq.trans (e_KI lin_X7_beginOf n_X7_beginOf_122 k_132) <|
  Eq.trans (e_IcLtF lin_X7_beginOf n_X7_beginOf_125 h1 (by decide) h13) <|
  Eq.trans (e_ldI lin_X7_beginOf n_X7_beginOf_134 rfl) <|
  Eq.trans (e_KI lin_X7_beginOf n_X7_beginOf_135 k_144) <|
  Eq.trans (e_IcLtF lin_X7_beginOf n_X7_beginOf_138 h1 (by decide) h14) <|
  Eq.trans (e_ldI lin_X7_beginOf n_X7_beginOf_147 rfl) <|
  Eq.trans (e_KI lin_X7_beginOf n_X7_beginOf_148 k_148) <|
  Eq.trans (e_IcLtF lin_X7_beginOf n_X7_beginOf_151 h1 (by decide) h15) <|
  Eq.trans (e_ldI lin_X7_beginOf n_X7_beginOf_160 rfl) <|
  Eq.trans (e_KI lin_X7_beginOf n_X7_beginOf_161 k_152) <|
  Eq.trans (e_IcLtF lin_X7_beginOf n_X7_beginOf_164 h1 (by decide) h16) <|
  Eq.trans (e_ldI lin_X7_beginOf n_X7_beginOf_173 rfl) <|
  Eq.trans (e_KI lin_X7_beginOf n_X7_beginOf_174 k_156) <|
  Eq.trans (e_IcLtF lin_X7_beginOf n_X7_beginOf_177 h1 (by decide) h17) <|
  Eq.trans (e_ldI lin_X7_beginOf n_X7_beginOf_186 rfl) <|
  Eq.trans (e_KI lin_X7_beginOf n_X7_beginOf_187 k_159) <|
  Eq.trans (e_IcLtF lin_X7_beginOf n_X7_beginOf_190 h1 (by decide) h18) <|
  Eq.trans (e_ldI lin_X7_beginOf n_X7_beginOf_199 rfl) <|
  Eq.trans (e_KI lin_X7_beginOf n_X7_beginOf_200 k_179) <|
  Eq.trans (e_IcLtF lin_X7_beginOf n_X7_beginOf_203 h1 (by decide) h19) <|
  Eq.trans (e_ldI lin_X7_beginOf n_X7_beginOf_212 rfl) <|
  Eq.trans (e_KI lin_X7_beginOf n_X7_beginOf_213 k_180) <|
  Eq.trans (e_IcLtF lin_X7_beginOf n_X7_beginOf_216 h1 (by decide) h20) <|
  Eq.trans (e_ldI lin_X7_beginOf n_X7_beginOf_225 rfl) <|
  Eq.trans (e_KI lin_X7_beginOf n_X7_beginOf_226 k_181) <|
  Eq.trans (e_IcLtF lin_X7_beginOf n_X7_beginOf_229 h1 (by decide) h21) <|
  Eq.trans (e_ldI lin_X7_beginOf n_X7_beginOf_238 rfl) <|
  Eq.trans (e_KI lin_X7_beginOf n_X7_beginOf_239 k_193) <|
  Eq.trans (e_IcLtT lin_X7_beginOf n_X7_beginOf_242 h1 (by decide) h22) <|
  Eq.trans (e_KI lin_X7_beginOf n_X7_beginOf_245 k_181) <|
  Eq.trans (e_goto lin_X7_beginOf n_X7_beginOf_248) <|
  e_retI lin_X7_beginOf n_X7_beginOf_267
theorem c_X7_beginOf_FFFFFFFFFFFFFFFFFFFFFT {fi fl : HI} {cr : HR} {sh : HS} {nx sl d : Nat} {x0 : Int} (h1 : -2147483648 ≤ x0 ∧ x0 < 2147483648 := by omega) (h2 : 20 ≤ x0 := by omega) (h3 : 40 ≤ x0 := by omega) (h4 : 60 ≤ x0 := by omega) (h5 : 61 ≤ x0 := by omega) (h6 : 65 ≤ x0 := by omega) (h7 : 68 ≤ x0 := by omega) (h8 : 92 ≤ x0 := by omega) (h9 : 96 ≤ x0 := by omega) (h10 : 120 ≤ x0 := by omega) (h11 : 124 ≤ x0 := by omega) (h12 : 128 ≤ x0 := by omega) (h13 : 132 ≤ x0 := by omega) (h14 : 144 ≤ x0 := by omega) (h15 : 148 ≤ x0 := by omega) (h16 : 152 ≤ x0 := by omega) (h17 : 156 ≤ x0 := by omega) (h18 : 159 ≤ x0 := by omega) (h19 : 179 ≤ x0 := by omega) (h20 : 180 ≤ x0 := by omega) (h21 : 181 ≤ x0 := by omega) (h22 : 193 ≤ x0 := by omega) (h23 : x0 < 205 := by omega) :
  CD mt (d + 1) 211 [iv x0] (G fi fl cr sh nx sl) = some (.returned (some (iv 193)), (G fi fl cr sh nx sl)) :=
  Eq.trans (CD_at (ls := [iv x0]) _ _ mt_X7_beginOf rfl rfl) <|
  Eq.trans (e_ldI lin_X7_beginOf n_X7_beginOf_0 rfl) <|
  Eq.trans (e_KI lin_X7_beginOf n_X7_beginOf_1 k_20) <|
  Eq.trans (e_IcLtF lin_X7_beginOf n_X7_beginOf_3 h1 (by decide) h2) <|
  Eq.trans (e_ldI lin_X7_beginOf n_X7_beginOf_10 rfl) <|
  Eq.trans (e_KI lin_X7_beginOf n_X7_beginOf_11 k_40) <|
  Eq.trans (e_IcLtF lin_X7_beginOf n_X7_beginOf_13 h1 (by decide) h3) <|
  Eq.trans (e_ldI lin_X7_beginOf n_X7_beginOf_21 rfl) <|
  Eq.trans (e_KI lin_X7_beginOf n_X7_beginOf_22 k_60) <|
  Eq.trans (e_IcLtF lin_X7_beginOf n_X7_beginOf_24 h1 (by decide) h4) <|
  Eq.trans (e_ldI lin_X7_beginOf n_X7_beginOf_32 rfl) <|
  Eq.trans (e_KI lin_X7_beginOf n_X7_beginOf_33 k_61) <|
  Eq.trans (e_IcLtF lin_X7_beginOf n_X7_beginOf_35 h1 (by decide) h5) <|
  Eq.trans (e_ldI lin_X7_beginOf n_X7_beginOf_43 rfl) <|
  Eq.trans (e_KI lin_X7_beginOf n_X7_beginOf_44 k_65) <|
  Eq.trans (e_IcLtF lin_X7_beginOf n_X7_beginOf_46 h1 (by decide) h6) <|
  Eq.trans (e_ldI lin_X7_beginOf n_X7_beginOf_54 rfl) <|
  Eq.trans (e_KI lin_X7_beginOf n_X7_beginOf_55 k_68) <|
  Eq.trans (e_IcLtF lin_X7_beginOf n_X7_beginOf_57 h1 (by decide) h7) <|
  Eq.trans (e_ldI lin_X7_beginOf n_X7_beginOf_65 rfl) <|
  Eq.trans (e_KI lin_X7_beginOf n_X7_beginOf_66 k_92) <|
  Eq.trans (e_IcLtF lin_X7_beginOf n_X7_beginOf_68 h1 (by decide) h8) <|
  Eq.trans (e_ldI lin_X7_beginOf n_X7_beginOf_76 rfl) <|
  Eq.trans (e_KI lin_X7_beginOf n_X7_beginOf_77 k_96) <|
  Eq.trans (e_IcLtF lin_X7_beginOf n_X7_beginOf_79 h1 (by decide) h9) <|
  Eq.trans (e_ldI lin_X7_beginOf n_X7_beginOf_87 rfl) <|
  Eq.trans (e_KI lin_X7_beginOf n_X7_beginOf_88 k_120) <|
  Eq.trans (e_IcLtF lin_X7_beginOf n_X7_beginOf_90 h1 (by decide) h10) <|
  Eq.trans (e_ldI lin_X7_beginOf n_X7_beginOf_98 rfl) <|
  Eq.trans (e_KI lin_X7_beginOf n_X7_beginOf_99 k_124) <|
  Eq.trans (e_IcLtF lin_X7_beginOf n_X7_beginOf_101 h1 (by decide) h11) <|
  Eq.trans (e_ldI lin_X7_beginOf n_X7_beginOf_109 rfl) <|
  Eq.trans (e_KI lin_X7_beginOf n_X7_beginOf_110 k_128) <|
  Eq.trans (e_IcLtF lin_X7_beginOf n_X7_beginOf_113 h1 (by decide) h12) <|
  Eq.trans (e_ldI lin_X7_beginOf n_X7_beginOf_121 rfl) <|
  Eq.trans (e_KI lin_X7_beginOf n_X7_beginOf_122 k_132) <|
  Eq.trans (e_IcLtF lin_X7_beginOf n_X7_beginOf_125 h1 (by decide) h13) <|
  Eq.trans (e_ldI lin_X7_beginOf n_X7_beginOf_134 rfl) <|
  Eq.trans (e_KI lin_X7_beginOf n_X7_beginOf_135 k_144) <|
  Eq.trans (e_IcLtF lin_X7_beginOf n_X7_beginOf_138 h1 (by decide) h14) <|
  Eq.trans (e_ldI lin_X7_beginOf n_X7_beginOf_147 rfl) <|
  Eq.trans (e_KI lin_X7_beginOf n_X7_beginOf_148 k_148) <|
  Eq.trans (e_IcLtF lin_X7_beginOf n_X7_beginOf_151 h1 (by decide) h15) <|
  Eq.trans (e_ldI lin_X7_beginOf n_X7_beginOf_160 rfl) <|
  Eq.trans (e_KI lin_X7_beginOf n_X7_beginOf_161 k_152) <|
  Eq.trans (e_IcLtF lin_X7_beginOf n_X7_beginOf_164 h1 (by decide) h16) <|
  Eq.trans (e_ldI lin_X7_beginOf n_X7_beginOf_173 rfl) <|
  Eq.trans (e_KI lin_X7_beginOf n_X7_beginOf_174 k_156) <|
  Eq.trans (e_IcLtF lin_X7_beginOf n_X7_beginOf_177 h1 (by decide) h17) <|
  Eq.trans (e_ldI lin_X7_beginOf n_X7_beginOf_186 rfl) <|
  Eq.trans (e_KI lin_X7_beginOf n_X7_beginOf_187 k_159) <|
  Eq.trans (e_IcLtF lin_X7_beginOf n_X7_beginOf_190 h1 (by decide) h18) <|
  Eq.trans (e_ldI lin_X7_beginOf n_X7_beginOf_199 rfl) <|
  Eq.trans (e_KI lin_X7_beginOf n_X7_beginOf_200 k_179) <|
  Eq.trans (e_IcLtF lin_X7_beginOf n_X7_beginOf_203 h1 (by decide) h19) <|
  Eq.trans (e_ldI lin_X7_beginOf n_X7_beginOf_212 rfl) <|
  Eq.trans (e_KI lin_X7_beginOf n_X7_beginOf_213 k_180) <|
  Eq.trans (e_IcLtF lin_X7_beginOf n_X7_beginOf_216 h1 (by decide) h20) <|
  Eq.trans (e_ldI lin_X7_beginOf n_X7_beginOf_225 rfl) <|
  Eq.trans (e_KI lin_X7_beginOf n_X7_beginOf_226 k_181) <|
  Eq.trans (e_IcLtF lin_X7_beginOf n_X7_beginOf_229 h1 (by decide) h21) <|
  Eq.trans (e_ldI lin_X7_beginOf n_X7_beginOf_238 rfl) <|
  Eq.trans (e_KI lin_X7_beginOf n_X7_beginOf_239 k_193) <|
  Eq.trans (e_IcLtF lin_X7_beginOf n_X7_beginOf_242 h1 (by decide) h22) <|
  Eq.trans (e_ldI lin_X7_beginOf n_X7_beginOf_251 rfl) <|
  Eq.trans (e_KI lin_X7_beginOf n_X7_beginOf_252 k_205) <|
  Eq.trans (e_IcLtT lin_X7_beginOf n_X7_beginOf_255 h1 (by decide) h23) <|
  Eq.trans (e_KI lin_X7_beginOf n_X7_beginOf_258 k_193) <|
  Eq.trans (e_goto lin_X7_beginOf n_X7_beginOf_261) <|
  e_retI lin_X7_beginOf n_X7_beginOf_267
theorem c_X7_beginOf_FFFFFFFFFFFFFFFFFFFFFF {fi fl : HI} {cr : HR} {sh : HS} {nx sl d : Nat} {x0 : Int} (h1 : -2147483648 ≤ x0 ∧ x0 < 2147483648 := by omega) (h2 : 20 ≤ x0 := by omega) (h3 : 40 ≤ x0 := by omega) (h4 : 60 ≤ x0 := by omega) (h5 : 61 ≤ x0 := by omega) (h6 : 65 ≤ x0 := by omega) (h7 : 68 ≤ x0 := by omega) (h8 : 92 ≤ x0 := by omega) (h9 : 96 ≤ x0 := by omega) (h10 : 120 ≤ x0 := by omega) (h11 : 124 ≤ x0 := by omega) (h12 : 128 ≤ x0 := by omega) (h13 : 132 ≤ x0 := by omega) (h14 : 144 ≤ x0 := by omega) (h15 : 148 ≤ x0 := by omega) (h16 : 152 ≤ x0 := by omega) (h17 : 156 ≤ x0 := by omega) (h18 : 159 ≤ x0 := by omega) (h19 : 179 ≤ x0 := by omega) (h20 : 180 ≤ x0 := by omega) (h21 : 181 ≤ x0 := by omega) (h22 : 193 ≤ x0 := by omega) (h23 : 205 ≤ x0 := by omega) :
  CD mt (d + 1) 211 [iv x0] (G fi fl cr sh nx sl) = some (.returned (some (iv 205)), (G fi fl cr sh nx sl)) :=
  Eq.trans (CD_at (ls := [iv x0]) _ _ mt_X7_beginOf rfl rfl) <|
  Eq.trans (e_ldI lin_X7_beginOf n_X7_beginOf_0 rfl) <|
  Eq.trans (e_KI lin_X7_beginOf n_X7_beginOf_1 k_20) <|
  Eq.trans (e_IcLtF lin_X7_beginOf n_X7_beginOf_3 h1 (by decide) h2) <|
  Eq.trans (e_ldI lin_X7_beginOf n_X7_beginOf_10 rfl) <|
  Eq.trans (e_KI lin_X7_beginOf n_X7_beginOf_11 k_40) <|
  Eq.trans (e_IcLtF lin_X7_beginOf n_X7_beginOf_13 h1 (by decide) h3) <|
  Eq.trans (e_ldI lin_X7_beginOf n_X7_beginOf_21 rfl) <|
  Eq.trans (e_KI lin_X7_beginOf n_X7_beginOf_22 k_60) <|
  Eq.trans (e_IcLtF lin_X7_beginOf n_X7_beginOf_24 h1 (by decide) h4) <|
  Eq.trans (e_ldI lin_X7_beginOf n_X7_beginOf_32 rfl) <|
  Eq.trans (e_KI lin_X7_beginOf n_X7_beginOf_33 k_61) <|
  Eq.trans (e_IcLtF lin_X7_beginOf n_X7_beginOf_35 h1 (by decide) h5) <|
  Eq.trans (e_ldI lin_X7_beginOf n_X7_beginOf_43 rfl) <|
  Eq.trans (e_KI lin_X7_beginOf n_X7_beginOf_44 k_65) <|
  Eq.trans (e_IcLtF lin_X7_beginOf n_X7_beginOf_46 h1 (by decide) h6) <|
  Eq.trans (e_ldI lin_X7_beginOf n_X7_beginOf_54 rfl) <|
  Eq.trans (e_KI lin_X7_beginOf n_X7_beginOf_55 k_68) <|
  Eq.trans (e_IcLtF lin_X7_beginOf n_X7_beginOf_57 h1 (by decide) h7) <|
  Eq.trans (e_ldI lin_X7_beginOf n_X7_beginOf_65 rfl) <|
  Eq.trans (e_KI lin_X7_beginOf n_X7_beginOf_66 k_92) <|
  Eq.trans (e_IcLtF lin_X7_beginOf n_X7_beginOf_68 h1 (by decide) h8) <|
  Eq.trans (e_ldI lin_X7_beginOf n_X7_beginOf_76 rfl) <|
  Eq.trans (e_KI lin_X7_beginOf n_X7_beginOf_77 k_96) <|
  Eq.trans (e_IcLtF lin_X7_beginOf n_X7_beginOf_79 h1 (by decide) h9) <|
  Eq.trans (e_ldI lin_X7_beginOf n_X7_beginOf_87 rfl) <|
  Eq.trans (e_KI lin_X7_beginOf n_X7_beginOf_88 k_120) <|
  Eq.trans (e_IcLtF lin_X7_beginOf n_X7_beginOf_90 h1 (by decide) h10) <|
  Eq.trans (e_ldI lin_X7_beginOf n_X7_beginOf_98 rfl) <|
  Eq.trans (e_KI lin_X7_beginOf n_X7_beginOf_99 k_124) <|
  Eq.trans (e_IcLtF lin_X7_beginOf n_X7_beginOf_101 h1 (by decide) h11) <|
  Eq.trans (e_ldI lin_X7_beginOf n_X7_beginOf_109 rfl) <|
  Eq.trans (e_KI lin_X7_beginOf n_X7_beginOf_110 k_128) <|
  Eq.trans (e_IcLtF lin_X7_beginOf n_X7_beginOf_113 h1 (by decide) h12) <|
  Eq.trans (e_ldI lin_X7_beginOf n_X7_beginOf_121 rfl) <|
  Eq.trans (e_KI lin_X7_beginOf n_X7_beginOf_122 k_132) <|
  Eq.trans (e_IcLtF lin_X7_beginOf n_X7_beginOf_125 h1 (by decide) h13) <|
  Eq.trans (e_ldI lin_X7_beginOf n_X7_beginOf_134 rfl) <|
  Eq.trans (e_KI lin_X7_beginOf n_X7_beginOf_135 k_144) <|
  Eq.trans (e_IcLtF lin_X7_beginOf n_X7_beginOf_138 h1 (by decide) h14) <|
  Eq.trans (e_ldI lin_X7_beginOf n_X7_beginOf_147 rfl) <|
  Eq.trans (e_KI lin_X7_beginOf n_X7_beginOf_148 k_148) <|
  Eq.trans (e_IcLtF lin_X7_beginOf n_X7_beginOf_151 h1 (by decide) h15) <|
  Eq.trans (e_ldI lin_X7_beginOf n_X7_beginOf_160 rfl) <|
  Eq.trans (e_KI lin_X7_beginOf n_X7_beginOf_161 k_152) <|
  Eq.trans (e_IcLtF lin_X7_beginOf n_X7_beginOf_164 h1 (by decide) h16) <|
  Eq.trans (e_ldI lin_X7_beginOf n_X7_beginOf_173 rfl) <|
  Eq.trans (e_KI lin_X7_beginOf n_X7_beginOf_174 k_156) <|
  Eq.trans (e_IcLtF lin_X7_beginOf n_X7_beginOf_177 h1 (by decide) h17) <|
  Eq.trans (e_ldI lin_X7_beginOf n_X7_beginOf_186 rfl) <|
  Eq.trans (e_KI lin_X7_beginOf n_X7_beginOf_187 k_159) <|
  Eq.trans (e_IcLtF lin_X7_beginOf n_X7_beginOf_190 h1 (by decide) h18) <|
  Eq.trans (e_ldI lin_X7_beginOf n_X7_beginOf_199 rfl) <|
  Eq.trans (e_KI lin_X7_beginOf n_X7_beginOf_200 k_179) <|
  Eq.trans (e_IcLtF lin_X7_beginOf n_X7_beginOf_203 h1 (by decide) h19) <|
  Eq.trans (e_ldI lin_X7_beginOf n_X7_beginOf_212 rfl) <|
  Eq.trans (e_KI lin_X7_beginOf n_X7_beginOf_213 k_180) <|
  Eq.trans (e_IcLtF lin_X7_beginOf n_X7_beginOf_216 h1 (by decide) h20) <|
  Eq.trans (e_ldI lin_X7_beginOf n_X7_beginOf_225 rfl) <|
  Eq.trans (e_KI lin_X7_beginOf n_X7_beginOf_226 k_181) <|
  Eq.trans (e_IcLtF lin_X7_beginOf n_X7_beginOf_229 h1 (by decide) h21) <|
  Eq.trans (e_ldI lin_X7_beginOf n_X7_beginOf_238 rfl) <|
  Eq.trans (e_KI lin_X7_beginOf n_X7_beginOf_239 k_193) <|
  Eq.trans (e_IcLtF lin_X7_beginOf n_X7_beginOf_242 h1 (by decide) h22) <|
  Eq.trans (e_ldI lin_X7_beginOf n_X7_beginOf_251 rfl) <|
  Eq.trans (e_KI lin_X7_beginOf n_X7_beginOf_252 k_205) <|
  Eq.trans (e_IcLtF lin_X7_beginOf n_X7_beginOf_255 h1 (by decide) h23) <|
  Eq.trans (e_KI lin_X7_beginOf n_X7_beginOf_264 k_205) <|
  e_retI lin_X7_beginOf n_X7_beginOf_267
theorem c_X7_put_T {fi fl : HI} {cr : HR} {sh : HS} {nx sl d : Nat} {x1 x2 x3 : Int} (hS : Stat cr sh) (h1 : -2147483648 ≤ x2 ∧ x2 < 2147483648 := by omega) (h2 : x2 = 0 := by omega) (h3 : 0 ≤ x1 := by omega) (h4 : x1 < 600 := by omega) :
  CD mt (d + 1) 212 [.ref 574, iv x1, iv x2, iv x3] (G fi fl cr sh nx sl) = some (.returned none, (G (up fi 578 x1 x3) fl cr sh nx sl)) :=
  Eq.trans (CD_at (ls := [.ref 574, iv x1, iv x2, iv x3]) _ _ mt_X7_put rfl rfl) <|
  Eq.trans (e_ldI lin_X7_put n_X7_put_0 rfl) <|
  Eq.trans (e_IfEqT lin_X7_put n_X7_put_1 h1 h2) <|
  Eq.trans (e_ldA lin_X7_put n_X7_put_4 rfl) <|
  Eq.trans (e_getR lin_X7_put n_X7_put_5 (s_574 hS) rfl (j := 15) rfl (rr_574_15 hS)) <|
  Eq.trans (e_ldI lin_X7_put n_X7_put_8 rfl) <|
  Eq.trans (e_ldI lin_X7_put n_X7_put_9 rfl) <|
  Eq.trans (e_astI lin_X7_put n_X7_put_10 rfl (s_578 hS) h3 h4 (by decide)) <|
  Eq.trans (e_goto lin_X7_put n_X7_put_11) <|
  e_retV lin_X7_put n_X7_put_21
theorem c_X7_put_F {fi fl : HI} {cr : HR} {sh : HS} {nx sl d : Nat} {x1 x2 x3 : Int} (hS : Stat cr sh) (h1 : -2147483648 ≤ x2 ∧ x2 < 2147483648 := by omega) (h2 : x2 ≠ 0 := by omega) (h3 : 0 ≤ x1 := by omega) (h4 : x1 < 600 := by omega) :
  CD mt (d + 1) 212 [.ref 574, iv x1, iv x2, iv x3] (G fi fl cr sh nx sl) = some (.returned none, (G (up fi 579 x1 x3) fl cr sh nx sl)) :=
  Eq.trans (CD_at (ls := [.ref 574, iv x1, iv x2, iv x3]) _ _ mt_X7_put rfl rfl) <|
  Eq.trans (e_ldI lin_X7_put n_X7_put_0 rfl) <|
  Eq.trans (e_IfEqF lin_X7_put n_X7_put_1 h1 h2) <|
  Eq.trans (e_ldA lin_X7_put n_X7_put_14 rfl) <|
  Eq.trans (e_getR lin_X7_put n_X7_put_15 (s_574 hS) rfl (j := 16) rfl (rr_574_16 hS)) <|
  Eq.trans (e_ldI lin_X7_put n_X7_put_18 rfl) <|
  Eq.trans (e_ldI lin_X7_put n_X7_put_19 rfl) <|
  Eq.trans (e_astI lin_X7_put n_X7_put_20 rfl (s_579 hS) h3 h4 (by decide)) <|
  e_retV lin_X7_put n_X7_put_21
theorem c_X7_move_TT {fi fl : HI} {cr : HR} {sh : HS} {nx sl d : Nat} {x1 x2 : Int} (hS : Stat cr sh) (h1 : -2147483648 ≤ x1 ∧ x1 < 2147483648 := by omega) (h2 : -2147483648 ≤ fi 574 61 - 1 ∧ fi 574 61 - 1 < 2147483648 := by omega) (h3 : 0 ≤ x1 ∧ x1 ≤ fi 574 61 - 1 := by omega) (h4 : -2147483648 ≤ x2 ∧ x2 < 2147483648 := by omega) (h5 : x2 = 0 := by omega) (h6 : 0 ≤ x1 := by omega) (h7 : x1 < 100 := by omega) :
  CD mt (d + 2) 213 [.ref 574, iv x1, iv x2] (G fi fl cr sh nx sl) = some (.returned (some (iv (fi 608 x1))), (G (up fi 574 0 0) fl cr sh nx sl)) :=
  Eq.trans (CD_at (ls := [.ref 574, iv x1, iv x2]) _ _ mt_X7_move rfl rfl) <|
  Eq.trans (e_ldA lin_X7_move n_X7_move_0 rfl) <|
  Eq.trans (e_KI lin_X7_move n_X7_move_1 k_0) <|
  Eq.trans (e_putI lin_X7_move n_X7_move_2 rfl (s_574 hS) rfl (j := 0) rfl) <|
  Eq.trans (e_ldI lin_X7_move n_X7_move_5 rfl) <|
  Eq.trans (e_KI lin_X7_move n_X7_move_6 k_0) <|
  Eq.trans (e_ldA lin_X7_move n_X7_move_7 rfl) <|
  Eq.trans (e_getI lin_X7_move n_X7_move_8 (s_574 hS) rfl (j := 61) rfl (v := fi 574 61) rfl) <|
  Eq.trans (e_KI lin_X7_move n_X7_move_11 k_1) <|
  Eq.trans (e_sub lin_X7_move n_X7_move_12 (z := fi 574 61 - 1) rfl) <|
  Eq.trans (e_calS lin_X7_move n_X7_move_13 rfl rfl (b_X7_isIn_T h1 (by decide) h2 h3)) <|
  Eq.trans (e_IfEqF lin_X7_move n_X7_move_16 (by decide) (by decide)) <|
  Eq.trans (e_ldI lin_X7_move n_X7_move_21 rfl) <|
  Eq.trans (e_IfEqT lin_X7_move n_X7_move_22 h4 h5) <|
  Eq.trans (e_ldA lin_X7_move n_X7_move_25 rfl) <|
  Eq.trans (e_getR lin_X7_move n_X7_move_26 (s_574 hS) rfl (j := 58) rfl (rr_574_58 hS)) <|
  Eq.trans (e_ldI lin_X7_move n_X7_move_29 rfl) <|
  Eq.trans (e_aldI lin_X7_move n_X7_move_30 (s_608 hS) h6 h7 (by decide) (v := fi 608 x1) rfl) <|
  Eq.trans (e_goto lin_X7_move n_X7_move_31) <|
  e_retI lin_X7_move n_X7_move_63
theorem c_X7_move_TFT {fi fl : HI} {cr : HR} {sh : HS} {nx sl d : Nat} {x1 x2 : Int} (hS : Stat cr sh) (h1 : -2147483648 ≤ x1 ∧ x1 < 2147483648 := by omega) (h2 : -2147483648 ≤ fi 574 61 - 1 ∧ fi 574 61 - 1 < 2147483648 := by omega) (h3 : 0 ≤ x1 ∧ x1 ≤ fi 574 61 - 1 := by omega) (h4 : -2147483648 ≤ x2 ∧ x2 < 2147483648 := by omega) (h5 : x2 ≠ 0 := by omega) (h6 : x2 = 1 := by omega) (h7 : 0 ≤ x1 := by omega) (h8 : x1 < 100 := by omega) :
  CD mt (d + 2) 213 [.ref 574, iv x1, iv x2] (G fi fl cr sh nx sl) = some (.returned (some (iv (fi 609 x1))), (G (up fi 574 0 0) fl cr sh nx sl)) :=
  Eq.trans (CD_at (ls := [.ref 574, iv x1, iv x2]) _ _ mt_X7_move rfl rfl) <|
  Eq.trans (e_ldA lin_X7_move n_X7_move_0 rfl) <|
  Eq.trans (e_KI lin_X7_move n_X7_move_1 k_0) <|
  Eq.trans (e_putI lin_X7_move n_X7_move_2 rfl (s_574 hS) rfl (j := 0) rfl) <|
  Eq.trans (e_ldI lin_X7_move n_X7_move_5 rfl) <|
  Eq.trans (e_KI lin_X7_move n_X7_move_6 k_0) <|
  Eq.trans (e_ldA lin_X7_move n_X7_move_7 rfl) <|
  Eq.trans (e_getI lin_X7_move n_X7_move_8 (s_574 hS) rfl (j := 61) rfl (v := fi 574 61) rfl) <|
  Eq.trans (e_KI lin_X7_move n_X7_move_11 k_1) <|
  Eq.trans (e_sub lin_X7_move n_X7_move_12 (z := fi 574 61 - 1) rfl) <|
  Eq.trans (e_calS lin_X7_move n_X7_move_13 rfl rfl (b_X7_isIn_T h1 (by decide) h2 h3)) <|
  Eq.trans (e_IfEqF lin_X7_move n_X7_move_16 (by decide) (by decide)) <|
  Eq.trans (e_ldI lin_X7_move n_X7_move_21 rfl) <|
  Eq.trans (e_IfEqF lin_X7_move n_X7_move_22 h4 h5) <|
  Eq.trans (e_ldI lin_X7_move n_X7_move_34 rfl) <|
  Eq.trans (e_KI lin_X7_move n_X7_move_35 k_1) <|
  Eq.trans (e_IcEqT lin_X7_move n_X7_move_36 h4 (by decide) h6) <|
  Eq.trans (e_ldA lin_X7_move n_X7_move_39 rfl) <|
  Eq.trans (e_getR lin_X7_move n_X7_move_40 (s_574 hS) rfl (j := 59) rfl (rr_574_59 hS)) <|
  Eq.trans (e_ldI lin_X7_move n_X7_move_43 rfl) <|
  Eq.trans (e_aldI lin_X7_move n_X7_move_44 (s_609 hS) h7 h8 (by decide) (v := fi 609 x1) rfl) <|
  Eq.trans (e_goto lin_X7_move n_X7_move_45) <|
  e_retI lin_X7_move n_X7_move_63
theorem c_X7_move_TFFT {fi fl : HI} {cr : HR} {sh : HS} {nx sl d : Nat} {x1 x2 : Int} (hS : Stat cr sh) (h1 : -2147483648 ≤ x1 ∧ x1 < 2147483648 := by omega) (h2 : -2147483648 ≤ fi 574 61 - 1 ∧ fi 574 61 - 1 < 2147483648 := by omega) (h3 : 0 ≤ x1 ∧ x1 ≤ fi 574 61 - 1 := by omega) (h4 : -2147483648 ≤ x2 ∧ x2 < 2147483648 := by omega) (h5 : x2 ≠ 0 := by omega) (h6 : x2 ≠ 1 := by omega) (h7 : x2 = 2 := by omega) (h8 : 0 ≤ x1 := by omega) (h9 : x1 < 100 := by omega) :
  CD mt (d + 2) 213 [.ref 574, iv x1, iv x2] (G fi fl cr sh nx sl) = some (.returned (some (iv (fi 610 x1))), (G (up fi 574 0 0) fl cr sh nx sl)) :=
  Eq.trans (CD_at (ls := [.ref 574, iv x1, iv x2]) _ _ mt_X7_move rfl rfl) <|
  Eq.trans (e_ldA lin_X7_move n_X7_move_0 rfl) <|
  Eq.trans (e_KI lin_X7_move n_X7_move_1 k_0) <|
  Eq.trans (e_putI lin_X7_move n_X7_move_2 rfl (s_574 hS) rfl (j := 0) rfl) <|
  Eq.trans (e_ldI lin_X7_move n_X7_move_5 rfl) <|
  Eq.trans (e_KI lin_X7_move n_X7_move_6 k_0) <|
  Eq.trans (e_ldA lin_X7_move n_X7_move_7 rfl) <|
  Eq.trans (e_getI lin_X7_move n_X7_move_8 (s_574 hS) rfl (j := 61) rfl (v := fi 574 61) rfl) <|
  Eq.trans (e_KI lin_X7_move n_X7_move_11 k_1) <|
  Eq.trans (e_sub lin_X7_move n_X7_move_12 (z := fi 574 61 - 1) rfl) <|
  Eq.trans (e_calS lin_X7_move n_X7_move_13 rfl rfl (b_X7_isIn_T h1 (by decide) h2 h3)) <|
  Eq.trans (e_IfEqF lin_X7_move n_X7_move_16 (by decide) (by decide)) <|
  Eq.trans (e_ldI lin_X7_move n_X7_move_21 rfl) <|
  Eq.trans (e_IfEqF lin_X7_move n_X7_move_22 h4 h5) <|
  Eq.trans (e_ldI lin_X7_move n_X7_move_34 rfl) <|
  Eq.trans (e_KI lin_X7_move n_X7_move_35 k_1) <|
  Eq.trans (e_IcEqF lin_X7_move n_X7_move_36 h4 (by decide) h6) <|
  Eq.trans (e_ldI lin_X7_move n_X7_move_48 rfl) <|
  Eq.trans (e_KI lin_X7_move n_X7_move_49 k_2) <|
  Eq.trans (e_IcEqT lin_X7_move n_X7_move_50 h4 (by decide) h7) <|
  Eq.trans (e_ldA lin_X7_move n_X7_move_53 rfl) <|
  Eq.trans (e_getR lin_X7_move n_X7_move_54 (s_574 hS) rfl (j := 60) rfl (rr_574_60 hS)) <|
  Eq.trans (e_ldI lin_X7_move n_X7_move_57 rfl) <|
  Eq.trans (e_aldI lin_X7_move n_X7_move_58 (s_610 hS) h8 h9 (by decide) (v := fi 610 x1) rfl) <|
  Eq.trans (e_goto lin_X7_move n_X7_move_59) <|
  e_retI lin_X7_move n_X7_move_63
theorem c_X7_move_TFFF {fi fl : HI} {cr : HR} {sh : HS} {nx sl d : Nat} {x1 x2 : Int} (hS : Stat cr sh) (h1 : -2147483648 ≤ x1 ∧ x1 < 2147483648 := by omega) (h2 : -2147483648 ≤ fi 574 61 - 1 ∧ fi 574 61 - 1 < 2147483648 := by omega) (h3 : 0 ≤ x1 ∧ x1 ≤ fi 574 61 - 1 := by omega) (h4 : -2147483648 ≤ x2 ∧ x2 < 2147483648 := by omega) (h5 : x2 ≠ 0 := by omega) (h6 : x2 ≠ 1 := by omega) (h7 : x2 ≠ 2 := by omega) :
  CD mt (d + 2) 213 [.ref 574, iv x1, iv x2] (G fi fl cr sh nx sl) = some (.returned (some (iv (-1))), (G (up fi 574 0 0) fl cr sh nx sl)) :=
  Eq.trans (CD_at (ls := [.ref 574, iv x1, iv x2]) _ _ mt_X7_move rfl rfl) <|
  Eq.trans (e_ldA lin_X7_move n_X7_move_0 rfl) <|
  Eq.trans (e_KI lin_X7_move n_X7_move_1 k_0) <|
  Eq.trans (e_putI lin_X7_move n_X7_move_2 rfl (s_574 hS) rfl (j := 0) rfl) <|
  Eq.trans (e_ldI lin_X7_move n_X7_move_5 rfl) <|
  Eq.trans (e_KI lin_X7_move n_X7_move_6 k_0) <|
  Eq.trans (e_ldA lin_X7_move n_X7_move_7 rfl) <|
  Eq.trans (e_getI lin_X7_move n_X7_move_8 (s_574 hS) rfl (j := 61) rfl (v := fi 574 61) rfl) <|
  Eq.trans (e_KI lin_X7_move n_X7_move_11 k_1) <|
  Eq.trans (e_sub lin_X7_move n_X7_move_12 (z := fi 574 61 - 1) rfl) <|
  Eq.trans (e_calS lin_X7_move n_X7_move_13 rfl rfl (b_X7_isIn_T h1 (by decide) h2 h3)) <|
  Eq.trans (e_IfEqF lin_X7_move n_X7_move_16 (by decide) (by decide)) <|
  Eq.trans (e_ldI lin_X7_move n_X7_move_21 rfl) <|
  Eq.trans (e_IfEqF lin_X7_move n_X7_move_22 h4 h5) <|
  Eq.trans (e_ldI lin_X7_move n_X7_move_34 rfl) <|
  Eq.trans (e_KI lin_X7_move n_X7_move_35 k_1) <|
  Eq.trans (e_IcEqF lin_X7_move n_X7_move_36 h4 (by decide) h6) <|
  Eq.trans (e_ldI lin_X7_move n_X7_move_48 rfl) <|
  Eq.trans (e_KI lin_X7_move n_X7_move_49 k_2) <|
  Eq.trans (e_IcEqF lin_X7_move n_X7_move_50 h4 (by decide) h7) <|
  Eq.trans (e_KI lin_X7_move n_X7_move_62 k_m1) <|
  e_retI lin_X7_move n_X7_move_63
theorem c_X7_move_F {fi fl : HI} {cr : HR} {sh : HS} {nx sl d : Nat} {x1 x2 : Int} (hS : Stat cr sh) (h1 : -2147483648 ≤ x1 ∧ x1 < 2147483648 := by omega) (h2 : -2147483648 ≤ fi 574 61 - 1 ∧ fi 574 61 - 1 < 2147483648 := by omega) (h3 : ¬ (0 ≤ x1 ∧ x1 ≤ fi 574 61 - 1) := by omega) :
  CD mt (d + 2) 213 [.ref 574, iv x1, iv x2] (G fi fl cr sh nx sl) = some (.returned (some (iv (-1))), (G (up fi 574 0 0) fl cr sh nx sl)) :=
  Eq.trans (CD_at (ls := [.ref 574, iv x1, iv x2]) _ _ mt_X7_move rfl rfl) <|
  Eq.trans (e_ldA lin_X7_move n_X7_move_0 rfl) <|
  Eq.trans (e_KI lin_X7_move n_X7_move_1 k_0) <|
  Eq.trans (e_putI lin_X7_move n_X7_move_2 rfl (s_574 hS) rfl (j := 0) rfl) <|
  Eq.trans (e_ldI lin_X7_move n_X7_move_5 rfl) <|
  Eq.trans (e_KI lin_X7_move n_X7_move_6 k_0) <|
  Eq.trans (e_ldA lin_X7_move n_X7_move_7 rfl) <|
  Eq.trans (e_getI lin_X7_move n_X7_move_8 (s_574 hS) rfl (j := 61) rfl (v := fi 574 61) rfl) <|
  Eq.trans (e_KI lin_X7_move n_X7_move_11 k_1) <|
  Eq.trans (e_sub lin_X7_move n_X7_move_12 (z := fi 574 61 - 1) rfl) <|
  Eq.trans (e_calS lin_X7_move n_X7_move_13 rfl rfl (b_X7_isIn_F h1 (by decide) h2 h3)) <|
  Eq.trans (e_IfEqT lin_X7_move n_X7_move_16 (by decide) (by decide)) <|
  Eq.trans (e_KI lin_X7_move n_X7_move_19 k_m1) <|
  e_retI lin_X7_move n_X7_move_20
theorem c_X7_isWord_TE {fi fl : HI} {cr : HR} {sh : HS} {nx sl d : Nat} {x1 : Int} (hS : Stat cr sh) (h1 : -2147483648 ≤ fi 574 7 ∧ fi 574 7 < 2147483648 := by omega) (h2 : fi 574 7 = 1 := by omega) (h3 : -9223372036854775808 ≤ fl 574 13 ∧ fl 574 13 < 9223372036854775808 := by omega) (h4 : -9223372036854775808 ≤ x1 ∧ x1 < 9223372036854775808 := by omega) (h5 : fl 574 13 = x1 := by omega) :
  CD mt (d + 1) 216 [.ref 574, lv x1] (G fi fl cr sh nx sl) = some (.returned (some (iv 1)), (G fi fl cr sh nx sl)) :=
  Eq.trans (CD_at (ls := [.ref 574, lv x1, nv]) _ _ mt_X7_isWord rfl rfl) <|
  Eq.trans (e_ldA lin_X7_isWord n_X7_isWord_0 rfl) <|
  Eq.trans (e_getI lin_X7_isWord n_X7_isWord_1 (s_574 hS) rfl (j := 7) rfl (v := fi 574 7) rfl) <|
  Eq.trans (e_KI lin_X7_isWord n_X7_isWord_4 k_1) <|
  Eq.trans (e_IcEqT lin_X7_isWord n_X7_isWord_5 h1 (by decide) h2) <|
  Eq.trans (e_ldA lin_X7_isWord n_X7_isWord_8 rfl) <|
  Eq.trans (e_getL lin_X7_isWord n_X7_isWord_9 (s_574 hS) rfl (j := 13) rfl (v := fl 574 13) rfl) <|
  Eq.trans (e_ldL lin_X7_isWord n_X7_isWord_12 rfl) <|
  Eq.trans (e_lcmpE lin_X7_isWord n_X7_isWord_13 h5) <|
  Eq.trans (e_IfEqT lin_X7_isWord n_X7_isWord_14 (by decide) (by decide)) <|
  Eq.trans (e_KI lin_X7_isWord n_X7_isWord_17 k_1) <|
  Eq.trans (e_goto lin_X7_isWord n_X7_isWord_18) <|
  e_retZ lin_X7_isWord n_X7_isWord_22 (by decide)
theorem c_X7_isWord_TN {fi fl : HI} {cr : HR} {sh : HS} {nx sl d : Nat} {x1 : Int} (hS : Stat cr sh) (h1 : -2147483648 ≤ fi 574 7 ∧ fi 574 7 < 2147483648 := by omega) (h2 : fi 574 7 = 1 := by omega) (h3 : -9223372036854775808 ≤ fl 574 13 ∧ fl 574 13 < 9223372036854775808 := by omega) (h4 : -9223372036854775808 ≤ x1 ∧ x1 < 9223372036854775808 := by omega) (h5 : fl 574 13 ≠ x1 := by omega) :
  CD mt (d + 1) 216 [.ref 574, lv x1] (G fi fl cr sh nx sl) = some (.returned (some (iv 0)), (G fi fl cr sh nx sl)) :=
  Eq.trans (CD_at (ls := [.ref 574, lv x1, nv]) _ _ mt_X7_isWord rfl rfl) <|
  Eq.trans (e_ldA lin_X7_isWord n_X7_isWord_0 rfl) <|
  Eq.trans (e_getI lin_X7_isWord n_X7_isWord_1 (s_574 hS) rfl (j := 7) rfl (v := fi 574 7) rfl) <|
  Eq.trans (e_KI lin_X7_isWord n_X7_isWord_4 k_1) <|
  Eq.trans (e_IcEqT lin_X7_isWord n_X7_isWord_5 h1 (by decide) h2) <|
  Eq.trans (e_ldA lin_X7_isWord n_X7_isWord_8 rfl) <|
  Eq.trans (e_getL lin_X7_isWord n_X7_isWord_9 (s_574 hS) rfl (j := 13) rfl (v := fl 574 13) rfl) <|
  Eq.trans (e_ldL lin_X7_isWord n_X7_isWord_12 rfl) <|
  Eq.trans (e_lcmp lin_X7_isWord n_X7_isWord_13 h3 h4) <|
  Eq.trans (e_IfEqF lin_X7_isWord n_X7_isWord_14 (R_lcm _ _) (lcm_ne h5)) <|
  Eq.trans (e_KI lin_X7_isWord n_X7_isWord_21 k_0) <|
  e_retZ lin_X7_isWord n_X7_isWord_22 (by decide)
theorem c_X7_isWord_F {fi fl : HI} {cr : HR} {sh : HS} {nx sl d : Nat} {x1 : Int} (hS : Stat cr sh) (h1 : -2147483648 ≤ fi 574 7 ∧ fi 574 7 < 2147483648 := by omega) (h2 : fi 574 7 ≠ 1 := by omega) :
  CD mt (d + 1) 216 [.ref 574, lv x1] (G fi fl cr sh nx sl) = some (.returned (some (iv 0)), (G fi fl cr sh nx sl)) :=
  Eq.trans (CD_at (ls := [.ref 574, lv x1, nv]) _ _ mt_X7_isWord rfl rfl) <|
  Eq.trans (e_ldA lin_X7_isWord n_X7_isWord_0 rfl) <|
  Eq.trans (e_getI lin_X7_isWord n_X7_isWord_1 (s_574 hS) rfl (j := 7) rfl (v := fi 574 7) rfl) <|
  Eq.trans (e_KI lin_X7_isWord n_X7_isWord_4 k_1) <|
  Eq.trans (e_IcEqF lin_X7_isWord n_X7_isWord_5 h1 (by decide) h2) <|
  Eq.trans (e_KI lin_X7_isWord n_X7_isWord_21 k_0) <|
  e_retZ lin_X7_isWord n_X7_isWord_22 (by decide)
theorem c_X7_isName_TE {fi fl : HI} {cr : HR} {sh : HS} {nx sl d : Nat}  (hS : Stat cr sh) (h1 : -2147483648 ≤ fi 574 7 ∧ fi 574 7 < 2147483648 := by omega) (h2 : fi 574 7 = 1 := by omega) (h3 : -9223372036854775808 ≤ fl 574 13 ∧ fl 574 13 < 9223372036854775808 := by omega) (h4 : fl 574 13 = 439854918756 := by omega) :
  CD mt (d + 1) 218 [.ref 574] (G fi fl cr sh nx sl) = some (.returned (some (iv 0)), (G fi fl cr sh nx sl)) :=
  Eq.trans (CD_at (ls := [.ref 574]) _ _ mt_X7_isName rfl rfl) <|
  Eq.trans (e_ldA lin_X7_isName n_X7_isName_0 rfl) <|
  Eq.trans (e_getI lin_X7_isName n_X7_isName_1 (s_574 hS) rfl (j := 7) rfl (v := fi 574 7) rfl) <|
  Eq.trans (e_KI lin_X7_isName n_X7_isName_4 k_1) <|
  Eq.trans (e_IcEqT lin_X7_isName n_X7_isName_5 h1 (by decide) h2) <|
  Eq.trans (e_ldA lin_X7_isName n_X7_isName_8 rfl) <|
  Eq.trans (e_getL lin_X7_isName n_X7_isName_9 (s_574 hS) rfl (j := 13) rfl (v := fl 574 13) rfl) <|
  Eq.trans (e_KL lin_X7_isName n_X7_isName_12 kl_439854918756) <|
  Eq.trans (e_lcmpE lin_X7_isName n_X7_isName_15 h4) <|
  Eq.trans (e_IfEqT lin_X7_isName n_X7_isName_16 (by decide) (by decide)) <|
  Eq.trans (e_KI lin_X7_isName n_X7_isName_67 k_0) <|
  e_retZ lin_X7_isName n_X7_isName_68 (by decide)
theorem c_X7_isName_TNE {fi fl : HI} {cr : HR} {sh : HS} {nx sl d : Nat}  (hS : Stat cr sh) (h1 : -2147483648 ≤ fi 574 7 ∧ fi 574 7 < 2147483648 := by omega) (h2 : fi 574 7 = 1 := by omega) (h3 : -9223372036854775808 ≤ fl 574 13 ∧ fl 574 13 < 9223372036854775808 := by omega) (h4 : fl 574 13 ≠ 439854918756 := by omega) (h5 : fl 574 13 = 422826041707 := by omega) :
  CD mt (d + 1) 218 [.ref 574] (G fi fl cr sh nx sl) = some (.returned (some (iv 0)), (G fi fl cr sh nx sl)) :=
  Eq.trans (CD_at (ls := [.ref 574]) _ _ mt_X7_isName rfl rfl) <|
  Eq.trans (e_ldA lin_X7_isName n_X7_isName_0 rfl) <|
  Eq.trans (e_getI lin_X7_isName n_X7_isName_1 (s_574 hS) rfl (j := 7) rfl (v := fi 574 7) rfl) <|
  Eq.trans (e_KI lin_X7_isName n_X7_isName_4 k_1) <|
  Eq.trans (e_IcEqT lin_X7_isName n_X7_isName_5 h1 (by decide) h2) <|
  Eq.trans (e_ldA lin_X7_isName n_X7_isName_8 rfl) <|
  Eq.trans (e_getL lin_X7_isName n_X7_isName_9 (s_574 hS) rfl (j := 13) rfl (v := fl 574 13) rfl) <|
  Eq.trans (e_KL lin_X7_isName n_X7_isName_12 kl_439854918756) <|
  Eq.trans (e_lcmp lin_X7_isName n_X7_isName_15 h3 (by decide)) <|
  Eq.trans (e_IfEqF lin_X7_isName n_X7_isName_16 (R_lcm _ _) (lcm_ne h4)) <|
  Eq.trans (e_ldA lin_X7_isName n_X7_isName_19 rfl) <|
  Eq.trans (e_getL lin_X7_isName n_X7_isName_20 (s_574 hS) rfl (j := 13) rfl (v := fl 574 13) rfl) <|
  Eq.trans (e_KL lin_X7_isName n_X7_isName_23 kl_422826041707) <|
  Eq.trans (e_lcmpE lin_X7_isName n_X7_isName_26 h5) <|
  Eq.trans (e_IfEqT lin_X7_isName n_X7_isName_27 (by decide) (by decide)) <|
  Eq.trans (e_KI lin_X7_isName n_X7_isName_67 k_0) <|
  e_retZ lin_X7_isName n_X7_isName_68 (by decide)
theorem c_X7_isName_TNNE {fi fl : HI} {cr : HR} {sh : HS} {nx sl d : Nat}  (hS : Stat cr sh) (h1 : -2147483648 ≤ fi 574 7 ∧ fi 574 7 < 2147483648 := by omega) (h2 : fi 574 7 = 1 := by omega) (h3 : -9223372036854775808 ≤ fl 574 13 ∧ fl 574 13 < 9223372036854775808 := by omega) (h4 : fl 574 13 ≠ 439854918756 := by omega) (h5 : fl 574 13 ≠ 422826041707 := by omega) (h6 : fl 574 13 = 7566701 := by omega) :
  CD mt (d + 1) 218 [.ref 574] (G fi fl cr sh nx sl) = some (.returned (some (iv 0)), (G fi fl cr sh nx sl)) :=
  Eq.trans (CD_at (ls := [.ref 574]) _ _ mt_X7_isName rfl rfl) <|
  Eq.trans (e_ldA lin_X7_isName n_X7_isName_0 rfl) <|
  Eq.trans (e_getI lin_X7_isName n_X7_isName_1 (s_574 hS) rfl (j := 7) rfl (v := fi 574 7) rfl) <|
  Eq.trans (e_KI lin_X7_isName n_X7_isName_4 k_1) <|
  Eq.trans (e_IcEqT lin_X7_isName n_X7_isName_5 h1 (by decide) h2) <|
  Eq.trans (e_ldA lin_X7_isName n_X7_isName_8 rfl) <|
  Eq.trans (e_getL lin_X7_isName n_X7_isName_9 (s_574 hS) rfl (j := 13) rfl (v := fl 574 13) rfl) <|
  Eq.trans (e_KL lin_X7_isName n_X7_isName_12 kl_439854918756) <|
  Eq.trans (e_lcmp lin_X7_isName n_X7_isName_15 h3 (by decide)) <|
  Eq.trans (e_IfEqF lin_X7_isName n_X7_isName_16 (R_lcm _ _) (lcm_ne h4)) <|
  Eq.trans (e_ldA lin_X7_isName n_X7_isName_19 rfl) <|
  Eq.trans (e_getL lin_X7_isName n_X7_isName_20 (s_574 hS) rfl (j := 13) rfl (v := fl 574 13) rfl) <|
  Eq.trans (e_KL lin_X7_isName n_X7_isName_23 kl_422826041707) <|
  Eq.trans (e_lcmp lin_X7_isName n_X7_isName_26 h3 (by decide)) <|
  Eq.trans (e_IfEqF lin_X7_isName n_X7_isName_27 (R_lcm _ _) (lcm_ne h5)) <|
  Eq.trans (e_ldA lin_X7_isName n_X7_isName_30 rfl) <|
  Eq.trans (e_getL lin_X7_isName n_X7_isName_31 (s_574 hS) rfl (j := 13) rfl (v := fl 574 13) rfl) <|
  Eq.trans (e_KL lin_X7_isName n_X7_isName_34 kl_7566701) <|
  Eq.trans (e_lcmpE lin_X7_isName n_X7_isName_37 h6) <|
  Eq.trans (e_IfEqT lin_X7_isName n_X7_isName_38 (by decide) (by decide)) <|
  Eq.trans (e_KI lin_X7_isName n_X7_isName_67 k_0) <|
  e_retZ lin_X7_isName n_X7_isName_68 (by decide)
theorem c_X7_isName_TNNNE {fi fl : HI} {cr : HR} {sh : HS} {nx sl d : Nat}  (hS : Stat cr sh) (h1 : -2147483648 ≤ fi 574 7 ∧ fi 574 7 < 2147483648 := by omega) (h2 : fi 574 7 = 1 := by omega) (h3 : -9223372036854775808 ≤ fl 574 13 ∧ fl 574 13 < 9223372036854775808 := by omega) (h4 : fl 574 13 ≠ 439854918756 := by omega) (h5 : fl 574 13 ≠ 422826041707 := by omega) (h6 : fl 574 13 ≠ 7566701 := by omega) (h7 : fl 574 13 = 427071729268 := by omega) :
  CD mt (d + 1) 218 [.ref 574] (G fi fl cr sh nx sl) = some (.returned (some (iv 0)), (G fi fl cr sh nx sl)) :=
  Eq.trans (CD_at (ls := [.ref 574]) _ _ mt_X7_isName rfl rfl) <|
  Eq.trans (e_ldA lin_X7_isName n_X7_isName_0 rfl) <|
  Eq.trans (e_getI lin_X7_isName n_X7_isName_1 (s_574 hS) rfl (j := 7) rfl (v := fi 574 7) rfl) <|
  Eq.trans (e_KI lin_X7_isName n_X7_isName_4 k_1) <|
  Eq.trans (e_IcEqT lin_X7_isName n_X7_isName_5 h1 (by decide) h2) <|
  Eq.trans (e_ldA lin_X7_isName n_X7_isName_8 rfl) <|
  Eq.trans (e_getL lin_X7_isName n_X7_isName_9 (s_574 hS) rfl (j := 13) rfl (v := fl 574 13) rfl) <|
  Eq.trans (e_KL lin_X7_isName n_X7_isName_12 kl_439854918756) <|
  Eq.trans (e_lcmp lin_X7_isName n_X7_isName_15 h3 (by decide)) <|
  Eq.trans (e_IfEqF lin_X7_isName n_X7_isName_16 (R_lcm _ _) (lcm_ne h4)) <|
  Eq.trans (e_ldA lin_X7_isName n_X7_isName_19 rfl) <|
  Eq.trans (e_getL lin_X7_isName n_X7_isName_20 (s_574 hS) rfl (j := 13) rfl (v := fl 574 13) rfl) <|
  Eq.trans (e_KL lin_X7_isName n_X7_isName_23 kl_422826041707) <|
  Eq.trans (e_lcmp lin_X7_isName n_X7_isName_26 h3 (by decide)) <|
  Eq.trans (e_IfEqF lin_X7_isName n_X7_isName_27 (R_lcm _ _) (lcm_ne h5)) <|
  Eq.trans (e_ldA lin_X7_isName n_X7_isName_30 rfl) <|
  Eq.trans (e_getL lin_X7_isName n_X7_isName_31 (s_574 hS) rfl (j := 13) rfl (v := fl 574 13) rfl) <|
  Eq.trans (e_KL lin_X7_isName n_X7_isName_34 kl_7566701) <|
  Eq.trans (e_lcmp lin_X7_isName n_X7_isName_37 h3 (by decide)) <|
  Eq.trans (e_IfEqF lin_X7_isName n_X7_isName_38 (R_lcm _ _) (lcm_ne h6)) <|
  Eq.trans (e_ldA lin_X7_isName n_X7_isName_41 rfl) <|
  Eq.trans (e_getL lin_X7_isName n_X7_isName_42 (s_574 hS) rfl (j := 13) rfl (v := fl 574 13) rfl) <|
  Eq.trans (e_KL lin_X7_isName n_X7_isName_45 kl_427071729268) <|
  Eq.trans (e_lcmpE lin_X7_isName n_X7_isName_48 h7) <|
  Eq.trans (e_IfEqT lin_X7_isName n_X7_isName_49 (by decide) (by decide)) <|
  Eq.trans (e_KI lin_X7_isName n_X7_isName_67 k_0) <|
  e_retZ lin_X7_isName n_X7_isName_68 (by decide)
theorem c_X7_isName_TNNNNE {fi fl : HI} {cr : HR} {sh : HS} {nx sl d : Nat}  (hS : Stat cr sh) (h1 : -2147483648 ≤ fi 574 7 ∧ fi 574 7 < 2147483648 := by omega) (h2 : fi 574 7 = 1 := by omega) (h3 : -9223372036854775808 ≤ fl 574 13 ∧ fl 574 13 < 9223372036854775808 := by omega) (h4 : fl 574 13 ≠ 439854918756 := by omega) (h5 : fl 574 13 ≠ 422826041707 := by omega) (h6 : fl 574 13 ≠ 7566701 := by omega) (h7 : fl 574 13 ≠ 427071729268 := by omega) (h8 : fl 574 13 = 1870030194 := by omega) :
  CD mt (d + 1) 218 [.ref 574] (G fi fl cr sh nx sl) = some (.returned (some (iv 0)), (G fi fl cr sh nx sl)) :=
  Eq.trans (CD_at (ls := [.ref 574]) _ _ mt_X7_isName rfl rfl) <|
  Eq.trans (e_ldA lin_X7_isName n_X7_isName_0 rfl) <|
  Eq.trans (e_getI lin_X7_isName n_X7_isName_1 (s_574 hS) rfl (j := 7) rfl (v := fi 574 7) rfl) <|
  Eq.trans (e_KI lin_X7_isName n_X7_isName_4 k_1) <|
  Eq.trans (e_IcEqT lin_X7_isName n_X7_isName_5 h1 (by decide) h2) <|
  Eq.trans (e_ldA lin_X7_isName n_X7_isName_8 rfl) <|
  Eq.trans (e_getL lin_X7_isName n_X7_isName_9 (s_574 hS) rfl (j := 13) rfl (v := fl 574 13) rfl) <|
  Eq.trans (e_KL lin_X7_isName n_X7_isName_12 kl_439854918756) <|
  Eq.trans (e_lcmp lin_X7_isName n_X7_isName_15 h3 (by decide)) <|
  Eq.trans (e_IfEqF lin_X7_isName n_X7_isName_16 (R_lcm _ _) (lcm_ne h4)) <|
  Eq.trans (e_ldA lin_X7_isName n_X7_isName_19 rfl) <|
  Eq.trans (e_getL lin_X7_isName n_X7_isName_20 (s_574 hS) rfl (j := 13) rfl (v := fl 574 13) rfl) <|
  Eq.trans (e_KL lin_X7_isName n_X7_isName_23 kl_422826041707) <|
  Eq.trans (e_lcmp lin_X7_isName n_X7_isName_26 h3 (by decide)) <|
  Eq.trans (e_IfEqF lin_X7_isName n_X7_isName_27 (R_lcm _ _) (lcm_ne h5)) <|
  Eq.trans (e_ldA lin_X7_isName n_X7_isName_30 rfl) <|
  Eq.trans (e_getL lin_X7_isName n_X7_isName_31 (s_574 hS) rfl (j := 13) rfl (v := fl 574 13) rfl) <|
  Eq.trans (e_KL lin_X7_isName n_X7_isName_34 kl_7566701) <|
  Eq.trans (e_lcmp lin_X7_isName n_X7_isName_37 h3 (by decide)) <|
  Eq.trans (e_IfEqF lin_X7_isName n_X7_isName_38 (R_lcm _ _) (lcm_ne h6)) <|
  Eq.trans (e_ldA lin_X7_isName n_X7_isName_41 rfl) <|
  Eq.trans (e_getL lin_X7_isName n_X7_isName_42 (s_574 hS) rfl (j := 13) rfl (v := fl 574 13) rfl) <|
  Eq.trans (e_KL lin_X7_isName n_X7_isName_45 kl_427071729268) <|
  Eq.trans (e_lcmp lin_X7_isName n_X7_isName_48 h3 (by decide)) <|
  Eq.trans (e_IfEqF lin_X7_isName n_X7_isName_49 (R_lcm _ _) (lcm_ne h7)) <|
  Eq.trans (e_ldA lin_X7_isName n_X7_isName_52 rfl) <|
  Eq.trans (e_getL lin_X7_isName n_X7_isName_53 (s_574 hS) rfl (j := 13) rfl (v := fl 574 13) rfl) <|
  Eq.trans (e_KL lin_X7_isName n_X7_isName_56 kl_1870030194) <|
  Eq.trans (e_lcmpE lin_X7_isName n_X7_isName_59 h8) <|
  Eq.trans (e_IfEqT lin_X7_isName n_X7_isName_60 (by decide) (by decide)) <|
  Eq.trans (e_KI lin_X7_isName n_X7_isName_67 k_0) <|
  e_retZ lin_X7_isName n_X7_isName_68 (by decide)
theorem c_X7_isName_TNNNNN {fi fl : HI} {cr : HR} {sh : HS} {nx sl d : Nat}  (hS : Stat cr sh) (h1 : -2147483648 ≤ fi 574 7 ∧ fi 574 7 < 2147483648 := by omega) (h2 : fi 574 7 = 1 := by omega) (h3 : -9223372036854775808 ≤ fl 574 13 ∧ fl 574 13 < 9223372036854775808 := by omega) (h4 : fl 574 13 ≠ 439854918756 := by omega) (h5 : fl 574 13 ≠ 422826041707 := by omega) (h6 : fl 574 13 ≠ 7566701 := by omega) (h7 : fl 574 13 ≠ 427071729268 := by omega) (h8 : fl 574 13 ≠ 1870030194 := by omega) :
  CD mt (d + 1) 218 [.ref 574] (G fi fl cr sh nx sl) = some (.returned (some (iv 1)), (G fi fl cr sh nx sl)) :=
  Eq.trans (CD_at (ls := [.ref 574]) _ _ mt_X7_isName rfl rfl) <|
  Eq.trans (e_ldA lin_X7_isName n_X7_isName_0 rfl) <|
  Eq.trans (e_getI lin_X7_isName n_X7_isName_1 (s_574 hS) rfl (j := 7) rfl (v := fi 574 7) rfl) <|
  Eq.trans (e_KI lin_X7_isName n_X7_isName_4 k_1) <|
  Eq.trans (e_IcEqT lin_X7_isName n_X7_isName_5 h1 (by decide) h2) <|
  Eq.trans (e_ldA lin_X7_isName n_X7_isName_8 rfl) <|
  Eq.trans (e_getL lin_X7_isName n_X7_isName_9 (s_574 hS) rfl (j := 13) rfl (v := fl 574 13) rfl) <|
  Eq.trans (e_KL lin_X7_isName n_X7_isName_12 kl_439854918756) <|
  Eq.trans (e_lcmp lin_X7_isName n_X7_isName_15 h3 (by decide)) <|
  Eq.trans (e_IfEqF lin_X7_isName n_X7_isName_16 (R_lcm _ _) (lcm_ne h4)) <|
  Eq.trans (e_ldA lin_X7_isName n_X7_isName_19 rfl) <|
  Eq.trans (e_getL lin_X7_isName n_X7_isName_20 (s_574 hS) rfl (j := 13) rfl (v := fl 574 13) rfl) <|
  Eq.trans (e_KL lin_X7_isName n_X7_isName_23 kl_422826041707) <|
  Eq.trans (e_lcmp lin_X7_isName n_X7_isName_26 h3 (by decide)) <|
  Eq.trans (e_IfEqF lin_X7_isName n_X7_isName_27 (R_lcm _ _) (lcm_ne h5)) <|
  Eq.trans (e_ldA lin_X7_isName n_X7_isName_30 rfl) <|
  Eq.trans (e_getL lin_X7_isName n_X7_isName_31 (s_574 hS) rfl (j := 13) rfl (v := fl 574 13) rfl) <|
  Eq.trans (e_KL lin_X7_isName n_X7_isName_34 kl_7566701) <|
  Eq.trans (e_lcmp lin_X7_isName n_X7_isName_37 h3 (by decide)) <|
  Eq.trans (e_IfEqF lin_X7_isName n_X7_isName_38 (R_lcm _ _) (lcm_ne h6)) <|
  Eq.trans (e_ldA lin_X7_isName n_X7_isName_41 rfl) <|
  Eq.trans (e_getL lin_X7_isName n_X7_isName_42 (s_574 hS) rfl (j := 13) rfl (v := fl 574 13) rfl) <|
  Eq.trans (e_KL lin_X7_isName n_X7_isName_45 kl_427071729268) <|
  Eq.trans (e_lcmp lin_X7_isName n_X7_isName_48 h3 (by decide)) <|
  Eq.trans (e_IfEqF lin_X7_isName n_X7_isName_49 (R_lcm _ _) (lcm_ne h7)) <|
  Eq.trans (e_ldA lin_X7_isName n_X7_isName_52 rfl) <|
  Eq.trans (e_getL lin_X7_isName n_X7_isName_53 (s_574 hS) rfl (j := 13) rfl (v := fl 574 13) rfl) <|
  Eq.trans (e_KL lin_X7_isName n_X7_isName_56 kl_1870030194) <|
  Eq.trans (e_lcmp lin_X7_isName n_X7_isName_59 h3 (by decide)) <|
  Eq.trans (e_IfEqF lin_X7_isName n_X7_isName_60 (R_lcm _ _) (lcm_ne h8)) <|
  Eq.trans (e_KI lin_X7_isName n_X7_isName_63 k_1) <|
  Eq.trans (e_goto lin_X7_isName n_X7_isName_64) <|
  e_retZ lin_X7_isName n_X7_isName_68 (by decide)
theorem c_X7_isName_F {fi fl : HI} {cr : HR} {sh : HS} {nx sl d : Nat}  (hS : Stat cr sh) (h1 : -2147483648 ≤ fi 574 7 ∧ fi 574 7 < 2147483648 := by omega) (h2 : fi 574 7 ≠ 1 := by omega) :
  CD mt (d + 1) 218 [.ref 574] (G fi fl cr sh nx sl) = some (.returned (some (iv 0)), (G fi fl cr sh nx sl)) :=
  Eq.trans (CD_at (ls := [.ref 574]) _ _ mt_X7_isName rfl rfl) <|
  Eq.trans (e_ldA lin_X7_isName n_X7_isName_0 rfl) <|
  Eq.trans (e_getI lin_X7_isName n_X7_isName_1 (s_574 hS) rfl (j := 7) rfl (v := fi 574 7) rfl) <|
  Eq.trans (e_KI lin_X7_isName n_X7_isName_4 k_1) <|
  Eq.trans (e_IcEqF lin_X7_isName n_X7_isName_5 h1 (by decide) h2) <|
  Eq.trans (e_KI lin_X7_isName n_X7_isName_67 k_0) <|
  e_retZ lin_X7_isName n_X7_isName_68 (by decide)
theorem c_X7_lay {fi fl : HI} {cr : HR} {sh : HS} {nx sl d : Nat} {x1 x2 : Int} (hS : Stat cr sh) (h1 : 0 ≤ fi 574 79 := by omega) (h2 : fi 574 79 < 200 := by omega) :
  CD mt (d + 1) 225 [.ref 574, iv x1, iv x2] (G fi fl cr sh nx sl) = some (.returned none, (G (up (up (up fi 621 (fi 574 79) x1) 622 (fi 574 79) x2) 574 79 (fi 574 79 + 1)) fl cr sh nx sl)) :=
  Eq.trans (CD_at (ls := [.ref 574, iv x1, iv x2]) _ _ mt_X7_lay rfl rfl) <|
  Eq.trans (e_ldA lin_X7_lay n_X7_lay_0 rfl) <|
  Eq.trans (e_getR lin_X7_lay n_X7_lay_1 (s_574 hS) rfl (j := 72) rfl (rr_574_72 hS)) <|
  Eq.trans (e_ldA lin_X7_lay n_X7_lay_4 rfl) <|
  Eq.trans (e_getI lin_X7_lay n_X7_lay_5 (s_574 hS) rfl (j := 79) rfl (v := fi 574 79) rfl) <|
  Eq.trans (e_ldI lin_X7_lay n_X7_lay_8 rfl) <|
  Eq.trans (e_astI lin_X7_lay n_X7_lay_9 rfl (s_621 hS) h1 h2 (by decide)) <|
  Eq.trans (e_ldA lin_X7_lay n_X7_lay_10 rfl) <|
  Eq.trans (e_getR lin_X7_lay n_X7_lay_11 (s_574 hS) rfl (j := 73) rfl (rr_574_73 hS)) <|
  Eq.trans (e_ldA lin_X7_lay n_X7_lay_14 rfl) <|
  Eq.trans (e_getI lin_X7_lay n_X7_lay_15 (s_574 hS) rfl (j := 79) rfl (v := fi 574 79) rfl) <|
  Eq.trans (e_ldI lin_X7_lay n_X7_lay_18 rfl) <|
  Eq.trans (e_astI lin_X7_lay n_X7_lay_19 rfl (s_622 hS) h1 h2 (by decide)) <|
  Eq.trans (e_ldA lin_X7_lay n_X7_lay_20 rfl) <|
  Eq.trans (e_dupR lin_X7_lay n_X7_lay_21) <|
  Eq.trans (e_getI lin_X7_lay n_X7_lay_22 (s_574 hS) rfl (j := 79) rfl (v := fi 574 79) rfl) <|
  Eq.trans (e_KI lin_X7_lay n_X7_lay_25 k_1) <|
  Eq.trans (e_add lin_X7_lay n_X7_lay_26 (z := fi 574 79 + 1) rfl) <|
  Eq.trans (e_putI lin_X7_lay n_X7_lay_27 rfl (s_574 hS) rfl (j := 79) rfl) <|
  e_retV lin_X7_lay n_X7_lay_30
theorem c_X7_wantedAt_T {fi fl : HI} {cr : HR} {sh : HS} {nx sl d : Nat} {x1 x2 : Int} (hS : Stat cr sh) (h1 : -2147483648 ≤ fi 574 86 ∧ fi 574 86 < 2147483648 := by omega) (h2 : fi 574 86 = 0 := by omega) :
  CD mt (d + 2) 235 [.ref 574, iv x1, iv x2] (G fi fl cr sh nx sl) = some (.returned (some (iv 0)), (G (up fi 574 0 1) fl cr sh nx sl)) :=
  Eq.trans (CD_at (ls := [.ref 574, iv x1, iv x2]) _ _ mt_X7_wantedAt rfl rfl) <|
  Eq.trans (e_ldA lin_X7_wantedAt n_X7_wantedAt_0 rfl) <|
  Eq.trans (e_ldA lin_X7_wantedAt n_X7_wantedAt_1 rfl) <|
  Eq.trans (e_getI lin_X7_wantedAt n_X7_wantedAt_2 (s_574 hS) rfl (j := 86) rfl (v := fi 574 86) rfl) <|
  Eq.trans (e_IfEqT lin_X7_wantedAt n_X7_wantedAt_5 h1 h2) <|
  Eq.trans (e_KI lin_X7_wantedAt n_X7_wantedAt_32 k_1) <|
  Eq.trans (e_goto lin_X7_wantedAt n_X7_wantedAt_33) <|
  Eq.trans (e_calV lin_X7_wantedAt n_X7_wantedAt_37 rfl (s_574 hS) rfl rfl (v := iv 1) (g' := (G (up fi 574 0 1) fl cr sh nx sl)) (c_X7_throwsIf_F hS (by decide) (by decide) (by decide))) <|
  Eq.trans (e_IfEqF lin_X7_wantedAt n_X7_wantedAt_40 (by decide) (by decide)) <|
  Eq.trans (e_KI lin_X7_wantedAt n_X7_wantedAt_43 k_0) <|
  e_retI lin_X7_wantedAt n_X7_wantedAt_44
theorem c_X7_wantedAt_FTT {fi fl : HI} {cr : HR} {sh : HS} {nx sl d : Nat} {x1 x2 : Int} (hS : Stat cr sh) (h1 : -2147483648 ≤ fi 574 86 ∧ fi 574 86 < 2147483648 := by omega) (h2 : fi 574 86 ≠ 0 := by omega) (h3 : -2147483648 ≤ x1 ∧ x1 < 2147483648 := by omega) (h4 : -2147483648 ≤ fi 574 84 - 1 ∧ fi 574 84 - 1 < 2147483648 := by omega) (h5 : 0 ≤ x1 ∧ x1 ≤ fi 574 84 - 1 := by omega) (h6 : -2147483648 ≤ x2 ∧ x2 < 2147483648 := by omega) (h7 : 1 ≤ x2 ∧ x2 ≤ 12 := by omega) (h8 : 0 ≤ 12 * x1 + x2 - 1 := by omega) (h9 : 12 * x1 + x2 - 1 < 720 := by omega) :
  CD mt (d + 2) 235 [.ref 574, iv x1, iv x2] (G fi fl cr sh nx sl) = some (.returned (some (iv (fi 630 (12 * x1 + x2 - 1)))), (G (up fi 574 0 0) fl cr sh nx sl)) :=
  Eq.trans (CD_at (ls := [.ref 574, iv x1, iv x2]) _ _ mt_X7_wantedAt rfl rfl) <|
  Eq.trans (e_ldA lin_X7_wantedAt n_X7_wantedAt_0 rfl) <|
  Eq.trans (e_ldA lin_X7_wantedAt n_X7_wantedAt_1 rfl) <|
  Eq.trans (e_getI lin_X7_wantedAt n_X7_wantedAt_2 (s_574 hS) rfl (j := 86) rfl (v := fi 574 86) rfl) <|
  Eq.trans (e_IfEqF lin_X7_wantedAt n_X7_wantedAt_5 h1 h2) <|
  Eq.trans (e_ldI lin_X7_wantedAt n_X7_wantedAt_8 rfl) <|
  Eq.trans (e_KI lin_X7_wantedAt n_X7_wantedAt_9 k_0) <|
  Eq.trans (e_ldA lin_X7_wantedAt n_X7_wantedAt_10 rfl) <|
  Eq.trans (e_getI lin_X7_wantedAt n_X7_wantedAt_11 (s_574 hS) rfl (j := 84) rfl (v := fi 574 84) rfl) <|
  Eq.trans (e_KI lin_X7_wantedAt n_X7_wantedAt_14 k_1) <|
  Eq.trans (e_sub lin_X7_wantedAt n_X7_wantedAt_15 (z := fi 574 84 - 1) rfl) <|
  Eq.trans (e_calS lin_X7_wantedAt n_X7_wantedAt_16 rfl rfl (b_X7_isIn_T h3 (by decide) h4 h5)) <|
  Eq.trans (e_IfEqF lin_X7_wantedAt n_X7_wantedAt_19 (by decide) (by decide)) <|
  Eq.trans (e_ldI lin_X7_wantedAt n_X7_wantedAt_22 rfl) <|
  Eq.trans (e_KI lin_X7_wantedAt n_X7_wantedAt_23 k_1) <|
  Eq.trans (e_KI lin_X7_wantedAt n_X7_wantedAt_24 k_12) <|
  Eq.trans (e_calS lin_X7_wantedAt n_X7_wantedAt_26 rfl rfl (b_X7_isIn_T h6 (by decide) (by decide) h7)) <|
  Eq.trans (e_IfEqF lin_X7_wantedAt n_X7_wantedAt_29 (by decide) (by decide)) <|
  Eq.trans (e_KI lin_X7_wantedAt n_X7_wantedAt_36 k_0) <|
  Eq.trans (e_calV lin_X7_wantedAt n_X7_wantedAt_37 rfl (s_574 hS) rfl rfl (v := iv 0) (g' := (G (up fi 574 0 0) fl cr sh nx sl)) (c_X7_throwsIf_T hS (by decide) (by decide) (by decide))) <|
  Eq.trans (e_IfEqT lin_X7_wantedAt n_X7_wantedAt_40 (by decide) (by decide)) <|
  Eq.trans (e_ldA lin_X7_wantedAt n_X7_wantedAt_45 rfl) <|
  Eq.trans (e_getR lin_X7_wantedAt n_X7_wantedAt_46 (s_574 hS) rfl (j := 87) rfl (rr_574_87 hS)) <|
  Eq.trans (e_KI lin_X7_wantedAt n_X7_wantedAt_49 k_12) <|
  Eq.trans (e_ldI lin_X7_wantedAt n_X7_wantedAt_51 rfl) <|
  Eq.trans (e_mul lin_X7_wantedAt n_X7_wantedAt_52 (z := 12 * x1) rfl) <|
  Eq.trans (e_ldI lin_X7_wantedAt n_X7_wantedAt_53 rfl) <|
  Eq.trans (e_add lin_X7_wantedAt n_X7_wantedAt_54 (z := 12 * x1 + x2) rfl) <|
  Eq.trans (e_KI lin_X7_wantedAt n_X7_wantedAt_55 k_1) <|
  Eq.trans (e_sub lin_X7_wantedAt n_X7_wantedAt_56 (z := 12 * x1 + x2 - 1) rfl) <|
  Eq.trans (e_aldI lin_X7_wantedAt n_X7_wantedAt_57 (s_630 hS) h8 h9 (by decide) (v := fi 630 (12 * x1 + x2 - 1)) rfl) <|
  e_retI lin_X7_wantedAt n_X7_wantedAt_58
theorem c_X7_wantedAt_FTF {fi fl : HI} {cr : HR} {sh : HS} {nx sl d : Nat} {x1 x2 : Int} (hS : Stat cr sh) (h1 : -2147483648 ≤ fi 574 86 ∧ fi 574 86 < 2147483648 := by omega) (h2 : fi 574 86 ≠ 0 := by omega) (h3 : -2147483648 ≤ x1 ∧ x1 < 2147483648 := by omega) (h4 : -2147483648 ≤ fi 574 84 - 1 ∧ fi 574 84 - 1 < 2147483648 := by omega) (h5 : 0 ≤ x1 ∧ x1 ≤ fi 574 84 - 1 := by omega) (h6 : -2147483648 ≤ x2 ∧ x2 < 2147483648 := by omega) (h7 : ¬ (1 ≤ x2 ∧ x2 ≤ 12) := by omega) :
  CD mt (d + 2) 235 [.ref 574, iv x1, iv x2] (G fi fl cr sh nx sl) = some (.returned (some (iv 0)), (G (up fi 574 0 1) fl cr sh nx sl)) :=
  Eq.trans (CD_at (ls := [.ref 574, iv x1, iv x2]) _ _ mt_X7_wantedAt rfl rfl) <|
  Eq.trans (e_ldA lin_X7_wantedAt n_X7_wantedAt_0 rfl) <|
  Eq.trans (e_ldA lin_X7_wantedAt n_X7_wantedAt_1 rfl) <|
  Eq.trans (e_getI lin_X7_wantedAt n_X7_wantedAt_2 (s_574 hS) rfl (j := 86) rfl (v := fi 574 86) rfl) <|
  Eq.trans (e_IfEqF lin_X7_wantedAt n_X7_wantedAt_5 h1 h2) <|
  Eq.trans (e_ldI lin_X7_wantedAt n_X7_wantedAt_8 rfl) <|
  Eq.trans (e_KI lin_X7_wantedAt n_X7_wantedAt_9 k_0) <|
  Eq.trans (e_ldA lin_X7_wantedAt n_X7_wantedAt_10 rfl) <|
  Eq.trans (e_getI lin_X7_wantedAt n_X7_wantedAt_11 (s_574 hS) rfl (j := 84) rfl (v := fi 574 84) rfl) <|
  Eq.trans (e_KI lin_X7_wantedAt n_X7_wantedAt_14 k_1) <|
  Eq.trans (e_sub lin_X7_wantedAt n_X7_wantedAt_15 (z := fi 574 84 - 1) rfl) <|
  Eq.trans (e_calS lin_X7_wantedAt n_X7_wantedAt_16 rfl rfl (b_X7_isIn_T h3 (by decide) h4 h5)) <|
  Eq.trans (e_IfEqF lin_X7_wantedAt n_X7_wantedAt_19 (by decide) (by decide)) <|
  Eq.trans (e_ldI lin_X7_wantedAt n_X7_wantedAt_22 rfl) <|
  Eq.trans (e_KI lin_X7_wantedAt n_X7_wantedAt_23 k_1) <|
  Eq.trans (e_KI lin_X7_wantedAt n_X7_wantedAt_24 k_12) <|
  Eq.trans (e_calS lin_X7_wantedAt n_X7_wantedAt_26 rfl rfl (b_X7_isIn_F h6 (by decide) (by decide) h7)) <|
  Eq.trans (e_IfEqT lin_X7_wantedAt n_X7_wantedAt_29 (by decide) (by decide)) <|
  Eq.trans (e_KI lin_X7_wantedAt n_X7_wantedAt_32 k_1) <|
  Eq.trans (e_goto lin_X7_wantedAt n_X7_wantedAt_33) <|
  Eq.trans (e_calV lin_X7_wantedAt n_X7_wantedAt_37 rfl (s_574 hS) rfl rfl (v := iv 1) (g' := (G (up fi 574 0 1) fl cr sh nx sl)) (c_X7_throwsIf_F hS (by decide) (by decide) (by decide))) <|
  Eq.trans (e_IfEqF lin_X7_wantedAt n_X7_wantedAt_40 (by decide) (by decide)) <|
  Eq.trans (e_KI lin_X7_wantedAt n_X7_wantedAt_43 k_0) <|
  e_retI lin_X7_wantedAt n_X7_wantedAt_44
theorem c_X7_wantedAt_FF {fi fl : HI} {cr : HR} {sh : HS} {nx sl d : Nat} {x1 x2 : Int} (hS : Stat cr sh) (h1 : -2147483648 ≤ fi 574 86 ∧ fi 574 86 < 2147483648 := by omega) (h2 : fi 574 86 ≠ 0 := by omega) (h3 : -2147483648 ≤ x1 ∧ x1 < 2147483648 := by omega) (h4 : -2147483648 ≤ fi 574 84 - 1 ∧ fi 574 84 - 1 < 2147483648 := by omega) (h5 : ¬ (0 ≤ x1 ∧ x1 ≤ fi 574 84 - 1) := by omega) :
  CD mt (d + 2) 235 [.ref 574, iv x1, iv x2] (G fi fl cr sh nx sl) = some (.returned (some (iv 0)), (G (up fi 574 0 1) fl cr sh nx sl)) :=
  Eq.trans (CD_at (ls := [.ref 574, iv x1, iv x2]) _ _ mt_X7_wantedAt rfl rfl) <|
  Eq.trans (e_ldA lin_X7_wantedAt n_X7_wantedAt_0 rfl) <|
  Eq.trans (e_ldA lin_X7_wantedAt n_X7_wantedAt_1 rfl) <|
  Eq.trans (e_getI lin_X7_wantedAt n_X7_wantedAt_2 (s_574 hS) rfl (j := 86) rfl (v := fi 574 86) rfl) <|
  Eq.trans (e_IfEqF lin_X7_wantedAt n_X7_wantedAt_5 h1 h2) <|
  Eq.trans (e_ldI lin_X7_wantedAt n_X7_wantedAt_8 rfl) <|
  Eq.trans (e_KI lin_X7_wantedAt n_X7_wantedAt_9 k_0) <|
  Eq.trans (e_ldA lin_X7_wantedAt n_X7_wantedAt_10 rfl) <|
  Eq.trans (e_getI lin_X7_wantedAt n_X7_wantedAt_11 (s_574 hS) rfl (j := 84) rfl (v := fi 574 84) rfl) <|
  Eq.trans (e_KI lin_X7_wantedAt n_X7_wantedAt_14 k_1) <|
  Eq.trans (e_sub lin_X7_wantedAt n_X7_wantedAt_15 (z := fi 574 84 - 1) rfl) <|
  Eq.trans (e_calS lin_X7_wantedAt n_X7_wantedAt_16 rfl rfl (b_X7_isIn_F h3 (by decide) h4 h5)) <|
  Eq.trans (e_IfEqT lin_X7_wantedAt n_X7_wantedAt_19 (by decide) (by decide)) <|
  Eq.trans (e_KI lin_X7_wantedAt n_X7_wantedAt_32 k_1) <|
  Eq.trans (e_goto lin_X7_wantedAt n_X7_wantedAt_33) <|
  Eq.trans (e_calV lin_X7_wantedAt n_X7_wantedAt_37 rfl (s_574 hS) rfl rfl (v := iv 1) (g' := (G (up fi 574 0 1) fl cr sh nx sl)) (c_X7_throwsIf_F hS (by decide) (by decide) (by decide))) <|
  Eq.trans (e_IfEqF lin_X7_wantedAt n_X7_wantedAt_40 (by decide) (by decide)) <|
  Eq.trans (e_KI lin_X7_wantedAt n_X7_wantedAt_43 k_0) <|
  e_retI lin_X7_wantedAt n_X7_wantedAt_44
theorem c_X7_isThere_TT {fi fl : HI} {cr : HR} {sh : HS} {nx sl d : Nat} {x1 : Int} (hS : Stat cr sh) (h1 : -2147483648 ≤ x1 ∧ x1 < 2147483648 := by omega) (h2 : 0 ≤ x1 ∧ x1 ≤ 7 := by omega) (h3 : 0 ≤ x1 := by omega) (h4 : x1 < 8 := by omega) (h5 : -2147483648 ≤ fi 582 x1 ∧ fi 582 x1 < 2147483648 := by omega) (h6 : fi 582 x1 = 0 := by omega) :
  CD mt (d + 2) 239 [.ref 574, iv x1] (G fi fl cr sh nx sl) = some (.returned (some (iv 0)), (G fi fl cr sh nx sl)) :=
  Eq.trans (CD_at (ls := [.ref 574, iv x1]) _ _ mt_X7_isThere rfl rfl) <|
  Eq.trans (e_ldI lin_X7_isThere n_X7_isThere_0 rfl) <|
  Eq.trans (e_KI lin_X7_isThere n_X7_isThere_1 k_0) <|
  Eq.trans (e_KI lin_X7_isThere n_X7_isThere_2 k_7) <|
  Eq.trans (e_calS lin_X7_isThere n_X7_isThere_4 rfl rfl (b_X7_isIn_T h1 (by decide) (by decide) h2)) <|
  Eq.trans (e_IfEqF lin_X7_isThere n_X7_isThere_7 (by decide) (by decide)) <|
  Eq.trans (e_ldA lin_X7_isThere n_X7_isThere_10 rfl) <|
  Eq.trans (e_getR lin_X7_isThere n_X7_isThere_11 (s_574 hS) rfl (j := 19) rfl (rr_574_19 hS)) <|
  Eq.trans (e_ldI lin_X7_isThere n_X7_isThere_14 rfl) <|
  Eq.trans (e_aldBZ lin_X7_isThere n_X7_isThere_15 (s_582 hS) h3 h4 (by decide) (v := fi 582 x1) rfl) <|
  Eq.trans (e_IfEqT lin_X7_isThere n_X7_isThere_16 h5 h6) <|
  Eq.trans (e_KI lin_X7_isThere n_X7_isThere_23 k_0) <|
  e_retZ lin_X7_isThere n_X7_isThere_24 (by decide)
theorem c_X7_isThere_TF {fi fl : HI} {cr : HR} {sh : HS} {nx sl d : Nat} {x1 : Int} (hS : Stat cr sh) (h1 : -2147483648 ≤ x1 ∧ x1 < 2147483648 := by omega) (h2 : 0 ≤ x1 ∧ x1 ≤ 7 := by omega) (h3 : 0 ≤ x1 := by omega) (h4 : x1 < 8 := by omega) (h5 : -2147483648 ≤ fi 582 x1 ∧ fi 582 x1 < 2147483648 := by omega) (h6 : fi 582 x1 ≠ 0 := by omega) :
  CD mt (d + 2) 239 [.ref 574, iv x1] (G fi fl cr sh nx sl) = some (.returned (some (iv 1)), (G fi fl cr sh nx sl)) :=
  Eq.trans (CD_at (ls := [.ref 574, iv x1]) _ _ mt_X7_isThere rfl rfl) <|
  Eq.trans (e_ldI lin_X7_isThere n_X7_isThere_0 rfl) <|
  Eq.trans (e_KI lin_X7_isThere n_X7_isThere_1 k_0) <|
  Eq.trans (e_KI lin_X7_isThere n_X7_isThere_2 k_7) <|
  Eq.trans (e_calS lin_X7_isThere n_X7_isThere_4 rfl rfl (b_X7_isIn_T h1 (by decide) (by decide) h2)) <|
  Eq.trans (e_IfEqF lin_X7_isThere n_X7_isThere_7 (by decide) (by decide)) <|
  Eq.trans (e_ldA lin_X7_isThere n_X7_isThere_10 rfl) <|
  Eq.trans (e_getR lin_X7_isThere n_X7_isThere_11 (s_574 hS) rfl (j := 19) rfl (rr_574_19 hS)) <|
  Eq.trans (e_ldI lin_X7_isThere n_X7_isThere_14 rfl) <|
  Eq.trans (e_aldBZ lin_X7_isThere n_X7_isThere_15 (s_582 hS) h3 h4 (by decide) (v := fi 582 x1) rfl) <|
  Eq.trans (e_IfEqF lin_X7_isThere n_X7_isThere_16 h5 h6) <|
  Eq.trans (e_KI lin_X7_isThere n_X7_isThere_19 k_1) <|
  Eq.trans (e_goto lin_X7_isThere n_X7_isThere_20) <|
  e_retZ lin_X7_isThere n_X7_isThere_24 (by decide)
theorem c_X7_isThere_F {fi fl : HI} {cr : HR} {sh : HS} {nx sl d : Nat} {x1 : Int} (h1 : -2147483648 ≤ x1 ∧ x1 < 2147483648 := by omega) (h2 : ¬ (0 ≤ x1 ∧ x1 ≤ 7) := by omega) :
  CD mt (d + 2) 239 [.ref 574, iv x1] (G fi fl cr sh nx sl) = some (.returned (some (iv 0)), (G fi fl cr sh nx sl)) :=
  Eq.trans (CD_at (ls := [.ref 574, iv x1]) _ _ mt_X7_isThere rfl rfl) <|
  Eq.trans (e_ldI lin_X7_isThere n_X7_isThere_0 rfl) <|
  Eq.trans (e_KI lin_X7_isThere n_X7_isThere_1 k_0) <|
  Eq.trans (e_KI lin_X7_isThere n_X7_isThere_2 k_7) <|
  Eq.trans (e_calS lin_X7_isThere n_X7_isThere_4 rfl rfl (b_X7_isIn_F h1 (by decide) (by decide) h2)) <|
  Eq.trans (e_IfEqT lin_X7_isThere n_X7_isThere_7 (by decide) (by decide)) <|
  Eq.trans (e_KI lin_X7_isThere n_X7_isThere_23 k_0) <|
  e_retZ lin_X7_isThere n_X7_isThere_24 (by decide)
theorem c_X7_isOne_TT {fi fl : HI} {cr : HR} {sh : HS} {nx sl d : Nat} {x1 x2 : Int} (hS : Stat cr sh) (h1 : 0 ≤ x1 := by omega) (h2 : x1 < 600 := by omega) (h3 : 0 ≤ x2 := by omega) (h4 : x2 < 600 := by omega) (h5 : -2147483648 ≤ fi 578 x1 ∧ fi 578 x1 < 2147483648 := by omega) (h6 : -2147483648 ≤ fi 578 x2 ∧ fi 578 x2 < 2147483648 := by omega) (h7 : fi 578 x1 = fi 578 x2 := by omega) (h8 : -2147483648 ≤ fi 579 x1 ∧ fi 579 x1 < 2147483648 := by omega) (h9 : -2147483648 ≤ fi 579 x2 ∧ fi 579 x2 < 2147483648 := by omega) (h10 : fi 579 x1 = fi 579 x2 := by omega) :
  CD mt (d + 1) 242 [.ref 574, iv x1, iv x2] (G fi fl cr sh nx sl) = some (.returned (some (iv 1)), (G fi fl cr sh nx sl)) :=
  Eq.trans (CD_at (ls := [.ref 574, iv x1, iv x2]) _ _ mt_X7_isOne rfl rfl) <|
  Eq.trans (e_ldA lin_X7_isOne n_X7_isOne_0 rfl) <|
  Eq.trans (e_getR lin_X7_isOne n_X7_isOne_1 (s_574 hS) rfl (j := 15) rfl (rr_574_15 hS)) <|
  Eq.trans (e_ldI lin_X7_isOne n_X7_isOne_4 rfl) <|
  Eq.trans (e_aldI lin_X7_isOne n_X7_isOne_5 (s_578 hS) h1 h2 (by decide) (v := fi 578 x1) rfl) <|
  Eq.trans (e_ldA lin_X7_isOne n_X7_isOne_6 rfl) <|
  Eq.trans (e_getR lin_X7_isOne n_X7_isOne_7 (s_574 hS) rfl (j := 15) rfl (rr_574_15 hS)) <|
  Eq.trans (e_ldI lin_X7_isOne n_X7_isOne_10 rfl) <|
  Eq.trans (e_aldI lin_X7_isOne n_X7_isOne_11 (s_578 hS) h3 h4 (by decide) (v := fi 578 x2) rfl) <|
  Eq.trans (e_IcEqT lin_X7_isOne n_X7_isOne_12 h5 h6 h7) <|
  Eq.trans (e_ldA lin_X7_isOne n_X7_isOne_15 rfl) <|
  Eq.trans (e_getR lin_X7_isOne n_X7_isOne_16 (s_574 hS) rfl (j := 16) rfl (rr_574_16 hS)) <|
  Eq.trans (e_ldI lin_X7_isOne n_X7_isOne_19 rfl) <|
  Eq.trans (e_aldI lin_X7_isOne n_X7_isOne_20 (s_579 hS) h1 h2 (by decide) (v := fi 579 x1) rfl) <|
  Eq.trans (e_ldA lin_X7_isOne n_X7_isOne_21 rfl) <|
  Eq.trans (e_getR lin_X7_isOne n_X7_isOne_22 (s_574 hS) rfl (j := 16) rfl (rr_574_16 hS)) <|
  Eq.trans (e_ldI lin_X7_isOne n_X7_isOne_25 rfl) <|
  Eq.trans (e_aldI lin_X7_isOne n_X7_isOne_26 (s_579 hS) h3 h4 (by decide) (v := fi 579 x2) rfl) <|
  Eq.trans (e_IcEqT lin_X7_isOne n_X7_isOne_27 h8 h9 h10) <|
  Eq.trans (e_KI lin_X7_isOne n_X7_isOne_60 k_1) <|
  Eq.trans (e_goto lin_X7_isOne n_X7_isOne_61) <|
  e_retZ lin_X7_isOne n_X7_isOne_65 (by decide)
theorem c_X7_isOne_TFTT {fi fl : HI} {cr : HR} {sh : HS} {nx sl d : Nat} {x1 x2 : Int} (hS : Stat cr sh) (h1 : 0 ≤ x1 := by omega) (h2 : x1 < 600 := by omega) (h3 : 0 ≤ x2 := by omega) (h4 : x2 < 600 := by omega) (h5 : -2147483648 ≤ fi 578 x1 ∧ fi 578 x1 < 2147483648 := by omega) (h6 : -2147483648 ≤ fi 578 x2 ∧ fi 578 x2 < 2147483648 := by omega) (h7 : fi 578 x1 = fi 578 x2 := by omega) (h8 : -2147483648 ≤ fi 579 x1 ∧ fi 579 x1 < 2147483648 := by omega) (h9 : -2147483648 ≤ fi 579 x2 ∧ fi 579 x2 < 2147483648 := by omega) (h10 : fi 579 x1 ≠ fi 579 x2 := by omega) (h11 : fi 578 x1 = fi 579 x2 := by omega) (h12 : fi 579 x1 = fi 578 x2 := by omega) :
  CD mt (d + 1) 242 [.ref 574, iv x1, iv x2] (G fi fl cr sh nx sl) = some (.returned (some (iv 1)), (G fi fl cr sh nx sl)) :=
  Eq.trans (CD_at (ls := [.ref 574, iv x1, iv x2]) _ _ mt_X7_isOne rfl rfl) <|
  Eq.trans (e_ldA lin_X7_isOne n_X7_isOne_0 rfl) <|
  Eq.trans (e_getR lin_X7_isOne n_X7_isOne_1 (s_574 hS) rfl (j := 15) rfl (rr_574_15 hS)) <|
  Eq.trans (e_ldI lin_X7_isOne n_X7_isOne_4 rfl) <|
  Eq.trans (e_aldI lin_X7_isOne n_X7_isOne_5 (s_578 hS) h1 h2 (by decide) (v := fi 578 x1) rfl) <|
  Eq.trans (e_ldA lin_X7_isOne n_X7_isOne_6 rfl) <|
  Eq.trans (e_getR lin_X7_isOne n_X7_isOne_7 (s_574 hS) rfl (j := 15) rfl (rr_574_15 hS)) <|
  Eq.trans (e_ldI lin_X7_isOne n_X7_isOne_10 rfl) <|
  Eq.trans (e_aldI lin_X7_isOne n_X7_isOne_11 (s_578 hS) h3 h4 (by decide) (v := fi 578 x2) rfl) <|
  Eq.trans (e_IcEqT lin_X7_isOne n_X7_isOne_12 h5 h6 h7) <|
  Eq.trans (e_ldA lin_X7_isOne n_X7_isOne_15 rfl) <|
  Eq.trans (e_getR lin_X7_isOne n_X7_isOne_16 (s_574 hS) rfl (j := 16) rfl (rr_574_16 hS)) <|
  Eq.trans (e_ldI lin_X7_isOne n_X7_isOne_19 rfl) <|
  Eq.trans (e_aldI lin_X7_isOne n_X7_isOne_20 (s_579 hS) h1 h2 (by decide) (v := fi 579 x1) rfl) <|
  Eq.trans (e_ldA lin_X7_isOne n_X7_isOne_21 rfl) <|
  Eq.trans (e_getR lin_X7_isOne n_X7_isOne_22 (s_574 hS) rfl (j := 16) rfl (rr_574_16 hS)) <|
  Eq.trans (e_ldI lin_X7_isOne n_X7_isOne_25 rfl) <|
  Eq.trans (e_aldI lin_X7_isOne n_X7_isOne_26 (s_579 hS) h3 h4 (by decide) (v := fi 579 x2) rfl) <|
  Eq.trans (e_IcEqF lin_X7_isOne n_X7_isOne_27 h8 h9 h10) <|
  Eq.trans (e_ldA lin_X7_isOne n_X7_isOne_30 rfl) <|
  Eq.trans (e_getR lin_X7_isOne n_X7_isOne_31 (s_574 hS) rfl (j := 15) rfl (rr_574_15 hS)) <|
  Eq.trans (e_ldI lin_X7_isOne n_X7_isOne_34 rfl) <|
  Eq.trans (e_aldI lin_X7_isOne n_X7_isOne_35 (s_578 hS) h1 h2 (by decide) (v := fi 578 x1) rfl) <|
  Eq.trans (e_ldA lin_X7_isOne n_X7_isOne_36 rfl) <|
  Eq.trans (e_getR lin_X7_isOne n_X7_isOne_37 (s_574 hS) rfl (j := 16) rfl (rr_574_16 hS)) <|
  Eq.trans (e_ldI lin_X7_isOne n_X7_isOne_40 rfl) <|
  Eq.trans (e_aldI lin_X7_isOne n_X7_isOne_41 (s_579 hS) h3 h4 (by decide) (v := fi 579 x2) rfl) <|
  Eq.trans (e_IcEqT lin_X7_isOne n_X7_isOne_42 h5 h9 h11) <|
  Eq.trans (e_ldA lin_X7_isOne n_X7_isOne_45 rfl) <|
  Eq.trans (e_getR lin_X7_isOne n_X7_isOne_46 (s_574 hS) rfl (j := 16) rfl (rr_574_16 hS)) <|
  Eq.trans (e_ldI lin_X7_isOne n_X7_isOne_49 rfl) <|
  Eq.trans (e_aldI lin_X7_isOne n_X7_isOne_50 (s_579 hS) h1 h2 (by decide) (v := fi 579 x1) rfl) <|
  Eq.trans (e_ldA lin_X7_isOne n_X7_isOne_51 rfl) <|
  Eq.trans (e_getR lin_X7_isOne n_X7_isOne_52 (s_574 hS) rfl (j := 15) rfl (rr_574_15 hS)) <|
  Eq.trans (e_ldI lin_X7_isOne n_X7_isOne_55 rfl) <|
  Eq.trans (e_aldI lin_X7_isOne n_X7_isOne_56 (s_578 hS) h3 h4 (by decide) (v := fi 578 x2) rfl) <|
  Eq.trans (e_IcEqT lin_X7_isOne n_X7_isOne_57 h8 h6 h12) <|
  Eq.trans (e_KI lin_X7_isOne n_X7_isOne_60 k_1) <|
  Eq.trans (e_goto lin_X7_isOne n_X7_isOne_61) <|
  e_retZ lin_X7_isOne n_X7_isOne_65 (by decide)
theorem c_X7_isOne_TFTF {fi fl : HI} {cr : HR} {sh : HS} {nx sl d : Nat} {x1 x2 : Int} (hS : Stat cr sh) (h1 : 0 ≤ x1 := by omega) (h2 : x1 < 600 := by omega) (h3 : 0 ≤ x2 := by omega) (h4 : x2 < 600 := by omega) (h5 : -2147483648 ≤ fi 578 x1 ∧ fi 578 x1 < 2147483648 := by omega) (h6 : -2147483648 ≤ fi 578 x2 ∧ fi 578 x2 < 2147483648 := by omega) (h7 : fi 578 x1 = fi 578 x2 := by omega) (h8 : -2147483648 ≤ fi 579 x1 ∧ fi 579 x1 < 2147483648 := by omega) (h9 : -2147483648 ≤ fi 579 x2 ∧ fi 579 x2 < 2147483648 := by omega) (h10 : fi 579 x1 ≠ fi 579 x2 := by omega) (h11 : fi 578 x1 = fi 579 x2 := by omega) (h12 : fi 579 x1 ≠ fi 578 x2 := by omega) :
  CD mt (d + 1) 242 [.ref 574, iv x1, iv x2] (G fi fl cr sh nx sl) = some (.returned (some (iv 0)), (G fi fl cr sh nx sl)) :=
  Eq.trans (CD_at (ls := [.ref 574, iv x1, iv x2]) _ _ mt_X7_isOne rfl rfl) <|
  Eq.trans (e_ldA lin_X7_isOne n_X7_isOne_0 rfl) <|
  Eq.trans (e_getR lin_X7_isOne n_X7_isOne_1 (s_574 hS) rfl (j := 15) rfl (rr_574_15 hS)) <|
  Eq.trans (e_ldI lin_X7_isOne n_X7_isOne_4 rfl) <|
  Eq.trans (e_aldI lin_X7_isOne n_X7_isOne_5 (s_578 hS) h1 h2 (by decide) (v := fi 578 x1) rfl) <|
  Eq.trans (e_ldA lin_X7_isOne n_X7_isOne_6 rfl) <|
  Eq.trans (e_getR lin_X7_isOne n_X7_isOne_7 (s_574 hS) rfl (j := 15) rfl (rr_574_15 hS)) <|
  Eq.trans (e_ldI lin_X7_isOne n_X7_isOne_10 rfl) <|
  Eq.trans (e_aldI lin_X7_isOne n_X7_isOne_11 (s_578 hS) h3 h4 (by decide) (v := fi 578 x2) rfl) <|
  Eq.trans (e_IcEqT lin_X7_isOne n_X7_isOne_12 h5 h6 h7) <|
  Eq.trans (e_ldA lin_X7_isOne n_X7_isOne_15 rfl) <|
  Eq.trans (e_getR lin_X7_isOne n_X7_isOne_16 (s_574 hS) rfl (j := 16) rfl (rr_574_16 hS)) <|
  Eq.trans (e_ldI lin_X7_isOne n_X7_isOne_19 rfl) <|
  Eq.trans (e_aldI lin_X7_isOne n_X7_isOne_20 (s_579 hS) h1 h2 (by decide) (v := fi 579 x1) rfl) <|
  Eq.trans (e_ldA lin_X7_isOne n_X7_isOne_21 rfl) <|
  Eq.trans (e_getR lin_X7_isOne n_X7_isOne_22 (s_574 hS) rfl (j := 16) rfl (rr_574_16 hS)) <|
  Eq.trans (e_ldI lin_X7_isOne n_X7_isOne_25 rfl) <|
  Eq.trans (e_aldI lin_X7_isOne n_X7_isOne_26 (s_579 hS) h3 h4 (by decide) (v := fi 579 x2) rfl) <|
  Eq.trans (e_IcEqF lin_X7_isOne n_X7_isOne_27 h8 h9 h10) <|
  Eq.trans (e_ldA lin_X7_isOne n_X7_isOne_30 rfl) <|
  Eq.trans (e_getR lin_X7_isOne n_X7_isOne_31 (s_574 hS) rfl (j := 15) rfl (rr_574_15 hS)) <|
  Eq.trans (e_ldI lin_X7_isOne n_X7_isOne_34 rfl) <|
  Eq.trans (e_aldI lin_X7_isOne n_X7_isOne_35 (s_578 hS) h1 h2 (by decide) (v := fi 578 x1) rfl) <|
  Eq.trans (e_ldA lin_X7_isOne n_X7_isOne_36 rfl) <|
  Eq.trans (e_getR lin_X7_isOne n_X7_isOne_37 (s_574 hS) rfl (j := 16) rfl (rr_574_16 hS)) <|
  Eq.trans (e_ldI lin_X7_isOne n_X7_isOne_40 rfl) <|
  Eq.trans (e_aldI lin_X7_isOne n_X7_isOne_41 (s_579 hS) h3 h4 (by decide) (v := fi 579 x2) rfl) <|
  Eq.trans (e_IcEqT lin_X7_isOne n_X7_isOne_42 h5 h9 h11) <|
  Eq.trans (e_ldA lin_X7_isOne n_X7_isOne_45 rfl) <|
  Eq.trans (e_getR lin_X7_isOne n_X7_isOne_46 (s_574 hS) rfl (j := 16) rfl (rr_574_16 hS)) <|
  Eq.trans (e_ldI lin_X7_isOne n_X7_isOne_49 rfl) <|
  Eq.trans (e_aldI lin_X7_isOne n_X7_isOne_50 (s_579 hS) h1 h2 (by decide) (v := fi 579 x1) rfl) <|
  Eq.trans (e_ldA lin_X7_isOne n_X7_isOne_51 rfl) <|
  Eq.trans (e_getR lin_X7_isOne n_X7_isOne_52 (s_574 hS) rfl (j := 15) rfl (rr_574_15 hS)) <|
  Eq.trans (e_ldI lin_X7_isOne n_X7_isOne_55 rfl) <|
  Eq.trans (e_aldI lin_X7_isOne n_X7_isOne_56 (s_578 hS) h3 h4 (by decide) (v := fi 578 x2) rfl) <|
  Eq.trans (e_IcEqF lin_X7_isOne n_X7_isOne_57 h8 h6 h12) <|
  Eq.trans (e_KI lin_X7_isOne n_X7_isOne_64 k_0) <|
  e_retZ lin_X7_isOne n_X7_isOne_65 (by decide)
theorem c_X7_isOne_TFF {fi fl : HI} {cr : HR} {sh : HS} {nx sl d : Nat} {x1 x2 : Int} (hS : Stat cr sh) (h1 : 0 ≤ x1 := by omega) (h2 : x1 < 600 := by omega) (h3 : 0 ≤ x2 := by omega) (h4 : x2 < 600 := by omega) (h5 : -2147483648 ≤ fi 578 x1 ∧ fi 578 x1 < 2147483648 := by omega) (h6 : -2147483648 ≤ fi 578 x2 ∧ fi 578 x2 < 2147483648 := by omega) (h7 : fi 578 x1 = fi 578 x2 := by omega) (h8 : -2147483648 ≤ fi 579 x1 ∧ fi 579 x1 < 2147483648 := by omega) (h9 : -2147483648 ≤ fi 579 x2 ∧ fi 579 x2 < 2147483648 := by omega) (h10 : fi 579 x1 ≠ fi 579 x2 := by omega) (h11 : fi 578 x1 ≠ fi 579 x2 := by omega) :
  CD mt (d + 1) 242 [.ref 574, iv x1, iv x2] (G fi fl cr sh nx sl) = some (.returned (some (iv 0)), (G fi fl cr sh nx sl)) :=
  Eq.trans (CD_at (ls := [.ref 574, iv x1, iv x2]) _ _ mt_X7_isOne rfl rfl) <|
  Eq.trans (e_ldA lin_X7_isOne n_X7_isOne_0 rfl) <|
  Eq.trans (e_getR lin_X7_isOne n_X7_isOne_1 (s_574 hS) rfl (j := 15) rfl (rr_574_15 hS)) <|
  Eq.trans (e_ldI lin_X7_isOne n_X7_isOne_4 rfl) <|
  Eq.trans (e_aldI lin_X7_isOne n_X7_isOne_5 (s_578 hS) h1 h2 (by decide) (v := fi 578 x1) rfl) <|
  Eq.trans (e_ldA lin_X7_isOne n_X7_isOne_6 rfl) <|
  Eq.trans (e_getR lin_X7_isOne n_X7_isOne_7 (s_574 hS) rfl (j := 15) rfl (rr_574_15 hS)) <|
  Eq.trans (e_ldI lin_X7_isOne n_X7_isOne_10 rfl) <|
  Eq.trans (e_aldI lin_X7_isOne n_X7_isOne_11 (s_578 hS) h3 h4 (by decide) (v := fi 578 x2) rfl) <|
  Eq.trans (e_IcEqT lin_X7_isOne n_X7_isOne_12 h5 h6 h7) <|
  Eq.trans (e_ldA lin_X7_isOne n_X7_isOne_15 rfl) <|
  Eq.trans (e_getR lin_X7_isOne n_X7_isOne_16 (s_574 hS) rfl (j := 16) rfl (rr_574_16 hS)) <|
  Eq.trans (e_ldI lin_X7_isOne n_X7_isOne_19 rfl) <|
  Eq.trans (e_aldI lin_X7_isOne n_X7_isOne_20 (s_579 hS) h1 h2 (by decide) (v := fi 579 x1) rfl) <|
  Eq.trans (e_ldA lin_X7_isOne n_X7_isOne_21 rfl) <|
  Eq.trans (e_getR lin_X7_isOne n_X7_isOne_22 (s_574 hS) rfl (j := 16) rfl (rr_574_16 hS)) <|
  Eq.trans (e_ldI lin_X7_isOne n_X7_isOne_25 rfl) <|
  Eq.trans (e_aldI lin_X7_isOne n_X7_isOne_26 (s_579 hS) h3 h4 (by decide) (v := fi 579 x2) rfl) <|
  Eq.trans (e_IcEqF lin_X7_isOne n_X7_isOne_27 h8 h9 h10) <|
  Eq.trans (e_ldA lin_X7_isOne n_X7_isOne_30 rfl) <|
  Eq.trans (e_getR lin_X7_isOne n_X7_isOne_31 (s_574 hS) rfl (j := 15) rfl (rr_574_15 hS)) <|
  Eq.trans (e_ldI lin_X7_isOne n_X7_isOne_34 rfl) <|
  Eq.trans (e_aldI lin_X7_isOne n_X7_isOne_35 (s_578 hS) h1 h2 (by decide) (v := fi 578 x1) rfl) <|
  Eq.trans (e_ldA lin_X7_isOne n_X7_isOne_36 rfl) <|
  Eq.trans (e_getR lin_X7_isOne n_X7_isOne_37 (s_574 hS) rfl (j := 16) rfl (rr_574_16 hS)) <|
  Eq.trans (e_ldI lin_X7_isOne n_X7_isOne_40 rfl) <|
  Eq.trans (e_aldI lin_X7_isOne n_X7_isOne_41 (s_579 hS) h3 h4 (by decide) (v := fi 579 x2) rfl) <|
  Eq.trans (e_IcEqF lin_X7_isOne n_X7_isOne_42 h5 h9 h11) <|
  Eq.trans (e_KI lin_X7_isOne n_X7_isOne_64 k_0) <|
  e_retZ lin_X7_isOne n_X7_isOne_65 (by decide)
theorem c_X7_isOne_FTT {fi fl : HI} {cr : HR} {sh : HS} {nx sl d : Nat} {x1 x2 : Int} (hS : Stat cr sh) (h1 : 0 ≤ x1 := by omega) (h2 : x1 < 600 := by omega) (h3 : 0 ≤ x2 := by omega) (h4 : x2 < 600 := by omega) (h5 : -2147483648 ≤ fi 578 x1 ∧ fi 578 x1 < 2147483648 := by omega) (h6 : -2147483648 ≤ fi 578 x2 ∧ fi 578 x2 < 2147483648 := by omega) (h7 : fi 578 x1 ≠ fi 578 x2 := by omega) (h8 : -2147483648 ≤ fi 579 x2 ∧ fi 579 x2 < 2147483648 := by omega) (h9 : fi 578 x1 = fi 579 x2 := by omega) (h10 : -2147483648 ≤ fi 579 x1 ∧ fi 579 x1 < 2147483648 := by omega) (h11 : fi 579 x1 = fi 578 x2 := by omega) :
  CD mt (d + 1) 242 [.ref 574, iv x1, iv x2] (G fi fl cr sh nx sl) = some (.returned (some (iv 1)), (G fi fl cr sh nx sl)) :=
  Eq.trans (CD_at (ls := [.ref 574, iv x1, iv x2]) _ _ mt_X7_isOne rfl rfl) <|
  Eq.trans (e_ldA lin_X7_isOne n_X7_isOne_0 rfl) <|
  Eq.trans (e_getR lin_X7_isOne n_X7_isOne_1 (s_574 hS) rfl (j := 15) rfl (rr_574_15 hS)) <|
  Eq.trans (e_ldI lin_X7_isOne n_X7_isOne_4 rfl) <|
  Eq.trans (e_aldI lin_X7_isOne n_X7_isOne_5 (s_578 hS) h1 h2 (by decide) (v := fi 578 x1) rfl) <|
  Eq.trans (e_ldA lin_X7_isOne n_X7_isOne_6 rfl) <|
  Eq.trans (e_getR lin_X7_isOne n_X7_isOne_7 (s_574 hS) rfl (j := 15) rfl (rr_574_15 hS)) <|
  Eq.trans (e_ldI lin_X7_isOne n_X7_isOne_10 rfl) <|
  Eq.trans (e_aldI lin_X7_isOne n_X7_isOne_11 (s_578 hS) h3 h4 (by decide) (v := fi 578 x2) rfl) <|
  Eq.trans (e_IcEqF lin_X7_isOne n_X7_isOne_12 h5 h6 h7) <|
  Eq.trans (e_ldA lin_X7_isOne n_X7_isOne_30 rfl) <|
  Eq.trans (e_getR lin_X7_isOne n_X7_isOne_31 (s_574 hS) rfl (j := 15) rfl (rr_574_15 hS)) <|
  Eq.trans (e_ldI lin_X7_isOne n_X7_isOne_34 rfl) <|
  Eq.trans (e_aldI lin_X7_isOne n_X7_isOne_35 (s_578 hS) h1 h2 (by decide) (v := fi 578 x1) rfl) <|
  Eq.trans (e_ldA lin_X7_isOne n_X7_isOne_36 rfl) <|
  Eq.trans (e_getR lin_X7_isOne n_X7_isOne_37 (s_574 hS) rfl (j := 16) rfl (rr_574_16 hS)) <|
  Eq.trans (e_ldI lin_X7_isOne n_X7_isOne_40 rfl) <|
  Eq.trans (e_aldI lin_X7_isOne n_X7_isOne_41 (s_579 hS) h3 h4 (by decide) (v := fi 579 x2) rfl) <|
  Eq.trans (e_IcEqT lin_X7_isOne n_X7_isOne_42 h5 h8 h9) <|
  Eq.trans (e_ldA lin_X7_isOne n_X7_isOne_45 rfl) <|
  Eq.trans (e_getR lin_X7_isOne n_X7_isOne_46 (s_574 hS) rfl (j := 16) rfl (rr_574_16 hS)) <|
  Eq.trans (e_ldI lin_X7_isOne n_X7_isOne_49 rfl) <|
  Eq.trans (e_aldI lin_X7_isOne n_X7_isOne_50 (s_579 hS) h1 h2 (by decide) (v := fi 579 x1) rfl) <|
  Eq.trans (e_ldA lin_X7_isOne n_X7_isOne_51 rfl) <|
  Eq.trans (e_getR lin_X7_isOne n_X7_isOne_52 (s_574 hS) rfl (j := 15) rfl (rr_574_15 hS)) <|
  Eq.trans (e_ldI lin_X7_isOne n_X7_isOne_55 rfl) <|
  Eq.trans (e_aldI lin_X7_isOne n_X7_isOne_56 (s_578 hS) h3 h4 (by decide) (v := fi 578 x2) rfl) <|
  Eq.trans (e_IcEqT lin_X7_isOne n_X7_isOne_57 h10 h6 h11) <|
  Eq.trans (e_KI lin_X7_isOne n_X7_isOne_60 k_1) <|
  Eq.trans (e_goto lin_X7_isOne n_X7_isOne_61) <|
  e_retZ lin_X7_isOne n_X7_isOne_65 (by decide)
theorem c_X7_isOne_FTF {fi fl : HI} {cr : HR} {sh : HS} {nx sl d : Nat} {x1 x2 : Int} (hS : Stat cr sh) (h1 : 0 ≤ x1 := by omega) (h2 : x1 < 600 := by omega) (h3 : 0 ≤ x2 := by omega) (h4 : x2 < 600 := by omega) (h5 : -2147483648 ≤ fi 578 x1 ∧ fi 578 x1 < 2147483648 := by omega) (h6 : -2147483648 ≤ fi 578 x2 ∧ fi 578 x2 < 2147483648 := by omega) (h7 : fi 578 x1 ≠ fi 578 x2 := by omega) (h8 : -2147483648 ≤ fi 579 x2 ∧ fi 579 x2 < 2147483648 := by omega) (h9 : fi 578 x1 = fi 579 x2 := by omega) (h10 : -2147483648 ≤ fi 579 x1 ∧ fi 579 x1 < 2147483648 := by omega) (h11 : fi 579 x1 ≠ fi 578 x2 := by omega) :
  CD mt (d + 1) 242 [.ref 574, iv x1, iv x2] (G fi fl cr sh nx sl) = some (.returned (some (iv 0)), (G fi fl cr sh nx sl)) :=
  Eq.trans (CD_at (ls := [.ref 574, iv x1, iv x2]) _ _ mt_X7_isOne rfl rfl) <|
  Eq.trans (e_ldA lin_X7_isOne n_X7_isOne_0 rfl) <|
  Eq.trans (e_getR lin_X7_isOne n_X7_isOne_1 (s_574 hS) rfl (j := 15) rfl (rr_574_15 hS)) <|
  Eq.trans (e_ldI lin_X7_isOne n_X7_isOne_4 rfl) <|
  Eq.trans (e_aldI lin_X7_isOne n_X7_isOne_5 (s_578 hS) h1 h2 (by decide) (v := fi 578 x1) rfl) <|
  Eq.trans (e_ldA lin_X7_isOne n_X7_isOne_6 rfl) <|
  Eq.trans (e_getR lin_X7_isOne n_X7_isOne_7 (s_574 hS) rfl (j := 15) rfl (rr_574_15 hS)) <|
  Eq.trans (e_ldI lin_X7_isOne n_X7_isOne_10 rfl) <|
  Eq.trans (e_aldI lin_X7_isOne n_X7_isOne_11 (s_578 hS) h3 h4 (by decide) (v := fi 578 x2) rfl) <|
  Eq.trans (e_IcEqF lin_X7_isOne n_X7_isOne_12 h5 h6 h7) <|
  Eq.trans (e_ldA lin_X7_isOne n_X7_isOne_30 rfl) <|
  Eq.trans (e_getR lin_X7_isOne n_X7_isOne_31 (s_574 hS) rfl (j := 15) rfl (rr_574_15 hS)) <|
  Eq.trans (e_ldI lin_X7_isOne n_X7_isOne_34 rfl) <|
  Eq.trans (e_aldI lin_X7_isOne n_X7_isOne_35 (s_578 hS) h1 h2 (by decide) (v := fi 578 x1) rfl) <|
  Eq.trans (e_ldA lin_X7_isOne n_X7_isOne_36 rfl) <|
  Eq.trans (e_getR lin_X7_isOne n_X7_isOne_37 (s_574 hS) rfl (j := 16) rfl (rr_574_16 hS)) <|
  Eq.trans (e_ldI lin_X7_isOne n_X7_isOne_40 rfl) <|
  Eq.trans (e_aldI lin_X7_isOne n_X7_isOne_41 (s_579 hS) h3 h4 (by decide) (v := fi 579 x2) rfl) <|
  Eq.trans (e_IcEqT lin_X7_isOne n_X7_isOne_42 h5 h8 h9) <|
  Eq.trans (e_ldA lin_X7_isOne n_X7_isOne_45 rfl) <|
  Eq.trans (e_getR lin_X7_isOne n_X7_isOne_46 (s_574 hS) rfl (j := 16) rfl (rr_574_16 hS)) <|
  Eq.trans (e_ldI lin_X7_isOne n_X7_isOne_49 rfl) <|
  Eq.trans (e_aldI lin_X7_isOne n_X7_isOne_50 (s_579 hS) h1 h2 (by decide) (v := fi 579 x1) rfl) <|
  Eq.trans (e_ldA lin_X7_isOne n_X7_isOne_51 rfl) <|
  Eq.trans (e_getR lin_X7_isOne n_X7_isOne_52 (s_574 hS) rfl (j := 15) rfl (rr_574_15 hS)) <|
  Eq.trans (e_ldI lin_X7_isOne n_X7_isOne_55 rfl) <|
  Eq.trans (e_aldI lin_X7_isOne n_X7_isOne_56 (s_578 hS) h3 h4 (by decide) (v := fi 578 x2) rfl) <|
  Eq.trans (e_IcEqF lin_X7_isOne n_X7_isOne_57 h10 h6 h11) <|
  Eq.trans (e_KI lin_X7_isOne n_X7_isOne_64 k_0) <|
  e_retZ lin_X7_isOne n_X7_isOne_65 (by decide)
theorem c_X7_isOne_FF {fi fl : HI} {cr : HR} {sh : HS} {nx sl d : Nat} {x1 x2 : Int} (hS : Stat cr sh) (h1 : 0 ≤ x1 := by omega) (h2 : x1 < 600 := by omega) (h3 : 0 ≤ x2 := by omega) (h4 : x2 < 600 := by omega) (h5 : -2147483648 ≤ fi 578 x1 ∧ fi 578 x1 < 2147483648 := by omega) (h6 : -2147483648 ≤ fi 578 x2 ∧ fi 578 x2 < 2147483648 := by omega) (h7 : fi 578 x1 ≠ fi 578 x2 := by omega) (h8 : -2147483648 ≤ fi 579 x2 ∧ fi 579 x2 < 2147483648 := by omega) (h9 : fi 578 x1 ≠ fi 579 x2 := by omega) :
  CD mt (d + 1) 242 [.ref 574, iv x1, iv x2] (G fi fl cr sh nx sl) = some (.returned (some (iv 0)), (G fi fl cr sh nx sl)) :=
  Eq.trans (CD_at (ls := [.ref 574, iv x1, iv x2]) _ _ mt_X7_isOne rfl rfl) <|
  Eq.trans (e_ldA lin_X7_isOne n_X7_isOne_0 rfl) <|
  Eq.trans (e_getR lin_X7_isOne n_X7_isOne_1 (s_574 hS) rfl (j := 15) rfl (rr_574_15 hS)) <|
  Eq.trans (e_ldI lin_X7_isOne n_X7_isOne_4 rfl) <|
  Eq.trans (e_aldI lin_X7_isOne n_X7_isOne_5 (s_578 hS) h1 h2 (by decide) (v := fi 578 x1) rfl) <|
  Eq.trans (e_ldA lin_X7_isOne n_X7_isOne_6 rfl) <|
  Eq.trans (e_getR lin_X7_isOne n_X7_isOne_7 (s_574 hS) rfl (j := 15) rfl (rr_574_15 hS)) <|
  Eq.trans (e_ldI lin_X7_isOne n_X7_isOne_10 rfl) <|
  Eq.trans (e_aldI lin_X7_isOne n_X7_isOne_11 (s_578 hS) h3 h4 (by decide) (v := fi 578 x2) rfl) <|
  Eq.trans (e_IcEqF lin_X7_isOne n_X7_isOne_12 h5 h6 h7) <|
  Eq.trans (e_ldA lin_X7_isOne n_X7_isOne_30 rfl) <|
  Eq.trans (e_getR lin_X7_isOne n_X7_isOne_31 (s_574 hS) rfl (j := 15) rfl (rr_574_15 hS)) <|
  Eq.trans (e_ldI lin_X7_isOne n_X7_isOne_34 rfl) <|
  Eq.trans (e_aldI lin_X7_isOne n_X7_isOne_35 (s_578 hS) h1 h2 (by decide) (v := fi 578 x1) rfl) <|
  Eq.trans (e_ldA lin_X7_isOne n_X7_isOne_36 rfl) <|
  Eq.trans (e_getR lin_X7_isOne n_X7_isOne_37 (s_574 hS) rfl (j := 16) rfl (rr_574_16 hS)) <|
  Eq.trans (e_ldI lin_X7_isOne n_X7_isOne_40 rfl) <|
  Eq.trans (e_aldI lin_X7_isOne n_X7_isOne_41 (s_579 hS) h3 h4 (by decide) (v := fi 579 x2) rfl) <|
  Eq.trans (e_IcEqF lin_X7_isOne n_X7_isOne_42 h5 h8 h9) <|
  Eq.trans (e_KI lin_X7_isOne n_X7_isOne_64 k_0) <|
  e_retZ lin_X7_isOne n_X7_isOne_65 (by decide)
theorem c_X7_fridayAt_T {fi fl : HI} {cr : HR} {sh : HS} {nx sl d : Nat} {x1 : Int} (hS : Stat cr sh) (h1 : -2147483648 ≤ x1 ∧ x1 < 2147483648 := by omega) (h2 : -2147483648 ≤ fi 574 90 - 1 ∧ fi 574 90 - 1 < 2147483648 := by omega) (h3 : 0 ≤ x1 ∧ x1 ≤ fi 574 90 - 1 := by omega) (h4 : 0 ≤ x1 := by omega) (h5 : x1 < 6 := by omega) :
  CD mt (d + 2) 246 [.ref 574, iv x1] (G fi fl cr sh nx sl) = some (.returned (some (iv (fi 632 x1))), (G (up fi 574 0 0) fl cr sh nx sl)) :=
  Eq.trans (CD_at (ls := [.ref 574, iv x1]) _ _ mt_X7_fridayAt rfl rfl) <|
  Eq.trans (e_ldA lin_X7_fridayAt n_X7_fridayAt_0 rfl) <|
  Eq.trans (e_KI lin_X7_fridayAt n_X7_fridayAt_1 k_0) <|
  Eq.trans (e_putI lin_X7_fridayAt n_X7_fridayAt_2 rfl (s_574 hS) rfl (j := 0) rfl) <|
  Eq.trans (e_ldI lin_X7_fridayAt n_X7_fridayAt_5 rfl) <|
  Eq.trans (e_KI lin_X7_fridayAt n_X7_fridayAt_6 k_0) <|
  Eq.trans (e_ldA lin_X7_fridayAt n_X7_fridayAt_7 rfl) <|
  Eq.trans (e_getI lin_X7_fridayAt n_X7_fridayAt_8 (s_574 hS) rfl (j := 90) rfl (v := fi 574 90) rfl) <|
  Eq.trans (e_KI lin_X7_fridayAt n_X7_fridayAt_11 k_1) <|
  Eq.trans (e_sub lin_X7_fridayAt n_X7_fridayAt_12 (z := fi 574 90 - 1) rfl) <|
  Eq.trans (e_calS lin_X7_fridayAt n_X7_fridayAt_13 rfl rfl (b_X7_isIn_T h1 (by decide) h2 h3)) <|
  Eq.trans (e_IfEqF lin_X7_fridayAt n_X7_fridayAt_16 (by decide) (by decide)) <|
  Eq.trans (e_ldA lin_X7_fridayAt n_X7_fridayAt_19 rfl) <|
  Eq.trans (e_getR lin_X7_fridayAt n_X7_fridayAt_20 (s_574 hS) rfl (j := 89) rfl (rr_574_89 hS)) <|
  Eq.trans (e_ldI lin_X7_fridayAt n_X7_fridayAt_23 rfl) <|
  Eq.trans (e_aldI lin_X7_fridayAt n_X7_fridayAt_24 (s_632 hS) h4 h5 (by decide) (v := fi 632 x1) rfl) <|
  Eq.trans (e_goto lin_X7_fridayAt n_X7_fridayAt_25) <|
  e_retI lin_X7_fridayAt n_X7_fridayAt_29
theorem c_X7_fridayAt_F {fi fl : HI} {cr : HR} {sh : HS} {nx sl d : Nat} {x1 : Int} (hS : Stat cr sh) (h1 : -2147483648 ≤ x1 ∧ x1 < 2147483648 := by omega) (h2 : -2147483648 ≤ fi 574 90 - 1 ∧ fi 574 90 - 1 < 2147483648 := by omega) (h3 : ¬ (0 ≤ x1 ∧ x1 ≤ fi 574 90 - 1) := by omega) :
  CD mt (d + 2) 246 [.ref 574, iv x1] (G fi fl cr sh nx sl) = some (.returned (some (iv (-1))), (G (up fi 574 0 0) fl cr sh nx sl)) :=
  Eq.trans (CD_at (ls := [.ref 574, iv x1]) _ _ mt_X7_fridayAt rfl rfl) <|
  Eq.trans (e_ldA lin_X7_fridayAt n_X7_fridayAt_0 rfl) <|
  Eq.trans (e_KI lin_X7_fridayAt n_X7_fridayAt_1 k_0) <|
  Eq.trans (e_putI lin_X7_fridayAt n_X7_fridayAt_2 rfl (s_574 hS) rfl (j := 0) rfl) <|
  Eq.trans (e_ldI lin_X7_fridayAt n_X7_fridayAt_5 rfl) <|
  Eq.trans (e_KI lin_X7_fridayAt n_X7_fridayAt_6 k_0) <|
  Eq.trans (e_ldA lin_X7_fridayAt n_X7_fridayAt_7 rfl) <|
  Eq.trans (e_getI lin_X7_fridayAt n_X7_fridayAt_8 (s_574 hS) rfl (j := 90) rfl (v := fi 574 90) rfl) <|
  Eq.trans (e_KI lin_X7_fridayAt n_X7_fridayAt_11 k_1) <|
  Eq.trans (e_sub lin_X7_fridayAt n_X7_fridayAt_12 (z := fi 574 90 - 1) rfl) <|
  Eq.trans (e_calS lin_X7_fridayAt n_X7_fridayAt_13 rfl rfl (b_X7_isIn_F h1 (by decide) h2 h3)) <|
  Eq.trans (e_IfEqT lin_X7_fridayAt n_X7_fridayAt_16 (by decide) (by decide)) <|
  Eq.trans (e_KI lin_X7_fridayAt n_X7_fridayAt_28 k_m1) <|
  e_retI lin_X7_fridayAt n_X7_fridayAt_29
theorem c_X7_column_TTT {fi fl : HI} {cr : HR} {sh : HS} {nx sl d : Nat} {x1 x2 x3 : Int} (hS : Stat cr sh) (h1 : -2147483648 ≤ x1 ∧ x1 < 2147483648 := by omega) (h2 : 0 ≤ x1 ∧ x1 ≤ 7 := by omega) (h3 : -2147483648 ≤ x3 ∧ x3 < 2147483648 := by omega) (h4 : 1 ≤ x3 ∧ x3 ≤ 20 := by omega) (h5 : -2147483648 ≤ x2 ∧ x2 < 2147483648 := by omega) (h6 : x2 < 0 := by omega) :
  CD mt (d + 3) 157 [.ref 574, iv x1, iv x2, iv x3] (G fi fl cr sh nx sl) = some (.returned (some (iv 0)), (G (up fi 574 0 1) fl cr sh nx sl)) :=
  Eq.trans (CD_at (ls := [.ref 574, iv x1, iv x2, iv x3]) _ _ mt_X7_column rfl rfl) <|
  Eq.trans (e_ldA lin_X7_column n_X7_column_0 rfl) <|
  Eq.trans (e_ldI lin_X7_column n_X7_column_1 rfl) <|
  Eq.trans (e_calS lin_X7_column n_X7_column_2 rfl rfl (b_X7_isBox_T h1 h2)) <|
  Eq.trans (e_IfEqF lin_X7_column n_X7_column_5 (by decide) (by decide)) <|
  Eq.trans (e_ldI lin_X7_column n_X7_column_8 rfl) <|
  Eq.trans (e_KI lin_X7_column n_X7_column_9 k_1) <|
  Eq.trans (e_KI lin_X7_column n_X7_column_10 k_20) <|
  Eq.trans (e_calS lin_X7_column n_X7_column_12 rfl rfl (b_X7_isIn_T h3 (by decide) (by decide) h4)) <|
  Eq.trans (e_IfEqF lin_X7_column n_X7_column_15 (by decide) (by decide)) <|
  Eq.trans (e_ldI lin_X7_column n_X7_column_18 rfl) <|
  Eq.trans (e_IfLtT lin_X7_column n_X7_column_19 h5 h6) <|
  Eq.trans (e_KI lin_X7_column n_X7_column_43 k_1) <|
  Eq.trans (e_goto lin_X7_column n_X7_column_44) <|
  Eq.trans (e_calV lin_X7_column n_X7_column_48 rfl (s_574 hS) rfl rfl (v := iv 1) (g' := (G (up fi 574 0 1) fl cr sh nx sl)) (c_X7_throwsIf_F hS (by decide) (by decide) (by decide))) <|
  Eq.trans (e_IfEqF lin_X7_column n_X7_column_51 (by decide) (by decide)) <|
  Eq.trans (e_KI lin_X7_column n_X7_column_54 k_0) <|
  e_retI lin_X7_column n_X7_column_55
theorem c_X7_column_TTFTT {fi fl : HI} {cr : HR} {sh : HS} {nx sl d : Nat} {x1 x2 x3 : Int} (hS : Stat cr sh) (h1 : -2147483648 ≤ x1 ∧ x1 < 2147483648 := by omega) (h2 : 0 ≤ x1 ∧ x1 ≤ 7 := by omega) (h3 : -2147483648 ≤ x3 ∧ x3 < 2147483648 := by omega) (h4 : 1 ≤ x3 ∧ x3 ≤ 20 := by omega) (h5 : -2147483648 ≤ x2 ∧ x2 < 2147483648 := by omega) (h6 : 0 ≤ x2 := by omega) (h7 : 0 ≤ x1 := by omega) (h8 : x1 < 8 := by omega) (h9 : -2147483648 ≤ fi 577 x1 ∧ fi 577 x1 < 2147483648 := by omega) (h10 : x2 < fi 577 x1 := by omega) (h11 : 0 ≤ 20 * (40 * x1 + x2) + x3 - 1 := by omega) (h12 : 20 * (40 * x1 + x2) + x3 - 1 < 6400 := by omega) :
  CD mt (d + 3) 157 [.ref 574, iv x1, iv x2, iv x3] (G fi fl cr sh nx sl) = some (.returned (some (iv (fi 576 (20 * (40 * x1 + x2) + x3 - 1)))), (G (up fi 574 0 0) fl cr sh nx sl)) :=
  Eq.trans (CD_at (ls := [.ref 574, iv x1, iv x2, iv x3]) _ _ mt_X7_column rfl rfl) <|
  Eq.trans (e_ldA lin_X7_column n_X7_column_0 rfl) <|
  Eq.trans (e_ldI lin_X7_column n_X7_column_1 rfl) <|
  Eq.trans (e_calS lin_X7_column n_X7_column_2 rfl rfl (b_X7_isBox_T h1 h2)) <|
  Eq.trans (e_IfEqF lin_X7_column n_X7_column_5 (by decide) (by decide)) <|
  Eq.trans (e_ldI lin_X7_column n_X7_column_8 rfl) <|
  Eq.trans (e_KI lin_X7_column n_X7_column_9 k_1) <|
  Eq.trans (e_KI lin_X7_column n_X7_column_10 k_20) <|
  Eq.trans (e_calS lin_X7_column n_X7_column_12 rfl rfl (b_X7_isIn_T h3 (by decide) (by decide) h4)) <|
  Eq.trans (e_IfEqF lin_X7_column n_X7_column_15 (by decide) (by decide)) <|
  Eq.trans (e_ldI lin_X7_column n_X7_column_18 rfl) <|
  Eq.trans (e_IfLtF lin_X7_column n_X7_column_19 h5 h6) <|
  Eq.trans (e_ldI lin_X7_column n_X7_column_22 rfl) <|
  Eq.trans (e_ldA lin_X7_column n_X7_column_23 rfl) <|
  Eq.trans (e_getR lin_X7_column n_X7_column_24 (s_574 hS) rfl (j := 6) rfl (rr_574_6 hS)) <|
  Eq.trans (e_ldI lin_X7_column n_X7_column_27 rfl) <|
  Eq.trans (e_calS lin_X7_column n_X7_column_28 rfl rfl (b_X7_isBox_T h1 h2)) <|
  Eq.trans (e_IfEqF lin_X7_column n_X7_column_31 (by decide) (by decide)) <|
  Eq.trans (e_ldI lin_X7_column n_X7_column_34 rfl) <|
  Eq.trans (e_goto lin_X7_column n_X7_column_35) <|
  Eq.trans (e_aldI lin_X7_column n_X7_column_39 (s_577 hS) h7 h8 (by decide) (v := fi 577 x1) rfl) <|
  Eq.trans (e_IcLtT lin_X7_column n_X7_column_40 h5 h9 h10) <|
  Eq.trans (e_KI lin_X7_column n_X7_column_47 k_0) <|
  Eq.trans (e_calV lin_X7_column n_X7_column_48 rfl (s_574 hS) rfl rfl (v := iv 0) (g' := (G (up fi 574 0 0) fl cr sh nx sl)) (c_X7_throwsIf_T hS (by decide) (by decide) (by decide))) <|
  Eq.trans (e_IfEqT lin_X7_column n_X7_column_51 (by decide) (by decide)) <|
  Eq.trans (e_ldA lin_X7_column n_X7_column_56 rfl) <|
  Eq.trans (e_getR lin_X7_column n_X7_column_57 (s_574 hS) rfl (j := 5) rfl (rr_574_5 hS)) <|
  Eq.trans (e_KI lin_X7_column n_X7_column_60 k_20) <|
  Eq.trans (e_KI lin_X7_column n_X7_column_62 k_40) <|
  Eq.trans (e_ldI lin_X7_column n_X7_column_64 rfl) <|
  Eq.trans (e_mul lin_X7_column n_X7_column_65 (z := 40 * x1) rfl) <|
  Eq.trans (e_ldI lin_X7_column n_X7_column_66 rfl) <|
  Eq.trans (e_add lin_X7_column n_X7_column_67 (z := 40 * x1 + x2) rfl) <|
  Eq.trans (e_mul lin_X7_column n_X7_column_68 (z := 20 * (40 * x1 + x2)) rfl) <|
  Eq.trans (e_ldI lin_X7_column n_X7_column_69 rfl) <|
  Eq.trans (e_add lin_X7_column n_X7_column_70 (z := 20 * (40 * x1 + x2) + x3) rfl) <|
  Eq.trans (e_KI lin_X7_column n_X7_column_71 k_1) <|
  Eq.trans (e_sub lin_X7_column n_X7_column_72 (z := 20 * (40 * x1 + x2) + x3 - 1) rfl) <|
  Eq.trans (e_aldI lin_X7_column n_X7_column_73 (s_576 hS) h11 h12 (by decide) (v := fi 576 (20 * (40 * x1 + x2) + x3 - 1)) rfl) <|
  e_retI lin_X7_column n_X7_column_74
theorem c_X7_column_TTFTF {fi fl : HI} {cr : HR} {sh : HS} {nx sl d : Nat} {x1 x2 x3 : Int} (hS : Stat cr sh) (h1 : -2147483648 ≤ x1 ∧ x1 < 2147483648 := by omega) (h2 : 0 ≤ x1 ∧ x1 ≤ 7 := by omega) (h3 : -2147483648 ≤ x3 ∧ x3 < 2147483648 := by omega) (h4 : 1 ≤ x3 ∧ x3 ≤ 20 := by omega) (h5 : -2147483648 ≤ x2 ∧ x2 < 2147483648 := by omega) (h6 : 0 ≤ x2 := by omega) (h7 : 0 ≤ x1 := by omega) (h8 : x1 < 8 := by omega) (h9 : -2147483648 ≤ fi 577 x1 ∧ fi 577 x1 < 2147483648 := by omega) (h10 : fi 577 x1 ≤ x2 := by omega) :
  CD mt (d + 3) 157 [.ref 574, iv x1, iv x2, iv x3] (G fi fl cr sh nx sl) = some (.returned (some (iv 0)), (G (up fi 574 0 1) fl cr sh nx sl)) :=
  Eq.trans (CD_at (ls := [.ref 574, iv x1, iv x2, iv x3]) _ _ mt_X7_column rfl rfl) <|
  Eq.trans (e_ldA lin_X7_column n_X7_column_0 rfl) <|
  Eq.trans (e_ldI lin_X7_column n_X7_column_1 rfl) <|
  Eq.trans (e_calS lin_X7_column n_X7_column_2 rfl rfl (b_X7_isBox_T h1 h2)) <|
  Eq.trans (e_IfEqF lin_X7_column n_X7_column_5 (by decide) (by decide)) <|
  Eq.trans (e_ldI lin_X7_column n_X7_column_8 rfl) <|
  Eq.trans (e_KI lin_X7_column n_X7_column_9 k_1) <|
  Eq.trans (e_KI lin_X7_column n_X7_column_10 k_20) <|
  Eq.trans (e_calS lin_X7_column n_X7_column_12 rfl rfl (b_X7_isIn_T h3 (by decide) (by decide) h4)) <|
  Eq.trans (e_IfEqF lin_X7_column n_X7_column_15 (by decide) (by decide)) <|
  Eq.trans (e_ldI lin_X7_column n_X7_column_18 rfl) <|
  Eq.trans (e_IfLtF lin_X7_column n_X7_column_19 h5 h6) <|
  Eq.trans (e_ldI lin_X7_column n_X7_column_22 rfl) <|
  Eq.trans (e_ldA lin_X7_column n_X7_column_23 rfl) <|
  Eq.trans (e_getR lin_X7_column n_X7_column_24 (s_574 hS) rfl (j := 6) rfl (rr_574_6 hS)) <|
  Eq.trans (e_ldI lin_X7_column n_X7_column_27 rfl) <|
  Eq.trans (e_calS lin_X7_column n_X7_column_28 rfl rfl (b_X7_isBox_T h1 h2)) <|
  Eq.trans (e_IfEqF lin_X7_column n_X7_column_31 (by decide) (by decide)) <|
  Eq.trans (e_ldI lin_X7_column n_X7_column_34 rfl) <|
  Eq.trans (e_goto lin_X7_column n_X7_column_35) <|
  Eq.trans (e_aldI lin_X7_column n_X7_column_39 (s_577 hS) h7 h8 (by decide) (v := fi 577 x1) rfl) <|
  Eq.trans (e_IcLtF lin_X7_column n_X7_column_40 h5 h9 h10) <|
  Eq.trans (e_KI lin_X7_column n_X7_column_43 k_1) <|
  Eq.trans (e_goto lin_X7_column n_X7_column_44) <|
  Eq.trans (e_calV lin_X7_column n_X7_column_48 rfl (s_574 hS) rfl rfl (v := iv 1) (g' := (G (up fi 574 0 1) fl cr sh nx sl)) (c_X7_throwsIf_F hS (by decide) (by decide) (by decide))) <|
  Eq.trans (e_IfEqF lin_X7_column n_X7_column_51 (by decide) (by decide)) <|
  Eq.trans (e_KI lin_X7_column n_X7_column_54 k_0) <|
  e_retI lin_X7_column n_X7_column_55
theorem c_X7_column_TTFFT {fi fl : HI} {cr : HR} {sh : HS} {nx sl d : Nat} {x1 x2 x3 : Int} (hS : Stat cr sh) (h1 : -2147483648 ≤ x1 ∧ x1 < 2147483648 := by omega) (h2 : 0 ≤ x1 ∧ x1 ≤ 7 := by omega) (h3 : -2147483648 ≤ x3 ∧ x3 < 2147483648 := by omega) (h4 : 1 ≤ x3 ∧ x3 ≤ 20 := by omega) (h5 : -2147483648 ≤ x2 ∧ x2 < 2147483648 := by omega) (h6 : 0 ≤ x2 := by omega) (h7 : ¬ (0 ≤ x1 ∧ x1 ≤ 7) := by omega) (h8 : -2147483648 ≤ fi 577 0 ∧ fi 577 0 < 2147483648 := by omega) (h9 : x2 < fi 577 0 := by omega) (h10 : 0 ≤ 20 * (40 * x1 + x2) + x3 - 1 := by omega) (h11 : 20 * (40 * x1 + x2) + x3 - 1 < 6400 := by omega) :
  CD mt (d + 3) 157 [.ref 574, iv x1, iv x2, iv x3] (G fi fl cr sh nx sl) = some (.returned (some (iv (fi 576 (20 * (40 * x1 + x2) + x3 - 1)))), (G (up fi 574 0 0) fl cr sh nx sl)) :=
  Eq.trans (CD_at (ls := [.ref 574, iv x1, iv x2, iv x3]) _ _ mt_X7_column rfl rfl) <|
  Eq.trans (e_ldA lin_X7_column n_X7_column_0 rfl) <|
  Eq.trans (e_ldI lin_X7_column n_X7_column_1 rfl) <|
  Eq.trans (e_calS lin_X7_column n_X7_column_2 rfl rfl (b_X7_isBox_T h1 h2)) <|
  Eq.trans (e_IfEqF lin_X7_column n_X7_column_5 (by decide) (by decide)) <|
  Eq.trans (e_ldI lin_X7_column n_X7_column_8 rfl) <|
  Eq.trans (e_KI lin_X7_column n_X7_column_9 k_1) <|
  Eq.trans (e_KI lin_X7_column n_X7_column_10 k_20) <|
  Eq.trans (e_calS lin_X7_column n_X7_column_12 rfl rfl (b_X7_isIn_T h3 (by decide) (by decide) h4)) <|
  Eq.trans (e_IfEqF lin_X7_column n_X7_column_15 (by decide) (by decide)) <|
  Eq.trans (e_ldI lin_X7_column n_X7_column_18 rfl) <|
  Eq.trans (e_IfLtF lin_X7_column n_X7_column_19 h5 h6) <|
  Eq.trans (e_ldI lin_X7_column n_X7_column_22 rfl) <|
  Eq.trans (e_ldA lin_X7_column n_X7_column_23 rfl) <|
  Eq.trans (e_getR lin_X7_column n_X7_column_24 (s_574 hS) rfl (j := 6) rfl (rr_574_6 hS)) <|
  Eq.trans (e_ldI lin_X7_column n_X7_column_27 rfl) <|
  Eq.trans (e_calS lin_X7_column n_X7_column_28 rfl rfl (b_X7_isBox_F h1 h7)) <|
  Eq.trans (e_IfEqT lin_X7_column n_X7_column_31 (by decide) (by decide)) <|
  Eq.trans (e_KI lin_X7_column n_X7_column_38 k_0) <|
  Eq.trans (e_aldI lin_X7_column n_X7_column_39 (s_577 hS) (by decide) (by decide) (by decide) (v := fi 577 0) rfl) <|
  Eq.trans (e_IcLtT lin_X7_column n_X7_column_40 h5 h8 h9) <|
  Eq.trans (e_KI lin_X7_column n_X7_column_47 k_0) <|
  Eq.trans (e_calV lin_X7_column n_X7_column_48 rfl (s_574 hS) rfl rfl (v := iv 0) (g' := (G (up fi 574 0 0) fl cr sh nx sl)) (c_X7_throwsIf_T hS (by decide) (by decide) (by decide))) <|
  Eq.trans (e_IfEqT lin_X7_column n_X7_column_51 (by decide) (by decide)) <|
  Eq.trans (e_ldA lin_X7_column n_X7_column_56 rfl) <|
  Eq.trans (e_getR lin_X7_column n_X7_column_57 (s_574 hS) rfl (j := 5) rfl (rr_574_5 hS)) <|
  Eq.trans (e_KI lin_X7_column n_X7_column_60 k_20) <|
  Eq.trans (e_KI lin_X7_column n_X7_column_62 k_40) <|
  Eq.trans (e_ldI lin_X7_column n_X7_column_64 rfl) <|
  Eq.trans (e_mul lin_X7_column n_X7_column_65 (z := 40 * x1) rfl) <|
  Eq.trans (e_ldI lin_X7_column n_X7_column_66 rfl) <|
  Eq.trans (e_add lin_X7_column n_X7_column_67 (z := 40 * x1 + x2) rfl) <|
  Eq.trans (e_mul lin_X7_column n_X7_column_68 (z := 20 * (40 * x1 + x2)) rfl) <|
  Eq.trans (e_ldI lin_X7_column n_X7_column_69 rfl) <|
  Eq.trans (e_add lin_X7_column n_X7_column_70 (z := 20 * (40 * x1 + x2) + x3) rfl) <|
  Eq.trans (e_KI lin_X7_column n_X7_column_71 k_1) <|
  Eq.trans (e_sub lin_X7_column n_X7_column_72 (z := 20 * (40 * x1 + x2) + x3 - 1) rfl) <|
  Eq.trans (e_aldI lin_X7_column n_X7_column_73 (s_576 hS) h10 h11 (by decide) (v := fi 576 (20 * (40 * x1 + x2) + x3 - 1)) rfl) <|
  e_retI lin_X7_column n_X7_column_74
theorem c_X7_column_TTFFF {fi fl : HI} {cr : HR} {sh : HS} {nx sl d : Nat} {x1 x2 x3 : Int} (hS : Stat cr sh) (h1 : -2147483648 ≤ x1 ∧ x1 < 2147483648 := by omega) (h2 : 0 ≤ x1 ∧ x1 ≤ 7 := by omega) (h3 : -2147483648 ≤ x3 ∧ x3 < 2147483648 := by omega) (h4 : 1 ≤ x3 ∧ x3 ≤ 20 := by omega) (h5 : -2147483648 ≤ x2 ∧ x2 < 2147483648 := by omega) (h6 : 0 ≤ x2 := by omega) (h7 : ¬ (0 ≤ x1 ∧ x1 ≤ 7) := by omega) (h8 : -2147483648 ≤ fi 577 0 ∧ fi 577 0 < 2147483648 := by omega) (h9 : fi 577 0 ≤ x2 := by omega) :
  CD mt (d + 3) 157 [.ref 574, iv x1, iv x2, iv x3] (G fi fl cr sh nx sl) = some (.returned (some (iv 0)), (G (up fi 574 0 1) fl cr sh nx sl)) :=
  Eq.trans (CD_at (ls := [.ref 574, iv x1, iv x2, iv x3]) _ _ mt_X7_column rfl rfl) <|
  Eq.trans (e_ldA lin_X7_column n_X7_column_0 rfl) <|
  Eq.trans (e_ldI lin_X7_column n_X7_column_1 rfl) <|
  Eq.trans (e_calS lin_X7_column n_X7_column_2 rfl rfl (b_X7_isBox_T h1 h2)) <|
  Eq.trans (e_IfEqF lin_X7_column n_X7_column_5 (by decide) (by decide)) <|
  Eq.trans (e_ldI lin_X7_column n_X7_column_8 rfl) <|
  Eq.trans (e_KI lin_X7_column n_X7_column_9 k_1) <|
  Eq.trans (e_KI lin_X7_column n_X7_column_10 k_20) <|
  Eq.trans (e_calS lin_X7_column n_X7_column_12 rfl rfl (b_X7_isIn_T h3 (by decide) (by decide) h4)) <|
  Eq.trans (e_IfEqF lin_X7_column n_X7_column_15 (by decide) (by decide)) <|
  Eq.trans (e_ldI lin_X7_column n_X7_column_18 rfl) <|
  Eq.trans (e_IfLtF lin_X7_column n_X7_column_19 h5 h6) <|
  Eq.trans (e_ldI lin_X7_column n_X7_column_22 rfl) <|
  Eq.trans (e_ldA lin_X7_column n_X7_column_23 rfl) <|
  Eq.trans (e_getR lin_X7_column n_X7_column_24 (s_574 hS) rfl (j := 6) rfl (rr_574_6 hS)) <|
  Eq.trans (e_ldI lin_X7_column n_X7_column_27 rfl) <|
  Eq.trans (e_calS lin_X7_column n_X7_column_28 rfl rfl (b_X7_isBox_F h1 h7)) <|
  Eq.trans (e_IfEqT lin_X7_column n_X7_column_31 (by decide) (by decide)) <|
  Eq.trans (e_KI lin_X7_column n_X7_column_38 k_0) <|
  Eq.trans (e_aldI lin_X7_column n_X7_column_39 (s_577 hS) (by decide) (by decide) (by decide) (v := fi 577 0) rfl) <|
  Eq.trans (e_IcLtF lin_X7_column n_X7_column_40 h5 h8 h9) <|
  Eq.trans (e_KI lin_X7_column n_X7_column_43 k_1) <|
  Eq.trans (e_goto lin_X7_column n_X7_column_44) <|
  Eq.trans (e_calV lin_X7_column n_X7_column_48 rfl (s_574 hS) rfl rfl (v := iv 1) (g' := (G (up fi 574 0 1) fl cr sh nx sl)) (c_X7_throwsIf_F hS (by decide) (by decide) (by decide))) <|
  Eq.trans (e_IfEqF lin_X7_column n_X7_column_51 (by decide) (by decide)) <|
  Eq.trans (e_KI lin_X7_column n_X7_column_54 k_0) <|
  e_retI lin_X7_column n_X7_column_55
theorem c_X7_column_TF {fi fl : HI} {cr : HR} {sh : HS} {nx sl d : Nat} {x1 x2 x3 : Int} (hS : Stat cr sh) (h1 : -2147483648 ≤ x1 ∧ x1 < 2147483648 := by omega) (h2 : 0 ≤ x1 ∧ x1 ≤ 7 := by omega) (h3 : -2147483648 ≤ x3 ∧ x3 < 2147483648 := by omega) (h4 : ¬ (1 ≤ x3 ∧ x3 ≤ 20) := by omega) :
  CD mt (d + 3) 157 [.ref 574, iv x1, iv x2, iv x3] (G fi fl cr sh nx sl) = some (.returned (some (iv 0)), (G (up fi 574 0 1) fl cr sh nx sl)) :=
  Eq.trans (CD_at (ls := [.ref 574, iv x1, iv x2, iv x3]) _ _ mt_X7_column rfl rfl) <|
  Eq.trans (e_ldA lin_X7_column n_X7_column_0 rfl) <|
  Eq.trans (e_ldI lin_X7_column n_X7_column_1 rfl) <|
  Eq.trans (e_calS lin_X7_column n_X7_column_2 rfl rfl (b_X7_isBox_T h1 h2)) <|
  Eq.trans (e_IfEqF lin_X7_column n_X7_column_5 (by decide) (by decide)) <|
  Eq.trans (e_ldI lin_X7_column n_X7_column_8 rfl) <|
  Eq.trans (e_KI lin_X7_column n_X7_column_9 k_1) <|
  Eq.trans (e_KI lin_X7_column n_X7_column_10 k_20) <|
  Eq.trans (e_calS lin_X7_column n_X7_column_12 rfl rfl (b_X7_isIn_F h3 (by decide) (by decide) h4)) <|
  Eq.trans (e_IfEqT lin_X7_column n_X7_column_15 (by decide) (by decide)) <|
  Eq.trans (e_KI lin_X7_column n_X7_column_43 k_1) <|
  Eq.trans (e_goto lin_X7_column n_X7_column_44) <|
  Eq.trans (e_calV lin_X7_column n_X7_column_48 rfl (s_574 hS) rfl rfl (v := iv 1) (g' := (G (up fi 574 0 1) fl cr sh nx sl)) (c_X7_throwsIf_F hS (by decide) (by decide) (by decide))) <|
  Eq.trans (e_IfEqF lin_X7_column n_X7_column_51 (by decide) (by decide)) <|
  Eq.trans (e_KI lin_X7_column n_X7_column_54 k_0) <|
  e_retI lin_X7_column n_X7_column_55
theorem c_X7_column_F {fi fl : HI} {cr : HR} {sh : HS} {nx sl d : Nat} {x1 x2 x3 : Int} (hS : Stat cr sh) (h1 : -2147483648 ≤ x1 ∧ x1 < 2147483648 := by omega) (h2 : ¬ (0 ≤ x1 ∧ x1 ≤ 7) := by omega) :
  CD mt (d + 3) 157 [.ref 574, iv x1, iv x2, iv x3] (G fi fl cr sh nx sl) = some (.returned (some (iv 0)), (G (up fi 574 0 1) fl cr sh nx sl)) :=
  Eq.trans (CD_at (ls := [.ref 574, iv x1, iv x2, iv x3]) _ _ mt_X7_column rfl rfl) <|
  Eq.trans (e_ldA lin_X7_column n_X7_column_0 rfl) <|
  Eq.trans (e_ldI lin_X7_column n_X7_column_1 rfl) <|
  Eq.trans (e_calS lin_X7_column n_X7_column_2 rfl rfl (b_X7_isBox_F h1 h2)) <|
  Eq.trans (e_IfEqT lin_X7_column n_X7_column_5 (by decide) (by decide)) <|
  Eq.trans (e_KI lin_X7_column n_X7_column_43 k_1) <|
  Eq.trans (e_goto lin_X7_column n_X7_column_44) <|
  Eq.trans (e_calV lin_X7_column n_X7_column_48 rfl (s_574 hS) rfl rfl (v := iv 1) (g' := (G (up fi 574 0 1) fl cr sh nx sl)) (c_X7_throwsIf_F hS (by decide) (by decide) (by decide))) <|
  Eq.trans (e_IfEqF lin_X7_column n_X7_column_51 (by decide) (by decide)) <|
  Eq.trans (e_KI lin_X7_column n_X7_column_54 k_0) <|
  e_retI lin_X7_column n_X7_column_55
theorem c_X7_have_T {fi fl : HI} {cr : HR} {sh : HS} {nx sl d : Nat} {x1 : Int} (hS : Stat cr sh) (h1 : 0 ≤ x1 := by omega) (h2 : x1 < 217 := by omega) (h3 : 0 ≤ fi 586 x1 := by omega) (h4 : fi 586 x1 < 217 := by omega) (h5 : -2147483648 ≤ fi 588 (fi 586 x1) ∧ fi 588 (fi 586 x1) < 2147483648 := by omega) (h6 : fi 588 (fi 586 x1) = 0 := by omega) :
  CD mt (d + 2) 183 [.ref 574, iv x1] (G fi fl cr sh nx sl) = some (.returned (some (iv (-1))), (G fi fl cr sh nx sl)) :=
  Eq.trans (CD_at (ls := [.ref 574, iv x1]) _ _ mt_X7_have rfl rfl) <|
  Eq.trans (e_ldA lin_X7_have n_X7_have_0 rfl) <|
  Eq.trans (e_ldA lin_X7_have n_X7_have_1 rfl) <|
  Eq.trans (e_getR lin_X7_have n_X7_have_2 (s_574 hS) rfl (j := 26) rfl (rr_574_26 hS)) <|
  Eq.trans (e_ldI lin_X7_have n_X7_have_5 rfl) <|
  Eq.trans (e_calV lin_X7_have n_X7_have_6 rfl (s_574 hS) rfl rfl (v := iv (-1)) (g' := (G fi fl cr sh nx sl)) (c_X7_take_T hS (s_586 hS) h1 h2 (by decide) h3 h4 h5 h6)) <|
  e_retI lin_X7_have n_X7_have_9
theorem c_X7_have_F {fi fl : HI} {cr : HR} {sh : HS} {nx sl d : Nat} {x1 : Int} (hS : Stat cr sh) (h1 : 0 ≤ x1 := by omega) (h2 : x1 < 217 := by omega) (h3 : 0 ≤ fi 586 x1 := by omega) (h4 : fi 586 x1 < 217 := by omega) (h5 : -2147483648 ≤ fi 588 (fi 586 x1) ∧ fi 588 (fi 586 x1) < 2147483648 := by omega) (h6 : fi 588 (fi 586 x1) ≠ 0 := by omega) (h7 : 0 ≤ fi 587 (fi 586 x1) := by omega) (h8 : fi 587 (fi 586 x1) < 96 := by omega) :
  CD mt (d + 2) 183 [.ref 574, iv x1] (G fi fl cr sh nx sl) = some (.returned (some (iv (fi 584 (fi 587 (fi 586 x1))))), (G fi fl cr sh nx sl)) :=
  Eq.trans (CD_at (ls := [.ref 574, iv x1]) _ _ mt_X7_have rfl rfl) <|
  Eq.trans (e_ldA lin_X7_have n_X7_have_0 rfl) <|
  Eq.trans (e_ldA lin_X7_have n_X7_have_1 rfl) <|
  Eq.trans (e_getR lin_X7_have n_X7_have_2 (s_574 hS) rfl (j := 26) rfl (rr_574_26 hS)) <|
  Eq.trans (e_ldI lin_X7_have n_X7_have_5 rfl) <|
  Eq.trans (e_calV lin_X7_have n_X7_have_6 rfl (s_574 hS) rfl rfl (v := iv (fi 584 (fi 587 (fi 586 x1)))) (g' := (G fi fl cr sh nx sl)) (c_X7_take_F hS (s_586 hS) h1 h2 (by decide) h3 h4 h5 h6 h7 h8)) <|
  e_retI lin_X7_have n_X7_have_9
def hv (g l f c : Int → Int) (h : Int) : Int := if c (l h) = 0 then -1 else g (f (l h))
def HvOk (l f c : Int → Int) : Prop := (∀ h, 0 ≤ h ∧ h < 217 → 0 ≤ l h ∧ l h < 217) ∧ (∀ k, 0 ≤ k ∧ k < 217 → -2147483648 ≤ c k ∧ c k < 2147483648) ∧ ∀ k, 0 ≤ k ∧ k < 217 → c k ≠ 0 → 0 ≤ f k ∧ f k < 96
theorem b_X7_have {fi fl : HI} {cr : HR} {sh : HS} {nx sl d : Nat} {x1 : Int} (hS : Stat cr sh) (h1 : 0 ≤ x1 ∧ x1 < 217) (h2 : HvOk (fi 586) (fi 587) (fi 588)) : CD mt (d + 2) 183 [.ref 574, iv x1] (G fi fl cr sh nx sl) = some (.returned (some (iv (hv (fi 584) (fi 586) (fi 587) (fi 588) x1))), (G fi fl cr sh nx sl)) := by
  have a := h2.1 x1 h1
  have b := h2.2.1 _ a
  unfold hv
  by_cases q : fi 588 (fi 586 x1) = 0
  · rw [if_pos q]; exact c_X7_have_T hS h1.1 h1.2 a.1 a.2 b q
  · rw [if_neg q]; have e := h2.2.2 _ a q; exact c_X7_have_F hS h1.1 h1.2 a.1 a.2 b q e.1 e.2

/-! the instructions by their places (by program) -/
set_option maxRecDepth 100000
theorem n_J0_copyOf_0 : nth t_J0_copyOf 0 = aLdI 1 1 := rfl
theorem n_J0_copyOf_1 : nth t_J0_copyOf 1 = aLdA 0 2 := rfl
theorem n_J0_copyOf_2 : nth t_J0_copyOf 2 = aLen 3 := rfl
theorem n_J0_copyOf_3 : nth t_J0_copyOf 3 = aIcEq 6 14 := rfl
theorem n_J0_copyOf_6 : nth t_J0_copyOf 6 = aLdA 0 7 := rfl
theorem n_J0_copyOf_7 : nth t_J0_copyOf 7 = aClone 10 := rfl
theorem n_J0_copyOf_10 : nth t_J0_copyOf 10 = aCstB 13 := rfl
theorem n_J0_copyOf_13 : nth t_J0_copyOf 13 = aRetA := rfl
theorem n_J0_copyOf_14 : nth t_J0_copyOf 14 = aLdI 1 15 := rfl
theorem n_J0_copyOf_15 : nth t_J0_copyOf 15 = aNewA 101 17 := rfl
theorem n_J0_copyOf_17 : nth t_J0_copyOf 17 = aStA 2 18 := rfl
theorem n_J0_copyOf_18 : nth t_J0_copyOf 18 = aLdA 0 19 := rfl
theorem y_J0_copyOf_1 (n : Nat) : nth t_J0_copyOf (n + 19) = nth t_J0_copyOf_c1 n := rfl
theorem n_J0_copyOf_19 : nth t_J0_copyOf 19 = aK (.int 0) 20 := (y_J0_copyOf_1 0).trans rfl
theorem n_J0_copyOf_20 : nth t_J0_copyOf 20 = aLdA 2 21 := (y_J0_copyOf_1 1).trans rfl
theorem n_J0_copyOf_21 : nth t_J0_copyOf 21 = aK (.int 0) 22 := (y_J0_copyOf_1 2).trans rfl
theorem n_J0_copyOf_22 : nth t_J0_copyOf 22 = aLdA 0 23 := (y_J0_copyOf_1 3).trans rfl
theorem n_J0_copyOf_23 : nth t_J0_copyOf 23 = aLen 24 := (y_J0_copyOf_1 4).trans rfl
theorem n_J0_copyOf_24 : nth t_J0_copyOf 24 = aLdI 1 25 := (y_J0_copyOf_1 5).trans rfl
theorem n_J0_copyOf_25 : nth t_J0_copyOf 25 = aMin 28 := (y_J0_copyOf_1 6).trans rfl
theorem n_J0_copyOf_28 : nth t_J0_copyOf 28 = aCopy 31 := (y_J0_copyOf_1 9).trans rfl
theorem n_J0_copyOf_31 : nth t_J0_copyOf 31 = aLdA 2 32 := (y_J0_copyOf_1 12).trans rfl
theorem n_J0_copyOf_32 : nth t_J0_copyOf 32 = aRetA := (y_J0_copyOf_1 13).trans rfl
theorem n_J0_copyOfRange_0 : nth t_J0_copyOfRange 0 = aLdI 1 1 := rfl
theorem n_J0_copyOfRange_1 : nth t_J0_copyOfRange 1 = aIfEq 4 10 := rfl
theorem n_J0_copyOfRange_4 : nth t_J0_copyOfRange 4 = aLdI 2 5 := rfl
theorem n_J0_copyOfRange_5 : nth t_J0_copyOfRange 5 = aLdA 0 6 := rfl
theorem n_J0_copyOfRange_6 : nth t_J0_copyOfRange 6 = aLen 7 := rfl
theorem n_J0_copyOfRange_7 : nth t_J0_copyOfRange 7 = aIcEq 17 10 := rfl
theorem n_J0_copyOfRange_10 : nth t_J0_copyOfRange 10 = aLdA 0 11 := rfl
theorem n_J0_copyOfRange_11 : nth t_J0_copyOfRange 11 = aLdI 1 12 := rfl
theorem n_J0_copyOfRange_12 : nth t_J0_copyOfRange 12 = aLdI 2 13 := rfl
theorem n_J0_copyOfRange_13 : nth t_J0_copyOfRange 13 = aCalS 2 3 16 none := rfl
theorem n_J0_copyOfRange_16 : nth t_J0_copyOfRange 16 = aRetA := rfl
theorem n_J0_copyOfRange_17 : nth t_J0_copyOfRange 17 = aLdA 0 18 := rfl
theorem y_J0_copyOfRange_1 (n : Nat) : nth t_J0_copyOfRange (n + 18) = nth t_J0_copyOfRange_c1 n := rfl
theorem n_J0_copyOfRange_18 : nth t_J0_copyOfRange 18 = aClone 21 := (y_J0_copyOfRange_1 0).trans rfl
theorem n_J0_copyOfRange_21 : nth t_J0_copyOfRange 21 = aCstB 24 := (y_J0_copyOfRange_1 3).trans rfl
theorem n_J0_copyOfRange_24 : nth t_J0_copyOfRange 24 = aRetA := (y_J0_copyOfRange_1 6).trans rfl
theorem n_J0_copyOfRangeByte_0 : nth t_J0_copyOfRangeByte 0 = aLdI 1 1 := rfl
theorem n_J0_copyOfRangeByte_1 : nth t_J0_copyOfRangeByte 1 = aLdI 2 2 := rfl
theorem n_J0_copyOfRangeByte_2 : nth t_J0_copyOfRangeByte 2 = aCalS 3 2 5 none := rfl
theorem n_J0_copyOfRangeByte_5 : nth t_J0_copyOfRangeByte 5 = aLdI 2 6 := rfl
theorem n_J0_copyOfRangeByte_6 : nth t_J0_copyOfRangeByte 6 = aLdI 1 7 := rfl
theorem n_J0_copyOfRangeByte_7 : nth t_J0_copyOfRangeByte 7 = aB (fun x y => x - y) 8 := rfl
theorem n_J0_copyOfRangeByte_8 : nth t_J0_copyOfRangeByte 8 = aStI 3 9 := rfl
theorem n_J0_copyOfRangeByte_9 : nth t_J0_copyOfRangeByte 9 = aLdI 3 10 := rfl
theorem n_J0_copyOfRangeByte_10 : nth t_J0_copyOfRangeByte 10 = aNewA 101 12 := rfl
theorem n_J0_copyOfRangeByte_12 : nth t_J0_copyOfRangeByte 12 = aStA 4 14 := rfl
theorem n_J0_copyOfRangeByte_14 : nth t_J0_copyOfRangeByte 14 = aLdA 0 15 := rfl
theorem n_J0_copyOfRangeByte_15 : nth t_J0_copyOfRangeByte 15 = aLdI 1 16 := rfl
theorem y_J0_copyOfRangeByte_1 (n : Nat) : nth t_J0_copyOfRangeByte (n + 16) = nth t_J0_copyOfRangeByte_c1 n := rfl
theorem n_J0_copyOfRangeByte_16 : nth t_J0_copyOfRangeByte 16 = aLdA 4 18 := (y_J0_copyOfRangeByte_1 0).trans rfl
theorem n_J0_copyOfRangeByte_18 : nth t_J0_copyOfRangeByte 18 = aK (.int 0) 19 := (y_J0_copyOfRangeByte_1 2).trans rfl
theorem n_J0_copyOfRangeByte_19 : nth t_J0_copyOfRangeByte 19 = aLdA 0 20 := (y_J0_copyOfRangeByte_1 3).trans rfl
theorem n_J0_copyOfRangeByte_20 : nth t_J0_copyOfRangeByte 20 = aLen 21 := (y_J0_copyOfRangeByte_1 4).trans rfl
theorem n_J0_copyOfRangeByte_21 : nth t_J0_copyOfRangeByte 21 = aLdI 1 22 := (y_J0_copyOfRangeByte_1 5).trans rfl
theorem n_J0_copyOfRangeByte_22 : nth t_J0_copyOfRangeByte 22 = aB (fun x y => x - y) 23 := (y_J0_copyOfRangeByte_1 6).trans rfl
theorem n_J0_copyOfRangeByte_23 : nth t_J0_copyOfRangeByte 23 = aLdI 3 24 := (y_J0_copyOfRangeByte_1 7).trans rfl
theorem n_J0_copyOfRangeByte_24 : nth t_J0_copyOfRangeByte 24 = aMin 27 := (y_J0_copyOfRangeByte_1 8).trans rfl
theorem n_J0_copyOfRangeByte_27 : nth t_J0_copyOfRangeByte 27 = aCopy 30 := (y_J0_copyOfRangeByte_1 11).trans rfl
theorem n_J0_copyOfRangeByte_30 : nth t_J0_copyOfRangeByte 30 = aLdA 4 32 := (y_J0_copyOfRangeByte_1 14).trans rfl
theorem n_J0_copyOfRangeByte_32 : nth t_J0_copyOfRangeByte 32 = aRetA := (y_J0_copyOfRangeByte_1 16).trans rfl
theorem n_J0_checkLength_0 : nth t_J0_checkLength 0 = aLdI 1 1 := rfl
theorem n_J0_checkLength_1 : nth t_J0_checkLength 1 = aLdI 0 2 := rfl
theorem n_J0_checkLength_2 : nth t_J0_checkLength 2 = aIcLt 5 37 := rfl
theorem n_J0_checkLength_8 : nth t_J0_checkLength 8 = aDup 9 := rfl
theorem n_J0_checkLength_12 : nth t_J0_checkLength 12 = aDup 13 := rfl
theorem n_J0_checkLength_16 : nth t_J0_checkLength 16 = aLdI 0 17 := rfl
theorem y_J0_checkLength_1 (n : Nat) : nth t_J0_checkLength (n + 26) = nth t_J0_checkLength_c1 n := rfl
theorem n_J0_checkLength_26 : nth t_J0_checkLength 26 = aLdI 1 27 := (y_J0_checkLength_1 0).trans rfl
theorem n_J0_checkLength_36 : nth t_J0_checkLength 36 = aThrow := (y_J0_checkLength_1 10).trans rfl
theorem n_J0_checkLength_37 : nth t_J0_checkLength 37 = aRetV := (y_J0_checkLength_1 11).trans rfl
theorem n_J0_fill_0 : nth t_J0_fill 0 = aK (.int 0) 1 := rfl
theorem n_J0_fill_1 : nth t_J0_fill 1 = aStI 2 2 := rfl
theorem n_J0_fill_2 : nth t_J0_fill 2 = aLdA 0 3 := rfl
theorem n_J0_fill_3 : nth t_J0_fill 3 = aLen 4 := rfl
theorem n_J0_fill_4 : nth t_J0_fill 4 = aStI 3 5 := rfl
theorem n_J0_fill_5 : nth t_J0_fill 5 = aLdI 2 6 := rfl
theorem n_J0_fill_6 : nth t_J0_fill 6 = aLdI 3 7 := rfl
theorem n_J0_fill_7 : nth t_J0_fill 7 = aIcLt 10 20 := rfl
theorem n_J0_fill_10 : nth t_J0_fill 10 = aLdA 0 11 := rfl
theorem n_J0_fill_11 : nth t_J0_fill 11 = aLdI 2 12 := rfl
theorem n_J0_fill_12 : nth t_J0_fill 12 = aLdI 1 13 := rfl
theorem n_J0_fill_13 : nth t_J0_fill 13 = aAstI 14 := rfl
theorem y_J0_fill_1 (n : Nat) : nth t_J0_fill (n + 14) = nth t_J0_fill_c1 n := rfl
theorem n_J0_fill_14 : nth t_J0_fill 14 = aInc 2 1 17 := (y_J0_fill_1 0).trans rfl
theorem n_J0_fill_17 : nth t_J0_fill 17 = aGoto 5 := (y_J0_fill_1 3).trans rfl
theorem n_J0_fill_20 : nth t_J0_fill 20 = aRetV := (y_J0_fill_1 6).trans rfl
theorem n_J0_fill_2_0 : nth t_J0_fill_2 0 = aK (.int 0) 1 := rfl
theorem n_J0_fill_2_1 : nth t_J0_fill_2 1 = aStI 2 2 := rfl
theorem n_J0_fill_2_2 : nth t_J0_fill_2 2 = aLdA 0 3 := rfl
theorem n_J0_fill_2_3 : nth t_J0_fill_2 3 = aLen 4 := rfl
theorem n_J0_fill_2_4 : nth t_J0_fill_2 4 = aStI 3 5 := rfl
theorem n_J0_fill_2_5 : nth t_J0_fill_2 5 = aLdI 2 6 := rfl
theorem n_J0_fill_2_6 : nth t_J0_fill_2 6 = aLdI 3 7 := rfl
theorem n_J0_fill_2_7 : nth t_J0_fill_2 7 = aIcLt 10 20 := rfl
theorem n_J0_fill_2_10 : nth t_J0_fill_2 10 = aLdA 0 11 := rfl
theorem n_J0_fill_2_11 : nth t_J0_fill_2 11 = aLdI 2 12 := rfl
theorem n_J0_fill_2_12 : nth t_J0_fill_2 12 = aLdI 1 13 := rfl
theorem n_J0_fill_2_13 : nth t_J0_fill_2 13 = aAstB 14 := rfl
theorem y_J0_fill_2_1 (n : Nat) : nth t_J0_fill_2 (n + 14) = nth t_J0_fill_2_c1 n := rfl
theorem n_J0_fill_2_14 : nth t_J0_fill_2 14 = aInc 2 1 17 := (y_J0_fill_2_1 0).trans rfl
theorem n_J0_fill_2_17 : nth t_J0_fill_2 17 = aGoto 5 := (y_J0_fill_2_1 3).trans rfl
theorem n_J0_fill_2_20 : nth t_J0_fill_2 20 = aRetV := (y_J0_fill_2_1 6).trans rfl
theorem n_J11_canEncode_0 : nth t_J11_canEncode 0 = aLdI 0 1 := rfl
theorem n_J11_canEncode_1 : nth t_J11_canEncode 1 = aK (.int 255) 4 := rfl
theorem n_J11_canEncode_4 : nth t_J11_canEncode 4 = aIcLe 7 11 := rfl
theorem n_J11_canEncode_7 : nth t_J11_canEncode 7 = aK (.int 1) 8 := rfl
theorem n_J11_canEncode_8 : nth t_J11_canEncode 8 = aGoto 12 := rfl
theorem n_J11_canEncode_11 : nth t_J11_canEncode 11 = aK (.int 0) 12 := rfl
theorem n_J11_canEncode_12 : nth t_J11_canEncode 12 = aRetZ := rfl
theorem n_J11_equals_0 : nth t_J11_equals 0 = aLdA 0 1 := rfl
theorem n_J11_equals_1 : nth t_J11_equals 1 = aLen 2 := rfl
theorem n_J11_equals_2 : nth t_J11_equals 2 = aLdA 1 3 := rfl
theorem n_J11_equals_3 : nth t_J11_equals 3 = aLen 4 := rfl
theorem n_J11_equals_4 : nth t_J11_equals 4 = aIcEq 7 34 := rfl
theorem n_J11_equals_7 : nth t_J11_equals 7 = aK (.int 0) 8 := rfl
theorem n_J11_equals_8 : nth t_J11_equals 8 = aStI 2 9 := rfl
theorem n_J11_equals_9 : nth t_J11_equals 9 = aLdI 2 10 := rfl
theorem n_J11_equals_10 : nth t_J11_equals 10 = aLdA 0 11 := rfl
theorem n_J11_equals_11 : nth t_J11_equals 11 = aLen 12 := rfl
theorem n_J11_equals_12 : nth t_J11_equals 12 = aIcLt 15 32 := rfl
theorem n_J11_equals_15 : nth t_J11_equals 15 = aLdA 0 16 := rfl
theorem y_J11_equals_1 (n : Nat) : nth t_J11_equals (n + 16) = nth t_J11_equals_c1 n := rfl
theorem n_J11_equals_16 : nth t_J11_equals 16 = aLdI 2 17 := (y_J11_equals_1 0).trans rfl
theorem n_J11_equals_17 : nth t_J11_equals 17 = aAldB 18 := (y_J11_equals_1 1).trans rfl
theorem n_J11_equals_18 : nth t_J11_equals 18 = aLdA 1 19 := (y_J11_equals_1 2).trans rfl
theorem n_J11_equals_19 : nth t_J11_equals 19 = aLdI 2 20 := (y_J11_equals_1 3).trans rfl
theorem n_J11_equals_20 : nth t_J11_equals 20 = aAldB 21 := (y_J11_equals_1 4).trans rfl
theorem n_J11_equals_21 : nth t_J11_equals 21 = aIcEq 26 24 := (y_J11_equals_1 5).trans rfl
theorem n_J11_equals_24 : nth t_J11_equals 24 = aK (.int 0) 25 := (y_J11_equals_1 8).trans rfl
theorem n_J11_equals_25 : nth t_J11_equals 25 = aRetZ := (y_J11_equals_1 9).trans rfl
theorem n_J11_equals_26 : nth t_J11_equals 26 = aInc 2 1 29 := (y_J11_equals_1 10).trans rfl
theorem n_J11_equals_29 : nth t_J11_equals 29 = aGoto 9 := (y_J11_equals_1 13).trans rfl
theorem n_J11_equals_32 : nth t_J11_equals 32 = aK (.int 1) 33 := (y_J11_equals_1 16).trans rfl
theorem n_J11_equals_33 : nth t_J11_equals 33 = aRetZ := (y_J11_equals_1 17).trans rfl
theorem y_J11_equals_2 (n : Nat) : nth t_J11_equals (n + 34) = nth t_J11_equals_c2 n := (y_J11_equals_1 (n + 18)).trans rfl
theorem n_J11_equals_34 : nth t_J11_equals 34 = aK (.int 0) 35 := (y_J11_equals_2 0).trans rfl
theorem n_J11_equals_35 : nth t_J11_equals 35 = aRetZ := (y_J11_equals_2 1).trans rfl
theorem n_J11_indexOf_0 : nth t_J11_indexOf 0 = aLdA 1 1 := rfl
theorem n_J11_indexOf_1 : nth t_J11_indexOf 1 = aLen 2 := rfl
theorem n_J11_indexOf_2 : nth t_J11_indexOf 2 = aIfEq 5 7 := rfl
theorem n_J11_indexOf_5 : nth t_J11_indexOf 5 = aK (.int 0) 6 := rfl
theorem n_J11_indexOf_6 : nth t_J11_indexOf 6 = aRetI := rfl
theorem n_J11_indexOf_7 : nth t_J11_indexOf 7 = aLdA 0 8 := rfl
theorem n_J11_indexOf_8 : nth t_J11_indexOf 8 = aLen 9 := rfl
theorem n_J11_indexOf_9 : nth t_J11_indexOf 9 = aIfEq 12 14 := rfl
theorem n_J11_indexOf_12 : nth t_J11_indexOf 12 = aK (.int (-1)) 13 := rfl
theorem n_J11_indexOf_13 : nth t_J11_indexOf 13 = aRetI := rfl
theorem n_J11_indexOf_14 : nth t_J11_indexOf 14 = aLdA 0 15 := rfl
theorem n_J11_indexOf_15 : nth t_J11_indexOf 15 = aLdA 0 16 := rfl
theorem y_J11_indexOf_1 (n : Nat) : nth t_J11_indexOf (n + 16) = nth t_J11_indexOf_c1 n := rfl
theorem n_J11_indexOf_16 : nth t_J11_indexOf 16 = aLen 17 := (y_J11_indexOf_1 0).trans rfl
theorem n_J11_indexOf_17 : nth t_J11_indexOf 17 = aLdA 1 18 := (y_J11_indexOf_1 1).trans rfl
theorem n_J11_indexOf_18 : nth t_J11_indexOf 18 = aLdA 1 19 := (y_J11_indexOf_1 2).trans rfl
theorem n_J11_indexOf_19 : nth t_J11_indexOf 19 = aLen 20 := (y_J11_indexOf_1 3).trans rfl
theorem n_J11_indexOf_20 : nth t_J11_indexOf 20 = aK (.int 0) 21 := (y_J11_indexOf_1 4).trans rfl
theorem n_J11_indexOf_21 : nth t_J11_indexOf 21 = aCalS 9 5 24 none := (y_J11_indexOf_1 5).trans rfl
theorem n_J11_indexOf_24 : nth t_J11_indexOf 24 = aRetI := (y_J11_indexOf_1 8).trans rfl
theorem n_J11_indexOf_2_0 : nth t_J11_indexOf_2 0 = aLdA 2 1 := rfl
theorem n_J11_indexOf_2_1 : nth t_J11_indexOf_2 1 = aK (.int 0) 2 := rfl
theorem n_J11_indexOf_2_2 : nth t_J11_indexOf_2 2 = aAldB 3 := rfl
theorem n_J11_indexOf_2_3 : nth t_J11_indexOf_2 3 = aStI 5 5 := rfl
theorem n_J11_indexOf_2_5 : nth t_J11_indexOf_2 5 = aLdI 1 6 := rfl
theorem n_J11_indexOf_2_6 : nth t_J11_indexOf_2 6 = aLdI 3 7 := rfl
theorem n_J11_indexOf_2_7 : nth t_J11_indexOf_2 7 = aB (fun x y => x - y) 8 := rfl
theorem n_J11_indexOf_2_8 : nth t_J11_indexOf_2 8 = aStI 6 10 := rfl
theorem n_J11_indexOf_2_10 : nth t_J11_indexOf_2 10 = aLdI 4 12 := rfl
theorem n_J11_indexOf_2_12 : nth t_J11_indexOf_2 12 = aStI 7 14 := rfl
theorem n_J11_indexOf_2_14 : nth t_J11_indexOf_2 14 = aLdI 7 16 := rfl
theorem n_J11_indexOf_2_16 : nth t_J11_indexOf_2 16 = aLdI 6 18 := rfl
theorem y_J11_indexOf_2_1 (n : Nat) : nth t_J11_indexOf_2 (n + 18) = nth t_J11_indexOf_2_c1 n := rfl
theorem n_J11_indexOf_2_18 : nth t_J11_indexOf_2 18 = aIcLe 21 119 := (y_J11_indexOf_2_1 0).trans rfl
theorem n_J11_indexOf_2_21 : nth t_J11_indexOf_2 21 = aLdA 0 22 := (y_J11_indexOf_2_1 3).trans rfl
theorem n_J11_indexOf_2_22 : nth t_J11_indexOf_2 22 = aLdI 7 24 := (y_J11_indexOf_2_1 4).trans rfl
theorem n_J11_indexOf_2_24 : nth t_J11_indexOf_2 24 = aAldB 25 := (y_J11_indexOf_2_1 6).trans rfl
theorem n_J11_indexOf_2_25 : nth t_J11_indexOf_2 25 = aLdI 5 27 := (y_J11_indexOf_2_1 7).trans rfl
theorem n_J11_indexOf_2_27 : nth t_J11_indexOf_2 27 = aIcEq 52 30 := (y_J11_indexOf_2_1 9).trans rfl
theorem n_J11_indexOf_2_30 : nth t_J11_indexOf_2 30 = aInc 7 1 33 := (y_J11_indexOf_2_1 12).trans rfl
theorem n_J11_indexOf_2_33 : nth t_J11_indexOf_2 33 = aLdI 7 35 := (y_J11_indexOf_2_1 15).trans rfl
theorem n_J11_indexOf_2_35 : nth t_J11_indexOf_2 35 = aLdI 6 37 := (y_J11_indexOf_2_1 17).trans rfl
theorem n_J11_indexOf_2_37 : nth t_J11_indexOf_2 37 = aIcLe 40 52 := (y_J11_indexOf_2_1 19).trans rfl
theorem n_J11_indexOf_2_40 : nth t_J11_indexOf_2 40 = aLdA 0 41 := (y_J11_indexOf_2_1 22).trans rfl
theorem n_J11_indexOf_2_41 : nth t_J11_indexOf_2 41 = aLdI 7 43 := (y_J11_indexOf_2_1 23).trans rfl
theorem y_J11_indexOf_2_2 (n : Nat) : nth t_J11_indexOf_2 (n + 43) = nth t_J11_indexOf_2_c2 n := (y_J11_indexOf_2_1 (n + 25)).trans rfl
theorem n_J11_indexOf_2_43 : nth t_J11_indexOf_2 43 = aAldB 44 := (y_J11_indexOf_2_2 0).trans rfl
theorem n_J11_indexOf_2_44 : nth t_J11_indexOf_2 44 = aLdI 5 46 := (y_J11_indexOf_2_2 1).trans rfl
theorem n_J11_indexOf_2_46 : nth t_J11_indexOf_2 46 = aIcEq 52 49 := (y_J11_indexOf_2_2 3).trans rfl
theorem n_J11_indexOf_2_49 : nth t_J11_indexOf_2 49 = aGoto 30 := (y_J11_indexOf_2_2 6).trans rfl
theorem n_J11_indexOf_2_52 : nth t_J11_indexOf_2 52 = aLdI 7 54 := (y_J11_indexOf_2_2 9).trans rfl
theorem n_J11_indexOf_2_54 : nth t_J11_indexOf_2 54 = aLdI 6 56 := (y_J11_indexOf_2_2 11).trans rfl
theorem n_J11_indexOf_2_56 : nth t_J11_indexOf_2 56 = aIcLe 59 113 := (y_J11_indexOf_2_2 13).trans rfl
theorem n_J11_indexOf_2_59 : nth t_J11_indexOf_2 59 = aLdI 7 61 := (y_J11_indexOf_2_2 16).trans rfl
theorem n_J11_indexOf_2_61 : nth t_J11_indexOf_2 61 = aK (.int 1) 62 := (y_J11_indexOf_2_2 18).trans rfl
theorem n_J11_indexOf_2_62 : nth t_J11_indexOf_2 62 = aB (fun x y => x + y) 63 := (y_J11_indexOf_2_2 19).trans rfl
theorem n_J11_indexOf_2_63 : nth t_J11_indexOf_2 63 = aStI 8 65 := (y_J11_indexOf_2_2 20).trans rfl
theorem n_J11_indexOf_2_65 : nth t_J11_indexOf_2 65 = aLdI 8 67 := (y_J11_indexOf_2_2 22).trans rfl
theorem y_J11_indexOf_2_3 (n : Nat) : nth t_J11_indexOf_2 (n + 67) = nth t_J11_indexOf_2_c3 n := (y_J11_indexOf_2_2 (n + 24)).trans rfl
theorem n_J11_indexOf_2_67 : nth t_J11_indexOf_2 67 = aLdI 3 68 := (y_J11_indexOf_2_3 0).trans rfl
theorem n_J11_indexOf_2_68 : nth t_J11_indexOf_2 68 = aB (fun x y => x + y) 69 := (y_J11_indexOf_2_3 1).trans rfl
theorem n_J11_indexOf_2_69 : nth t_J11_indexOf_2 69 = aK (.int 1) 70 := (y_J11_indexOf_2_3 2).trans rfl
theorem n_J11_indexOf_2_70 : nth t_J11_indexOf_2 70 = aB (fun x y => x - y) 71 := (y_J11_indexOf_2_3 3).trans rfl
theorem n_J11_indexOf_2_71 : nth t_J11_indexOf_2 71 = aStI 9 73 := (y_J11_indexOf_2_3 4).trans rfl
theorem n_J11_indexOf_2_73 : nth t_J11_indexOf_2 73 = aK (.int 1) 74 := (y_J11_indexOf_2_3 6).trans rfl
theorem n_J11_indexOf_2_74 : nth t_J11_indexOf_2 74 = aStI 10 76 := (y_J11_indexOf_2_3 7).trans rfl
theorem n_J11_indexOf_2_76 : nth t_J11_indexOf_2 76 = aLdI 8 78 := (y_J11_indexOf_2_3 9).trans rfl
theorem n_J11_indexOf_2_78 : nth t_J11_indexOf_2 78 = aLdI 9 80 := (y_J11_indexOf_2_3 11).trans rfl
theorem n_J11_indexOf_2_80 : nth t_J11_indexOf_2 80 = aIcLt 83 103 := (y_J11_indexOf_2_3 13).trans rfl
theorem n_J11_indexOf_2_83 : nth t_J11_indexOf_2 83 = aLdA 0 84 := (y_J11_indexOf_2_3 16).trans rfl
theorem n_J11_indexOf_2_84 : nth t_J11_indexOf_2 84 = aLdI 8 86 := (y_J11_indexOf_2_3 17).trans rfl
theorem y_J11_indexOf_2_4 (n : Nat) : nth t_J11_indexOf_2 (n + 86) = nth t_J11_indexOf_2_c4 n := (y_J11_indexOf_2_3 (n + 19)).trans rfl
theorem n_J11_indexOf_2_86 : nth t_J11_indexOf_2 86 = aAldB 87 := (y_J11_indexOf_2_4 0).trans rfl
theorem n_J11_indexOf_2_87 : nth t_J11_indexOf_2 87 = aLdA 2 88 := (y_J11_indexOf_2_4 1).trans rfl
theorem n_J11_indexOf_2_88 : nth t_J11_indexOf_2 88 = aLdI 10 90 := (y_J11_indexOf_2_4 2).trans rfl
theorem n_J11_indexOf_2_90 : nth t_J11_indexOf_2 90 = aAldB 91 := (y_J11_indexOf_2_4 4).trans rfl
theorem n_J11_indexOf_2_91 : nth t_J11_indexOf_2 91 = aIcEq 94 103 := (y_J11_indexOf_2_4 5).trans rfl
theorem n_J11_indexOf_2_94 : nth t_J11_indexOf_2 94 = aInc 8 1 97 := (y_J11_indexOf_2_4 8).trans rfl
theorem n_J11_indexOf_2_97 : nth t_J11_indexOf_2 97 = aInc 10 1 100 := (y_J11_indexOf_2_4 11).trans rfl
theorem n_J11_indexOf_2_100 : nth t_J11_indexOf_2 100 = aGoto 76 := (y_J11_indexOf_2_4 14).trans rfl
theorem n_J11_indexOf_2_103 : nth t_J11_indexOf_2 103 = aLdI 8 105 := (y_J11_indexOf_2_4 17).trans rfl
theorem n_J11_indexOf_2_105 : nth t_J11_indexOf_2 105 = aLdI 9 107 := (y_J11_indexOf_2_4 19).trans rfl
theorem n_J11_indexOf_2_107 : nth t_J11_indexOf_2 107 = aIcEq 110 113 := (y_J11_indexOf_2_4 21).trans rfl
theorem n_J11_indexOf_2_110 : nth t_J11_indexOf_2 110 = aLdI 7 112 := (y_J11_indexOf_2_4 24).trans rfl
theorem y_J11_indexOf_2_5 (n : Nat) : nth t_J11_indexOf_2 (n + 112) = nth t_J11_indexOf_2_c5 n := (y_J11_indexOf_2_4 (n + 26)).trans rfl
theorem n_J11_indexOf_2_112 : nth t_J11_indexOf_2 112 = aRetI := (y_J11_indexOf_2_5 0).trans rfl
theorem n_J11_indexOf_2_113 : nth t_J11_indexOf_2 113 = aInc 7 1 116 := (y_J11_indexOf_2_5 1).trans rfl
theorem n_J11_indexOf_2_116 : nth t_J11_indexOf_2 116 = aGoto 14 := (y_J11_indexOf_2_5 4).trans rfl
theorem n_J11_indexOf_2_119 : nth t_J11_indexOf_2 119 = aK (.int (-1)) 120 := (y_J11_indexOf_2_5 7).trans rfl
theorem n_J11_indexOf_2_120 : nth t_J11_indexOf_2 120 = aRetI := (y_J11_indexOf_2_5 8).trans rfl
theorem n_J6_init_0 : nth t_J6_init 0 = aLdA 0 1 := rfl
theorem n_J6_init_1 : nth t_J6_init 1 = aObjI 4 := rfl
theorem n_J6_init_4 : nth t_J6_init 4 = aK (.int 1) 7 := rfl
theorem n_J6_init_7 : nth t_J6_init 7 = aIfEq 25 10 := rfl
theorem n_J6_init_10 : nth t_J6_init 10 = aLdA 0 11 := rfl
theorem n_J6_init_11 : nth t_J6_init 11 = aLdI 1 12 := rfl
theorem n_J6_init_12 : nth t_J6_init 12 = aNewA 101 14 := rfl
theorem n_J6_init_14 : nth t_J6_init 14 = aPutR 0 [12] 17 := rfl
theorem n_J6_init_17 : nth t_J6_init 17 = aLdA 0 18 := rfl
theorem n_J6_init_18 : nth t_J6_init 18 = aK (.int 0) 19 := rfl
theorem n_J6_init_19 : nth t_J6_init 19 = aPutZ 1 [12] 22 := rfl
theorem n_J6_init_22 : nth t_J6_init 22 = aGoto 38 := rfl
theorem y_J6_init_1 (n : Nat) : nth t_J6_init (n + 25) = nth t_J6_init_c1 n := rfl
theorem n_J6_init_25 : nth t_J6_init 25 = aLdA 0 26 := (y_J6_init_1 0).trans rfl
theorem n_J6_init_26 : nth t_J6_init 26 = aLdI 1 27 := (y_J6_init_1 1).trans rfl
theorem n_J6_init_30 : nth t_J6_init 30 = aPutR 0 [12] 33 := (y_J6_init_1 5).trans rfl
theorem n_J6_init_33 : nth t_J6_init 33 = aLdA 0 34 := (y_J6_init_1 8).trans rfl
theorem n_J6_init_34 : nth t_J6_init 34 = aK (.int 1) 35 := (y_J6_init_1 9).trans rfl
theorem n_J6_init_35 : nth t_J6_init 35 = aPutZ 1 [12] 38 := (y_J6_init_1 10).trans rfl
theorem n_J6_init_38 : nth t_J6_init 38 = aRetV := (y_J6_init_1 13).trans rfl
theorem n_J6_append_0 : nth t_J6_append 0 = aLdA 0 1 := rfl
theorem n_J6_append_1 : nth t_J6_append 1 = aLdA 0 2 := rfl
theorem n_J6_append_2 : nth t_J6_append 2 = aGetI 3 [12] 5 := rfl
theorem n_J6_append_5 : nth t_J6_append 5 = aK (.int 1) 6 := rfl
theorem n_J6_append_6 : nth t_J6_append 6 = aB (fun x y => x + y) 7 := rfl
theorem n_J6_append_7 : nth t_J6_append 7 = aCalV 12 1 10 [12] none := rfl
theorem n_J6_append_10 : nth t_J6_append 10 = aLdA 0 11 := rfl
theorem n_J6_append_11 : nth t_J6_append 11 = aCalV 13 0 14 [12] none := rfl
theorem n_J6_append_14 : nth t_J6_append 14 = aIfEq 45 17 := rfl
theorem n_J6_append_17 : nth t_J6_append 17 = aLdI 1 18 := rfl
theorem n_J6_append_18 : nth t_J6_append 18 = aCalS 6 1 21 none := rfl
theorem n_J6_append_21 : nth t_J6_append 21 = aIfEq 45 24 := rfl
theorem y_J6_append_1 (n : Nat) : nth t_J6_append (n + 24) = nth t_J6_append_c1 n := rfl
theorem n_J6_append_24 : nth t_J6_append 24 = aLdA 0 25 := (y_J6_append_1 0).trans rfl
theorem n_J6_append_25 : nth t_J6_append 25 = aGetR 0 [12] 28 := (y_J6_append_1 1).trans rfl
theorem n_J6_append_28 : nth t_J6_append 28 = aLdA 0 29 := (y_J6_append_1 4).trans rfl
theorem n_J6_append_29 : nth t_J6_append 29 = aDup 30 := (y_J6_append_1 5).trans rfl
theorem n_J6_append_30 : nth t_J6_append 30 = aGetI 3 [12] 33 := (y_J6_append_1 6).trans rfl
theorem n_J6_append_33 : nth t_J6_append 33 = aDupX1 34 := (y_J6_append_1 9).trans rfl
theorem n_J6_append_34 : nth t_J6_append 34 = aK (.int 1) 35 := (y_J6_append_1 10).trans rfl
theorem n_J6_append_35 : nth t_J6_append 35 = aB (fun x y => x + y) 36 := (y_J6_append_1 11).trans rfl
theorem n_J6_append_36 : nth t_J6_append 36 = aPutI 3 [12] 39 := (y_J6_append_1 12).trans rfl
theorem n_J6_append_39 : nth t_J6_append 39 = aLdI 1 40 := (y_J6_append_1 15).trans rfl
theorem n_J6_append_40 : nth t_J6_append 40 = aU (fun x => x.toInt8.toInt32) 41 := (y_J6_append_1 16).trans rfl
theorem n_J6_append_41 : nth t_J6_append 41 = aAstB 42 := (y_J6_append_1 17).trans rfl
theorem y_J6_append_2 (n : Nat) : nth t_J6_append (n + 42) = nth t_J6_append_c2 n := (y_J6_append_1 (n + 18)).trans rfl
theorem n_J6_append_42 : nth t_J6_append 42 = aGoto 75 := (y_J6_append_2 0).trans rfl
theorem n_J6_append_45 : nth t_J6_append 45 = aLdA 0 46 := (y_J6_append_2 3).trans rfl
theorem n_J6_append_46 : nth t_J6_append 46 = aCalV 13 0 49 [12] none := (y_J6_append_2 4).trans rfl
theorem n_J6_append_49 : nth t_J6_append 49 = aIfEq 56 52 := (y_J6_append_2 7).trans rfl
theorem n_J6_append_52 : nth t_J6_append 52 = aLdA 0 53 := (y_J6_append_2 10).trans rfl
theorem n_J6_append_56 : nth t_J6_append 56 = aLdA 0 57 := (y_J6_append_2 14).trans rfl
theorem n_J6_append_57 : nth t_J6_append 57 = aGetR 0 [12] 60 := (y_J6_append_2 15).trans rfl
theorem n_J6_append_60 : nth t_J6_append 60 = aLdA 0 61 := (y_J6_append_2 18).trans rfl
theorem n_J6_append_61 : nth t_J6_append 61 = aDup 62 := (y_J6_append_2 19).trans rfl
theorem n_J6_append_62 : nth t_J6_append 62 = aGetI 3 [12] 65 := (y_J6_append_2 20).trans rfl
theorem n_J6_append_65 : nth t_J6_append 65 = aDupX1 66 := (y_J6_append_2 23).trans rfl
theorem y_J6_append_3 (n : Nat) : nth t_J6_append (n + 66) = nth t_J6_append_c3 n := (y_J6_append_2 (n + 24)).trans rfl
theorem n_J6_append_66 : nth t_J6_append 66 = aK (.int 1) 67 := (y_J6_append_3 0).trans rfl
theorem n_J6_append_67 : nth t_J6_append 67 = aB (fun x y => x + y) 68 := (y_J6_append_3 1).trans rfl
theorem n_J6_append_68 : nth t_J6_append 68 = aPutI 3 [12] 71 := (y_J6_append_3 2).trans rfl
theorem n_J6_append_71 : nth t_J6_append 71 = aLdI 1 72 := (y_J6_append_3 5).trans rfl
theorem n_J6_append_75 : nth t_J6_append 75 = aLdA 0 76 := (y_J6_append_3 9).trans rfl
theorem n_J6_append_76 : nth t_J6_append 76 = aRetA := (y_J6_append_3 10).trans rfl
theorem n_J6_ensureCapacityInternal_0 : nth t_J6_ensureCapacityInternal 0 = aLdA 0 1 := rfl
theorem n_J6_ensureCapacityInternal_1 : nth t_J6_ensureCapacityInternal 1 = aGetR 0 [12] 4 := rfl
theorem n_J6_ensureCapacityInternal_4 : nth t_J6_ensureCapacityInternal 4 = aLen 5 := rfl
theorem n_J6_ensureCapacityInternal_5 : nth t_J6_ensureCapacityInternal 5 = aLdA 0 6 := rfl
theorem n_J6_ensureCapacityInternal_6 : nth t_J6_ensureCapacityInternal 6 = aGetI 1 [12] 9 := rfl
theorem n_J6_ensureCapacityInternal_9 : nth t_J6_ensureCapacityInternal 9 = aB (fun x y => x >>> (y &&& 31)) 10 := rfl
theorem n_J6_ensureCapacityInternal_10 : nth t_J6_ensureCapacityInternal 10 = aStI 2 11 := rfl
theorem n_J6_ensureCapacityInternal_11 : nth t_J6_ensureCapacityInternal 11 = aLdI 1 12 := rfl
theorem n_J6_ensureCapacityInternal_12 : nth t_J6_ensureCapacityInternal 12 = aLdI 2 13 := rfl
theorem n_J6_ensureCapacityInternal_13 : nth t_J6_ensureCapacityInternal 13 = aB (fun x y => x - y) 14 := rfl
theorem n_J6_ensureCapacityInternal_14 : nth t_J6_ensureCapacityInternal 14 = aIfLe 38 17 := rfl
theorem n_J6_ensureCapacityInternal_17 : nth t_J6_ensureCapacityInternal 17 = aLdA 0 18 := rfl
theorem y_J6_ensureCapacityInternal_1 (n : Nat) : nth t_J6_ensureCapacityInternal (n + 18) = nth t_J6_ensureCapacityInternal_c1 n := rfl
theorem n_J6_ensureCapacityInternal_18 : nth t_J6_ensureCapacityInternal 18 = aLdA 0 19 := (y_J6_ensureCapacityInternal_1 0).trans rfl
theorem n_J6_ensureCapacityInternal_19 : nth t_J6_ensureCapacityInternal 19 = aGetR 0 [12] 22 := (y_J6_ensureCapacityInternal_1 1).trans rfl
theorem n_J6_ensureCapacityInternal_22 : nth t_J6_ensureCapacityInternal 22 = aLdA 0 23 := (y_J6_ensureCapacityInternal_1 4).trans rfl
theorem n_J6_ensureCapacityInternal_23 : nth t_J6_ensureCapacityInternal 23 = aLdI 1 24 := (y_J6_ensureCapacityInternal_1 5).trans rfl
theorem n_J6_ensureCapacityInternal_27 : nth t_J6_ensureCapacityInternal 27 = aLdA 0 28 := (y_J6_ensureCapacityInternal_1 9).trans rfl
theorem n_J6_ensureCapacityInternal_28 : nth t_J6_ensureCapacityInternal 28 = aGetI 1 [12] 31 := (y_J6_ensureCapacityInternal_1 10).trans rfl
theorem n_J6_ensureCapacityInternal_31 : nth t_J6_ensureCapacityInternal 31 = aB (fun x y => x <<< (y &&& 31)) 32 := (y_J6_ensureCapacityInternal_1 13).trans rfl
theorem n_J6_ensureCapacityInternal_32 : nth t_J6_ensureCapacityInternal 32 = aCalS 0 2 35 none := (y_J6_ensureCapacityInternal_1 14).trans rfl
theorem n_J6_ensureCapacityInternal_35 : nth t_J6_ensureCapacityInternal 35 = aPutR 0 [12] 38 := (y_J6_ensureCapacityInternal_1 17).trans rfl
theorem n_J6_ensureCapacityInternal_38 : nth t_J6_ensureCapacityInternal 38 = aRetV := (y_J6_ensureCapacityInternal_1 20).trans rfl
theorem n_J6_isLatin1_0 : nth t_J6_isLatin1 0 = aK (.int 1) 3 := rfl
theorem n_J6_isLatin1_3 : nth t_J6_isLatin1 3 = aIfEq 17 6 := rfl
theorem n_J6_isLatin1_6 : nth t_J6_isLatin1 6 = aLdA 0 7 := rfl
theorem n_J6_isLatin1_7 : nth t_J6_isLatin1 7 = aGetI 1 [12] 10 := rfl
theorem n_J6_isLatin1_10 : nth t_J6_isLatin1 10 = aIfEq 13 17 := rfl
theorem n_J6_isLatin1_13 : nth t_J6_isLatin1 13 = aK (.int 1) 14 := rfl
theorem n_J6_isLatin1_14 : nth t_J6_isLatin1 14 = aGoto 18 := rfl
theorem n_J6_isLatin1_17 : nth t_J6_isLatin1 17 = aK (.int 0) 18 := rfl
theorem n_J6_isLatin1_18 : nth t_J6_isLatin1 18 = aRetZ := rfl
theorem n_J6_getValue_0 : nth t_J6_getValue 0 = aLdA 0 1 := rfl
theorem n_J6_getValue_1 : nth t_J6_getValue 1 = aGetR 0 [12] 4 := rfl
theorem n_J6_getValue_4 : nth t_J6_getValue 4 = aRetA := rfl
theorem n_J6_length_0 : nth t_J6_length 0 = aLdA 0 1 := rfl
theorem n_J6_length_1 : nth t_J6_length 1 = aGetI 3 [12] 4 := rfl
theorem n_J6_length_4 : nth t_J6_length 4 = aRetI := rfl
theorem n_J6_append_2_0 : nth t_J6_append_2 0 = aLdA 1 1 := rfl
theorem n_J6_append_2_1 : nth t_J6_append_2 1 = aIfN 4 9 := rfl
theorem n_J6_append_2_4 : nth t_J6_append_2 4 = aLdA 0 5 := rfl
theorem n_J6_append_2_8 : nth t_J6_append_2 8 = aRetA := rfl
theorem n_J6_append_2_9 : nth t_J6_append_2 9 = aLdA 1 10 := rfl
theorem n_J6_append_2_10 : nth t_J6_append_2 10 = aCalV 27 0 13 [13] none := rfl
theorem n_J6_append_2_13 : nth t_J6_append_2 13 = aStI 2 14 := rfl
theorem n_J6_append_2_14 : nth t_J6_append_2 14 = aLdA 0 15 := rfl
theorem n_J6_append_2_15 : nth t_J6_append_2 15 = aLdA 0 16 := rfl
theorem n_J6_append_2_16 : nth t_J6_append_2 16 = aGetI 3 [12] 19 := rfl
theorem n_J6_append_2_19 : nth t_J6_append_2 19 = aLdI 2 20 := rfl
theorem y_J6_append_2_1 (n : Nat) : nth t_J6_append_2 (n + 20) = nth t_J6_append_2_c1 n := rfl
theorem n_J6_append_2_20 : nth t_J6_append_2 20 = aB (fun x y => x + y) 21 := (y_J6_append_2_1 0).trans rfl
theorem n_J6_append_2_21 : nth t_J6_append_2 21 = aCalV 12 1 24 [12] none := (y_J6_append_2_1 1).trans rfl
theorem n_J6_append_2_24 : nth t_J6_append_2 24 = aLdA 0 25 := (y_J6_append_2_1 4).trans rfl
theorem n_J6_append_2_25 : nth t_J6_append_2 25 = aLdA 0 26 := (y_J6_append_2_1 5).trans rfl
theorem n_J6_append_2_26 : nth t_J6_append_2 26 = aGetI 3 [12] 29 := (y_J6_append_2_1 6).trans rfl
theorem n_J6_append_2_29 : nth t_J6_append_2 29 = aLdA 1 30 := (y_J6_append_2_1 9).trans rfl
theorem n_J6_append_2_30 : nth t_J6_append_2 30 = aCalV 17 2 33 [12] none := (y_J6_append_2_1 10).trans rfl
theorem n_J6_append_2_33 : nth t_J6_append_2 33 = aLdA 0 34 := (y_J6_append_2_1 13).trans rfl
theorem n_J6_append_2_34 : nth t_J6_append_2 34 = aDup 35 := (y_J6_append_2_1 14).trans rfl
theorem n_J6_append_2_35 : nth t_J6_append_2 35 = aGetI 3 [12] 38 := (y_J6_append_2_1 15).trans rfl
theorem n_J6_append_2_38 : nth t_J6_append_2 38 = aLdI 2 39 := (y_J6_append_2_1 18).trans rfl
theorem n_J6_append_2_39 : nth t_J6_append_2 39 = aB (fun x y => x + y) 40 := (y_J6_append_2_1 19).trans rfl
theorem y_J6_append_2_2 (n : Nat) : nth t_J6_append_2 (n + 40) = nth t_J6_append_2_c2 n := (y_J6_append_2_1 (n + 20)).trans rfl
theorem n_J6_append_2_40 : nth t_J6_append_2 40 = aPutI 3 [12] 43 := (y_J6_append_2_2 0).trans rfl
theorem n_J6_append_2_43 : nth t_J6_append_2 43 = aLdA 0 44 := (y_J6_append_2_2 3).trans rfl
theorem n_J6_append_2_44 : nth t_J6_append_2 44 = aRetA := (y_J6_append_2_2 4).trans rfl
theorem n_J6_putStringAt_0 : nth t_J6_putStringAt 0 = aLdA 0 1 := rfl
theorem n_J6_putStringAt_1 : nth t_J6_putStringAt 1 = aLdA 2 2 := rfl
theorem n_J6_putStringAt_2 : nth t_J6_putStringAt 2 = aCalV 18 1 5 [12] none := rfl
theorem n_J6_putStringAt_5 : nth t_J6_putStringAt 5 = aLdA 2 6 := rfl
theorem n_J6_putStringAt_6 : nth t_J6_putStringAt 6 = aLdA 0 7 := rfl
theorem n_J6_putStringAt_7 : nth t_J6_putStringAt 7 = aGetR 0 [12] 10 := rfl
theorem n_J6_putStringAt_10 : nth t_J6_putStringAt 10 = aLdI 1 11 := rfl
theorem n_J6_putStringAt_11 : nth t_J6_putStringAt 11 = aLdA 0 12 := rfl
theorem n_J6_putStringAt_12 : nth t_J6_putStringAt 12 = aGetI 1 [12] 15 := rfl
theorem n_J6_putStringAt_15 : nth t_J6_putStringAt 15 = aCalV 29 3 18 [13] none := rfl
theorem n_J6_putStringAt_18 : nth t_J6_putStringAt 18 = aRetV := rfl
theorem n_J6_inflateIfNeededFor_0 : nth t_J6_inflateIfNeededFor 0 = aK (.int 1) 3 := rfl
theorem n_J6_inflateIfNeededFor_3 : nth t_J6_inflateIfNeededFor 3 = aIfEq 21 6 := rfl
theorem n_J6_inflateIfNeededFor_6 : nth t_J6_inflateIfNeededFor 6 = aLdA 0 7 := rfl
theorem n_J6_inflateIfNeededFor_7 : nth t_J6_inflateIfNeededFor 7 = aGetI 1 [12] 10 := rfl
theorem n_J6_inflateIfNeededFor_10 : nth t_J6_inflateIfNeededFor 10 = aLdA 1 11 := rfl
theorem n_J6_inflateIfNeededFor_11 : nth t_J6_inflateIfNeededFor 11 = aCalV 28 0 14 [13] none := rfl
theorem n_J6_inflateIfNeededFor_14 : nth t_J6_inflateIfNeededFor 14 = aIcEq 21 17 := rfl
theorem n_J6_inflateIfNeededFor_17 : nth t_J6_inflateIfNeededFor 17 = aLdA 0 18 := rfl
theorem n_J6_inflateIfNeededFor_21 : nth t_J6_inflateIfNeededFor 21 = aRetV := rfl
theorem n_J7_init_0 : nth t_J7_init 0 = aLdA 0 1 := rfl
theorem n_J7_init_1 : nth t_J7_init 1 = aK (.int 16) 3 := rfl
theorem n_J7_init_3 : nth t_J7_init 3 = aCalI 10 1 6 none := rfl
theorem n_J7_init_6 : nth t_J7_init 6 = aRetV := rfl
theorem n_J7_append_0 : nth t_J7_append 0 = aLdA 0 1 := rfl
theorem n_J7_append_1 : nth t_J7_append 1 = aLdI 1 2 := rfl
theorem n_J7_append_2 : nth t_J7_append 2 = aCalV 11 1 5 [12] none := rfl
theorem n_J7_append_5 : nth t_J7_append 5 = aPop 6 := rfl
theorem n_J7_append_6 : nth t_J7_append 6 = aLdA 0 7 := rfl
theorem n_J7_append_7 : nth t_J7_append 7 = aRetA := rfl
theorem n_J7_toString_0 : nth t_J7_toString 0 = aNew 13 4 3 := rfl
theorem n_J7_toString_3 : nth t_J7_toString 3 = aDup 4 := rfl
theorem n_J7_toString_4 : nth t_J7_toString 4 = aLdA 0 5 := rfl
theorem n_J7_toString_5 : nth t_J7_toString 5 = aCalI 24 1 8 none := rfl
theorem n_J7_toString_8 : nth t_J7_toString 8 = aRetA := rfl
theorem n_J7_length_0 : nth t_J7_length 0 = aLdA 0 1 := rfl
theorem n_J7_length_1 : nth t_J7_length 1 = aCalV 15 0 4 [12] none := rfl
theorem n_J7_length_4 : nth t_J7_length 4 = aRetI := rfl
theorem n_J7_append_2_0 : nth t_J7_append_2 0 = aLdA 0 1 := rfl
theorem n_J7_append_2_1 : nth t_J7_append_2 1 = aLdA 1 2 := rfl
theorem n_J7_append_2_2 : nth t_J7_append_2 2 = aCalV 16 1 5 [12] none := rfl
theorem n_J7_append_2_5 : nth t_J7_append_2 5 = aPop 6 := rfl
theorem n_J7_append_2_6 : nth t_J7_append_2 6 = aLdA 0 7 := rfl
theorem n_J7_append_2_7 : nth t_J7_append_2 7 = aRetA := rfl
theorem n_J8_init_0 : nth t_J8_init 0 = aLdA 0 1 := rfl
theorem n_J8_init_1 : nth t_J8_init 1 = aLdA 1 2 := rfl
theorem n_J8_init_2 : nth t_J8_init 2 = aK .null 3 := rfl
theorem n_J8_init_3 : nth t_J8_init 3 = aCalI 25 2 6 none := rfl
theorem n_J8_init_6 : nth t_J8_init 6 = aRetV := rfl
theorem n_J8_init_2_0 : nth t_J8_init_2 0 = aLdA 0 1 := rfl
theorem n_J8_init_2_1 : nth t_J8_init_2 1 = aObjI 4 := rfl
theorem n_J8_init_2_4 : nth t_J8_init_2 4 = aLdA 1 5 := rfl
theorem n_J8_init_2_5 : nth t_J8_init_2 5 = aCalV 14 0 8 [12] none := rfl
theorem n_J8_init_2_8 : nth t_J8_init_2 8 = aStA 3 9 := rfl
theorem n_J8_init_2_9 : nth t_J8_init_2 9 = aLdA 1 10 := rfl
theorem n_J8_init_2_10 : nth t_J8_init_2 10 = aCalV 22 0 13 [12] none := rfl
theorem n_J8_init_2_13 : nth t_J8_init_2 13 = aStI 4 15 := rfl
theorem n_J8_init_2_15 : nth t_J8_init_2 15 = aLdA 1 16 := rfl
theorem n_J8_init_2_16 : nth t_J8_init_2 16 = aCalV 13 0 19 [12] none := rfl
theorem n_J8_init_2_19 : nth t_J8_init_2 19 = aIfEq 41 22 := rfl
theorem n_J8_init_2_22 : nth t_J8_init_2 22 = aLdA 0 23 := rfl
theorem y_J8_init_2_1 (n : Nat) : nth t_J8_init_2 (n + 23) = nth t_J8_init_2_c1 n := rfl
theorem n_J8_init_2_23 : nth t_J8_init_2 23 = aK (.int 0) 24 := (y_J8_init_2_1 0).trans rfl
theorem n_J8_init_2_24 : nth t_J8_init_2 24 = aPutZ 1 [13] 27 := (y_J8_init_2_1 1).trans rfl
theorem n_J8_init_2_27 : nth t_J8_init_2 27 = aLdA 0 28 := (y_J8_init_2_1 4).trans rfl
theorem n_J8_init_2_28 : nth t_J8_init_2 28 = aLdA 3 29 := (y_J8_init_2_1 5).trans rfl
theorem n_J8_init_2_29 : nth t_J8_init_2 29 = aK (.int 0) 30 := (y_J8_init_2_1 6).trans rfl
theorem n_J8_init_2_30 : nth t_J8_init_2 30 = aLdI 4 32 := (y_J8_init_2_1 7).trans rfl
theorem n_J8_init_2_32 : nth t_J8_init_2 32 = aCalS 1 3 35 none := (y_J8_init_2_1 9).trans rfl
theorem n_J8_init_2_35 : nth t_J8_init_2 35 = aPutR 0 [13] 38 := (y_J8_init_2_1 12).trans rfl
theorem n_J8_init_2_38 : nth t_J8_init_2 38 = aGoto 97 := (y_J8_init_2_1 15).trans rfl
theorem n_J8_init_2_41 : nth t_J8_init_2 41 = aK (.int 1) 44 := (y_J8_init_2_1 18).trans rfl
theorem n_J8_init_2_44 : nth t_J8_init_2 44 = aIfEq 79 47 := (y_J8_init_2_1 21).trans rfl
theorem n_J8_init_2_47 : nth t_J8_init_2 47 = aLdA 1 48 := (y_J8_init_2_1 24).trans rfl
theorem y_J8_init_2_2 (n : Nat) : nth t_J8_init_2 (n + 48) = nth t_J8_init_2_c2 n := (y_J8_init_2_1 (n + 25)).trans rfl
theorem n_J8_init_2_48 : nth t_J8_init_2 48 = aGetI 2 [12] 51 := (y_J8_init_2_2 0).trans rfl
theorem n_J8_init_2_51 : nth t_J8_init_2 51 = aIfEq 79 54 := (y_J8_init_2_2 3).trans rfl
theorem n_J8_init_2_54 : nth t_J8_init_2 54 = aLdA 0 55 := (y_J8_init_2_2 6).trans rfl
theorem n_J8_init_2_55 : nth t_J8_init_2 55 = aLdA 3 56 := (y_J8_init_2_2 7).trans rfl
theorem n_J8_init_2_56 : nth t_J8_init_2 56 = aK (.int 0) 57 := (y_J8_init_2_2 8).trans rfl
theorem n_J8_init_2_57 : nth t_J8_init_2 57 = aLdI 4 59 := (y_J8_init_2_2 9).trans rfl
theorem n_J8_init_2_62 : nth t_J8_init_2 62 = aPutR 0 [13] 65 := (y_J8_init_2_2 14).trans rfl
theorem n_J8_init_2_65 : nth t_J8_init_2 65 = aLdA 0 66 := (y_J8_init_2_2 17).trans rfl
theorem n_J8_init_2_66 : nth t_J8_init_2 66 = aLdA 0 67 := (y_J8_init_2_2 18).trans rfl
theorem n_J8_init_2_67 : nth t_J8_init_2 67 = aGetR 0 [13] 70 := (y_J8_init_2_2 19).trans rfl
theorem n_J8_init_2_70 : nth t_J8_init_2 70 = aLdI 4 72 := (y_J8_init_2_2 22).trans rfl
theorem y_J8_init_2_3 (n : Nat) : nth t_J8_init_2 (n + 72) = nth t_J8_init_2_c3 n := (y_J8_init_2_2 (n + 24)).trans rfl
theorem n_J8_init_2_75 : nth t_J8_init_2 75 = aPutZ 1 [13] 78 := (y_J8_init_2_3 3).trans rfl
theorem n_J8_init_2_78 : nth t_J8_init_2 78 = aRetV := (y_J8_init_2_3 6).trans rfl
theorem n_J8_init_2_79 : nth t_J8_init_2 79 = aLdA 0 80 := (y_J8_init_2_3 7).trans rfl
theorem n_J8_init_2_80 : nth t_J8_init_2 80 = aK (.int 1) 81 := (y_J8_init_2_3 8).trans rfl
theorem n_J8_init_2_81 : nth t_J8_init_2 81 = aPutZ 1 [13] 84 := (y_J8_init_2_3 9).trans rfl
theorem n_J8_init_2_84 : nth t_J8_init_2 84 = aLdA 0 85 := (y_J8_init_2_3 12).trans rfl
theorem n_J8_init_2_85 : nth t_J8_init_2 85 = aLdA 3 86 := (y_J8_init_2_3 13).trans rfl
theorem n_J8_init_2_86 : nth t_J8_init_2 86 = aK (.int 0) 87 := (y_J8_init_2_3 14).trans rfl
theorem n_J8_init_2_87 : nth t_J8_init_2 87 = aLdI 4 89 := (y_J8_init_2_3 15).trans rfl
theorem n_J8_init_2_89 : nth t_J8_init_2 89 = aK (.int 1) 90 := (y_J8_init_2_3 17).trans rfl
theorem n_J8_init_2_90 : nth t_J8_init_2 90 = aB (fun x y => x <<< (y &&& 31)) 91 := (y_J8_init_2_3 18).trans rfl
theorem y_J8_init_2_4 (n : Nat) : nth t_J8_init_2 (n + 91) = nth t_J8_init_2_c4 n := (y_J8_init_2_3 (n + 19)).trans rfl
theorem n_J8_init_2_91 : nth t_J8_init_2 91 = aCalS 1 3 94 none := (y_J8_init_2_4 0).trans rfl
theorem n_J8_init_2_94 : nth t_J8_init_2 94 = aPutR 0 [13] 97 := (y_J8_init_2_4 3).trans rfl
theorem n_J8_init_2_97 : nth t_J8_init_2 97 = aRetV := (y_J8_init_2_4 6).trans rfl
theorem n_J8_equals_0 : nth t_J8_equals 0 = aLdA 0 1 := rfl
theorem n_J8_equals_1 : nth t_J8_equals 1 = aLdA 1 2 := rfl
theorem n_J8_equals_2 : nth t_J8_equals 2 = aAcNe 7 5 := rfl
theorem n_J8_equals_5 : nth t_J8_equals 5 = aK (.int 1) 6 := rfl
theorem n_J8_equals_6 : nth t_J8_equals 6 = aRetZ := rfl
theorem n_J8_equals_7 : nth t_J8_equals 7 = aLdA 1 8 := rfl
theorem n_J8_equals_8 : nth t_J8_equals 8 = aIns 11 := rfl
theorem n_J8_equals_11 : nth t_J8_equals 11 = aIfEq 54 14 := rfl
theorem n_J8_equals_14 : nth t_J8_equals 14 = aLdA 1 15 := rfl
theorem n_J8_equals_15 : nth t_J8_equals 15 = aCst 18 := rfl
theorem n_J8_equals_18 : nth t_J8_equals 18 = aStA 2 19 := rfl
theorem n_J8_equals_19 : nth t_J8_equals 19 = aK (.int 1) 22 := rfl
theorem y_J8_equals_1 (n : Nat) : nth t_J8_equals (n + 22) = nth t_J8_equals_c1 n := rfl
theorem n_J8_equals_22 : nth t_J8_equals 22 = aIfEq 36 25 := (y_J8_equals_1 0).trans rfl
theorem n_J8_equals_25 : nth t_J8_equals 25 = aLdA 0 26 := (y_J8_equals_1 3).trans rfl
theorem n_J8_equals_26 : nth t_J8_equals 26 = aGetI 1 [13] 29 := (y_J8_equals_1 4).trans rfl
theorem n_J8_equals_29 : nth t_J8_equals 29 = aLdA 2 30 := (y_J8_equals_1 7).trans rfl
theorem n_J8_equals_30 : nth t_J8_equals 30 = aGetI 1 [13] 33 := (y_J8_equals_1 8).trans rfl
theorem n_J8_equals_33 : nth t_J8_equals 33 = aIcEq 36 54 := (y_J8_equals_1 11).trans rfl
theorem n_J8_equals_36 : nth t_J8_equals 36 = aLdA 0 37 := (y_J8_equals_1 14).trans rfl
theorem n_J8_equals_37 : nth t_J8_equals 37 = aGetR 0 [13] 40 := (y_J8_equals_1 15).trans rfl
theorem n_J8_equals_40 : nth t_J8_equals 40 = aLdA 2 41 := (y_J8_equals_1 18).trans rfl
theorem n_J8_equals_41 : nth t_J8_equals 41 = aGetR 0 [13] 44 := (y_J8_equals_1 19).trans rfl
theorem n_J8_equals_44 : nth t_J8_equals 44 = aCalS 7 2 47 none := (y_J8_equals_1 22).trans rfl
theorem n_J8_equals_47 : nth t_J8_equals 47 = aIfEq 54 50 := (y_J8_equals_1 25).trans rfl
theorem y_J8_equals_2 (n : Nat) : nth t_J8_equals (n + 50) = nth t_J8_equals_c2 n := (y_J8_equals_1 (n + 28)).trans rfl
theorem n_J8_equals_50 : nth t_J8_equals 50 = aK (.int 1) 51 := (y_J8_equals_2 0).trans rfl
theorem n_J8_equals_51 : nth t_J8_equals 51 = aGoto 55 := (y_J8_equals_2 1).trans rfl
theorem n_J8_equals_54 : nth t_J8_equals 54 = aK (.int 0) 55 := (y_J8_equals_2 4).trans rfl
theorem n_J8_equals_55 : nth t_J8_equals 55 = aRetZ := (y_J8_equals_2 5).trans rfl
theorem n_J8_length_0 : nth t_J8_length 0 = aLdA 0 1 := rfl
theorem n_J8_length_1 : nth t_J8_length 1 = aGetR 0 [13] 4 := rfl
theorem n_J8_length_4 : nth t_J8_length 4 = aLen 5 := rfl
theorem n_J8_length_5 : nth t_J8_length 5 = aLdA 0 6 := rfl
theorem n_J8_length_6 : nth t_J8_length 6 = aCalV 28 0 9 [13] none := rfl
theorem n_J8_length_9 : nth t_J8_length 9 = aB (fun x y => x >>> (y &&& 31)) 10 := rfl
theorem n_J8_length_10 : nth t_J8_length 10 = aRetI := rfl
theorem n_J8_coder_0 : nth t_J8_coder 0 = aK (.int 1) 3 := rfl
theorem n_J8_coder_3 : nth t_J8_coder 3 = aIfEq 13 6 := rfl
theorem n_J8_coder_6 : nth t_J8_coder 6 = aLdA 0 7 := rfl
theorem n_J8_coder_7 : nth t_J8_coder 7 = aGetI 1 [13] 10 := rfl
theorem n_J8_coder_10 : nth t_J8_coder 10 = aGoto 14 := rfl
theorem n_J8_coder_13 : nth t_J8_coder 13 = aK (.int 1) 14 := rfl
theorem n_J8_coder_14 : nth t_J8_coder 14 = aRetZ := rfl
theorem n_J8_getBytes_0 : nth t_J8_getBytes 0 = aLdA 0 1 := rfl
theorem n_J8_getBytes_1 : nth t_J8_getBytes 1 = aCalV 28 0 4 [13] none := rfl
theorem n_J8_getBytes_4 : nth t_J8_getBytes 4 = aLdI 3 5 := rfl
theorem n_J8_getBytes_5 : nth t_J8_getBytes 5 = aIcEq 8 28 := rfl
theorem n_J8_getBytes_8 : nth t_J8_getBytes 8 = aLdA 0 9 := rfl
theorem n_J8_getBytes_9 : nth t_J8_getBytes 9 = aGetR 0 [13] 12 := rfl
theorem n_J8_getBytes_12 : nth t_J8_getBytes 12 = aK (.int 0) 13 := rfl
theorem n_J8_getBytes_13 : nth t_J8_getBytes 13 = aLdA 1 14 := rfl
theorem n_J8_getBytes_14 : nth t_J8_getBytes 14 = aLdI 2 15 := rfl
theorem n_J8_getBytes_15 : nth t_J8_getBytes 15 = aLdI 3 16 := rfl
theorem n_J8_getBytes_16 : nth t_J8_getBytes 16 = aB (fun x y => x <<< (y &&& 31)) 17 := rfl
theorem n_J8_getBytes_17 : nth t_J8_getBytes 17 = aLdA 0 18 := rfl
theorem y_J8_getBytes_1 (n : Nat) : nth t_J8_getBytes (n + 18) = nth t_J8_getBytes_c1 n := rfl
theorem n_J8_getBytes_18 : nth t_J8_getBytes 18 = aGetR 0 [13] 21 := (y_J8_getBytes_1 0).trans rfl
theorem n_J8_getBytes_21 : nth t_J8_getBytes 21 = aLen 22 := (y_J8_getBytes_1 3).trans rfl
theorem n_J8_getBytes_22 : nth t_J8_getBytes 22 = aCopy 25 := (y_J8_getBytes_1 4).trans rfl
theorem n_J8_getBytes_25 : nth t_J8_getBytes 25 = aGoto 43 := (y_J8_getBytes_1 7).trans rfl
theorem n_J8_getBytes_28 : nth t_J8_getBytes 28 = aLdA 0 29 := (y_J8_getBytes_1 10).trans rfl
theorem n_J8_getBytes_29 : nth t_J8_getBytes 29 = aGetR 0 [13] 32 := (y_J8_getBytes_1 11).trans rfl
theorem n_J8_getBytes_32 : nth t_J8_getBytes 32 = aK (.int 0) 33 := (y_J8_getBytes_1 14).trans rfl
theorem n_J8_getBytes_33 : nth t_J8_getBytes 33 = aLdA 1 34 := (y_J8_getBytes_1 15).trans rfl
theorem n_J8_getBytes_34 : nth t_J8_getBytes 34 = aLdI 2 35 := (y_J8_getBytes_1 16).trans rfl
theorem n_J8_getBytes_35 : nth t_J8_getBytes 35 = aLdA 0 36 := (y_J8_getBytes_1 17).trans rfl
theorem n_J8_getBytes_36 : nth t_J8_getBytes 36 = aGetR 0 [13] 39 := (y_J8_getBytes_1 18).trans rfl
theorem n_J8_getBytes_39 : nth t_J8_getBytes 39 = aLen 40 := (y_J8_getBytes_1 21).trans rfl
theorem y_J8_getBytes_2 (n : Nat) : nth t_J8_getBytes (n + 40) = nth t_J8_getBytes_c2 n := (y_J8_getBytes_1 (n + 22)).trans rfl
theorem n_J8_getBytes_43 : nth t_J8_getBytes 43 = aRetV := (y_J8_getBytes_2 3).trans rfl
theorem n_J8_indexOf_0 : nth t_J8_indexOf 0 = aLdA 0 1 := rfl
theorem n_J8_indexOf_1 : nth t_J8_indexOf 1 = aCalV 28 0 4 [13] none := rfl
theorem n_J8_indexOf_4 : nth t_J8_indexOf 4 = aStI 2 5 := rfl
theorem n_J8_indexOf_5 : nth t_J8_indexOf 5 = aLdI 2 6 := rfl
theorem n_J8_indexOf_6 : nth t_J8_indexOf 6 = aLdA 1 7 := rfl
theorem n_J8_indexOf_7 : nth t_J8_indexOf 7 = aCalV 28 0 10 [13] none := rfl
theorem n_J8_indexOf_10 : nth t_J8_indexOf 10 = aIcEq 13 46 := rfl
theorem n_J8_indexOf_13 : nth t_J8_indexOf 13 = aLdA 0 14 := rfl
theorem n_J8_indexOf_14 : nth t_J8_indexOf 14 = aCalV 31 0 17 [13] none := rfl
theorem n_J8_indexOf_17 : nth t_J8_indexOf 17 = aIfEq 34 20 := rfl
theorem n_J8_indexOf_20 : nth t_J8_indexOf 20 = aLdA 0 21 := rfl
theorem n_J8_indexOf_21 : nth t_J8_indexOf 21 = aGetR 0 [13] 24 := rfl
theorem y_J8_indexOf_1 (n : Nat) : nth t_J8_indexOf (n + 24) = nth t_J8_indexOf_c1 n := rfl
theorem n_J8_indexOf_24 : nth t_J8_indexOf 24 = aLdA 1 25 := (y_J8_indexOf_1 0).trans rfl
theorem n_J8_indexOf_25 : nth t_J8_indexOf 25 = aGetR 0 [13] 28 := (y_J8_indexOf_1 1).trans rfl
theorem n_J8_indexOf_28 : nth t_J8_indexOf 28 = aCalS 8 2 31 none := (y_J8_indexOf_1 4).trans rfl
theorem n_J8_indexOf_31 : nth t_J8_indexOf 31 = aGoto 45 := (y_J8_indexOf_1 7).trans rfl
theorem n_J8_indexOf_34 : nth t_J8_indexOf 34 = aLdA 0 35 := (y_J8_indexOf_1 10).trans rfl
theorem n_J8_indexOf_35 : nth t_J8_indexOf 35 = aGetR 0 [13] 38 := (y_J8_indexOf_1 11).trans rfl
theorem n_J8_indexOf_38 : nth t_J8_indexOf 38 = aLdA 1 39 := (y_J8_indexOf_1 14).trans rfl
theorem n_J8_indexOf_39 : nth t_J8_indexOf 39 = aGetR 0 [13] 42 := (y_J8_indexOf_1 15).trans rfl
theorem n_J8_indexOf_45 : nth t_J8_indexOf 45 = aRetI := (y_J8_indexOf_1 21).trans rfl
theorem n_J8_indexOf_46 : nth t_J8_indexOf 46 = aLdI 2 47 := (y_J8_indexOf_1 22).trans rfl
theorem n_J8_indexOf_47 : nth t_J8_indexOf 47 = aIfEq 50 52 := (y_J8_indexOf_1 23).trans rfl
theorem y_J8_indexOf_2 (n : Nat) : nth t_J8_indexOf (n + 50) = nth t_J8_indexOf_c2 n := (y_J8_indexOf_1 (n + 26)).trans rfl
theorem n_J8_indexOf_50 : nth t_J8_indexOf 50 = aK (.int (-1)) 51 := (y_J8_indexOf_2 0).trans rfl
theorem n_J8_indexOf_51 : nth t_J8_indexOf 51 = aRetI := (y_J8_indexOf_2 1).trans rfl
theorem n_J8_indexOf_52 : nth t_J8_indexOf 52 = aLdA 0 53 := (y_J8_indexOf_2 2).trans rfl
theorem n_J8_indexOf_53 : nth t_J8_indexOf 53 = aGetR 0 [13] 56 := (y_J8_indexOf_2 3).trans rfl
theorem n_J8_indexOf_56 : nth t_J8_indexOf 56 = aLdA 1 57 := (y_J8_indexOf_2 6).trans rfl
theorem n_J8_indexOf_57 : nth t_J8_indexOf 57 = aGetR 0 [13] 60 := (y_J8_indexOf_2 7).trans rfl
theorem n_J8_indexOf_63 : nth t_J8_indexOf 63 = aRetI := (y_J8_indexOf_2 13).trans rfl
theorem n_J8_isLatin1_0 : nth t_J8_isLatin1 0 = aK (.int 1) 3 := rfl
theorem n_J8_isLatin1_3 : nth t_J8_isLatin1 3 = aIfEq 17 6 := rfl
theorem n_J8_isLatin1_6 : nth t_J8_isLatin1 6 = aLdA 0 7 := rfl
theorem n_J8_isLatin1_7 : nth t_J8_isLatin1 7 = aGetI 1 [13] 10 := rfl
theorem n_J8_isLatin1_10 : nth t_J8_isLatin1 10 = aIfEq 13 17 := rfl
theorem n_J8_isLatin1_13 : nth t_J8_isLatin1 13 = aK (.int 1) 14 := rfl
theorem n_J8_isLatin1_14 : nth t_J8_isLatin1 14 = aGoto 18 := rfl
theorem n_J8_isLatin1_17 : nth t_J8_isLatin1 17 = aK (.int 0) 18 := rfl
theorem n_J8_isLatin1_18 : nth t_J8_isLatin1 18 = aRetZ := rfl
theorem n_X0_column_0 : nth t_X0_column 0 = aLdA 4 2 := rfl
theorem n_X0_column_2 : nth t_X0_column 2 = aK (.int 0) 3 := rfl
theorem n_X0_column_3 : nth t_X0_column 3 = aLdA 0 4 := rfl
theorem n_X0_column_4 : nth t_X0_column 4 = aLdI 1 5 := rfl
theorem n_X0_column_5 : nth t_X0_column 5 = aLdI 2 6 := rfl
theorem n_X0_column_6 : nth t_X0_column 6 = aLdI 3 7 := rfl
theorem n_X0_column_7 : nth t_X0_column 7 = aCalV 96 3 10 [0] (some (15, 11)) := rfl
theorem n_X0_column_10 : nth t_X0_column 10 = aI2L 11 := rfl
theorem n_X0_column_11 : nth t_X0_column 11 = aAstL 12 := rfl
theorem n_X0_column_12 : nth t_X0_column 12 = aGoto 19 := rfl
theorem n_X0_column_15 : nth t_X0_column 15 = aStA 5 17 := rfl
theorem n_X0_column_17 : nth t_X0_column 17 = aK (.int 1) 18 := rfl
theorem y_X0_column_1 (n : Nat) : nth t_X0_column (n + 18) = nth t_X0_column_c1 n := rfl
theorem n_X0_column_18 : nth t_X0_column 18 = aRetI := (y_X0_column_1 0).trans rfl
theorem n_X0_column_19 : nth t_X0_column 19 = aK (.int 0) 20 := (y_X0_column_1 1).trans rfl
theorem n_X0_column_20 : nth t_X0_column 20 = aRetI := (y_X0_column_1 2).trans rfl
theorem n_X0_bar_0 : nth t_X0_bar 0 = aLdA 3 1 := rfl
theorem n_X0_bar_1 : nth t_X0_bar 1 = aK (.int 0) 2 := rfl
theorem n_X0_bar_2 : nth t_X0_bar 2 = aLdA 0 3 := rfl
theorem n_X0_bar_3 : nth t_X0_bar 3 = aLdI 1 4 := rfl
theorem n_X0_bar_4 : nth t_X0_bar 4 = aLdI 2 5 := rfl
theorem n_X0_bar_5 : nth t_X0_bar 5 = aCalV 98 2 8 [0] (some (13, 11)) := rfl
theorem n_X0_bar_8 : nth t_X0_bar 8 = aI2L 9 := rfl
theorem n_X0_bar_9 : nth t_X0_bar 9 = aAstL 10 := rfl
theorem n_X0_bar_10 : nth t_X0_bar 10 = aGoto 17 := rfl
theorem n_X0_bar_13 : nth t_X0_bar 13 = aStA 4 15 := rfl
theorem n_X0_bar_15 : nth t_X0_bar 15 = aK (.int 1) 16 := rfl
theorem n_X0_bar_16 : nth t_X0_bar 16 = aRetI := rfl
theorem y_X0_bar_1 (n : Nat) : nth t_X0_bar (n + 17) = nth t_X0_bar_c1 n := rfl
theorem n_X0_bar_17 : nth t_X0_bar 17 = aK (.int 0) 18 := (y_X0_bar_1 0).trans rfl
theorem n_X0_bar_18 : nth t_X0_bar 18 = aRetI := (y_X0_bar_1 1).trans rfl
theorem n_X0_wheel_0 : nth t_X0_wheel 0 = aLdA 2 1 := rfl
theorem n_X0_wheel_1 : nth t_X0_wheel 1 = aK (.int 0) 2 := rfl
theorem n_X0_wheel_2 : nth t_X0_wheel 2 = aLdA 0 3 := rfl
theorem n_X0_wheel_3 : nth t_X0_wheel 3 = aLdI 1 4 := rfl
theorem n_X0_wheel_4 : nth t_X0_wheel 4 = aCalV 99 1 7 [0] (some (12, 11)) := rfl
theorem n_X0_wheel_7 : nth t_X0_wheel 7 = aI2L 8 := rfl
theorem n_X0_wheel_8 : nth t_X0_wheel 8 = aAstL 9 := rfl
theorem n_X0_wheel_9 : nth t_X0_wheel 9 = aGoto 15 := rfl
theorem n_X0_wheel_12 : nth t_X0_wheel 12 = aStA 3 13 := rfl
theorem n_X0_wheel_13 : nth t_X0_wheel 13 = aK (.int 1) 14 := rfl
theorem n_X0_wheel_14 : nth t_X0_wheel 14 = aRetI := rfl
theorem n_X0_wheel_15 : nth t_X0_wheel 15 = aK (.int 0) 16 := rfl
theorem y_X0_wheel_1 (n : Nat) : nth t_X0_wheel (n + 16) = nth t_X0_wheel_c1 n := rfl
theorem n_X0_wheel_16 : nth t_X0_wheel 16 = aRetI := (y_X0_wheel_1 0).trans rfl
theorem n_X0_wantedAt_0 : nth t_X0_wantedAt 0 = aLdA 3 1 := rfl
theorem n_X0_wantedAt_1 : nth t_X0_wantedAt 1 = aK (.int 0) 2 := rfl
theorem n_X0_wantedAt_2 : nth t_X0_wantedAt 2 = aLdA 0 3 := rfl
theorem n_X0_wantedAt_3 : nth t_X0_wantedAt 3 = aLdI 1 4 := rfl
theorem n_X0_wantedAt_4 : nth t_X0_wantedAt 4 = aLdI 2 5 := rfl
theorem n_X0_wantedAt_5 : nth t_X0_wantedAt 5 = aCalV 100 2 8 [0] (some (13, 11)) := rfl
theorem n_X0_wantedAt_8 : nth t_X0_wantedAt 8 = aI2L 9 := rfl
theorem n_X0_wantedAt_9 : nth t_X0_wantedAt 9 = aAstL 10 := rfl
theorem n_X0_wantedAt_10 : nth t_X0_wantedAt 10 = aGoto 17 := rfl
theorem n_X0_wantedAt_13 : nth t_X0_wantedAt 13 = aStA 4 15 := rfl
theorem n_X0_wantedAt_15 : nth t_X0_wantedAt 15 = aK (.int 1) 16 := rfl
theorem n_X0_wantedAt_16 : nth t_X0_wantedAt 16 = aRetI := rfl
theorem y_X0_wantedAt_1 (n : Nat) : nth t_X0_wantedAt (n + 17) = nth t_X0_wantedAt_c1 n := rfl
theorem n_X0_wantedAt_17 : nth t_X0_wantedAt 17 = aK (.int 0) 18 := (y_X0_wantedAt_1 0).trans rfl
theorem n_X0_wantedAt_18 : nth t_X0_wantedAt 18 = aRetI := (y_X0_wantedAt_1 1).trans rfl
theorem n_X10_init_0 : nth t_X10_init 0 = aLdA 0 1 := rfl
theorem n_X10_init_4 : nth t_X10_init 4 = aLdA 0 5 := rfl
theorem n_X10_init_5 : nth t_X10_init 5 = aLdI 1 6 := rfl
theorem n_X10_init_6 : nth t_X10_init 6 = aPutI 6 [8] 9 := rfl
theorem n_X10_init_9 : nth t_X10_init 9 = aLdA 0 10 := rfl
theorem n_X10_init_10 : nth t_X10_init 10 = aLdI 2 11 := rfl
theorem n_X10_init_11 : nth t_X10_init 11 = aPutI 7 [8] 14 := rfl
theorem n_X10_init_14 : nth t_X10_init 14 = aRetV := rfl
theorem n_X11_init_0 : nth t_X11_init 0 = aLdA 0 1 := rfl
theorem n_X11_init_1 : nth t_X11_init 1 = aLdA 1 2 := rfl
theorem n_X11_init_2 : nth t_X11_init 2 = aLdI 2 3 := rfl
theorem n_X11_init_3 : nth t_X11_init 3 = aK (.int 300) 6 := rfl
theorem n_X11_init_6 : nth t_X11_init 6 = aCalI 248 3 9 none := rfl
theorem n_X11_init_9 : nth t_X11_init 9 = aLdA 0 10 := rfl
theorem n_X11_init_10 : nth t_X11_init 10 = aNew 4 10 13 := rfl
theorem n_X11_init_13 : nth t_X11_init 13 = aDup 14 := rfl
theorem n_X11_init_14 : nth t_X11_init 14 = aCalI 141 0 17 none := rfl
theorem n_X11_init_17 : nth t_X11_init 17 = aPutR 9 [9] 20 := rfl
theorem n_X11_init_20 : nth t_X11_init 20 = aRetV := rfl
theorem n_X11_read_0 : nth t_X11_read 0 = aLdA 0 1 := rfl
theorem n_X11_read_1 : nth t_X11_read 1 = aCalV 249 0 4 [9] none := rfl
theorem n_X11_read_4 : nth t_X11_read 4 = aLdA 0 5 := rfl
theorem n_X11_read_5 : nth t_X11_read 5 = aGetI 4 [9] 8 := rfl
theorem n_X11_read_8 : nth t_X11_read 8 = aIfEq 108 11 := rfl
theorem n_X11_read_11 : nth t_X11_read 11 = aLdA 0 12 := rfl
theorem n_X11_read_12 : nth t_X11_read 12 = aLdA 0 13 := rfl
theorem n_X11_read_13 : nth t_X11_read 13 = aK (.ref 2) 15 := rfl
theorem n_X11_read_15 : nth t_X11_read 15 = aCalV 258 1 18 [9] none := rfl
theorem n_X11_read_18 : nth t_X11_read 18 = aIfEq 21 48 := rfl
theorem n_X11_read_21 : nth t_X11_read 21 = aLdA 0 22 := rfl
theorem n_X11_read_22 : nth t_X11_read 22 = aK (.ref 3) 24 := rfl
theorem y_X11_read_1 (n : Nat) : nth t_X11_read (n + 24) = nth t_X11_read_c1 n := rfl
theorem n_X11_read_24 : nth t_X11_read 24 = aCalV 258 1 27 [9] none := (y_X11_read_1 0).trans rfl
theorem n_X11_read_27 : nth t_X11_read 27 = aIfEq 30 48 := (y_X11_read_1 3).trans rfl
theorem n_X11_read_30 : nth t_X11_read 30 = aLdA 0 31 := (y_X11_read_1 6).trans rfl
theorem n_X11_read_31 : nth t_X11_read 31 = aK (.ref 4) 33 := (y_X11_read_1 7).trans rfl
theorem n_X11_read_33 : nth t_X11_read 33 = aCalV 258 1 36 [9] none := (y_X11_read_1 9).trans rfl
theorem n_X11_read_36 : nth t_X11_read 36 = aIfEq 39 48 := (y_X11_read_1 12).trans rfl
theorem n_X11_read_39 : nth t_X11_read 39 = aLdA 0 40 := (y_X11_read_1 15).trans rfl
theorem n_X11_read_40 : nth t_X11_read 40 = aK (.ref 5) 42 := (y_X11_read_1 16).trans rfl
theorem n_X11_read_42 : nth t_X11_read 42 = aCalV 258 1 45 [9] none := (y_X11_read_1 18).trans rfl
theorem n_X11_read_45 : nth t_X11_read 45 = aIfEq 52 48 := (y_X11_read_1 21).trans rfl
theorem n_X11_read_48 : nth t_X11_read 48 = aK (.int 1) 49 := (y_X11_read_1 24).trans rfl
theorem n_X11_read_49 : nth t_X11_read 49 = aGoto 53 := (y_X11_read_1 25).trans rfl
theorem y_X11_read_2 (n : Nat) : nth t_X11_read (n + 52) = nth t_X11_read_c2 n := (y_X11_read_1 (n + 28)).trans rfl
theorem n_X11_read_52 : nth t_X11_read 52 = aK (.int 0) 53 := (y_X11_read_2 0).trans rfl
theorem n_X11_read_53 : nth t_X11_read 53 = aK (.int 1) 54 := (y_X11_read_2 1).trans rfl
theorem n_X11_read_54 : nth t_X11_read 54 = aCalV 255 2 57 [9] none := (y_X11_read_2 2).trans rfl
theorem n_X11_read_57 : nth t_X11_read 57 = aLdA 0 58 := (y_X11_read_2 5).trans rfl
theorem n_X11_read_58 : nth t_X11_read 58 = aK (.ref 2) 60 := (y_X11_read_2 6).trans rfl
theorem n_X11_read_60 : nth t_X11_read 60 = aCalV 258 1 63 [9] none := (y_X11_read_2 8).trans rfl
theorem n_X11_read_63 : nth t_X11_read 63 = aIfEq 73 66 := (y_X11_read_2 11).trans rfl
theorem n_X11_read_66 : nth t_X11_read 66 = aLdA 0 67 := (y_X11_read_2 14).trans rfl
theorem n_X11_read_67 : nth t_X11_read 67 = aCalV 104 0 70 [9] none := (y_X11_read_2 15).trans rfl
theorem n_X11_read_70 : nth t_X11_read 70 = aGoto 99 := (y_X11_read_2 18).trans rfl
theorem n_X11_read_73 : nth t_X11_read 73 = aLdA 0 74 := (y_X11_read_2 21).trans rfl
theorem n_X11_read_74 : nth t_X11_read 74 = aK (.ref 3) 76 := (y_X11_read_2 22).trans rfl
theorem y_X11_read_3 (n : Nat) : nth t_X11_read (n + 76) = nth t_X11_read_c3 n := (y_X11_read_2 (n + 24)).trans rfl
theorem n_X11_read_76 : nth t_X11_read 76 = aCalV 258 1 79 [9] none := (y_X11_read_3 0).trans rfl
theorem n_X11_read_79 : nth t_X11_read 79 = aIfEq 89 82 := (y_X11_read_3 3).trans rfl
theorem n_X11_read_82 : nth t_X11_read 82 = aLdA 0 83 := (y_X11_read_3 6).trans rfl
theorem n_X11_read_83 : nth t_X11_read 83 = aCalV 106 0 86 [9] none := (y_X11_read_3 7).trans rfl
theorem n_X11_read_86 : nth t_X11_read 86 = aGoto 99 := (y_X11_read_3 10).trans rfl
theorem n_X11_read_89 : nth t_X11_read 89 = aLdA 0 90 := (y_X11_read_3 13).trans rfl
theorem n_X11_read_90 : nth t_X11_read 90 = aLdA 0 91 := (y_X11_read_3 14).trans rfl
theorem n_X11_read_91 : nth t_X11_read 91 = aK (.ref 4) 93 := (y_X11_read_3 15).trans rfl
theorem n_X11_read_93 : nth t_X11_read 93 = aCalV 258 1 96 [9] none := (y_X11_read_3 17).trans rfl
theorem n_X11_read_96 : nth t_X11_read 96 = aCalV 107 1 99 [9] none := (y_X11_read_3 20).trans rfl
theorem n_X11_read_99 : nth t_X11_read 99 = aLdA 0 100 := (y_X11_read_3 23).trans rfl
theorem n_X11_read_100 : nth t_X11_read 100 = aK (.int 59) 102 := (y_X11_read_3 24).trans rfl
theorem y_X11_read_4 (n : Nat) : nth t_X11_read (n + 102) = nth t_X11_read_c4 n := (y_X11_read_3 (n + 26)).trans rfl
theorem n_X11_read_102 : nth t_X11_read 102 = aCalV 257 1 105 [9] none := (y_X11_read_4 0).trans rfl
theorem n_X11_read_105 : nth t_X11_read 105 = aGoto 4 := (y_X11_read_4 3).trans rfl
theorem n_X11_read_108 : nth t_X11_read 108 = aLdA 0 109 := (y_X11_read_4 6).trans rfl
theorem n_X11_read_109 : nth t_X11_read 109 = aGetR 9 [9] 112 := (y_X11_read_4 7).trans rfl
theorem n_X11_read_112 : nth t_X11_read 112 = aRetA := (y_X11_read_4 10).trans rfl
theorem n_X11_field_0 : nth t_X11_field 0 = aLdA 0 1 := rfl
theorem n_X11_field_1 : nth t_X11_field 1 = aLdA 0 2 := rfl
theorem n_X11_field_2 : nth t_X11_field 2 = aGetR 9 [9] 5 := rfl
theorem n_X11_field_5 : nth t_X11_field 5 = aGetI 8 [4] 8 := rfl
theorem n_X11_field_8 : nth t_X11_field 8 = aK (.int 6) 10 := rfl
theorem n_X11_field_10 : nth t_X11_field 10 = aIcLt 13 17 := rfl
theorem n_X11_field_13 : nth t_X11_field 13 = aK (.int 1) 14 := rfl
theorem n_X11_field_14 : nth t_X11_field 14 = aGoto 18 := rfl
theorem n_X11_field_17 : nth t_X11_field 17 = aK (.int 0) 18 := rfl
theorem n_X11_field_18 : nth t_X11_field 18 = aK (.int 4) 19 := rfl
theorem n_X11_field_19 : nth t_X11_field 19 = aCalV 255 2 22 [9] none := rfl
theorem n_X11_field_22 : nth t_X11_field 22 = aLdA 0 23 := rfl
theorem y_X11_field_1 (n : Nat) : nth t_X11_field (n + 23) = nth t_X11_field_c1 n := rfl
theorem n_X11_field_23 : nth t_X11_field 23 = aCalV 249 0 26 [9] none := (y_X11_field_1 0).trans rfl
theorem n_X11_field_26 : nth t_X11_field 26 = aLdA 0 27 := (y_X11_field_1 3).trans rfl
theorem n_X11_field_27 : nth t_X11_field 27 = aLdA 0 28 := (y_X11_field_1 4).trans rfl
theorem n_X11_field_28 : nth t_X11_field 28 = aCalV 105 0 31 [9] none := (y_X11_field_1 5).trans rfl
theorem n_X11_field_31 : nth t_X11_field 31 = aK (.int 1) 32 := (y_X11_field_1 8).trans rfl
theorem n_X11_field_32 : nth t_X11_field 32 = aCalV 255 2 35 [9] none := (y_X11_field_1 9).trans rfl
theorem n_X11_field_35 : nth t_X11_field 35 = aLdA 0 36 := (y_X11_field_1 12).trans rfl
theorem n_X11_field_36 : nth t_X11_field 36 = aLdA 0 37 := (y_X11_field_1 13).trans rfl
theorem n_X11_field_37 : nth t_X11_field 37 = aGetR 9 [9] 40 := (y_X11_field_1 14).trans rfl
theorem n_X11_field_40 : nth t_X11_field 40 = aLdA 0 41 := (y_X11_field_1 17).trans rfl
theorem n_X11_field_41 : nth t_X11_field 41 = aGetR 8 [9] 44 := (y_X11_field_1 18).trans rfl
theorem n_X11_field_44 : nth t_X11_field 44 = aCalV 142 1 47 [4] none := (y_X11_field_1 21).trans rfl
theorem y_X11_field_2 (n : Nat) : nth t_X11_field (n + 47) = nth t_X11_field_c2 n := (y_X11_field_1 (n + 24)).trans rfl
theorem n_X11_field_47 : nth t_X11_field 47 = aK (.int (-1)) 48 := (y_X11_field_2 0).trans rfl
theorem n_X11_field_48 : nth t_X11_field 48 = aIcEq 51 55 := (y_X11_field_2 1).trans rfl
theorem n_X11_field_51 : nth t_X11_field 51 = aK (.int 1) 52 := (y_X11_field_2 4).trans rfl
theorem n_X11_field_52 : nth t_X11_field 52 = aGoto 56 := (y_X11_field_2 5).trans rfl
theorem n_X11_field_55 : nth t_X11_field 55 = aK (.int 0) 56 := (y_X11_field_2 8).trans rfl
theorem n_X11_field_56 : nth t_X11_field 56 = aK (.int 3) 57 := (y_X11_field_2 9).trans rfl
theorem n_X11_field_57 : nth t_X11_field 57 = aCalV 255 2 60 [9] none := (y_X11_field_2 10).trans rfl
theorem n_X11_field_60 : nth t_X11_field 60 = aLdA 0 61 := (y_X11_field_2 13).trans rfl
theorem n_X11_field_61 : nth t_X11_field 61 = aGetR 8 [9] 64 := (y_X11_field_2 14).trans rfl
theorem n_X11_field_64 : nth t_X11_field 64 = aStA 1 65 := (y_X11_field_2 17).trans rfl
theorem n_X11_field_65 : nth t_X11_field 65 = aLdA 0 66 := (y_X11_field_2 18).trans rfl
theorem n_X11_field_66 : nth t_X11_field 66 = aCalV 249 0 69 [9] none := (y_X11_field_2 19).trans rfl
theorem y_X11_field_3 (n : Nat) : nth t_X11_field (n + 69) = nth t_X11_field_c3 n := (y_X11_field_2 (n + 22)).trans rfl
theorem n_X11_field_69 : nth t_X11_field 69 = aLdA 0 70 := (y_X11_field_3 0).trans rfl
theorem n_X11_field_70 : nth t_X11_field 70 = aK (.int 1) 71 := (y_X11_field_3 1).trans rfl
theorem n_X11_field_71 : nth t_X11_field 71 = aK (.int 20) 73 := (y_X11_field_3 2).trans rfl
theorem n_X11_field_73 : nth t_X11_field 73 = aCalV 256 2 76 [9] none := (y_X11_field_3 4).trans rfl
theorem n_X11_field_76 : nth t_X11_field 76 = aStI 2 77 := (y_X11_field_3 7).trans rfl
theorem n_X11_field_77 : nth t_X11_field 77 = aLdA 0 78 := (y_X11_field_3 8).trans rfl
theorem n_X11_field_78 : nth t_X11_field 78 = aLdI 2 79 := (y_X11_field_3 9).trans rfl
theorem n_X11_field_79 : nth t_X11_field 79 = aK (.int 20) 81 := (y_X11_field_3 10).trans rfl
theorem n_X11_field_81 : nth t_X11_field 81 = aLdI 2 82 := (y_X11_field_3 12).trans rfl
theorem n_X11_field_82 : nth t_X11_field 82 = aK (.int 5) 83 := (y_X11_field_3 13).trans rfl
theorem n_X11_field_83 : nth t_X11_field 83 = aB (fun x y => x + y) 84 := (y_X11_field_3 14).trans rfl
theorem n_X11_field_84 : nth t_X11_field 84 = aMin 87 := (y_X11_field_3 15).trans rfl
theorem y_X11_field_4 (n : Nat) : nth t_X11_field (n + 87) = nth t_X11_field_c4 n := (y_X11_field_3 (n + 18)).trans rfl
theorem n_X11_field_87 : nth t_X11_field 87 = aCalV 256 2 90 [9] none := (y_X11_field_4 0).trans rfl
theorem n_X11_field_90 : nth t_X11_field 90 = aStI 3 91 := (y_X11_field_4 3).trans rfl
theorem n_X11_field_91 : nth t_X11_field 91 = aLdA 0 92 := (y_X11_field_4 4).trans rfl
theorem n_X11_field_92 : nth t_X11_field 92 = aGetR 9 [9] 95 := (y_X11_field_4 5).trans rfl
theorem n_X11_field_95 : nth t_X11_field 95 = aGetR 0 [4] 98 := (y_X11_field_4 8).trans rfl
theorem n_X11_field_98 : nth t_X11_field 98 = aLdA 0 99 := (y_X11_field_4 11).trans rfl
theorem n_X11_field_99 : nth t_X11_field 99 = aGetR 9 [9] 102 := (y_X11_field_4 12).trans rfl
theorem n_X11_field_102 : nth t_X11_field 102 = aGetI 8 [4] 105 := (y_X11_field_4 15).trans rfl
theorem n_X11_field_105 : nth t_X11_field 105 = aLdA 1 106 := (y_X11_field_4 18).trans rfl
theorem n_X11_field_106 : nth t_X11_field 106 = aAstA 107 := (y_X11_field_4 19).trans rfl
theorem n_X11_field_107 : nth t_X11_field 107 = aLdA 0 108 := (y_X11_field_4 20).trans rfl
theorem n_X11_field_108 : nth t_X11_field 108 = aGetR 9 [9] 111 := (y_X11_field_4 21).trans rfl
theorem y_X11_field_5 (n : Nat) : nth t_X11_field (n + 111) = nth t_X11_field_c5 n := (y_X11_field_4 (n + 24)).trans rfl
theorem n_X11_field_111 : nth t_X11_field 111 = aGetR 1 [4] 114 := (y_X11_field_5 0).trans rfl
theorem n_X11_field_114 : nth t_X11_field 114 = aLdA 0 115 := (y_X11_field_5 3).trans rfl
theorem n_X11_field_115 : nth t_X11_field 115 = aGetR 9 [9] 118 := (y_X11_field_5 4).trans rfl
theorem n_X11_field_118 : nth t_X11_field 118 = aGetI 8 [4] 121 := (y_X11_field_5 7).trans rfl
theorem n_X11_field_121 : nth t_X11_field 121 = aLdI 2 122 := (y_X11_field_5 10).trans rfl
theorem n_X11_field_122 : nth t_X11_field 122 = aAstI 123 := (y_X11_field_5 11).trans rfl
theorem n_X11_field_123 : nth t_X11_field 123 = aLdA 0 124 := (y_X11_field_5 12).trans rfl
theorem n_X11_field_124 : nth t_X11_field 124 = aGetR 9 [9] 127 := (y_X11_field_5 13).trans rfl
theorem n_X11_field_127 : nth t_X11_field 127 = aGetR 2 [4] 130 := (y_X11_field_5 16).trans rfl
theorem n_X11_field_130 : nth t_X11_field 130 = aLdA 0 131 := (y_X11_field_5 19).trans rfl
theorem n_X11_field_131 : nth t_X11_field 131 = aGetR 9 [9] 134 := (y_X11_field_5 20).trans rfl
theorem n_X11_field_134 : nth t_X11_field 134 = aGetI 8 [4] 137 := (y_X11_field_5 23).trans rfl
theorem y_X11_field_6 (n : Nat) : nth t_X11_field (n + 137) = nth t_X11_field_c6 n := (y_X11_field_5 (n + 26)).trans rfl
theorem n_X11_field_137 : nth t_X11_field 137 = aLdI 3 138 := (y_X11_field_6 0).trans rfl
theorem n_X11_field_138 : nth t_X11_field 138 = aAstI 139 := (y_X11_field_6 1).trans rfl
theorem n_X11_field_139 : nth t_X11_field 139 = aLdA 0 140 := (y_X11_field_6 2).trans rfl
theorem n_X11_field_140 : nth t_X11_field 140 = aGetR 9 [9] 143 := (y_X11_field_6 3).trans rfl
theorem n_X11_field_143 : nth t_X11_field 143 = aDup 144 := (y_X11_field_6 6).trans rfl
theorem n_X11_field_144 : nth t_X11_field 144 = aGetI 8 [4] 147 := (y_X11_field_6 7).trans rfl
theorem n_X11_field_147 : nth t_X11_field 147 = aK (.int 1) 148 := (y_X11_field_6 10).trans rfl
theorem n_X11_field_148 : nth t_X11_field 148 = aB (fun x y => x + y) 149 := (y_X11_field_6 11).trans rfl
theorem n_X11_field_149 : nth t_X11_field 149 = aPutI 8 [4] 152 := (y_X11_field_6 12).trans rfl
theorem n_X11_field_152 : nth t_X11_field 152 = aRetV := (y_X11_field_6 15).trans rfl
theorem n_X11_isName_0 : nth t_X11_isName 0 = aLdA 0 1 := rfl
theorem n_X11_isName_1 : nth t_X11_isName 1 = aGetI 4 [9] 4 := rfl
theorem n_X11_isName_4 : nth t_X11_isName 4 = aK (.int 2) 5 := rfl
theorem n_X11_isName_5 : nth t_X11_isName 5 = aIcEq 8 47 := rfl
theorem n_X11_isName_8 : nth t_X11_isName 8 = aK (.ref 6) 10 := rfl
theorem n_X11_isName_10 : nth t_X11_isName 10 = aNew 12 4 13 := rfl
theorem n_X11_isName_13 : nth t_X11_isName 13 = aDup 14 := rfl
theorem n_X11_isName_14 : nth t_X11_isName 14 = aCalI 19 0 17 none := rfl
theorem n_X11_isName_17 : nth t_X11_isName 17 = aK (.ref 7) 19 := rfl
theorem n_X11_isName_19 : nth t_X11_isName 19 = aCalV 23 1 22 [12] none := rfl
theorem n_X11_isName_22 : nth t_X11_isName 22 = aLdA 0 23 := rfl
theorem n_X11_isName_23 : nth t_X11_isName 23 = aGetR 8 [9] 26 := rfl
theorem y_X11_isName_1 (n : Nat) : nth t_X11_isName (n + 26) = nth t_X11_isName_c1 n := rfl
theorem n_X11_isName_26 : nth t_X11_isName 26 = aCalV 23 1 29 [12] none := (y_X11_isName_1 0).trans rfl
theorem n_X11_isName_29 : nth t_X11_isName 29 = aK (.ref 7) 31 := (y_X11_isName_1 3).trans rfl
theorem n_X11_isName_31 : nth t_X11_isName 31 = aCalV 23 1 34 [12] none := (y_X11_isName_1 5).trans rfl
theorem n_X11_isName_34 : nth t_X11_isName 34 = aCalV 21 0 37 [12] none := (y_X11_isName_1 8).trans rfl
theorem n_X11_isName_37 : nth t_X11_isName 37 = aCalV 30 1 40 [13] none := (y_X11_isName_1 11).trans rfl
theorem n_X11_isName_40 : nth t_X11_isName 40 = aIfLt 43 47 := (y_X11_isName_1 14).trans rfl
theorem n_X11_isName_43 : nth t_X11_isName 43 = aK (.int 1) 44 := (y_X11_isName_1 17).trans rfl
theorem n_X11_isName_44 : nth t_X11_isName 44 = aGoto 48 := (y_X11_isName_1 18).trans rfl
theorem n_X11_isName_47 : nth t_X11_isName 47 = aK (.int 0) 48 := (y_X11_isName_1 21).trans rfl
theorem n_X11_isName_48 : nth t_X11_isName 48 = aRetZ := (y_X11_isName_1 22).trans rfl
theorem n_X11_breaks_0 : nth t_X11_breaks 0 = aLdA 0 1 := rfl
theorem n_X11_breaks_1 : nth t_X11_breaks 1 = aCalV 249 0 4 [9] none := rfl
theorem n_X11_breaks_4 : nth t_X11_breaks 4 = aLdA 0 5 := rfl
theorem n_X11_breaks_5 : nth t_X11_breaks 5 = aK (.int 1) 6 := rfl
theorem n_X11_breaks_6 : nth t_X11_breaks 6 = aK (.int 20) 8 := rfl
theorem n_X11_breaks_8 : nth t_X11_breaks 8 = aCalV 256 2 11 [9] none := rfl
theorem n_X11_breaks_11 : nth t_X11_breaks 11 = aStI 1 12 := rfl
theorem n_X11_breaks_12 : nth t_X11_breaks 12 = aLdA 0 13 := rfl
theorem n_X11_breaks_13 : nth t_X11_breaks 13 = aLdA 0 14 := rfl
theorem n_X11_breaks_14 : nth t_X11_breaks 14 = aGetI 4 [9] 17 := rfl
theorem n_X11_breaks_17 : nth t_X11_breaks 17 = aK (.int 3) 18 := rfl
theorem n_X11_breaks_18 : nth t_X11_breaks 18 = aIcEq 21 25 := rfl
theorem y_X11_breaks_1 (n : Nat) : nth t_X11_breaks (n + 21) = nth t_X11_breaks_c1 n := rfl
theorem n_X11_breaks_21 : nth t_X11_breaks 21 = aK (.int 1) 22 := (y_X11_breaks_1 0).trans rfl
theorem n_X11_breaks_22 : nth t_X11_breaks 22 = aGoto 26 := (y_X11_breaks_1 1).trans rfl
theorem n_X11_breaks_25 : nth t_X11_breaks 25 = aK (.int 0) 26 := (y_X11_breaks_1 4).trans rfl
theorem n_X11_breaks_26 : nth t_X11_breaks 26 = aK (.int 1) 27 := (y_X11_breaks_1 5).trans rfl
theorem n_X11_breaks_27 : nth t_X11_breaks 27 = aCalV 255 2 30 [9] none := (y_X11_breaks_1 6).trans rfl
theorem n_X11_breaks_30 : nth t_X11_breaks 30 = aLdA 0 31 := (y_X11_breaks_1 9).trans rfl
theorem n_X11_breaks_31 : nth t_X11_breaks 31 = aLdA 0 32 := (y_X11_breaks_1 10).trans rfl
theorem n_X11_breaks_32 : nth t_X11_breaks 32 = aGetI 6 [9] 35 := (y_X11_breaks_1 11).trans rfl
theorem n_X11_breaks_35 : nth t_X11_breaks 35 = aK (.int 1) 36 := (y_X11_breaks_1 14).trans rfl
theorem n_X11_breaks_36 : nth t_X11_breaks 36 = aK (.int 3) 37 := (y_X11_breaks_1 15).trans rfl
theorem n_X11_breaks_37 : nth t_X11_breaks 37 = aCalS 43 3 40 none := (y_X11_breaks_1 16).trans rfl
theorem n_X11_breaks_40 : nth t_X11_breaks 40 = aK (.int 2) 41 := (y_X11_breaks_1 19).trans rfl
theorem y_X11_breaks_2 (n : Nat) : nth t_X11_breaks (n + 41) = nth t_X11_breaks_c2 n := (y_X11_breaks_1 (n + 20)).trans rfl
theorem n_X11_breaks_41 : nth t_X11_breaks 41 = aCalV 255 2 44 [9] none := (y_X11_breaks_2 0).trans rfl
theorem n_X11_breaks_44 : nth t_X11_breaks 44 = aLdA 0 45 := (y_X11_breaks_2 3).trans rfl
theorem n_X11_breaks_45 : nth t_X11_breaks 45 = aLdA 0 46 := (y_X11_breaks_2 4).trans rfl
theorem n_X11_breaks_46 : nth t_X11_breaks 46 = aGetR 9 [9] 49 := (y_X11_breaks_2 5).trans rfl
theorem n_X11_breaks_49 : nth t_X11_breaks 49 = aGetR 3 [4] 52 := (y_X11_breaks_2 8).trans rfl
theorem n_X11_breaks_52 : nth t_X11_breaks 52 = aLdA 0 53 := (y_X11_breaks_2 11).trans rfl
theorem n_X11_breaks_53 : nth t_X11_breaks 53 = aGetI 6 [9] 56 := (y_X11_breaks_2 12).trans rfl
theorem n_X11_breaks_56 : nth t_X11_breaks 56 = aK (.int 1) 57 := (y_X11_breaks_2 15).trans rfl
theorem n_X11_breaks_57 : nth t_X11_breaks 57 = aB (fun x y => x - y) 58 := (y_X11_breaks_2 16).trans rfl
theorem n_X11_breaks_58 : nth t_X11_breaks 58 = aAldI 59 := (y_X11_breaks_2 17).trans rfl
theorem n_X11_breaks_59 : nth t_X11_breaks 59 = aIfEq 62 66 := (y_X11_breaks_2 18).trans rfl
theorem n_X11_breaks_62 : nth t_X11_breaks 62 = aK (.int 1) 63 := (y_X11_breaks_2 21).trans rfl
theorem y_X11_breaks_3 (n : Nat) : nth t_X11_breaks (n + 63) = nth t_X11_breaks_c3 n := (y_X11_breaks_2 (n + 22)).trans rfl
theorem n_X11_breaks_63 : nth t_X11_breaks 63 = aGoto 67 := (y_X11_breaks_3 0).trans rfl
theorem n_X11_breaks_66 : nth t_X11_breaks 66 = aK (.int 0) 67 := (y_X11_breaks_3 3).trans rfl
theorem n_X11_breaks_67 : nth t_X11_breaks 67 = aK (.int 3) 68 := (y_X11_breaks_3 4).trans rfl
theorem n_X11_breaks_68 : nth t_X11_breaks 68 = aCalV 255 2 71 [9] none := (y_X11_breaks_3 5).trans rfl
theorem n_X11_breaks_71 : nth t_X11_breaks 71 = aLdA 0 72 := (y_X11_breaks_3 8).trans rfl
theorem n_X11_breaks_72 : nth t_X11_breaks 72 = aGetR 9 [9] 75 := (y_X11_breaks_3 9).trans rfl
theorem n_X11_breaks_75 : nth t_X11_breaks 75 = aGetR 3 [4] 78 := (y_X11_breaks_3 12).trans rfl
theorem n_X11_breaks_78 : nth t_X11_breaks 78 = aLdA 0 79 := (y_X11_breaks_3 15).trans rfl
theorem n_X11_breaks_79 : nth t_X11_breaks 79 = aGetI 6 [9] 82 := (y_X11_breaks_3 16).trans rfl
theorem n_X11_breaks_82 : nth t_X11_breaks 82 = aK (.int 1) 83 := (y_X11_breaks_3 19).trans rfl
theorem n_X11_breaks_83 : nth t_X11_breaks 83 = aB (fun x y => x - y) 84 := (y_X11_breaks_3 20).trans rfl
theorem n_X11_breaks_84 : nth t_X11_breaks 84 = aLdI 1 85 := (y_X11_breaks_3 21).trans rfl
theorem y_X11_breaks_4 (n : Nat) : nth t_X11_breaks (n + 85) = nth t_X11_breaks_c4 n := (y_X11_breaks_3 (n + 22)).trans rfl
theorem n_X11_breaks_85 : nth t_X11_breaks 85 = aAstI 86 := (y_X11_breaks_4 0).trans rfl
theorem n_X11_breaks_86 : nth t_X11_breaks 86 = aLdA 0 87 := (y_X11_breaks_4 1).trans rfl
theorem n_X11_breaks_87 : nth t_X11_breaks 87 = aCalV 249 0 90 [9] none := (y_X11_breaks_4 2).trans rfl
theorem n_X11_breaks_90 : nth t_X11_breaks 90 = aRetV := (y_X11_breaks_4 5).trans rfl
theorem n_X11_want_0 : nth t_X11_want 0 = aLdA 0 1 := rfl
theorem n_X11_want_1 : nth t_X11_want 1 = aLdA 0 2 := rfl
theorem n_X11_want_2 : nth t_X11_want 2 = aGetR 9 [9] 5 := rfl
theorem n_X11_want_5 : nth t_X11_want 5 = aGetI 9 [4] 8 := rfl
theorem n_X11_want_8 : nth t_X11_want 8 = aK (.int 8) 10 := rfl
theorem n_X11_want_10 : nth t_X11_want 10 = aIcLt 13 17 := rfl
theorem n_X11_want_13 : nth t_X11_want 13 = aK (.int 1) 14 := rfl
theorem n_X11_want_14 : nth t_X11_want 14 = aGoto 18 := rfl
theorem n_X11_want_17 : nth t_X11_want 17 = aK (.int 0) 18 := rfl
theorem n_X11_want_18 : nth t_X11_want 18 = aK (.int 4) 19 := rfl
theorem n_X11_want_19 : nth t_X11_want 19 = aCalV 255 2 22 [9] none := rfl
theorem n_X11_want_22 : nth t_X11_want 22 = aLdA 0 23 := rfl
theorem y_X11_want_1 (n : Nat) : nth t_X11_want (n + 23) = nth t_X11_want_c1 n := rfl
theorem n_X11_want_23 : nth t_X11_want 23 = aCalV 249 0 26 [9] none := (y_X11_want_1 0).trans rfl
theorem n_X11_want_26 : nth t_X11_want 26 = aLdA 0 27 := (y_X11_want_1 3).trans rfl
theorem n_X11_want_27 : nth t_X11_want 27 = aGetR 9 [9] 30 := (y_X11_want_1 4).trans rfl
theorem n_X11_want_30 : nth t_X11_want 30 = aGetI 9 [4] 33 := (y_X11_want_1 7).trans rfl
theorem n_X11_want_33 : nth t_X11_want 33 = aStI 2 34 := (y_X11_want_1 10).trans rfl
theorem n_X11_want_34 : nth t_X11_want 34 = aLdA 0 35 := (y_X11_want_1 11).trans rfl
theorem n_X11_want_35 : nth t_X11_want 35 = aGetR 9 [9] 38 := (y_X11_want_1 12).trans rfl
theorem n_X11_want_38 : nth t_X11_want 38 = aGetR 4 [4] 41 := (y_X11_want_1 15).trans rfl
theorem n_X11_want_41 : nth t_X11_want 41 = aLdI 2 42 := (y_X11_want_1 18).trans rfl
theorem n_X11_want_42 : nth t_X11_want 42 = aK (.int (-1)) 43 := (y_X11_want_1 19).trans rfl
theorem n_X11_want_43 : nth t_X11_want 43 = aAstI 44 := (y_X11_want_1 20).trans rfl
theorem n_X11_want_44 : nth t_X11_want 44 = aLdI 1 45 := (y_X11_want_1 21).trans rfl
theorem y_X11_want_2 (n : Nat) : nth t_X11_want (n + 45) = nth t_X11_want_c2 n := (y_X11_want_1 (n + 22)).trans rfl
theorem n_X11_want_45 : nth t_X11_want 45 = aIfEq 104 48 := (y_X11_want_2 0).trans rfl
theorem n_X11_want_48 : nth t_X11_want 48 = aLdA 0 49 := (y_X11_want_2 3).trans rfl
theorem n_X11_want_49 : nth t_X11_want 49 = aLdA 0 50 := (y_X11_want_2 4).trans rfl
theorem n_X11_want_50 : nth t_X11_want 50 = aCalV 105 0 53 [9] none := (y_X11_want_2 5).trans rfl
theorem n_X11_want_53 : nth t_X11_want 53 = aK (.int 1) 54 := (y_X11_want_2 8).trans rfl
theorem n_X11_want_54 : nth t_X11_want 54 = aCalV 255 2 57 [9] none := (y_X11_want_2 9).trans rfl
theorem n_X11_want_57 : nth t_X11_want 57 = aLdA 0 58 := (y_X11_want_2 12).trans rfl
theorem n_X11_want_58 : nth t_X11_want 58 = aGetR 9 [9] 61 := (y_X11_want_2 13).trans rfl
theorem n_X11_want_61 : nth t_X11_want 61 = aGetR 4 [4] 64 := (y_X11_want_2 16).trans rfl
theorem n_X11_want_64 : nth t_X11_want 64 = aLdI 2 65 := (y_X11_want_2 19).trans rfl
theorem n_X11_want_65 : nth t_X11_want 65 = aLdA 0 66 := (y_X11_want_2 20).trans rfl
theorem n_X11_want_66 : nth t_X11_want 66 = aGetR 9 [9] 69 := (y_X11_want_2 21).trans rfl
theorem y_X11_want_3 (n : Nat) : nth t_X11_want (n + 69) = nth t_X11_want_c3 n := (y_X11_want_2 (n + 24)).trans rfl
theorem n_X11_want_69 : nth t_X11_want 69 = aLdA 0 70 := (y_X11_want_3 0).trans rfl
theorem n_X11_want_70 : nth t_X11_want 70 = aGetR 8 [9] 73 := (y_X11_want_3 1).trans rfl
theorem n_X11_want_73 : nth t_X11_want 73 = aCalV 142 1 76 [4] none := (y_X11_want_3 4).trans rfl
theorem n_X11_want_76 : nth t_X11_want 76 = aAstI 77 := (y_X11_want_3 7).trans rfl
theorem n_X11_want_77 : nth t_X11_want 77 = aLdA 0 78 := (y_X11_want_3 8).trans rfl
theorem n_X11_want_78 : nth t_X11_want 78 = aLdA 0 79 := (y_X11_want_3 9).trans rfl
theorem n_X11_want_79 : nth t_X11_want 79 = aGetR 9 [9] 82 := (y_X11_want_3 10).trans rfl
theorem n_X11_want_82 : nth t_X11_want 82 = aGetR 4 [4] 85 := (y_X11_want_3 13).trans rfl
theorem n_X11_want_85 : nth t_X11_want 85 = aLdI 2 86 := (y_X11_want_3 16).trans rfl
theorem n_X11_want_86 : nth t_X11_want 86 = aAldI 87 := (y_X11_want_3 17).trans rfl
theorem n_X11_want_87 : nth t_X11_want 87 = aK (.int (-1)) 88 := (y_X11_want_3 18).trans rfl
theorem n_X11_want_88 : nth t_X11_want 88 = aIcEq 95 91 := (y_X11_want_3 19).trans rfl
theorem y_X11_want_4 (n : Nat) : nth t_X11_want (n + 91) = nth t_X11_want_c4 n := (y_X11_want_3 (n + 22)).trans rfl
theorem n_X11_want_91 : nth t_X11_want 91 = aK (.int 1) 92 := (y_X11_want_4 0).trans rfl
theorem n_X11_want_92 : nth t_X11_want 92 = aGoto 96 := (y_X11_want_4 1).trans rfl
theorem n_X11_want_95 : nth t_X11_want 95 = aK (.int 0) 96 := (y_X11_want_4 4).trans rfl
theorem n_X11_want_96 : nth t_X11_want 96 = aK (.int 3) 97 := (y_X11_want_4 5).trans rfl
theorem n_X11_want_97 : nth t_X11_want 97 = aCalV 255 2 100 [9] none := (y_X11_want_4 6).trans rfl
theorem n_X11_want_100 : nth t_X11_want 100 = aLdA 0 101 := (y_X11_want_4 9).trans rfl
theorem n_X11_want_101 : nth t_X11_want 101 = aCalV 249 0 104 [9] none := (y_X11_want_4 10).trans rfl
theorem n_X11_want_104 : nth t_X11_want 104 = aLdA 0 105 := (y_X11_want_4 13).trans rfl
theorem n_X11_want_105 : nth t_X11_want 105 = aGetR 9 [9] 108 := (y_X11_want_4 14).trans rfl
theorem n_X11_want_108 : nth t_X11_want 108 = aGetR 5 [4] 111 := (y_X11_want_4 17).trans rfl
theorem n_X11_want_111 : nth t_X11_want 111 = aLdI 2 112 := (y_X11_want_4 20).trans rfl
theorem n_X11_want_112 : nth t_X11_want 112 = aLdA 0 113 := (y_X11_want_4 21).trans rfl
theorem y_X11_want_5 (n : Nat) : nth t_X11_want (n + 113) = nth t_X11_want_c5 n := (y_X11_want_4 (n + 22)).trans rfl
theorem n_X11_want_113 : nth t_X11_want 113 = aK (.int 1) 114 := (y_X11_want_5 0).trans rfl
theorem n_X11_want_114 : nth t_X11_want 114 = aK (.int 6) 116 := (y_X11_want_5 1).trans rfl
theorem n_X11_want_116 : nth t_X11_want 116 = aCalV 256 2 119 [9] none := (y_X11_want_5 3).trans rfl
theorem n_X11_want_119 : nth t_X11_want 119 = aAstI 120 := (y_X11_want_5 6).trans rfl
theorem n_X11_want_120 : nth t_X11_want 120 = aLdA 0 121 := (y_X11_want_5 7).trans rfl
theorem n_X11_want_121 : nth t_X11_want 121 = aGetR 9 [9] 124 := (y_X11_want_5 8).trans rfl
theorem n_X11_want_124 : nth t_X11_want 124 = aGetR 6 [4] 127 := (y_X11_want_5 11).trans rfl
theorem n_X11_want_127 : nth t_X11_want 127 = aLdI 2 128 := (y_X11_want_5 14).trans rfl
theorem n_X11_want_128 : nth t_X11_want 128 = aLdA 0 129 := (y_X11_want_5 15).trans rfl
theorem n_X11_want_129 : nth t_X11_want 129 = aK (.int 1) 130 := (y_X11_want_5 16).trans rfl
theorem n_X11_want_130 : nth t_X11_want 130 = aK (.int 3) 131 := (y_X11_want_5 17).trans rfl
theorem n_X11_want_131 : nth t_X11_want 131 = aCalV 256 2 134 [9] none := (y_X11_want_5 18).trans rfl
theorem y_X11_want_6 (n : Nat) : nth t_X11_want (n + 134) = nth t_X11_want_c6 n := (y_X11_want_5 (n + 21)).trans rfl
theorem n_X11_want_134 : nth t_X11_want 134 = aAstI 135 := (y_X11_want_6 0).trans rfl
theorem n_X11_want_135 : nth t_X11_want 135 = aLdI 1 136 := (y_X11_want_6 1).trans rfl
theorem n_X11_want_136 : nth t_X11_want 136 = aIfEq 168 139 := (y_X11_want_6 2).trans rfl
theorem n_X11_want_139 : nth t_X11_want 139 = aLdA 0 140 := (y_X11_want_6 5).trans rfl
theorem n_X11_want_140 : nth t_X11_want 140 = aK (.ref 8) 142 := (y_X11_want_6 6).trans rfl
theorem n_X11_want_142 : nth t_X11_want 142 = aCalV 258 1 145 [9] none := (y_X11_want_6 8).trans rfl
theorem n_X11_want_145 : nth t_X11_want 145 = aIfEq 168 148 := (y_X11_want_6 11).trans rfl
theorem n_X11_want_148 : nth t_X11_want 148 = aLdA 0 149 := (y_X11_want_6 14).trans rfl
theorem n_X11_want_149 : nth t_X11_want 149 = aCalV 249 0 152 [9] none := (y_X11_want_6 15).trans rfl
theorem n_X11_want_152 : nth t_X11_want 152 = aLdA 0 153 := (y_X11_want_6 18).trans rfl
theorem n_X11_want_153 : nth t_X11_want 153 = aGetR 9 [9] 156 := (y_X11_want_6 19).trans rfl
theorem n_X11_want_156 : nth t_X11_want 156 = aGetR 7 [4] 159 := (y_X11_want_6 22).trans rfl
theorem y_X11_want_7 (n : Nat) : nth t_X11_want (n + 159) = nth t_X11_want_c7 n := (y_X11_want_6 (n + 25)).trans rfl
theorem n_X11_want_159 : nth t_X11_want 159 = aLdI 2 160 := (y_X11_want_7 0).trans rfl
theorem n_X11_want_160 : nth t_X11_want 160 = aLdA 0 161 := (y_X11_want_7 1).trans rfl
theorem n_X11_want_161 : nth t_X11_want 161 = aK (.int 1) 162 := (y_X11_want_7 2).trans rfl
theorem n_X11_want_162 : nth t_X11_want 162 = aK (.int 20) 164 := (y_X11_want_7 3).trans rfl
theorem n_X11_want_164 : nth t_X11_want 164 = aCalV 256 2 167 [9] none := (y_X11_want_7 5).trans rfl
theorem n_X11_want_167 : nth t_X11_want 167 = aAstI 168 := (y_X11_want_7 8).trans rfl
theorem n_X11_want_168 : nth t_X11_want 168 = aLdA 0 169 := (y_X11_want_7 9).trans rfl
theorem n_X11_want_169 : nth t_X11_want 169 = aGetR 9 [9] 172 := (y_X11_want_7 10).trans rfl
theorem n_X11_want_172 : nth t_X11_want 172 = aDup 173 := (y_X11_want_7 13).trans rfl
theorem n_X11_want_173 : nth t_X11_want 173 = aGetI 9 [4] 176 := (y_X11_want_7 14).trans rfl
theorem n_X11_want_176 : nth t_X11_want 176 = aK (.int 1) 177 := (y_X11_want_7 17).trans rfl
theorem n_X11_want_177 : nth t_X11_want 177 = aB (fun x y => x + y) 178 := (y_X11_want_7 18).trans rfl
theorem y_X11_want_8 (n : Nat) : nth t_X11_want (n + 178) = nth t_X11_want_c8 n := (y_X11_want_7 (n + 19)).trans rfl
theorem n_X11_want_178 : nth t_X11_want 178 = aPutI 9 [4] 181 := (y_X11_want_8 0).trans rfl
theorem n_X11_want_181 : nth t_X11_want 181 = aRetV := (y_X11_want_8 3).trans rfl
theorem n_X12_init_0 : nth t_X12_init 0 = aLdA 0 1 := rfl
theorem n_X12_init_1 : nth t_X12_init 1 = aObjI 4 := rfl
theorem n_X12_init_4 : nth t_X12_init 4 = aLdA 0 5 := rfl
theorem n_X12_init_5 : nth t_X12_init 5 = aNew 1 3 8 := rfl
theorem n_X12_init_8 : nth t_X12_init 8 = aDup 9 := rfl
theorem n_X12_init_9 : nth t_X12_init 9 = aCalI 114 0 12 none := rfl
theorem n_X12_init_12 : nth t_X12_init 12 = aPutR 1 [10] 15 := rfl
theorem n_X12_init_15 : nth t_X12_init 15 = aLdA 0 16 := rfl
theorem n_X12_init_16 : nth t_X12_init 16 = aK (.int 4) 17 := rfl
theorem n_X12_init_17 : nth t_X12_init 17 = aNewA 100 19 := rfl
theorem n_X12_init_19 : nth t_X12_init 19 = aPutR 2 [10] 22 := rfl
theorem n_X12_init_22 : nth t_X12_init 22 = aLdA 0 23 := rfl
theorem y_X12_init_1 (n : Nat) : nth t_X12_init (n + 23) = nth t_X12_init_c1 n := rfl
theorem n_X12_init_23 : nth t_X12_init 23 = aK (.int 4) 24 := (y_X12_init_1 0).trans rfl
theorem n_X12_init_24 : nth t_X12_init 24 = aNewA 100 26 := (y_X12_init_1 1).trans rfl
theorem n_X12_init_26 : nth t_X12_init 26 = aPutR 3 [10] 29 := (y_X12_init_1 3).trans rfl
theorem n_X12_init_29 : nth t_X12_init 29 = aLdA 0 30 := (y_X12_init_1 6).trans rfl
theorem n_X12_init_30 : nth t_X12_init 30 = aK (.int 1) 31 := (y_X12_init_1 7).trans rfl
theorem n_X12_init_31 : nth t_X12_init 31 = aPutZ 6 [10] 34 := (y_X12_init_1 8).trans rfl
theorem n_X12_init_34 : nth t_X12_init 34 = aLdA 0 35 := (y_X12_init_1 11).trans rfl
theorem n_X12_init_35 : nth t_X12_init 35 = aLdA 1 36 := (y_X12_init_1 12).trans rfl
theorem n_X12_init_36 : nth t_X12_init 36 = aPutR 0 [10] 39 := (y_X12_init_1 13).trans rfl
theorem n_X12_init_39 : nth t_X12_init 39 = aRetV := (y_X12_init_1 16).trans rfl
theorem n_X12_make_0 : nth t_X12_make 0 = aK (.int 0) 1 := rfl
theorem n_X12_make_1 : nth t_X12_make 1 = aStI 2 2 := rfl
theorem n_X12_make_2 : nth t_X12_make 2 = aK (.int 0) 3 := rfl
theorem n_X12_make_3 : nth t_X12_make 3 = aStI 3 4 := rfl
theorem n_X12_make_4 : nth t_X12_make 4 = aLdI 3 5 := rfl
theorem n_X12_make_5 : nth t_X12_make 5 = aK (.int 3) 6 := rfl
theorem n_X12_make_6 : nth t_X12_make 6 = aIcLt 9 91 := rfl
theorem n_X12_make_9 : nth t_X12_make 9 = aLdA 0 10 := rfl
theorem n_X12_make_10 : nth t_X12_make 10 = aGetR 0 [10] 13 := rfl
theorem n_X12_make_13 : nth t_X12_make 13 = aGetR 3 [4] 16 := rfl
theorem n_X12_make_16 : nth t_X12_make 16 = aLdI 3 17 := rfl
theorem n_X12_make_17 : nth t_X12_make 17 = aAldI 18 := rfl
theorem y_X12_make_1 (n : Nat) : nth t_X12_make (n + 18) = nth t_X12_make_c1 n := rfl
theorem n_X12_make_18 : nth t_X12_make 18 = aIfEq 21 24 := (y_X12_make_1 0).trans rfl
theorem n_X12_make_21 : nth t_X12_make 21 = aGoto 85 := (y_X12_make_1 3).trans rfl
theorem n_X12_make_24 : nth t_X12_make 24 = aLdA 0 25 := (y_X12_make_1 6).trans rfl
theorem n_X12_make_25 : nth t_X12_make 25 = aK (.int 0) 26 := (y_X12_make_1 7).trans rfl
theorem n_X12_make_26 : nth t_X12_make 26 = aLdA 0 27 := (y_X12_make_1 8).trans rfl
theorem n_X12_make_27 : nth t_X12_make 27 = aGetR 0 [10] 30 := (y_X12_make_1 9).trans rfl
theorem n_X12_make_30 : nth t_X12_make 30 = aGetR 3 [4] 33 := (y_X12_make_1 12).trans rfl
theorem n_X12_make_33 : nth t_X12_make 33 = aLdI 3 34 := (y_X12_make_1 15).trans rfl
theorem n_X12_make_34 : nth t_X12_make 34 = aAldI 35 := (y_X12_make_1 16).trans rfl
theorem n_X12_make_35 : nth t_X12_make 35 = aB (fun x y => x + y) 36 := (y_X12_make_1 17).trans rfl
theorem n_X12_make_36 : nth t_X12_make 36 = aK (.int 1) 37 := (y_X12_make_1 18).trans rfl
theorem n_X12_make_37 : nth t_X12_make 37 = aB (fun x y => x - y) 38 := (y_X12_make_1 19).trans rfl
theorem y_X12_make_2 (n : Nat) : nth t_X12_make (n + 38) = nth t_X12_make_c2 n := (y_X12_make_1 (n + 20)).trans rfl
theorem n_X12_make_38 : nth t_X12_make 38 = aK (.int 148) 41 := (y_X12_make_2 0).trans rfl
theorem n_X12_make_41 : nth t_X12_make 41 = aLdI 2 42 := (y_X12_make_2 3).trans rfl
theorem n_X12_make_42 : nth t_X12_make 42 = aB (fun x y => x + y) 43 := (y_X12_make_2 4).trans rfl
theorem n_X12_make_43 : nth t_X12_make 43 = aCalV 110 2 46 [10] none := (y_X12_make_2 5).trans rfl
theorem n_X12_make_46 : nth t_X12_make 46 = aLdA 0 47 := (y_X12_make_2 8).trans rfl
theorem n_X12_make_47 : nth t_X12_make 47 = aK (.int 20) 49 := (y_X12_make_2 9).trans rfl
theorem n_X12_make_49 : nth t_X12_make 49 = aLdA 0 50 := (y_X12_make_2 11).trans rfl
theorem n_X12_make_50 : nth t_X12_make 50 = aGetR 0 [10] 53 := (y_X12_make_2 12).trans rfl
theorem n_X12_make_53 : nth t_X12_make 53 = aGetR 3 [4] 56 := (y_X12_make_2 15).trans rfl
theorem n_X12_make_56 : nth t_X12_make 56 = aLdI 3 57 := (y_X12_make_2 18).trans rfl
theorem n_X12_make_57 : nth t_X12_make 57 = aAldI 58 := (y_X12_make_2 19).trans rfl
theorem n_X12_make_58 : nth t_X12_make 58 = aB (fun x y => x + y) 59 := (y_X12_make_2 20).trans rfl
theorem y_X12_make_3 (n : Nat) : nth t_X12_make (n + 59) = nth t_X12_make_c3 n := (y_X12_make_2 (n + 21)).trans rfl
theorem n_X12_make_59 : nth t_X12_make 59 = aK (.int 1) 60 := (y_X12_make_3 0).trans rfl
theorem n_X12_make_60 : nth t_X12_make 60 = aB (fun x y => x - y) 61 := (y_X12_make_3 1).trans rfl
theorem n_X12_make_61 : nth t_X12_make 61 = aK (.int 152) 64 := (y_X12_make_3 2).trans rfl
theorem n_X12_make_64 : nth t_X12_make 64 = aLdI 2 65 := (y_X12_make_3 5).trans rfl
theorem n_X12_make_65 : nth t_X12_make 65 = aB (fun x y => x + y) 66 := (y_X12_make_3 6).trans rfl
theorem n_X12_make_66 : nth t_X12_make 66 = aCalV 110 2 69 [10] none := (y_X12_make_3 7).trans rfl
theorem n_X12_make_69 : nth t_X12_make 69 = aLdA 0 70 := (y_X12_make_3 10).trans rfl
theorem n_X12_make_70 : nth t_X12_make 70 = aK (.int 61) 72 := (y_X12_make_3 11).trans rfl
theorem n_X12_make_72 : nth t_X12_make 72 = aLdI 2 73 := (y_X12_make_3 13).trans rfl
theorem n_X12_make_73 : nth t_X12_make 73 = aB (fun x y => x + y) 74 := (y_X12_make_3 14).trans rfl
theorem n_X12_make_74 : nth t_X12_make 74 = aK (.int 156) 77 := (y_X12_make_3 15).trans rfl
theorem n_X12_make_77 : nth t_X12_make 77 = aLdI 3 78 := (y_X12_make_3 18).trans rfl
theorem y_X12_make_4 (n : Nat) : nth t_X12_make (n + 78) = nth t_X12_make_c4 n := (y_X12_make_3 (n + 19)).trans rfl
theorem n_X12_make_78 : nth t_X12_make 78 = aB (fun x y => x + y) 79 := (y_X12_make_4 0).trans rfl
theorem n_X12_make_79 : nth t_X12_make 79 = aCalV 110 2 82 [10] none := (y_X12_make_4 1).trans rfl
theorem n_X12_make_82 : nth t_X12_make 82 = aInc 2 1 85 := (y_X12_make_4 4).trans rfl
theorem n_X12_make_85 : nth t_X12_make 85 = aInc 3 1 88 := (y_X12_make_4 7).trans rfl
theorem n_X12_make_88 : nth t_X12_make 88 = aGoto 4 := (y_X12_make_4 10).trans rfl
theorem n_X12_make_91 : nth t_X12_make 91 = aK (.int 0) 92 := (y_X12_make_4 13).trans rfl
theorem n_X12_make_92 : nth t_X12_make 92 = aStI 3 93 := (y_X12_make_4 14).trans rfl
theorem n_X12_make_93 : nth t_X12_make 93 = aK (.int 0) 94 := (y_X12_make_4 15).trans rfl
theorem n_X12_make_94 : nth t_X12_make 94 = aStI 4 96 := (y_X12_make_4 16).trans rfl
theorem n_X12_make_96 : nth t_X12_make 96 = aLdI 4 98 := (y_X12_make_4 18).trans rfl
theorem n_X12_make_98 : nth t_X12_make 98 = aLdA 0 99 := (y_X12_make_4 20).trans rfl
theorem n_X12_make_99 : nth t_X12_make 99 = aGetR 0 [10] 102 := (y_X12_make_4 21).trans rfl
theorem y_X12_make_5 (n : Nat) : nth t_X12_make (n + 102) = nth t_X12_make_c5 n := (y_X12_make_4 (n + 24)).trans rfl
theorem n_X12_make_102 : nth t_X12_make 102 = aGetI 9 [4] 105 := (y_X12_make_5 0).trans rfl
theorem n_X12_make_105 : nth t_X12_make 105 = aIcLt 108 143 := (y_X12_make_5 3).trans rfl
theorem n_X12_make_108 : nth t_X12_make 108 = aLdI 1 109 := (y_X12_make_5 6).trans rfl
theorem n_X12_make_109 : nth t_X12_make 109 = aLdI 4 111 := (y_X12_make_5 7).trans rfl
theorem n_X12_make_111 : nth t_X12_make 111 = aB (fun x y => x >>> (y &&& 31)) 112 := (y_X12_make_5 9).trans rfl
theorem n_X12_make_112 : nth t_X12_make 112 = aK (.int 1) 113 := (y_X12_make_5 10).trans rfl
theorem n_X12_make_113 : nth t_X12_make 113 = aB (fun x y => x &&& y) 114 := (y_X12_make_5 11).trans rfl
theorem n_X12_make_114 : nth t_X12_make 114 = aIfEq 117 120 := (y_X12_make_5 12).trans rfl
theorem n_X12_make_117 : nth t_X12_make 117 = aGoto 137 := (y_X12_make_5 15).trans rfl
theorem n_X12_make_120 : nth t_X12_make 120 = aLdI 3 121 := (y_X12_make_5 18).trans rfl
theorem n_X12_make_121 : nth t_X12_make 121 = aK (.int 4) 122 := (y_X12_make_5 19).trans rfl
theorem n_X12_make_122 : nth t_X12_make 122 = aIcEq 125 127 := (y_X12_make_5 20).trans rfl
theorem y_X12_make_6 (n : Nat) : nth t_X12_make (n + 125) = nth t_X12_make_c6 n := (y_X12_make_5 (n + 23)).trans rfl
theorem n_X12_make_125 : nth t_X12_make 125 = aK .null 126 := (y_X12_make_6 0).trans rfl
theorem n_X12_make_126 : nth t_X12_make 126 = aRetA := (y_X12_make_6 1).trans rfl
theorem n_X12_make_127 : nth t_X12_make 127 = aLdA 0 128 := (y_X12_make_6 2).trans rfl
theorem n_X12_make_128 : nth t_X12_make 128 = aLdI 4 130 := (y_X12_make_6 3).trans rfl
theorem n_X12_make_130 : nth t_X12_make 130 = aLdI 3 131 := (y_X12_make_6 5).trans rfl
theorem n_X12_make_131 : nth t_X12_make 131 = aCalV 111 2 134 [10] none := (y_X12_make_6 6).trans rfl
theorem n_X12_make_134 : nth t_X12_make 134 = aInc 3 1 137 := (y_X12_make_6 9).trans rfl
theorem n_X12_make_137 : nth t_X12_make 137 = aInc 4 1 140 := (y_X12_make_6 12).trans rfl
theorem n_X12_make_140 : nth t_X12_make 140 = aGoto 96 := (y_X12_make_6 15).trans rfl
theorem n_X12_make_143 : nth t_X12_make 143 = aK (.int 0) 144 := (y_X12_make_6 18).trans rfl
theorem n_X12_make_144 : nth t_X12_make 144 = aStI 3 145 := (y_X12_make_6 19).trans rfl
theorem n_X12_make_145 : nth t_X12_make 145 = aK (.int 0) 146 := (y_X12_make_6 20).trans rfl
theorem y_X12_make_7 (n : Nat) : nth t_X12_make (n + 146) = nth t_X12_make_c7 n := (y_X12_make_6 (n + 21)).trans rfl
theorem n_X12_make_146 : nth t_X12_make 146 = aStI 4 148 := (y_X12_make_7 0).trans rfl
theorem n_X12_make_148 : nth t_X12_make 148 = aLdI 4 150 := (y_X12_make_7 2).trans rfl
theorem n_X12_make_150 : nth t_X12_make 150 = aLdA 0 151 := (y_X12_make_7 4).trans rfl
theorem n_X12_make_151 : nth t_X12_make 151 = aGetR 0 [10] 154 := (y_X12_make_7 5).trans rfl
theorem n_X12_make_154 : nth t_X12_make 154 = aGetI 9 [4] 157 := (y_X12_make_7 8).trans rfl
theorem n_X12_make_157 : nth t_X12_make 157 = aIcLt 160 188 := (y_X12_make_7 11).trans rfl
theorem n_X12_make_160 : nth t_X12_make 160 = aLdI 1 161 := (y_X12_make_7 14).trans rfl
theorem n_X12_make_161 : nth t_X12_make 161 = aLdI 4 163 := (y_X12_make_7 15).trans rfl
theorem n_X12_make_163 : nth t_X12_make 163 = aB (fun x y => x >>> (y &&& 31)) 164 := (y_X12_make_7 17).trans rfl
theorem n_X12_make_164 : nth t_X12_make 164 = aK (.int 1) 165 := (y_X12_make_7 18).trans rfl
theorem n_X12_make_165 : nth t_X12_make 165 = aB (fun x y => x &&& y) 166 := (y_X12_make_7 19).trans rfl
theorem n_X12_make_166 : nth t_X12_make 166 = aIfEq 169 172 := (y_X12_make_7 20).trans rfl
theorem y_X12_make_8 (n : Nat) : nth t_X12_make (n + 169) = nth t_X12_make_c8 n := (y_X12_make_7 (n + 23)).trans rfl
theorem n_X12_make_169 : nth t_X12_make 169 = aGoto 182 := (y_X12_make_8 0).trans rfl
theorem n_X12_make_172 : nth t_X12_make 172 = aLdA 0 173 := (y_X12_make_8 3).trans rfl
theorem n_X12_make_173 : nth t_X12_make 173 = aLdI 4 175 := (y_X12_make_8 4).trans rfl
theorem n_X12_make_175 : nth t_X12_make 175 = aLdI 3 176 := (y_X12_make_8 6).trans rfl
theorem n_X12_make_176 : nth t_X12_make 176 = aCalV 113 2 179 [10] none := (y_X12_make_8 7).trans rfl
theorem n_X12_make_179 : nth t_X12_make 179 = aInc 3 1 182 := (y_X12_make_8 10).trans rfl
theorem n_X12_make_182 : nth t_X12_make 182 = aInc 4 1 185 := (y_X12_make_8 13).trans rfl
theorem n_X12_make_185 : nth t_X12_make 185 = aGoto 148 := (y_X12_make_8 16).trans rfl
theorem n_X12_make_188 : nth t_X12_make 188 = aLdA 0 189 := (y_X12_make_8 19).trans rfl
theorem n_X12_make_189 : nth t_X12_make 189 = aGetI 6 [10] 192 := (y_X12_make_8 20).trans rfl
theorem n_X12_make_192 : nth t_X12_make 192 = aIfEq 211 195 := (y_X12_make_8 23).trans rfl
theorem n_X12_make_195 : nth t_X12_make 195 = aLdA 0 196 := (y_X12_make_8 26).trans rfl
theorem y_X12_make_9 (n : Nat) : nth t_X12_make (n + 196) = nth t_X12_make_c9 n := (y_X12_make_8 (n + 27)).trans rfl
theorem n_X12_make_196 : nth t_X12_make 196 = aGetI 5 [10] 199 := (y_X12_make_9 0).trans rfl
theorem n_X12_make_199 : nth t_X12_make 199 = aK (.int 12) 201 := (y_X12_make_9 3).trans rfl
theorem n_X12_make_201 : nth t_X12_make 201 = aIcLe 204 211 := (y_X12_make_9 5).trans rfl
theorem n_X12_make_204 : nth t_X12_make 204 = aLdA 0 205 := (y_X12_make_9 8).trans rfl
theorem n_X12_make_205 : nth t_X12_make 205 = aGetR 1 [10] 208 := (y_X12_make_9 9).trans rfl
theorem n_X12_make_208 : nth t_X12_make 208 = aGoto 212 := (y_X12_make_9 12).trans rfl
theorem n_X12_make_211 : nth t_X12_make 211 = aK .null 212 := (y_X12_make_9 15).trans rfl
theorem n_X12_make_212 : nth t_X12_make 212 = aRetA := (y_X12_make_9 16).trans rfl
theorem n_X12_wire_0 : nth t_X12_wire 0 = aLdA 0 1 := rfl
theorem n_X12_wire_1 : nth t_X12_wire 1 = aLdA 0 2 := rfl
theorem n_X12_wire_2 : nth t_X12_wire 2 = aGetI 6 [10] 5 := rfl
theorem n_X12_wire_5 : nth t_X12_wire 5 = aIfEq 24 8 := rfl
theorem n_X12_wire_8 : nth t_X12_wire 8 = aLdA 0 9 := rfl
theorem n_X12_wire_9 : nth t_X12_wire 9 = aGetR 1 [10] 12 := rfl
theorem n_X12_wire_12 : nth t_X12_wire 12 = aLdI 1 13 := rfl
theorem n_X12_wire_13 : nth t_X12_wire 13 = aLdI 2 14 := rfl
theorem n_X12_wire_14 : nth t_X12_wire 14 = aCalV 115 2 17 [1] none := rfl
theorem n_X12_wire_17 : nth t_X12_wire 17 = aIfEq 24 20 := rfl
theorem n_X12_wire_20 : nth t_X12_wire 20 = aK (.int 1) 21 := rfl
theorem n_X12_wire_21 : nth t_X12_wire 21 = aGoto 25 := rfl
theorem y_X12_wire_1 (n : Nat) : nth t_X12_wire (n + 24) = nth t_X12_wire_c1 n := rfl
theorem n_X12_wire_24 : nth t_X12_wire 24 = aK (.int 0) 25 := (y_X12_wire_1 0).trans rfl
theorem n_X12_wire_25 : nth t_X12_wire 25 = aPutZ 6 [10] 28 := (y_X12_wire_1 1).trans rfl
theorem n_X12_wire_28 : nth t_X12_wire 28 = aRetV := (y_X12_wire_1 4).trans rfl
theorem n_X12_takesIn_0 : nth t_X12_takesIn 0 = aLdA 0 1 := rfl
theorem n_X12_takesIn_1 : nth t_X12_takesIn 1 = aGetR 0 [10] 4 := rfl
theorem n_X12_takesIn_4 : nth t_X12_takesIn 4 = aGetR 4 [4] 7 := rfl
theorem n_X12_takesIn_7 : nth t_X12_takesIn 7 = aLdI 1 8 := rfl
theorem n_X12_takesIn_8 : nth t_X12_takesIn 8 = aAldI 9 := rfl
theorem n_X12_takesIn_9 : nth t_X12_takesIn 9 = aStI 3 10 := rfl
theorem n_X12_takesIn_10 : nth t_X12_takesIn 10 = aLdI 3 11 := rfl
theorem n_X12_takesIn_11 : nth t_X12_takesIn 11 = aK (.int (-1)) 12 := rfl
theorem n_X12_takesIn_12 : nth t_X12_takesIn 12 = aIcEq 15 28 := rfl
theorem n_X12_takesIn_15 : nth t_X12_takesIn 15 = aLdA 0 16 := rfl
theorem n_X12_takesIn_16 : nth t_X12_takesIn 16 = aK (.int 60) 18 := rfl
theorem n_X12_takesIn_18 : nth t_X12_takesIn 18 = aK (.int 96) 20 := rfl
theorem y_X12_takesIn_1 (n : Nat) : nth t_X12_takesIn (n + 20) = nth t_X12_takesIn_c1 n := rfl
theorem n_X12_takesIn_20 : nth t_X12_takesIn 20 = aK (.int 6) 22 := (y_X12_takesIn_1 0).trans rfl
theorem n_X12_takesIn_22 : nth t_X12_takesIn 22 = aLdI 2 23 := (y_X12_takesIn_1 2).trans rfl
theorem n_X12_takesIn_23 : nth t_X12_takesIn 23 = aB (fun x y => x * y) 24 := (y_X12_takesIn_1 3).trans rfl
theorem n_X12_takesIn_24 : nth t_X12_takesIn 24 = aB (fun x y => x + y) 25 := (y_X12_takesIn_1 4).trans rfl
theorem n_X12_takesIn_25 : nth t_X12_takesIn 25 = aCalV 110 2 28 [10] none := (y_X12_takesIn_1 5).trans rfl
theorem n_X12_takesIn_28 : nth t_X12_takesIn 28 = aK (.int 0) 29 := (y_X12_takesIn_1 8).trans rfl
theorem n_X12_takesIn_29 : nth t_X12_takesIn 29 = aStI 4 31 := (y_X12_takesIn_1 9).trans rfl
theorem n_X12_takesIn_31 : nth t_X12_takesIn 31 = aLdI 3 32 := (y_X12_takesIn_1 11).trans rfl
theorem n_X12_takesIn_32 : nth t_X12_takesIn 32 = aK (.int (-1)) 33 := (y_X12_takesIn_1 12).trans rfl
theorem n_X12_takesIn_33 : nth t_X12_takesIn 33 = aIcEq 96 36 := (y_X12_takesIn_1 13).trans rfl
theorem n_X12_takesIn_36 : nth t_X12_takesIn 36 = aLdI 4 38 := (y_X12_takesIn_1 16).trans rfl
theorem n_X12_takesIn_38 : nth t_X12_takesIn 38 = aLdA 0 39 := (y_X12_takesIn_1 18).trans rfl
theorem y_X12_takesIn_2 (n : Nat) : nth t_X12_takesIn (n + 39) = nth t_X12_takesIn_c2 n := (y_X12_takesIn_1 (n + 19)).trans rfl
theorem n_X12_takesIn_39 : nth t_X12_takesIn 39 = aGetR 0 [10] 42 := (y_X12_takesIn_2 0).trans rfl
theorem n_X12_takesIn_42 : nth t_X12_takesIn 42 = aGetR 2 [4] 45 := (y_X12_takesIn_2 3).trans rfl
theorem n_X12_takesIn_45 : nth t_X12_takesIn 45 = aLdI 3 46 := (y_X12_takesIn_2 6).trans rfl
theorem n_X12_takesIn_46 : nth t_X12_takesIn 46 = aAldI 47 := (y_X12_takesIn_2 7).trans rfl
theorem n_X12_takesIn_47 : nth t_X12_takesIn 47 = aLdA 0 48 := (y_X12_takesIn_2 8).trans rfl
theorem n_X12_takesIn_48 : nth t_X12_takesIn 48 = aGetR 0 [10] 51 := (y_X12_takesIn_2 9).trans rfl
theorem n_X12_takesIn_51 : nth t_X12_takesIn 51 = aGetR 1 [4] 54 := (y_X12_takesIn_2 12).trans rfl
theorem n_X12_takesIn_54 : nth t_X12_takesIn 54 = aLdI 3 55 := (y_X12_takesIn_2 15).trans rfl
theorem n_X12_takesIn_55 : nth t_X12_takesIn 55 = aAldI 56 := (y_X12_takesIn_2 16).trans rfl
theorem n_X12_takesIn_56 : nth t_X12_takesIn 56 = aB (fun x y => x - y) 57 := (y_X12_takesIn_2 17).trans rfl
theorem n_X12_takesIn_57 : nth t_X12_takesIn 57 = aIcLe 60 96 := (y_X12_takesIn_2 18).trans rfl
theorem n_X12_takesIn_60 : nth t_X12_takesIn 60 = aLdA 0 61 := (y_X12_takesIn_2 21).trans rfl
theorem y_X12_takesIn_3 (n : Nat) : nth t_X12_takesIn (n + 61) = nth t_X12_takesIn_c3 n := (y_X12_takesIn_2 (n + 22)).trans rfl
theorem n_X12_takesIn_61 : nth t_X12_takesIn 61 = aK (.int 0) 62 := (y_X12_takesIn_3 0).trans rfl
theorem n_X12_takesIn_62 : nth t_X12_takesIn 62 = aLdA 0 63 := (y_X12_takesIn_3 1).trans rfl
theorem n_X12_takesIn_63 : nth t_X12_takesIn 63 = aGetR 0 [10] 66 := (y_X12_takesIn_3 2).trans rfl
theorem n_X12_takesIn_66 : nth t_X12_takesIn 66 = aGetR 2 [4] 69 := (y_X12_takesIn_3 5).trans rfl
theorem n_X12_takesIn_69 : nth t_X12_takesIn 69 = aLdI 3 70 := (y_X12_takesIn_3 8).trans rfl
theorem n_X12_takesIn_70 : nth t_X12_takesIn 70 = aAldI 71 := (y_X12_takesIn_3 9).trans rfl
theorem n_X12_takesIn_71 : nth t_X12_takesIn 71 = aB (fun x y => x + y) 72 := (y_X12_takesIn_3 10).trans rfl
theorem n_X12_takesIn_72 : nth t_X12_takesIn 72 = aK (.int 1) 73 := (y_X12_takesIn_3 11).trans rfl
theorem n_X12_takesIn_73 : nth t_X12_takesIn 73 = aB (fun x y => x - y) 74 := (y_X12_takesIn_3 12).trans rfl
theorem n_X12_takesIn_74 : nth t_X12_takesIn 74 = aLdI 4 76 := (y_X12_takesIn_3 13).trans rfl
theorem n_X12_takesIn_76 : nth t_X12_takesIn 76 = aB (fun x y => x - y) 77 := (y_X12_takesIn_3 15).trans rfl
theorem n_X12_takesIn_77 : nth t_X12_takesIn 77 = aK (.int 96) 79 := (y_X12_takesIn_3 16).trans rfl
theorem y_X12_takesIn_4 (n : Nat) : nth t_X12_takesIn (n + 79) = nth t_X12_takesIn_c4 n := (y_X12_takesIn_3 (n + 18)).trans rfl
theorem n_X12_takesIn_79 : nth t_X12_takesIn 79 = aK (.int 6) 81 := (y_X12_takesIn_4 0).trans rfl
theorem n_X12_takesIn_81 : nth t_X12_takesIn 81 = aLdI 2 82 := (y_X12_takesIn_4 2).trans rfl
theorem n_X12_takesIn_82 : nth t_X12_takesIn 82 = aB (fun x y => x * y) 83 := (y_X12_takesIn_4 3).trans rfl
theorem n_X12_takesIn_83 : nth t_X12_takesIn 83 = aB (fun x y => x + y) 84 := (y_X12_takesIn_4 4).trans rfl
theorem n_X12_takesIn_84 : nth t_X12_takesIn 84 = aLdI 4 86 := (y_X12_takesIn_4 5).trans rfl
theorem n_X12_takesIn_86 : nth t_X12_takesIn 86 = aB (fun x y => x + y) 87 := (y_X12_takesIn_4 7).trans rfl
theorem n_X12_takesIn_87 : nth t_X12_takesIn 87 = aCalV 110 2 90 [10] none := (y_X12_takesIn_4 8).trans rfl
theorem n_X12_takesIn_90 : nth t_X12_takesIn 90 = aInc 4 1 93 := (y_X12_takesIn_4 11).trans rfl
theorem n_X12_takesIn_93 : nth t_X12_takesIn 93 = aGoto 31 := (y_X12_takesIn_4 14).trans rfl
theorem n_X12_takesIn_96 : nth t_X12_takesIn 96 = aLdA 0 97 := (y_X12_takesIn_4 17).trans rfl
theorem n_X12_takesIn_97 : nth t_X12_takesIn 97 = aGetR 0 [10] 100 := (y_X12_takesIn_4 18).trans rfl
theorem n_X12_takesIn_100 : nth t_X12_takesIn 100 = aGetR 7 [4] 103 := (y_X12_takesIn_4 21).trans rfl
theorem y_X12_takesIn_5 (n : Nat) : nth t_X12_takesIn (n + 103) = nth t_X12_takesIn_c5 n := (y_X12_takesIn_4 (n + 24)).trans rfl
theorem n_X12_takesIn_103 : nth t_X12_takesIn 103 = aLdI 1 104 := (y_X12_takesIn_5 0).trans rfl
theorem n_X12_takesIn_104 : nth t_X12_takesIn 104 = aAldI 105 := (y_X12_takesIn_5 1).trans rfl
theorem n_X12_takesIn_105 : nth t_X12_takesIn 105 = aIfEq 108 119 := (y_X12_takesIn_5 2).trans rfl
theorem n_X12_takesIn_108 : nth t_X12_takesIn 108 = aLdA 0 109 := (y_X12_takesIn_5 5).trans rfl
theorem n_X12_takesIn_109 : nth t_X12_takesIn 109 = aK (.int 60) 111 := (y_X12_takesIn_5 6).trans rfl
theorem n_X12_takesIn_111 : nth t_X12_takesIn 111 = aK (.int 120) 113 := (y_X12_takesIn_5 8).trans rfl
theorem n_X12_takesIn_113 : nth t_X12_takesIn 113 = aLdI 2 114 := (y_X12_takesIn_5 10).trans rfl
theorem n_X12_takesIn_114 : nth t_X12_takesIn 114 = aB (fun x y => x + y) 115 := (y_X12_takesIn_5 11).trans rfl
theorem n_X12_takesIn_115 : nth t_X12_takesIn 115 = aCalV 110 2 118 [10] none := (y_X12_takesIn_5 12).trans rfl
theorem n_X12_takesIn_118 : nth t_X12_takesIn 118 = aRetV := (y_X12_takesIn_5 15).trans rfl
theorem n_X12_takesIn_119 : nth t_X12_takesIn 119 = aLdA 0 120 := (y_X12_takesIn_5 16).trans rfl
theorem n_X12_takesIn_120 : nth t_X12_takesIn 120 = aK (.int 40) 122 := (y_X12_takesIn_5 17).trans rfl
theorem y_X12_takesIn_6 (n : Nat) : nth t_X12_takesIn (n + 122) = nth t_X12_takesIn_c6 n := (y_X12_takesIn_5 (n + 19)).trans rfl
theorem n_X12_takesIn_122 : nth t_X12_takesIn 122 = aLdA 0 123 := (y_X12_takesIn_6 0).trans rfl
theorem n_X12_takesIn_123 : nth t_X12_takesIn 123 = aGetR 0 [10] 126 := (y_X12_takesIn_6 1).trans rfl
theorem n_X12_takesIn_126 : nth t_X12_takesIn 126 = aGetR 7 [4] 129 := (y_X12_takesIn_6 4).trans rfl
theorem n_X12_takesIn_129 : nth t_X12_takesIn 129 = aLdI 1 130 := (y_X12_takesIn_6 7).trans rfl
theorem n_X12_takesIn_130 : nth t_X12_takesIn 130 = aAldI 131 := (y_X12_takesIn_6 8).trans rfl
theorem n_X12_takesIn_131 : nth t_X12_takesIn 131 = aB (fun x y => x + y) 132 := (y_X12_takesIn_6 9).trans rfl
theorem n_X12_takesIn_132 : nth t_X12_takesIn 132 = aK (.int 1) 133 := (y_X12_takesIn_6 10).trans rfl
theorem n_X12_takesIn_133 : nth t_X12_takesIn 133 = aB (fun x y => x - y) 134 := (y_X12_takesIn_6 11).trans rfl
theorem n_X12_takesIn_134 : nth t_X12_takesIn 134 = aCalV 112 1 137 [10] none := (y_X12_takesIn_6 12).trans rfl
theorem n_X12_takesIn_137 : nth t_X12_takesIn 137 = aStI 4 139 := (y_X12_takesIn_6 15).trans rfl
theorem n_X12_takesIn_139 : nth t_X12_takesIn 139 = aLdI 4 141 := (y_X12_takesIn_6 17).trans rfl
theorem n_X12_takesIn_141 : nth t_X12_takesIn 141 = aK (.int (-1)) 142 := (y_X12_takesIn_6 19).trans rfl
theorem y_X12_takesIn_7 (n : Nat) : nth t_X12_takesIn (n + 142) = nth t_X12_takesIn_c7 n := (y_X12_takesIn_6 (n + 20)).trans rfl
theorem n_X12_takesIn_142 : nth t_X12_takesIn 142 = aIcEq 145 146 := (y_X12_takesIn_7 0).trans rfl
theorem n_X12_takesIn_145 : nth t_X12_takesIn 145 = aRetV := (y_X12_takesIn_7 3).trans rfl
theorem n_X12_takesIn_146 : nth t_X12_takesIn 146 = aLdA 0 147 := (y_X12_takesIn_7 4).trans rfl
theorem n_X12_takesIn_147 : nth t_X12_takesIn 147 = aK (.int 60) 149 := (y_X12_takesIn_7 5).trans rfl
theorem n_X12_takesIn_149 : nth t_X12_takesIn 149 = aK (.int 181) 152 := (y_X12_takesIn_7 7).trans rfl
theorem n_X12_takesIn_152 : nth t_X12_takesIn 152 = aLdI 4 154 := (y_X12_takesIn_7 10).trans rfl
theorem n_X12_takesIn_154 : nth t_X12_takesIn 154 = aB (fun x y => x + y) 155 := (y_X12_takesIn_7 12).trans rfl
theorem n_X12_takesIn_155 : nth t_X12_takesIn 155 = aCalV 110 2 158 [10] none := (y_X12_takesIn_7 13).trans rfl
theorem n_X12_takesIn_158 : nth t_X12_takesIn 158 = aLdA 0 159 := (y_X12_takesIn_7 16).trans rfl
theorem n_X12_takesIn_159 : nth t_X12_takesIn 159 = aK (.int 193) 162 := (y_X12_takesIn_7 17).trans rfl
theorem n_X12_takesIn_162 : nth t_X12_takesIn 162 = aLdI 4 164 := (y_X12_takesIn_7 20).trans rfl
theorem n_X12_takesIn_164 : nth t_X12_takesIn 164 = aB (fun x y => x + y) 165 := (y_X12_takesIn_7 22).trans rfl
theorem y_X12_takesIn_8 (n : Nat) : nth t_X12_takesIn (n + 165) = nth t_X12_takesIn_c8 n := (y_X12_takesIn_7 (n + 23)).trans rfl
theorem n_X12_takesIn_165 : nth t_X12_takesIn 165 = aK (.int 120) 167 := (y_X12_takesIn_8 0).trans rfl
theorem n_X12_takesIn_167 : nth t_X12_takesIn 167 = aLdI 2 168 := (y_X12_takesIn_8 2).trans rfl
theorem n_X12_takesIn_168 : nth t_X12_takesIn 168 = aB (fun x y => x + y) 169 := (y_X12_takesIn_8 3).trans rfl
theorem n_X12_takesIn_169 : nth t_X12_takesIn 169 = aCalV 110 2 172 [10] none := (y_X12_takesIn_8 4).trans rfl
theorem n_X12_takesIn_172 : nth t_X12_takesIn 172 = aLdA 0 173 := (y_X12_takesIn_8 7).trans rfl
theorem n_X12_takesIn_173 : nth t_X12_takesIn 173 = aK (.int 205) 176 := (y_X12_takesIn_8 8).trans rfl
theorem n_X12_takesIn_176 : nth t_X12_takesIn 176 = aLdI 4 178 := (y_X12_takesIn_8 11).trans rfl
theorem n_X12_takesIn_178 : nth t_X12_takesIn 178 = aB (fun x y => x + y) 179 := (y_X12_takesIn_8 13).trans rfl
theorem n_X12_takesIn_179 : nth t_X12_takesIn 179 = aK (.int 124) 181 := (y_X12_takesIn_8 14).trans rfl
theorem n_X12_takesIn_181 : nth t_X12_takesIn 181 = aLdI 2 182 := (y_X12_takesIn_8 16).trans rfl
theorem n_X12_takesIn_182 : nth t_X12_takesIn 182 = aB (fun x y => x + y) 183 := (y_X12_takesIn_8 17).trans rfl
theorem n_X12_takesIn_183 : nth t_X12_takesIn 183 = aCalV 110 2 186 [10] none := (y_X12_takesIn_8 18).trans rfl
theorem y_X12_takesIn_9 (n : Nat) : nth t_X12_takesIn (n + 186) = nth t_X12_takesIn_c9 n := (y_X12_takesIn_8 (n + 21)).trans rfl
theorem n_X12_takesIn_186 : nth t_X12_takesIn 186 = aRetV := (y_X12_takesIn_9 0).trans rfl
theorem n_X12_point_0 : nth t_X12_point 0 = aK (.int 0) 1 := rfl
theorem n_X12_point_1 : nth t_X12_point 1 = aStI 2 2 := rfl
theorem n_X12_point_2 : nth t_X12_point 2 = aLdI 2 3 := rfl
theorem n_X12_point_3 : nth t_X12_point 3 = aLdA 0 4 := rfl
theorem n_X12_point_4 : nth t_X12_point 4 = aGetI 4 [10] 7 := rfl
theorem n_X12_point_7 : nth t_X12_point 7 = aIcLt 10 36 := rfl
theorem n_X12_point_10 : nth t_X12_point 10 = aLdA 0 11 := rfl
theorem n_X12_point_11 : nth t_X12_point 11 = aGetR 2 [10] 14 := rfl
theorem n_X12_point_14 : nth t_X12_point 14 = aLdI 2 15 := rfl
theorem n_X12_point_15 : nth t_X12_point 15 = aAldI 16 := rfl
theorem n_X12_point_16 : nth t_X12_point 16 = aLdI 1 17 := rfl
theorem n_X12_point_17 : nth t_X12_point 17 = aIcEq 20 30 := rfl
theorem y_X12_point_1 (n : Nat) : nth t_X12_point (n + 20) = nth t_X12_point_c1 n := rfl
theorem n_X12_point_20 : nth t_X12_point 20 = aLdA 0 21 := (y_X12_point_1 0).trans rfl
theorem n_X12_point_21 : nth t_X12_point 21 = aGetR 3 [10] 24 := (y_X12_point_1 1).trans rfl
theorem n_X12_point_24 : nth t_X12_point 24 = aLdI 2 25 := (y_X12_point_1 4).trans rfl
theorem n_X12_point_25 : nth t_X12_point 25 = aAldI 26 := (y_X12_point_1 5).trans rfl
theorem n_X12_point_26 : nth t_X12_point 26 = aK (.int 3) 27 := (y_X12_point_1 6).trans rfl
theorem n_X12_point_27 : nth t_X12_point 27 = aIcEq 30 36 := (y_X12_point_1 7).trans rfl
theorem n_X12_point_30 : nth t_X12_point 30 = aInc 2 1 33 := (y_X12_point_1 10).trans rfl
theorem n_X12_point_33 : nth t_X12_point 33 = aGoto 2 := (y_X12_point_1 13).trans rfl
theorem n_X12_point_36 : nth t_X12_point 36 = aLdI 2 37 := (y_X12_point_1 16).trans rfl
theorem n_X12_point_37 : nth t_X12_point 37 = aK (.int 4) 38 := (y_X12_point_1 17).trans rfl
theorem n_X12_point_38 : nth t_X12_point 38 = aIcEq 41 48 := (y_X12_point_1 18).trans rfl
theorem n_X12_point_41 : nth t_X12_point 41 = aLdA 0 42 := (y_X12_point_1 21).trans rfl
theorem y_X12_point_2 (n : Nat) : nth t_X12_point (n + 42) = nth t_X12_point_c2 n := (y_X12_point_1 (n + 22)).trans rfl
theorem n_X12_point_42 : nth t_X12_point 42 = aK (.int 0) 43 := (y_X12_point_2 0).trans rfl
theorem n_X12_point_43 : nth t_X12_point 43 = aPutZ 6 [10] 46 := (y_X12_point_2 1).trans rfl
theorem n_X12_point_46 : nth t_X12_point 46 = aK (.int (-1)) 47 := (y_X12_point_2 4).trans rfl
theorem n_X12_point_47 : nth t_X12_point 47 = aRetI := (y_X12_point_2 5).trans rfl
theorem n_X12_point_48 : nth t_X12_point 48 = aLdI 2 49 := (y_X12_point_2 6).trans rfl
theorem n_X12_point_49 : nth t_X12_point 49 = aLdA 0 50 := (y_X12_point_2 7).trans rfl
theorem n_X12_point_50 : nth t_X12_point 50 = aGetI 4 [10] 53 := (y_X12_point_2 8).trans rfl
theorem n_X12_point_53 : nth t_X12_point 53 = aIcEq 56 90 := (y_X12_point_2 11).trans rfl
theorem n_X12_point_56 : nth t_X12_point 56 = aLdA 0 57 := (y_X12_point_2 14).trans rfl
theorem n_X12_point_57 : nth t_X12_point 57 = aDup 58 := (y_X12_point_2 15).trans rfl
theorem n_X12_point_58 : nth t_X12_point 58 = aGetI 4 [10] 61 := (y_X12_point_2 16).trans rfl
theorem n_X12_point_61 : nth t_X12_point 61 = aK (.int 1) 62 := (y_X12_point_2 19).trans rfl
theorem y_X12_point_3 (n : Nat) : nth t_X12_point (n + 62) = nth t_X12_point_c3 n := (y_X12_point_2 (n + 20)).trans rfl
theorem n_X12_point_62 : nth t_X12_point 62 = aB (fun x y => x + y) 63 := (y_X12_point_3 0).trans rfl
theorem n_X12_point_63 : nth t_X12_point 63 = aPutI 4 [10] 66 := (y_X12_point_3 1).trans rfl
theorem n_X12_point_66 : nth t_X12_point 66 = aLdA 0 67 := (y_X12_point_3 4).trans rfl
theorem n_X12_point_67 : nth t_X12_point 67 = aGetR 2 [10] 70 := (y_X12_point_3 5).trans rfl
theorem n_X12_point_70 : nth t_X12_point 70 = aLdI 2 71 := (y_X12_point_3 8).trans rfl
theorem n_X12_point_71 : nth t_X12_point 71 = aLdI 1 72 := (y_X12_point_3 9).trans rfl
theorem n_X12_point_72 : nth t_X12_point 72 = aAstI 73 := (y_X12_point_3 10).trans rfl
theorem n_X12_point_73 : nth t_X12_point 73 = aLdA 0 74 := (y_X12_point_3 11).trans rfl
theorem n_X12_point_74 : nth t_X12_point 74 = aGetR 3 [10] 77 := (y_X12_point_3 12).trans rfl
theorem n_X12_point_77 : nth t_X12_point 77 = aLdI 2 78 := (y_X12_point_3 15).trans rfl
theorem n_X12_point_78 : nth t_X12_point 78 = aK (.int 0) 79 := (y_X12_point_3 16).trans rfl
theorem n_X12_point_79 : nth t_X12_point 79 = aAstI 80 := (y_X12_point_3 17).trans rfl
theorem y_X12_point_4 (n : Nat) : nth t_X12_point (n + 80) = nth t_X12_point_c4 n := (y_X12_point_3 (n + 18)).trans rfl
theorem n_X12_point_80 : nth t_X12_point 80 = aLdA 0 81 := (y_X12_point_4 0).trans rfl
theorem n_X12_point_81 : nth t_X12_point 81 = aLdI 1 82 := (y_X12_point_4 1).trans rfl
theorem n_X12_point_82 : nth t_X12_point 82 = aK (.int 144) 85 := (y_X12_point_4 2).trans rfl
theorem n_X12_point_85 : nth t_X12_point 85 = aLdI 2 86 := (y_X12_point_4 5).trans rfl
theorem n_X12_point_86 : nth t_X12_point 86 = aB (fun x y => x + y) 87 := (y_X12_point_4 6).trans rfl
theorem n_X12_point_87 : nth t_X12_point 87 = aCalV 110 2 90 [10] none := (y_X12_point_4 7).trans rfl
theorem n_X12_point_90 : nth t_X12_point 90 = aLdA 0 91 := (y_X12_point_4 10).trans rfl
theorem n_X12_point_91 : nth t_X12_point 91 = aGetR 3 [10] 94 := (y_X12_point_4 11).trans rfl
theorem n_X12_point_94 : nth t_X12_point 94 = aLdI 2 95 := (y_X12_point_4 14).trans rfl
theorem n_X12_point_95 : nth t_X12_point 95 = aDup2 96 := (y_X12_point_4 15).trans rfl
theorem n_X12_point_96 : nth t_X12_point 96 = aAldI 97 := (y_X12_point_4 16).trans rfl
theorem n_X12_point_97 : nth t_X12_point 97 = aK (.int 1) 98 := (y_X12_point_4 17).trans rfl
theorem y_X12_point_5 (n : Nat) : nth t_X12_point (n + 98) = nth t_X12_point_c5 n := (y_X12_point_4 (n + 18)).trans rfl
theorem n_X12_point_98 : nth t_X12_point 98 = aB (fun x y => x + y) 99 := (y_X12_point_5 0).trans rfl
theorem n_X12_point_99 : nth t_X12_point 99 = aAstI 100 := (y_X12_point_5 1).trans rfl
theorem n_X12_point_100 : nth t_X12_point 100 = aK (.int 3) 101 := (y_X12_point_5 2).trans rfl
theorem n_X12_point_101 : nth t_X12_point 101 = aLdI 2 102 := (y_X12_point_5 3).trans rfl
theorem n_X12_point_102 : nth t_X12_point 102 = aB (fun x y => x * y) 103 := (y_X12_point_5 4).trans rfl
theorem n_X12_point_103 : nth t_X12_point 103 = aLdA 0 104 := (y_X12_point_5 5).trans rfl
theorem n_X12_point_104 : nth t_X12_point 104 = aGetR 3 [10] 107 := (y_X12_point_5 6).trans rfl
theorem n_X12_point_107 : nth t_X12_point 107 = aLdI 2 108 := (y_X12_point_5 9).trans rfl
theorem n_X12_point_108 : nth t_X12_point 108 = aAldI 109 := (y_X12_point_5 10).trans rfl
theorem n_X12_point_109 : nth t_X12_point 109 = aB (fun x y => x + y) 110 := (y_X12_point_5 11).trans rfl
theorem n_X12_point_110 : nth t_X12_point 110 = aK (.int 1) 111 := (y_X12_point_5 12).trans rfl
theorem n_X12_point_111 : nth t_X12_point 111 = aB (fun x y => x - y) 112 := (y_X12_point_5 13).trans rfl
theorem y_X12_point_6 (n : Nat) : nth t_X12_point (n + 112) = nth t_X12_point_c6 n := (y_X12_point_5 (n + 14)).trans rfl
theorem n_X12_point_112 : nth t_X12_point 112 = aRetI := (y_X12_point_6 0).trans rfl
theorem n_X12_prints_0 : nth t_X12_prints 0 = aK (.int 65) 2 := rfl
theorem n_X12_prints_2 : nth t_X12_prints 2 = aLdA 0 3 := rfl
theorem n_X12_prints_3 : nth t_X12_prints 3 = aGetR 0 [10] 6 := rfl
theorem n_X12_prints_6 : nth t_X12_prints 6 = aGetR 6 [4] 9 := rfl
theorem n_X12_prints_9 : nth t_X12_prints 9 = aLdI 1 10 := rfl
theorem n_X12_prints_10 : nth t_X12_prints 10 = aAldI 11 := rfl
theorem n_X12_prints_11 : nth t_X12_prints 11 = aB (fun x y => x + y) 12 := rfl
theorem n_X12_prints_12 : nth t_X12_prints 12 = aK (.int 1) 13 := rfl
theorem n_X12_prints_13 : nth t_X12_prints 13 = aB (fun x y => x - y) 14 := rfl
theorem n_X12_prints_14 : nth t_X12_prints 14 = aStI 3 15 := rfl
theorem n_X12_prints_15 : nth t_X12_prints 15 = aLdA 0 16 := rfl
theorem n_X12_prints_16 : nth t_X12_prints 16 = aGetR 0 [10] 19 := rfl
theorem y_X12_prints_1 (n : Nat) : nth t_X12_prints (n + 19) = nth t_X12_prints_c1 n := rfl
theorem n_X12_prints_19 : nth t_X12_prints 19 = aGetR 5 [4] 22 := (y_X12_prints_1 0).trans rfl
theorem n_X12_prints_22 : nth t_X12_prints 22 = aLdI 1 23 := (y_X12_prints_1 3).trans rfl
theorem n_X12_prints_23 : nth t_X12_prints 23 = aAldI 24 := (y_X12_prints_1 4).trans rfl
theorem n_X12_prints_24 : nth t_X12_prints 24 = aK (.int 1) 25 := (y_X12_prints_1 5).trans rfl
theorem n_X12_prints_25 : nth t_X12_prints 25 = aB (fun x y => x - y) 26 := (y_X12_prints_1 6).trans rfl
theorem n_X12_prints_26 : nth t_X12_prints 26 = aStI 4 28 := (y_X12_prints_1 7).trans rfl
theorem n_X12_prints_28 : nth t_X12_prints 28 = aLdI 4 30 := (y_X12_prints_1 9).trans rfl
theorem n_X12_prints_30 : nth t_X12_prints 30 = aIfLt 118 33 := (y_X12_prints_1 11).trans rfl
theorem n_X12_prints_33 : nth t_X12_prints 33 = aLdA 0 34 := (y_X12_prints_1 14).trans rfl
theorem n_X12_prints_34 : nth t_X12_prints 34 = aGetI 5 [10] 37 := (y_X12_prints_1 15).trans rfl
theorem n_X12_prints_37 : nth t_X12_prints 37 = aK (.int 12) 39 := (y_X12_prints_1 18).trans rfl
theorem n_X12_prints_39 : nth t_X12_prints 39 = aIcLt 42 50 := (y_X12_prints_1 20).trans rfl
theorem y_X12_prints_2 (n : Nat) : nth t_X12_prints (n + 42) = nth t_X12_prints_c2 n := (y_X12_prints_1 (n + 23)).trans rfl
theorem n_X12_prints_42 : nth t_X12_prints 42 = aLdA 0 43 := (y_X12_prints_2 0).trans rfl
theorem n_X12_prints_43 : nth t_X12_prints 43 = aLdI 3 44 := (y_X12_prints_2 1).trans rfl
theorem n_X12_prints_44 : nth t_X12_prints 44 = aCalV 112 1 47 [10] none := (y_X12_prints_2 2).trans rfl
theorem n_X12_prints_47 : nth t_X12_prints 47 = aGoto 51 := (y_X12_prints_2 5).trans rfl
theorem n_X12_prints_50 : nth t_X12_prints 50 = aK (.int (-1)) 51 := (y_X12_prints_2 8).trans rfl
theorem n_X12_prints_51 : nth t_X12_prints 51 = aStI 5 53 := (y_X12_prints_2 9).trans rfl
theorem n_X12_prints_53 : nth t_X12_prints 53 = aLdA 0 54 := (y_X12_prints_2 11).trans rfl
theorem n_X12_prints_54 : nth t_X12_prints 54 = aDup 55 := (y_X12_prints_2 12).trans rfl
theorem n_X12_prints_55 : nth t_X12_prints 55 = aGetI 5 [10] 58 := (y_X12_prints_2 13).trans rfl
theorem n_X12_prints_58 : nth t_X12_prints 58 = aK (.int 1) 59 := (y_X12_prints_2 16).trans rfl
theorem n_X12_prints_59 : nth t_X12_prints 59 = aB (fun x y => x + y) 60 := (y_X12_prints_2 17).trans rfl
theorem n_X12_prints_60 : nth t_X12_prints 60 = aPutI 5 [10] 63 := (y_X12_prints_2 18).trans rfl
theorem y_X12_prints_3 (n : Nat) : nth t_X12_prints (n + 63) = nth t_X12_prints_c3 n := (y_X12_prints_2 (n + 21)).trans rfl
theorem n_X12_prints_63 : nth t_X12_prints 63 = aLdI 5 65 := (y_X12_prints_3 0).trans rfl
theorem n_X12_prints_65 : nth t_X12_prints 65 = aK (.int (-1)) 66 := (y_X12_prints_3 2).trans rfl
theorem n_X12_prints_66 : nth t_X12_prints 66 = aIcEq 69 72 := (y_X12_prints_3 3).trans rfl
theorem n_X12_prints_69 : nth t_X12_prints 69 = aGoto 112 := (y_X12_prints_3 6).trans rfl
theorem n_X12_prints_72 : nth t_X12_prints 72 = aLdA 0 73 := (y_X12_prints_3 9).trans rfl
theorem n_X12_prints_73 : nth t_X12_prints 73 = aK (.int 68) 75 := (y_X12_prints_3 10).trans rfl
theorem n_X12_prints_75 : nth t_X12_prints 75 = aK (.int 6) 77 := (y_X12_prints_3 12).trans rfl
theorem n_X12_prints_77 : nth t_X12_prints 77 = aLdI 2 78 := (y_X12_prints_3 14).trans rfl
theorem n_X12_prints_78 : nth t_X12_prints 78 = aB (fun x y => x * y) 79 := (y_X12_prints_3 15).trans rfl
theorem n_X12_prints_79 : nth t_X12_prints 79 = aB (fun x y => x + y) 80 := (y_X12_prints_3 16).trans rfl
theorem n_X12_prints_80 : nth t_X12_prints 80 = aLdI 4 82 := (y_X12_prints_3 17).trans rfl
theorem n_X12_prints_82 : nth t_X12_prints 82 = aB (fun x y => x + y) 83 := (y_X12_prints_3 19).trans rfl
theorem y_X12_prints_4 (n : Nat) : nth t_X12_prints (n + 83) = nth t_X12_prints_c4 n := (y_X12_prints_3 (n + 20)).trans rfl
theorem n_X12_prints_83 : nth t_X12_prints 83 = aK (.int 181) 86 := (y_X12_prints_4 0).trans rfl
theorem n_X12_prints_86 : nth t_X12_prints 86 = aLdI 5 88 := (y_X12_prints_4 3).trans rfl
theorem n_X12_prints_88 : nth t_X12_prints 88 = aB (fun x y => x + y) 89 := (y_X12_prints_4 5).trans rfl
theorem n_X12_prints_89 : nth t_X12_prints 89 = aCalV 110 2 92 [10] none := (y_X12_prints_4 6).trans rfl
theorem n_X12_prints_92 : nth t_X12_prints 92 = aLdA 0 93 := (y_X12_prints_4 9).trans rfl
theorem n_X12_prints_93 : nth t_X12_prints 93 = aK (.int 205) 96 := (y_X12_prints_4 10).trans rfl
theorem n_X12_prints_96 : nth t_X12_prints 96 = aLdI 5 98 := (y_X12_prints_4 13).trans rfl
theorem n_X12_prints_98 : nth t_X12_prints 98 = aB (fun x y => x + y) 99 := (y_X12_prints_4 15).trans rfl
theorem n_X12_prints_99 : nth t_X12_prints 99 = aK (.int 132) 102 := (y_X12_prints_4 16).trans rfl
theorem n_X12_prints_102 : nth t_X12_prints 102 = aLdA 0 103 := (y_X12_prints_4 19).trans rfl
theorem n_X12_prints_103 : nth t_X12_prints 103 = aGetI 5 [10] 106 := (y_X12_prints_4 20).trans rfl
theorem n_X12_prints_106 : nth t_X12_prints 106 = aB (fun x y => x + y) 107 := (y_X12_prints_4 23).trans rfl
theorem y_X12_prints_5 (n : Nat) : nth t_X12_prints (n + 107) = nth t_X12_prints_c5 n := (y_X12_prints_4 (n + 24)).trans rfl
theorem n_X12_prints_107 : nth t_X12_prints 107 = aK (.int 1) 108 := (y_X12_prints_5 0).trans rfl
theorem n_X12_prints_108 : nth t_X12_prints 108 = aB (fun x y => x - y) 109 := (y_X12_prints_5 1).trans rfl
theorem n_X12_prints_109 : nth t_X12_prints 109 = aCalV 110 2 112 [10] none := (y_X12_prints_5 2).trans rfl
theorem n_X12_prints_112 : nth t_X12_prints 112 = aInc 4 (-1) 115 := (y_X12_prints_5 5).trans rfl
theorem n_X12_prints_115 : nth t_X12_prints 115 = aGoto 28 := (y_X12_prints_5 8).trans rfl
theorem n_X12_prints_118 : nth t_X12_prints 118 = aLdA 0 119 := (y_X12_prints_5 11).trans rfl
theorem n_X12_prints_119 : nth t_X12_prints 119 = aLdI 3 120 := (y_X12_prints_5 12).trans rfl
theorem n_X12_prints_120 : nth t_X12_prints 120 = aK (.int 128) 123 := (y_X12_prints_5 13).trans rfl
theorem n_X12_prints_123 : nth t_X12_prints 123 = aLdI 2 124 := (y_X12_prints_5 16).trans rfl
theorem n_X12_prints_124 : nth t_X12_prints 124 = aB (fun x y => x + y) 125 := (y_X12_prints_5 17).trans rfl
theorem n_X12_prints_125 : nth t_X12_prints 125 = aCalV 110 2 128 [10] none := (y_X12_prints_5 18).trans rfl
theorem n_X12_prints_128 : nth t_X12_prints 128 = aRetV := (y_X12_prints_5 21).trans rfl
theorem n_X2_init_0 : nth t_X2_init 0 = aLdA 0 1 := rfl
theorem n_X2_init_1 : nth t_X2_init 1 = aObjI 4 := rfl
theorem n_X2_init_4 : nth t_X2_init 4 = aLdA 0 5 := rfl
theorem n_X2_init_5 : nth t_X2_init 5 = aK (.int 60) 7 := rfl
theorem n_X2_init_7 : nth t_X2_init 7 = aNewA 100 9 := rfl
theorem n_X2_init_9 : nth t_X2_init 9 = aPutR 0 [1] 12 := rfl
theorem n_X2_init_12 : nth t_X2_init 12 = aLdA 0 13 := rfl
theorem n_X2_init_13 : nth t_X2_init 13 = aK (.int 60) 15 := rfl
theorem n_X2_init_15 : nth t_X2_init 15 = aNewA 100 17 := rfl
theorem n_X2_init_17 : nth t_X2_init 17 = aPutR 1 [1] 20 := rfl
theorem n_X2_init_20 : nth t_X2_init 20 = aRetV := rfl
theorem n_X2_add_0 : nth t_X2_add 0 = aLdA 0 1 := rfl
theorem n_X2_add_1 : nth t_X2_add 1 = aGetI 2 [1] 4 := rfl
theorem n_X2_add_4 : nth t_X2_add 4 = aK (.int 60) 6 := rfl
theorem n_X2_add_6 : nth t_X2_add 6 = aIcEq 9 11 := rfl
theorem n_X2_add_9 : nth t_X2_add 9 = aK (.int 0) 10 := rfl
theorem n_X2_add_10 : nth t_X2_add 10 = aRetZ := rfl
theorem n_X2_add_11 : nth t_X2_add 11 = aLdA 0 12 := rfl
theorem n_X2_add_12 : nth t_X2_add 12 = aGetR 0 [1] 15 := rfl
theorem n_X2_add_15 : nth t_X2_add 15 = aLdA 0 16 := rfl
theorem n_X2_add_16 : nth t_X2_add 16 = aGetI 2 [1] 19 := rfl
theorem n_X2_add_19 : nth t_X2_add 19 = aLdI 1 20 := rfl
theorem n_X2_add_20 : nth t_X2_add 20 = aAstI 21 := rfl
theorem y_X2_add_1 (n : Nat) : nth t_X2_add (n + 21) = nth t_X2_add_c1 n := rfl
theorem n_X2_add_21 : nth t_X2_add 21 = aLdA 0 22 := (y_X2_add_1 0).trans rfl
theorem n_X2_add_22 : nth t_X2_add 22 = aGetR 1 [1] 25 := (y_X2_add_1 1).trans rfl
theorem n_X2_add_25 : nth t_X2_add 25 = aLdA 0 26 := (y_X2_add_1 4).trans rfl
theorem n_X2_add_26 : nth t_X2_add 26 = aGetI 2 [1] 29 := (y_X2_add_1 5).trans rfl
theorem n_X2_add_29 : nth t_X2_add 29 = aLdI 2 30 := (y_X2_add_1 8).trans rfl
theorem n_X2_add_30 : nth t_X2_add 30 = aAstI 31 := (y_X2_add_1 9).trans rfl
theorem n_X2_add_31 : nth t_X2_add 31 = aLdA 0 32 := (y_X2_add_1 10).trans rfl
theorem n_X2_add_32 : nth t_X2_add 32 = aDup 33 := (y_X2_add_1 11).trans rfl
theorem n_X2_add_33 : nth t_X2_add 33 = aGetI 2 [1] 36 := (y_X2_add_1 12).trans rfl
theorem n_X2_add_36 : nth t_X2_add 36 = aK (.int 1) 37 := (y_X2_add_1 15).trans rfl
theorem n_X2_add_37 : nth t_X2_add 37 = aB (fun x y => x + y) 38 := (y_X2_add_1 16).trans rfl
theorem n_X2_add_38 : nth t_X2_add 38 = aPutI 2 [1] 41 := (y_X2_add_1 17).trans rfl
theorem y_X2_add_2 (n : Nat) : nth t_X2_add (n + 41) = nth t_X2_add_c2 n := (y_X2_add_1 (n + 20)).trans rfl
theorem n_X2_add_41 : nth t_X2_add 41 = aK (.int 1) 42 := (y_X2_add_2 0).trans rfl
theorem n_X2_add_42 : nth t_X2_add 42 = aRetZ := (y_X2_add_2 1).trans rfl
theorem n_X2_like_0 : nth t_X2_like 0 = aLdA 0 1 := rfl
theorem n_X2_like_1 : nth t_X2_like 1 = aK (.int 0) 2 := rfl
theorem n_X2_like_2 : nth t_X2_like 2 = aPutI 2 [1] 5 := rfl
theorem n_X2_like_5 : nth t_X2_like 5 = aK (.int 0) 6 := rfl
theorem n_X2_like_6 : nth t_X2_like 6 = aStI 5 8 := rfl
theorem n_X2_like_8 : nth t_X2_like 8 = aLdI 5 10 := rfl
theorem n_X2_like_10 : nth t_X2_like 10 = aLdA 1 11 := rfl
theorem n_X2_like_11 : nth t_X2_like 11 = aGetI 2 [1] 14 := rfl
theorem n_X2_like_14 : nth t_X2_like 14 = aIcLt 17 73 := rfl
theorem n_X2_like_17 : nth t_X2_like 17 = aLdA 0 18 := rfl
theorem n_X2_like_18 : nth t_X2_like 18 = aLdI 5 20 := rfl
theorem n_X2_like_20 : nth t_X2_like 20 = aLdI 2 21 := rfl
theorem y_X2_like_1 (n : Nat) : nth t_X2_like (n + 21) = nth t_X2_like_c1 n := rfl
theorem n_X2_like_21 : nth t_X2_like 21 = aIcEq 24 33 := (y_X2_like_1 0).trans rfl
theorem n_X2_like_24 : nth t_X2_like 24 = aLdI 3 25 := (y_X2_like_1 3).trans rfl
theorem n_X2_like_25 : nth t_X2_like 25 = aIfEq 28 33 := (y_X2_like_1 4).trans rfl
theorem n_X2_like_28 : nth t_X2_like 28 = aLdI 4 30 := (y_X2_like_1 7).trans rfl
theorem n_X2_like_30 : nth t_X2_like 30 = aGoto 40 := (y_X2_like_1 9).trans rfl
theorem n_X2_like_33 : nth t_X2_like 33 = aLdA 1 34 := (y_X2_like_1 12).trans rfl
theorem n_X2_like_34 : nth t_X2_like 34 = aGetR 0 [1] 37 := (y_X2_like_1 13).trans rfl
theorem n_X2_like_37 : nth t_X2_like 37 = aLdI 5 39 := (y_X2_like_1 16).trans rfl
theorem n_X2_like_39 : nth t_X2_like 39 = aAldI 40 := (y_X2_like_1 18).trans rfl
theorem n_X2_like_40 : nth t_X2_like 40 = aLdI 5 42 := (y_X2_like_1 19).trans rfl
theorem n_X2_like_42 : nth t_X2_like 42 = aLdI 2 43 := (y_X2_like_1 21).trans rfl
theorem n_X2_like_43 : nth t_X2_like 43 = aIcEq 46 56 := (y_X2_like_1 22).trans rfl
theorem y_X2_like_2 (n : Nat) : nth t_X2_like (n + 46) = nth t_X2_like_c2 n := (y_X2_like_1 (n + 25)).trans rfl
theorem n_X2_like_46 : nth t_X2_like 46 = aLdI 3 47 := (y_X2_like_2 0).trans rfl
theorem n_X2_like_47 : nth t_X2_like 47 = aK (.int 1) 48 := (y_X2_like_2 1).trans rfl
theorem n_X2_like_48 : nth t_X2_like 48 = aIcEq 51 56 := (y_X2_like_2 2).trans rfl
theorem n_X2_like_51 : nth t_X2_like 51 = aLdI 4 53 := (y_X2_like_2 5).trans rfl
theorem n_X2_like_53 : nth t_X2_like 53 = aGoto 63 := (y_X2_like_2 7).trans rfl
theorem n_X2_like_56 : nth t_X2_like 56 = aLdA 1 57 := (y_X2_like_2 10).trans rfl
theorem n_X2_like_57 : nth t_X2_like 57 = aGetR 1 [1] 60 := (y_X2_like_2 11).trans rfl
theorem n_X2_like_60 : nth t_X2_like 60 = aLdI 5 62 := (y_X2_like_2 14).trans rfl
theorem n_X2_like_62 : nth t_X2_like 62 = aAldI 63 := (y_X2_like_2 16).trans rfl
theorem n_X2_like_63 : nth t_X2_like 63 = aCalV 115 2 66 [1] none := (y_X2_like_2 17).trans rfl
theorem n_X2_like_66 : nth t_X2_like 66 = aPop 67 := (y_X2_like_2 20).trans rfl
theorem n_X2_like_67 : nth t_X2_like 67 = aInc 5 1 70 := (y_X2_like_2 21).trans rfl
theorem y_X2_like_3 (n : Nat) : nth t_X2_like (n + 70) = nth t_X2_like_c3 n := (y_X2_like_2 (n + 24)).trans rfl
theorem n_X2_like_70 : nth t_X2_like 70 = aGoto 8 := (y_X2_like_3 0).trans rfl
theorem n_X2_like_73 : nth t_X2_like 73 = aLdA 0 74 := (y_X2_like_3 3).trans rfl
theorem n_X2_like_74 : nth t_X2_like 74 = aRetA := (y_X2_like_3 4).trans rfl
theorem n_X2_apart_0 : nth t_X2_apart 0 = aLdA 0 1 := rfl
theorem n_X2_apart_1 : nth t_X2_apart 1 = aLdA 1 2 := rfl
theorem n_X2_apart_2 : nth t_X2_apart 2 = aCalV 118 1 5 [1] none := rfl
theorem n_X2_apart_5 : nth t_X2_apart 5 = aLdA 1 6 := rfl
theorem n_X2_apart_6 : nth t_X2_apart 6 = aLdA 0 7 := rfl
theorem n_X2_apart_7 : nth t_X2_apart 7 = aCalV 118 1 10 [1] none := rfl
theorem n_X2_apart_10 : nth t_X2_apart 10 = aB (fun x y => x + y) 11 := rfl
theorem n_X2_apart_11 : nth t_X2_apart 11 = aRetI := rfl
theorem n_X2_beyond_0 : nth t_X2_beyond 0 = aK (.long 0) 1 := rfl
theorem n_X2_beyond_1 : nth t_X2_beyond 1 = aStL 2 2 := rfl
theorem n_X2_beyond_2 : nth t_X2_beyond 2 = aK (.int 0) 3 := rfl
theorem n_X2_beyond_3 : nth t_X2_beyond 3 = aStI 4 5 := rfl
theorem n_X2_beyond_5 : nth t_X2_beyond 5 = aK (.int 0) 6 := rfl
theorem n_X2_beyond_6 : nth t_X2_beyond 6 = aStI 5 8 := rfl
theorem n_X2_beyond_8 : nth t_X2_beyond 8 = aLdI 5 10 := rfl
theorem n_X2_beyond_10 : nth t_X2_beyond 10 = aLdA 0 11 := rfl
theorem n_X2_beyond_11 : nth t_X2_beyond 11 = aGetI 2 [1] 14 := rfl
theorem n_X2_beyond_14 : nth t_X2_beyond 14 = aIcLt 17 86 := rfl
theorem n_X2_beyond_17 : nth t_X2_beyond 17 = aK (.int 0) 18 := rfl
theorem n_X2_beyond_18 : nth t_X2_beyond 18 = aStI 6 20 := rfl
theorem y_X2_beyond_1 (n : Nat) : nth t_X2_beyond (n + 20) = nth t_X2_beyond_c1 n := rfl
theorem n_X2_beyond_20 : nth t_X2_beyond 20 = aLdI 6 22 := (y_X2_beyond_1 0).trans rfl
theorem n_X2_beyond_22 : nth t_X2_beyond 22 = aLdA 1 23 := (y_X2_beyond_1 2).trans rfl
theorem n_X2_beyond_23 : nth t_X2_beyond 23 = aGetI 2 [1] 26 := (y_X2_beyond_1 3).trans rfl
theorem n_X2_beyond_26 : nth t_X2_beyond 26 = aIcLt 29 58 := (y_X2_beyond_1 6).trans rfl
theorem n_X2_beyond_29 : nth t_X2_beyond 29 = aLdL 2 30 := (y_X2_beyond_1 9).trans rfl
theorem n_X2_beyond_30 : nth t_X2_beyond 30 = aLdI 6 32 := (y_X2_beyond_1 10).trans rfl
theorem n_X2_beyond_32 : nth t_X2_beyond 32 = aLS (fun x y => x >>> (y.toInt64 &&& 63)) 33 := (y_X2_beyond_1 12).trans rfl
theorem n_X2_beyond_33 : nth t_X2_beyond 33 = aK (.long 1) 34 := (y_X2_beyond_1 13).trans rfl
theorem n_X2_beyond_34 : nth t_X2_beyond 34 = aLB (fun x y => x &&& y) 35 := (y_X2_beyond_1 14).trans rfl
theorem n_X2_beyond_35 : nth t_X2_beyond 35 = aK (.long 1) 36 := (y_X2_beyond_1 15).trans rfl
theorem n_X2_beyond_36 : nth t_X2_beyond 36 = aLcmp 37 := (y_X2_beyond_1 16).trans rfl
theorem n_X2_beyond_37 : nth t_X2_beyond 37 = aIfEq 52 40 := (y_X2_beyond_1 17).trans rfl
theorem y_X2_beyond_2 (n : Nat) : nth t_X2_beyond (n + 40) = nth t_X2_beyond_c2 n := (y_X2_beyond_1 (n + 20)).trans rfl
theorem n_X2_beyond_40 : nth t_X2_beyond 40 = aLdA 0 41 := (y_X2_beyond_2 0).trans rfl
theorem n_X2_beyond_41 : nth t_X2_beyond 41 = aLdI 5 43 := (y_X2_beyond_2 1).trans rfl
theorem n_X2_beyond_43 : nth t_X2_beyond 43 = aLdA 1 44 := (y_X2_beyond_2 3).trans rfl
theorem n_X2_beyond_44 : nth t_X2_beyond 44 = aLdI 6 46 := (y_X2_beyond_2 4).trans rfl
theorem n_X2_beyond_46 : nth t_X2_beyond 46 = aCalV 119 3 49 [1] none := (y_X2_beyond_2 6).trans rfl
theorem n_X2_beyond_49 : nth t_X2_beyond 49 = aIfEq 52 58 := (y_X2_beyond_2 9).trans rfl
theorem n_X2_beyond_52 : nth t_X2_beyond 52 = aInc 6 1 55 := (y_X2_beyond_2 12).trans rfl
theorem n_X2_beyond_55 : nth t_X2_beyond 55 = aGoto 20 := (y_X2_beyond_2 15).trans rfl
theorem n_X2_beyond_58 : nth t_X2_beyond 58 = aLdI 6 60 := (y_X2_beyond_2 18).trans rfl
theorem n_X2_beyond_60 : nth t_X2_beyond 60 = aLdA 1 61 := (y_X2_beyond_2 20).trans rfl
theorem n_X2_beyond_61 : nth t_X2_beyond 61 = aGetI 2 [1] 64 := (y_X2_beyond_2 21).trans rfl
theorem n_X2_beyond_64 : nth t_X2_beyond 64 = aIcEq 67 73 := (y_X2_beyond_2 24).trans rfl
theorem y_X2_beyond_3 (n : Nat) : nth t_X2_beyond (n + 67) = nth t_X2_beyond_c3 n := (y_X2_beyond_2 (n + 27)).trans rfl
theorem n_X2_beyond_67 : nth t_X2_beyond 67 = aInc 4 1 70 := (y_X2_beyond_3 0).trans rfl
theorem n_X2_beyond_70 : nth t_X2_beyond 70 = aGoto 80 := (y_X2_beyond_3 3).trans rfl
theorem n_X2_beyond_73 : nth t_X2_beyond 73 = aLdL 2 74 := (y_X2_beyond_3 6).trans rfl
theorem n_X2_beyond_74 : nth t_X2_beyond 74 = aK (.long 1) 75 := (y_X2_beyond_3 7).trans rfl
theorem n_X2_beyond_75 : nth t_X2_beyond 75 = aLdI 6 77 := (y_X2_beyond_3 8).trans rfl
theorem n_X2_beyond_77 : nth t_X2_beyond 77 = aLS (fun x y => x <<< (y.toInt64 &&& 63)) 78 := (y_X2_beyond_3 10).trans rfl
theorem n_X2_beyond_78 : nth t_X2_beyond 78 = aLB (fun x y => x ||| y) 79 := (y_X2_beyond_3 11).trans rfl
theorem n_X2_beyond_79 : nth t_X2_beyond 79 = aStL 2 80 := (y_X2_beyond_3 12).trans rfl
theorem n_X2_beyond_80 : nth t_X2_beyond 80 = aInc 5 1 83 := (y_X2_beyond_3 13).trans rfl
theorem n_X2_beyond_83 : nth t_X2_beyond 83 = aGoto 8 := (y_X2_beyond_3 16).trans rfl
theorem n_X2_beyond_86 : nth t_X2_beyond 86 = aLdI 4 88 := (y_X2_beyond_3 19).trans rfl
theorem n_X2_beyond_88 : nth t_X2_beyond 88 = aRetI := (y_X2_beyond_3 21).trans rfl
theorem n_X2_isLike_0 : nth t_X2_isLike 0 = aLdA 0 1 := rfl
theorem n_X2_isLike_1 : nth t_X2_isLike 1 = aGetR 0 [1] 4 := rfl
theorem n_X2_isLike_4 : nth t_X2_isLike 4 = aLdI 1 5 := rfl
theorem n_X2_isLike_5 : nth t_X2_isLike 5 = aAldI 6 := rfl
theorem n_X2_isLike_6 : nth t_X2_isLike 6 = aLdA 2 7 := rfl
theorem n_X2_isLike_7 : nth t_X2_isLike 7 = aGetR 0 [1] 10 := rfl
theorem n_X2_isLike_10 : nth t_X2_isLike 10 = aLdI 3 11 := rfl
theorem n_X2_isLike_11 : nth t_X2_isLike 11 = aAldI 12 := rfl
theorem n_X2_isLike_12 : nth t_X2_isLike 12 = aIcEq 15 30 := rfl
theorem n_X2_isLike_15 : nth t_X2_isLike 15 = aLdA 0 16 := rfl
theorem n_X2_isLike_16 : nth t_X2_isLike 16 = aGetR 1 [1] 19 := rfl
theorem n_X2_isLike_19 : nth t_X2_isLike 19 = aLdI 1 20 := rfl
theorem y_X2_isLike_1 (n : Nat) : nth t_X2_isLike (n + 20) = nth t_X2_isLike_c1 n := rfl
theorem n_X2_isLike_20 : nth t_X2_isLike 20 = aAldI 21 := (y_X2_isLike_1 0).trans rfl
theorem n_X2_isLike_21 : nth t_X2_isLike 21 = aLdA 2 22 := (y_X2_isLike_1 1).trans rfl
theorem n_X2_isLike_22 : nth t_X2_isLike 22 = aGetR 1 [1] 25 := (y_X2_isLike_1 2).trans rfl
theorem n_X2_isLike_25 : nth t_X2_isLike 25 = aLdI 3 26 := (y_X2_isLike_1 5).trans rfl
theorem n_X2_isLike_26 : nth t_X2_isLike 26 = aAldI 27 := (y_X2_isLike_1 6).trans rfl
theorem n_X2_isLike_27 : nth t_X2_isLike 27 = aIcEq 60 30 := (y_X2_isLike_1 7).trans rfl
theorem n_X2_isLike_30 : nth t_X2_isLike 30 = aLdA 0 31 := (y_X2_isLike_1 10).trans rfl
theorem n_X2_isLike_31 : nth t_X2_isLike 31 = aGetR 0 [1] 34 := (y_X2_isLike_1 11).trans rfl
theorem n_X2_isLike_34 : nth t_X2_isLike 34 = aLdI 1 35 := (y_X2_isLike_1 14).trans rfl
theorem n_X2_isLike_35 : nth t_X2_isLike 35 = aAldI 36 := (y_X2_isLike_1 15).trans rfl
theorem n_X2_isLike_36 : nth t_X2_isLike 36 = aLdA 2 37 := (y_X2_isLike_1 16).trans rfl
theorem n_X2_isLike_37 : nth t_X2_isLike 37 = aGetR 1 [1] 40 := (y_X2_isLike_1 17).trans rfl
theorem y_X2_isLike_2 (n : Nat) : nth t_X2_isLike (n + 40) = nth t_X2_isLike_c2 n := (y_X2_isLike_1 (n + 20)).trans rfl
theorem n_X2_isLike_40 : nth t_X2_isLike 40 = aLdI 3 41 := (y_X2_isLike_2 0).trans rfl
theorem n_X2_isLike_41 : nth t_X2_isLike 41 = aAldI 42 := (y_X2_isLike_2 1).trans rfl
theorem n_X2_isLike_42 : nth t_X2_isLike 42 = aIcEq 45 64 := (y_X2_isLike_2 2).trans rfl
theorem n_X2_isLike_45 : nth t_X2_isLike 45 = aLdA 0 46 := (y_X2_isLike_2 5).trans rfl
theorem n_X2_isLike_46 : nth t_X2_isLike 46 = aGetR 1 [1] 49 := (y_X2_isLike_2 6).trans rfl
theorem n_X2_isLike_49 : nth t_X2_isLike 49 = aLdI 1 50 := (y_X2_isLike_2 9).trans rfl
theorem n_X2_isLike_50 : nth t_X2_isLike 50 = aAldI 51 := (y_X2_isLike_2 10).trans rfl
theorem n_X2_isLike_51 : nth t_X2_isLike 51 = aLdA 2 52 := (y_X2_isLike_2 11).trans rfl
theorem n_X2_isLike_52 : nth t_X2_isLike 52 = aGetR 0 [1] 55 := (y_X2_isLike_2 12).trans rfl
theorem n_X2_isLike_55 : nth t_X2_isLike 55 = aLdI 3 56 := (y_X2_isLike_2 15).trans rfl
theorem n_X2_isLike_56 : nth t_X2_isLike 56 = aAldI 57 := (y_X2_isLike_2 16).trans rfl
theorem n_X2_isLike_57 : nth t_X2_isLike 57 = aIcEq 60 64 := (y_X2_isLike_2 17).trans rfl
theorem y_X2_isLike_3 (n : Nat) : nth t_X2_isLike (n + 60) = nth t_X2_isLike_c3 n := (y_X2_isLike_2 (n + 20)).trans rfl
theorem n_X2_isLike_60 : nth t_X2_isLike 60 = aK (.int 1) 61 := (y_X2_isLike_3 0).trans rfl
theorem n_X2_isLike_61 : nth t_X2_isLike 61 = aGoto 65 := (y_X2_isLike_3 1).trans rfl
theorem n_X2_isLike_64 : nth t_X2_isLike 64 = aK (.int 0) 65 := (y_X2_isLike_3 4).trans rfl
theorem n_X2_isLike_65 : nth t_X2_isLike 65 = aRetZ := (y_X2_isLike_3 5).trans rfl
theorem n_X3_init_0 : nth t_X3_init 0 = aLdA 0 1 := rfl
theorem n_X3_init_1 : nth t_X3_init 1 = aObjI 4 := rfl
theorem n_X3_init_4 : nth t_X3_init 4 = aLdA 0 5 := rfl
theorem n_X3_init_5 : nth t_X3_init 5 = aK (.int 217) 8 := rfl
theorem n_X3_init_8 : nth t_X3_init 8 = aNewA 100 10 := rfl
theorem n_X3_init_10 : nth t_X3_init 10 = aPutR 5 [2] 13 := rfl
theorem n_X3_init_13 : nth t_X3_init 13 = aLdA 0 14 := rfl
theorem n_X3_init_14 : nth t_X3_init 14 = aK (.int 96) 16 := rfl
theorem n_X3_init_16 : nth t_X3_init 16 = aNewA 100 18 := rfl
theorem n_X3_init_18 : nth t_X3_init 18 = aPutR 6 [2] 21 := rfl
theorem n_X3_init_21 : nth t_X3_init 21 = aLdA 0 22 := rfl
theorem n_X3_init_22 : nth t_X3_init 22 = aK (.int 217) 25 := rfl
theorem y_X3_init_1 (n : Nat) : nth t_X3_init (n + 25) = nth t_X3_init_c1 n := rfl
theorem n_X3_init_25 : nth t_X3_init 25 = aNewA 100 27 := (y_X3_init_1 0).trans rfl
theorem n_X3_init_27 : nth t_X3_init 27 = aPutR 7 [2] 30 := (y_X3_init_1 2).trans rfl
theorem n_X3_init_30 : nth t_X3_init 30 = aRetV := (y_X3_init_1 5).trans rfl
theorem n_X3_run_0 : nth t_X3_run 0 = aLdA 0 1 := rfl
theorem n_X3_run_1 : nth t_X3_run 1 = aLdA 1 2 := rfl
theorem n_X3_run_2 : nth t_X3_run 2 = aPutR 0 [2] 5 := rfl
theorem n_X3_run_5 : nth t_X3_run 5 = aLdA 0 6 := rfl
theorem n_X3_run_6 : nth t_X3_run 6 = aLdI 2 7 := rfl
theorem n_X3_run_7 : nth t_X3_run 7 = aPutI 1 [2] 10 := rfl
theorem n_X3_run_10 : nth t_X3_run 10 = aLdA 0 11 := rfl
theorem n_X3_run_11 : nth t_X3_run 11 = aLdI 6 13 := rfl
theorem n_X3_run_13 : nth t_X3_run 13 = aPutI 3 [2] 16 := rfl
theorem n_X3_run_16 : nth t_X3_run 16 = aLdA 0 17 := rfl
theorem n_X3_run_17 : nth t_X3_run 17 = aLdA 7 19 := rfl
theorem n_X3_run_19 : nth t_X3_run 19 = aPutR 4 [2] 22 := rfl
theorem y_X3_run_1 (n : Nat) : nth t_X3_run (n + 22) = nth t_X3_run_c1 n := rfl
theorem n_X3_run_22 : nth t_X3_run 22 = aLdA 7 24 := (y_X3_run_1 0).trans rfl
theorem n_X3_run_24 : nth t_X3_run 24 = aCalV 137 0 27 [3] none := (y_X3_run_1 2).trans rfl
theorem n_X3_run_27 : nth t_X3_run 27 = aLdI 4 29 := (y_X3_run_1 5).trans rfl
theorem n_X3_run_29 : nth t_X3_run 29 = aStI 8 31 := (y_X3_run_1 7).trans rfl
theorem n_X3_run_31 : nth t_X3_run 31 = aLdI 8 33 := (y_X3_run_1 9).trans rfl
theorem n_X3_run_33 : nth t_X3_run 33 = aLdI 5 35 := (y_X3_run_1 11).trans rfl
theorem n_X3_run_35 : nth t_X3_run 35 = aIcLt 38 200 := (y_X3_run_1 13).trans rfl
theorem n_X3_run_38 : nth t_X3_run 38 = aLdA 7 40 := (y_X3_run_1 16).trans rfl
theorem n_X3_run_40 : nth t_X3_run 40 = aGetI 0 [3] 43 := (y_X3_run_1 18).trans rfl
theorem n_X3_run_43 : nth t_X3_run 43 = aK (.int (-1)) 44 := (y_X3_run_1 21).trans rfl
theorem n_X3_run_44 : nth t_X3_run 44 = aIcEq 47 200 := (y_X3_run_1 22).trans rfl
theorem n_X3_run_47 : nth t_X3_run 47 = aLdA 0 48 := (y_X3_run_1 25).trans rfl
theorem y_X3_run_2 (n : Nat) : nth t_X3_run (n + 48) = nth t_X3_run_c2 n := (y_X3_run_1 (n + 26)).trans rfl
theorem n_X3_run_48 : nth t_X3_run 48 = aLdA 3 49 := (y_X3_run_2 0).trans rfl
theorem n_X3_run_49 : nth t_X3_run 49 = aLdI 8 51 := (y_X3_run_2 1).trans rfl
theorem n_X3_run_51 : nth t_X3_run 51 = aAldA 52 := (y_X3_run_2 3).trans rfl
theorem n_X3_run_52 : nth t_X3_run 52 = aLdI 8 54 := (y_X3_run_2 4).trans rfl
theorem n_X3_run_54 : nth t_X3_run 54 = aK (.int 1) 55 := (y_X3_run_2 6).trans rfl
theorem n_X3_run_55 : nth t_X3_run 55 = aB (fun x y => x + y) 56 := (y_X3_run_2 7).trans rfl
theorem n_X3_run_56 : nth t_X3_run 56 = aLdI 5 58 := (y_X3_run_2 8).trans rfl
theorem n_X3_run_58 : nth t_X3_run 58 = aIcLt 61 70 := (y_X3_run_2 10).trans rfl
theorem n_X3_run_61 : nth t_X3_run 61 = aLdA 3 62 := (y_X3_run_2 13).trans rfl
theorem n_X3_run_62 : nth t_X3_run 62 = aLdI 8 64 := (y_X3_run_2 14).trans rfl
theorem n_X3_run_64 : nth t_X3_run 64 = aK (.int 1) 65 := (y_X3_run_2 16).trans rfl
theorem n_X3_run_65 : nth t_X3_run 65 = aB (fun x y => x + y) 66 := (y_X3_run_2 17).trans rfl
theorem y_X3_run_3 (n : Nat) : nth t_X3_run (n + 66) = nth t_X3_run_c3 n := (y_X3_run_2 (n + 18)).trans rfl
theorem n_X3_run_66 : nth t_X3_run 66 = aAldA 67 := (y_X3_run_3 0).trans rfl
theorem n_X3_run_67 : nth t_X3_run 67 = aGoto 71 := (y_X3_run_3 1).trans rfl
theorem n_X3_run_70 : nth t_X3_run 70 = aK .null 71 := (y_X3_run_3 4).trans rfl
theorem n_X3_run_71 : nth t_X3_run 71 = aCalV 122 2 74 [2] none := (y_X3_run_3 5).trans rfl
theorem n_X3_run_74 : nth t_X3_run 74 = aLdA 0 75 := (y_X3_run_3 8).trans rfl
theorem n_X3_run_75 : nth t_X3_run 75 = aK (.int 1) 76 := (y_X3_run_3 9).trans rfl
theorem n_X3_run_76 : nth t_X3_run 76 = aCalV 123 1 79 [2] none := (y_X3_run_3 10).trans rfl
theorem n_X3_run_79 : nth t_X3_run 79 = aIfEq 83 82 := (y_X3_run_3 13).trans rfl
theorem n_X3_run_82 : nth t_X3_run 82 = aRetV := (y_X3_run_3 16).trans rfl
theorem n_X3_run_83 : nth t_X3_run 83 = aLdA 0 84 := (y_X3_run_3 17).trans rfl
theorem n_X3_run_84 : nth t_X3_run 84 = aCalV 130 0 87 [2] none := (y_X3_run_3 18).trans rfl
theorem n_X3_run_87 : nth t_X3_run 87 = aStI 9 89 := (y_X3_run_3 21).trans rfl
theorem y_X3_run_4 (n : Nat) : nth t_X3_run (n + 89) = nth t_X3_run_c4 n := (y_X3_run_3 (n + 23)).trans rfl
theorem n_X3_run_89 : nth t_X3_run 89 = aLdA 0 90 := (y_X3_run_4 0).trans rfl
theorem n_X3_run_90 : nth t_X3_run 90 = aK (.int 180) 93 := (y_X3_run_4 1).trans rfl
theorem n_X3_run_93 : nth t_X3_run 93 = aCalV 128 1 96 [2] none := (y_X3_run_4 4).trans rfl
theorem n_X3_run_96 : nth t_X3_run 96 = aStI 10 98 := (y_X3_run_4 7).trans rfl
theorem n_X3_run_98 : nth t_X3_run 98 = aLdA 0 99 := (y_X3_run_4 9).trans rfl
theorem n_X3_run_99 : nth t_X3_run 99 = aCalV 131 0 102 [2] none := (y_X3_run_4 10).trans rfl
theorem n_X3_run_102 : nth t_X3_run 102 = aIfEq 105 106 := (y_X3_run_4 13).trans rfl
theorem n_X3_run_105 : nth t_X3_run 105 = aRetV := (y_X3_run_4 16).trans rfl
theorem n_X3_run_106 : nth t_X3_run 106 = aLdA 7 108 := (y_X3_run_4 17).trans rfl
theorem n_X3_run_108 : nth t_X3_run 108 = aDup 109 := (y_X3_run_4 19).trans rfl
theorem n_X3_run_109 : nth t_X3_run 109 = aGetI 1 [3] 112 := (y_X3_run_4 20).trans rfl
theorem n_X3_run_112 : nth t_X3_run 112 = aK (.int 1) 113 := (y_X3_run_4 23).trans rfl
theorem y_X3_run_5 (n : Nat) : nth t_X3_run (n + 113) = nth t_X3_run_c5 n := (y_X3_run_4 (n + 24)).trans rfl
theorem n_X3_run_113 : nth t_X3_run 113 = aB (fun x y => x + y) 114 := (y_X3_run_5 0).trans rfl
theorem n_X3_run_114 : nth t_X3_run 114 = aPutI 1 [3] 117 := (y_X3_run_5 1).trans rfl
theorem n_X3_run_117 : nth t_X3_run 117 = aLdI 8 119 := (y_X3_run_5 4).trans rfl
theorem n_X3_run_119 : nth t_X3_run 119 = aLdI 5 121 := (y_X3_run_5 6).trans rfl
theorem n_X3_run_121 : nth t_X3_run 121 = aK (.int 1) 122 := (y_X3_run_5 8).trans rfl
theorem n_X3_run_122 : nth t_X3_run 122 = aB (fun x y => x - y) 123 := (y_X3_run_5 9).trans rfl
theorem n_X3_run_123 : nth t_X3_run 123 = aIcEq 131 126 := (y_X3_run_5 10).trans rfl
theorem n_X3_run_126 : nth t_X3_run 126 = aLdI 10 128 := (y_X3_run_5 13).trans rfl
theorem n_X3_run_128 : nth t_X3_run 128 = aIfEq 134 131 := (y_X3_run_5 15).trans rfl
theorem n_X3_run_131 : nth t_X3_run 131 = aK (.int 3) 132 := (y_X3_run_5 18).trans rfl
theorem n_X3_run_132 : nth t_X3_run 132 = aStI 9 134 := (y_X3_run_5 19).trans rfl
theorem n_X3_run_134 : nth t_X3_run 134 = aK (.int 1) 135 := (y_X3_run_5 21).trans rfl
theorem y_X3_run_6 (n : Nat) : nth t_X3_run (n + 135) = nth t_X3_run_c6 n := (y_X3_run_5 (n + 22)).trans rfl
theorem n_X3_run_135 : nth t_X3_run 135 = aStI 11 137 := (y_X3_run_6 0).trans rfl
theorem n_X3_run_137 : nth t_X3_run 137 = aLdI 11 139 := (y_X3_run_6 2).trans rfl
theorem n_X3_run_139 : nth t_X3_run 139 = aLdI 9 141 := (y_X3_run_6 4).trans rfl
theorem n_X3_run_141 : nth t_X3_run 141 = aIcLe 144 183 := (y_X3_run_6 6).trans rfl
theorem n_X3_run_144 : nth t_X3_run 144 = aLdA 0 145 := (y_X3_run_6 9).trans rfl
theorem n_X3_run_145 : nth t_X3_run 145 = aLdI 11 147 := (y_X3_run_6 10).trans rfl
theorem n_X3_run_147 : nth t_X3_run 147 = aCalV 135 1 150 [2] none := (y_X3_run_6 12).trans rfl
theorem n_X3_run_150 : nth t_X3_run 150 = aLdA 0 151 := (y_X3_run_6 15).trans rfl
theorem n_X3_run_151 : nth t_X3_run 151 = aK (.int 0) 152 := (y_X3_run_6 16).trans rfl
theorem n_X3_run_152 : nth t_X3_run 152 = aCalV 123 1 155 [2] none := (y_X3_run_6 17).trans rfl
theorem n_X3_run_155 : nth t_X3_run 155 = aIfEq 158 165 := (y_X3_run_6 20).trans rfl
theorem n_X3_run_158 : nth t_X3_run 158 = aLdA 0 159 := (y_X3_run_6 23).trans rfl
theorem y_X3_run_7 (n : Nat) : nth t_X3_run (n + 159) = nth t_X3_run_c7 n := (y_X3_run_6 (n + 24)).trans rfl
theorem n_X3_run_159 : nth t_X3_run 159 = aCalV 131 0 162 [2] none := (y_X3_run_7 0).trans rfl
theorem n_X3_run_162 : nth t_X3_run 162 = aIfEq 165 166 := (y_X3_run_7 3).trans rfl
theorem n_X3_run_165 : nth t_X3_run 165 = aRetV := (y_X3_run_7 6).trans rfl
theorem n_X3_run_166 : nth t_X3_run 166 = aLdA 7 168 := (y_X3_run_7 7).trans rfl
theorem n_X3_run_168 : nth t_X3_run 168 = aDup 169 := (y_X3_run_7 9).trans rfl
theorem n_X3_run_169 : nth t_X3_run 169 = aGetI 2 [3] 172 := (y_X3_run_7 10).trans rfl
theorem n_X3_run_172 : nth t_X3_run 172 = aK (.int 1) 173 := (y_X3_run_7 13).trans rfl
theorem n_X3_run_173 : nth t_X3_run 173 = aB (fun x y => x + y) 174 := (y_X3_run_7 14).trans rfl
theorem n_X3_run_174 : nth t_X3_run 174 = aPutI 2 [3] 177 := (y_X3_run_7 15).trans rfl
theorem n_X3_run_177 : nth t_X3_run 177 = aInc 11 1 180 := (y_X3_run_7 18).trans rfl
theorem n_X3_run_180 : nth t_X3_run 180 = aGoto 137 := (y_X3_run_7 21).trans rfl
theorem n_X3_run_183 : nth t_X3_run 183 = aLdI 10 185 := (y_X3_run_7 24).trans rfl
theorem y_X3_run_8 (n : Nat) : nth t_X3_run (n + 185) = nth t_X3_run_c8 n := (y_X3_run_7 (n + 26)).trans rfl
theorem n_X3_run_185 : nth t_X3_run 185 = aIfEq 194 188 := (y_X3_run_8 0).trans rfl
theorem n_X3_run_188 : nth t_X3_run 188 = aLdA 7 190 := (y_X3_run_8 3).trans rfl
theorem n_X3_run_190 : nth t_X3_run 190 = aK (.int 1) 191 := (y_X3_run_8 5).trans rfl
theorem n_X3_run_191 : nth t_X3_run 191 = aPutI 0 [3] 194 := (y_X3_run_8 6).trans rfl
theorem n_X3_run_194 : nth t_X3_run 194 = aInc 8 1 197 := (y_X3_run_8 9).trans rfl
theorem n_X3_run_197 : nth t_X3_run 197 = aGoto 31 := (y_X3_run_8 12).trans rfl
theorem n_X3_run_200 : nth t_X3_run 200 = aLdA 7 202 := (y_X3_run_8 15).trans rfl
theorem n_X3_run_202 : nth t_X3_run 202 = aGetI 0 [3] 205 := (y_X3_run_8 17).trans rfl
theorem n_X3_run_205 : nth t_X3_run 205 = aK (.int (-1)) 206 := (y_X3_run_8 20).trans rfl
theorem n_X3_run_206 : nth t_X3_run 206 = aIcEq 209 215 := (y_X3_run_8 21).trans rfl
theorem n_X3_run_209 : nth t_X3_run 209 = aLdA 7 211 := (y_X3_run_8 24).trans rfl
theorem n_X3_run_211 : nth t_X3_run 211 = aK (.int 0) 212 := (y_X3_run_8 26).trans rfl
theorem y_X3_run_9 (n : Nat) : nth t_X3_run (n + 212) = nth t_X3_run_c9 n := (y_X3_run_8 (n + 27)).trans rfl
theorem n_X3_run_212 : nth t_X3_run 212 = aPutI 0 [3] 215 := (y_X3_run_9 0).trans rfl
theorem n_X3_run_215 : nth t_X3_run 215 = aRetV := (y_X3_run_9 3).trans rfl
theorem n_X3_giveCard_0 : nth t_X3_giveCard 0 = aLdA 0 1 := rfl
theorem n_X3_giveCard_1 : nth t_X3_giveCard 1 = aGetR 6 [2] 4 := rfl
theorem n_X3_giveCard_4 : nth t_X3_giveCard 4 = aK (.int (-1)) 5 := rfl
theorem n_X3_giveCard_5 : nth t_X3_giveCard 5 = aCalS 4 2 8 none := rfl
theorem n_X3_giveCard_8 : nth t_X3_giveCard 8 = aK (.int 0) 9 := rfl
theorem n_X3_giveCard_9 : nth t_X3_giveCard 9 = aStI 3 10 := rfl
theorem n_X3_giveCard_10 : nth t_X3_giveCard 10 = aLdI 3 11 := rfl
theorem n_X3_giveCard_11 : nth t_X3_giveCard 11 = aK (.int 20) 13 := rfl
theorem n_X3_giveCard_13 : nth t_X3_giveCard 13 = aIcLt 16 96 := rfl
theorem n_X3_giveCard_16 : nth t_X3_giveCard 16 = aLdA 1 17 := rfl
theorem n_X3_giveCard_17 : nth t_X3_giveCard 17 = aLdI 3 18 := rfl
theorem n_X3_giveCard_18 : nth t_X3_giveCard 18 = aAldB 19 := rfl
theorem y_X3_giveCard_1 (n : Nat) : nth t_X3_giveCard (n + 19) = nth t_X3_giveCard_c1 n := rfl
theorem n_X3_giveCard_19 : nth t_X3_giveCard 19 = aK (.int 15) 21 := (y_X3_giveCard_1 0).trans rfl
theorem n_X3_giveCard_21 : nth t_X3_giveCard 21 = aB (fun x y => x &&& y) 22 := (y_X3_giveCard_1 2).trans rfl
theorem n_X3_giveCard_22 : nth t_X3_giveCard 22 = aK (.int 15) 24 := (y_X3_giveCard_1 3).trans rfl
theorem n_X3_giveCard_24 : nth t_X3_giveCard 24 = aIcEq 41 27 := (y_X3_giveCard_1 5).trans rfl
theorem n_X3_giveCard_27 : nth t_X3_giveCard 27 = aLdA 0 28 := (y_X3_giveCard_1 8).trans rfl
theorem n_X3_giveCard_28 : nth t_X3_giveCard 28 = aGetR 6 [2] 31 := (y_X3_giveCard_1 9).trans rfl
theorem n_X3_giveCard_31 : nth t_X3_giveCard 31 = aK (.int 0) 32 := (y_X3_giveCard_1 12).trans rfl
theorem n_X3_giveCard_32 : nth t_X3_giveCard 32 = aLdI 3 33 := (y_X3_giveCard_1 13).trans rfl
theorem n_X3_giveCard_33 : nth t_X3_giveCard 33 = aB (fun x y => x + y) 34 := (y_X3_giveCard_1 14).trans rfl
theorem n_X3_giveCard_34 : nth t_X3_giveCard 34 = aLdA 1 35 := (y_X3_giveCard_1 15).trans rfl
theorem n_X3_giveCard_35 : nth t_X3_giveCard 35 = aLdI 3 36 := (y_X3_giveCard_1 16).trans rfl
theorem n_X3_giveCard_36 : nth t_X3_giveCard 36 = aAldB 37 := (y_X3_giveCard_1 17).trans rfl
theorem y_X3_giveCard_2 (n : Nat) : nth t_X3_giveCard (n + 37) = nth t_X3_giveCard_c2 n := (y_X3_giveCard_1 (n + 18)).trans rfl
theorem n_X3_giveCard_37 : nth t_X3_giveCard 37 = aK (.int 15) 39 := (y_X3_giveCard_2 0).trans rfl
theorem n_X3_giveCard_39 : nth t_X3_giveCard 39 = aB (fun x y => x &&& y) 40 := (y_X3_giveCard_2 2).trans rfl
theorem n_X3_giveCard_40 : nth t_X3_giveCard 40 = aAstI 41 := (y_X3_giveCard_2 3).trans rfl
theorem n_X3_giveCard_41 : nth t_X3_giveCard 41 = aLdA 2 42 := (y_X3_giveCard_2 4).trans rfl
theorem n_X3_giveCard_42 : nth t_X3_giveCard 42 = aIfN 71 45 := (y_X3_giveCard_2 5).trans rfl
theorem n_X3_giveCard_45 : nth t_X3_giveCard 45 = aLdA 2 46 := (y_X3_giveCard_2 8).trans rfl
theorem n_X3_giveCard_46 : nth t_X3_giveCard 46 = aLdI 3 47 := (y_X3_giveCard_2 9).trans rfl
theorem n_X3_giveCard_47 : nth t_X3_giveCard 47 = aAldB 48 := (y_X3_giveCard_2 10).trans rfl
theorem n_X3_giveCard_48 : nth t_X3_giveCard 48 = aK (.int 15) 50 := (y_X3_giveCard_2 11).trans rfl
theorem n_X3_giveCard_50 : nth t_X3_giveCard 50 = aB (fun x y => x &&& y) 51 := (y_X3_giveCard_2 13).trans rfl
theorem n_X3_giveCard_51 : nth t_X3_giveCard 51 = aK (.int 15) 53 := (y_X3_giveCard_2 14).trans rfl
theorem n_X3_giveCard_53 : nth t_X3_giveCard 53 = aIcEq 71 56 := (y_X3_giveCard_2 16).trans rfl
theorem y_X3_giveCard_3 (n : Nat) : nth t_X3_giveCard (n + 56) = nth t_X3_giveCard_c3 n := (y_X3_giveCard_2 (n + 19)).trans rfl
theorem n_X3_giveCard_56 : nth t_X3_giveCard 56 = aLdA 0 57 := (y_X3_giveCard_3 0).trans rfl
theorem n_X3_giveCard_57 : nth t_X3_giveCard 57 = aGetR 6 [2] 60 := (y_X3_giveCard_3 1).trans rfl
theorem n_X3_giveCard_60 : nth t_X3_giveCard 60 = aK (.int 20) 62 := (y_X3_giveCard_3 4).trans rfl
theorem n_X3_giveCard_62 : nth t_X3_giveCard 62 = aLdI 3 63 := (y_X3_giveCard_3 6).trans rfl
theorem n_X3_giveCard_63 : nth t_X3_giveCard 63 = aB (fun x y => x + y) 64 := (y_X3_giveCard_3 7).trans rfl
theorem n_X3_giveCard_64 : nth t_X3_giveCard 64 = aLdA 2 65 := (y_X3_giveCard_3 8).trans rfl
theorem n_X3_giveCard_65 : nth t_X3_giveCard 65 = aLdI 3 66 := (y_X3_giveCard_3 9).trans rfl
theorem n_X3_giveCard_66 : nth t_X3_giveCard 66 = aAldB 67 := (y_X3_giveCard_3 10).trans rfl
theorem n_X3_giveCard_67 : nth t_X3_giveCard 67 = aK (.int 15) 69 := (y_X3_giveCard_3 11).trans rfl
theorem n_X3_giveCard_69 : nth t_X3_giveCard 69 = aB (fun x y => x &&& y) 70 := (y_X3_giveCard_3 13).trans rfl
theorem n_X3_giveCard_70 : nth t_X3_giveCard 70 = aAstI 71 := (y_X3_giveCard_3 14).trans rfl
theorem n_X3_giveCard_71 : nth t_X3_giveCard 71 = aLdA 1 72 := (y_X3_giveCard_3 15).trans rfl
theorem y_X3_giveCard_4 (n : Nat) : nth t_X3_giveCard (n + 72) = nth t_X3_giveCard_c4 n := (y_X3_giveCard_3 (n + 16)).trans rfl
theorem n_X3_giveCard_72 : nth t_X3_giveCard 72 = aLdI 3 73 := (y_X3_giveCard_4 0).trans rfl
theorem n_X3_giveCard_73 : nth t_X3_giveCard 73 = aAldB 74 := (y_X3_giveCard_4 1).trans rfl
theorem n_X3_giveCard_74 : nth t_X3_giveCard 74 = aK (.int 16) 76 := (y_X3_giveCard_4 2).trans rfl
theorem n_X3_giveCard_76 : nth t_X3_giveCard 76 = aB (fun x y => x &&& y) 77 := (y_X3_giveCard_4 4).trans rfl
theorem n_X3_giveCard_77 : nth t_X3_giveCard 77 = aIfEq 90 80 := (y_X3_giveCard_4 5).trans rfl
theorem n_X3_giveCard_80 : nth t_X3_giveCard 80 = aLdA 0 81 := (y_X3_giveCard_4 8).trans rfl
theorem n_X3_giveCard_81 : nth t_X3_giveCard 81 = aGetR 6 [2] 84 := (y_X3_giveCard_4 9).trans rfl
theorem n_X3_giveCard_84 : nth t_X3_giveCard 84 = aK (.int 40) 86 := (y_X3_giveCard_4 12).trans rfl
theorem n_X3_giveCard_86 : nth t_X3_giveCard 86 = aLdI 3 87 := (y_X3_giveCard_4 14).trans rfl
theorem n_X3_giveCard_87 : nth t_X3_giveCard 87 = aB (fun x y => x + y) 88 := (y_X3_giveCard_4 15).trans rfl
theorem n_X3_giveCard_88 : nth t_X3_giveCard 88 = aK (.int 1) 89 := (y_X3_giveCard_4 16).trans rfl
theorem n_X3_giveCard_89 : nth t_X3_giveCard 89 = aAstI 90 := (y_X3_giveCard_4 17).trans rfl
theorem y_X3_giveCard_5 (n : Nat) : nth t_X3_giveCard (n + 90) = nth t_X3_giveCard_c5 n := (y_X3_giveCard_4 (n + 18)).trans rfl
theorem n_X3_giveCard_90 : nth t_X3_giveCard 90 = aInc 3 1 93 := (y_X3_giveCard_5 0).trans rfl
theorem n_X3_giveCard_93 : nth t_X3_giveCard 93 = aGoto 10 := (y_X3_giveCard_5 3).trans rfl
theorem n_X3_giveCard_96 : nth t_X3_giveCard 96 = aLdA 0 97 := (y_X3_giveCard_5 6).trans rfl
theorem n_X3_giveCard_97 : nth t_X3_giveCard 97 = aGetR 6 [2] 100 := (y_X3_giveCard_5 7).trans rfl
theorem n_X3_giveCard_100 : nth t_X3_giveCard 100 = aK (.int 60) 102 := (y_X3_giveCard_5 10).trans rfl
theorem n_X3_giveCard_102 : nth t_X3_giveCard 102 = aK (.int 1) 103 := (y_X3_giveCard_5 12).trans rfl
theorem n_X3_giveCard_103 : nth t_X3_giveCard 103 = aAstI 104 := (y_X3_giveCard_5 13).trans rfl
theorem n_X3_giveCard_104 : nth t_X3_giveCard 104 = aRetV := (y_X3_giveCard_5 14).trans rfl
theorem n_X3_settle_0 : nth t_X3_settle 0 = aLdA 0 1 := rfl
theorem n_X3_settle_1 : nth t_X3_settle 1 = aK (.int 0) 2 := rfl
theorem n_X3_settle_2 : nth t_X3_settle 2 = aPutI 2 [2] 5 := rfl
theorem n_X3_settle_5 : nth t_X3_settle 5 = aLdA 0 6 := rfl
theorem n_X3_settle_6 : nth t_X3_settle 6 = aCalV 124 0 9 [2] none := rfl
theorem n_X3_settle_9 : nth t_X3_settle 9 = aLdA 0 10 := rfl
theorem n_X3_settle_10 : nth t_X3_settle 10 = aCalV 127 0 13 [2] none := rfl
theorem n_X3_settle_13 : nth t_X3_settle 13 = aPop 14 := rfl
theorem n_X3_settle_14 : nth t_X3_settle 14 = aK (.int 0) 15 := rfl
theorem n_X3_settle_15 : nth t_X3_settle 15 = aStI 2 16 := rfl
theorem n_X3_settle_16 : nth t_X3_settle 16 = aK (.int 0) 17 := rfl
theorem n_X3_settle_17 : nth t_X3_settle 17 = aStI 3 18 := rfl
theorem y_X3_settle_1 (n : Nat) : nth t_X3_settle (n + 18) = nth t_X3_settle_c1 n := rfl
theorem n_X3_settle_18 : nth t_X3_settle 18 = aLdI 3 19 := (y_X3_settle_1 0).trans rfl
theorem n_X3_settle_19 : nth t_X3_settle 19 = aK (.int 4) 20 := (y_X3_settle_1 1).trans rfl
theorem n_X3_settle_20 : nth t_X3_settle 20 = aIcLt 23 47 := (y_X3_settle_1 2).trans rfl
theorem n_X3_settle_23 : nth t_X3_settle 23 = aLdA 0 24 := (y_X3_settle_1 5).trans rfl
theorem n_X3_settle_24 : nth t_X3_settle 24 = aK (.int 144) 27 := (y_X3_settle_1 6).trans rfl
theorem n_X3_settle_27 : nth t_X3_settle 27 = aLdI 3 28 := (y_X3_settle_1 9).trans rfl
theorem n_X3_settle_28 : nth t_X3_settle 28 = aB (fun x y => x + y) 29 := (y_X3_settle_1 10).trans rfl
theorem n_X3_settle_29 : nth t_X3_settle 29 = aCalV 128 1 32 [2] none := (y_X3_settle_1 11).trans rfl
theorem n_X3_settle_32 : nth t_X3_settle 32 = aIfEq 41 35 := (y_X3_settle_1 14).trans rfl
theorem n_X3_settle_35 : nth t_X3_settle 35 = aLdI 2 36 := (y_X3_settle_1 17).trans rfl
theorem n_X3_settle_36 : nth t_X3_settle 36 = aK (.int 1) 37 := (y_X3_settle_1 18).trans rfl
theorem n_X3_settle_37 : nth t_X3_settle 37 = aLdI 3 38 := (y_X3_settle_1 19).trans rfl
theorem y_X3_settle_2 (n : Nat) : nth t_X3_settle (n + 38) = nth t_X3_settle_c2 n := (y_X3_settle_1 (n + 20)).trans rfl
theorem n_X3_settle_38 : nth t_X3_settle 38 = aB (fun x y => x <<< (y &&& 31)) 39 := (y_X3_settle_2 0).trans rfl
theorem n_X3_settle_39 : nth t_X3_settle 39 = aB (fun x y => x ||| y) 40 := (y_X3_settle_2 1).trans rfl
theorem n_X3_settle_40 : nth t_X3_settle 40 = aStI 2 41 := (y_X3_settle_2 2).trans rfl
theorem n_X3_settle_41 : nth t_X3_settle 41 = aInc 3 1 44 := (y_X3_settle_2 3).trans rfl
theorem n_X3_settle_44 : nth t_X3_settle 44 = aGoto 18 := (y_X3_settle_2 6).trans rfl
theorem n_X3_settle_47 : nth t_X3_settle 47 = aLdA 0 48 := (y_X3_settle_2 9).trans rfl
theorem n_X3_settle_48 : nth t_X3_settle 48 = aLdI 2 49 := (y_X3_settle_2 10).trans rfl
theorem n_X3_settle_49 : nth t_X3_settle 49 = aPutI 2 [2] 52 := (y_X3_settle_2 11).trans rfl
theorem n_X3_settle_52 : nth t_X3_settle 52 = aLdA 0 53 := (y_X3_settle_2 14).trans rfl
theorem n_X3_settle_53 : nth t_X3_settle 53 = aCalV 124 0 56 [2] none := (y_X3_settle_2 15).trans rfl
theorem n_X3_settle_56 : nth t_X3_settle 56 = aLdA 0 57 := (y_X3_settle_2 18).trans rfl
theorem n_X3_settle_57 : nth t_X3_settle 57 = aCalV 127 0 60 [2] none := (y_X3_settle_2 19).trans rfl
theorem y_X3_settle_3 (n : Nat) : nth t_X3_settle (n + 60) = nth t_X3_settle_c3 n := (y_X3_settle_2 (n + 22)).trans rfl
theorem n_X3_settle_60 : nth t_X3_settle 60 = aPop 61 := (y_X3_settle_3 0).trans rfl
theorem n_X3_settle_61 : nth t_X3_settle 61 = aLdI 1 62 := (y_X3_settle_3 1).trans rfl
theorem n_X3_settle_62 : nth t_X3_settle 62 = aIfEq 148 65 := (y_X3_settle_3 2).trans rfl
theorem n_X3_settle_65 : nth t_X3_settle 65 = aK (.int 0) 66 := (y_X3_settle_3 5).trans rfl
theorem n_X3_settle_66 : nth t_X3_settle 66 = aStI 3 67 := (y_X3_settle_3 6).trans rfl
theorem n_X3_settle_67 : nth t_X3_settle 67 = aK (.int 0) 68 := (y_X3_settle_3 7).trans rfl
theorem n_X3_settle_68 : nth t_X3_settle 68 = aStI 4 70 := (y_X3_settle_3 8).trans rfl
theorem n_X3_settle_70 : nth t_X3_settle 70 = aLdI 4 72 := (y_X3_settle_3 10).trans rfl
theorem n_X3_settle_72 : nth t_X3_settle 72 = aK (.int 4) 73 := (y_X3_settle_3 12).trans rfl
theorem n_X3_settle_73 : nth t_X3_settle 73 = aIcLt 76 112 := (y_X3_settle_3 13).trans rfl
theorem n_X3_settle_76 : nth t_X3_settle 76 = aLdA 0 77 := (y_X3_settle_3 16).trans rfl
theorem n_X3_settle_77 : nth t_X3_settle 77 = aK (.int 148) 80 := (y_X3_settle_3 17).trans rfl
theorem y_X3_settle_4 (n : Nat) : nth t_X3_settle (n + 80) = nth t_X3_settle_c4 n := (y_X3_settle_3 (n + 20)).trans rfl
theorem n_X3_settle_80 : nth t_X3_settle 80 = aLdI 4 82 := (y_X3_settle_4 0).trans rfl
theorem n_X3_settle_82 : nth t_X3_settle 82 = aB (fun x y => x + y) 83 := (y_X3_settle_4 2).trans rfl
theorem n_X3_settle_83 : nth t_X3_settle 83 = aCalV 129 1 86 [2] none := (y_X3_settle_4 3).trans rfl
theorem n_X3_settle_86 : nth t_X3_settle 86 = aLdA 0 87 := (y_X3_settle_4 6).trans rfl
theorem n_X3_settle_87 : nth t_X3_settle 87 = aK (.int 152) 90 := (y_X3_settle_4 7).trans rfl
theorem n_X3_settle_90 : nth t_X3_settle 90 = aLdI 4 92 := (y_X3_settle_4 10).trans rfl
theorem n_X3_settle_92 : nth t_X3_settle 92 = aB (fun x y => x + y) 93 := (y_X3_settle_4 12).trans rfl
theorem n_X3_settle_93 : nth t_X3_settle 93 = aCalV 129 1 96 [2] none := (y_X3_settle_4 13).trans rfl
theorem n_X3_settle_96 : nth t_X3_settle 96 = aIcEq 106 99 := (y_X3_settle_4 16).trans rfl
theorem n_X3_settle_99 : nth t_X3_settle 99 = aLdI 3 100 := (y_X3_settle_4 19).trans rfl
theorem n_X3_settle_100 : nth t_X3_settle 100 = aK (.int 1) 101 := (y_X3_settle_4 20).trans rfl
theorem n_X3_settle_101 : nth t_X3_settle 101 = aLdI 4 103 := (y_X3_settle_4 21).trans rfl
theorem y_X3_settle_5 (n : Nat) : nth t_X3_settle (n + 103) = nth t_X3_settle_c5 n := (y_X3_settle_4 (n + 23)).trans rfl
theorem n_X3_settle_103 : nth t_X3_settle 103 = aB (fun x y => x <<< (y &&& 31)) 104 := (y_X3_settle_5 0).trans rfl
theorem n_X3_settle_104 : nth t_X3_settle 104 = aB (fun x y => x ||| y) 105 := (y_X3_settle_5 1).trans rfl
theorem n_X3_settle_105 : nth t_X3_settle 105 = aStI 3 106 := (y_X3_settle_5 2).trans rfl
theorem n_X3_settle_106 : nth t_X3_settle 106 = aInc 4 1 109 := (y_X3_settle_5 3).trans rfl
theorem n_X3_settle_109 : nth t_X3_settle 109 = aGoto 70 := (y_X3_settle_5 6).trans rfl
theorem n_X3_settle_112 : nth t_X3_settle 112 = aK (.int 0) 113 := (y_X3_settle_5 9).trans rfl
theorem n_X3_settle_113 : nth t_X3_settle 113 = aStI 4 115 := (y_X3_settle_5 10).trans rfl
theorem n_X3_settle_115 : nth t_X3_settle 115 = aLdI 4 117 := (y_X3_settle_5 12).trans rfl
theorem n_X3_settle_117 : nth t_X3_settle 117 = aK (.int 4) 118 := (y_X3_settle_5 14).trans rfl
theorem n_X3_settle_118 : nth t_X3_settle 118 = aIcLt 121 148 := (y_X3_settle_5 15).trans rfl
theorem n_X3_settle_121 : nth t_X3_settle 121 = aLdI 3 122 := (y_X3_settle_5 18).trans rfl
theorem n_X3_settle_122 : nth t_X3_settle 122 = aLdI 4 124 := (y_X3_settle_5 19).trans rfl
theorem y_X3_settle_6 (n : Nat) : nth t_X3_settle (n + 124) = nth t_X3_settle_c6 n := (y_X3_settle_5 (n + 21)).trans rfl
theorem n_X3_settle_124 : nth t_X3_settle 124 = aB (fun x y => x >>> (y &&& 31)) 125 := (y_X3_settle_6 0).trans rfl
theorem n_X3_settle_125 : nth t_X3_settle 125 = aK (.int 1) 126 := (y_X3_settle_6 1).trans rfl
theorem n_X3_settle_126 : nth t_X3_settle 126 = aB (fun x y => x &&& y) 127 := (y_X3_settle_6 2).trans rfl
theorem n_X3_settle_127 : nth t_X3_settle 127 = aK (.int 1) 128 := (y_X3_settle_6 3).trans rfl
theorem n_X3_settle_128 : nth t_X3_settle 128 = aIcEq 131 142 := (y_X3_settle_6 4).trans rfl
theorem n_X3_settle_131 : nth t_X3_settle 131 = aLdA 0 132 := (y_X3_settle_6 7).trans rfl
theorem n_X3_settle_132 : nth t_X3_settle 132 = aGetR 6 [2] 135 := (y_X3_settle_6 8).trans rfl
theorem n_X3_settle_135 : nth t_X3_settle 135 = aK (.int 61) 137 := (y_X3_settle_6 11).trans rfl
theorem n_X3_settle_137 : nth t_X3_settle 137 = aLdI 4 139 := (y_X3_settle_6 13).trans rfl
theorem n_X3_settle_139 : nth t_X3_settle 139 = aB (fun x y => x + y) 140 := (y_X3_settle_6 15).trans rfl
theorem n_X3_settle_140 : nth t_X3_settle 140 = aK (.int 1) 141 := (y_X3_settle_6 16).trans rfl
theorem n_X3_settle_141 : nth t_X3_settle 141 = aAstI 142 := (y_X3_settle_6 17).trans rfl
theorem y_X3_settle_7 (n : Nat) : nth t_X3_settle (n + 142) = nth t_X3_settle_c7 n := (y_X3_settle_6 (n + 18)).trans rfl
theorem n_X3_settle_142 : nth t_X3_settle 142 = aInc 4 1 145 := (y_X3_settle_7 0).trans rfl
theorem n_X3_settle_145 : nth t_X3_settle 145 = aGoto 115 := (y_X3_settle_7 3).trans rfl
theorem n_X3_settle_148 : nth t_X3_settle 148 = aLdA 0 149 := (y_X3_settle_7 6).trans rfl
theorem n_X3_settle_149 : nth t_X3_settle 149 = aCalV 127 0 152 [2] none := (y_X3_settle_7 7).trans rfl
theorem n_X3_settle_152 : nth t_X3_settle 152 = aIfEq 155 157 := (y_X3_settle_7 10).trans rfl
theorem n_X3_settle_155 : nth t_X3_settle 155 = aK (.int 0) 156 := (y_X3_settle_7 13).trans rfl
theorem n_X3_settle_156 : nth t_X3_settle 156 = aRetZ := (y_X3_settle_7 14).trans rfl
theorem n_X3_settle_157 : nth t_X3_settle 157 = aLdA 0 158 := (y_X3_settle_7 15).trans rfl
theorem n_X3_settle_158 : nth t_X3_settle 158 = aGetR 4 [2] 161 := (y_X3_settle_7 16).trans rfl
theorem n_X3_settle_161 : nth t_X3_settle 161 = aK (.int 2) 162 := (y_X3_settle_7 19).trans rfl
theorem n_X3_settle_162 : nth t_X3_settle 162 = aPutI 0 [3] 165 := (y_X3_settle_7 20).trans rfl
theorem n_X3_settle_165 : nth t_X3_settle 165 = aLdA 0 166 := (y_X3_settle_7 23).trans rfl
theorem y_X3_settle_8 (n : Nat) : nth t_X3_settle (n + 166) = nth t_X3_settle_c8 n := (y_X3_settle_7 (n + 24)).trans rfl
theorem n_X3_settle_166 : nth t_X3_settle 166 = aGetR 4 [2] 169 := (y_X3_settle_8 0).trans rfl
theorem n_X3_settle_169 : nth t_X3_settle 169 = aLdA 0 170 := (y_X3_settle_8 3).trans rfl
theorem n_X3_settle_170 : nth t_X3_settle 170 = aGetI 8 [2] 173 := (y_X3_settle_8 4).trans rfl
theorem n_X3_settle_173 : nth t_X3_settle 173 = aPutI 6 [3] 176 := (y_X3_settle_8 7).trans rfl
theorem n_X3_settle_176 : nth t_X3_settle 176 = aLdA 0 177 := (y_X3_settle_8 10).trans rfl
theorem n_X3_settle_177 : nth t_X3_settle 177 = aGetR 4 [2] 180 := (y_X3_settle_8 11).trans rfl
theorem n_X3_settle_180 : nth t_X3_settle 180 = aLdA 0 181 := (y_X3_settle_8 14).trans rfl
theorem n_X3_settle_181 : nth t_X3_settle 181 = aGetI 9 [2] 184 := (y_X3_settle_8 15).trans rfl
theorem n_X3_settle_184 : nth t_X3_settle 184 = aPutI 7 [3] 187 := (y_X3_settle_8 18).trans rfl
theorem n_X3_settle_187 : nth t_X3_settle 187 = aK (.int 1) 188 := (y_X3_settle_8 21).trans rfl
theorem n_X3_settle_188 : nth t_X3_settle 188 = aRetZ := (y_X3_settle_8 22).trans rfl
theorem n_X3_joinNets_0 : nth t_X3_joinNets 0 = aK (.int 0) 1 := rfl
theorem n_X3_joinNets_1 : nth t_X3_joinNets 1 = aStI 1 2 := rfl
theorem n_X3_joinNets_2 : nth t_X3_joinNets 2 = aLdI 1 3 := rfl
theorem n_X3_joinNets_3 : nth t_X3_joinNets 3 = aK (.int 217) 6 := rfl
theorem n_X3_joinNets_6 : nth t_X3_joinNets 6 = aIcLt 9 22 := rfl
theorem n_X3_joinNets_9 : nth t_X3_joinNets 9 = aLdA 0 10 := rfl
theorem n_X3_joinNets_10 : nth t_X3_joinNets 10 = aGetR 5 [2] 13 := rfl
theorem n_X3_joinNets_13 : nth t_X3_joinNets 13 = aLdI 1 14 := rfl
theorem n_X3_joinNets_14 : nth t_X3_joinNets 14 = aLdI 1 15 := rfl
theorem n_X3_joinNets_15 : nth t_X3_joinNets 15 = aAstI 16 := rfl
theorem n_X3_joinNets_16 : nth t_X3_joinNets 16 = aInc 1 1 19 := rfl
theorem n_X3_joinNets_19 : nth t_X3_joinNets 19 = aGoto 2 := rfl
theorem y_X3_joinNets_1 (n : Nat) : nth t_X3_joinNets (n + 22) = nth t_X3_joinNets_c1 n := rfl
theorem n_X3_joinNets_22 : nth t_X3_joinNets 22 = aK (.int 0) 23 := (y_X3_joinNets_1 0).trans rfl
theorem n_X3_joinNets_23 : nth t_X3_joinNets 23 = aStI 1 24 := (y_X3_joinNets_1 1).trans rfl
theorem n_X3_joinNets_24 : nth t_X3_joinNets 24 = aLdI 1 25 := (y_X3_joinNets_1 2).trans rfl
theorem n_X3_joinNets_25 : nth t_X3_joinNets 25 = aLdA 0 26 := (y_X3_joinNets_1 3).trans rfl
theorem n_X3_joinNets_26 : nth t_X3_joinNets 26 = aGetR 0 [2] 29 := (y_X3_joinNets_1 4).trans rfl
theorem n_X3_joinNets_29 : nth t_X3_joinNets 29 = aGetI 2 [1] 32 := (y_X3_joinNets_1 7).trans rfl
theorem n_X3_joinNets_32 : nth t_X3_joinNets 32 = aIcLt 35 71 := (y_X3_joinNets_1 10).trans rfl
theorem n_X3_joinNets_35 : nth t_X3_joinNets 35 = aLdI 1 36 := (y_X3_joinNets_1 13).trans rfl
theorem n_X3_joinNets_36 : nth t_X3_joinNets 36 = aLdA 0 37 := (y_X3_joinNets_1 14).trans rfl
theorem n_X3_joinNets_37 : nth t_X3_joinNets 37 = aGetI 1 [2] 40 := (y_X3_joinNets_1 15).trans rfl
theorem n_X3_joinNets_40 : nth t_X3_joinNets 40 = aIcEq 65 43 := (y_X3_joinNets_1 18).trans rfl
theorem n_X3_joinNets_43 : nth t_X3_joinNets 43 = aLdA 0 44 := (y_X3_joinNets_1 21).trans rfl
theorem y_X3_joinNets_2 (n : Nat) : nth t_X3_joinNets (n + 44) = nth t_X3_joinNets_c2 n := (y_X3_joinNets_1 (n + 22)).trans rfl
theorem n_X3_joinNets_44 : nth t_X3_joinNets 44 = aLdA 0 45 := (y_X3_joinNets_2 0).trans rfl
theorem n_X3_joinNets_45 : nth t_X3_joinNets 45 = aGetR 0 [2] 48 := (y_X3_joinNets_2 1).trans rfl
theorem n_X3_joinNets_48 : nth t_X3_joinNets 48 = aGetR 0 [1] 51 := (y_X3_joinNets_2 4).trans rfl
theorem n_X3_joinNets_51 : nth t_X3_joinNets 51 = aLdI 1 52 := (y_X3_joinNets_2 7).trans rfl
theorem n_X3_joinNets_52 : nth t_X3_joinNets 52 = aAldI 53 := (y_X3_joinNets_2 8).trans rfl
theorem n_X3_joinNets_53 : nth t_X3_joinNets 53 = aLdA 0 54 := (y_X3_joinNets_2 9).trans rfl
theorem n_X3_joinNets_54 : nth t_X3_joinNets 54 = aGetR 0 [2] 57 := (y_X3_joinNets_2 10).trans rfl
theorem n_X3_joinNets_57 : nth t_X3_joinNets 57 = aGetR 1 [1] 60 := (y_X3_joinNets_2 13).trans rfl
theorem n_X3_joinNets_60 : nth t_X3_joinNets 60 = aLdI 1 61 := (y_X3_joinNets_2 16).trans rfl
theorem n_X3_joinNets_61 : nth t_X3_joinNets 61 = aAldI 62 := (y_X3_joinNets_2 17).trans rfl
theorem n_X3_joinNets_62 : nth t_X3_joinNets 62 = aCalV 125 2 65 [2] none := (y_X3_joinNets_2 18).trans rfl
theorem n_X3_joinNets_65 : nth t_X3_joinNets 65 = aInc 1 1 68 := (y_X3_joinNets_2 21).trans rfl
theorem y_X3_joinNets_3 (n : Nat) : nth t_X3_joinNets (n + 68) = nth t_X3_joinNets_c3 n := (y_X3_joinNets_2 (n + 24)).trans rfl
theorem n_X3_joinNets_68 : nth t_X3_joinNets 68 = aGoto 24 := (y_X3_joinNets_3 0).trans rfl
theorem n_X3_joinNets_71 : nth t_X3_joinNets 71 = aK (.int 0) 72 := (y_X3_joinNets_3 3).trans rfl
theorem n_X3_joinNets_72 : nth t_X3_joinNets 72 = aStI 1 73 := (y_X3_joinNets_3 4).trans rfl
theorem n_X3_joinNets_73 : nth t_X3_joinNets 73 = aLdI 1 74 := (y_X3_joinNets_3 5).trans rfl
theorem n_X3_joinNets_74 : nth t_X3_joinNets 74 = aK (.int 12) 76 := (y_X3_joinNets_3 6).trans rfl
theorem n_X3_joinNets_76 : nth t_X3_joinNets 76 = aIcLt 79 121 := (y_X3_joinNets_3 8).trans rfl
theorem n_X3_joinNets_79 : nth t_X3_joinNets 79 = aLdA 0 80 := (y_X3_joinNets_3 11).trans rfl
theorem n_X3_joinNets_80 : nth t_X3_joinNets 80 = aK (.int 181) 83 := (y_X3_joinNets_3 12).trans rfl
theorem n_X3_joinNets_83 : nth t_X3_joinNets 83 = aLdI 1 84 := (y_X3_joinNets_3 15).trans rfl
theorem n_X3_joinNets_84 : nth t_X3_joinNets 84 = aB (fun x y => x + y) 85 := (y_X3_joinNets_3 16).trans rfl
theorem n_X3_joinNets_85 : nth t_X3_joinNets 85 = aLdA 0 86 := (y_X3_joinNets_3 17).trans rfl
theorem n_X3_joinNets_86 : nth t_X3_joinNets 86 = aGetI 2 [2] 89 := (y_X3_joinNets_3 18).trans rfl
theorem y_X3_joinNets_4 (n : Nat) : nth t_X3_joinNets (n + 89) = nth t_X3_joinNets_c4 n := (y_X3_joinNets_3 (n + 21)).trans rfl
theorem n_X3_joinNets_89 : nth t_X3_joinNets 89 = aLdI 1 90 := (y_X3_joinNets_4 0).trans rfl
theorem n_X3_joinNets_90 : nth t_X3_joinNets 90 = aK (.int 3) 91 := (y_X3_joinNets_4 1).trans rfl
theorem n_X3_joinNets_91 : nth t_X3_joinNets 91 = aDiv 92 := (y_X3_joinNets_4 2).trans rfl
theorem n_X3_joinNets_92 : nth t_X3_joinNets 92 = aB (fun x y => x >>> (y &&& 31)) 93 := (y_X3_joinNets_4 3).trans rfl
theorem n_X3_joinNets_93 : nth t_X3_joinNets 93 = aK (.int 1) 94 := (y_X3_joinNets_4 4).trans rfl
theorem n_X3_joinNets_94 : nth t_X3_joinNets 94 = aB (fun x y => x &&& y) 95 := (y_X3_joinNets_4 5).trans rfl
theorem n_X3_joinNets_95 : nth t_X3_joinNets 95 = aK (.int 1) 96 := (y_X3_joinNets_4 6).trans rfl
theorem n_X3_joinNets_96 : nth t_X3_joinNets 96 = aIcEq 99 107 := (y_X3_joinNets_4 7).trans rfl
theorem n_X3_joinNets_99 : nth t_X3_joinNets 99 = aK (.int 205) 102 := (y_X3_joinNets_4 10).trans rfl
theorem n_X3_joinNets_102 : nth t_X3_joinNets 102 = aLdI 1 103 := (y_X3_joinNets_4 13).trans rfl
theorem n_X3_joinNets_103 : nth t_X3_joinNets 103 = aB (fun x y => x + y) 104 := (y_X3_joinNets_4 14).trans rfl
theorem n_X3_joinNets_104 : nth t_X3_joinNets 104 = aGoto 112 := (y_X3_joinNets_4 15).trans rfl
theorem y_X3_joinNets_5 (n : Nat) : nth t_X3_joinNets (n + 107) = nth t_X3_joinNets_c5 n := (y_X3_joinNets_4 (n + 18)).trans rfl
theorem n_X3_joinNets_107 : nth t_X3_joinNets 107 = aK (.int 193) 110 := (y_X3_joinNets_5 0).trans rfl
theorem n_X3_joinNets_110 : nth t_X3_joinNets 110 = aLdI 1 111 := (y_X3_joinNets_5 3).trans rfl
theorem n_X3_joinNets_111 : nth t_X3_joinNets 111 = aB (fun x y => x + y) 112 := (y_X3_joinNets_5 4).trans rfl
theorem n_X3_joinNets_112 : nth t_X3_joinNets 112 = aCalV 125 2 115 [2] none := (y_X3_joinNets_5 5).trans rfl
theorem n_X3_joinNets_115 : nth t_X3_joinNets 115 = aInc 1 1 118 := (y_X3_joinNets_5 8).trans rfl
theorem n_X3_joinNets_118 : nth t_X3_joinNets 118 = aGoto 73 := (y_X3_joinNets_5 11).trans rfl
theorem n_X3_joinNets_121 : nth t_X3_joinNets 121 = aRetV := (y_X3_joinNets_5 14).trans rfl
theorem n_X3_join_0 : nth t_X3_join 0 = aLdA 0 1 := rfl
theorem n_X3_join_1 : nth t_X3_join 1 = aGetR 5 [2] 4 := rfl
theorem n_X3_join_4 : nth t_X3_join 4 = aLdA 0 5 := rfl
theorem n_X3_join_5 : nth t_X3_join 5 = aLdI 1 6 := rfl
theorem n_X3_join_6 : nth t_X3_join 6 = aCalV 126 1 9 [2] none := rfl
theorem n_X3_join_9 : nth t_X3_join 9 = aLdA 0 10 := rfl
theorem n_X3_join_10 : nth t_X3_join 10 = aLdI 2 11 := rfl
theorem n_X3_join_11 : nth t_X3_join 11 = aCalV 126 1 14 [2] none := rfl
theorem n_X3_join_14 : nth t_X3_join 14 = aAstI 15 := rfl
theorem n_X3_join_15 : nth t_X3_join 15 = aRetV := rfl
theorem n_X3_root_0 : nth t_X3_root 0 = aLdI 1 1 := rfl
theorem n_X3_root_1 : nth t_X3_root 1 = aStI 2 2 := rfl
theorem n_X3_root_2 : nth t_X3_root 2 = aLdA 0 3 := rfl
theorem n_X3_root_3 : nth t_X3_root 3 = aGetR 5 [2] 6 := rfl
theorem n_X3_root_6 : nth t_X3_root 6 = aLdI 2 7 := rfl
theorem n_X3_root_7 : nth t_X3_root 7 = aAldI 8 := rfl
theorem n_X3_root_8 : nth t_X3_root 8 = aLdI 2 9 := rfl
theorem n_X3_root_9 : nth t_X3_root 9 = aIcEq 39 12 := rfl
theorem n_X3_root_12 : nth t_X3_root 12 = aLdA 0 13 := rfl
theorem n_X3_root_13 : nth t_X3_root 13 = aGetR 5 [2] 16 := rfl
theorem n_X3_root_16 : nth t_X3_root 16 = aLdI 2 17 := rfl
theorem n_X3_root_17 : nth t_X3_root 17 = aLdA 0 18 := rfl
theorem y_X3_root_1 (n : Nat) : nth t_X3_root (n + 18) = nth t_X3_root_c1 n := rfl
theorem n_X3_root_18 : nth t_X3_root 18 = aGetR 5 [2] 21 := (y_X3_root_1 0).trans rfl
theorem n_X3_root_21 : nth t_X3_root 21 = aLdA 0 22 := (y_X3_root_1 3).trans rfl
theorem n_X3_root_22 : nth t_X3_root 22 = aGetR 5 [2] 25 := (y_X3_root_1 4).trans rfl
theorem n_X3_root_25 : nth t_X3_root 25 = aLdI 2 26 := (y_X3_root_1 7).trans rfl
theorem n_X3_root_26 : nth t_X3_root 26 = aAldI 27 := (y_X3_root_1 8).trans rfl
theorem n_X3_root_27 : nth t_X3_root 27 = aAldI 28 := (y_X3_root_1 9).trans rfl
theorem n_X3_root_28 : nth t_X3_root 28 = aAstI 29 := (y_X3_root_1 10).trans rfl
theorem n_X3_root_29 : nth t_X3_root 29 = aLdA 0 30 := (y_X3_root_1 11).trans rfl
theorem n_X3_root_30 : nth t_X3_root 30 = aGetR 5 [2] 33 := (y_X3_root_1 12).trans rfl
theorem n_X3_root_33 : nth t_X3_root 33 = aLdI 2 34 := (y_X3_root_1 15).trans rfl
theorem n_X3_root_34 : nth t_X3_root 34 = aAldI 35 := (y_X3_root_1 16).trans rfl
theorem n_X3_root_35 : nth t_X3_root 35 = aStI 2 36 := (y_X3_root_1 17).trans rfl
theorem y_X3_root_2 (n : Nat) : nth t_X3_root (n + 36) = nth t_X3_root_c2 n := (y_X3_root_1 (n + 18)).trans rfl
theorem n_X3_root_36 : nth t_X3_root 36 = aGoto 2 := (y_X3_root_2 0).trans rfl
theorem n_X3_root_39 : nth t_X3_root 39 = aLdI 2 40 := (y_X3_root_2 3).trans rfl
theorem n_X3_root_40 : nth t_X3_root 40 = aRetI := (y_X3_root_2 4).trans rfl
theorem n_X3_seek_0 : nth t_X3_seek 0 = aLdA 0 1 := rfl
theorem n_X3_seek_1 : nth t_X3_seek 1 = aGetR 7 [2] 4 := rfl
theorem n_X3_seek_4 : nth t_X3_seek 4 = aK (.int (-1)) 5 := rfl
theorem n_X3_seek_5 : nth t_X3_seek 5 = aCalS 4 2 8 none := rfl
theorem n_X3_seek_8 : nth t_X3_seek 8 = aK (.int 96) 10 := rfl
theorem n_X3_seek_10 : nth t_X3_seek 10 = aStI 1 11 := rfl
theorem n_X3_seek_11 : nth t_X3_seek 11 = aK (.int (-1)) 12 := rfl
theorem n_X3_seek_12 : nth t_X3_seek 12 = aStI 2 13 := rfl
theorem n_X3_seek_13 : nth t_X3_seek 13 = aK (.int 0) 14 := rfl
theorem n_X3_seek_14 : nth t_X3_seek 14 = aStI 3 15 := rfl
theorem n_X3_seek_15 : nth t_X3_seek 15 = aLdI 3 16 := rfl
theorem n_X3_seek_16 : nth t_X3_seek 16 = aK (.int 96) 18 := rfl
theorem y_X3_seek_1 (n : Nat) : nth t_X3_seek (n + 18) = nth t_X3_seek_c1 n := rfl
theorem n_X3_seek_18 : nth t_X3_seek 18 = aIcLt 21 89 := (y_X3_seek_1 0).trans rfl
theorem n_X3_seek_21 : nth t_X3_seek 21 = aLdA 0 22 := (y_X3_seek_1 3).trans rfl
theorem n_X3_seek_22 : nth t_X3_seek 22 = aGetR 6 [2] 25 := (y_X3_seek_1 4).trans rfl
theorem n_X3_seek_25 : nth t_X3_seek 25 = aLdI 3 26 := (y_X3_seek_1 7).trans rfl
theorem n_X3_seek_26 : nth t_X3_seek 26 = aAldI 27 := (y_X3_seek_1 8).trans rfl
theorem n_X3_seek_27 : nth t_X3_seek 27 = aIfLt 30 33 := (y_X3_seek_1 9).trans rfl
theorem n_X3_seek_30 : nth t_X3_seek 30 = aGoto 83 := (y_X3_seek_1 12).trans rfl
theorem n_X3_seek_33 : nth t_X3_seek 33 = aLdA 0 34 := (y_X3_seek_1 15).trans rfl
theorem n_X3_seek_34 : nth t_X3_seek 34 = aLdI 3 35 := (y_X3_seek_1 16).trans rfl
theorem n_X3_seek_35 : nth t_X3_seek 35 = aCalV 126 1 38 [2] none := (y_X3_seek_1 17).trans rfl
theorem n_X3_seek_38 : nth t_X3_seek 38 = aStI 4 40 := (y_X3_seek_1 20).trans rfl
theorem n_X3_seek_40 : nth t_X3_seek 40 = aLdA 0 41 := (y_X3_seek_1 22).trans rfl
theorem y_X3_seek_2 (n : Nat) : nth t_X3_seek (n + 41) = nth t_X3_seek_c2 n := (y_X3_seek_1 (n + 23)).trans rfl
theorem n_X3_seek_41 : nth t_X3_seek 41 = aGetR 7 [2] 44 := (y_X3_seek_2 0).trans rfl
theorem n_X3_seek_44 : nth t_X3_seek 44 = aLdI 4 46 := (y_X3_seek_2 3).trans rfl
theorem n_X3_seek_46 : nth t_X3_seek 46 = aAldI 47 := (y_X3_seek_2 5).trans rfl
theorem n_X3_seek_47 : nth t_X3_seek 47 = aK (.int (-1)) 48 := (y_X3_seek_2 6).trans rfl
theorem n_X3_seek_48 : nth t_X3_seek 48 = aIcEq 51 62 := (y_X3_seek_2 7).trans rfl
theorem n_X3_seek_51 : nth t_X3_seek 51 = aLdA 0 52 := (y_X3_seek_2 10).trans rfl
theorem n_X3_seek_52 : nth t_X3_seek 52 = aGetR 7 [2] 55 := (y_X3_seek_2 11).trans rfl
theorem n_X3_seek_55 : nth t_X3_seek 55 = aLdI 4 57 := (y_X3_seek_2 14).trans rfl
theorem n_X3_seek_57 : nth t_X3_seek 57 = aLdI 3 58 := (y_X3_seek_2 16).trans rfl
theorem n_X3_seek_58 : nth t_X3_seek 58 = aAstI 59 := (y_X3_seek_2 17).trans rfl
theorem n_X3_seek_59 : nth t_X3_seek 59 = aGoto 83 := (y_X3_seek_2 18).trans rfl
theorem n_X3_seek_62 : nth t_X3_seek 62 = aLdA 0 63 := (y_X3_seek_2 21).trans rfl
theorem y_X3_seek_3 (n : Nat) : nth t_X3_seek (n + 63) = nth t_X3_seek_c3 n := (y_X3_seek_2 (n + 22)).trans rfl
theorem n_X3_seek_63 : nth t_X3_seek 63 = aGetR 7 [2] 66 := (y_X3_seek_3 0).trans rfl
theorem n_X3_seek_66 : nth t_X3_seek 66 = aLdI 4 68 := (y_X3_seek_3 3).trans rfl
theorem n_X3_seek_68 : nth t_X3_seek 68 = aAldI 69 := (y_X3_seek_3 5).trans rfl
theorem n_X3_seek_69 : nth t_X3_seek 69 = aLdI 1 70 := (y_X3_seek_3 6).trans rfl
theorem n_X3_seek_70 : nth t_X3_seek 70 = aIcLt 73 83 := (y_X3_seek_3 7).trans rfl
theorem n_X3_seek_73 : nth t_X3_seek 73 = aLdA 0 74 := (y_X3_seek_3 10).trans rfl
theorem n_X3_seek_74 : nth t_X3_seek 74 = aGetR 7 [2] 77 := (y_X3_seek_3 11).trans rfl
theorem n_X3_seek_77 : nth t_X3_seek 77 = aLdI 4 79 := (y_X3_seek_3 14).trans rfl
theorem n_X3_seek_79 : nth t_X3_seek 79 = aAldI 80 := (y_X3_seek_3 16).trans rfl
theorem n_X3_seek_80 : nth t_X3_seek 80 = aStI 1 81 := (y_X3_seek_3 17).trans rfl
theorem n_X3_seek_81 : nth t_X3_seek 81 = aLdI 3 82 := (y_X3_seek_3 18).trans rfl
theorem n_X3_seek_82 : nth t_X3_seek 82 = aStI 2 83 := (y_X3_seek_3 19).trans rfl
theorem y_X3_seek_4 (n : Nat) : nth t_X3_seek (n + 83) = nth t_X3_seek_c4 n := (y_X3_seek_3 (n + 20)).trans rfl
theorem n_X3_seek_83 : nth t_X3_seek 83 = aInc 3 1 86 := (y_X3_seek_4 0).trans rfl
theorem n_X3_seek_86 : nth t_X3_seek 86 = aGoto 15 := (y_X3_seek_4 3).trans rfl
theorem n_X3_seek_89 : nth t_X3_seek 89 = aLdA 0 90 := (y_X3_seek_4 6).trans rfl
theorem n_X3_seek_90 : nth t_X3_seek 90 = aLdI 2 91 := (y_X3_seek_4 7).trans rfl
theorem n_X3_seek_91 : nth t_X3_seek 91 = aK (.int (-1)) 92 := (y_X3_seek_4 8).trans rfl
theorem n_X3_seek_92 : nth t_X3_seek 92 = aIcEq 95 99 := (y_X3_seek_4 9).trans rfl
theorem n_X3_seek_95 : nth t_X3_seek 95 = aK (.int (-1)) 96 := (y_X3_seek_4 12).trans rfl
theorem n_X3_seek_96 : nth t_X3_seek 96 = aGoto 100 := (y_X3_seek_4 13).trans rfl
theorem n_X3_seek_99 : nth t_X3_seek 99 = aLdI 1 100 := (y_X3_seek_4 16).trans rfl
theorem n_X3_seek_100 : nth t_X3_seek 100 = aPutI 8 [2] 103 := (y_X3_seek_4 17).trans rfl
theorem n_X3_seek_103 : nth t_X3_seek 103 = aLdA 0 104 := (y_X3_seek_4 20).trans rfl
theorem n_X3_seek_104 : nth t_X3_seek 104 = aLdI 2 105 := (y_X3_seek_4 21).trans rfl
theorem y_X3_seek_5 (n : Nat) : nth t_X3_seek (n + 105) = nth t_X3_seek_c5 n := (y_X3_seek_4 (n + 22)).trans rfl
theorem n_X3_seek_105 : nth t_X3_seek 105 = aPutI 9 [2] 108 := (y_X3_seek_5 0).trans rfl
theorem n_X3_seek_108 : nth t_X3_seek 108 = aLdI 2 109 := (y_X3_seek_5 3).trans rfl
theorem n_X3_seek_109 : nth t_X3_seek 109 = aK (.int (-1)) 110 := (y_X3_seek_5 4).trans rfl
theorem n_X3_seek_110 : nth t_X3_seek 110 = aIcEq 117 113 := (y_X3_seek_5 5).trans rfl
theorem n_X3_seek_113 : nth t_X3_seek 113 = aK (.int 1) 114 := (y_X3_seek_5 8).trans rfl
theorem n_X3_seek_114 : nth t_X3_seek 114 = aGoto 118 := (y_X3_seek_5 9).trans rfl
theorem n_X3_seek_117 : nth t_X3_seek 117 = aK (.int 0) 118 := (y_X3_seek_5 12).trans rfl
theorem n_X3_seek_118 : nth t_X3_seek 118 = aRetZ := (y_X3_seek_5 13).trans rfl
theorem n_X3_takes_0 : nth t_X3_takes 0 = aLdA 0 1 := rfl
theorem n_X3_takes_1 : nth t_X3_takes 1 = aGetR 7 [2] 4 := rfl
theorem n_X3_takes_4 : nth t_X3_takes 4 = aLdA 0 5 := rfl
theorem n_X3_takes_5 : nth t_X3_takes 5 = aLdI 1 6 := rfl
theorem n_X3_takes_6 : nth t_X3_takes 6 = aCalV 126 1 9 [2] none := rfl
theorem n_X3_takes_9 : nth t_X3_takes 9 = aAldI 10 := rfl
theorem n_X3_takes_10 : nth t_X3_takes 10 = aK (.int (-1)) 11 := rfl
theorem n_X3_takes_11 : nth t_X3_takes 11 = aIcEq 18 14 := rfl
theorem n_X3_takes_14 : nth t_X3_takes 14 = aK (.int 1) 15 := rfl
theorem n_X3_takes_15 : nth t_X3_takes 15 = aGoto 19 := rfl
theorem n_X3_takes_18 : nth t_X3_takes 18 = aK (.int 0) 19 := rfl
theorem n_X3_takes_19 : nth t_X3_takes 19 = aRetZ := rfl
theorem n_X3_take_0 : nth t_X3_take 0 = aLdA 0 1 := rfl
theorem n_X3_take_1 : nth t_X3_take 1 = aGetR 7 [2] 4 := rfl
theorem n_X3_take_4 : nth t_X3_take 4 = aLdA 0 5 := rfl
theorem n_X3_take_5 : nth t_X3_take 5 = aLdI 1 6 := rfl
theorem n_X3_take_6 : nth t_X3_take 6 = aCalV 126 1 9 [2] none := rfl
theorem n_X3_take_9 : nth t_X3_take 9 = aAldI 10 := rfl
theorem n_X3_take_10 : nth t_X3_take 10 = aStI 2 11 := rfl
theorem n_X3_take_11 : nth t_X3_take 11 = aLdI 2 12 := rfl
theorem n_X3_take_12 : nth t_X3_take 12 = aK (.int (-1)) 13 := rfl
theorem n_X3_take_13 : nth t_X3_take 13 = aIcEq 16 20 := rfl
theorem n_X3_take_16 : nth t_X3_take 16 = aK (.int (-1)) 17 := rfl
theorem n_X3_take_17 : nth t_X3_take 17 = aGoto 26 := rfl
theorem y_X3_take_1 (n : Nat) : nth t_X3_take (n + 20) = nth t_X3_take_c1 n := rfl
theorem n_X3_take_20 : nth t_X3_take 20 = aLdA 0 21 := (y_X3_take_1 0).trans rfl
theorem n_X3_take_21 : nth t_X3_take 21 = aGetR 6 [2] 24 := (y_X3_take_1 1).trans rfl
theorem n_X3_take_24 : nth t_X3_take 24 = aLdI 2 25 := (y_X3_take_1 4).trans rfl
theorem n_X3_take_25 : nth t_X3_take 25 = aAldI 26 := (y_X3_take_1 5).trans rfl
theorem n_X3_take_26 : nth t_X3_take 26 = aRetI := (y_X3_take_1 6).trans rfl
theorem n_X3_breaks_0 : nth t_X3_breaks 0 = aK (.int 0) 1 := rfl
theorem n_X3_breaks_1 : nth t_X3_breaks 1 = aStI 1 2 := rfl
theorem n_X3_breaks_2 : nth t_X3_breaks 2 = aK (.int 0) 3 := rfl
theorem n_X3_breaks_3 : nth t_X3_breaks 3 = aStI 2 4 := rfl
theorem n_X3_breaks_4 : nth t_X3_breaks 4 = aLdI 2 5 := rfl
theorem n_X3_breaks_5 : nth t_X3_breaks 5 = aK (.int 3) 6 := rfl
theorem n_X3_breaks_6 : nth t_X3_breaks 6 = aIcLt 9 31 := rfl
theorem n_X3_breaks_9 : nth t_X3_breaks 9 = aLdA 0 10 := rfl
theorem n_X3_breaks_10 : nth t_X3_breaks 10 = aK (.int 156) 13 := rfl
theorem n_X3_breaks_13 : nth t_X3_breaks 13 = aLdI 2 14 := rfl
theorem n_X3_breaks_14 : nth t_X3_breaks 14 = aB (fun x y => x + y) 15 := rfl
theorem n_X3_breaks_15 : nth t_X3_breaks 15 = aCalV 128 1 18 [2] none := rfl
theorem y_X3_breaks_1 (n : Nat) : nth t_X3_breaks (n + 18) = nth t_X3_breaks_c1 n := rfl
theorem n_X3_breaks_18 : nth t_X3_breaks 18 = aIfEq 25 21 := (y_X3_breaks_1 0).trans rfl
theorem n_X3_breaks_21 : nth t_X3_breaks 21 = aLdI 2 22 := (y_X3_breaks_1 3).trans rfl
theorem n_X3_breaks_22 : nth t_X3_breaks 22 = aK (.int 1) 23 := (y_X3_breaks_1 4).trans rfl
theorem n_X3_breaks_23 : nth t_X3_breaks 23 = aB (fun x y => x + y) 24 := (y_X3_breaks_1 5).trans rfl
theorem n_X3_breaks_24 : nth t_X3_breaks 24 = aStI 1 25 := (y_X3_breaks_1 6).trans rfl
theorem n_X3_breaks_25 : nth t_X3_breaks 25 = aInc 2 1 28 := (y_X3_breaks_1 7).trans rfl
theorem n_X3_breaks_28 : nth t_X3_breaks 28 = aGoto 4 := (y_X3_breaks_1 10).trans rfl
theorem n_X3_breaks_31 : nth t_X3_breaks 31 = aLdI 1 32 := (y_X3_breaks_1 13).trans rfl
theorem n_X3_breaks_32 : nth t_X3_breaks 32 = aRetI := (y_X3_breaks_1 14).trans rfl
theorem n_X3_act_0 : nth t_X3_act 0 = aLdA 0 1 := rfl
theorem n_X3_act_1 : nth t_X3_act 1 = aCalV 132 0 4 [2] none := rfl
theorem n_X3_act_4 : nth t_X3_act 4 = aIfEq 25 7 := rfl
theorem n_X3_act_7 : nth t_X3_act 7 = aLdA 0 8 := rfl
theorem n_X3_act_8 : nth t_X3_act 8 = aCalV 133 0 11 [2] none := rfl
theorem n_X3_act_11 : nth t_X3_act 11 = aIfEq 25 14 := rfl
theorem n_X3_act_14 : nth t_X3_act 14 = aLdA 0 15 := rfl
theorem n_X3_act_15 : nth t_X3_act 15 = aCalV 134 0 18 [2] none := rfl
theorem n_X3_act_18 : nth t_X3_act 18 = aIfEq 25 21 := rfl
theorem n_X3_act_21 : nth t_X3_act 21 = aK (.int 1) 22 := rfl
theorem n_X3_act_22 : nth t_X3_act 22 = aGoto 26 := rfl
theorem n_X3_act_25 : nth t_X3_act 25 = aK (.int 0) 26 := rfl
theorem y_X3_act_1 (n : Nat) : nth t_X3_act (n + 26) = nth t_X3_act_c1 n := rfl
theorem n_X3_act_26 : nth t_X3_act 26 = aRetZ := (y_X3_act_1 0).trans rfl
theorem n_X3_print_0 : nth t_X3_print 0 = aK (.int 0) 1 := rfl
theorem n_X3_print_1 : nth t_X3_print 1 = aStI 1 2 := rfl
theorem n_X3_print_2 : nth t_X3_print 2 = aK (.int 0) 3 := rfl
theorem n_X3_print_3 : nth t_X3_print 3 = aStI 2 4 := rfl
theorem n_X3_print_4 : nth t_X3_print 4 = aLdI 2 5 := rfl
theorem n_X3_print_5 : nth t_X3_print 5 = aK (.int 12) 7 := rfl
theorem n_X3_print_7 : nth t_X3_print 7 = aIcLt 10 38 := rfl
theorem n_X3_print_10 : nth t_X3_print 10 = aLdI 1 11 := rfl
theorem n_X3_print_11 : nth t_X3_print 11 = aIfEq 14 26 := rfl
theorem n_X3_print_14 : nth t_X3_print 14 = aLdA 0 15 := rfl
theorem n_X3_print_15 : nth t_X3_print 15 = aK (.int 132) 18 := rfl
theorem n_X3_print_18 : nth t_X3_print 18 = aLdI 2 19 := rfl
theorem y_X3_print_1 (n : Nat) : nth t_X3_print (n + 19) = nth t_X3_print_c1 n := rfl
theorem n_X3_print_19 : nth t_X3_print 19 = aB (fun x y => x + y) 20 := (y_X3_print_1 0).trans rfl
theorem n_X3_print_20 : nth t_X3_print 20 = aCalV 128 1 23 [2] none := (y_X3_print_1 1).trans rfl
theorem n_X3_print_23 : nth t_X3_print 23 = aIfEq 30 26 := (y_X3_print_1 4).trans rfl
theorem n_X3_print_26 : nth t_X3_print 26 = aK (.int 1) 27 := (y_X3_print_1 7).trans rfl
theorem n_X3_print_27 : nth t_X3_print 27 = aGoto 31 := (y_X3_print_1 8).trans rfl
theorem n_X3_print_30 : nth t_X3_print 30 = aK (.int 0) 31 := (y_X3_print_1 11).trans rfl
theorem n_X3_print_31 : nth t_X3_print 31 = aStI 1 32 := (y_X3_print_1 12).trans rfl
theorem n_X3_print_32 : nth t_X3_print 32 = aInc 2 1 35 := (y_X3_print_1 13).trans rfl
theorem n_X3_print_35 : nth t_X3_print 35 = aGoto 4 := (y_X3_print_1 16).trans rfl
theorem n_X3_print_38 : nth t_X3_print 38 = aLdI 1 39 := (y_X3_print_1 19).trans rfl
theorem n_X3_print_39 : nth t_X3_print 39 = aIfEq 42 44 := (y_X3_print_1 20).trans rfl
theorem n_X3_print_42 : nth t_X3_print 42 = aK (.int 1) 43 := (y_X3_print_1 23).trans rfl
theorem y_X3_print_2 (n : Nat) : nth t_X3_print (n + 43) = nth t_X3_print_c2 n := (y_X3_print_1 (n + 24)).trans rfl
theorem n_X3_print_43 : nth t_X3_print 43 = aRetZ := (y_X3_print_2 0).trans rfl
theorem n_X3_print_44 : nth t_X3_print 44 = aLdA 0 45 := (y_X3_print_2 1).trans rfl
theorem n_X3_print_45 : nth t_X3_print 45 = aGetR 4 [2] 48 := (y_X3_print_2 2).trans rfl
theorem n_X3_print_48 : nth t_X3_print 48 = aGetI 3 [3] 51 := (y_X3_print_2 5).trans rfl
theorem n_X3_print_51 : nth t_X3_print 51 = aK (.int 60) 53 := (y_X3_print_2 8).trans rfl
theorem n_X3_print_53 : nth t_X3_print 53 = aIcEq 56 66 := (y_X3_print_2 10).trans rfl
theorem n_X3_print_56 : nth t_X3_print 56 = aLdA 0 57 := (y_X3_print_2 13).trans rfl
theorem n_X3_print_57 : nth t_X3_print 57 = aGetR 4 [2] 60 := (y_X3_print_2 14).trans rfl
theorem n_X3_print_60 : nth t_X3_print 60 = aK (.int 3) 61 := (y_X3_print_2 17).trans rfl
theorem n_X3_print_61 : nth t_X3_print 61 = aPutI 0 [3] 64 := (y_X3_print_2 18).trans rfl
theorem n_X3_print_64 : nth t_X3_print 64 = aK (.int 0) 65 := (y_X3_print_2 21).trans rfl
theorem n_X3_print_65 : nth t_X3_print 65 = aRetZ := (y_X3_print_2 22).trans rfl
theorem y_X3_print_3 (n : Nat) : nth t_X3_print (n + 66) = nth t_X3_print_c3 n := (y_X3_print_2 (n + 23)).trans rfl
theorem n_X3_print_66 : nth t_X3_print 66 = aK (.int 0) 67 := (y_X3_print_3 0).trans rfl
theorem n_X3_print_67 : nth t_X3_print 67 = aStI 2 68 := (y_X3_print_3 1).trans rfl
theorem n_X3_print_68 : nth t_X3_print 68 = aLdI 2 69 := (y_X3_print_3 2).trans rfl
theorem n_X3_print_69 : nth t_X3_print 69 = aK (.int 12) 71 := (y_X3_print_3 3).trans rfl
theorem n_X3_print_71 : nth t_X3_print 71 = aIcLt 74 124 := (y_X3_print_3 5).trans rfl
theorem n_X3_print_74 : nth t_X3_print 74 = aLdA 0 75 := (y_X3_print_3 8).trans rfl
theorem n_X3_print_75 : nth t_X3_print 75 = aGetR 4 [2] 78 := (y_X3_print_3 9).trans rfl
theorem n_X3_print_78 : nth t_X3_print 78 = aGetR 8 [3] 81 := (y_X3_print_3 12).trans rfl
theorem n_X3_print_81 : nth t_X3_print 81 = aLdA 0 82 := (y_X3_print_3 15).trans rfl
theorem n_X3_print_82 : nth t_X3_print 82 = aGetR 4 [2] 85 := (y_X3_print_3 16).trans rfl
theorem n_X3_print_85 : nth t_X3_print 85 = aGetI 3 [3] 88 := (y_X3_print_3 19).trans rfl
theorem n_X3_print_88 : nth t_X3_print 88 = aAldA 89 := (y_X3_print_3 22).trans rfl
theorem y_X3_print_4 (n : Nat) : nth t_X3_print (n + 89) = nth t_X3_print_c4 n := (y_X3_print_3 (n + 23)).trans rfl
theorem n_X3_print_89 : nth t_X3_print 89 = aLdI 2 90 := (y_X3_print_4 0).trans rfl
theorem n_X3_print_90 : nth t_X3_print 90 = aLdA 0 91 := (y_X3_print_4 1).trans rfl
theorem n_X3_print_91 : nth t_X3_print 91 = aK (.int 132) 94 := (y_X3_print_4 2).trans rfl
theorem n_X3_print_94 : nth t_X3_print 94 = aLdI 2 95 := (y_X3_print_4 5).trans rfl
theorem n_X3_print_95 : nth t_X3_print 95 = aB (fun x y => x + y) 96 := (y_X3_print_4 6).trans rfl
theorem n_X3_print_96 : nth t_X3_print 96 = aCalV 128 1 99 [2] none := (y_X3_print_4 7).trans rfl
theorem n_X3_print_99 : nth t_X3_print 99 = aIfEq 114 102 := (y_X3_print_4 10).trans rfl
theorem n_X3_print_102 : nth t_X3_print 102 = aLdA 0 103 := (y_X3_print_4 13).trans rfl
theorem n_X3_print_103 : nth t_X3_print 103 = aK (.int 132) 106 := (y_X3_print_4 14).trans rfl
theorem n_X3_print_106 : nth t_X3_print 106 = aLdI 2 107 := (y_X3_print_4 17).trans rfl
theorem n_X3_print_107 : nth t_X3_print 107 = aB (fun x y => x + y) 108 := (y_X3_print_4 18).trans rfl
theorem n_X3_print_108 : nth t_X3_print 108 = aCalV 129 1 111 [2] none := (y_X3_print_4 19).trans rfl
theorem y_X3_print_5 (n : Nat) : nth t_X3_print (n + 111) = nth t_X3_print_c5 n := (y_X3_print_4 (n + 22)).trans rfl
theorem n_X3_print_111 : nth t_X3_print 111 = aGoto 116 := (y_X3_print_5 0).trans rfl
theorem n_X3_print_114 : nth t_X3_print 114 = aK (.int 15) 116 := (y_X3_print_5 3).trans rfl
theorem n_X3_print_116 : nth t_X3_print 116 = aU (fun x => x.toInt8.toInt32) 117 := (y_X3_print_5 5).trans rfl
theorem n_X3_print_117 : nth t_X3_print 117 = aAstB 118 := (y_X3_print_5 6).trans rfl
theorem n_X3_print_118 : nth t_X3_print 118 = aInc 2 1 121 := (y_X3_print_5 7).trans rfl
theorem n_X3_print_121 : nth t_X3_print 121 = aGoto 68 := (y_X3_print_5 10).trans rfl
theorem n_X3_print_124 : nth t_X3_print 124 = aLdA 0 125 := (y_X3_print_5 13).trans rfl
theorem n_X3_print_125 : nth t_X3_print 125 = aGetR 4 [2] 128 := (y_X3_print_5 14).trans rfl
theorem n_X3_print_128 : nth t_X3_print 128 = aDup 129 := (y_X3_print_5 17).trans rfl
theorem n_X3_print_129 : nth t_X3_print 129 = aGetI 3 [3] 132 := (y_X3_print_5 18).trans rfl
theorem n_X3_print_132 : nth t_X3_print 132 = aK (.int 1) 133 := (y_X3_print_5 21).trans rfl
theorem n_X3_print_133 : nth t_X3_print 133 = aB (fun x y => x + y) 134 := (y_X3_print_5 22).trans rfl
theorem y_X3_print_6 (n : Nat) : nth t_X3_print (n + 134) = nth t_X3_print_c6 n := (y_X3_print_5 (n + 23)).trans rfl
theorem n_X3_print_134 : nth t_X3_print 134 = aPutI 3 [3] 137 := (y_X3_print_6 0).trans rfl
theorem n_X3_print_137 : nth t_X3_print 137 = aK (.int 1) 138 := (y_X3_print_6 3).trans rfl
theorem n_X3_print_138 : nth t_X3_print 138 = aRetZ := (y_X3_print_6 4).trans rfl
theorem n_X3_count_0 : nth t_X3_count 0 = aK (.int 0) 1 := rfl
theorem n_X3_count_1 : nth t_X3_count 1 = aStI 1 2 := rfl
theorem n_X3_count_2 : nth t_X3_count 2 = aLdI 1 3 := rfl
theorem n_X3_count_3 : nth t_X3_count 3 = aK (.int 4) 4 := rfl
theorem n_X3_count_4 : nth t_X3_count 4 = aIcLt 7 154 := rfl
theorem n_X3_count_7 : nth t_X3_count 7 = aLdA 0 8 := rfl
theorem n_X3_count_8 : nth t_X3_count 8 = aK (.int 120) 10 := rfl
theorem n_X3_count_10 : nth t_X3_count 10 = aLdI 1 11 := rfl
theorem n_X3_count_11 : nth t_X3_count 11 = aB (fun x y => x + y) 12 := rfl
theorem n_X3_count_12 : nth t_X3_count 12 = aCalV 128 1 15 [2] none := rfl
theorem n_X3_count_15 : nth t_X3_count 15 = aLdA 0 16 := rfl
theorem n_X3_count_16 : nth t_X3_count 16 = aK (.int 124) 18 := rfl
theorem y_X3_count_1 (n : Nat) : nth t_X3_count (n + 18) = nth t_X3_count_c1 n := rfl
theorem n_X3_count_18 : nth t_X3_count 18 = aLdI 1 19 := (y_X3_count_1 0).trans rfl
theorem n_X3_count_19 : nth t_X3_count 19 = aB (fun x y => x + y) 20 := (y_X3_count_1 1).trans rfl
theorem n_X3_count_20 : nth t_X3_count 20 = aCalV 128 1 23 [2] none := (y_X3_count_1 2).trans rfl
theorem n_X3_count_23 : nth t_X3_count 23 = aIcEq 126 26 := (y_X3_count_1 5).trans rfl
theorem n_X3_count_26 : nth t_X3_count 26 = aK (.int 0) 27 := (y_X3_count_1 8).trans rfl
theorem n_X3_count_27 : nth t_X3_count 27 = aStI 2 28 := (y_X3_count_1 9).trans rfl
theorem n_X3_count_28 : nth t_X3_count 28 = aK (.int 5) 29 := (y_X3_count_1 10).trans rfl
theorem n_X3_count_29 : nth t_X3_count 29 = aStI 3 30 := (y_X3_count_1 11).trans rfl
theorem n_X3_count_30 : nth t_X3_count 30 = aLdI 3 31 := (y_X3_count_1 12).trans rfl
theorem n_X3_count_31 : nth t_X3_count 31 = aIfLt 63 34 := (y_X3_count_1 13).trans rfl
theorem n_X3_count_34 : nth t_X3_count 34 = aK (.int 10) 36 := (y_X3_count_1 16).trans rfl
theorem n_X3_count_36 : nth t_X3_count 36 = aLdI 2 37 := (y_X3_count_1 18).trans rfl
theorem y_X3_count_2 (n : Nat) : nth t_X3_count (n + 37) = nth t_X3_count_c2 n := (y_X3_count_1 (n + 19)).trans rfl
theorem n_X3_count_37 : nth t_X3_count 37 = aB (fun x y => x * y) 38 := (y_X3_count_2 0).trans rfl
theorem n_X3_count_38 : nth t_X3_count 38 = aK (.int 0) 39 := (y_X3_count_2 1).trans rfl
theorem n_X3_count_39 : nth t_X3_count 39 = aLdA 0 40 := (y_X3_count_2 2).trans rfl
theorem n_X3_count_40 : nth t_X3_count 40 = aK (.int 96) 42 := (y_X3_count_2 3).trans rfl
theorem n_X3_count_42 : nth t_X3_count 42 = aK (.int 6) 44 := (y_X3_count_2 5).trans rfl
theorem n_X3_count_44 : nth t_X3_count 44 = aLdI 1 45 := (y_X3_count_2 7).trans rfl
theorem n_X3_count_45 : nth t_X3_count 45 = aB (fun x y => x * y) 46 := (y_X3_count_2 8).trans rfl
theorem n_X3_count_46 : nth t_X3_count 46 = aB (fun x y => x + y) 47 := (y_X3_count_2 9).trans rfl
theorem n_X3_count_47 : nth t_X3_count 47 = aLdI 3 48 := (y_X3_count_2 10).trans rfl
theorem n_X3_count_48 : nth t_X3_count 48 = aB (fun x y => x + y) 49 := (y_X3_count_2 11).trans rfl
theorem n_X3_count_49 : nth t_X3_count 49 = aCalV 129 1 52 [2] none := (y_X3_count_2 12).trans rfl
theorem n_X3_count_52 : nth t_X3_count 52 = aMax 55 := (y_X3_count_2 15).trans rfl
theorem y_X3_count_3 (n : Nat) : nth t_X3_count (n + 55) = nth t_X3_count_c3 n := (y_X3_count_2 (n + 18)).trans rfl
theorem n_X3_count_55 : nth t_X3_count 55 = aB (fun x y => x + y) 56 := (y_X3_count_3 0).trans rfl
theorem n_X3_count_56 : nth t_X3_count 56 = aStI 2 57 := (y_X3_count_3 1).trans rfl
theorem n_X3_count_57 : nth t_X3_count 57 = aInc 3 (-1) 60 := (y_X3_count_3 2).trans rfl
theorem n_X3_count_60 : nth t_X3_count 60 = aGoto 30 := (y_X3_count_3 5).trans rfl
theorem n_X3_count_63 : nth t_X3_count 63 = aLdA 0 64 := (y_X3_count_3 8).trans rfl
theorem n_X3_count_64 : nth t_X3_count 64 = aGetR 4 [2] 67 := (y_X3_count_3 9).trans rfl
theorem n_X3_count_67 : nth t_X3_count 67 = aGetR 10 [3] 70 := (y_X3_count_3 12).trans rfl
theorem n_X3_count_70 : nth t_X3_count 70 = aLdI 1 71 := (y_X3_count_3 15).trans rfl
theorem n_X3_count_71 : nth t_X3_count 71 = aAldI 72 := (y_X3_count_3 16).trans rfl
theorem n_X3_count_72 : nth t_X3_count 72 = aLdA 0 73 := (y_X3_count_3 17).trans rfl
theorem n_X3_count_73 : nth t_X3_count 73 = aK (.int 120) 75 := (y_X3_count_3 18).trans rfl
theorem n_X3_count_75 : nth t_X3_count 75 = aLdI 1 76 := (y_X3_count_3 20).trans rfl
theorem y_X3_count_4 (n : Nat) : nth t_X3_count (n + 76) = nth t_X3_count_c4 n := (y_X3_count_3 (n + 21)).trans rfl
theorem n_X3_count_76 : nth t_X3_count 76 = aB (fun x y => x + y) 77 := (y_X3_count_4 0).trans rfl
theorem n_X3_count_77 : nth t_X3_count 77 = aCalV 128 1 80 [2] none := (y_X3_count_4 1).trans rfl
theorem n_X3_count_80 : nth t_X3_count 80 = aIfEq 87 83 := (y_X3_count_4 4).trans rfl
theorem n_X3_count_83 : nth t_X3_count 83 = aLdI 2 84 := (y_X3_count_4 7).trans rfl
theorem n_X3_count_84 : nth t_X3_count 84 = aGoto 89 := (y_X3_count_4 8).trans rfl
theorem n_X3_count_87 : nth t_X3_count 87 = aLdI 2 88 := (y_X3_count_4 11).trans rfl
theorem n_X3_count_88 : nth t_X3_count 88 = aU (fun x => -x) 89 := (y_X3_count_4 12).trans rfl
theorem n_X3_count_89 : nth t_X3_count 89 = aB (fun x y => x + y) 90 := (y_X3_count_4 13).trans rfl
theorem n_X3_count_90 : nth t_X3_count 90 = aStI 3 91 := (y_X3_count_4 14).trans rfl
theorem n_X3_count_91 : nth t_X3_count 91 = aLdI 3 92 := (y_X3_count_4 15).trans rfl
theorem n_X3_count_92 : nth t_X3_count 92 = aAbs 95 := (y_X3_count_4 16).trans rfl
theorem n_X3_count_95 : nth t_X3_count 95 = aK (.int 999999) 97 := (y_X3_count_4 19).trans rfl
theorem y_X3_count_5 (n : Nat) : nth t_X3_count (n + 97) = nth t_X3_count_c5 n := (y_X3_count_4 (n + 21)).trans rfl
theorem n_X3_count_97 : nth t_X3_count 97 = aIcLe 113 100 := (y_X3_count_5 0).trans rfl
theorem n_X3_count_100 : nth t_X3_count 100 = aLdA 0 101 := (y_X3_count_5 3).trans rfl
theorem n_X3_count_101 : nth t_X3_count 101 = aGetR 4 [2] 104 := (y_X3_count_5 4).trans rfl
theorem n_X3_count_104 : nth t_X3_count 104 = aDup 105 := (y_X3_count_5 7).trans rfl
theorem n_X3_count_105 : nth t_X3_count 105 = aGetI 5 [3] 108 := (y_X3_count_5 8).trans rfl
theorem n_X3_count_108 : nth t_X3_count 108 = aK (.int 1) 109 := (y_X3_count_5 11).trans rfl
theorem n_X3_count_109 : nth t_X3_count 109 = aB (fun x y => x + y) 110 := (y_X3_count_5 12).trans rfl
theorem n_X3_count_110 : nth t_X3_count 110 = aPutI 5 [3] 113 := (y_X3_count_5 13).trans rfl
theorem n_X3_count_113 : nth t_X3_count 113 = aLdA 0 114 := (y_X3_count_5 16).trans rfl
theorem n_X3_count_114 : nth t_X3_count 114 = aGetR 4 [2] 117 := (y_X3_count_5 17).trans rfl
theorem n_X3_count_117 : nth t_X3_count 117 = aGetR 10 [3] 120 := (y_X3_count_5 20).trans rfl
theorem n_X3_count_120 : nth t_X3_count 120 = aLdI 1 121 := (y_X3_count_5 23).trans rfl
theorem y_X3_count_6 (n : Nat) : nth t_X3_count (n + 121) = nth t_X3_count_c6 n := (y_X3_count_5 (n + 24)).trans rfl
theorem n_X3_count_121 : nth t_X3_count 121 = aLdI 3 122 := (y_X3_count_6 0).trans rfl
theorem n_X3_count_122 : nth t_X3_count 122 = aK (.int 1000000) 124 := (y_X3_count_6 1).trans rfl
theorem n_X3_count_124 : nth t_X3_count 124 = aRem 125 := (y_X3_count_6 3).trans rfl
theorem n_X3_count_125 : nth t_X3_count 125 = aAstI 126 := (y_X3_count_6 4).trans rfl
theorem n_X3_count_126 : nth t_X3_count 126 = aLdA 0 127 := (y_X3_count_6 5).trans rfl
theorem n_X3_count_127 : nth t_X3_count 127 = aK (.int 128) 130 := (y_X3_count_6 6).trans rfl
theorem n_X3_count_130 : nth t_X3_count 130 = aLdI 1 131 := (y_X3_count_6 9).trans rfl
theorem n_X3_count_131 : nth t_X3_count 131 = aB (fun x y => x + y) 132 := (y_X3_count_6 10).trans rfl
theorem n_X3_count_132 : nth t_X3_count 132 = aCalV 128 1 135 [2] none := (y_X3_count_6 11).trans rfl
theorem n_X3_count_135 : nth t_X3_count 135 = aIfEq 148 138 := (y_X3_count_6 14).trans rfl
theorem n_X3_count_138 : nth t_X3_count 138 = aLdA 0 139 := (y_X3_count_6 17).trans rfl
theorem n_X3_count_139 : nth t_X3_count 139 = aGetR 4 [2] 142 := (y_X3_count_6 18).trans rfl
theorem y_X3_count_7 (n : Nat) : nth t_X3_count (n + 142) = nth t_X3_count_c7 n := (y_X3_count_6 (n + 21)).trans rfl
theorem n_X3_count_142 : nth t_X3_count 142 = aGetR 10 [3] 145 := (y_X3_count_7 0).trans rfl
theorem n_X3_count_145 : nth t_X3_count 145 = aLdI 1 146 := (y_X3_count_7 3).trans rfl
theorem n_X3_count_146 : nth t_X3_count 146 = aK (.int 0) 147 := (y_X3_count_7 4).trans rfl
theorem n_X3_count_147 : nth t_X3_count 147 = aAstI 148 := (y_X3_count_7 5).trans rfl
theorem n_X3_count_148 : nth t_X3_count 148 = aInc 1 1 151 := (y_X3_count_7 6).trans rfl
theorem n_X3_count_151 : nth t_X3_count 151 = aGoto 2 := (y_X3_count_7 9).trans rfl
theorem n_X3_count_154 : nth t_X3_count 154 = aK (.int 1) 155 := (y_X3_count_7 12).trans rfl
theorem n_X3_count_155 : nth t_X3_count 155 = aRetZ := (y_X3_count_7 13).trans rfl
theorem n_X3_punch_0 : nth t_X3_punch 0 = aLdA 0 1 := rfl
theorem n_X3_punch_1 : nth t_X3_punch 1 = aK (.int 179) 4 := rfl
theorem n_X3_punch_4 : nth t_X3_punch 4 = aCalV 128 1 7 [2] none := rfl
theorem n_X3_punch_7 : nth t_X3_punch 7 = aIfEq 10 12 := rfl
theorem n_X3_punch_10 : nth t_X3_punch 10 = aK (.int 1) 11 := rfl
theorem n_X3_punch_11 : nth t_X3_punch 11 = aRetZ := rfl
theorem n_X3_punch_12 : nth t_X3_punch 12 = aLdA 0 13 := rfl
theorem n_X3_punch_13 : nth t_X3_punch 13 = aGetR 4 [2] 16 := rfl
theorem n_X3_punch_16 : nth t_X3_punch 16 = aGetI 4 [3] 19 := rfl
theorem n_X3_punch_19 : nth t_X3_punch 19 = aLdA 0 20 := rfl
theorem n_X3_punch_20 : nth t_X3_punch 20 = aGetI 3 [2] 23 := rfl
theorem n_X3_punch_23 : nth t_X3_punch 23 = aIcLt 36 26 := rfl
theorem y_X3_punch_1 (n : Nat) : nth t_X3_punch (n + 26) = nth t_X3_punch_c1 n := rfl
theorem n_X3_punch_26 : nth t_X3_punch 26 = aLdA 0 27 := (y_X3_punch_1 0).trans rfl
theorem n_X3_punch_27 : nth t_X3_punch 27 = aGetR 4 [2] 30 := (y_X3_punch_1 1).trans rfl
theorem n_X3_punch_30 : nth t_X3_punch 30 = aK (.int 3) 31 := (y_X3_punch_1 4).trans rfl
theorem n_X3_punch_31 : nth t_X3_punch 31 = aPutI 0 [3] 34 := (y_X3_punch_1 5).trans rfl
theorem n_X3_punch_34 : nth t_X3_punch 34 = aK (.int 0) 35 := (y_X3_punch_1 8).trans rfl
theorem n_X3_punch_35 : nth t_X3_punch 35 = aRetZ := (y_X3_punch_1 9).trans rfl
theorem n_X3_punch_36 : nth t_X3_punch 36 = aK (.int 0) 37 := (y_X3_punch_1 10).trans rfl
theorem n_X3_punch_37 : nth t_X3_punch 37 = aStI 1 38 := (y_X3_punch_1 11).trans rfl
theorem n_X3_punch_38 : nth t_X3_punch 38 = aLdI 1 39 := (y_X3_punch_1 12).trans rfl
theorem n_X3_punch_39 : nth t_X3_punch 39 = aK (.int 20) 41 := (y_X3_punch_1 13).trans rfl
theorem n_X3_punch_41 : nth t_X3_punch 41 = aIcLt 44 94 := (y_X3_punch_1 15).trans rfl
theorem n_X3_punch_44 : nth t_X3_punch 44 = aLdA 0 45 := (y_X3_punch_1 18).trans rfl
theorem y_X3_punch_2 (n : Nat) : nth t_X3_punch (n + 45) = nth t_X3_punch_c2 n := (y_X3_punch_1 (n + 19)).trans rfl
theorem n_X3_punch_45 : nth t_X3_punch 45 = aGetR 4 [2] 48 := (y_X3_punch_2 0).trans rfl
theorem n_X3_punch_48 : nth t_X3_punch 48 = aGetR 9 [3] 51 := (y_X3_punch_2 3).trans rfl
theorem n_X3_punch_51 : nth t_X3_punch 51 = aLdA 0 52 := (y_X3_punch_2 6).trans rfl
theorem n_X3_punch_52 : nth t_X3_punch 52 = aGetR 4 [2] 55 := (y_X3_punch_2 7).trans rfl
theorem n_X3_punch_55 : nth t_X3_punch 55 = aGetI 4 [3] 58 := (y_X3_punch_2 10).trans rfl
theorem n_X3_punch_58 : nth t_X3_punch 58 = aAldA 59 := (y_X3_punch_2 13).trans rfl
theorem n_X3_punch_59 : nth t_X3_punch 59 = aLdI 1 60 := (y_X3_punch_2 14).trans rfl
theorem n_X3_punch_60 : nth t_X3_punch 60 = aLdA 0 61 := (y_X3_punch_2 15).trans rfl
theorem n_X3_punch_61 : nth t_X3_punch 61 = aK (.int 159) 64 := (y_X3_punch_2 16).trans rfl
theorem n_X3_punch_64 : nth t_X3_punch 64 = aLdI 1 65 := (y_X3_punch_2 19).trans rfl
theorem n_X3_punch_65 : nth t_X3_punch 65 = aB (fun x y => x + y) 66 := (y_X3_punch_2 20).trans rfl
theorem n_X3_punch_66 : nth t_X3_punch 66 = aCalV 128 1 69 [2] none := (y_X3_punch_2 21).trans rfl
theorem y_X3_punch_3 (n : Nat) : nth t_X3_punch (n + 69) = nth t_X3_punch_c3 n := (y_X3_punch_2 (n + 24)).trans rfl
theorem n_X3_punch_69 : nth t_X3_punch 69 = aIfEq 84 72 := (y_X3_punch_3 0).trans rfl
theorem n_X3_punch_72 : nth t_X3_punch 72 = aLdA 0 73 := (y_X3_punch_3 3).trans rfl
theorem n_X3_punch_73 : nth t_X3_punch 73 = aK (.int 159) 76 := (y_X3_punch_3 4).trans rfl
theorem n_X3_punch_76 : nth t_X3_punch 76 = aLdI 1 77 := (y_X3_punch_3 7).trans rfl
theorem n_X3_punch_77 : nth t_X3_punch 77 = aB (fun x y => x + y) 78 := (y_X3_punch_3 8).trans rfl
theorem n_X3_punch_78 : nth t_X3_punch 78 = aCalV 129 1 81 [2] none := (y_X3_punch_3 9).trans rfl
theorem n_X3_punch_81 : nth t_X3_punch 81 = aGoto 86 := (y_X3_punch_3 12).trans rfl
theorem n_X3_punch_84 : nth t_X3_punch 84 = aK (.int 15) 86 := (y_X3_punch_3 15).trans rfl
theorem n_X3_punch_86 : nth t_X3_punch 86 = aU (fun x => x.toInt8.toInt32) 87 := (y_X3_punch_3 17).trans rfl
theorem n_X3_punch_87 : nth t_X3_punch 87 = aAstB 88 := (y_X3_punch_3 18).trans rfl
theorem n_X3_punch_88 : nth t_X3_punch 88 = aInc 1 1 91 := (y_X3_punch_3 19).trans rfl
theorem n_X3_punch_91 : nth t_X3_punch 91 = aGoto 38 := (y_X3_punch_3 22).trans rfl
theorem y_X3_punch_4 (n : Nat) : nth t_X3_punch (n + 94) = nth t_X3_punch_c4 n := (y_X3_punch_3 (n + 25)).trans rfl
theorem n_X3_punch_94 : nth t_X3_punch 94 = aLdA 0 95 := (y_X3_punch_4 0).trans rfl
theorem n_X3_punch_95 : nth t_X3_punch 95 = aGetR 4 [2] 98 := (y_X3_punch_4 1).trans rfl
theorem n_X3_punch_98 : nth t_X3_punch 98 = aDup 99 := (y_X3_punch_4 4).trans rfl
theorem n_X3_punch_99 : nth t_X3_punch 99 = aGetI 4 [3] 102 := (y_X3_punch_4 5).trans rfl
theorem n_X3_punch_102 : nth t_X3_punch 102 = aK (.int 1) 103 := (y_X3_punch_4 8).trans rfl
theorem n_X3_punch_103 : nth t_X3_punch 103 = aB (fun x y => x + y) 104 := (y_X3_punch_4 9).trans rfl
theorem n_X3_punch_104 : nth t_X3_punch 104 = aPutI 4 [3] 107 := (y_X3_punch_4 10).trans rfl
theorem n_X3_punch_107 : nth t_X3_punch 107 = aK (.int 1) 108 := (y_X3_punch_4 13).trans rfl
theorem n_X3_punch_108 : nth t_X3_punch 108 = aRetZ := (y_X3_punch_4 14).trans rfl
theorem n_X3_giveTotal_0 : nth t_X3_giveTotal 0 = aLdA 0 1 := rfl
theorem n_X3_giveTotal_1 : nth t_X3_giveTotal 1 = aGetR 6 [2] 4 := rfl
theorem n_X3_giveTotal_4 : nth t_X3_giveTotal 4 = aK (.int (-1)) 5 := rfl
theorem n_X3_giveTotal_5 : nth t_X3_giveTotal 5 = aCalS 4 2 8 none := rfl
theorem n_X3_giveTotal_8 : nth t_X3_giveTotal 8 = aLdA 0 9 := rfl
theorem n_X3_giveTotal_9 : nth t_X3_giveTotal 9 = aGetR 6 [2] 12 := rfl
theorem n_X3_giveTotal_12 : nth t_X3_giveTotal 12 = aK (.int 65) 14 := rfl
theorem n_X3_giveTotal_14 : nth t_X3_giveTotal 14 = aLdI 1 15 := rfl
theorem n_X3_giveTotal_15 : nth t_X3_giveTotal 15 = aB (fun x y => x + y) 16 := rfl
theorem n_X3_giveTotal_16 : nth t_X3_giveTotal 16 = aK (.int 1) 17 := rfl
theorem n_X3_giveTotal_17 : nth t_X3_giveTotal 17 = aB (fun x y => x - y) 18 := rfl
theorem n_X3_giveTotal_18 : nth t_X3_giveTotal 18 = aK (.int 1) 19 := rfl
theorem y_X3_giveTotal_1 (n : Nat) : nth t_X3_giveTotal (n + 19) = nth t_X3_giveTotal_c1 n := rfl
theorem n_X3_giveTotal_19 : nth t_X3_giveTotal 19 = aAstI 20 := (y_X3_giveTotal_1 0).trans rfl
theorem n_X3_giveTotal_20 : nth t_X3_giveTotal 20 = aK (.int 0) 21 := (y_X3_giveTotal_1 1).trans rfl
theorem n_X3_giveTotal_21 : nth t_X3_giveTotal 21 = aStI 2 22 := (y_X3_giveTotal_1 2).trans rfl
theorem n_X3_giveTotal_22 : nth t_X3_giveTotal 22 = aLdI 2 23 := (y_X3_giveTotal_1 3).trans rfl
theorem n_X3_giveTotal_23 : nth t_X3_giveTotal 23 = aK (.int 4) 24 := (y_X3_giveTotal_1 4).trans rfl
theorem n_X3_giveTotal_24 : nth t_X3_giveTotal 24 = aIcLt 27 108 := (y_X3_giveTotal_1 5).trans rfl
theorem n_X3_giveTotal_27 : nth t_X3_giveTotal 27 = aLdA 0 28 := (y_X3_giveTotal_1 8).trans rfl
theorem n_X3_giveTotal_28 : nth t_X3_giveTotal 28 = aGetR 4 [2] 31 := (y_X3_giveTotal_1 9).trans rfl
theorem n_X3_giveTotal_31 : nth t_X3_giveTotal 31 = aGetR 10 [3] 34 := (y_X3_giveTotal_1 12).trans rfl
theorem n_X3_giveTotal_34 : nth t_X3_giveTotal 34 = aLdI 2 35 := (y_X3_giveTotal_1 15).trans rfl
theorem n_X3_giveTotal_35 : nth t_X3_giveTotal 35 = aAldI 36 := (y_X3_giveTotal_1 16).trans rfl
theorem n_X3_giveTotal_36 : nth t_X3_giveTotal 36 = aAbs 39 := (y_X3_giveTotal_1 17).trans rfl
theorem y_X3_giveTotal_2 (n : Nat) : nth t_X3_giveTotal (n + 39) = nth t_X3_giveTotal_c2 n := (y_X3_giveTotal_1 (n + 20)).trans rfl
theorem n_X3_giveTotal_39 : nth t_X3_giveTotal 39 = aStI 3 40 := (y_X3_giveTotal_2 0).trans rfl
theorem n_X3_giveTotal_40 : nth t_X3_giveTotal 40 = aK (.int 0) 41 := (y_X3_giveTotal_2 1).trans rfl
theorem n_X3_giveTotal_41 : nth t_X3_giveTotal 41 = aStI 4 43 := (y_X3_giveTotal_2 2).trans rfl
theorem n_X3_giveTotal_43 : nth t_X3_giveTotal 43 = aLdI 4 45 := (y_X3_giveTotal_2 4).trans rfl
theorem n_X3_giveTotal_45 : nth t_X3_giveTotal 45 = aK (.int 6) 47 := (y_X3_giveTotal_2 6).trans rfl
theorem n_X3_giveTotal_47 : nth t_X3_giveTotal 47 = aIcLt 50 80 := (y_X3_giveTotal_2 8).trans rfl
theorem n_X3_giveTotal_50 : nth t_X3_giveTotal 50 = aLdA 0 51 := (y_X3_giveTotal_2 11).trans rfl
theorem n_X3_giveTotal_51 : nth t_X3_giveTotal 51 = aGetR 6 [2] 54 := (y_X3_giveTotal_2 12).trans rfl
theorem n_X3_giveTotal_54 : nth t_X3_giveTotal 54 = aK (.int 68) 56 := (y_X3_giveTotal_2 15).trans rfl
theorem n_X3_giveTotal_56 : nth t_X3_giveTotal 56 = aK (.int 6) 58 := (y_X3_giveTotal_2 17).trans rfl
theorem n_X3_giveTotal_58 : nth t_X3_giveTotal 58 = aLdI 2 59 := (y_X3_giveTotal_2 19).trans rfl
theorem n_X3_giveTotal_59 : nth t_X3_giveTotal 59 = aB (fun x y => x * y) 60 := (y_X3_giveTotal_2 20).trans rfl
theorem y_X3_giveTotal_3 (n : Nat) : nth t_X3_giveTotal (n + 60) = nth t_X3_giveTotal_c3 n := (y_X3_giveTotal_2 (n + 21)).trans rfl
theorem n_X3_giveTotal_60 : nth t_X3_giveTotal 60 = aB (fun x y => x + y) 61 := (y_X3_giveTotal_3 0).trans rfl
theorem n_X3_giveTotal_61 : nth t_X3_giveTotal 61 = aLdI 4 63 := (y_X3_giveTotal_3 1).trans rfl
theorem n_X3_giveTotal_63 : nth t_X3_giveTotal 63 = aB (fun x y => x + y) 64 := (y_X3_giveTotal_3 3).trans rfl
theorem n_X3_giveTotal_64 : nth t_X3_giveTotal 64 = aLdI 3 65 := (y_X3_giveTotal_3 4).trans rfl
theorem n_X3_giveTotal_65 : nth t_X3_giveTotal 65 = aK (.int 10) 67 := (y_X3_giveTotal_3 5).trans rfl
theorem n_X3_giveTotal_67 : nth t_X3_giveTotal 67 = aRem 68 := (y_X3_giveTotal_3 7).trans rfl
theorem n_X3_giveTotal_68 : nth t_X3_giveTotal 68 = aAstI 69 := (y_X3_giveTotal_3 8).trans rfl
theorem n_X3_giveTotal_69 : nth t_X3_giveTotal 69 = aLdI 3 70 := (y_X3_giveTotal_3 9).trans rfl
theorem n_X3_giveTotal_70 : nth t_X3_giveTotal 70 = aK (.int 10) 72 := (y_X3_giveTotal_3 10).trans rfl
theorem n_X3_giveTotal_72 : nth t_X3_giveTotal 72 = aDiv 73 := (y_X3_giveTotal_3 12).trans rfl
theorem n_X3_giveTotal_73 : nth t_X3_giveTotal 73 = aStI 3 74 := (y_X3_giveTotal_3 13).trans rfl
theorem n_X3_giveTotal_74 : nth t_X3_giveTotal 74 = aInc 4 1 77 := (y_X3_giveTotal_3 14).trans rfl
theorem y_X3_giveTotal_4 (n : Nat) : nth t_X3_giveTotal (n + 77) = nth t_X3_giveTotal_c4 n := (y_X3_giveTotal_3 (n + 17)).trans rfl
theorem n_X3_giveTotal_77 : nth t_X3_giveTotal 77 = aGoto 43 := (y_X3_giveTotal_4 0).trans rfl
theorem n_X3_giveTotal_80 : nth t_X3_giveTotal 80 = aLdA 0 81 := (y_X3_giveTotal_4 3).trans rfl
theorem n_X3_giveTotal_81 : nth t_X3_giveTotal 81 = aGetR 4 [2] 84 := (y_X3_giveTotal_4 4).trans rfl
theorem n_X3_giveTotal_84 : nth t_X3_giveTotal 84 = aGetR 10 [3] 87 := (y_X3_giveTotal_4 7).trans rfl
theorem n_X3_giveTotal_87 : nth t_X3_giveTotal 87 = aLdI 2 88 := (y_X3_giveTotal_4 10).trans rfl
theorem n_X3_giveTotal_88 : nth t_X3_giveTotal 88 = aAldI 89 := (y_X3_giveTotal_4 11).trans rfl
theorem n_X3_giveTotal_89 : nth t_X3_giveTotal 89 = aIfLt 92 102 := (y_X3_giveTotal_4 12).trans rfl
theorem n_X3_giveTotal_92 : nth t_X3_giveTotal 92 = aLdA 0 93 := (y_X3_giveTotal_4 15).trans rfl
theorem n_X3_giveTotal_93 : nth t_X3_giveTotal 93 = aGetR 6 [2] 96 := (y_X3_giveTotal_4 16).trans rfl
theorem n_X3_giveTotal_96 : nth t_X3_giveTotal 96 = aK (.int 92) 98 := (y_X3_giveTotal_4 19).trans rfl
theorem n_X3_giveTotal_98 : nth t_X3_giveTotal 98 = aLdI 2 99 := (y_X3_giveTotal_4 21).trans rfl
theorem n_X3_giveTotal_99 : nth t_X3_giveTotal 99 = aB (fun x y => x + y) 100 := (y_X3_giveTotal_4 22).trans rfl
theorem y_X3_giveTotal_5 (n : Nat) : nth t_X3_giveTotal (n + 100) = nth t_X3_giveTotal_c5 n := (y_X3_giveTotal_4 (n + 23)).trans rfl
theorem n_X3_giveTotal_100 : nth t_X3_giveTotal 100 = aK (.int 1) 101 := (y_X3_giveTotal_5 0).trans rfl
theorem n_X3_giveTotal_101 : nth t_X3_giveTotal 101 = aAstI 102 := (y_X3_giveTotal_5 1).trans rfl
theorem n_X3_giveTotal_102 : nth t_X3_giveTotal 102 = aInc 2 1 105 := (y_X3_giveTotal_5 2).trans rfl
theorem n_X3_giveTotal_105 : nth t_X3_giveTotal 105 = aGoto 22 := (y_X3_giveTotal_5 5).trans rfl
theorem n_X3_giveTotal_108 : nth t_X3_giveTotal 108 = aRetV := (y_X3_giveTotal_5 8).trans rfl
theorem n_X4_init_0 : nth t_X4_init 0 = aLdA 0 1 := rfl
theorem n_X4_init_1 : nth t_X4_init 1 = aObjI 4 := rfl
theorem n_X4_init_4 : nth t_X4_init 4 = aLdA 0 5 := rfl
theorem n_X4_init_5 : nth t_X4_init 5 = aK (.int 60) 7 := rfl
theorem n_X4_init_7 : nth t_X4_init 7 = aK (.int 12) 9 := rfl
theorem n_X4_init_13 : nth t_X4_init 13 = aPutR 8 [3] 16 := rfl
theorem n_X4_init_16 : nth t_X4_init 16 = aLdA 0 17 := rfl
theorem n_X4_init_17 : nth t_X4_init 17 = aK (.int 40) 19 := rfl
theorem n_X4_init_19 : nth t_X4_init 19 = aK (.int 20) 21 := rfl
theorem n_X4_init_25 : nth t_X4_init 25 = aPutR 9 [3] 28 := rfl
theorem y_X4_init_1 (n : Nat) : nth t_X4_init (n + 28) = nth t_X4_init_c1 n := rfl
theorem n_X4_init_28 : nth t_X4_init 28 = aLdA 0 29 := (y_X4_init_1 0).trans rfl
theorem n_X4_init_29 : nth t_X4_init 29 = aK (.int 4) 30 := (y_X4_init_1 1).trans rfl
theorem n_X4_init_30 : nth t_X4_init 30 = aNewA 100 32 := (y_X4_init_1 2).trans rfl
theorem n_X4_init_32 : nth t_X4_init 32 = aPutR 10 [3] 35 := (y_X4_init_1 4).trans rfl
theorem n_X4_init_35 : nth t_X4_init 35 = aRetV := (y_X4_init_1 7).trans rfl
theorem n_X4_begin_0 : nth t_X4_begin 0 = aLdA 0 1 := rfl
theorem n_X4_begin_1 : nth t_X4_begin 1 = aK (.int (-1)) 2 := rfl
theorem n_X4_begin_2 : nth t_X4_begin 2 = aPutI 0 [3] 5 := rfl
theorem n_X4_begin_5 : nth t_X4_begin 5 = aLdA 0 6 := rfl
theorem n_X4_begin_6 : nth t_X4_begin 6 = aK (.int 0) 7 := rfl
theorem n_X4_begin_7 : nth t_X4_begin 7 = aPutI 1 [3] 10 := rfl
theorem n_X4_begin_10 : nth t_X4_begin 10 = aLdA 0 11 := rfl
theorem n_X4_begin_11 : nth t_X4_begin 11 = aK (.int 0) 12 := rfl
theorem n_X4_begin_12 : nth t_X4_begin 12 = aPutI 2 [3] 15 := rfl
theorem n_X4_begin_15 : nth t_X4_begin 15 = aLdA 0 16 := rfl
theorem n_X4_begin_16 : nth t_X4_begin 16 = aK (.int 0) 17 := rfl
theorem n_X4_begin_17 : nth t_X4_begin 17 = aPutI 3 [3] 20 := rfl
theorem y_X4_begin_1 (n : Nat) : nth t_X4_begin (n + 20) = nth t_X4_begin_c1 n := rfl
theorem n_X4_begin_20 : nth t_X4_begin 20 = aLdA 0 21 := (y_X4_begin_1 0).trans rfl
theorem n_X4_begin_21 : nth t_X4_begin 21 = aK (.int 0) 22 := (y_X4_begin_1 1).trans rfl
theorem n_X4_begin_22 : nth t_X4_begin 22 = aPutI 4 [3] 25 := (y_X4_begin_1 2).trans rfl
theorem n_X4_begin_25 : nth t_X4_begin 25 = aLdA 0 26 := (y_X4_begin_1 5).trans rfl
theorem n_X4_begin_26 : nth t_X4_begin 26 = aK (.int 0) 27 := (y_X4_begin_1 6).trans rfl
theorem n_X4_begin_27 : nth t_X4_begin 27 = aPutI 5 [3] 30 := (y_X4_begin_1 7).trans rfl
theorem n_X4_begin_30 : nth t_X4_begin 30 = aLdA 0 31 := (y_X4_begin_1 10).trans rfl
theorem n_X4_begin_31 : nth t_X4_begin 31 = aK (.int (-1)) 32 := (y_X4_begin_1 11).trans rfl
theorem n_X4_begin_32 : nth t_X4_begin 32 = aPutI 6 [3] 35 := (y_X4_begin_1 12).trans rfl
theorem n_X4_begin_35 : nth t_X4_begin 35 = aLdA 0 36 := (y_X4_begin_1 15).trans rfl
theorem n_X4_begin_36 : nth t_X4_begin 36 = aK (.int (-1)) 37 := (y_X4_begin_1 16).trans rfl
theorem n_X4_begin_37 : nth t_X4_begin 37 = aPutI 7 [3] 40 := (y_X4_begin_1 17).trans rfl
theorem y_X4_begin_2 (n : Nat) : nth t_X4_begin (n + 40) = nth t_X4_begin_c2 n := (y_X4_begin_1 (n + 20)).trans rfl
theorem n_X4_begin_40 : nth t_X4_begin 40 = aK (.int 0) 41 := (y_X4_begin_2 0).trans rfl
theorem n_X4_begin_41 : nth t_X4_begin 41 = aStI 1 42 := (y_X4_begin_2 1).trans rfl
theorem n_X4_begin_42 : nth t_X4_begin 42 = aLdI 1 43 := (y_X4_begin_2 2).trans rfl
theorem n_X4_begin_43 : nth t_X4_begin 43 = aK (.int 4) 44 := (y_X4_begin_2 3).trans rfl
theorem n_X4_begin_44 : nth t_X4_begin 44 = aIcLt 47 60 := (y_X4_begin_2 4).trans rfl
theorem n_X4_begin_47 : nth t_X4_begin 47 = aLdA 0 48 := (y_X4_begin_2 7).trans rfl
theorem n_X4_begin_48 : nth t_X4_begin 48 = aGetR 10 [3] 51 := (y_X4_begin_2 8).trans rfl
theorem n_X4_begin_51 : nth t_X4_begin 51 = aLdI 1 52 := (y_X4_begin_2 11).trans rfl
theorem n_X4_begin_52 : nth t_X4_begin 52 = aK (.int 0) 53 := (y_X4_begin_2 12).trans rfl
theorem n_X4_begin_53 : nth t_X4_begin 53 = aAstI 54 := (y_X4_begin_2 13).trans rfl
theorem n_X4_begin_54 : nth t_X4_begin 54 = aInc 1 1 57 := (y_X4_begin_2 14).trans rfl
theorem n_X4_begin_57 : nth t_X4_begin 57 = aGoto 42 := (y_X4_begin_2 17).trans rfl
theorem y_X4_begin_3 (n : Nat) : nth t_X4_begin (n + 60) = nth t_X4_begin_c3 n := (y_X4_begin_2 (n + 20)).trans rfl
theorem n_X4_begin_60 : nth t_X4_begin 60 = aRetV := (y_X4_begin_3 0).trans rfl
theorem n_X4_isLike_0 : nth t_X4_isLike 0 = aLdA 0 1 := rfl
theorem n_X4_isLike_1 : nth t_X4_isLike 1 = aGetI 0 [3] 4 := rfl
theorem n_X4_isLike_4 : nth t_X4_isLike 4 = aLdA 1 5 := rfl
theorem n_X4_isLike_5 : nth t_X4_isLike 5 = aGetI 0 [3] 8 := rfl
theorem n_X4_isLike_8 : nth t_X4_isLike 8 = aIcEq 11 34 := rfl
theorem n_X4_isLike_11 : nth t_X4_isLike 11 = aLdA 0 12 := rfl
theorem n_X4_isLike_12 : nth t_X4_isLike 12 = aGetI 4 [3] 15 := rfl
theorem n_X4_isLike_15 : nth t_X4_isLike 15 = aLdA 1 16 := rfl
theorem n_X4_isLike_16 : nth t_X4_isLike 16 = aGetI 4 [3] 19 := rfl
theorem n_X4_isLike_19 : nth t_X4_isLike 19 = aIcEq 22 34 := rfl
theorem n_X4_isLike_22 : nth t_X4_isLike 22 = aLdA 0 23 := rfl
theorem n_X4_isLike_23 : nth t_X4_isLike 23 = aLdA 1 24 := rfl
theorem y_X4_isLike_1 (n : Nat) : nth t_X4_isLike (n + 24) = nth t_X4_isLike_c1 n := rfl
theorem n_X4_isLike_24 : nth t_X4_isLike 24 = aCalV 139 1 27 [3] none := (y_X4_isLike_1 0).trans rfl
theorem n_X4_isLike_27 : nth t_X4_isLike 27 = aIfEq 34 30 := (y_X4_isLike_1 3).trans rfl
theorem n_X4_isLike_30 : nth t_X4_isLike 30 = aK (.int 1) 31 := (y_X4_isLike_1 6).trans rfl
theorem n_X4_isLike_31 : nth t_X4_isLike 31 = aGoto 35 := (y_X4_isLike_1 7).trans rfl
theorem n_X4_isLike_34 : nth t_X4_isLike 34 = aK (.int 0) 35 := (y_X4_isLike_1 10).trans rfl
theorem n_X4_isLike_35 : nth t_X4_isLike 35 = aStI 2 36 := (y_X4_isLike_1 11).trans rfl
theorem n_X4_isLike_36 : nth t_X4_isLike 36 = aK (.int 0) 37 := (y_X4_isLike_1 12).trans rfl
theorem n_X4_isLike_37 : nth t_X4_isLike 37 = aStI 3 38 := (y_X4_isLike_1 13).trans rfl
theorem n_X4_isLike_38 : nth t_X4_isLike 38 = aLdI 3 39 := (y_X4_isLike_1 14).trans rfl
theorem n_X4_isLike_39 : nth t_X4_isLike 39 = aK (.int 4) 40 := (y_X4_isLike_1 15).trans rfl
theorem n_X4_isLike_40 : nth t_X4_isLike 40 = aIcLt 43 74 := (y_X4_isLike_1 16).trans rfl
theorem n_X4_isLike_43 : nth t_X4_isLike 43 = aLdI 2 44 := (y_X4_isLike_1 19).trans rfl
theorem y_X4_isLike_2 (n : Nat) : nth t_X4_isLike (n + 44) = nth t_X4_isLike_c2 n := (y_X4_isLike_1 (n + 20)).trans rfl
theorem n_X4_isLike_44 : nth t_X4_isLike 44 = aIfEq 66 47 := (y_X4_isLike_2 0).trans rfl
theorem n_X4_isLike_47 : nth t_X4_isLike 47 = aLdA 0 48 := (y_X4_isLike_2 3).trans rfl
theorem n_X4_isLike_48 : nth t_X4_isLike 48 = aGetR 10 [3] 51 := (y_X4_isLike_2 4).trans rfl
theorem n_X4_isLike_51 : nth t_X4_isLike 51 = aLdI 3 52 := (y_X4_isLike_2 7).trans rfl
theorem n_X4_isLike_52 : nth t_X4_isLike 52 = aAldI 53 := (y_X4_isLike_2 8).trans rfl
theorem n_X4_isLike_53 : nth t_X4_isLike 53 = aLdA 1 54 := (y_X4_isLike_2 9).trans rfl
theorem n_X4_isLike_54 : nth t_X4_isLike 54 = aGetR 10 [3] 57 := (y_X4_isLike_2 10).trans rfl
theorem n_X4_isLike_57 : nth t_X4_isLike 57 = aLdI 3 58 := (y_X4_isLike_2 13).trans rfl
theorem n_X4_isLike_58 : nth t_X4_isLike 58 = aAldI 59 := (y_X4_isLike_2 14).trans rfl
theorem n_X4_isLike_59 : nth t_X4_isLike 59 = aIcEq 62 66 := (y_X4_isLike_2 15).trans rfl
theorem n_X4_isLike_62 : nth t_X4_isLike 62 = aK (.int 1) 63 := (y_X4_isLike_2 18).trans rfl
theorem n_X4_isLike_63 : nth t_X4_isLike 63 = aGoto 67 := (y_X4_isLike_2 19).trans rfl
theorem y_X4_isLike_3 (n : Nat) : nth t_X4_isLike (n + 66) = nth t_X4_isLike_c3 n := (y_X4_isLike_2 (n + 22)).trans rfl
theorem n_X4_isLike_66 : nth t_X4_isLike 66 = aK (.int 0) 67 := (y_X4_isLike_3 0).trans rfl
theorem n_X4_isLike_67 : nth t_X4_isLike 67 = aStI 2 68 := (y_X4_isLike_3 1).trans rfl
theorem n_X4_isLike_68 : nth t_X4_isLike 68 = aInc 3 1 71 := (y_X4_isLike_3 2).trans rfl
theorem n_X4_isLike_71 : nth t_X4_isLike 71 = aGoto 38 := (y_X4_isLike_3 5).trans rfl
theorem n_X4_isLike_74 : nth t_X4_isLike 74 = aK (.int 0) 75 := (y_X4_isLike_3 8).trans rfl
theorem n_X4_isLike_75 : nth t_X4_isLike 75 = aStI 3 76 := (y_X4_isLike_3 9).trans rfl
theorem n_X4_isLike_76 : nth t_X4_isLike 76 = aLdI 3 77 := (y_X4_isLike_3 10).trans rfl
theorem n_X4_isLike_77 : nth t_X4_isLike 77 = aLdA 0 78 := (y_X4_isLike_3 11).trans rfl
theorem n_X4_isLike_78 : nth t_X4_isLike 78 = aGetI 4 [3] 81 := (y_X4_isLike_3 12).trans rfl
theorem n_X4_isLike_81 : nth t_X4_isLike 81 = aIcLt 84 112 := (y_X4_isLike_3 15).trans rfl
theorem n_X4_isLike_84 : nth t_X4_isLike 84 = aLdI 2 85 := (y_X4_isLike_3 18).trans rfl
theorem n_X4_isLike_85 : nth t_X4_isLike 85 = aIfEq 112 88 := (y_X4_isLike_3 19).trans rfl
theorem y_X4_isLike_4 (n : Nat) : nth t_X4_isLike (n + 88) = nth t_X4_isLike_c4 n := (y_X4_isLike_3 (n + 22)).trans rfl
theorem n_X4_isLike_88 : nth t_X4_isLike 88 = aLdA 0 89 := (y_X4_isLike_4 0).trans rfl
theorem n_X4_isLike_89 : nth t_X4_isLike 89 = aGetR 9 [3] 92 := (y_X4_isLike_4 1).trans rfl
theorem n_X4_isLike_92 : nth t_X4_isLike 92 = aLdI 3 93 := (y_X4_isLike_4 4).trans rfl
theorem n_X4_isLike_93 : nth t_X4_isLike 93 = aAldA 94 := (y_X4_isLike_4 5).trans rfl
theorem n_X4_isLike_94 : nth t_X4_isLike 94 = aLdA 1 95 := (y_X4_isLike_4 6).trans rfl
theorem n_X4_isLike_95 : nth t_X4_isLike 95 = aGetR 9 [3] 98 := (y_X4_isLike_4 7).trans rfl
theorem n_X4_isLike_98 : nth t_X4_isLike 98 = aLdI 3 99 := (y_X4_isLike_4 10).trans rfl
theorem n_X4_isLike_99 : nth t_X4_isLike 99 = aAldA 100 := (y_X4_isLike_4 11).trans rfl
theorem n_X4_isLike_100 : nth t_X4_isLike 100 = aK (.int 20) 102 := (y_X4_isLike_4 12).trans rfl
theorem n_X4_isLike_102 : nth t_X4_isLike 102 = aCalS 140 3 105 none := (y_X4_isLike_4 14).trans rfl
theorem n_X4_isLike_105 : nth t_X4_isLike 105 = aStI 2 106 := (y_X4_isLike_4 17).trans rfl
theorem n_X4_isLike_106 : nth t_X4_isLike 106 = aInc 3 1 109 := (y_X4_isLike_4 18).trans rfl
theorem y_X4_isLike_5 (n : Nat) : nth t_X4_isLike (n + 109) = nth t_X4_isLike_c5 n := (y_X4_isLike_4 (n + 21)).trans rfl
theorem n_X4_isLike_109 : nth t_X4_isLike 109 = aGoto 76 := (y_X4_isLike_5 0).trans rfl
theorem n_X4_isLike_112 : nth t_X4_isLike 112 = aLdI 2 113 := (y_X4_isLike_5 3).trans rfl
theorem n_X4_isLike_113 : nth t_X4_isLike 113 = aRetZ := (y_X4_isLike_5 4).trans rfl
theorem n_X4_printsLike_0 : nth t_X4_printsLike 0 = aLdA 0 1 := rfl
theorem n_X4_printsLike_1 : nth t_X4_printsLike 1 = aGetI 3 [3] 4 := rfl
theorem n_X4_printsLike_4 : nth t_X4_printsLike 4 = aLdA 1 5 := rfl
theorem n_X4_printsLike_5 : nth t_X4_printsLike 5 = aGetI 3 [3] 8 := rfl
theorem n_X4_printsLike_8 : nth t_X4_printsLike 8 = aIcEq 11 15 := rfl
theorem n_X4_printsLike_11 : nth t_X4_printsLike 11 = aK (.int 1) 12 := rfl
theorem n_X4_printsLike_12 : nth t_X4_printsLike 12 = aGoto 16 := rfl
theorem n_X4_printsLike_15 : nth t_X4_printsLike 15 = aK (.int 0) 16 := rfl
theorem n_X4_printsLike_16 : nth t_X4_printsLike 16 = aStI 2 17 := rfl
theorem n_X4_printsLike_17 : nth t_X4_printsLike 17 = aK (.int 0) 18 := rfl
theorem n_X4_printsLike_18 : nth t_X4_printsLike 18 = aStI 3 19 := rfl
theorem n_X4_printsLike_19 : nth t_X4_printsLike 19 = aLdI 3 20 := rfl
theorem y_X4_printsLike_1 (n : Nat) : nth t_X4_printsLike (n + 20) = nth t_X4_printsLike_c1 n := rfl
theorem n_X4_printsLike_20 : nth t_X4_printsLike 20 = aLdA 0 21 := (y_X4_printsLike_1 0).trans rfl
theorem n_X4_printsLike_21 : nth t_X4_printsLike 21 = aGetI 3 [3] 24 := (y_X4_printsLike_1 1).trans rfl
theorem n_X4_printsLike_24 : nth t_X4_printsLike 24 = aIcLt 27 55 := (y_X4_printsLike_1 4).trans rfl
theorem n_X4_printsLike_27 : nth t_X4_printsLike 27 = aLdI 2 28 := (y_X4_printsLike_1 7).trans rfl
theorem n_X4_printsLike_28 : nth t_X4_printsLike 28 = aIfEq 55 31 := (y_X4_printsLike_1 8).trans rfl
theorem n_X4_printsLike_31 : nth t_X4_printsLike 31 = aLdA 0 32 := (y_X4_printsLike_1 11).trans rfl
theorem n_X4_printsLike_32 : nth t_X4_printsLike 32 = aGetR 8 [3] 35 := (y_X4_printsLike_1 12).trans rfl
theorem n_X4_printsLike_35 : nth t_X4_printsLike 35 = aLdI 3 36 := (y_X4_printsLike_1 15).trans rfl
theorem n_X4_printsLike_36 : nth t_X4_printsLike 36 = aAldA 37 := (y_X4_printsLike_1 16).trans rfl
theorem n_X4_printsLike_37 : nth t_X4_printsLike 37 = aLdA 1 38 := (y_X4_printsLike_1 17).trans rfl
theorem n_X4_printsLike_38 : nth t_X4_printsLike 38 = aGetR 8 [3] 41 := (y_X4_printsLike_1 18).trans rfl
theorem n_X4_printsLike_41 : nth t_X4_printsLike 41 = aLdI 3 42 := (y_X4_printsLike_1 21).trans rfl
theorem y_X4_printsLike_2 (n : Nat) : nth t_X4_printsLike (n + 42) = nth t_X4_printsLike_c2 n := (y_X4_printsLike_1 (n + 22)).trans rfl
theorem n_X4_printsLike_42 : nth t_X4_printsLike 42 = aAldA 43 := (y_X4_printsLike_2 0).trans rfl
theorem n_X4_printsLike_43 : nth t_X4_printsLike 43 = aK (.int 12) 45 := (y_X4_printsLike_2 1).trans rfl
theorem n_X4_printsLike_45 : nth t_X4_printsLike 45 = aCalS 140 3 48 none := (y_X4_printsLike_2 3).trans rfl
theorem n_X4_printsLike_48 : nth t_X4_printsLike 48 = aStI 2 49 := (y_X4_printsLike_2 6).trans rfl
theorem n_X4_printsLike_49 : nth t_X4_printsLike 49 = aInc 3 1 52 := (y_X4_printsLike_2 7).trans rfl
theorem n_X4_printsLike_52 : nth t_X4_printsLike 52 = aGoto 19 := (y_X4_printsLike_2 10).trans rfl
theorem n_X4_printsLike_55 : nth t_X4_printsLike 55 = aLdI 2 56 := (y_X4_printsLike_2 13).trans rfl
theorem n_X4_printsLike_56 : nth t_X4_printsLike 56 = aRetZ := (y_X4_printsLike_2 14).trans rfl
theorem n_X4_isLike_2_0 : nth t_X4_isLike_2 0 = aK (.int 0) 1 := rfl
theorem n_X4_isLike_2_1 : nth t_X4_isLike_2 1 = aStI 3 2 := rfl
theorem n_X4_isLike_2_2 : nth t_X4_isLike_2 2 = aLdI 3 3 := rfl
theorem n_X4_isLike_2_3 : nth t_X4_isLike_2 3 = aLdI 2 4 := rfl
theorem n_X4_isLike_2_4 : nth t_X4_isLike_2 4 = aIcLt 7 24 := rfl
theorem n_X4_isLike_2_7 : nth t_X4_isLike_2 7 = aLdA 0 8 := rfl
theorem n_X4_isLike_2_8 : nth t_X4_isLike_2 8 = aLdI 3 9 := rfl
theorem n_X4_isLike_2_9 : nth t_X4_isLike_2 9 = aAldB 10 := rfl
theorem n_X4_isLike_2_10 : nth t_X4_isLike_2 10 = aLdA 1 11 := rfl
theorem n_X4_isLike_2_11 : nth t_X4_isLike_2 11 = aLdI 3 12 := rfl
theorem n_X4_isLike_2_12 : nth t_X4_isLike_2 12 = aAldB 13 := rfl
theorem n_X4_isLike_2_13 : nth t_X4_isLike_2 13 = aIcEq 18 16 := rfl
theorem y_X4_isLike_2_1 (n : Nat) : nth t_X4_isLike_2 (n + 16) = nth t_X4_isLike_2_c1 n := rfl
theorem n_X4_isLike_2_16 : nth t_X4_isLike_2 16 = aK (.int 0) 17 := (y_X4_isLike_2_1 0).trans rfl
theorem n_X4_isLike_2_17 : nth t_X4_isLike_2 17 = aRetZ := (y_X4_isLike_2_1 1).trans rfl
theorem n_X4_isLike_2_18 : nth t_X4_isLike_2 18 = aInc 3 1 21 := (y_X4_isLike_2_1 2).trans rfl
theorem n_X4_isLike_2_21 : nth t_X4_isLike_2 21 = aGoto 2 := (y_X4_isLike_2_1 5).trans rfl
theorem n_X4_isLike_2_24 : nth t_X4_isLike_2 24 = aK (.int 1) 25 := (y_X4_isLike_2_1 8).trans rfl
theorem n_X4_isLike_2_25 : nth t_X4_isLike_2 25 = aRetZ := (y_X4_isLike_2_1 9).trans rfl
theorem n_X5_init_0 : nth t_X5_init 0 = aLdA 0 1 := rfl
theorem n_X5_init_1 : nth t_X5_init 1 = aObjI 4 := rfl
theorem n_X5_init_4 : nth t_X5_init 4 = aLdA 0 5 := rfl
theorem n_X5_init_5 : nth t_X5_init 5 = aK (.int 6) 7 := rfl
theorem n_X5_init_7 : nth t_X5_init 7 = aNewA 114 10 := rfl
theorem n_X5_init_10 : nth t_X5_init 10 = aPutR 0 [4] 13 := rfl
theorem n_X5_init_13 : nth t_X5_init 13 = aLdA 0 14 := rfl
theorem n_X5_init_14 : nth t_X5_init 14 = aK (.int 6) 16 := rfl
theorem n_X5_init_16 : nth t_X5_init 16 = aNewA 100 18 := rfl
theorem n_X5_init_18 : nth t_X5_init 18 = aPutR 1 [4] 21 := rfl
theorem n_X5_init_21 : nth t_X5_init 21 = aLdA 0 22 := rfl
theorem n_X5_init_22 : nth t_X5_init 22 = aK (.int 6) 24 := rfl
theorem y_X5_init_1 (n : Nat) : nth t_X5_init (n + 24) = nth t_X5_init_c1 n := rfl
theorem n_X5_init_24 : nth t_X5_init 24 = aNewA 100 26 := (y_X5_init_1 0).trans rfl
theorem n_X5_init_26 : nth t_X5_init 26 = aPutR 2 [4] 29 := (y_X5_init_1 2).trans rfl
theorem n_X5_init_29 : nth t_X5_init 29 = aLdA 0 30 := (y_X5_init_1 5).trans rfl
theorem n_X5_init_30 : nth t_X5_init 30 = aK (.int 3) 31 := (y_X5_init_1 6).trans rfl
theorem n_X5_init_31 : nth t_X5_init 31 = aNewA 100 33 := (y_X5_init_1 7).trans rfl
theorem n_X5_init_33 : nth t_X5_init 33 = aPutR 3 [4] 36 := (y_X5_init_1 9).trans rfl
theorem n_X5_init_36 : nth t_X5_init 36 = aLdA 0 37 := (y_X5_init_1 12).trans rfl
theorem n_X5_init_37 : nth t_X5_init 37 = aK (.int 8) 39 := (y_X5_init_1 13).trans rfl
theorem n_X5_init_39 : nth t_X5_init 39 = aNewA 100 41 := (y_X5_init_1 15).trans rfl
theorem n_X5_init_41 : nth t_X5_init 41 = aPutR 4 [4] 44 := (y_X5_init_1 17).trans rfl
theorem n_X5_init_44 : nth t_X5_init 44 = aLdA 0 45 := (y_X5_init_1 20).trans rfl
theorem n_X5_init_45 : nth t_X5_init 45 = aK (.int 8) 47 := (y_X5_init_1 21).trans rfl
theorem y_X5_init_2 (n : Nat) : nth t_X5_init (n + 47) = nth t_X5_init_c2 n := (y_X5_init_1 (n + 23)).trans rfl
theorem n_X5_init_47 : nth t_X5_init 47 = aNewA 100 49 := (y_X5_init_2 0).trans rfl
theorem n_X5_init_49 : nth t_X5_init 49 = aPutR 5 [4] 52 := (y_X5_init_2 2).trans rfl
theorem n_X5_init_52 : nth t_X5_init 52 = aLdA 0 53 := (y_X5_init_2 5).trans rfl
theorem n_X5_init_53 : nth t_X5_init 53 = aK (.int 8) 55 := (y_X5_init_2 6).trans rfl
theorem n_X5_init_55 : nth t_X5_init 55 = aNewA 100 57 := (y_X5_init_2 8).trans rfl
theorem n_X5_init_57 : nth t_X5_init 57 = aPutR 6 [4] 60 := (y_X5_init_2 10).trans rfl
theorem n_X5_init_60 : nth t_X5_init 60 = aLdA 0 61 := (y_X5_init_2 13).trans rfl
theorem n_X5_init_61 : nth t_X5_init 61 = aK (.int 8) 63 := (y_X5_init_2 14).trans rfl
theorem n_X5_init_63 : nth t_X5_init 63 = aNewA 100 65 := (y_X5_init_2 16).trans rfl
theorem n_X5_init_65 : nth t_X5_init 65 = aPutR 7 [4] 68 := (y_X5_init_2 18).trans rfl
theorem n_X5_init_68 : nth t_X5_init 68 = aRetV := (y_X5_init_2 21).trans rfl
theorem n_X5_find_0 : nth t_X5_find 0 = aK (.int 0) 1 := rfl
theorem n_X5_find_1 : nth t_X5_find 1 = aStI 2 2 := rfl
theorem n_X5_find_2 : nth t_X5_find 2 = aLdI 2 3 := rfl
theorem n_X5_find_3 : nth t_X5_find 3 = aLdA 0 4 := rfl
theorem n_X5_find_4 : nth t_X5_find 4 = aGetI 8 [4] 7 := rfl
theorem n_X5_find_7 : nth t_X5_find 7 = aIcLt 10 31 := rfl
theorem n_X5_find_10 : nth t_X5_find 10 = aLdA 0 11 := rfl
theorem n_X5_find_11 : nth t_X5_find 11 = aGetR 0 [4] 14 := rfl
theorem n_X5_find_14 : nth t_X5_find 14 = aLdI 2 15 := rfl
theorem n_X5_find_15 : nth t_X5_find 15 = aAldA 16 := rfl
theorem n_X5_find_16 : nth t_X5_find 16 = aLdA 1 17 := rfl
theorem n_X5_find_17 : nth t_X5_find 17 = aCalV 26 1 20 [13] none := rfl
theorem y_X5_find_1 (n : Nat) : nth t_X5_find (n + 20) = nth t_X5_find_c1 n := rfl
theorem n_X5_find_20 : nth t_X5_find 20 = aIfEq 25 23 := (y_X5_find_1 0).trans rfl
theorem n_X5_find_23 : nth t_X5_find 23 = aLdI 2 24 := (y_X5_find_1 3).trans rfl
theorem n_X5_find_24 : nth t_X5_find 24 = aRetI := (y_X5_find_1 4).trans rfl
theorem n_X5_find_25 : nth t_X5_find 25 = aInc 2 1 28 := (y_X5_find_1 5).trans rfl
theorem n_X5_find_28 : nth t_X5_find 28 = aGoto 2 := (y_X5_find_1 8).trans rfl
theorem n_X5_find_31 : nth t_X5_find 31 = aK (.int (-1)) 32 := (y_X5_find_1 11).trans rfl
theorem n_X5_find_32 : nth t_X5_find 32 = aRetI := (y_X5_find_1 12).trans rfl
theorem n_X5_adds_0 : nth t_X5_adds 0 = aLdA 0 1 := rfl
theorem n_X5_adds_1 : nth t_X5_adds 1 = aGetR 4 [4] 4 := rfl
theorem n_X5_adds_4 : nth t_X5_adds 4 = aLdI 1 5 := rfl
theorem n_X5_adds_5 : nth t_X5_adds 5 = aAldI 6 := rfl
theorem n_X5_adds_6 : nth t_X5_adds 6 = aK (.int (-1)) 7 := rfl
theorem n_X5_adds_7 : nth t_X5_adds 7 = aIcEq 10 12 := rfl
theorem n_X5_adds_10 : nth t_X5_adds 10 = aK (.int 1) 11 := rfl
theorem n_X5_adds_11 : nth t_X5_adds 11 = aRetI := rfl
theorem n_X5_adds_12 : nth t_X5_adds 12 = aK (.int 0) 13 := rfl
theorem n_X5_adds_13 : nth t_X5_adds 13 = aStI 3 14 := rfl
theorem n_X5_adds_14 : nth t_X5_adds 14 = aLdA 0 15 := rfl
theorem n_X5_adds_15 : nth t_X5_adds 15 = aGetR 1 [4] 18 := rfl
theorem y_X5_adds_1 (n : Nat) : nth t_X5_adds (n + 18) = nth t_X5_adds_c1 n := rfl
theorem n_X5_adds_18 : nth t_X5_adds 18 = aLdA 0 19 := (y_X5_adds_1 0).trans rfl
theorem n_X5_adds_19 : nth t_X5_adds 19 = aGetR 4 [4] 22 := (y_X5_adds_1 1).trans rfl
theorem n_X5_adds_22 : nth t_X5_adds 22 = aLdI 1 23 := (y_X5_adds_1 4).trans rfl
theorem n_X5_adds_23 : nth t_X5_adds 23 = aAldI 24 := (y_X5_adds_1 5).trans rfl
theorem n_X5_adds_24 : nth t_X5_adds 24 = aAldI 25 := (y_X5_adds_1 6).trans rfl
theorem n_X5_adds_25 : nth t_X5_adds 25 = aStI 4 27 := (y_X5_adds_1 7).trans rfl
theorem n_X5_adds_27 : nth t_X5_adds 27 = aLdI 4 29 := (y_X5_adds_1 9).trans rfl
theorem n_X5_adds_29 : nth t_X5_adds 29 = aLdA 0 30 := (y_X5_adds_1 11).trans rfl
theorem n_X5_adds_30 : nth t_X5_adds 30 = aGetR 2 [4] 33 := (y_X5_adds_1 12).trans rfl
theorem n_X5_adds_33 : nth t_X5_adds 33 = aLdA 0 34 := (y_X5_adds_1 15).trans rfl
theorem n_X5_adds_34 : nth t_X5_adds 34 = aGetR 4 [4] 37 := (y_X5_adds_1 16).trans rfl
theorem n_X5_adds_37 : nth t_X5_adds 37 = aLdI 1 38 := (y_X5_adds_1 19).trans rfl
theorem y_X5_adds_2 (n : Nat) : nth t_X5_adds (n + 38) = nth t_X5_adds_c2 n := (y_X5_adds_1 (n + 20)).trans rfl
theorem n_X5_adds_38 : nth t_X5_adds 38 = aAldI 39 := (y_X5_adds_2 0).trans rfl
theorem n_X5_adds_39 : nth t_X5_adds 39 = aAldI 40 := (y_X5_adds_2 1).trans rfl
theorem n_X5_adds_40 : nth t_X5_adds 40 = aIcLe 43 82 := (y_X5_adds_2 2).trans rfl
theorem n_X5_adds_43 : nth t_X5_adds 43 = aK (.int 10) 45 := (y_X5_adds_2 5).trans rfl
theorem n_X5_adds_45 : nth t_X5_adds 45 = aLdI 3 46 := (y_X5_adds_2 7).trans rfl
theorem n_X5_adds_46 : nth t_X5_adds 46 = aB (fun x y => x * y) 47 := (y_X5_adds_2 8).trans rfl
theorem n_X5_adds_47 : nth t_X5_adds 47 = aLdA 2 48 := (y_X5_adds_2 9).trans rfl
theorem n_X5_adds_48 : nth t_X5_adds 48 = aLdI 4 50 := (y_X5_adds_2 10).trans rfl
theorem n_X5_adds_50 : nth t_X5_adds 50 = aK (.int 1) 51 := (y_X5_adds_2 12).trans rfl
theorem n_X5_adds_51 : nth t_X5_adds 51 = aB (fun x y => x - y) 52 := (y_X5_adds_2 13).trans rfl
theorem n_X5_adds_52 : nth t_X5_adds 52 = aAldB 53 := (y_X5_adds_2 14).trans rfl
theorem n_X5_adds_53 : nth t_X5_adds 53 = aK (.int 15) 55 := (y_X5_adds_2 15).trans rfl
theorem y_X5_adds_3 (n : Nat) : nth t_X5_adds (n + 55) = nth t_X5_adds_c3 n := (y_X5_adds_2 (n + 17)).trans rfl
theorem n_X5_adds_55 : nth t_X5_adds 55 = aB (fun x y => x &&& y) 56 := (y_X5_adds_3 0).trans rfl
theorem n_X5_adds_56 : nth t_X5_adds 56 = aK (.int 15) 58 := (y_X5_adds_3 1).trans rfl
theorem n_X5_adds_58 : nth t_X5_adds 58 = aIcEq 61 65 := (y_X5_adds_3 3).trans rfl
theorem n_X5_adds_61 : nth t_X5_adds 61 = aK (.int 0) 62 := (y_X5_adds_3 6).trans rfl
theorem n_X5_adds_62 : nth t_X5_adds 62 = aGoto 74 := (y_X5_adds_3 7).trans rfl
theorem n_X5_adds_65 : nth t_X5_adds 65 = aLdA 2 66 := (y_X5_adds_3 10).trans rfl
theorem n_X5_adds_66 : nth t_X5_adds 66 = aLdI 4 68 := (y_X5_adds_3 11).trans rfl
theorem n_X5_adds_68 : nth t_X5_adds 68 = aK (.int 1) 69 := (y_X5_adds_3 13).trans rfl
theorem n_X5_adds_69 : nth t_X5_adds 69 = aB (fun x y => x - y) 70 := (y_X5_adds_3 14).trans rfl
theorem n_X5_adds_70 : nth t_X5_adds 70 = aAldB 71 := (y_X5_adds_3 15).trans rfl
theorem n_X5_adds_71 : nth t_X5_adds 71 = aK (.int 15) 73 := (y_X5_adds_3 16).trans rfl
theorem n_X5_adds_73 : nth t_X5_adds 73 = aB (fun x y => x &&& y) 74 := (y_X5_adds_3 18).trans rfl
theorem y_X5_adds_4 (n : Nat) : nth t_X5_adds (n + 74) = nth t_X5_adds_c4 n := (y_X5_adds_3 (n + 19)).trans rfl
theorem n_X5_adds_74 : nth t_X5_adds 74 = aB (fun x y => x + y) 75 := (y_X5_adds_4 0).trans rfl
theorem n_X5_adds_75 : nth t_X5_adds 75 = aStI 3 76 := (y_X5_adds_4 1).trans rfl
theorem n_X5_adds_76 : nth t_X5_adds 76 = aInc 4 1 79 := (y_X5_adds_4 2).trans rfl
theorem n_X5_adds_79 : nth t_X5_adds 79 = aGoto 27 := (y_X5_adds_4 5).trans rfl
theorem n_X5_adds_82 : nth t_X5_adds 82 = aLdA 0 83 := (y_X5_adds_4 8).trans rfl
theorem n_X5_adds_83 : nth t_X5_adds 83 = aGetR 7 [4] 86 := (y_X5_adds_4 9).trans rfl
theorem n_X5_adds_86 : nth t_X5_adds 86 = aLdI 1 87 := (y_X5_adds_4 12).trans rfl
theorem n_X5_adds_87 : nth t_X5_adds 87 = aAldI 88 := (y_X5_adds_4 13).trans rfl
theorem n_X5_adds_88 : nth t_X5_adds 88 = aIfLe 112 91 := (y_X5_adds_4 14).trans rfl
theorem n_X5_adds_91 : nth t_X5_adds 91 = aLdA 2 92 := (y_X5_adds_4 17).trans rfl
theorem n_X5_adds_92 : nth t_X5_adds 92 = aLdA 0 93 := (y_X5_adds_4 18).trans rfl
theorem n_X5_adds_93 : nth t_X5_adds 93 = aGetR 7 [4] 96 := (y_X5_adds_4 19).trans rfl
theorem y_X5_adds_5 (n : Nat) : nth t_X5_adds (n + 96) = nth t_X5_adds_c5 n := (y_X5_adds_4 (n + 22)).trans rfl
theorem n_X5_adds_96 : nth t_X5_adds 96 = aLdI 1 97 := (y_X5_adds_5 0).trans rfl
theorem n_X5_adds_97 : nth t_X5_adds 97 = aAldI 98 := (y_X5_adds_5 1).trans rfl
theorem n_X5_adds_98 : nth t_X5_adds 98 = aK (.int 1) 99 := (y_X5_adds_5 2).trans rfl
theorem n_X5_adds_99 : nth t_X5_adds 99 = aB (fun x y => x - y) 100 := (y_X5_adds_5 3).trans rfl
theorem n_X5_adds_100 : nth t_X5_adds 100 = aAldB 101 := (y_X5_adds_5 4).trans rfl
theorem n_X5_adds_101 : nth t_X5_adds 101 = aK (.int 16) 103 := (y_X5_adds_5 5).trans rfl
theorem n_X5_adds_103 : nth t_X5_adds 103 = aB (fun x y => x &&& y) 104 := (y_X5_adds_5 7).trans rfl
theorem n_X5_adds_104 : nth t_X5_adds 104 = aIfEq 112 107 := (y_X5_adds_5 8).trans rfl
theorem n_X5_adds_107 : nth t_X5_adds 107 = aLdI 3 108 := (y_X5_adds_5 11).trans rfl
theorem n_X5_adds_108 : nth t_X5_adds 108 = aU (fun x => -x) 109 := (y_X5_adds_5 12).trans rfl
theorem n_X5_adds_109 : nth t_X5_adds 109 = aGoto 113 := (y_X5_adds_5 13).trans rfl
theorem n_X5_adds_112 : nth t_X5_adds 112 = aLdI 3 113 := (y_X5_adds_5 16).trans rfl
theorem y_X5_adds_6 (n : Nat) : nth t_X5_adds (n + 113) = nth t_X5_adds_c6 n := (y_X5_adds_5 (n + 17)).trans rfl
theorem n_X5_adds_113 : nth t_X5_adds 113 = aRetI := (y_X5_adds_6 0).trans rfl
theorem n_X5_orderBehind_0 : nth t_X5_orderBehind 0 = aLdA 2 1 := rfl
theorem n_X5_orderBehind_1 : nth t_X5_orderBehind 1 = aIfN 4 6 := rfl
theorem n_X5_orderBehind_4 : nth t_X5_orderBehind 4 = aK (.int 3) 5 := rfl
theorem n_X5_orderBehind_5 : nth t_X5_orderBehind 5 = aRetI := rfl
theorem n_X5_orderBehind_6 : nth t_X5_orderBehind 6 = aK (.int 0) 7 := rfl
theorem n_X5_orderBehind_7 : nth t_X5_orderBehind 7 = aStI 3 8 := rfl
theorem n_X5_orderBehind_8 : nth t_X5_orderBehind 8 = aK (.int 1) 9 := rfl
theorem n_X5_orderBehind_9 : nth t_X5_orderBehind 9 = aStI 4 11 := rfl
theorem n_X5_orderBehind_11 : nth t_X5_orderBehind 11 = aLdI 4 13 := rfl
theorem n_X5_orderBehind_13 : nth t_X5_orderBehind 13 = aK (.int 3) 14 := rfl
theorem n_X5_orderBehind_14 : nth t_X5_orderBehind 14 = aIcLe 17 73 := rfl
theorem n_X5_orderBehind_17 : nth t_X5_orderBehind 17 = aLdA 0 18 := rfl
theorem y_X5_orderBehind_1 (n : Nat) : nth t_X5_orderBehind (n + 18) = nth t_X5_orderBehind_c1 n := rfl
theorem n_X5_orderBehind_18 : nth t_X5_orderBehind 18 = aGetR 3 [4] 21 := (y_X5_orderBehind_1 0).trans rfl
theorem n_X5_orderBehind_21 : nth t_X5_orderBehind 21 = aLdI 4 23 := (y_X5_orderBehind_1 3).trans rfl
theorem n_X5_orderBehind_23 : nth t_X5_orderBehind 23 = aK (.int 1) 24 := (y_X5_orderBehind_1 5).trans rfl
theorem n_X5_orderBehind_24 : nth t_X5_orderBehind 24 = aB (fun x y => x - y) 25 := (y_X5_orderBehind_1 6).trans rfl
theorem n_X5_orderBehind_25 : nth t_X5_orderBehind 25 = aAldI 26 := (y_X5_orderBehind_1 7).trans rfl
theorem n_X5_orderBehind_26 : nth t_X5_orderBehind 26 = aIfLe 67 29 := (y_X5_orderBehind_1 8).trans rfl
theorem n_X5_orderBehind_29 : nth t_X5_orderBehind 29 = aLdA 1 30 := (y_X5_orderBehind_1 11).trans rfl
theorem n_X5_orderBehind_30 : nth t_X5_orderBehind 30 = aLdA 0 31 := (y_X5_orderBehind_1 12).trans rfl
theorem n_X5_orderBehind_31 : nth t_X5_orderBehind 31 = aGetR 3 [4] 34 := (y_X5_orderBehind_1 13).trans rfl
theorem n_X5_orderBehind_34 : nth t_X5_orderBehind 34 = aLdI 4 36 := (y_X5_orderBehind_1 16).trans rfl
theorem n_X5_orderBehind_36 : nth t_X5_orderBehind 36 = aK (.int 1) 37 := (y_X5_orderBehind_1 18).trans rfl
theorem n_X5_orderBehind_37 : nth t_X5_orderBehind 37 = aB (fun x y => x - y) 38 := (y_X5_orderBehind_1 19).trans rfl
theorem y_X5_orderBehind_2 (n : Nat) : nth t_X5_orderBehind (n + 38) = nth t_X5_orderBehind_c2 n := (y_X5_orderBehind_1 (n + 20)).trans rfl
theorem n_X5_orderBehind_38 : nth t_X5_orderBehind 38 = aAldI 39 := (y_X5_orderBehind_2 0).trans rfl
theorem n_X5_orderBehind_39 : nth t_X5_orderBehind 39 = aK (.int 1) 40 := (y_X5_orderBehind_2 1).trans rfl
theorem n_X5_orderBehind_40 : nth t_X5_orderBehind 40 = aB (fun x y => x - y) 41 := (y_X5_orderBehind_2 2).trans rfl
theorem n_X5_orderBehind_41 : nth t_X5_orderBehind 41 = aAldB 42 := (y_X5_orderBehind_2 3).trans rfl
theorem n_X5_orderBehind_42 : nth t_X5_orderBehind 42 = aK (.int 15) 44 := (y_X5_orderBehind_2 4).trans rfl
theorem n_X5_orderBehind_44 : nth t_X5_orderBehind 44 = aB (fun x y => x &&& y) 45 := (y_X5_orderBehind_2 6).trans rfl
theorem n_X5_orderBehind_45 : nth t_X5_orderBehind 45 = aLdA 2 46 := (y_X5_orderBehind_2 7).trans rfl
theorem n_X5_orderBehind_46 : nth t_X5_orderBehind 46 = aLdA 0 47 := (y_X5_orderBehind_2 8).trans rfl
theorem n_X5_orderBehind_47 : nth t_X5_orderBehind 47 = aGetR 3 [4] 50 := (y_X5_orderBehind_2 9).trans rfl
theorem n_X5_orderBehind_50 : nth t_X5_orderBehind 50 = aLdI 4 52 := (y_X5_orderBehind_2 12).trans rfl
theorem n_X5_orderBehind_52 : nth t_X5_orderBehind 52 = aK (.int 1) 53 := (y_X5_orderBehind_2 14).trans rfl
theorem n_X5_orderBehind_53 : nth t_X5_orderBehind 53 = aB (fun x y => x - y) 54 := (y_X5_orderBehind_2 15).trans rfl
theorem y_X5_orderBehind_3 (n : Nat) : nth t_X5_orderBehind (n + 54) = nth t_X5_orderBehind_c3 n := (y_X5_orderBehind_2 (n + 16)).trans rfl
theorem n_X5_orderBehind_54 : nth t_X5_orderBehind 54 = aAldI 55 := (y_X5_orderBehind_3 0).trans rfl
theorem n_X5_orderBehind_55 : nth t_X5_orderBehind 55 = aK (.int 1) 56 := (y_X5_orderBehind_3 1).trans rfl
theorem n_X5_orderBehind_56 : nth t_X5_orderBehind 56 = aB (fun x y => x - y) 57 := (y_X5_orderBehind_3 2).trans rfl
theorem n_X5_orderBehind_57 : nth t_X5_orderBehind 57 = aAldB 58 := (y_X5_orderBehind_3 3).trans rfl
theorem n_X5_orderBehind_58 : nth t_X5_orderBehind 58 = aK (.int 15) 60 := (y_X5_orderBehind_3 4).trans rfl
theorem n_X5_orderBehind_60 : nth t_X5_orderBehind 60 = aB (fun x y => x &&& y) 61 := (y_X5_orderBehind_3 6).trans rfl
theorem n_X5_orderBehind_61 : nth t_X5_orderBehind 61 = aIcEq 67 64 := (y_X5_orderBehind_3 7).trans rfl
theorem n_X5_orderBehind_64 : nth t_X5_orderBehind 64 = aLdI 4 66 := (y_X5_orderBehind_3 10).trans rfl
theorem n_X5_orderBehind_66 : nth t_X5_orderBehind 66 = aStI 3 67 := (y_X5_orderBehind_3 12).trans rfl
theorem n_X5_orderBehind_67 : nth t_X5_orderBehind 67 = aInc 4 1 70 := (y_X5_orderBehind_3 13).trans rfl
theorem n_X5_orderBehind_70 : nth t_X5_orderBehind 70 = aGoto 11 := (y_X5_orderBehind_3 16).trans rfl
theorem n_X5_orderBehind_73 : nth t_X5_orderBehind 73 = aLdI 3 74 := (y_X5_orderBehind_3 19).trans rfl
theorem y_X5_orderBehind_4 (n : Nat) : nth t_X5_orderBehind (n + 74) = nth t_X5_orderBehind_c4 n := (y_X5_orderBehind_3 (n + 20)).trans rfl
theorem n_X5_orderBehind_74 : nth t_X5_orderBehind 74 = aRetI := (y_X5_orderBehind_4 0).trans rfl
theorem n_X6_init_0 : nth t_X6_init 0 = aLdA 0 1 := rfl
theorem n_X6_init_1 : nth t_X6_init 1 = aObjI 4 := rfl
theorem n_X6_init_4 : nth t_X6_init 4 = aLdA 0 5 := rfl
theorem n_X6_init_5 : nth t_X6_init 5 = aK (.int 40) 7 := rfl
theorem n_X6_init_7 : nth t_X6_init 7 = aNewA 110 10 := rfl
theorem n_X6_init_10 : nth t_X6_init 10 = aPutR 0 [5] 13 := rfl
theorem n_X6_init_13 : nth t_X6_init 13 = aRetV := rfl
theorem n_X8_init_0 : nth t_X8_init 0 = aLdA 0 1 := rfl
theorem n_X8_init_1 : nth t_X8_init 1 = aObjI 4 := rfl
theorem n_X8_init_4 : nth t_X8_init 4 = aLdA 0 5 := rfl
theorem n_X8_init_5 : nth t_X8_init 5 = aK (.ref 1) 7 := rfl
theorem n_X8_init_7 : nth t_X8_init 7 = aPutR 8 [7, 9] 10 := rfl
theorem n_X8_init_10 : nth t_X8_init 10 = aLdA 0 11 := rfl
theorem n_X8_init_11 : nth t_X8_init 11 = aLdA 1 12 := rfl
theorem n_X8_init_12 : nth t_X8_init 12 = aPutR 0 [7, 9] 15 := rfl
theorem n_X8_init_15 : nth t_X8_init 15 = aLdA 0 16 := rfl
theorem n_X8_init_16 : nth t_X8_init 16 = aLdI 2 17 := rfl
theorem n_X8_init_17 : nth t_X8_init 17 = aPutI 1 [7, 9] 20 := rfl
theorem n_X8_init_20 : nth t_X8_init 20 = aLdA 0 21 := rfl
theorem y_X8_init_1 (n : Nat) : nth t_X8_init (n + 21) = nth t_X8_init_c1 n := rfl
theorem n_X8_init_21 : nth t_X8_init 21 = aLdI 3 22 := (y_X8_init_1 0).trans rfl
theorem n_X8_init_22 : nth t_X8_init 22 = aPutI 2 [7, 9] 25 := (y_X8_init_1 1).trans rfl
theorem n_X8_init_25 : nth t_X8_init 25 = aRetV := (y_X8_init_1 4).trans rfl
theorem n_X8_go_0 : nth t_X8_go 0 = aLdA 0 1 := rfl
theorem n_X8_go_1 : nth t_X8_go 1 = aGetI 3 [7, 9] 4 := rfl
theorem n_X8_go_4 : nth t_X8_go 4 = aLdA 0 5 := rfl
theorem n_X8_go_5 : nth t_X8_go 5 = aGetI 1 [7, 9] 8 := rfl
theorem n_X8_go_8 : nth t_X8_go 8 = aIcLt 11 50 := rfl
theorem n_X8_go_11 : nth t_X8_go 11 = aLdA 0 12 := rfl
theorem n_X8_go_12 : nth t_X8_go 12 = aLdA 0 13 := rfl
theorem n_X8_go_13 : nth t_X8_go 13 = aGetI 3 [7, 9] 16 := rfl
theorem n_X8_go_16 : nth t_X8_go 16 = aCalV 250 1 19 [7, 9] none := rfl
theorem n_X8_go_19 : nth t_X8_go 19 = aK (.int 32) 21 := rfl
theorem n_X8_go_21 : nth t_X8_go 21 = aIcEq 37 24 := rfl
theorem n_X8_go_24 : nth t_X8_go 24 = aLdA 0 25 := rfl
theorem y_X8_go_1 (n : Nat) : nth t_X8_go (n + 25) = nth t_X8_go_c1 n := rfl
theorem n_X8_go_25 : nth t_X8_go 25 = aLdA 0 26 := (y_X8_go_1 0).trans rfl
theorem n_X8_go_26 : nth t_X8_go 26 = aGetI 3 [7, 9] 29 := (y_X8_go_1 1).trans rfl
theorem n_X8_go_29 : nth t_X8_go 29 = aCalV 250 1 32 [7, 9] none := (y_X8_go_1 4).trans rfl
theorem n_X8_go_32 : nth t_X8_go 32 = aK (.int 10) 34 := (y_X8_go_1 7).trans rfl
theorem n_X8_go_34 : nth t_X8_go 34 = aIcEq 37 50 := (y_X8_go_1 9).trans rfl
theorem n_X8_go_37 : nth t_X8_go 37 = aLdA 0 38 := (y_X8_go_1 12).trans rfl
theorem n_X8_go_38 : nth t_X8_go 38 = aDup 39 := (y_X8_go_1 13).trans rfl
theorem n_X8_go_39 : nth t_X8_go 39 = aGetI 3 [7, 9] 42 := (y_X8_go_1 14).trans rfl
theorem n_X8_go_42 : nth t_X8_go 42 = aK (.int 1) 43 := (y_X8_go_1 17).trans rfl
theorem n_X8_go_43 : nth t_X8_go 43 = aB (fun x y => x + y) 44 := (y_X8_go_1 18).trans rfl
theorem n_X8_go_44 : nth t_X8_go 44 = aPutI 3 [7, 9] 47 := (y_X8_go_1 19).trans rfl
theorem n_X8_go_47 : nth t_X8_go 47 = aGoto 0 := (y_X8_go_1 22).trans rfl
theorem y_X8_go_2 (n : Nat) : nth t_X8_go (n + 50) = nth t_X8_go_c2 n := (y_X8_go_1 (n + 25)).trans rfl
theorem n_X8_go_50 : nth t_X8_go 50 = aLdA 0 51 := (y_X8_go_2 0).trans rfl
theorem n_X8_go_51 : nth t_X8_go 51 = aLdA 0 52 := (y_X8_go_2 1).trans rfl
theorem n_X8_go_52 : nth t_X8_go 52 = aGetI 3 [7, 9] 55 := (y_X8_go_2 2).trans rfl
theorem n_X8_go_55 : nth t_X8_go 55 = aPutI 5 [7, 9] 58 := (y_X8_go_2 5).trans rfl
theorem n_X8_go_58 : nth t_X8_go 58 = aLdA 0 59 := (y_X8_go_2 8).trans rfl
theorem n_X8_go_59 : nth t_X8_go 59 = aGetI 1 [7, 9] 62 := (y_X8_go_2 9).trans rfl
theorem n_X8_go_62 : nth t_X8_go 62 = aLdA 0 63 := (y_X8_go_2 12).trans rfl
theorem n_X8_go_63 : nth t_X8_go 63 = aGetI 2 [7, 9] 66 := (y_X8_go_2 13).trans rfl
theorem n_X8_go_66 : nth t_X8_go 66 = aIcLe 94 69 := (y_X8_go_2 16).trans rfl
theorem n_X8_go_69 : nth t_X8_go 69 = aLdA 0 70 := (y_X8_go_2 19).trans rfl
theorem n_X8_go_70 : nth t_X8_go 70 = aGetI 5 [7, 9] 73 := (y_X8_go_2 20).trans rfl
theorem n_X8_go_73 : nth t_X8_go 73 = aLdA 0 74 := (y_X8_go_2 23).trans rfl
theorem y_X8_go_3 (n : Nat) : nth t_X8_go (n + 74) = nth t_X8_go_c3 n := (y_X8_go_2 (n + 24)).trans rfl
theorem n_X8_go_74 : nth t_X8_go 74 = aGetI 2 [7, 9] 77 := (y_X8_go_3 0).trans rfl
theorem n_X8_go_77 : nth t_X8_go 77 = aIcLt 94 80 := (y_X8_go_3 3).trans rfl
theorem n_X8_go_80 : nth t_X8_go 80 = aLdA 0 81 := (y_X8_go_3 6).trans rfl
theorem n_X8_go_81 : nth t_X8_go 81 = aLdA 0 82 := (y_X8_go_3 7).trans rfl
theorem n_X8_go_82 : nth t_X8_go 82 = aGetI 2 [7, 9] 85 := (y_X8_go_3 8).trans rfl
theorem n_X8_go_85 : nth t_X8_go 85 = aPutI 5 [7, 9] 88 := (y_X8_go_3 11).trans rfl
theorem n_X8_go_88 : nth t_X8_go 88 = aLdA 0 89 := (y_X8_go_3 14).trans rfl
theorem n_X8_go_89 : nth t_X8_go 89 = aK (.int 5) 90 := (y_X8_go_3 15).trans rfl
theorem n_X8_go_90 : nth t_X8_go 90 = aPutI 4 [7, 9] 93 := (y_X8_go_3 16).trans rfl
theorem n_X8_go_93 : nth t_X8_go 93 = aRetV := (y_X8_go_3 19).trans rfl
theorem n_X8_go_94 : nth t_X8_go 94 = aLdA 0 95 := (y_X8_go_3 20).trans rfl
theorem n_X8_go_95 : nth t_X8_go 95 = aGetI 3 [7, 9] 98 := (y_X8_go_3 21).trans rfl
theorem y_X8_go_4 (n : Nat) : nth t_X8_go (n + 98) = nth t_X8_go_c4 n := (y_X8_go_3 (n + 24)).trans rfl
theorem n_X8_go_98 : nth t_X8_go 98 = aLdA 0 99 := (y_X8_go_4 0).trans rfl
theorem n_X8_go_99 : nth t_X8_go 99 = aGetI 1 [7, 9] 102 := (y_X8_go_4 1).trans rfl
theorem n_X8_go_102 : nth t_X8_go 102 = aIcLt 111 105 := (y_X8_go_4 4).trans rfl
theorem n_X8_go_105 : nth t_X8_go 105 = aLdA 0 106 := (y_X8_go_4 7).trans rfl
theorem n_X8_go_106 : nth t_X8_go 106 = aK (.int 0) 107 := (y_X8_go_4 8).trans rfl
theorem n_X8_go_107 : nth t_X8_go 107 = aPutI 4 [7, 9] 110 := (y_X8_go_4 9).trans rfl
theorem n_X8_go_110 : nth t_X8_go 110 = aRetV := (y_X8_go_4 12).trans rfl
theorem n_X8_go_111 : nth t_X8_go 111 = aLdA 0 112 := (y_X8_go_4 13).trans rfl
theorem n_X8_go_112 : nth t_X8_go 112 = aLdA 0 113 := (y_X8_go_4 14).trans rfl
theorem n_X8_go_113 : nth t_X8_go 113 = aGetI 3 [7, 9] 116 := (y_X8_go_4 15).trans rfl
theorem n_X8_go_116 : nth t_X8_go 116 = aCalV 250 1 119 [7, 9] none := (y_X8_go_4 18).trans rfl
theorem n_X8_go_119 : nth t_X8_go 119 = aStI 1 120 := (y_X8_go_4 21).trans rfl
theorem y_X8_go_5 (n : Nat) : nth t_X8_go (n + 120) = nth t_X8_go_c5 n := (y_X8_go_4 (n + 22)).trans rfl
theorem n_X8_go_120 : nth t_X8_go 120 = aLdI 1 121 := (y_X8_go_5 0).trans rfl
theorem n_X8_go_121 : nth t_X8_go 121 = aCalS 251 1 124 none := (y_X8_go_5 1).trans rfl
theorem n_X8_go_124 : nth t_X8_go 124 = aIfEq 134 127 := (y_X8_go_5 4).trans rfl
theorem n_X8_go_127 : nth t_X8_go 127 = aLdA 0 128 := (y_X8_go_5 7).trans rfl
theorem n_X8_go_128 : nth t_X8_go 128 = aCalV 252 0 131 [7, 9] none := (y_X8_go_5 8).trans rfl
theorem n_X8_go_131 : nth t_X8_go 131 = aGoto 190 := (y_X8_go_5 11).trans rfl
theorem n_X8_go_134 : nth t_X8_go 134 = aLdI 1 135 := (y_X8_go_5 14).trans rfl
theorem n_X8_go_135 : nth t_X8_go 135 = aCalS 253 1 138 none := (y_X8_go_5 15).trans rfl
theorem n_X8_go_138 : nth t_X8_go 138 = aIfEq 148 141 := (y_X8_go_5 18).trans rfl
theorem n_X8_go_141 : nth t_X8_go 141 = aLdA 0 142 := (y_X8_go_5 21).trans rfl
theorem n_X8_go_142 : nth t_X8_go 142 = aCalV 254 0 145 [7, 9] none := (y_X8_go_5 22).trans rfl
theorem n_X8_go_145 : nth t_X8_go 145 = aGoto 190 := (y_X8_go_5 25).trans rfl
theorem y_X8_go_6 (n : Nat) : nth t_X8_go (n + 148) = nth t_X8_go_c6 n := (y_X8_go_5 (n + 28)).trans rfl
theorem n_X8_go_148 : nth t_X8_go 148 = aLdA 0 149 := (y_X8_go_6 0).trans rfl
theorem n_X8_go_149 : nth t_X8_go 149 = aLdI 1 150 := (y_X8_go_6 1).trans rfl
theorem n_X8_go_150 : nth t_X8_go 150 = aK (.int 45) 152 := (y_X8_go_6 2).trans rfl
theorem n_X8_go_152 : nth t_X8_go 152 = aIcEq 167 155 := (y_X8_go_6 4).trans rfl
theorem n_X8_go_155 : nth t_X8_go 155 = aLdI 1 156 := (y_X8_go_6 7).trans rfl
theorem n_X8_go_156 : nth t_X8_go 156 = aK (.int 59) 158 := (y_X8_go_6 8).trans rfl
theorem n_X8_go_158 : nth t_X8_go 158 = aIcEq 167 161 := (y_X8_go_6 10).trans rfl
theorem n_X8_go_161 : nth t_X8_go 161 = aLdI 1 162 := (y_X8_go_6 13).trans rfl
theorem n_X8_go_162 : nth t_X8_go 162 = aK (.int 46) 164 := (y_X8_go_6 14).trans rfl
theorem n_X8_go_164 : nth t_X8_go 164 = aIcEq 167 171 := (y_X8_go_6 16).trans rfl
theorem n_X8_go_167 : nth t_X8_go 167 = aK (.int 4) 168 := (y_X8_go_6 19).trans rfl
theorem n_X8_go_168 : nth t_X8_go 168 = aGoto 172 := (y_X8_go_6 20).trans rfl
theorem y_X8_go_7 (n : Nat) : nth t_X8_go (n + 171) = nth t_X8_go_c7 n := (y_X8_go_6 (n + 23)).trans rfl
theorem n_X8_go_171 : nth t_X8_go 171 = aK (.int 1) 172 := (y_X8_go_7 0).trans rfl
theorem n_X8_go_172 : nth t_X8_go 172 = aPutI 4 [7, 9] 175 := (y_X8_go_7 1).trans rfl
theorem n_X8_go_175 : nth t_X8_go 175 = aLdA 0 176 := (y_X8_go_7 4).trans rfl
theorem n_X8_go_176 : nth t_X8_go 176 = aLdI 1 177 := (y_X8_go_7 5).trans rfl
theorem n_X8_go_177 : nth t_X8_go 177 = aPutI 7 [7, 9] 180 := (y_X8_go_7 6).trans rfl
theorem n_X8_go_180 : nth t_X8_go 180 = aLdA 0 181 := (y_X8_go_7 9).trans rfl
theorem n_X8_go_181 : nth t_X8_go 181 = aDup 182 := (y_X8_go_7 10).trans rfl
theorem n_X8_go_182 : nth t_X8_go 182 = aGetI 3 [7, 9] 185 := (y_X8_go_7 11).trans rfl
theorem n_X8_go_185 : nth t_X8_go 185 = aK (.int 1) 186 := (y_X8_go_7 14).trans rfl
theorem n_X8_go_186 : nth t_X8_go 186 = aB (fun x y => x + y) 187 := (y_X8_go_7 15).trans rfl
theorem n_X8_go_187 : nth t_X8_go 187 = aPutI 3 [7, 9] 190 := (y_X8_go_7 16).trans rfl
theorem n_X8_go_190 : nth t_X8_go 190 = aRetV := (y_X8_go_7 19).trans rfl
theorem n_X8_byteAt_0 : nth t_X8_byteAt 0 = aLdI 1 1 := rfl
theorem n_X8_byteAt_1 : nth t_X8_byteAt 1 = aLdA 0 2 := rfl
theorem n_X8_byteAt_2 : nth t_X8_byteAt 2 = aGetI 1 [7, 9] 5 := rfl
theorem n_X8_byteAt_5 : nth t_X8_byteAt 5 = aIcLt 8 21 := rfl
theorem n_X8_byteAt_8 : nth t_X8_byteAt 8 = aLdA 0 9 := rfl
theorem n_X8_byteAt_9 : nth t_X8_byteAt 9 = aGetR 0 [7, 9] 12 := rfl
theorem n_X8_byteAt_12 : nth t_X8_byteAt 12 = aLdI 1 13 := rfl
theorem n_X8_byteAt_13 : nth t_X8_byteAt 13 = aAldB 14 := rfl
theorem n_X8_byteAt_14 : nth t_X8_byteAt 14 = aK (.int 255) 17 := rfl
theorem n_X8_byteAt_17 : nth t_X8_byteAt 17 = aB (fun x y => x &&& y) 18 := rfl
theorem n_X8_byteAt_18 : nth t_X8_byteAt 18 = aGoto 22 := rfl
theorem n_X8_byteAt_21 : nth t_X8_byteAt 21 = aK (.int 0) 22 := rfl
theorem y_X8_byteAt_1 (n : Nat) : nth t_X8_byteAt (n + 22) = nth t_X8_byteAt_c1 n := rfl
theorem n_X8_byteAt_22 : nth t_X8_byteAt 22 = aRetI := (y_X8_byteAt_1 0).trans rfl
theorem n_X8_isLetter_0 : nth t_X8_isLetter 0 = aLdI 0 1 := rfl
theorem n_X8_isLetter_1 : nth t_X8_isLetter 1 = aK (.int 97) 3 := rfl
theorem n_X8_isLetter_3 : nth t_X8_isLetter 3 = aIcLt 16 6 := rfl
theorem n_X8_isLetter_6 : nth t_X8_isLetter 6 = aLdI 0 7 := rfl
theorem n_X8_isLetter_7 : nth t_X8_isLetter 7 = aK (.int 122) 9 := rfl
theorem n_X8_isLetter_9 : nth t_X8_isLetter 9 = aIcLe 12 16 := rfl
theorem n_X8_isLetter_12 : nth t_X8_isLetter 12 = aK (.int 1) 13 := rfl
theorem n_X8_isLetter_13 : nth t_X8_isLetter 13 = aGoto 17 := rfl
theorem n_X8_isLetter_16 : nth t_X8_isLetter 16 = aK (.int 0) 17 := rfl
theorem n_X8_isLetter_17 : nth t_X8_isLetter 17 = aRetZ := rfl
theorem n_X8_letters_0 : nth t_X8_letters 0 = aNew 12 4 3 := rfl
theorem n_X8_letters_3 : nth t_X8_letters 3 = aDup 4 := rfl
theorem n_X8_letters_4 : nth t_X8_letters 4 = aCalI 19 0 7 none := rfl
theorem n_X8_letters_7 : nth t_X8_letters 7 = aStA 1 8 := rfl
theorem n_X8_letters_8 : nth t_X8_letters 8 = aLdA 0 9 := rfl
theorem n_X8_letters_9 : nth t_X8_letters 9 = aLdA 0 10 := rfl
theorem n_X8_letters_10 : nth t_X8_letters 10 = aGetI 3 [7, 9] 13 := rfl
theorem n_X8_letters_13 : nth t_X8_letters 13 = aCalV 250 1 16 [7, 9] none := rfl
theorem n_X8_letters_16 : nth t_X8_letters 16 = aCalS 251 1 19 none := rfl
theorem n_X8_letters_19 : nth t_X8_letters 19 = aIfEq 62 22 := rfl
theorem n_X8_letters_22 : nth t_X8_letters 22 = aLdA 0 23 := rfl
theorem n_X8_letters_23 : nth t_X8_letters 23 = aGetI 3 [7, 9] 26 := rfl
theorem y_X8_letters_1 (n : Nat) : nth t_X8_letters (n + 26) = nth t_X8_letters_c1 n := rfl
theorem n_X8_letters_26 : nth t_X8_letters 26 = aLdA 0 27 := (y_X8_letters_1 0).trans rfl
theorem n_X8_letters_27 : nth t_X8_letters 27 = aGetI 5 [7, 9] 30 := (y_X8_letters_1 1).trans rfl
theorem n_X8_letters_30 : nth t_X8_letters 30 = aB (fun x y => x - y) 31 := (y_X8_letters_1 4).trans rfl
theorem n_X8_letters_31 : nth t_X8_letters 31 = aK (.int 5) 32 := (y_X8_letters_1 5).trans rfl
theorem n_X8_letters_32 : nth t_X8_letters 32 = aIcLt 35 49 := (y_X8_letters_1 6).trans rfl
theorem n_X8_letters_35 : nth t_X8_letters 35 = aLdA 1 36 := (y_X8_letters_1 9).trans rfl
theorem n_X8_letters_36 : nth t_X8_letters 36 = aLdA 0 37 := (y_X8_letters_1 10).trans rfl
theorem n_X8_letters_37 : nth t_X8_letters 37 = aLdA 0 38 := (y_X8_letters_1 11).trans rfl
theorem n_X8_letters_38 : nth t_X8_letters 38 = aGetI 3 [7, 9] 41 := (y_X8_letters_1 12).trans rfl
theorem n_X8_letters_41 : nth t_X8_letters 41 = aCalV 250 1 44 [7, 9] none := (y_X8_letters_1 15).trans rfl
theorem n_X8_letters_44 : nth t_X8_letters 44 = aU (fun x => (x.toUInt32 % 65536).toInt32) 45 := (y_X8_letters_1 18).trans rfl
theorem n_X8_letters_45 : nth t_X8_letters 45 = aCalV 20 1 48 [12] none := (y_X8_letters_1 19).trans rfl
theorem y_X8_letters_2 (n : Nat) : nth t_X8_letters (n + 48) = nth t_X8_letters_c2 n := (y_X8_letters_1 (n + 22)).trans rfl
theorem n_X8_letters_48 : nth t_X8_letters 48 = aPop 49 := (y_X8_letters_2 0).trans rfl
theorem n_X8_letters_49 : nth t_X8_letters 49 = aLdA 0 50 := (y_X8_letters_2 1).trans rfl
theorem n_X8_letters_50 : nth t_X8_letters 50 = aDup 51 := (y_X8_letters_2 2).trans rfl
theorem n_X8_letters_51 : nth t_X8_letters 51 = aGetI 3 [7, 9] 54 := (y_X8_letters_2 3).trans rfl
theorem n_X8_letters_54 : nth t_X8_letters 54 = aK (.int 1) 55 := (y_X8_letters_2 6).trans rfl
theorem n_X8_letters_55 : nth t_X8_letters 55 = aB (fun x y => x + y) 56 := (y_X8_letters_2 7).trans rfl
theorem n_X8_letters_56 : nth t_X8_letters 56 = aPutI 3 [7, 9] 59 := (y_X8_letters_2 8).trans rfl
theorem n_X8_letters_59 : nth t_X8_letters 59 = aGoto 8 := (y_X8_letters_2 11).trans rfl
theorem n_X8_letters_62 : nth t_X8_letters 62 = aLdA 0 63 := (y_X8_letters_2 14).trans rfl
theorem n_X8_letters_63 : nth t_X8_letters 63 = aLdA 1 64 := (y_X8_letters_2 15).trans rfl
theorem n_X8_letters_64 : nth t_X8_letters 64 = aCalV 21 0 67 [12] none := (y_X8_letters_2 16).trans rfl
theorem n_X8_letters_67 : nth t_X8_letters 67 = aPutR 8 [7, 9] 70 := (y_X8_letters_2 19).trans rfl
theorem y_X8_letters_3 (n : Nat) : nth t_X8_letters (n + 70) = nth t_X8_letters_c3 n := (y_X8_letters_2 (n + 22)).trans rfl
theorem n_X8_letters_70 : nth t_X8_letters 70 = aLdA 0 71 := (y_X8_letters_3 0).trans rfl
theorem n_X8_letters_71 : nth t_X8_letters 71 = aLdA 0 72 := (y_X8_letters_3 1).trans rfl
theorem n_X8_letters_72 : nth t_X8_letters 72 = aGetI 3 [7, 9] 75 := (y_X8_letters_3 2).trans rfl
theorem n_X8_letters_75 : nth t_X8_letters 75 = aLdA 0 76 := (y_X8_letters_3 5).trans rfl
theorem n_X8_letters_76 : nth t_X8_letters 76 = aGetI 5 [7, 9] 79 := (y_X8_letters_3 6).trans rfl
theorem n_X8_letters_79 : nth t_X8_letters 79 = aB (fun x y => x - y) 80 := (y_X8_letters_3 9).trans rfl
theorem n_X8_letters_80 : nth t_X8_letters 80 = aK (.int 5) 81 := (y_X8_letters_3 10).trans rfl
theorem n_X8_letters_81 : nth t_X8_letters 81 = aIcLe 88 84 := (y_X8_letters_3 11).trans rfl
theorem n_X8_letters_84 : nth t_X8_letters 84 = aK (.int 1) 85 := (y_X8_letters_3 14).trans rfl
theorem n_X8_letters_85 : nth t_X8_letters 85 = aGoto 89 := (y_X8_letters_3 15).trans rfl
theorem n_X8_letters_88 : nth t_X8_letters 88 = aK (.int 2) 89 := (y_X8_letters_3 18).trans rfl
theorem n_X8_letters_89 : nth t_X8_letters 89 = aPutI 4 [7, 9] 92 := (y_X8_letters_3 19).trans rfl
theorem y_X8_letters_4 (n : Nat) : nth t_X8_letters (n + 92) = nth t_X8_letters_c4 n := (y_X8_letters_3 (n + 22)).trans rfl
theorem n_X8_letters_92 : nth t_X8_letters 92 = aRetV := (y_X8_letters_4 0).trans rfl
theorem n_X8_isNumeral_0 : nth t_X8_isNumeral 0 = aLdI 0 1 := rfl
theorem n_X8_isNumeral_1 : nth t_X8_isNumeral 1 = aK (.int 48) 3 := rfl
theorem n_X8_isNumeral_3 : nth t_X8_isNumeral 3 = aIcLt 16 6 := rfl
theorem n_X8_isNumeral_6 : nth t_X8_isNumeral 6 = aLdI 0 7 := rfl
theorem n_X8_isNumeral_7 : nth t_X8_isNumeral 7 = aK (.int 57) 9 := rfl
theorem n_X8_isNumeral_9 : nth t_X8_isNumeral 9 = aIcLe 12 16 := rfl
theorem n_X8_isNumeral_12 : nth t_X8_isNumeral 12 = aK (.int 1) 13 := rfl
theorem n_X8_isNumeral_13 : nth t_X8_isNumeral 13 = aGoto 17 := rfl
theorem n_X8_isNumeral_16 : nth t_X8_isNumeral 16 = aK (.int 0) 17 := rfl
theorem n_X8_isNumeral_17 : nth t_X8_isNumeral 17 = aRetZ := rfl
theorem n_X8_digits_0 : nth t_X8_digits 0 = aLdA 0 1 := rfl
theorem n_X8_digits_1 : nth t_X8_digits 1 = aK (.int 0) 2 := rfl
theorem n_X8_digits_2 : nth t_X8_digits 2 = aPutI 6 [7, 9] 5 := rfl
theorem n_X8_digits_5 : nth t_X8_digits 5 = aLdA 0 6 := rfl
theorem n_X8_digits_6 : nth t_X8_digits 6 = aLdA 0 7 := rfl
theorem n_X8_digits_7 : nth t_X8_digits 7 = aGetI 3 [7, 9] 10 := rfl
theorem n_X8_digits_10 : nth t_X8_digits 10 = aCalV 250 1 13 [7, 9] none := rfl
theorem n_X8_digits_13 : nth t_X8_digits 13 = aCalS 253 1 16 none := rfl
theorem n_X8_digits_16 : nth t_X8_digits 16 = aIfEq 68 19 := rfl
theorem n_X8_digits_19 : nth t_X8_digits 19 = aLdA 0 20 := rfl
theorem n_X8_digits_20 : nth t_X8_digits 20 = aGetI 3 [7, 9] 23 := rfl
theorem n_X8_digits_23 : nth t_X8_digits 23 = aLdA 0 24 := rfl
theorem y_X8_digits_1 (n : Nat) : nth t_X8_digits (n + 24) = nth t_X8_digits_c1 n := rfl
theorem n_X8_digits_24 : nth t_X8_digits 24 = aGetI 5 [7, 9] 27 := (y_X8_digits_1 0).trans rfl
theorem n_X8_digits_27 : nth t_X8_digits 27 = aB (fun x y => x - y) 28 := (y_X8_digits_1 3).trans rfl
theorem n_X8_digits_28 : nth t_X8_digits 28 = aK (.int 2) 29 := (y_X8_digits_1 4).trans rfl
theorem n_X8_digits_29 : nth t_X8_digits 29 = aIcLt 32 55 := (y_X8_digits_1 5).trans rfl
theorem n_X8_digits_32 : nth t_X8_digits 32 = aLdA 0 33 := (y_X8_digits_1 8).trans rfl
theorem n_X8_digits_33 : nth t_X8_digits 33 = aK (.int 10) 35 := (y_X8_digits_1 9).trans rfl
theorem n_X8_digits_35 : nth t_X8_digits 35 = aLdA 0 36 := (y_X8_digits_1 11).trans rfl
theorem n_X8_digits_36 : nth t_X8_digits 36 = aGetI 6 [7, 9] 39 := (y_X8_digits_1 12).trans rfl
theorem n_X8_digits_39 : nth t_X8_digits 39 = aB (fun x y => x * y) 40 := (y_X8_digits_1 15).trans rfl
theorem n_X8_digits_40 : nth t_X8_digits 40 = aLdA 0 41 := (y_X8_digits_1 16).trans rfl
theorem n_X8_digits_41 : nth t_X8_digits 41 = aLdA 0 42 := (y_X8_digits_1 17).trans rfl
theorem n_X8_digits_42 : nth t_X8_digits 42 = aGetI 3 [7, 9] 45 := (y_X8_digits_1 18).trans rfl
theorem y_X8_digits_2 (n : Nat) : nth t_X8_digits (n + 45) = nth t_X8_digits_c2 n := (y_X8_digits_1 (n + 21)).trans rfl
theorem n_X8_digits_45 : nth t_X8_digits 45 = aCalV 250 1 48 [7, 9] none := (y_X8_digits_2 0).trans rfl
theorem n_X8_digits_48 : nth t_X8_digits 48 = aB (fun x y => x + y) 49 := (y_X8_digits_2 3).trans rfl
theorem n_X8_digits_49 : nth t_X8_digits 49 = aK (.int 48) 51 := (y_X8_digits_2 4).trans rfl
theorem n_X8_digits_51 : nth t_X8_digits 51 = aB (fun x y => x - y) 52 := (y_X8_digits_2 6).trans rfl
theorem n_X8_digits_52 : nth t_X8_digits 52 = aPutI 6 [7, 9] 55 := (y_X8_digits_2 7).trans rfl
theorem n_X8_digits_55 : nth t_X8_digits 55 = aLdA 0 56 := (y_X8_digits_2 10).trans rfl
theorem n_X8_digits_56 : nth t_X8_digits 56 = aDup 57 := (y_X8_digits_2 11).trans rfl
theorem n_X8_digits_57 : nth t_X8_digits 57 = aGetI 3 [7, 9] 60 := (y_X8_digits_2 12).trans rfl
theorem n_X8_digits_60 : nth t_X8_digits 60 = aK (.int 1) 61 := (y_X8_digits_2 15).trans rfl
theorem n_X8_digits_61 : nth t_X8_digits 61 = aB (fun x y => x + y) 62 := (y_X8_digits_2 16).trans rfl
theorem n_X8_digits_62 : nth t_X8_digits 62 = aPutI 3 [7, 9] 65 := (y_X8_digits_2 17).trans rfl
theorem n_X8_digits_65 : nth t_X8_digits 65 = aGoto 5 := (y_X8_digits_2 20).trans rfl
theorem y_X8_digits_3 (n : Nat) : nth t_X8_digits (n + 68) = nth t_X8_digits_c3 n := (y_X8_digits_2 (n + 23)).trans rfl
theorem n_X8_digits_68 : nth t_X8_digits 68 = aLdA 0 69 := (y_X8_digits_3 0).trans rfl
theorem n_X8_digits_69 : nth t_X8_digits 69 = aLdA 0 70 := (y_X8_digits_3 1).trans rfl
theorem n_X8_digits_70 : nth t_X8_digits 70 = aGetI 3 [7, 9] 73 := (y_X8_digits_3 2).trans rfl
theorem n_X8_digits_73 : nth t_X8_digits 73 = aLdA 0 74 := (y_X8_digits_3 5).trans rfl
theorem n_X8_digits_74 : nth t_X8_digits 74 = aGetI 5 [7, 9] 77 := (y_X8_digits_3 6).trans rfl
theorem n_X8_digits_77 : nth t_X8_digits 77 = aB (fun x y => x - y) 78 := (y_X8_digits_3 9).trans rfl
theorem n_X8_digits_78 : nth t_X8_digits 78 = aK (.int 2) 79 := (y_X8_digits_3 10).trans rfl
theorem n_X8_digits_79 : nth t_X8_digits 79 = aIcLe 86 82 := (y_X8_digits_3 11).trans rfl
theorem n_X8_digits_82 : nth t_X8_digits 82 = aK (.int 1) 83 := (y_X8_digits_3 14).trans rfl
theorem n_X8_digits_83 : nth t_X8_digits 83 = aGoto 87 := (y_X8_digits_3 15).trans rfl
theorem n_X8_digits_86 : nth t_X8_digits 86 = aK (.int 3) 87 := (y_X8_digits_3 18).trans rfl
theorem n_X8_digits_87 : nth t_X8_digits 87 = aPutI 4 [7, 9] 90 := (y_X8_digits_3 19).trans rfl
theorem y_X8_digits_4 (n : Nat) : nth t_X8_digits (n + 90) = nth t_X8_digits_c4 n := (y_X8_digits_3 (n + 22)).trans rfl
theorem n_X8_digits_90 : nth t_X8_digits 90 = aRetV := (y_X8_digits_4 0).trans rfl
theorem n_X8_need_0 : nth t_X8_need 0 = aLdI 1 1 := rfl
theorem n_X8_need_1 : nth t_X8_need 1 = aIfEq 4 37 := rfl
theorem n_X8_need_4 : nth t_X8_need 4 = aNew 8 8 7 := rfl
theorem n_X8_need_7 : nth t_X8_need 7 = aDup 8 := rfl
theorem n_X8_need_8 : nth t_X8_need 8 = aLdA 0 9 := rfl
theorem n_X8_need_9 : nth t_X8_need 9 = aGetI 4 [7, 9] 12 := rfl
theorem n_X8_need_12 : nth t_X8_need 12 = aK (.int 1) 13 := rfl
theorem n_X8_need_13 : nth t_X8_need 13 = aIcEq 24 16 := rfl
theorem n_X8_need_16 : nth t_X8_need 16 = aLdA 0 17 := rfl
theorem n_X8_need_17 : nth t_X8_need 17 = aGetI 4 [7, 9] 20 := rfl
theorem n_X8_need_20 : nth t_X8_need 20 = aK (.int 5) 21 := rfl
theorem n_X8_need_21 : nth t_X8_need 21 = aIcEq 24 28 := rfl
theorem y_X8_need_1 (n : Nat) : nth t_X8_need (n + 24) = nth t_X8_need_c1 n := rfl
theorem n_X8_need_24 : nth t_X8_need 24 = aK (.int 1) 25 := (y_X8_need_1 0).trans rfl
theorem n_X8_need_25 : nth t_X8_need 25 = aGoto 29 := (y_X8_need_1 1).trans rfl
theorem n_X8_need_28 : nth t_X8_need 28 = aLdI 2 29 := (y_X8_need_1 4).trans rfl
theorem n_X8_need_29 : nth t_X8_need 29 = aLdA 0 30 := (y_X8_need_1 5).trans rfl
theorem n_X8_need_30 : nth t_X8_need 30 = aGetI 5 [7, 9] 33 := (y_X8_need_1 6).trans rfl
theorem n_X8_need_33 : nth t_X8_need 33 = aCalI 101 2 36 none := (y_X8_need_1 9).trans rfl
theorem n_X8_need_36 : nth t_X8_need 36 = aThrow := (y_X8_need_1 12).trans rfl
theorem n_X8_need_37 : nth t_X8_need 37 = aRetV := (y_X8_need_1 13).trans rfl
theorem n_X8_number_0 : nth t_X8_number 0 = aLdA 0 1 := rfl
theorem n_X8_number_1 : nth t_X8_number 1 = aLdA 0 2 := rfl
theorem n_X8_number_2 : nth t_X8_number 2 = aGetI 4 [7, 9] 5 := rfl
theorem n_X8_number_5 : nth t_X8_number 5 = aK (.int 3) 6 := rfl
theorem n_X8_number_6 : nth t_X8_number 6 = aIcEq 9 13 := rfl
theorem n_X8_number_9 : nth t_X8_number 9 = aK (.int 1) 10 := rfl
theorem n_X8_number_10 : nth t_X8_number 10 = aGoto 14 := rfl
theorem n_X8_number_13 : nth t_X8_number 13 = aK (.int 0) 14 := rfl
theorem n_X8_number_14 : nth t_X8_number 14 = aK (.int 1) 15 := rfl
theorem n_X8_number_15 : nth t_X8_number 15 = aCalV 255 2 18 [7, 9] none := rfl
theorem n_X8_number_18 : nth t_X8_number 18 = aLdA 0 19 := rfl
theorem n_X8_number_19 : nth t_X8_number 19 = aLdA 0 20 := rfl
theorem y_X8_number_1 (n : Nat) : nth t_X8_number (n + 20) = nth t_X8_number_c1 n := rfl
theorem n_X8_number_20 : nth t_X8_number 20 = aGetI 6 [7, 9] 23 := (y_X8_number_1 0).trans rfl
theorem n_X8_number_23 : nth t_X8_number 23 = aLdI 1 24 := (y_X8_number_1 3).trans rfl
theorem n_X8_number_24 : nth t_X8_number 24 = aLdI 2 25 := (y_X8_number_1 4).trans rfl
theorem n_X8_number_25 : nth t_X8_number 25 = aCalS 43 3 28 none := (y_X8_number_1 5).trans rfl
theorem n_X8_number_28 : nth t_X8_number 28 = aK (.int 2) 29 := (y_X8_number_1 8).trans rfl
theorem n_X8_number_29 : nth t_X8_number 29 = aCalV 255 2 32 [7, 9] none := (y_X8_number_1 9).trans rfl
theorem n_X8_number_32 : nth t_X8_number 32 = aLdA 0 33 := (y_X8_number_1 12).trans rfl
theorem n_X8_number_33 : nth t_X8_number 33 = aGetI 6 [7, 9] 36 := (y_X8_number_1 13).trans rfl
theorem n_X8_number_36 : nth t_X8_number 36 = aStI 3 37 := (y_X8_number_1 16).trans rfl
theorem n_X8_number_37 : nth t_X8_number 37 = aLdA 0 38 := (y_X8_number_1 17).trans rfl
theorem n_X8_number_38 : nth t_X8_number 38 = aCalV 249 0 41 [7, 9] none := (y_X8_number_1 18).trans rfl
theorem n_X8_number_41 : nth t_X8_number 41 = aLdI 3 42 := (y_X8_number_1 21).trans rfl
theorem y_X8_number_2 (n : Nat) : nth t_X8_number (n + 42) = nth t_X8_number_c2 n := (y_X8_number_1 (n + 22)).trans rfl
theorem n_X8_number_42 : nth t_X8_number 42 = aRetI := (y_X8_number_2 0).trans rfl
theorem n_X8_sign_0 : nth t_X8_sign 0 = aLdA 0 1 := rfl
theorem n_X8_sign_1 : nth t_X8_sign 1 = aLdA 0 2 := rfl
theorem n_X8_sign_2 : nth t_X8_sign 2 = aGetI 4 [7, 9] 5 := rfl
theorem n_X8_sign_5 : nth t_X8_sign 5 = aK (.int 4) 6 := rfl
theorem n_X8_sign_6 : nth t_X8_sign 6 = aIcEq 9 21 := rfl
theorem n_X8_sign_9 : nth t_X8_sign 9 = aLdA 0 10 := rfl
theorem n_X8_sign_10 : nth t_X8_sign 10 = aGetI 7 [7, 9] 13 := rfl
theorem n_X8_sign_13 : nth t_X8_sign 13 = aLdI 1 14 := rfl
theorem n_X8_sign_14 : nth t_X8_sign 14 = aIcEq 17 21 := rfl
theorem n_X8_sign_17 : nth t_X8_sign 17 = aK (.int 1) 18 := rfl
theorem n_X8_sign_18 : nth t_X8_sign 18 = aGoto 22 := rfl
theorem n_X8_sign_21 : nth t_X8_sign 21 = aK (.int 0) 22 := rfl
theorem y_X8_sign_1 (n : Nat) : nth t_X8_sign (n + 22) = nth t_X8_sign_c1 n := rfl
theorem n_X8_sign_22 : nth t_X8_sign 22 = aK (.int 1) 23 := (y_X8_sign_1 0).trans rfl
theorem n_X8_sign_23 : nth t_X8_sign 23 = aCalV 255 2 26 [7, 9] none := (y_X8_sign_1 1).trans rfl
theorem n_X8_sign_26 : nth t_X8_sign 26 = aLdA 0 27 := (y_X8_sign_1 4).trans rfl
theorem n_X8_sign_27 : nth t_X8_sign 27 = aCalV 249 0 30 [7, 9] none := (y_X8_sign_1 5).trans rfl
theorem n_X8_sign_30 : nth t_X8_sign 30 = aRetV := (y_X8_sign_1 8).trans rfl
theorem n_X8_is_0 : nth t_X8_is 0 = aLdA 0 1 := rfl
theorem n_X8_is_1 : nth t_X8_is 1 = aGetI 4 [7, 9] 4 := rfl
theorem n_X8_is_4 : nth t_X8_is 4 = aK (.int 2) 5 := rfl
theorem n_X8_is_5 : nth t_X8_is 5 = aIcEq 8 23 := rfl
theorem n_X8_is_8 : nth t_X8_is 8 = aLdA 0 9 := rfl
theorem n_X8_is_9 : nth t_X8_is 9 = aGetR 8 [7, 9] 12 := rfl
theorem n_X8_is_12 : nth t_X8_is 12 = aLdA 1 13 := rfl
theorem n_X8_is_13 : nth t_X8_is 13 = aCalV 26 1 16 [13] none := rfl
theorem n_X8_is_16 : nth t_X8_is 16 = aIfEq 23 19 := rfl
theorem n_X8_is_19 : nth t_X8_is 19 = aK (.int 1) 20 := rfl
theorem n_X8_is_20 : nth t_X8_is 20 = aGoto 24 := rfl
theorem n_X8_is_23 : nth t_X8_is 23 = aK (.int 0) 24 := rfl
theorem y_X8_is_1 (n : Nat) : nth t_X8_is (n + 24) = nth t_X8_is_c1 n := rfl
theorem n_X8_is_24 : nth t_X8_is 24 = aRetZ := (y_X8_is_1 0).trans rfl
theorem n_X9_init_0 : nth t_X9_init 0 = aLdA 0 1 := rfl
theorem n_X9_init_1 : nth t_X9_init 1 = aLdA 1 2 := rfl
theorem n_X9_init_2 : nth t_X9_init 2 = aLdI 2 3 := rfl
theorem n_X9_init_3 : nth t_X9_init 3 = aK (.int 700) 6 := rfl
theorem n_X9_init_6 : nth t_X9_init 6 = aCalI 248 3 9 none := rfl
theorem n_X9_init_9 : nth t_X9_init 9 = aLdA 0 10 := rfl
theorem n_X9_init_10 : nth t_X9_init 10 = aNew 1 3 13 := rfl
theorem n_X9_init_13 : nth t_X9_init 13 = aDup 14 := rfl
theorem n_X9_init_14 : nth t_X9_init 14 = aCalI 114 0 17 none := rfl
theorem n_X9_init_17 : nth t_X9_init 17 = aPutR 9 [7] 20 := rfl
theorem n_X9_init_20 : nth t_X9_init 20 = aLdA 0 21 := rfl
theorem n_X9_init_21 : nth t_X9_init 21 = aK (.int 217) 24 := rfl
theorem y_X9_init_1 (n : Nat) : nth t_X9_init (n + 24) = nth t_X9_init_c1 n := rfl
theorem n_X9_init_24 : nth t_X9_init 24 = aNewA 100 26 := (y_X9_init_1 0).trans rfl
theorem n_X9_init_26 : nth t_X9_init 26 = aPutR 10 [7] 29 := (y_X9_init_1 2).trans rfl
theorem n_X9_init_29 : nth t_X9_init 29 = aRetV := (y_X9_init_1 5).trans rfl
theorem n_X9_read_0 : nth t_X9_read 0 = aLdA 0 1 := rfl
theorem n_X9_read_1 : nth t_X9_read 1 = aCalV 249 0 4 [7] none := rfl
theorem n_X9_read_4 : nth t_X9_read 4 = aLdA 0 5 := rfl
theorem n_X9_read_5 : nth t_X9_read 5 = aGetI 4 [7] 8 := rfl
theorem n_X9_read_8 : nth t_X9_read 8 = aIfEq 48 11 := rfl
theorem n_X9_read_11 : nth t_X9_read 11 = aLdA 0 12 := rfl
theorem n_X9_read_12 : nth t_X9_read 12 = aK (.int (-1)) 13 := rfl
theorem n_X9_read_13 : nth t_X9_read 13 = aCalV 261 1 16 [7] none := rfl
theorem n_X9_read_16 : nth t_X9_read 16 = aStI 1 17 := rfl
theorem n_X9_read_17 : nth t_X9_read 17 = aLdA 0 18 := rfl
theorem n_X9_read_18 : nth t_X9_read 18 = aK (.int 45) 20 := rfl
theorem n_X9_read_20 : nth t_X9_read 20 = aCalV 257 1 23 [7] none := rfl
theorem y_X9_read_1 (n : Nat) : nth t_X9_read (n + 23) = nth t_X9_read_c1 n := rfl
theorem n_X9_read_23 : nth t_X9_read 23 = aLdA 0 24 := (y_X9_read_1 0).trans rfl
theorem n_X9_read_24 : nth t_X9_read 24 = aLdI 1 25 := (y_X9_read_1 1).trans rfl
theorem n_X9_read_25 : nth t_X9_read 25 = aCalV 261 1 28 [7] none := (y_X9_read_1 2).trans rfl
theorem n_X9_read_28 : nth t_X9_read 28 = aStI 2 29 := (y_X9_read_1 5).trans rfl
theorem n_X9_read_29 : nth t_X9_read 29 = aLdA 0 30 := (y_X9_read_1 6).trans rfl
theorem n_X9_read_30 : nth t_X9_read 30 = aK (.int 59) 32 := (y_X9_read_1 7).trans rfl
theorem n_X9_read_32 : nth t_X9_read 32 = aCalV 257 1 35 [7] none := (y_X9_read_1 9).trans rfl
theorem n_X9_read_35 : nth t_X9_read 35 = aLdA 0 36 := (y_X9_read_1 12).trans rfl
theorem n_X9_read_36 : nth t_X9_read 36 = aGetR 9 [7] 39 := (y_X9_read_1 13).trans rfl
theorem n_X9_read_39 : nth t_X9_read 39 = aLdI 1 40 := (y_X9_read_1 16).trans rfl
theorem n_X9_read_40 : nth t_X9_read 40 = aLdI 2 41 := (y_X9_read_1 17).trans rfl
theorem n_X9_read_41 : nth t_X9_read 41 = aCalV 115 2 44 [1] none := (y_X9_read_1 18).trans rfl
theorem y_X9_read_2 (n : Nat) : nth t_X9_read (n + 44) = nth t_X9_read_c2 n := (y_X9_read_1 (n + 21)).trans rfl
theorem n_X9_read_44 : nth t_X9_read 44 = aPop 45 := (y_X9_read_2 0).trans rfl
theorem n_X9_read_45 : nth t_X9_read 45 = aGoto 4 := (y_X9_read_2 1).trans rfl
theorem n_X9_read_48 : nth t_X9_read 48 = aLdA 0 49 := (y_X9_read_2 4).trans rfl
theorem n_X9_read_49 : nth t_X9_read 49 = aGetR 9 [7] 52 := (y_X9_read_2 5).trans rfl
theorem n_X9_read_52 : nth t_X9_read 52 = aRetA := (y_X9_read_2 8).trans rfl
theorem n_X9_hub_0 : nth t_X9_hub 0 = aLdA 0 1 := rfl
theorem n_X9_hub_1 : nth t_X9_hub 1 = aCalV 262 0 4 [7] none := rfl
theorem n_X9_hub_4 : nth t_X9_hub 4 = aStA 2 5 := rfl
theorem n_X9_hub_5 : nth t_X9_hub 5 = aLdA 0 6 := rfl
theorem n_X9_hub_6 : nth t_X9_hub 6 = aLdA 2 7 := rfl
theorem n_X9_hub_7 : nth t_X9_hub 7 = aIfN 14 10 := rfl
theorem n_X9_hub_10 : nth t_X9_hub 10 = aK (.int 1) 11 := rfl
theorem n_X9_hub_11 : nth t_X9_hub 11 = aGoto 15 := rfl
theorem n_X9_hub_14 : nth t_X9_hub 14 = aK (.int 0) 15 := rfl
theorem n_X9_hub_15 : nth t_X9_hub 15 = aK (.int 1) 16 := rfl
theorem n_X9_hub_16 : nth t_X9_hub 16 = aCalV 255 2 19 [7] none := rfl
theorem n_X9_hub_19 : nth t_X9_hub 19 = aLdA 0 20 := rfl
theorem y_X9_hub_1 (n : Nat) : nth t_X9_hub (n + 20) = nth t_X9_hub_c1 n := rfl
theorem n_X9_hub_20 : nth t_X9_hub 20 = aLdI 1 21 := (y_X9_hub_1 0).trans rfl
theorem n_X9_hub_21 : nth t_X9_hub 21 = aK (.int (-1)) 22 := (y_X9_hub_1 1).trans rfl
theorem n_X9_hub_22 : nth t_X9_hub 22 = aIcEq 25 37 := (y_X9_hub_1 2).trans rfl
theorem n_X9_hub_25 : nth t_X9_hub 25 = aLdA 0 26 := (y_X9_hub_1 5).trans rfl
theorem n_X9_hub_26 : nth t_X9_hub 26 = aGetR 9 [7] 29 := (y_X9_hub_1 6).trans rfl
theorem n_X9_hub_29 : nth t_X9_hub 29 = aGetI 2 [1] 32 := (y_X9_hub_1 9).trans rfl
theorem n_X9_hub_32 : nth t_X9_hub 32 = aK (.int 60) 34 := (y_X9_hub_1 12).trans rfl
theorem n_X9_hub_34 : nth t_X9_hub 34 = aIcLt 37 41 := (y_X9_hub_1 14).trans rfl
theorem n_X9_hub_37 : nth t_X9_hub 37 = aK (.int 1) 38 := (y_X9_hub_1 17).trans rfl
theorem n_X9_hub_38 : nth t_X9_hub 38 = aGoto 42 := (y_X9_hub_1 18).trans rfl
theorem n_X9_hub_41 : nth t_X9_hub 41 = aK (.int 0) 42 := (y_X9_hub_1 21).trans rfl
theorem n_X9_hub_42 : nth t_X9_hub 42 = aK (.int 4) 43 := (y_X9_hub_1 22).trans rfl
theorem y_X9_hub_2 (n : Nat) : nth t_X9_hub (n + 43) = nth t_X9_hub_c2 n := (y_X9_hub_1 (n + 23)).trans rfl
theorem n_X9_hub_43 : nth t_X9_hub 43 = aCalV 255 2 46 [7] none := (y_X9_hub_2 0).trans rfl
theorem n_X9_hub_46 : nth t_X9_hub 46 = aLdA 0 47 := (y_X9_hub_2 3).trans rfl
theorem n_X9_hub_47 : nth t_X9_hub 47 = aGetI 5 [7] 50 := (y_X9_hub_2 4).trans rfl
theorem n_X9_hub_50 : nth t_X9_hub 50 = aStI 3 51 := (y_X9_hub_2 7).trans rfl
theorem n_X9_hub_51 : nth t_X9_hub 51 = aLdA 0 52 := (y_X9_hub_2 8).trans rfl
theorem n_X9_hub_52 : nth t_X9_hub 52 = aCalV 249 0 55 [7] none := (y_X9_hub_2 9).trans rfl
theorem n_X9_hub_55 : nth t_X9_hub 55 = aLdA 2 56 := (y_X9_hub_2 12).trans rfl
theorem n_X9_hub_56 : nth t_X9_hub 56 = aGetS 1 59 := (y_X9_hub_2 13).trans rfl
theorem n_X9_hub_59 : nth t_X9_hub 59 = aStI 4 61 := (y_X9_hub_2 16).trans rfl
theorem n_X9_hub_61 : nth t_X9_hub 61 = aLdA 2 62 := (y_X9_hub_2 18).trans rfl
theorem n_X9_hub_62 : nth t_X9_hub 62 = aGetS 2 65 := (y_X9_hub_2 19).trans rfl
theorem n_X9_hub_65 : nth t_X9_hub 65 = aIfLe 105 68 := (y_X9_hub_2 22).trans rfl
theorem y_X9_hub_3 (n : Nat) : nth t_X9_hub (n + 68) = nth t_X9_hub_c3 n := (y_X9_hub_2 (n + 25)).trans rfl
theorem n_X9_hub_68 : nth t_X9_hub 68 = aLdA 0 69 := (y_X9_hub_3 0).trans rfl
theorem n_X9_hub_69 : nth t_X9_hub 69 = aK (.int 1) 70 := (y_X9_hub_3 1).trans rfl
theorem n_X9_hub_70 : nth t_X9_hub 70 = aLdA 2 71 := (y_X9_hub_3 2).trans rfl
theorem n_X9_hub_71 : nth t_X9_hub 71 = aGetS 2 74 := (y_X9_hub_3 3).trans rfl
theorem n_X9_hub_74 : nth t_X9_hub 74 = aCalV 256 2 77 [7] none := (y_X9_hub_3 6).trans rfl
theorem n_X9_hub_77 : nth t_X9_hub 77 = aK (.int 1) 78 := (y_X9_hub_3 9).trans rfl
theorem n_X9_hub_78 : nth t_X9_hub 78 = aB (fun x y => x - y) 79 := (y_X9_hub_3 10).trans rfl
theorem n_X9_hub_79 : nth t_X9_hub 79 = aStI 5 81 := (y_X9_hub_3 11).trans rfl
theorem n_X9_hub_81 : nth t_X9_hub 81 = aLdI 4 83 := (y_X9_hub_3 13).trans rfl
theorem n_X9_hub_83 : nth t_X9_hub 83 = aLdA 2 84 := (y_X9_hub_3 15).trans rfl
theorem n_X9_hub_84 : nth t_X9_hub 84 = aGetS 3 87 := (y_X9_hub_3 16).trans rfl
theorem n_X9_hub_87 : nth t_X9_hub 87 = aIfLe 100 90 := (y_X9_hub_3 19).trans rfl
theorem y_X9_hub_4 (n : Nat) : nth t_X9_hub (n + 90) = nth t_X9_hub_c4 n := (y_X9_hub_3 (n + 22)).trans rfl
theorem n_X9_hub_90 : nth t_X9_hub 90 = aLdI 5 92 := (y_X9_hub_4 0).trans rfl
theorem n_X9_hub_92 : nth t_X9_hub 92 = aLdA 2 93 := (y_X9_hub_4 2).trans rfl
theorem n_X9_hub_93 : nth t_X9_hub 93 = aGetS 3 96 := (y_X9_hub_4 3).trans rfl
theorem n_X9_hub_96 : nth t_X9_hub 96 = aB (fun x y => x * y) 97 := (y_X9_hub_4 6).trans rfl
theorem n_X9_hub_97 : nth t_X9_hub 97 = aGoto 102 := (y_X9_hub_4 7).trans rfl
theorem n_X9_hub_100 : nth t_X9_hub 100 = aLdI 5 102 := (y_X9_hub_4 10).trans rfl
theorem n_X9_hub_102 : nth t_X9_hub 102 = aB (fun x y => x + y) 103 := (y_X9_hub_4 12).trans rfl
theorem n_X9_hub_103 : nth t_X9_hub 103 = aStI 4 105 := (y_X9_hub_4 13).trans rfl
theorem n_X9_hub_105 : nth t_X9_hub 105 = aLdA 2 106 := (y_X9_hub_4 15).trans rfl
theorem n_X9_hub_106 : nth t_X9_hub 106 = aGetS 3 109 := (y_X9_hub_4 16).trans rfl
theorem n_X9_hub_109 : nth t_X9_hub 109 = aIfLe 134 112 := (y_X9_hub_4 19).trans rfl
theorem n_X9_hub_112 : nth t_X9_hub 112 = aLdA 0 113 := (y_X9_hub_4 22).trans rfl
theorem y_X9_hub_5 (n : Nat) : nth t_X9_hub (n + 113) = nth t_X9_hub_c5 n := (y_X9_hub_4 (n + 23)).trans rfl
theorem n_X9_hub_113 : nth t_X9_hub 113 = aK (.int 46) 115 := (y_X9_hub_5 0).trans rfl
theorem n_X9_hub_115 : nth t_X9_hub 115 = aCalV 257 1 118 [7] none := (y_X9_hub_5 2).trans rfl
theorem n_X9_hub_118 : nth t_X9_hub 118 = aLdI 4 120 := (y_X9_hub_5 5).trans rfl
theorem n_X9_hub_120 : nth t_X9_hub 120 = aLdA 0 121 := (y_X9_hub_5 7).trans rfl
theorem n_X9_hub_121 : nth t_X9_hub 121 = aK (.int 1) 122 := (y_X9_hub_5 8).trans rfl
theorem n_X9_hub_122 : nth t_X9_hub 122 = aLdA 2 123 := (y_X9_hub_5 9).trans rfl
theorem n_X9_hub_123 : nth t_X9_hub 123 = aGetS 3 126 := (y_X9_hub_5 10).trans rfl
theorem n_X9_hub_126 : nth t_X9_hub 126 = aCalV 256 2 129 [7] none := (y_X9_hub_5 13).trans rfl
theorem n_X9_hub_129 : nth t_X9_hub 129 = aK (.int 1) 130 := (y_X9_hub_5 16).trans rfl
theorem n_X9_hub_130 : nth t_X9_hub 130 = aB (fun x y => x - y) 131 := (y_X9_hub_5 17).trans rfl
theorem n_X9_hub_131 : nth t_X9_hub 131 = aB (fun x y => x + y) 132 := (y_X9_hub_5 18).trans rfl
theorem n_X9_hub_132 : nth t_X9_hub 132 = aStI 4 134 := (y_X9_hub_5 19).trans rfl
theorem y_X9_hub_6 (n : Nat) : nth t_X9_hub (n + 134) = nth t_X9_hub_c6 n := (y_X9_hub_5 (n + 21)).trans rfl
theorem n_X9_hub_134 : nth t_X9_hub 134 = aLdI 4 136 := (y_X9_hub_6 0).trans rfl
theorem n_X9_hub_136 : nth t_X9_hub 136 = aLdI 1 137 := (y_X9_hub_6 2).trans rfl
theorem n_X9_hub_137 : nth t_X9_hub 137 = aIcEq 155 140 := (y_X9_hub_6 3).trans rfl
theorem n_X9_hub_140 : nth t_X9_hub 140 = aLdA 0 141 := (y_X9_hub_6 6).trans rfl
theorem n_X9_hub_141 : nth t_X9_hub 141 = aGetR 10 [7] 144 := (y_X9_hub_6 7).trans rfl
theorem n_X9_hub_144 : nth t_X9_hub 144 = aLdI 4 146 := (y_X9_hub_6 10).trans rfl
theorem n_X9_hub_146 : nth t_X9_hub 146 = aAldI 147 := (y_X9_hub_6 12).trans rfl
theorem n_X9_hub_147 : nth t_X9_hub 147 = aLdI 4 149 := (y_X9_hub_6 13).trans rfl
theorem n_X9_hub_149 : nth t_X9_hub 149 = aCalS 48 1 152 none := (y_X9_hub_6 15).trans rfl
theorem n_X9_hub_152 : nth t_X9_hub 152 = aIcEq 155 165 := (y_X9_hub_6 18).trans rfl
theorem n_X9_hub_155 : nth t_X9_hub 155 = aNew 8 8 158 := (y_X9_hub_6 21).trans rfl
theorem n_X9_hub_158 : nth t_X9_hub 158 = aDup 159 := (y_X9_hub_6 24).trans rfl
theorem y_X9_hub_7 (n : Nat) : nth t_X9_hub (n + 159) = nth t_X9_hub_c7 n := (y_X9_hub_6 (n + 25)).trans rfl
theorem n_X9_hub_159 : nth t_X9_hub 159 = aK (.int 3) 160 := (y_X9_hub_7 0).trans rfl
theorem n_X9_hub_160 : nth t_X9_hub 160 = aLdI 3 161 := (y_X9_hub_7 1).trans rfl
theorem n_X9_hub_161 : nth t_X9_hub 161 = aCalI 101 2 164 none := (y_X9_hub_7 2).trans rfl
theorem n_X9_hub_164 : nth t_X9_hub 164 = aThrow := (y_X9_hub_7 5).trans rfl
theorem n_X9_hub_165 : nth t_X9_hub 165 = aLdA 0 166 := (y_X9_hub_7 6).trans rfl
theorem n_X9_hub_166 : nth t_X9_hub 166 = aGetR 10 [7] 169 := (y_X9_hub_7 7).trans rfl
theorem n_X9_hub_169 : nth t_X9_hub 169 = aLdI 4 171 := (y_X9_hub_7 10).trans rfl
theorem n_X9_hub_171 : nth t_X9_hub 171 = aDup2 172 := (y_X9_hub_7 12).trans rfl
theorem n_X9_hub_172 : nth t_X9_hub 172 = aAldI 173 := (y_X9_hub_7 13).trans rfl
theorem n_X9_hub_173 : nth t_X9_hub 173 = aK (.int 1) 174 := (y_X9_hub_7 14).trans rfl
theorem n_X9_hub_174 : nth t_X9_hub 174 = aB (fun x y => x + y) 175 := (y_X9_hub_7 15).trans rfl
theorem n_X9_hub_175 : nth t_X9_hub 175 = aAstI 176 := (y_X9_hub_7 16).trans rfl
theorem y_X9_hub_8 (n : Nat) : nth t_X9_hub (n + 176) = nth t_X9_hub_c8 n := (y_X9_hub_7 (n + 17)).trans rfl
theorem n_X9_hub_176 : nth t_X9_hub 176 = aLdI 4 178 := (y_X9_hub_8 0).trans rfl
theorem n_X9_hub_178 : nth t_X9_hub 178 = aRetI := (y_X9_hub_8 2).trans rfl
theorem n_X9_sort_0 : nth t_X9_sort 0 = aK (.ref 9) 3 := rfl
theorem n_X9_sort_3 : nth t_X9_sort 3 = aStA 1 4 := rfl
theorem n_X9_sort_4 : nth t_X9_sort 4 = aLdA 1 5 := rfl
theorem n_X9_sort_5 : nth t_X9_sort 5 = aLen 6 := rfl
theorem n_X9_sort_6 : nth t_X9_sort 6 = aStI 2 7 := rfl
theorem n_X9_sort_7 : nth t_X9_sort 7 = aK (.int 0) 8 := rfl
theorem n_X9_sort_8 : nth t_X9_sort 8 = aStI 3 9 := rfl
theorem n_X9_sort_9 : nth t_X9_sort 9 = aLdI 3 10 := rfl
theorem n_X9_sort_10 : nth t_X9_sort 10 = aLdI 2 11 := rfl
theorem n_X9_sort_11 : nth t_X9_sort 11 = aIcLt 14 51 := rfl
theorem n_X9_sort_14 : nth t_X9_sort 14 = aLdA 1 15 := rfl
theorem n_X9_sort_15 : nth t_X9_sort 15 = aLdI 3 16 := rfl
theorem y_X9_sort_1 (n : Nat) : nth t_X9_sort (n + 16) = nth t_X9_sort_c1 n := rfl
theorem n_X9_sort_16 : nth t_X9_sort 16 = aAldA 17 := (y_X9_sort_1 0).trans rfl
theorem n_X9_sort_17 : nth t_X9_sort 17 = aStA 4 19 := (y_X9_sort_1 1).trans rfl
theorem n_X9_sort_19 : nth t_X9_sort 19 = aLdA 0 20 := (y_X9_sort_1 3).trans rfl
theorem n_X9_sort_20 : nth t_X9_sort 20 = aGetI 4 [7] 23 := (y_X9_sort_1 4).trans rfl
theorem n_X9_sort_23 : nth t_X9_sort 23 = aK (.int 2) 24 := (y_X9_sort_1 7).trans rfl
theorem n_X9_sort_24 : nth t_X9_sort 24 = aIcEq 27 45 := (y_X9_sort_1 8).trans rfl
theorem n_X9_sort_27 : nth t_X9_sort 27 = aLdA 4 29 := (y_X9_sort_1 11).trans rfl
theorem n_X9_sort_29 : nth t_X9_sort 29 = aGetW 32 := (y_X9_sort_1 13).trans rfl
theorem n_X9_sort_32 : nth t_X9_sort 32 = aLdA 0 33 := (y_X9_sort_1 16).trans rfl
theorem n_X9_sort_33 : nth t_X9_sort 33 = aGetR 8 [7] 36 := (y_X9_sort_1 17).trans rfl
theorem n_X9_sort_36 : nth t_X9_sort 36 = aCalV 26 1 39 [13] none := (y_X9_sort_1 20).trans rfl
theorem n_X9_sort_39 : nth t_X9_sort 39 = aIfEq 45 42 := (y_X9_sort_1 23).trans rfl
theorem y_X9_sort_2 (n : Nat) : nth t_X9_sort (n + 42) = nth t_X9_sort_c2 n := (y_X9_sort_1 (n + 26)).trans rfl
theorem n_X9_sort_42 : nth t_X9_sort 42 = aLdA 4 44 := (y_X9_sort_2 0).trans rfl
theorem n_X9_sort_44 : nth t_X9_sort 44 = aRetA := (y_X9_sort_2 2).trans rfl
theorem n_X9_sort_45 : nth t_X9_sort 45 = aInc 3 1 48 := (y_X9_sort_2 3).trans rfl
theorem n_X9_sort_48 : nth t_X9_sort 48 = aGoto 9 := (y_X9_sort_2 6).trans rfl
theorem n_X9_sort_51 : nth t_X9_sort 51 = aK .null 52 := (y_X9_sort_2 9).trans rfl
theorem n_X9_sort_52 : nth t_X9_sort 52 = aRetA := (y_X9_sort_2 10).trans rfl
theorem n_L_law_0 : nth t_L_law 0 = aNew 0 36 3 := rfl
theorem n_L_law_3 : nth t_L_law 3 = aDup 4 := rfl
theorem n_L_law_4 : nth t_L_law 4 = aCalI 36 0 7 none := rfl
theorem n_L_law_7 : nth t_L_law 7 = aStA 1 8 := rfl
theorem n_L_law_8 : nth t_L_law 8 = aNew 6 92 11 := rfl
theorem n_L_law_11 : nth t_L_law 11 = aDup 12 := rfl
theorem n_L_law_12 : nth t_L_law 12 = aCalI 146 0 15 none := rfl
theorem n_L_law_15 : nth t_L_law 15 = aStA 2 16 := rfl
theorem n_L_law_16 : nth t_L_law 16 = aK (.int 1) 17 := rfl
theorem n_L_law_17 : nth t_L_law 17 = aNewA 103 19 := rfl
theorem n_L_law_19 : nth t_L_law 19 = aStA 3 20 := rfl
theorem n_L_law_20 : nth t_L_law 20 = aK (.int 0) 21 := rfl
theorem y_L_law_1 (n : Nat) : nth t_L_law (n + 21) = nth t_L_law_c1 n := rfl
theorem n_L_law_21 : nth t_L_law 21 = aStI 4 23 := (y_L_law_1 0).trans rfl
theorem n_L_law_23 : nth t_L_law 23 = aLdI 4 25 := (y_L_law_1 2).trans rfl
theorem n_L_law_25 : nth t_L_law 25 = aLdA 0 26 := (y_L_law_1 4).trans rfl
theorem n_L_law_26 : nth t_L_law 26 = aLen 27 := (y_L_law_1 5).trans rfl
theorem n_L_law_27 : nth t_L_law 27 = aK (.int 6) 29 := (y_L_law_1 6).trans rfl
theorem n_L_law_29 : nth t_L_law 29 = aB (fun x y => x - y) 30 := (y_L_law_1 8).trans rfl
theorem n_L_law_30 : nth t_L_law 30 = aIcLe 33 1360 := (y_L_law_1 9).trans rfl
theorem n_L_law_33 : nth t_L_law 33 = aLdA 0 34 := (y_L_law_1 12).trans rfl
theorem n_L_law_34 : nth t_L_law 34 = aLdI 4 36 := (y_L_law_1 13).trans rfl
theorem n_L_law_36 : nth t_L_law 36 = aAldI 37 := (y_L_law_1 15).trans rfl
theorem n_L_law_37 : nth t_L_law 37 = aK (.int 63) 39 := (y_L_law_1 16).trans rfl
theorem n_L_law_39 : nth t_L_law 39 = aB (fun x y => x &&& y) 40 := (y_L_law_1 18).trans rfl
theorem y_L_law_2 (n : Nat) : nth t_L_law (n + 40) = nth t_L_law_c2 n := (y_L_law_1 (n + 19)).trans rfl
theorem n_L_law_40 : nth t_L_law 40 = aSw 0 [208, 281, 306, 331, 356, 436, 461, 474, 487, 524, 549, 617, 673, 710, 735, 760, 785, 810, 823, 836, 849, 862, 887, 912, 949, 1017, 1054, 1079, 1092, 1117, 1142, 1167, 1204, 1229, 1254, 1291, 1304, 1329] 1354 := (y_L_law_2 0).trans rfl
theorem n_L_law_208 : nth t_L_law 208 = aLdA 1 209 := (y_L_law_2 168).trans rfl
theorem n_L_law_209 : nth t_L_law 209 = aLdA 0 210 := (y_L_law_2 169).trans rfl
theorem n_L_law_210 : nth t_L_law 210 = aLdI 4 212 := (y_L_law_2 170).trans rfl
theorem n_L_law_212 : nth t_L_law 212 = aK (.int 1) 213 := (y_L_law_2 172).trans rfl
theorem n_L_law_213 : nth t_L_law 213 = aB (fun x y => x + y) 214 := (y_L_law_2 173).trans rfl
theorem n_L_law_214 : nth t_L_law 214 = aAldI 215 := (y_L_law_2 174).trans rfl
theorem n_L_law_215 : nth t_L_law 215 = aLdA 0 216 := (y_L_law_2 175).trans rfl
theorem n_L_law_216 : nth t_L_law 216 = aLdI 4 218 := (y_L_law_2 176).trans rfl
theorem n_L_law_218 : nth t_L_law 218 = aK (.int 2) 219 := (y_L_law_2 178).trans rfl
theorem n_L_law_219 : nth t_L_law 219 = aB (fun x y => x + y) 220 := (y_L_law_2 179).trans rfl
theorem n_L_law_220 : nth t_L_law 220 = aAldI 221 := (y_L_law_2 180).trans rfl
theorem y_L_law_3 (n : Nat) : nth t_L_law (n + 221) = nth t_L_law_c3 n := (y_L_law_2 (n + 181)).trans rfl
theorem n_L_law_221 : nth t_L_law 221 = aLdA 0 222 := (y_L_law_3 0).trans rfl
theorem n_L_law_222 : nth t_L_law 222 = aLdI 4 224 := (y_L_law_3 1).trans rfl
theorem n_L_law_224 : nth t_L_law 224 = aK (.int 3) 225 := (y_L_law_3 3).trans rfl
theorem n_L_law_225 : nth t_L_law 225 = aB (fun x y => x + y) 226 := (y_L_law_3 4).trans rfl
theorem n_L_law_226 : nth t_L_law 226 = aAldI 227 := (y_L_law_3 5).trans rfl
theorem n_L_law_227 : nth t_L_law 227 = aLdA 0 228 := (y_L_law_3 6).trans rfl
theorem n_L_law_228 : nth t_L_law 228 = aLdI 4 230 := (y_L_law_3 7).trans rfl
theorem n_L_law_230 : nth t_L_law 230 = aK (.int 4) 231 := (y_L_law_3 9).trans rfl
theorem n_L_law_231 : nth t_L_law 231 = aB (fun x y => x + y) 232 := (y_L_law_3 10).trans rfl
theorem n_L_law_232 : nth t_L_law 232 = aAldI 233 := (y_L_law_3 11).trans rfl
theorem n_L_law_233 : nth t_L_law 233 = aLdA 0 234 := (y_L_law_3 12).trans rfl
theorem n_L_law_234 : nth t_L_law 234 = aLdI 4 236 := (y_L_law_3 13).trans rfl
theorem y_L_law_4 (n : Nat) : nth t_L_law (n + 236) = nth t_L_law_c4 n := (y_L_law_3 (n + 15)).trans rfl
theorem n_L_law_236 : nth t_L_law 236 = aK (.int 5) 237 := (y_L_law_4 0).trans rfl
theorem n_L_law_237 : nth t_L_law 237 = aB (fun x y => x + y) 238 := (y_L_law_4 1).trans rfl
theorem n_L_law_238 : nth t_L_law 238 = aAldI 239 := (y_L_law_4 2).trans rfl
theorem n_L_law_239 : nth t_L_law 239 = aCalV 37 5 242 [0] none := (y_L_law_4 3).trans rfl
theorem n_L_law_242 : nth t_L_law 242 = aLdA 2 243 := (y_L_law_4 6).trans rfl
theorem n_L_law_243 : nth t_L_law 243 = aLdA 0 244 := (y_L_law_4 7).trans rfl
theorem n_L_law_244 : nth t_L_law 244 = aLdI 4 246 := (y_L_law_4 8).trans rfl
theorem n_L_law_246 : nth t_L_law 246 = aK (.int 1) 247 := (y_L_law_4 10).trans rfl
theorem n_L_law_247 : nth t_L_law 247 = aB (fun x y => x + y) 248 := (y_L_law_4 11).trans rfl
theorem n_L_law_248 : nth t_L_law 248 = aAldI 249 := (y_L_law_4 12).trans rfl
theorem n_L_law_249 : nth t_L_law 249 = aLdA 0 250 := (y_L_law_4 13).trans rfl
theorem n_L_law_250 : nth t_L_law 250 = aLdI 4 252 := (y_L_law_4 14).trans rfl
theorem y_L_law_5 (n : Nat) : nth t_L_law (n + 252) = nth t_L_law_c5 n := (y_L_law_4 (n + 16)).trans rfl
theorem n_L_law_252 : nth t_L_law 252 = aK (.int 2) 253 := (y_L_law_5 0).trans rfl
theorem n_L_law_253 : nth t_L_law 253 = aB (fun x y => x + y) 254 := (y_L_law_5 1).trans rfl
theorem n_L_law_254 : nth t_L_law 254 = aAldI 255 := (y_L_law_5 2).trans rfl
theorem n_L_law_255 : nth t_L_law 255 = aLdA 0 256 := (y_L_law_5 3).trans rfl
theorem n_L_law_256 : nth t_L_law 256 = aLdI 4 258 := (y_L_law_5 4).trans rfl
theorem n_L_law_258 : nth t_L_law 258 = aK (.int 3) 259 := (y_L_law_5 6).trans rfl
theorem n_L_law_259 : nth t_L_law 259 = aB (fun x y => x + y) 260 := (y_L_law_5 7).trans rfl
theorem n_L_law_260 : nth t_L_law 260 = aAldI 261 := (y_L_law_5 8).trans rfl
theorem n_L_law_261 : nth t_L_law 261 = aLdA 0 262 := (y_L_law_5 9).trans rfl
theorem n_L_law_262 : nth t_L_law 262 = aLdI 4 264 := (y_L_law_5 10).trans rfl
theorem n_L_law_264 : nth t_L_law 264 = aK (.int 4) 265 := (y_L_law_5 12).trans rfl
theorem n_L_law_265 : nth t_L_law 265 = aB (fun x y => x + y) 266 := (y_L_law_5 13).trans rfl
theorem y_L_law_6 (n : Nat) : nth t_L_law (n + 266) = nth t_L_law_c6 n := (y_L_law_5 (n + 14)).trans rfl
theorem n_L_law_266 : nth t_L_law 266 = aAldI 267 := (y_L_law_6 0).trans rfl
theorem n_L_law_267 : nth t_L_law 267 = aLdA 0 268 := (y_L_law_6 1).trans rfl
theorem n_L_law_268 : nth t_L_law 268 = aLdI 4 270 := (y_L_law_6 2).trans rfl
theorem n_L_law_270 : nth t_L_law 270 = aK (.int 5) 271 := (y_L_law_6 4).trans rfl
theorem n_L_law_271 : nth t_L_law 271 = aB (fun x y => x + y) 272 := (y_L_law_6 5).trans rfl
theorem n_L_law_272 : nth t_L_law 272 = aAldI 273 := (y_L_law_6 6).trans rfl
theorem n_L_law_273 : nth t_L_law 273 = aCalV 148 5 276 [6] none := (y_L_law_6 7).trans rfl
theorem n_L_law_276 : nth t_L_law 276 = aIcEq 1354 279 := (y_L_law_6 10).trans rfl
theorem n_L_law_279 : nth t_L_law 279 = aK (.int 0) 280 := (y_L_law_6 13).trans rfl
theorem n_L_law_280 : nth t_L_law 280 = aRetZ := (y_L_law_6 14).trans rfl
theorem n_L_law_281 : nth t_L_law 281 = aLdA 1 282 := (y_L_law_6 15).trans rfl
theorem n_L_law_282 : nth t_L_law 282 = aLdA 0 283 := (y_L_law_6 16).trans rfl
theorem y_L_law_7 (n : Nat) : nth t_L_law (n + 283) = nth t_L_law_c7 n := (y_L_law_6 (n + 17)).trans rfl
theorem n_L_law_283 : nth t_L_law 283 = aLdI 4 285 := (y_L_law_7 0).trans rfl
theorem n_L_law_285 : nth t_L_law 285 = aK (.int 1) 286 := (y_L_law_7 2).trans rfl
theorem n_L_law_286 : nth t_L_law 286 = aB (fun x y => x + y) 287 := (y_L_law_7 3).trans rfl
theorem n_L_law_287 : nth t_L_law 287 = aAldI 288 := (y_L_law_7 4).trans rfl
theorem n_L_law_288 : nth t_L_law 288 = aCalV 39 1 291 [0] none := (y_L_law_7 5).trans rfl
theorem n_L_law_291 : nth t_L_law 291 = aLdA 2 292 := (y_L_law_7 8).trans rfl
theorem n_L_law_292 : nth t_L_law 292 = aLdA 0 293 := (y_L_law_7 9).trans rfl
theorem n_L_law_293 : nth t_L_law 293 = aLdI 4 295 := (y_L_law_7 10).trans rfl
theorem n_L_law_295 : nth t_L_law 295 = aK (.int 1) 296 := (y_L_law_7 12).trans rfl
theorem n_L_law_296 : nth t_L_law 296 = aB (fun x y => x + y) 297 := (y_L_law_7 13).trans rfl
theorem n_L_law_297 : nth t_L_law 297 = aAldI 298 := (y_L_law_7 14).trans rfl
theorem n_L_law_298 : nth t_L_law 298 = aCalV 150 1 301 [6] none := (y_L_law_7 15).trans rfl
theorem y_L_law_8 (n : Nat) : nth t_L_law (n + 301) = nth t_L_law_c8 n := (y_L_law_7 (n + 18)).trans rfl
theorem n_L_law_301 : nth t_L_law 301 = aIcEq 1354 304 := (y_L_law_8 0).trans rfl
theorem n_L_law_304 : nth t_L_law 304 = aK (.int 0) 305 := (y_L_law_8 3).trans rfl
theorem n_L_law_305 : nth t_L_law 305 = aRetZ := (y_L_law_8 4).trans rfl
theorem n_L_law_306 : nth t_L_law 306 = aLdA 1 307 := (y_L_law_8 5).trans rfl
theorem n_L_law_307 : nth t_L_law 307 = aLdA 0 308 := (y_L_law_8 6).trans rfl
theorem n_L_law_308 : nth t_L_law 308 = aLdI 4 310 := (y_L_law_8 7).trans rfl
theorem n_L_law_310 : nth t_L_law 310 = aK (.int 1) 311 := (y_L_law_8 9).trans rfl
theorem n_L_law_311 : nth t_L_law 311 = aB (fun x y => x + y) 312 := (y_L_law_8 10).trans rfl
theorem n_L_law_312 : nth t_L_law 312 = aAldI 313 := (y_L_law_8 11).trans rfl
theorem n_L_law_313 : nth t_L_law 313 = aCalV 40 1 316 [0] none := (y_L_law_8 12).trans rfl
theorem n_L_law_316 : nth t_L_law 316 = aLdA 2 317 := (y_L_law_8 15).trans rfl
theorem n_L_law_317 : nth t_L_law 317 = aLdA 0 318 := (y_L_law_8 16).trans rfl
theorem y_L_law_9 (n : Nat) : nth t_L_law (n + 318) = nth t_L_law_c9 n := (y_L_law_8 (n + 17)).trans rfl
theorem n_L_law_318 : nth t_L_law 318 = aLdI 4 320 := (y_L_law_9 0).trans rfl
theorem n_L_law_320 : nth t_L_law 320 = aK (.int 1) 321 := (y_L_law_9 2).trans rfl
theorem n_L_law_321 : nth t_L_law 321 = aB (fun x y => x + y) 322 := (y_L_law_9 3).trans rfl
theorem n_L_law_322 : nth t_L_law 322 = aAldI 323 := (y_L_law_9 4).trans rfl
theorem n_L_law_323 : nth t_L_law 323 = aCalV 151 1 326 [6] none := (y_L_law_9 5).trans rfl
theorem n_L_law_326 : nth t_L_law 326 = aIcEq 1354 329 := (y_L_law_9 8).trans rfl
theorem n_L_law_329 : nth t_L_law 329 = aK (.int 0) 330 := (y_L_law_9 11).trans rfl
theorem n_L_law_330 : nth t_L_law 330 = aRetZ := (y_L_law_9 12).trans rfl
theorem n_L_law_331 : nth t_L_law 331 = aLdA 1 332 := (y_L_law_9 13).trans rfl
theorem n_L_law_332 : nth t_L_law 332 = aLdA 0 333 := (y_L_law_9 14).trans rfl
theorem n_L_law_333 : nth t_L_law 333 = aLdI 4 335 := (y_L_law_9 15).trans rfl
theorem n_L_law_335 : nth t_L_law 335 = aK (.int 1) 336 := (y_L_law_9 17).trans rfl
theorem y_L_law_10 (n : Nat) : nth t_L_law (n + 336) = nth t_L_law_c10 n := (y_L_law_9 (n + 18)).trans rfl
theorem n_L_law_336 : nth t_L_law 336 = aB (fun x y => x + y) 337 := (y_L_law_10 0).trans rfl
theorem n_L_law_337 : nth t_L_law 337 = aAldI 338 := (y_L_law_10 1).trans rfl
theorem n_L_law_338 : nth t_L_law 338 = aCalV 45 1 341 [0] none := (y_L_law_10 2).trans rfl
theorem n_L_law_341 : nth t_L_law 341 = aLdA 2 342 := (y_L_law_10 5).trans rfl
theorem n_L_law_342 : nth t_L_law 342 = aLdA 0 343 := (y_L_law_10 6).trans rfl
theorem n_L_law_343 : nth t_L_law 343 = aLdI 4 345 := (y_L_law_10 7).trans rfl
theorem n_L_law_345 : nth t_L_law 345 = aK (.int 1) 346 := (y_L_law_10 9).trans rfl
theorem n_L_law_346 : nth t_L_law 346 = aB (fun x y => x + y) 347 := (y_L_law_10 10).trans rfl
theorem n_L_law_347 : nth t_L_law 347 = aAldI 348 := (y_L_law_10 11).trans rfl
theorem n_L_law_348 : nth t_L_law 348 = aCalV 156 1 351 [6] none := (y_L_law_10 12).trans rfl
theorem n_L_law_351 : nth t_L_law 351 = aIcEq 1354 354 := (y_L_law_10 15).trans rfl
theorem n_L_law_354 : nth t_L_law 354 = aK (.int 0) 355 := (y_L_law_10 18).trans rfl
theorem y_L_law_11 (n : Nat) : nth t_L_law (n + 355) = nth t_L_law_c11 n := (y_L_law_10 (n + 19)).trans rfl
theorem n_L_law_355 : nth t_L_law 355 = aRetZ := (y_L_law_11 0).trans rfl
theorem n_L_law_356 : nth t_L_law 356 = aLdA 1 357 := (y_L_law_11 1).trans rfl
theorem n_L_law_357 : nth t_L_law 357 = aLdA 0 358 := (y_L_law_11 2).trans rfl
theorem n_L_law_358 : nth t_L_law 358 = aLdI 4 360 := (y_L_law_11 3).trans rfl
theorem n_L_law_360 : nth t_L_law 360 = aK (.int 1) 361 := (y_L_law_11 5).trans rfl
theorem n_L_law_361 : nth t_L_law 361 = aB (fun x y => x + y) 362 := (y_L_law_11 6).trans rfl
theorem n_L_law_362 : nth t_L_law 362 = aAldI 363 := (y_L_law_11 7).trans rfl
theorem n_L_law_363 : nth t_L_law 363 = aLdA 0 364 := (y_L_law_11 8).trans rfl
theorem n_L_law_364 : nth t_L_law 364 = aLdI 4 366 := (y_L_law_11 9).trans rfl
theorem n_L_law_366 : nth t_L_law 366 = aK (.int 2) 367 := (y_L_law_11 11).trans rfl
theorem n_L_law_367 : nth t_L_law 367 = aB (fun x y => x + y) 368 := (y_L_law_11 12).trans rfl
theorem n_L_law_368 : nth t_L_law 368 = aAldI 369 := (y_L_law_11 13).trans rfl
theorem y_L_law_12 (n : Nat) : nth t_L_law (n + 369) = nth t_L_law_c12 n := (y_L_law_11 (n + 14)).trans rfl
theorem n_L_law_369 : nth t_L_law 369 = aLdA 0 370 := (y_L_law_12 0).trans rfl
theorem n_L_law_370 : nth t_L_law 370 = aLdI 4 372 := (y_L_law_12 1).trans rfl
theorem n_L_law_372 : nth t_L_law 372 = aK (.int 3) 373 := (y_L_law_12 3).trans rfl
theorem n_L_law_373 : nth t_L_law 373 = aB (fun x y => x + y) 374 := (y_L_law_12 4).trans rfl
theorem n_L_law_374 : nth t_L_law 374 = aAldI 375 := (y_L_law_12 5).trans rfl
theorem n_L_law_375 : nth t_L_law 375 = aLdA 3 376 := (y_L_law_12 6).trans rfl
theorem n_L_law_376 : nth t_L_law 376 = aCalS 32 5 379 none := (y_L_law_12 7).trans rfl
theorem n_L_law_379 : nth t_L_law 379 = aStI 5 381 := (y_L_law_12 10).trans rfl
theorem n_L_law_381 : nth t_L_law 381 = aLdA 2 382 := (y_L_law_12 12).trans rfl
theorem n_L_law_382 : nth t_L_law 382 = aLdA 0 383 := (y_L_law_12 13).trans rfl
theorem n_L_law_383 : nth t_L_law 383 = aLdI 4 385 := (y_L_law_12 14).trans rfl
theorem n_L_law_385 : nth t_L_law 385 = aK (.int 1) 386 := (y_L_law_12 16).trans rfl
theorem y_L_law_13 (n : Nat) : nth t_L_law (n + 386) = nth t_L_law_c13 n := (y_L_law_12 (n + 17)).trans rfl
theorem n_L_law_386 : nth t_L_law 386 = aB (fun x y => x + y) 387 := (y_L_law_13 0).trans rfl
theorem n_L_law_387 : nth t_L_law 387 = aAldI 388 := (y_L_law_13 1).trans rfl
theorem n_L_law_388 : nth t_L_law 388 = aLdA 0 389 := (y_L_law_13 2).trans rfl
theorem n_L_law_389 : nth t_L_law 389 = aLdI 4 391 := (y_L_law_13 3).trans rfl
theorem n_L_law_391 : nth t_L_law 391 = aK (.int 2) 392 := (y_L_law_13 5).trans rfl
theorem n_L_law_392 : nth t_L_law 392 = aB (fun x y => x + y) 393 := (y_L_law_13 6).trans rfl
theorem n_L_law_393 : nth t_L_law 393 = aAldI 394 := (y_L_law_13 7).trans rfl
theorem n_L_law_394 : nth t_L_law 394 = aLdA 0 395 := (y_L_law_13 8).trans rfl
theorem n_L_law_395 : nth t_L_law 395 = aLdI 4 397 := (y_L_law_13 9).trans rfl
theorem n_L_law_397 : nth t_L_law 397 = aK (.int 3) 398 := (y_L_law_13 11).trans rfl
theorem n_L_law_398 : nth t_L_law 398 = aB (fun x y => x + y) 399 := (y_L_law_13 12).trans rfl
theorem n_L_law_399 : nth t_L_law 399 = aAldI 400 := (y_L_law_13 13).trans rfl
theorem y_L_law_14 (n : Nat) : nth t_L_law (n + 400) = nth t_L_law_c14 n := (y_L_law_13 (n + 14)).trans rfl
theorem n_L_law_400 : nth t_L_law 400 = aCalV 157 3 403 [6] none := (y_L_law_14 0).trans rfl
theorem n_L_law_403 : nth t_L_law 403 = aStI 6 405 := (y_L_law_14 3).trans rfl
theorem n_L_law_405 : nth t_L_law 405 = aLdA 2 406 := (y_L_law_14 5).trans rfl
theorem n_L_law_406 : nth t_L_law 406 = aCalV 147 0 409 [6] none := (y_L_law_14 6).trans rfl
theorem n_L_law_409 : nth t_L_law 409 = aLdI 5 411 := (y_L_law_14 9).trans rfl
theorem n_L_law_411 : nth t_L_law 411 = aIcEq 416 414 := (y_L_law_14 11).trans rfl
theorem n_L_law_414 : nth t_L_law 414 = aK (.int 0) 415 := (y_L_law_14 14).trans rfl
theorem n_L_law_415 : nth t_L_law 415 = aRetZ := (y_L_law_14 15).trans rfl
theorem n_L_law_416 : nth t_L_law 416 = aLdI 5 418 := (y_L_law_14 16).trans rfl
theorem n_L_law_418 : nth t_L_law 418 = aIfEq 421 433 := (y_L_law_14 18).trans rfl
theorem n_L_law_421 : nth t_L_law 421 = aLdA 3 422 := (y_L_law_14 21).trans rfl
theorem n_L_law_422 : nth t_L_law 422 = aK (.int 0) 423 := (y_L_law_14 22).trans rfl
theorem y_L_law_15 (n : Nat) : nth t_L_law (n + 423) = nth t_L_law_c15 n := (y_L_law_14 (n + 23)).trans rfl
theorem n_L_law_423 : nth t_L_law 423 = aAldL 424 := (y_L_law_15 0).trans rfl
theorem n_L_law_424 : nth t_L_law 424 = aLdI 6 426 := (y_L_law_15 1).trans rfl
theorem n_L_law_426 : nth t_L_law 426 = aI2L 427 := (y_L_law_15 3).trans rfl
theorem n_L_law_427 : nth t_L_law 427 = aLcmp 428 := (y_L_law_15 4).trans rfl
theorem n_L_law_428 : nth t_L_law 428 = aIfEq 433 431 := (y_L_law_15 5).trans rfl
theorem n_L_law_431 : nth t_L_law 431 = aK (.int 0) 432 := (y_L_law_15 8).trans rfl
theorem n_L_law_432 : nth t_L_law 432 = aRetZ := (y_L_law_15 9).trans rfl
theorem n_L_law_433 : nth t_L_law 433 = aGoto 1354 := (y_L_law_15 10).trans rfl
theorem n_L_law_436 : nth t_L_law 436 = aLdA 1 437 := (y_L_law_15 13).trans rfl
theorem n_L_law_437 : nth t_L_law 437 = aLdA 0 438 := (y_L_law_15 14).trans rfl
theorem n_L_law_438 : nth t_L_law 438 = aLdI 4 440 := (y_L_law_15 15).trans rfl
theorem n_L_law_440 : nth t_L_law 440 = aK (.int 1) 441 := (y_L_law_15 17).trans rfl
theorem y_L_law_16 (n : Nat) : nth t_L_law (n + 441) = nth t_L_law_c16 n := (y_L_law_15 (n + 18)).trans rfl
theorem n_L_law_441 : nth t_L_law 441 = aB (fun x y => x + y) 442 := (y_L_law_16 0).trans rfl
theorem n_L_law_442 : nth t_L_law 442 = aAldI 443 := (y_L_law_16 1).trans rfl
theorem n_L_law_443 : nth t_L_law 443 = aCalV 46 1 446 [0] none := (y_L_law_16 2).trans rfl
theorem n_L_law_446 : nth t_L_law 446 = aLdA 2 447 := (y_L_law_16 5).trans rfl
theorem n_L_law_447 : nth t_L_law 447 = aLdA 0 448 := (y_L_law_16 6).trans rfl
theorem n_L_law_448 : nth t_L_law 448 = aLdI 4 450 := (y_L_law_16 7).trans rfl
theorem n_L_law_450 : nth t_L_law 450 = aK (.int 1) 451 := (y_L_law_16 9).trans rfl
theorem n_L_law_451 : nth t_L_law 451 = aB (fun x y => x + y) 452 := (y_L_law_16 10).trans rfl
theorem n_L_law_452 : nth t_L_law 452 = aAldI 453 := (y_L_law_16 11).trans rfl
theorem n_L_law_453 : nth t_L_law 453 = aCalV 159 1 456 [6] none := (y_L_law_16 12).trans rfl
theorem n_L_law_456 : nth t_L_law 456 = aIcEq 1354 459 := (y_L_law_16 15).trans rfl
theorem n_L_law_459 : nth t_L_law 459 = aK (.int 0) 460 := (y_L_law_16 18).trans rfl
theorem y_L_law_17 (n : Nat) : nth t_L_law (n + 460) = nth t_L_law_c17 n := (y_L_law_16 (n + 19)).trans rfl
theorem n_L_law_460 : nth t_L_law 460 = aRetZ := (y_L_law_17 0).trans rfl
theorem n_L_law_461 : nth t_L_law 461 = aLdA 1 462 := (y_L_law_17 1).trans rfl
theorem n_L_law_462 : nth t_L_law 462 = aCalV 47 0 465 [0] none := (y_L_law_17 2).trans rfl
theorem n_L_law_465 : nth t_L_law 465 = aLdA 2 466 := (y_L_law_17 5).trans rfl
theorem n_L_law_466 : nth t_L_law 466 = aCalV 161 0 469 [6] none := (y_L_law_17 6).trans rfl
theorem n_L_law_469 : nth t_L_law 469 = aIcEq 1354 472 := (y_L_law_17 9).trans rfl
theorem n_L_law_472 : nth t_L_law 472 = aK (.int 0) 473 := (y_L_law_17 12).trans rfl
theorem n_L_law_473 : nth t_L_law 473 = aRetZ := (y_L_law_17 13).trans rfl
theorem n_L_law_474 : nth t_L_law 474 = aLdA 1 475 := (y_L_law_17 14).trans rfl
theorem n_L_law_475 : nth t_L_law 475 = aCalV 49 0 478 [0] none := (y_L_law_17 15).trans rfl
theorem n_L_law_478 : nth t_L_law 478 = aLdA 2 479 := (y_L_law_17 18).trans rfl
theorem n_L_law_479 : nth t_L_law 479 = aCalV 160 0 482 [6] none := (y_L_law_17 19).trans rfl
theorem y_L_law_18 (n : Nat) : nth t_L_law (n + 482) = nth t_L_law_c18 n := (y_L_law_17 (n + 22)).trans rfl
theorem n_L_law_482 : nth t_L_law 482 = aIcEq 1354 485 := (y_L_law_18 0).trans rfl
theorem n_L_law_485 : nth t_L_law 485 = aK (.int 0) 486 := (y_L_law_18 3).trans rfl
theorem n_L_law_486 : nth t_L_law 486 = aRetZ := (y_L_law_18 4).trans rfl
theorem n_L_law_487 : nth t_L_law 487 = aLdA 1 488 := (y_L_law_18 5).trans rfl
theorem n_L_law_488 : nth t_L_law 488 = aLdA 0 489 := (y_L_law_18 6).trans rfl
theorem n_L_law_489 : nth t_L_law 489 = aLdI 4 491 := (y_L_law_18 7).trans rfl
theorem n_L_law_491 : nth t_L_law 491 = aK (.int 1) 492 := (y_L_law_18 9).trans rfl
theorem n_L_law_492 : nth t_L_law 492 = aB (fun x y => x + y) 493 := (y_L_law_18 10).trans rfl
theorem n_L_law_493 : nth t_L_law 493 = aAldI 494 := (y_L_law_18 11).trans rfl
theorem n_L_law_494 : nth t_L_law 494 = aLdA 0 495 := (y_L_law_18 12).trans rfl
theorem n_L_law_495 : nth t_L_law 495 = aLdI 4 497 := (y_L_law_18 13).trans rfl
theorem n_L_law_497 : nth t_L_law 497 = aK (.int 2) 498 := (y_L_law_18 15).trans rfl
theorem y_L_law_19 (n : Nat) : nth t_L_law (n + 498) = nth t_L_law_c19 n := (y_L_law_18 (n + 16)).trans rfl
theorem n_L_law_498 : nth t_L_law 498 = aB (fun x y => x + y) 499 := (y_L_law_19 0).trans rfl
theorem n_L_law_499 : nth t_L_law 499 = aAldI 500 := (y_L_law_19 1).trans rfl
theorem n_L_law_500 : nth t_L_law 500 = aCalV 50 2 503 [0] none := (y_L_law_19 2).trans rfl
theorem n_L_law_503 : nth t_L_law 503 = aLdA 2 504 := (y_L_law_19 5).trans rfl
theorem n_L_law_504 : nth t_L_law 504 = aLdA 0 505 := (y_L_law_19 6).trans rfl
theorem n_L_law_505 : nth t_L_law 505 = aLdI 4 507 := (y_L_law_19 7).trans rfl
theorem n_L_law_507 : nth t_L_law 507 = aK (.int 1) 508 := (y_L_law_19 9).trans rfl
theorem n_L_law_508 : nth t_L_law 508 = aB (fun x y => x + y) 509 := (y_L_law_19 10).trans rfl
theorem n_L_law_509 : nth t_L_law 509 = aAldI 510 := (y_L_law_19 11).trans rfl
theorem n_L_law_510 : nth t_L_law 510 = aLdA 0 511 := (y_L_law_19 12).trans rfl
theorem n_L_law_511 : nth t_L_law 511 = aLdI 4 513 := (y_L_law_19 13).trans rfl
theorem n_L_law_513 : nth t_L_law 513 = aK (.int 2) 514 := (y_L_law_19 15).trans rfl
theorem y_L_law_20 (n : Nat) : nth t_L_law (n + 514) = nth t_L_law_c20 n := (y_L_law_19 (n + 16)).trans rfl
theorem n_L_law_514 : nth t_L_law 514 = aB (fun x y => x + y) 515 := (y_L_law_20 0).trans rfl
theorem n_L_law_515 : nth t_L_law 515 = aAldI 516 := (y_L_law_20 1).trans rfl
theorem n_L_law_516 : nth t_L_law 516 = aCalV 175 2 519 [6] none := (y_L_law_20 2).trans rfl
theorem n_L_law_519 : nth t_L_law 519 = aIcEq 1354 522 := (y_L_law_20 5).trans rfl
theorem n_L_law_522 : nth t_L_law 522 = aK (.int 0) 523 := (y_L_law_20 8).trans rfl
theorem n_L_law_523 : nth t_L_law 523 = aRetZ := (y_L_law_20 9).trans rfl
theorem n_L_law_524 : nth t_L_law 524 = aLdA 1 525 := (y_L_law_20 10).trans rfl
theorem n_L_law_525 : nth t_L_law 525 = aLdA 0 526 := (y_L_law_20 11).trans rfl
theorem n_L_law_526 : nth t_L_law 526 = aLdI 4 528 := (y_L_law_20 12).trans rfl
theorem n_L_law_528 : nth t_L_law 528 = aK (.int 1) 529 := (y_L_law_20 14).trans rfl
theorem n_L_law_529 : nth t_L_law 529 = aB (fun x y => x + y) 530 := (y_L_law_20 15).trans rfl
theorem n_L_law_530 : nth t_L_law 530 = aAldI 531 := (y_L_law_20 16).trans rfl
theorem y_L_law_21 (n : Nat) : nth t_L_law (n + 531) = nth t_L_law_c21 n := (y_L_law_20 (n + 17)).trans rfl
theorem n_L_law_531 : nth t_L_law 531 = aCalV 51 1 534 [0] none := (y_L_law_21 0).trans rfl
theorem n_L_law_534 : nth t_L_law 534 = aLdA 2 535 := (y_L_law_21 3).trans rfl
theorem n_L_law_535 : nth t_L_law 535 = aLdA 0 536 := (y_L_law_21 4).trans rfl
theorem n_L_law_536 : nth t_L_law 536 = aLdI 4 538 := (y_L_law_21 5).trans rfl
theorem n_L_law_538 : nth t_L_law 538 = aK (.int 1) 539 := (y_L_law_21 7).trans rfl
theorem n_L_law_539 : nth t_L_law 539 = aB (fun x y => x + y) 540 := (y_L_law_21 8).trans rfl
theorem n_L_law_540 : nth t_L_law 540 = aAldI 541 := (y_L_law_21 9).trans rfl
theorem n_L_law_541 : nth t_L_law 541 = aCalV 190 1 544 [6] none := (y_L_law_21 10).trans rfl
theorem n_L_law_544 : nth t_L_law 544 = aIcEq 1354 547 := (y_L_law_21 13).trans rfl
theorem n_L_law_547 : nth t_L_law 547 = aK (.int 0) 548 := (y_L_law_21 16).trans rfl
theorem n_L_law_548 : nth t_L_law 548 = aRetZ := (y_L_law_21 17).trans rfl
theorem n_L_law_549 : nth t_L_law 549 = aLdA 1 550 := (y_L_law_21 18).trans rfl
theorem y_L_law_22 (n : Nat) : nth t_L_law (n + 550) = nth t_L_law_c22 n := (y_L_law_21 (n + 19)).trans rfl
theorem n_L_law_550 : nth t_L_law 550 = aLdA 0 551 := (y_L_law_22 0).trans rfl
theorem n_L_law_551 : nth t_L_law 551 = aLdI 4 553 := (y_L_law_22 1).trans rfl
theorem n_L_law_553 : nth t_L_law 553 = aK (.int 1) 554 := (y_L_law_22 3).trans rfl
theorem n_L_law_554 : nth t_L_law 554 = aB (fun x y => x + y) 555 := (y_L_law_22 4).trans rfl
theorem n_L_law_555 : nth t_L_law 555 = aAldI 556 := (y_L_law_22 5).trans rfl
theorem n_L_law_556 : nth t_L_law 556 = aLdA 0 557 := (y_L_law_22 6).trans rfl
theorem n_L_law_557 : nth t_L_law 557 = aLdI 4 559 := (y_L_law_22 7).trans rfl
theorem n_L_law_559 : nth t_L_law 559 = aK (.int 2) 560 := (y_L_law_22 9).trans rfl
theorem n_L_law_560 : nth t_L_law 560 = aB (fun x y => x + y) 561 := (y_L_law_22 10).trans rfl
theorem n_L_law_561 : nth t_L_law 561 = aAldI 562 := (y_L_law_22 11).trans rfl
theorem n_L_law_562 : nth t_L_law 562 = aLdA 3 563 := (y_L_law_22 12).trans rfl
theorem n_L_law_563 : nth t_L_law 563 = aCalS 33 4 566 none := (y_L_law_22 13).trans rfl
theorem y_L_law_23 (n : Nat) : nth t_L_law (n + 566) = nth t_L_law_c23 n := (y_L_law_22 (n + 16)).trans rfl
theorem n_L_law_566 : nth t_L_law 566 = aStI 5 568 := (y_L_law_23 0).trans rfl
theorem n_L_law_568 : nth t_L_law 568 = aLdA 2 569 := (y_L_law_23 2).trans rfl
theorem n_L_law_569 : nth t_L_law 569 = aLdA 0 570 := (y_L_law_23 3).trans rfl
theorem n_L_law_570 : nth t_L_law 570 = aLdI 4 572 := (y_L_law_23 4).trans rfl
theorem n_L_law_572 : nth t_L_law 572 = aK (.int 1) 573 := (y_L_law_23 6).trans rfl
theorem n_L_law_573 : nth t_L_law 573 = aB (fun x y => x + y) 574 := (y_L_law_23 7).trans rfl
theorem n_L_law_574 : nth t_L_law 574 = aAldI 575 := (y_L_law_23 8).trans rfl
theorem n_L_law_575 : nth t_L_law 575 = aLdA 0 576 := (y_L_law_23 9).trans rfl
theorem n_L_law_576 : nth t_L_law 576 = aLdI 4 578 := (y_L_law_23 10).trans rfl
theorem n_L_law_578 : nth t_L_law 578 = aK (.int 2) 579 := (y_L_law_23 12).trans rfl
theorem n_L_law_579 : nth t_L_law 579 = aB (fun x y => x + y) 580 := (y_L_law_23 13).trans rfl
theorem n_L_law_580 : nth t_L_law 580 = aAldI 581 := (y_L_law_23 14).trans rfl
theorem y_L_law_24 (n : Nat) : nth t_L_law (n + 581) = nth t_L_law_c24 n := (y_L_law_23 (n + 15)).trans rfl
theorem n_L_law_581 : nth t_L_law 581 = aCalV 191 2 584 [6] none := (y_L_law_24 0).trans rfl
theorem n_L_law_584 : nth t_L_law 584 = aStI 6 586 := (y_L_law_24 3).trans rfl
theorem n_L_law_586 : nth t_L_law 586 = aLdA 2 587 := (y_L_law_24 5).trans rfl
theorem n_L_law_587 : nth t_L_law 587 = aCalV 147 0 590 [6] none := (y_L_law_24 6).trans rfl
theorem n_L_law_590 : nth t_L_law 590 = aLdI 5 592 := (y_L_law_24 9).trans rfl
theorem n_L_law_592 : nth t_L_law 592 = aIcEq 597 595 := (y_L_law_24 11).trans rfl
theorem n_L_law_595 : nth t_L_law 595 = aK (.int 0) 596 := (y_L_law_24 14).trans rfl
theorem n_L_law_596 : nth t_L_law 596 = aRetZ := (y_L_law_24 15).trans rfl
theorem n_L_law_597 : nth t_L_law 597 = aLdI 5 599 := (y_L_law_24 16).trans rfl
theorem n_L_law_599 : nth t_L_law 599 = aIfEq 602 614 := (y_L_law_24 18).trans rfl
theorem n_L_law_602 : nth t_L_law 602 = aLdA 3 603 := (y_L_law_24 21).trans rfl
theorem n_L_law_603 : nth t_L_law 603 = aK (.int 0) 604 := (y_L_law_24 22).trans rfl
theorem y_L_law_25 (n : Nat) : nth t_L_law (n + 604) = nth t_L_law_c25 n := (y_L_law_24 (n + 23)).trans rfl
theorem n_L_law_604 : nth t_L_law 604 = aAldL 605 := (y_L_law_25 0).trans rfl
theorem n_L_law_605 : nth t_L_law 605 = aLdI 6 607 := (y_L_law_25 1).trans rfl
theorem n_L_law_607 : nth t_L_law 607 = aI2L 608 := (y_L_law_25 3).trans rfl
theorem n_L_law_608 : nth t_L_law 608 = aLcmp 609 := (y_L_law_25 4).trans rfl
theorem n_L_law_609 : nth t_L_law 609 = aIfEq 614 612 := (y_L_law_25 5).trans rfl
theorem n_L_law_612 : nth t_L_law 612 = aK (.int 0) 613 := (y_L_law_25 8).trans rfl
theorem n_L_law_613 : nth t_L_law 613 = aRetZ := (y_L_law_25 9).trans rfl
theorem n_L_law_614 : nth t_L_law 614 = aGoto 1354 := (y_L_law_25 10).trans rfl
theorem n_L_law_617 : nth t_L_law 617 = aLdA 1 618 := (y_L_law_25 13).trans rfl
theorem n_L_law_618 : nth t_L_law 618 = aLdA 0 619 := (y_L_law_25 14).trans rfl
theorem n_L_law_619 : nth t_L_law 619 = aLdI 4 621 := (y_L_law_25 15).trans rfl
theorem n_L_law_621 : nth t_L_law 621 = aK (.int 1) 622 := (y_L_law_25 17).trans rfl
theorem y_L_law_26 (n : Nat) : nth t_L_law (n + 622) = nth t_L_law_c26 n := (y_L_law_25 (n + 18)).trans rfl
theorem n_L_law_622 : nth t_L_law 622 = aB (fun x y => x + y) 623 := (y_L_law_26 0).trans rfl
theorem n_L_law_623 : nth t_L_law 623 = aAldI 624 := (y_L_law_26 1).trans rfl
theorem n_L_law_624 : nth t_L_law 624 = aLdA 3 625 := (y_L_law_26 2).trans rfl
theorem n_L_law_625 : nth t_L_law 625 = aCalS 34 3 628 none := (y_L_law_26 3).trans rfl
theorem n_L_law_628 : nth t_L_law 628 = aStI 5 630 := (y_L_law_26 6).trans rfl
theorem n_L_law_630 : nth t_L_law 630 = aLdA 2 631 := (y_L_law_26 8).trans rfl
theorem n_L_law_631 : nth t_L_law 631 = aLdA 0 632 := (y_L_law_26 9).trans rfl
theorem n_L_law_632 : nth t_L_law 632 = aLdI 4 634 := (y_L_law_26 10).trans rfl
theorem n_L_law_634 : nth t_L_law 634 = aK (.int 1) 635 := (y_L_law_26 12).trans rfl
theorem n_L_law_635 : nth t_L_law 635 = aB (fun x y => x + y) 636 := (y_L_law_26 13).trans rfl
theorem n_L_law_636 : nth t_L_law 636 = aAldI 637 := (y_L_law_26 14).trans rfl
theorem n_L_law_637 : nth t_L_law 637 = aCalV 192 1 640 [6] none := (y_L_law_26 15).trans rfl
theorem y_L_law_27 (n : Nat) : nth t_L_law (n + 640) = nth t_L_law_c27 n := (y_L_law_26 (n + 18)).trans rfl
theorem n_L_law_640 : nth t_L_law 640 = aStI 6 642 := (y_L_law_27 0).trans rfl
theorem n_L_law_642 : nth t_L_law 642 = aLdA 2 643 := (y_L_law_27 2).trans rfl
theorem n_L_law_643 : nth t_L_law 643 = aCalV 147 0 646 [6] none := (y_L_law_27 3).trans rfl
theorem n_L_law_646 : nth t_L_law 646 = aLdI 5 648 := (y_L_law_27 6).trans rfl
theorem n_L_law_648 : nth t_L_law 648 = aIcEq 653 651 := (y_L_law_27 8).trans rfl
theorem n_L_law_651 : nth t_L_law 651 = aK (.int 0) 652 := (y_L_law_27 11).trans rfl
theorem n_L_law_652 : nth t_L_law 652 = aRetZ := (y_L_law_27 12).trans rfl
theorem n_L_law_653 : nth t_L_law 653 = aLdI 5 655 := (y_L_law_27 13).trans rfl
theorem n_L_law_655 : nth t_L_law 655 = aIfEq 658 670 := (y_L_law_27 15).trans rfl
theorem n_L_law_658 : nth t_L_law 658 = aLdA 3 659 := (y_L_law_27 18).trans rfl
theorem n_L_law_659 : nth t_L_law 659 = aK (.int 0) 660 := (y_L_law_27 19).trans rfl
theorem n_L_law_660 : nth t_L_law 660 = aAldL 661 := (y_L_law_27 20).trans rfl
theorem y_L_law_28 (n : Nat) : nth t_L_law (n + 661) = nth t_L_law_c28 n := (y_L_law_27 (n + 21)).trans rfl
theorem n_L_law_661 : nth t_L_law 661 = aLdI 6 663 := (y_L_law_28 0).trans rfl
theorem n_L_law_663 : nth t_L_law 663 = aI2L 664 := (y_L_law_28 2).trans rfl
theorem n_L_law_664 : nth t_L_law 664 = aLcmp 665 := (y_L_law_28 3).trans rfl
theorem n_L_law_665 : nth t_L_law 665 = aIfEq 670 668 := (y_L_law_28 4).trans rfl
theorem n_L_law_668 : nth t_L_law 668 = aK (.int 0) 669 := (y_L_law_28 7).trans rfl
theorem n_L_law_669 : nth t_L_law 669 = aRetZ := (y_L_law_28 8).trans rfl
theorem n_L_law_670 : nth t_L_law 670 = aGoto 1354 := (y_L_law_28 9).trans rfl
theorem n_L_law_673 : nth t_L_law 673 = aLdA 1 674 := (y_L_law_28 12).trans rfl
theorem n_L_law_674 : nth t_L_law 674 = aLdA 0 675 := (y_L_law_28 13).trans rfl
theorem n_L_law_675 : nth t_L_law 675 = aLdI 4 677 := (y_L_law_28 14).trans rfl
theorem n_L_law_677 : nth t_L_law 677 = aK (.int 1) 678 := (y_L_law_28 16).trans rfl
theorem n_L_law_678 : nth t_L_law 678 = aB (fun x y => x + y) 679 := (y_L_law_28 17).trans rfl
theorem y_L_law_29 (n : Nat) : nth t_L_law (n + 679) = nth t_L_law_c29 n := (y_L_law_28 (n + 18)).trans rfl
theorem n_L_law_679 : nth t_L_law 679 = aAldI 680 := (y_L_law_29 0).trans rfl
theorem n_L_law_680 : nth t_L_law 680 = aLdA 0 681 := (y_L_law_29 1).trans rfl
theorem n_L_law_681 : nth t_L_law 681 = aLdI 4 683 := (y_L_law_29 2).trans rfl
theorem n_L_law_683 : nth t_L_law 683 = aK (.int 2) 684 := (y_L_law_29 4).trans rfl
theorem n_L_law_684 : nth t_L_law 684 = aB (fun x y => x + y) 685 := (y_L_law_29 5).trans rfl
theorem n_L_law_685 : nth t_L_law 685 = aAldI 686 := (y_L_law_29 6).trans rfl
theorem n_L_law_686 : nth t_L_law 686 = aCalV 52 2 689 [0] none := (y_L_law_29 7).trans rfl
theorem n_L_law_689 : nth t_L_law 689 = aLdA 2 690 := (y_L_law_29 10).trans rfl
theorem n_L_law_690 : nth t_L_law 690 = aLdA 0 691 := (y_L_law_29 11).trans rfl
theorem n_L_law_691 : nth t_L_law 691 = aLdI 4 693 := (y_L_law_29 12).trans rfl
theorem n_L_law_693 : nth t_L_law 693 = aK (.int 1) 694 := (y_L_law_29 14).trans rfl
theorem n_L_law_694 : nth t_L_law 694 = aB (fun x y => x + y) 695 := (y_L_law_29 15).trans rfl
theorem y_L_law_30 (n : Nat) : nth t_L_law (n + 695) = nth t_L_law_c30 n := (y_L_law_29 (n + 16)).trans rfl
theorem n_L_law_695 : nth t_L_law 695 = aAldI 696 := (y_L_law_30 0).trans rfl
theorem n_L_law_696 : nth t_L_law 696 = aLdA 0 697 := (y_L_law_30 1).trans rfl
theorem n_L_law_697 : nth t_L_law 697 = aLdI 4 699 := (y_L_law_30 2).trans rfl
theorem n_L_law_699 : nth t_L_law 699 = aK (.int 2) 700 := (y_L_law_30 4).trans rfl
theorem n_L_law_700 : nth t_L_law 700 = aB (fun x y => x + y) 701 := (y_L_law_30 5).trans rfl
theorem n_L_law_701 : nth t_L_law 701 = aAldI 702 := (y_L_law_30 6).trans rfl
theorem n_L_law_702 : nth t_L_law 702 = aCalV 193 2 705 [6] none := (y_L_law_30 7).trans rfl
theorem n_L_law_705 : nth t_L_law 705 = aIcEq 1354 708 := (y_L_law_30 10).trans rfl
theorem n_L_law_708 : nth t_L_law 708 = aK (.int 0) 709 := (y_L_law_30 13).trans rfl
theorem n_L_law_709 : nth t_L_law 709 = aRetZ := (y_L_law_30 14).trans rfl
theorem n_L_law_710 : nth t_L_law 710 = aLdA 1 711 := (y_L_law_30 15).trans rfl
theorem n_L_law_711 : nth t_L_law 711 = aLdA 0 712 := (y_L_law_30 16).trans rfl
theorem y_L_law_31 (n : Nat) : nth t_L_law (n + 712) = nth t_L_law_c31 n := (y_L_law_30 (n + 17)).trans rfl
theorem n_L_law_712 : nth t_L_law 712 = aLdI 4 714 := (y_L_law_31 0).trans rfl
theorem n_L_law_714 : nth t_L_law 714 = aK (.int 1) 715 := (y_L_law_31 2).trans rfl
theorem n_L_law_715 : nth t_L_law 715 = aB (fun x y => x + y) 716 := (y_L_law_31 3).trans rfl
theorem n_L_law_716 : nth t_L_law 716 = aAldI 717 := (y_L_law_31 4).trans rfl
theorem n_L_law_717 : nth t_L_law 717 = aCalV 55 1 720 [0] none := (y_L_law_31 5).trans rfl
theorem n_L_law_720 : nth t_L_law 720 = aLdA 2 721 := (y_L_law_31 8).trans rfl
theorem n_L_law_721 : nth t_L_law 721 = aLdA 0 722 := (y_L_law_31 9).trans rfl
theorem n_L_law_722 : nth t_L_law 722 = aLdI 4 724 := (y_L_law_31 10).trans rfl
theorem n_L_law_724 : nth t_L_law 724 = aK (.int 1) 725 := (y_L_law_31 12).trans rfl
theorem n_L_law_725 : nth t_L_law 725 = aB (fun x y => x + y) 726 := (y_L_law_31 13).trans rfl
theorem n_L_law_726 : nth t_L_law 726 = aAldI 727 := (y_L_law_31 14).trans rfl
theorem n_L_law_727 : nth t_L_law 727 = aCalV 199 1 730 [6] none := (y_L_law_31 15).trans rfl
theorem y_L_law_32 (n : Nat) : nth t_L_law (n + 730) = nth t_L_law_c32 n := (y_L_law_31 (n + 18)).trans rfl
theorem n_L_law_730 : nth t_L_law 730 = aIcEq 1354 733 := (y_L_law_32 0).trans rfl
theorem n_L_law_733 : nth t_L_law 733 = aK (.int 0) 734 := (y_L_law_32 3).trans rfl
theorem n_L_law_734 : nth t_L_law 734 = aRetZ := (y_L_law_32 4).trans rfl
theorem n_L_law_735 : nth t_L_law 735 = aLdA 1 736 := (y_L_law_32 5).trans rfl
theorem n_L_law_736 : nth t_L_law 736 = aLdA 0 737 := (y_L_law_32 6).trans rfl
theorem n_L_law_737 : nth t_L_law 737 = aLdI 4 739 := (y_L_law_32 7).trans rfl
theorem n_L_law_739 : nth t_L_law 739 = aK (.int 1) 740 := (y_L_law_32 9).trans rfl
theorem n_L_law_740 : nth t_L_law 740 = aB (fun x y => x + y) 741 := (y_L_law_32 10).trans rfl
theorem n_L_law_741 : nth t_L_law 741 = aAldI 742 := (y_L_law_32 11).trans rfl
theorem n_L_law_742 : nth t_L_law 742 = aCalV 58 1 745 [0] none := (y_L_law_32 12).trans rfl
theorem n_L_law_745 : nth t_L_law 745 = aLdA 2 746 := (y_L_law_32 15).trans rfl
theorem n_L_law_746 : nth t_L_law 746 = aLdA 0 747 := (y_L_law_32 16).trans rfl
theorem y_L_law_33 (n : Nat) : nth t_L_law (n + 747) = nth t_L_law_c33 n := (y_L_law_32 (n + 17)).trans rfl
theorem n_L_law_747 : nth t_L_law 747 = aLdI 4 749 := (y_L_law_33 0).trans rfl
theorem n_L_law_749 : nth t_L_law 749 = aK (.int 1) 750 := (y_L_law_33 2).trans rfl
theorem n_L_law_750 : nth t_L_law 750 = aB (fun x y => x + y) 751 := (y_L_law_33 3).trans rfl
theorem n_L_law_751 : nth t_L_law 751 = aAldI 752 := (y_L_law_33 4).trans rfl
theorem n_L_law_752 : nth t_L_law 752 = aCalV 201 1 755 [6] none := (y_L_law_33 5).trans rfl
theorem n_L_law_755 : nth t_L_law 755 = aIcEq 1354 758 := (y_L_law_33 8).trans rfl
theorem n_L_law_758 : nth t_L_law 758 = aK (.int 0) 759 := (y_L_law_33 11).trans rfl
theorem n_L_law_759 : nth t_L_law 759 = aRetZ := (y_L_law_33 12).trans rfl
theorem n_L_law_760 : nth t_L_law 760 = aLdA 1 761 := (y_L_law_33 13).trans rfl
theorem n_L_law_761 : nth t_L_law 761 = aLdA 0 762 := (y_L_law_33 14).trans rfl
theorem n_L_law_762 : nth t_L_law 762 = aLdI 4 764 := (y_L_law_33 15).trans rfl
theorem n_L_law_764 : nth t_L_law 764 = aK (.int 1) 765 := (y_L_law_33 17).trans rfl
theorem y_L_law_34 (n : Nat) : nth t_L_law (n + 765) = nth t_L_law_c34 n := (y_L_law_33 (n + 18)).trans rfl
theorem n_L_law_765 : nth t_L_law 765 = aB (fun x y => x + y) 766 := (y_L_law_34 0).trans rfl
theorem n_L_law_766 : nth t_L_law 766 = aAldI 767 := (y_L_law_34 1).trans rfl
theorem n_L_law_767 : nth t_L_law 767 = aCalV 61 1 770 [0] none := (y_L_law_34 2).trans rfl
theorem n_L_law_770 : nth t_L_law 770 = aLdA 2 771 := (y_L_law_34 5).trans rfl
theorem n_L_law_771 : nth t_L_law 771 = aLdA 0 772 := (y_L_law_34 6).trans rfl
theorem n_L_law_772 : nth t_L_law 772 = aLdI 4 774 := (y_L_law_34 7).trans rfl
theorem n_L_law_774 : nth t_L_law 774 = aK (.int 1) 775 := (y_L_law_34 9).trans rfl
theorem n_L_law_775 : nth t_L_law 775 = aB (fun x y => x + y) 776 := (y_L_law_34 10).trans rfl
theorem n_L_law_776 : nth t_L_law 776 = aAldI 777 := (y_L_law_34 11).trans rfl
theorem n_L_law_777 : nth t_L_law 777 = aCalV 204 1 780 [6] none := (y_L_law_34 12).trans rfl
theorem n_L_law_780 : nth t_L_law 780 = aIcEq 1354 783 := (y_L_law_34 15).trans rfl
theorem n_L_law_783 : nth t_L_law 783 = aK (.int 0) 784 := (y_L_law_34 18).trans rfl
theorem y_L_law_35 (n : Nat) : nth t_L_law (n + 784) = nth t_L_law_c35 n := (y_L_law_34 (n + 19)).trans rfl
theorem n_L_law_784 : nth t_L_law 784 = aRetZ := (y_L_law_35 0).trans rfl
theorem n_L_law_785 : nth t_L_law 785 = aLdA 1 786 := (y_L_law_35 1).trans rfl
theorem n_L_law_786 : nth t_L_law 786 = aLdA 0 787 := (y_L_law_35 2).trans rfl
theorem n_L_law_787 : nth t_L_law 787 = aLdI 4 789 := (y_L_law_35 3).trans rfl
theorem n_L_law_789 : nth t_L_law 789 = aK (.int 1) 790 := (y_L_law_35 5).trans rfl
theorem n_L_law_790 : nth t_L_law 790 = aB (fun x y => x + y) 791 := (y_L_law_35 6).trans rfl
theorem n_L_law_791 : nth t_L_law 791 = aAldI 792 := (y_L_law_35 7).trans rfl
theorem n_L_law_792 : nth t_L_law 792 = aCalV 62 1 795 [0] none := (y_L_law_35 8).trans rfl
theorem n_L_law_795 : nth t_L_law 795 = aLdA 2 796 := (y_L_law_35 11).trans rfl
theorem n_L_law_796 : nth t_L_law 796 = aLdA 0 797 := (y_L_law_35 12).trans rfl
theorem n_L_law_797 : nth t_L_law 797 = aLdI 4 799 := (y_L_law_35 13).trans rfl
theorem n_L_law_799 : nth t_L_law 799 = aK (.int 1) 800 := (y_L_law_35 15).trans rfl
theorem y_L_law_36 (n : Nat) : nth t_L_law (n + 800) = nth t_L_law_c36 n := (y_L_law_35 (n + 16)).trans rfl
theorem n_L_law_800 : nth t_L_law 800 = aB (fun x y => x + y) 801 := (y_L_law_36 0).trans rfl
theorem n_L_law_801 : nth t_L_law 801 = aAldI 802 := (y_L_law_36 1).trans rfl
theorem n_L_law_802 : nth t_L_law 802 = aCalV 205 1 805 [6] none := (y_L_law_36 2).trans rfl
theorem n_L_law_805 : nth t_L_law 805 = aIcEq 1354 808 := (y_L_law_36 5).trans rfl
theorem n_L_law_808 : nth t_L_law 808 = aK (.int 0) 809 := (y_L_law_36 8).trans rfl
theorem n_L_law_809 : nth t_L_law 809 = aRetZ := (y_L_law_36 9).trans rfl
theorem n_L_law_810 : nth t_L_law 810 = aLdA 1 811 := (y_L_law_36 10).trans rfl
theorem n_L_law_811 : nth t_L_law 811 = aCalV 64 0 814 [0] none := (y_L_law_36 11).trans rfl
theorem n_L_law_814 : nth t_L_law 814 = aLdA 2 815 := (y_L_law_36 14).trans rfl
theorem n_L_law_815 : nth t_L_law 815 = aCalV 206 0 818 [6] none := (y_L_law_36 15).trans rfl
theorem n_L_law_818 : nth t_L_law 818 = aIcEq 1354 821 := (y_L_law_36 18).trans rfl
theorem n_L_law_821 : nth t_L_law 821 = aK (.int 0) 822 := (y_L_law_36 21).trans rfl
theorem y_L_law_37 (n : Nat) : nth t_L_law (n + 822) = nth t_L_law_c37 n := (y_L_law_36 (n + 22)).trans rfl
theorem n_L_law_822 : nth t_L_law 822 = aRetZ := (y_L_law_37 0).trans rfl
theorem n_L_law_823 : nth t_L_law 823 = aLdA 1 824 := (y_L_law_37 1).trans rfl
theorem n_L_law_824 : nth t_L_law 824 = aCalV 65 0 827 [0] none := (y_L_law_37 2).trans rfl
theorem n_L_law_827 : nth t_L_law 827 = aLdA 2 828 := (y_L_law_37 5).trans rfl
theorem n_L_law_828 : nth t_L_law 828 = aCalV 207 0 831 [6] none := (y_L_law_37 6).trans rfl
theorem n_L_law_831 : nth t_L_law 831 = aIcEq 1354 834 := (y_L_law_37 9).trans rfl
theorem n_L_law_834 : nth t_L_law 834 = aK (.int 0) 835 := (y_L_law_37 12).trans rfl
theorem n_L_law_835 : nth t_L_law 835 = aRetZ := (y_L_law_37 13).trans rfl
theorem n_L_law_836 : nth t_L_law 836 = aLdA 1 837 := (y_L_law_37 14).trans rfl
theorem n_L_law_837 : nth t_L_law 837 = aCalV 66 0 840 [0] none := (y_L_law_37 15).trans rfl
theorem n_L_law_840 : nth t_L_law 840 = aLdA 2 841 := (y_L_law_37 18).trans rfl
theorem n_L_law_841 : nth t_L_law 841 = aCalV 214 0 844 [6] none := (y_L_law_37 19).trans rfl
theorem y_L_law_38 (n : Nat) : nth t_L_law (n + 844) = nth t_L_law_c38 n := (y_L_law_37 (n + 22)).trans rfl
theorem n_L_law_844 : nth t_L_law 844 = aIcEq 1354 847 := (y_L_law_38 0).trans rfl
theorem n_L_law_847 : nth t_L_law 847 = aK (.int 0) 848 := (y_L_law_38 3).trans rfl
theorem n_L_law_848 : nth t_L_law 848 = aRetZ := (y_L_law_38 4).trans rfl
theorem n_L_law_849 : nth t_L_law 849 = aLdA 1 850 := (y_L_law_38 5).trans rfl
theorem n_L_law_850 : nth t_L_law 850 = aCalV 69 0 853 [0] none := (y_L_law_38 6).trans rfl
theorem n_L_law_853 : nth t_L_law 853 = aLdA 2 854 := (y_L_law_38 9).trans rfl
theorem n_L_law_854 : nth t_L_law 854 = aCalV 222 0 857 [6] none := (y_L_law_38 10).trans rfl
theorem n_L_law_857 : nth t_L_law 857 = aIcEq 1354 860 := (y_L_law_38 13).trans rfl
theorem n_L_law_860 : nth t_L_law 860 = aK (.int 0) 861 := (y_L_law_38 16).trans rfl
theorem n_L_law_861 : nth t_L_law 861 = aRetZ := (y_L_law_38 17).trans rfl
theorem n_L_law_862 : nth t_L_law 862 = aLdA 1 863 := (y_L_law_38 18).trans rfl
theorem n_L_law_863 : nth t_L_law 863 = aLdA 0 864 := (y_L_law_38 19).trans rfl
theorem y_L_law_39 (n : Nat) : nth t_L_law (n + 864) = nth t_L_law_c39 n := (y_L_law_38 (n + 20)).trans rfl
theorem n_L_law_864 : nth t_L_law 864 = aLdI 4 866 := (y_L_law_39 0).trans rfl
theorem n_L_law_866 : nth t_L_law 866 = aK (.int 1) 867 := (y_L_law_39 2).trans rfl
theorem n_L_law_867 : nth t_L_law 867 = aB (fun x y => x + y) 868 := (y_L_law_39 3).trans rfl
theorem n_L_law_868 : nth t_L_law 868 = aAldI 869 := (y_L_law_39 4).trans rfl
theorem n_L_law_869 : nth t_L_law 869 = aCalV 70 1 872 [0] none := (y_L_law_39 5).trans rfl
theorem n_L_law_872 : nth t_L_law 872 = aLdA 2 873 := (y_L_law_39 8).trans rfl
theorem n_L_law_873 : nth t_L_law 873 = aLdA 0 874 := (y_L_law_39 9).trans rfl
theorem n_L_law_874 : nth t_L_law 874 = aLdI 4 876 := (y_L_law_39 10).trans rfl
theorem n_L_law_876 : nth t_L_law 876 = aK (.int 1) 877 := (y_L_law_39 12).trans rfl
theorem n_L_law_877 : nth t_L_law 877 = aB (fun x y => x + y) 878 := (y_L_law_39 13).trans rfl
theorem n_L_law_878 : nth t_L_law 878 = aAldI 879 := (y_L_law_39 14).trans rfl
theorem n_L_law_879 : nth t_L_law 879 = aCalV 228 1 882 [6] none := (y_L_law_39 15).trans rfl
theorem y_L_law_40 (n : Nat) : nth t_L_law (n + 882) = nth t_L_law_c40 n := (y_L_law_39 (n + 18)).trans rfl
theorem n_L_law_882 : nth t_L_law 882 = aIcEq 1354 885 := (y_L_law_40 0).trans rfl
theorem n_L_law_885 : nth t_L_law 885 = aK (.int 0) 886 := (y_L_law_40 3).trans rfl
theorem n_L_law_886 : nth t_L_law 886 = aRetZ := (y_L_law_40 4).trans rfl
theorem n_L_law_887 : nth t_L_law 887 = aLdA 1 888 := (y_L_law_40 5).trans rfl
theorem n_L_law_888 : nth t_L_law 888 = aLdA 0 889 := (y_L_law_40 6).trans rfl
theorem n_L_law_889 : nth t_L_law 889 = aLdI 4 891 := (y_L_law_40 7).trans rfl
theorem n_L_law_891 : nth t_L_law 891 = aK (.int 1) 892 := (y_L_law_40 9).trans rfl
theorem n_L_law_892 : nth t_L_law 892 = aB (fun x y => x + y) 893 := (y_L_law_40 10).trans rfl
theorem n_L_law_893 : nth t_L_law 893 = aAldI 894 := (y_L_law_40 11).trans rfl
theorem n_L_law_894 : nth t_L_law 894 = aCalV 72 1 897 [0] none := (y_L_law_40 12).trans rfl
theorem n_L_law_897 : nth t_L_law 897 = aLdA 2 898 := (y_L_law_40 15).trans rfl
theorem n_L_law_898 : nth t_L_law 898 = aLdA 0 899 := (y_L_law_40 16).trans rfl
theorem y_L_law_41 (n : Nat) : nth t_L_law (n + 899) = nth t_L_law_c41 n := (y_L_law_40 (n + 17)).trans rfl
theorem n_L_law_899 : nth t_L_law 899 = aLdI 4 901 := (y_L_law_41 0).trans rfl
theorem n_L_law_901 : nth t_L_law 901 = aK (.int 1) 902 := (y_L_law_41 2).trans rfl
theorem n_L_law_902 : nth t_L_law 902 = aB (fun x y => x + y) 903 := (y_L_law_41 3).trans rfl
theorem n_L_law_903 : nth t_L_law 903 = aAldI 904 := (y_L_law_41 4).trans rfl
theorem n_L_law_904 : nth t_L_law 904 = aCalV 230 1 907 [6] none := (y_L_law_41 5).trans rfl
theorem n_L_law_907 : nth t_L_law 907 = aIcEq 1354 910 := (y_L_law_41 8).trans rfl
theorem n_L_law_910 : nth t_L_law 910 = aK (.int 0) 911 := (y_L_law_41 11).trans rfl
theorem n_L_law_911 : nth t_L_law 911 = aRetZ := (y_L_law_41 12).trans rfl
theorem n_L_law_912 : nth t_L_law 912 = aLdA 1 913 := (y_L_law_41 13).trans rfl
theorem n_L_law_913 : nth t_L_law 913 = aLdA 0 914 := (y_L_law_41 14).trans rfl
theorem n_L_law_914 : nth t_L_law 914 = aLdI 4 916 := (y_L_law_41 15).trans rfl
theorem n_L_law_916 : nth t_L_law 916 = aK (.int 1) 917 := (y_L_law_41 17).trans rfl
theorem y_L_law_42 (n : Nat) : nth t_L_law (n + 917) = nth t_L_law_c42 n := (y_L_law_41 (n + 18)).trans rfl
theorem n_L_law_917 : nth t_L_law 917 = aB (fun x y => x + y) 918 := (y_L_law_42 0).trans rfl
theorem n_L_law_918 : nth t_L_law 918 = aAldI 919 := (y_L_law_42 1).trans rfl
theorem n_L_law_919 : nth t_L_law 919 = aLdA 0 920 := (y_L_law_42 2).trans rfl
theorem n_L_law_920 : nth t_L_law 920 = aLdI 4 922 := (y_L_law_42 3).trans rfl
theorem n_L_law_922 : nth t_L_law 922 = aK (.int 2) 923 := (y_L_law_42 5).trans rfl
theorem n_L_law_923 : nth t_L_law 923 = aB (fun x y => x + y) 924 := (y_L_law_42 6).trans rfl
theorem n_L_law_924 : nth t_L_law 924 = aAldI 925 := (y_L_law_42 7).trans rfl
theorem n_L_law_925 : nth t_L_law 925 = aCalV 73 2 928 [0] none := (y_L_law_42 8).trans rfl
theorem n_L_law_928 : nth t_L_law 928 = aLdA 2 929 := (y_L_law_42 11).trans rfl
theorem n_L_law_929 : nth t_L_law 929 = aLdA 0 930 := (y_L_law_42 12).trans rfl
theorem n_L_law_930 : nth t_L_law 930 = aLdI 4 932 := (y_L_law_42 13).trans rfl
theorem n_L_law_932 : nth t_L_law 932 = aK (.int 1) 933 := (y_L_law_42 15).trans rfl
theorem y_L_law_43 (n : Nat) : nth t_L_law (n + 933) = nth t_L_law_c43 n := (y_L_law_42 (n + 16)).trans rfl
theorem n_L_law_933 : nth t_L_law 933 = aB (fun x y => x + y) 934 := (y_L_law_43 0).trans rfl
theorem n_L_law_934 : nth t_L_law 934 = aAldI 935 := (y_L_law_43 1).trans rfl
theorem n_L_law_935 : nth t_L_law 935 = aLdA 0 936 := (y_L_law_43 2).trans rfl
theorem n_L_law_936 : nth t_L_law 936 = aLdI 4 938 := (y_L_law_43 3).trans rfl
theorem n_L_law_938 : nth t_L_law 938 = aK (.int 2) 939 := (y_L_law_43 5).trans rfl
theorem n_L_law_939 : nth t_L_law 939 = aB (fun x y => x + y) 940 := (y_L_law_43 6).trans rfl
theorem n_L_law_940 : nth t_L_law 940 = aAldI 941 := (y_L_law_43 7).trans rfl
theorem n_L_law_941 : nth t_L_law 941 = aCalV 231 2 944 [6] none := (y_L_law_43 8).trans rfl
theorem n_L_law_944 : nth t_L_law 944 = aIcEq 1354 947 := (y_L_law_43 11).trans rfl
theorem n_L_law_947 : nth t_L_law 947 = aK (.int 0) 948 := (y_L_law_43 14).trans rfl
theorem n_L_law_948 : nth t_L_law 948 = aRetZ := (y_L_law_43 15).trans rfl
theorem n_L_law_949 : nth t_L_law 949 = aLdA 1 950 := (y_L_law_43 16).trans rfl
theorem y_L_law_44 (n : Nat) : nth t_L_law (n + 950) = nth t_L_law_c44 n := (y_L_law_43 (n + 17)).trans rfl
theorem n_L_law_950 : nth t_L_law 950 = aLdA 0 951 := (y_L_law_44 0).trans rfl
theorem n_L_law_951 : nth t_L_law 951 = aLdI 4 953 := (y_L_law_44 1).trans rfl
theorem n_L_law_953 : nth t_L_law 953 = aK (.int 1) 954 := (y_L_law_44 3).trans rfl
theorem n_L_law_954 : nth t_L_law 954 = aB (fun x y => x + y) 955 := (y_L_law_44 4).trans rfl
theorem n_L_law_955 : nth t_L_law 955 = aAldI 956 := (y_L_law_44 5).trans rfl
theorem n_L_law_956 : nth t_L_law 956 = aLdA 0 957 := (y_L_law_44 6).trans rfl
theorem n_L_law_957 : nth t_L_law 957 = aLdI 4 959 := (y_L_law_44 7).trans rfl
theorem n_L_law_959 : nth t_L_law 959 = aK (.int 2) 960 := (y_L_law_44 9).trans rfl
theorem n_L_law_960 : nth t_L_law 960 = aB (fun x y => x + y) 961 := (y_L_law_44 10).trans rfl
theorem n_L_law_961 : nth t_L_law 961 = aAldI 962 := (y_L_law_44 11).trans rfl
theorem n_L_law_962 : nth t_L_law 962 = aLdA 3 963 := (y_L_law_44 12).trans rfl
theorem n_L_law_963 : nth t_L_law 963 = aCalS 35 4 966 none := (y_L_law_44 13).trans rfl
theorem y_L_law_45 (n : Nat) : nth t_L_law (n + 966) = nth t_L_law_c45 n := (y_L_law_44 (n + 16)).trans rfl
theorem n_L_law_966 : nth t_L_law 966 = aStI 5 968 := (y_L_law_45 0).trans rfl
theorem n_L_law_968 : nth t_L_law 968 = aLdA 2 969 := (y_L_law_45 2).trans rfl
theorem n_L_law_969 : nth t_L_law 969 = aLdA 0 970 := (y_L_law_45 3).trans rfl
theorem n_L_law_970 : nth t_L_law 970 = aLdI 4 972 := (y_L_law_45 4).trans rfl
theorem n_L_law_972 : nth t_L_law 972 = aK (.int 1) 973 := (y_L_law_45 6).trans rfl
theorem n_L_law_973 : nth t_L_law 973 = aB (fun x y => x + y) 974 := (y_L_law_45 7).trans rfl
theorem n_L_law_974 : nth t_L_law 974 = aAldI 975 := (y_L_law_45 8).trans rfl
theorem n_L_law_975 : nth t_L_law 975 = aLdA 0 976 := (y_L_law_45 9).trans rfl
theorem n_L_law_976 : nth t_L_law 976 = aLdI 4 978 := (y_L_law_45 10).trans rfl
theorem n_L_law_978 : nth t_L_law 978 = aK (.int 2) 979 := (y_L_law_45 12).trans rfl
theorem n_L_law_979 : nth t_L_law 979 = aB (fun x y => x + y) 980 := (y_L_law_45 13).trans rfl
theorem n_L_law_980 : nth t_L_law 980 = aAldI 981 := (y_L_law_45 14).trans rfl
theorem y_L_law_46 (n : Nat) : nth t_L_law (n + 981) = nth t_L_law_c46 n := (y_L_law_45 (n + 15)).trans rfl
theorem n_L_law_981 : nth t_L_law 981 = aCalV 235 2 984 [6] none := (y_L_law_46 0).trans rfl
theorem n_L_law_984 : nth t_L_law 984 = aStI 6 986 := (y_L_law_46 3).trans rfl
theorem n_L_law_986 : nth t_L_law 986 = aLdA 2 987 := (y_L_law_46 5).trans rfl
theorem n_L_law_987 : nth t_L_law 987 = aCalV 147 0 990 [6] none := (y_L_law_46 6).trans rfl
theorem n_L_law_990 : nth t_L_law 990 = aLdI 5 992 := (y_L_law_46 9).trans rfl
theorem n_L_law_992 : nth t_L_law 992 = aIcEq 997 995 := (y_L_law_46 11).trans rfl
theorem n_L_law_995 : nth t_L_law 995 = aK (.int 0) 996 := (y_L_law_46 14).trans rfl
theorem n_L_law_996 : nth t_L_law 996 = aRetZ := (y_L_law_46 15).trans rfl
theorem n_L_law_997 : nth t_L_law 997 = aLdI 5 999 := (y_L_law_46 16).trans rfl
theorem n_L_law_999 : nth t_L_law 999 = aIfEq 1002 1014 := (y_L_law_46 18).trans rfl
theorem n_L_law_1002 : nth t_L_law 1002 = aLdA 3 1003 := (y_L_law_46 21).trans rfl
theorem n_L_law_1003 : nth t_L_law 1003 = aK (.int 0) 1004 := (y_L_law_46 22).trans rfl
theorem y_L_law_47 (n : Nat) : nth t_L_law (n + 1004) = nth t_L_law_c47 n := (y_L_law_46 (n + 23)).trans rfl
theorem n_L_law_1004 : nth t_L_law 1004 = aAldL 1005 := (y_L_law_47 0).trans rfl
theorem n_L_law_1005 : nth t_L_law 1005 = aLdI 6 1007 := (y_L_law_47 1).trans rfl
theorem n_L_law_1007 : nth t_L_law 1007 = aI2L 1008 := (y_L_law_47 3).trans rfl
theorem n_L_law_1008 : nth t_L_law 1008 = aLcmp 1009 := (y_L_law_47 4).trans rfl
theorem n_L_law_1009 : nth t_L_law 1009 = aIfEq 1014 1012 := (y_L_law_47 5).trans rfl
theorem n_L_law_1012 : nth t_L_law 1012 = aK (.int 0) 1013 := (y_L_law_47 8).trans rfl
theorem n_L_law_1013 : nth t_L_law 1013 = aRetZ := (y_L_law_47 9).trans rfl
theorem n_L_law_1014 : nth t_L_law 1014 = aGoto 1354 := (y_L_law_47 10).trans rfl
theorem n_L_law_1017 : nth t_L_law 1017 = aLdA 1 1018 := (y_L_law_47 13).trans rfl
theorem n_L_law_1018 : nth t_L_law 1018 = aLdA 0 1019 := (y_L_law_47 14).trans rfl
theorem n_L_law_1019 : nth t_L_law 1019 = aLdI 4 1021 := (y_L_law_47 15).trans rfl
theorem n_L_law_1021 : nth t_L_law 1021 = aK (.int 1) 1022 := (y_L_law_47 17).trans rfl
theorem y_L_law_48 (n : Nat) : nth t_L_law (n + 1022) = nth t_L_law_c48 n := (y_L_law_47 (n + 18)).trans rfl
theorem n_L_law_1022 : nth t_L_law 1022 = aB (fun x y => x + y) 1023 := (y_L_law_48 0).trans rfl
theorem n_L_law_1023 : nth t_L_law 1023 = aAldI 1024 := (y_L_law_48 1).trans rfl
theorem n_L_law_1024 : nth t_L_law 1024 = aLdA 0 1025 := (y_L_law_48 2).trans rfl
theorem n_L_law_1025 : nth t_L_law 1025 = aLdI 4 1027 := (y_L_law_48 3).trans rfl
theorem n_L_law_1027 : nth t_L_law 1027 = aK (.int 2) 1028 := (y_L_law_48 5).trans rfl
theorem n_L_law_1028 : nth t_L_law 1028 = aB (fun x y => x + y) 1029 := (y_L_law_48 6).trans rfl
theorem n_L_law_1029 : nth t_L_law 1029 = aAldI 1030 := (y_L_law_48 7).trans rfl
theorem n_L_law_1030 : nth t_L_law 1030 = aCalV 76 2 1033 [0] none := (y_L_law_48 8).trans rfl
theorem n_L_law_1033 : nth t_L_law 1033 = aLdA 2 1034 := (y_L_law_48 11).trans rfl
theorem n_L_law_1034 : nth t_L_law 1034 = aLdA 0 1035 := (y_L_law_48 12).trans rfl
theorem n_L_law_1035 : nth t_L_law 1035 = aLdI 4 1037 := (y_L_law_48 13).trans rfl
theorem n_L_law_1037 : nth t_L_law 1037 = aK (.int 1) 1038 := (y_L_law_48 15).trans rfl
theorem y_L_law_49 (n : Nat) : nth t_L_law (n + 1038) = nth t_L_law_c49 n := (y_L_law_48 (n + 16)).trans rfl
theorem n_L_law_1038 : nth t_L_law 1038 = aB (fun x y => x + y) 1039 := (y_L_law_49 0).trans rfl
theorem n_L_law_1039 : nth t_L_law 1039 = aAldI 1040 := (y_L_law_49 1).trans rfl
theorem n_L_law_1040 : nth t_L_law 1040 = aLdA 0 1041 := (y_L_law_49 2).trans rfl
theorem n_L_law_1041 : nth t_L_law 1041 = aLdI 4 1043 := (y_L_law_49 3).trans rfl
theorem n_L_law_1043 : nth t_L_law 1043 = aK (.int 2) 1044 := (y_L_law_49 5).trans rfl
theorem n_L_law_1044 : nth t_L_law 1044 = aB (fun x y => x + y) 1045 := (y_L_law_49 6).trans rfl
theorem n_L_law_1045 : nth t_L_law 1045 = aAldI 1046 := (y_L_law_49 7).trans rfl
theorem n_L_law_1046 : nth t_L_law 1046 = aCalV 236 2 1049 [6] none := (y_L_law_49 8).trans rfl
theorem n_L_law_1049 : nth t_L_law 1049 = aIcEq 1354 1052 := (y_L_law_49 11).trans rfl
theorem n_L_law_1052 : nth t_L_law 1052 = aK (.int 0) 1053 := (y_L_law_49 14).trans rfl
theorem n_L_law_1053 : nth t_L_law 1053 = aRetZ := (y_L_law_49 15).trans rfl
theorem n_L_law_1054 : nth t_L_law 1054 = aLdA 1 1055 := (y_L_law_49 16).trans rfl
theorem y_L_law_50 (n : Nat) : nth t_L_law (n + 1055) = nth t_L_law_c50 n := (y_L_law_49 (n + 17)).trans rfl
theorem n_L_law_1055 : nth t_L_law 1055 = aLdA 0 1056 := (y_L_law_50 0).trans rfl
theorem n_L_law_1056 : nth t_L_law 1056 = aLdI 4 1058 := (y_L_law_50 1).trans rfl
theorem n_L_law_1058 : nth t_L_law 1058 = aK (.int 1) 1059 := (y_L_law_50 3).trans rfl
theorem n_L_law_1059 : nth t_L_law 1059 = aB (fun x y => x + y) 1060 := (y_L_law_50 4).trans rfl
theorem n_L_law_1060 : nth t_L_law 1060 = aAldI 1061 := (y_L_law_50 5).trans rfl
theorem n_L_law_1061 : nth t_L_law 1061 = aCalV 77 1 1064 [0] none := (y_L_law_50 6).trans rfl
theorem n_L_law_1064 : nth t_L_law 1064 = aLdA 2 1065 := (y_L_law_50 9).trans rfl
theorem n_L_law_1065 : nth t_L_law 1065 = aLdA 0 1066 := (y_L_law_50 10).trans rfl
theorem n_L_law_1066 : nth t_L_law 1066 = aLdI 4 1068 := (y_L_law_50 11).trans rfl
theorem n_L_law_1068 : nth t_L_law 1068 = aK (.int 1) 1069 := (y_L_law_50 13).trans rfl
theorem n_L_law_1069 : nth t_L_law 1069 = aB (fun x y => x + y) 1070 := (y_L_law_50 14).trans rfl
theorem n_L_law_1070 : nth t_L_law 1070 = aAldI 1071 := (y_L_law_50 15).trans rfl
theorem y_L_law_51 (n : Nat) : nth t_L_law (n + 1071) = nth t_L_law_c51 n := (y_L_law_50 (n + 16)).trans rfl
theorem n_L_law_1071 : nth t_L_law 1071 = aCalV 195 1 1074 [6] none := (y_L_law_51 0).trans rfl
theorem n_L_law_1074 : nth t_L_law 1074 = aIcEq 1354 1077 := (y_L_law_51 3).trans rfl
theorem n_L_law_1077 : nth t_L_law 1077 = aK (.int 0) 1078 := (y_L_law_51 6).trans rfl
theorem n_L_law_1078 : nth t_L_law 1078 = aRetZ := (y_L_law_51 7).trans rfl
theorem n_L_law_1079 : nth t_L_law 1079 = aLdA 1 1080 := (y_L_law_51 8).trans rfl
theorem n_L_law_1080 : nth t_L_law 1080 = aCalV 79 0 1083 [0] none := (y_L_law_51 9).trans rfl
theorem n_L_law_1083 : nth t_L_law 1083 = aLdA 2 1084 := (y_L_law_51 12).trans rfl
theorem n_L_law_1084 : nth t_L_law 1084 = aCalV 198 0 1087 [6] none := (y_L_law_51 13).trans rfl
theorem n_L_law_1087 : nth t_L_law 1087 = aIcEq 1354 1090 := (y_L_law_51 16).trans rfl
theorem n_L_law_1090 : nth t_L_law 1090 = aK (.int 0) 1091 := (y_L_law_51 19).trans rfl
theorem n_L_law_1091 : nth t_L_law 1091 = aRetZ := (y_L_law_51 20).trans rfl
theorem n_L_law_1092 : nth t_L_law 1092 = aLdA 1 1093 := (y_L_law_51 21).trans rfl
theorem y_L_law_52 (n : Nat) : nth t_L_law (n + 1093) = nth t_L_law_c52 n := (y_L_law_51 (n + 22)).trans rfl
theorem n_L_law_1093 : nth t_L_law 1093 = aLdA 0 1094 := (y_L_law_52 0).trans rfl
theorem n_L_law_1094 : nth t_L_law 1094 = aLdI 4 1096 := (y_L_law_52 1).trans rfl
theorem n_L_law_1096 : nth t_L_law 1096 = aK (.int 1) 1097 := (y_L_law_52 3).trans rfl
theorem n_L_law_1097 : nth t_L_law 1097 = aB (fun x y => x + y) 1098 := (y_L_law_52 4).trans rfl
theorem n_L_law_1098 : nth t_L_law 1098 = aAldI 1099 := (y_L_law_52 5).trans rfl
theorem n_L_law_1099 : nth t_L_law 1099 = aCalV 80 1 1102 [0] none := (y_L_law_52 6).trans rfl
theorem n_L_law_1102 : nth t_L_law 1102 = aLdA 2 1103 := (y_L_law_52 9).trans rfl
theorem n_L_law_1103 : nth t_L_law 1103 = aLdA 0 1104 := (y_L_law_52 10).trans rfl
theorem n_L_law_1104 : nth t_L_law 1104 = aLdI 4 1106 := (y_L_law_52 11).trans rfl
theorem n_L_law_1106 : nth t_L_law 1106 = aK (.int 1) 1107 := (y_L_law_52 13).trans rfl
theorem n_L_law_1107 : nth t_L_law 1107 = aB (fun x y => x + y) 1108 := (y_L_law_52 14).trans rfl
theorem n_L_law_1108 : nth t_L_law 1108 = aAldI 1109 := (y_L_law_52 15).trans rfl
theorem y_L_law_53 (n : Nat) : nth t_L_law (n + 1109) = nth t_L_law_c53 n := (y_L_law_52 (n + 16)).trans rfl
theorem n_L_law_1109 : nth t_L_law 1109 = aCalV 208 1 1112 [6] none := (y_L_law_53 0).trans rfl
theorem n_L_law_1112 : nth t_L_law 1112 = aIcEq 1354 1115 := (y_L_law_53 3).trans rfl
theorem n_L_law_1115 : nth t_L_law 1115 = aK (.int 0) 1116 := (y_L_law_53 6).trans rfl
theorem n_L_law_1116 : nth t_L_law 1116 = aRetZ := (y_L_law_53 7).trans rfl
theorem n_L_law_1117 : nth t_L_law 1117 = aLdA 1 1118 := (y_L_law_53 8).trans rfl
theorem n_L_law_1118 : nth t_L_law 1118 = aLdA 0 1119 := (y_L_law_53 9).trans rfl
theorem n_L_law_1119 : nth t_L_law 1119 = aLdI 4 1121 := (y_L_law_53 10).trans rfl
theorem n_L_law_1121 : nth t_L_law 1121 = aK (.int 1) 1122 := (y_L_law_53 12).trans rfl
theorem n_L_law_1122 : nth t_L_law 1122 = aB (fun x y => x + y) 1123 := (y_L_law_53 13).trans rfl
theorem n_L_law_1123 : nth t_L_law 1123 = aAldI 1124 := (y_L_law_53 14).trans rfl
theorem n_L_law_1124 : nth t_L_law 1124 = aCalV 81 1 1127 [0] none := (y_L_law_53 15).trans rfl
theorem n_L_law_1127 : nth t_L_law 1127 = aLdA 2 1128 := (y_L_law_53 18).trans rfl
theorem y_L_law_54 (n : Nat) : nth t_L_law (n + 1128) = nth t_L_law_c54 n := (y_L_law_53 (n + 19)).trans rfl
theorem n_L_law_1128 : nth t_L_law 1128 = aLdA 0 1129 := (y_L_law_54 0).trans rfl
theorem n_L_law_1129 : nth t_L_law 1129 = aLdI 4 1131 := (y_L_law_54 1).trans rfl
theorem n_L_law_1131 : nth t_L_law 1131 = aK (.int 1) 1132 := (y_L_law_54 3).trans rfl
theorem n_L_law_1132 : nth t_L_law 1132 = aB (fun x y => x + y) 1133 := (y_L_law_54 4).trans rfl
theorem n_L_law_1133 : nth t_L_law 1133 = aAldI 1134 := (y_L_law_54 5).trans rfl
theorem n_L_law_1134 : nth t_L_law 1134 = aCalV 209 1 1137 [6] none := (y_L_law_54 6).trans rfl
theorem n_L_law_1137 : nth t_L_law 1137 = aIcEq 1354 1140 := (y_L_law_54 9).trans rfl
theorem n_L_law_1140 : nth t_L_law 1140 = aK (.int 0) 1141 := (y_L_law_54 12).trans rfl
theorem n_L_law_1141 : nth t_L_law 1141 = aRetZ := (y_L_law_54 13).trans rfl
theorem n_L_law_1142 : nth t_L_law 1142 = aLdA 1 1143 := (y_L_law_54 14).trans rfl
theorem n_L_law_1143 : nth t_L_law 1143 = aLdA 0 1144 := (y_L_law_54 15).trans rfl
theorem n_L_law_1144 : nth t_L_law 1144 = aLdI 4 1146 := (y_L_law_54 16).trans rfl
theorem y_L_law_55 (n : Nat) : nth t_L_law (n + 1146) = nth t_L_law_c55 n := (y_L_law_54 (n + 18)).trans rfl
theorem n_L_law_1146 : nth t_L_law 1146 = aK (.int 1) 1147 := (y_L_law_55 0).trans rfl
theorem n_L_law_1147 : nth t_L_law 1147 = aB (fun x y => x + y) 1148 := (y_L_law_55 1).trans rfl
theorem n_L_law_1148 : nth t_L_law 1148 = aAldI 1149 := (y_L_law_55 2).trans rfl
theorem n_L_law_1149 : nth t_L_law 1149 = aCalV 82 1 1152 [0] none := (y_L_law_55 3).trans rfl
theorem n_L_law_1152 : nth t_L_law 1152 = aLdA 2 1153 := (y_L_law_55 6).trans rfl
theorem n_L_law_1153 : nth t_L_law 1153 = aLdA 0 1154 := (y_L_law_55 7).trans rfl
theorem n_L_law_1154 : nth t_L_law 1154 = aLdI 4 1156 := (y_L_law_55 8).trans rfl
theorem n_L_law_1156 : nth t_L_law 1156 = aK (.int 1) 1157 := (y_L_law_55 10).trans rfl
theorem n_L_law_1157 : nth t_L_law 1157 = aB (fun x y => x + y) 1158 := (y_L_law_55 11).trans rfl
theorem n_L_law_1158 : nth t_L_law 1158 = aAldI 1159 := (y_L_law_55 12).trans rfl
theorem n_L_law_1159 : nth t_L_law 1159 = aCalV 210 1 1162 [6] none := (y_L_law_55 13).trans rfl
theorem n_L_law_1162 : nth t_L_law 1162 = aIcEq 1354 1165 := (y_L_law_55 16).trans rfl
theorem y_L_law_56 (n : Nat) : nth t_L_law (n + 1165) = nth t_L_law_c56 n := (y_L_law_55 (n + 19)).trans rfl
theorem n_L_law_1165 : nth t_L_law 1165 = aK (.int 0) 1166 := (y_L_law_56 0).trans rfl
theorem n_L_law_1166 : nth t_L_law 1166 = aRetZ := (y_L_law_56 1).trans rfl
theorem n_L_law_1167 : nth t_L_law 1167 = aLdA 1 1168 := (y_L_law_56 2).trans rfl
theorem n_L_law_1168 : nth t_L_law 1168 = aLdA 0 1169 := (y_L_law_56 3).trans rfl
theorem n_L_law_1169 : nth t_L_law 1169 = aLdI 4 1171 := (y_L_law_56 4).trans rfl
theorem n_L_law_1171 : nth t_L_law 1171 = aK (.int 1) 1172 := (y_L_law_56 6).trans rfl
theorem n_L_law_1172 : nth t_L_law 1172 = aB (fun x y => x + y) 1173 := (y_L_law_56 7).trans rfl
theorem n_L_law_1173 : nth t_L_law 1173 = aAldI 1174 := (y_L_law_56 8).trans rfl
theorem n_L_law_1174 : nth t_L_law 1174 = aLdA 0 1175 := (y_L_law_56 9).trans rfl
theorem n_L_law_1175 : nth t_L_law 1175 = aLdI 4 1177 := (y_L_law_56 10).trans rfl
theorem n_L_law_1177 : nth t_L_law 1177 = aK (.int 2) 1178 := (y_L_law_56 12).trans rfl
theorem n_L_law_1178 : nth t_L_law 1178 = aB (fun x y => x + y) 1179 := (y_L_law_56 13).trans rfl
theorem y_L_law_57 (n : Nat) : nth t_L_law (n + 1179) = nth t_L_law_c57 n := (y_L_law_56 (n + 14)).trans rfl
theorem n_L_law_1179 : nth t_L_law 1179 = aAldI 1180 := (y_L_law_57 0).trans rfl
theorem n_L_law_1180 : nth t_L_law 1180 = aCalV 86 2 1183 [0] none := (y_L_law_57 1).trans rfl
theorem n_L_law_1183 : nth t_L_law 1183 = aLdA 2 1184 := (y_L_law_57 4).trans rfl
theorem n_L_law_1184 : nth t_L_law 1184 = aLdA 0 1185 := (y_L_law_57 5).trans rfl
theorem n_L_law_1185 : nth t_L_law 1185 = aLdI 4 1187 := (y_L_law_57 6).trans rfl
theorem n_L_law_1187 : nth t_L_law 1187 = aK (.int 1) 1188 := (y_L_law_57 8).trans rfl
theorem n_L_law_1188 : nth t_L_law 1188 = aB (fun x y => x + y) 1189 := (y_L_law_57 9).trans rfl
theorem n_L_law_1189 : nth t_L_law 1189 = aAldI 1190 := (y_L_law_57 10).trans rfl
theorem n_L_law_1190 : nth t_L_law 1190 = aLdA 0 1191 := (y_L_law_57 11).trans rfl
theorem n_L_law_1191 : nth t_L_law 1191 = aLdI 4 1193 := (y_L_law_57 12).trans rfl
theorem n_L_law_1193 : nth t_L_law 1193 = aK (.int 2) 1194 := (y_L_law_57 14).trans rfl
theorem n_L_law_1194 : nth t_L_law 1194 = aB (fun x y => x + y) 1195 := (y_L_law_57 15).trans rfl
theorem y_L_law_58 (n : Nat) : nth t_L_law (n + 1195) = nth t_L_law_c58 n := (y_L_law_57 (n + 16)).trans rfl
theorem n_L_law_1195 : nth t_L_law 1195 = aAldI 1196 := (y_L_law_58 0).trans rfl
theorem n_L_law_1196 : nth t_L_law 1196 = aCalV 213 2 1199 [6] none := (y_L_law_58 1).trans rfl
theorem n_L_law_1199 : nth t_L_law 1199 = aIcEq 1354 1202 := (y_L_law_58 4).trans rfl
theorem n_L_law_1202 : nth t_L_law 1202 = aK (.int 0) 1203 := (y_L_law_58 7).trans rfl
theorem n_L_law_1203 : nth t_L_law 1203 = aRetZ := (y_L_law_58 8).trans rfl
theorem n_L_law_1204 : nth t_L_law 1204 = aLdA 1 1205 := (y_L_law_58 9).trans rfl
theorem n_L_law_1205 : nth t_L_law 1205 = aLdA 0 1206 := (y_L_law_58 10).trans rfl
theorem n_L_law_1206 : nth t_L_law 1206 = aLdI 4 1208 := (y_L_law_58 11).trans rfl
theorem n_L_law_1208 : nth t_L_law 1208 = aK (.int 1) 1209 := (y_L_law_58 13).trans rfl
theorem n_L_law_1209 : nth t_L_law 1209 = aB (fun x y => x + y) 1210 := (y_L_law_58 14).trans rfl
theorem n_L_law_1210 : nth t_L_law 1210 = aAldI 1211 := (y_L_law_58 15).trans rfl
theorem n_L_law_1211 : nth t_L_law 1211 = aCalV 87 1 1214 [0] none := (y_L_law_58 16).trans rfl
theorem y_L_law_59 (n : Nat) : nth t_L_law (n + 1214) = nth t_L_law_c59 n := (y_L_law_58 (n + 19)).trans rfl
theorem n_L_law_1214 : nth t_L_law 1214 = aLdA 2 1215 := (y_L_law_59 0).trans rfl
theorem n_L_law_1215 : nth t_L_law 1215 = aLdA 0 1216 := (y_L_law_59 1).trans rfl
theorem n_L_law_1216 : nth t_L_law 1216 = aLdI 4 1218 := (y_L_law_59 2).trans rfl
theorem n_L_law_1218 : nth t_L_law 1218 = aK (.int 1) 1219 := (y_L_law_59 4).trans rfl
theorem n_L_law_1219 : nth t_L_law 1219 = aB (fun x y => x + y) 1220 := (y_L_law_59 5).trans rfl
theorem n_L_law_1220 : nth t_L_law 1220 = aAldI 1221 := (y_L_law_59 6).trans rfl
theorem n_L_law_1221 : nth t_L_law 1221 = aCalV 237 1 1224 [6] none := (y_L_law_59 7).trans rfl
theorem n_L_law_1224 : nth t_L_law 1224 = aIcEq 1354 1227 := (y_L_law_59 10).trans rfl
theorem n_L_law_1227 : nth t_L_law 1227 = aK (.int 0) 1228 := (y_L_law_59 13).trans rfl
theorem n_L_law_1228 : nth t_L_law 1228 = aRetZ := (y_L_law_59 14).trans rfl
theorem n_L_law_1229 : nth t_L_law 1229 = aLdA 1 1230 := (y_L_law_59 15).trans rfl
theorem n_L_law_1230 : nth t_L_law 1230 = aLdA 0 1231 := (y_L_law_59 16).trans rfl
theorem y_L_law_60 (n : Nat) : nth t_L_law (n + 1231) = nth t_L_law_c60 n := (y_L_law_59 (n + 17)).trans rfl
theorem n_L_law_1231 : nth t_L_law 1231 = aLdI 4 1233 := (y_L_law_60 0).trans rfl
theorem n_L_law_1233 : nth t_L_law 1233 = aK (.int 1) 1234 := (y_L_law_60 2).trans rfl
theorem n_L_law_1234 : nth t_L_law 1234 = aB (fun x y => x + y) 1235 := (y_L_law_60 3).trans rfl
theorem n_L_law_1235 : nth t_L_law 1235 = aAldI 1236 := (y_L_law_60 4).trans rfl
theorem n_L_law_1236 : nth t_L_law 1236 = aCalV 88 1 1239 [0] none := (y_L_law_60 5).trans rfl
theorem n_L_law_1239 : nth t_L_law 1239 = aLdA 2 1240 := (y_L_law_60 8).trans rfl
theorem n_L_law_1240 : nth t_L_law 1240 = aLdA 0 1241 := (y_L_law_60 9).trans rfl
theorem n_L_law_1241 : nth t_L_law 1241 = aLdI 4 1243 := (y_L_law_60 10).trans rfl
theorem n_L_law_1243 : nth t_L_law 1243 = aK (.int 1) 1244 := (y_L_law_60 12).trans rfl
theorem n_L_law_1244 : nth t_L_law 1244 = aB (fun x y => x + y) 1245 := (y_L_law_60 13).trans rfl
theorem n_L_law_1245 : nth t_L_law 1245 = aAldI 1246 := (y_L_law_60 14).trans rfl
theorem n_L_law_1246 : nth t_L_law 1246 = aCalV 238 1 1249 [6] none := (y_L_law_60 15).trans rfl
theorem y_L_law_61 (n : Nat) : nth t_L_law (n + 1249) = nth t_L_law_c61 n := (y_L_law_60 (n + 18)).trans rfl
theorem n_L_law_1249 : nth t_L_law 1249 = aIcEq 1354 1252 := (y_L_law_61 0).trans rfl
theorem n_L_law_1252 : nth t_L_law 1252 = aK (.int 0) 1253 := (y_L_law_61 3).trans rfl
theorem n_L_law_1253 : nth t_L_law 1253 = aRetZ := (y_L_law_61 4).trans rfl
theorem n_L_law_1254 : nth t_L_law 1254 = aLdA 1 1255 := (y_L_law_61 5).trans rfl
theorem n_L_law_1255 : nth t_L_law 1255 = aLdA 0 1256 := (y_L_law_61 6).trans rfl
theorem n_L_law_1256 : nth t_L_law 1256 = aLdI 4 1258 := (y_L_law_61 7).trans rfl
theorem n_L_law_1258 : nth t_L_law 1258 = aK (.int 1) 1259 := (y_L_law_61 9).trans rfl
theorem n_L_law_1259 : nth t_L_law 1259 = aB (fun x y => x + y) 1260 := (y_L_law_61 10).trans rfl
theorem n_L_law_1260 : nth t_L_law 1260 = aAldI 1261 := (y_L_law_61 11).trans rfl
theorem n_L_law_1261 : nth t_L_law 1261 = aLdA 0 1262 := (y_L_law_61 12).trans rfl
theorem n_L_law_1262 : nth t_L_law 1262 = aLdI 4 1264 := (y_L_law_61 13).trans rfl
theorem n_L_law_1264 : nth t_L_law 1264 = aK (.int 2) 1265 := (y_L_law_61 15).trans rfl
theorem y_L_law_62 (n : Nat) : nth t_L_law (n + 1265) = nth t_L_law_c62 n := (y_L_law_61 (n + 16)).trans rfl
theorem n_L_law_1265 : nth t_L_law 1265 = aB (fun x y => x + y) 1266 := (y_L_law_62 0).trans rfl
theorem n_L_law_1266 : nth t_L_law 1266 = aAldI 1267 := (y_L_law_62 1).trans rfl
theorem n_L_law_1267 : nth t_L_law 1267 = aCalV 90 2 1270 [0] none := (y_L_law_62 2).trans rfl
theorem n_L_law_1270 : nth t_L_law 1270 = aLdA 2 1271 := (y_L_law_62 5).trans rfl
theorem n_L_law_1271 : nth t_L_law 1271 = aLdA 0 1272 := (y_L_law_62 6).trans rfl
theorem n_L_law_1272 : nth t_L_law 1272 = aLdI 4 1274 := (y_L_law_62 7).trans rfl
theorem n_L_law_1274 : nth t_L_law 1274 = aK (.int 1) 1275 := (y_L_law_62 9).trans rfl
theorem n_L_law_1275 : nth t_L_law 1275 = aB (fun x y => x + y) 1276 := (y_L_law_62 10).trans rfl
theorem n_L_law_1276 : nth t_L_law 1276 = aAldI 1277 := (y_L_law_62 11).trans rfl
theorem n_L_law_1277 : nth t_L_law 1277 = aLdA 0 1278 := (y_L_law_62 12).trans rfl
theorem n_L_law_1278 : nth t_L_law 1278 = aLdI 4 1280 := (y_L_law_62 13).trans rfl
theorem n_L_law_1280 : nth t_L_law 1280 = aK (.int 2) 1281 := (y_L_law_62 15).trans rfl
theorem y_L_law_63 (n : Nat) : nth t_L_law (n + 1281) = nth t_L_law_c63 n := (y_L_law_62 (n + 16)).trans rfl
theorem n_L_law_1281 : nth t_L_law 1281 = aB (fun x y => x + y) 1282 := (y_L_law_63 0).trans rfl
theorem n_L_law_1282 : nth t_L_law 1282 = aAldI 1283 := (y_L_law_63 1).trans rfl
theorem n_L_law_1283 : nth t_L_law 1283 = aCalV 240 2 1286 [6] none := (y_L_law_63 2).trans rfl
theorem n_L_law_1286 : nth t_L_law 1286 = aIcEq 1354 1289 := (y_L_law_63 5).trans rfl
theorem n_L_law_1289 : nth t_L_law 1289 = aK (.int 0) 1290 := (y_L_law_63 8).trans rfl
theorem n_L_law_1290 : nth t_L_law 1290 = aRetZ := (y_L_law_63 9).trans rfl
theorem n_L_law_1291 : nth t_L_law 1291 = aLdA 1 1292 := (y_L_law_63 10).trans rfl
theorem n_L_law_1292 : nth t_L_law 1292 = aCalV 91 0 1295 [0] none := (y_L_law_63 11).trans rfl
theorem n_L_law_1295 : nth t_L_law 1295 = aLdA 2 1296 := (y_L_law_63 14).trans rfl
theorem n_L_law_1296 : nth t_L_law 1296 = aCalV 243 0 1299 [6] none := (y_L_law_63 15).trans rfl
theorem n_L_law_1299 : nth t_L_law 1299 = aIcEq 1354 1302 := (y_L_law_63 18).trans rfl
theorem n_L_law_1302 : nth t_L_law 1302 = aK (.int 0) 1303 := (y_L_law_63 21).trans rfl
theorem y_L_law_64 (n : Nat) : nth t_L_law (n + 1303) = nth t_L_law_c64 n := (y_L_law_63 (n + 22)).trans rfl
theorem n_L_law_1303 : nth t_L_law 1303 = aRetZ := (y_L_law_64 0).trans rfl
theorem n_L_law_1304 : nth t_L_law 1304 = aLdA 1 1305 := (y_L_law_64 1).trans rfl
theorem n_L_law_1305 : nth t_L_law 1305 = aLdA 0 1306 := (y_L_law_64 2).trans rfl
theorem n_L_law_1306 : nth t_L_law 1306 = aLdI 4 1308 := (y_L_law_64 3).trans rfl
theorem n_L_law_1308 : nth t_L_law 1308 = aK (.int 1) 1309 := (y_L_law_64 5).trans rfl
theorem n_L_law_1309 : nth t_L_law 1309 = aB (fun x y => x + y) 1310 := (y_L_law_64 6).trans rfl
theorem n_L_law_1310 : nth t_L_law 1310 = aAldI 1311 := (y_L_law_64 7).trans rfl
theorem n_L_law_1311 : nth t_L_law 1311 = aCalV 94 1 1314 [0] none := (y_L_law_64 8).trans rfl
theorem n_L_law_1314 : nth t_L_law 1314 = aLdA 2 1315 := (y_L_law_64 11).trans rfl
theorem n_L_law_1315 : nth t_L_law 1315 = aLdA 0 1316 := (y_L_law_64 12).trans rfl
theorem n_L_law_1316 : nth t_L_law 1316 = aLdI 4 1318 := (y_L_law_64 13).trans rfl
theorem n_L_law_1318 : nth t_L_law 1318 = aK (.int 1) 1319 := (y_L_law_64 15).trans rfl
theorem y_L_law_65 (n : Nat) : nth t_L_law (n + 1319) = nth t_L_law_c65 n := (y_L_law_64 (n + 16)).trans rfl
theorem n_L_law_1319 : nth t_L_law 1319 = aB (fun x y => x + y) 1320 := (y_L_law_65 0).trans rfl
theorem n_L_law_1320 : nth t_L_law 1320 = aAldI 1321 := (y_L_law_65 1).trans rfl
theorem n_L_law_1321 : nth t_L_law 1321 = aCalV 246 1 1324 [6] none := (y_L_law_65 2).trans rfl
theorem n_L_law_1324 : nth t_L_law 1324 = aIcEq 1354 1327 := (y_L_law_65 5).trans rfl
theorem n_L_law_1327 : nth t_L_law 1327 = aK (.int 0) 1328 := (y_L_law_65 8).trans rfl
theorem n_L_law_1328 : nth t_L_law 1328 = aRetZ := (y_L_law_65 9).trans rfl
theorem n_L_law_1329 : nth t_L_law 1329 = aLdA 1 1330 := (y_L_law_65 10).trans rfl
theorem n_L_law_1330 : nth t_L_law 1330 = aLdA 0 1331 := (y_L_law_65 11).trans rfl
theorem n_L_law_1331 : nth t_L_law 1331 = aLdI 4 1333 := (y_L_law_65 12).trans rfl
theorem n_L_law_1333 : nth t_L_law 1333 = aK (.int 1) 1334 := (y_L_law_65 14).trans rfl
theorem n_L_law_1334 : nth t_L_law 1334 = aB (fun x y => x + y) 1335 := (y_L_law_65 15).trans rfl
theorem n_L_law_1335 : nth t_L_law 1335 = aAldI 1336 := (y_L_law_65 16).trans rfl
theorem y_L_law_66 (n : Nat) : nth t_L_law (n + 1336) = nth t_L_law_c66 n := (y_L_law_65 (n + 17)).trans rfl
theorem n_L_law_1336 : nth t_L_law 1336 = aCalV 95 1 1339 [0] none := (y_L_law_66 0).trans rfl
theorem n_L_law_1339 : nth t_L_law 1339 = aLdA 2 1340 := (y_L_law_66 3).trans rfl
theorem n_L_law_1340 : nth t_L_law 1340 = aLdA 0 1341 := (y_L_law_66 4).trans rfl
theorem n_L_law_1341 : nth t_L_law 1341 = aLdI 4 1343 := (y_L_law_66 5).trans rfl
theorem n_L_law_1343 : nth t_L_law 1343 = aK (.int 1) 1344 := (y_L_law_66 7).trans rfl
theorem n_L_law_1344 : nth t_L_law 1344 = aB (fun x y => x + y) 1345 := (y_L_law_66 8).trans rfl
theorem n_L_law_1345 : nth t_L_law 1345 = aAldI 1346 := (y_L_law_66 9).trans rfl
theorem n_L_law_1346 : nth t_L_law 1346 = aCalV 247 1 1349 [6] none := (y_L_law_66 10).trans rfl
theorem n_L_law_1349 : nth t_L_law 1349 = aIcEq 1354 1352 := (y_L_law_66 13).trans rfl
theorem n_L_law_1352 : nth t_L_law 1352 = aK (.int 0) 1353 := (y_L_law_66 16).trans rfl
theorem n_L_law_1353 : nth t_L_law 1353 = aRetZ := (y_L_law_66 17).trans rfl
theorem n_L_law_1354 : nth t_L_law 1354 = aInc 4 6 1357 := (y_L_law_66 18).trans rfl
theorem y_L_law_67 (n : Nat) : nth t_L_law (n + 1357) = nth t_L_law_c67 n := (y_L_law_66 (n + 21)).trans rfl
theorem n_L_law_1357 : nth t_L_law 1357 = aGoto 23 := (y_L_law_67 0).trans rfl
theorem n_L_law_1360 : nth t_L_law 1360 = aK (.int 1) 1361 := (y_L_law_67 3).trans rfl
theorem n_L_law_1361 : nth t_L_law 1361 = aRetZ := (y_L_law_67 4).trans rfl

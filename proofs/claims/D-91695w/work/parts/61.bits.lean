/-! bits of ints and longs -/
theorem iand_nat {x y : Int} (hx : 0 ≤ x ∧ x < 2147483648) (hy : 0 ≤ y ∧ y < 2147483648) : iand x y = ((x.toNat &&& y.toNat : Nat) : Int) := by
  have ex : (BitVec.ofInt 32 x).toNat = x.toNat := by rw [BitVec.toNat_ofInt]; congr 1; exact Int.emod_eq_of_lt hx.1 (by omega)
  have ey : (BitVec.ofInt 32 y).toNat = y.toNat := by rw [BitVec.toNat_ofInt]; congr 1; exact Int.emod_eq_of_lt hy.1 (by omega)
  have e : ((BitVec.ofInt 32 x) &&& (BitVec.ofInt 32 y)).toNat = x.toNat &&& y.toNat := by rw [BitVec.toNat_and, ex, ey]
  have hl : x.toNat &&& y.toNat ≤ x.toNat := Nat.and_le_left
  unfold iand
  show ((Int32.ofInt x).toBitVec &&& (Int32.ofInt y).toBitVec).toInt = _
  rw [Int32.toBitVec_ofInt, Int32.toBitVec_ofInt, BitVec.toInt_eq_toNat_of_lt (by rw [e]; omega), e]
theorem ior_nat {x y : Int} (hx : 0 ≤ x ∧ x < 2147483648) (hy : 0 ≤ y ∧ y < 2147483648) : ior x y = ((x.toNat ||| y.toNat : Nat) : Int) := by
  have ex : (BitVec.ofInt 32 x).toNat = x.toNat := by rw [BitVec.toNat_ofInt]; congr 1; exact Int.emod_eq_of_lt hx.1 (by omega)
  have ey : (BitVec.ofInt 32 y).toNat = y.toNat := by rw [BitVec.toNat_ofInt]; congr 1; exact Int.emod_eq_of_lt hy.1 (by omega)
  have e : ((BitVec.ofInt 32 x) ||| (BitVec.ofInt 32 y)).toNat = x.toNat ||| y.toNat := by rw [BitVec.toNat_or, ex, ey]
  have hl : x.toNat ||| y.toNat < 2 ^ 31 := Nat.or_lt_two_pow (by omega) (by omega)
  unfold ior
  show ((Int32.ofInt x).toBitVec ||| (Int32.ofInt y).toBitVec).toInt = _
  rw [Int32.toBitVec_ofInt, Int32.toBitVec_ofInt, BitVec.toInt_eq_toNat_of_lt (by rw [e]; omega), e]
theorem land_nat {x y : Int} (hx : 0 ≤ x ∧ x < 9223372036854775808) (hy : 0 ≤ y ∧ y < 9223372036854775808) : land x y = ((x.toNat &&& y.toNat : Nat) : Int) := by
  have ex : (BitVec.ofInt 64 x).toNat = x.toNat := by rw [BitVec.toNat_ofInt]; congr 1; exact Int.emod_eq_of_lt hx.1 (by omega)
  have ey : (BitVec.ofInt 64 y).toNat = y.toNat := by rw [BitVec.toNat_ofInt]; congr 1; exact Int.emod_eq_of_lt hy.1 (by omega)
  have e : ((BitVec.ofInt 64 x) &&& (BitVec.ofInt 64 y)).toNat = x.toNat &&& y.toNat := by rw [BitVec.toNat_and, ex, ey]
  have hl : x.toNat &&& y.toNat ≤ x.toNat := Nat.and_le_left
  unfold land
  show ((Int64.ofInt x).toBitVec &&& (Int64.ofInt y).toBitVec).toInt = _
  rw [Int64.toBitVec_ofInt, Int64.toBitVec_ofInt, BitVec.toInt_eq_toNat_of_lt (by rw [e]; omega), e]
theorem lor_nat {x y : Int} (hx : 0 ≤ x ∧ x < 9223372036854775808) (hy : 0 ≤ y ∧ y < 9223372036854775808) : lor x y = ((x.toNat ||| y.toNat : Nat) : Int) := by
  have ex : (BitVec.ofInt 64 x).toNat = x.toNat := by rw [BitVec.toNat_ofInt]; congr 1; exact Int.emod_eq_of_lt hx.1 (by omega)
  have ey : (BitVec.ofInt 64 y).toNat = y.toNat := by rw [BitVec.toNat_ofInt]; congr 1; exact Int.emod_eq_of_lt hy.1 (by omega)
  have e : ((BitVec.ofInt 64 x) ||| (BitVec.ofInt 64 y)).toNat = x.toNat ||| y.toNat := by rw [BitVec.toNat_or, ex, ey]
  have hl : x.toNat ||| y.toNat < 2 ^ 63 := Nat.or_lt_two_pow (by omega) (by omega)
  unfold lor
  show ((Int64.ofInt x).toBitVec ||| (Int64.ofInt y).toBitVec).toInt = _
  rw [Int64.toBitVec_ofInt, Int64.toBitVec_ofInt, BitVec.toInt_eq_toNat_of_lt (by rw [e]; omega), e]
theorem amt32 : ∀ k : Fin 32, ((Int32.ofInt (k.val : Int) &&& 31).toBitVec.smod 32).toNat = k.val := by decide +kernel
theorem ishr_eq {x : Int} {k : Nat} (hx : -2147483648 ≤ x ∧ x < 2147483648) (hk : k < 32) : ishr x k = x / 2 ^ k := by
  unfold ishr
  show (Int32.ofInt x >>> (Int32.ofInt (k : Int) &&& 31)).toBitVec.toInt = _
  rw [Int32.toBitVec_shiftRight, BitVec.sshiftRight', amt32 ⟨k, hk⟩, BitVec.toInt_sshiftRight, Int.shiftRight_eq_div_pow]
  have : (Int32.ofInt x).toBitVec.toInt = x := ti hx
  rw [this]
  norm_cast
theorem ishl1 : ∀ k : Fin 31, ishl 1 (k.val : Int) = 2 ^ k.val := by decide +kernel
theorem lshl1 : ∀ k : Fin 63, lshl 1 (k.val : Int) = 2 ^ k.val := by decide +kernel
/-- how many steps 'the lowest bit off' takes -/
def bitsR : Nat → Int → Int
  | 0, _ => 0
  | n + 1, x => if x = 0 then 0 else 1 + bitsR n (land x (x - 1))
def bitsF (x : Int) : Int := bitsR x.toNat x
theorem land_lt {x : Int} (hx : 0 < x ∧ x < 9223372036854775808) : 0 ≤ land x (x - 1) ∧ land x (x - 1) < x := by
  rw [land_nat (by omega) (by omega)]
  have : x.toNat &&& (x - 1).toNat ≤ (x - 1).toNat := Nat.and_le_right
  omega
theorem bitsR_more : ∀ (n m : Nat) (x : Int), 0 ≤ x ∧ x < 9223372036854775808 → x.toNat ≤ n → n ≤ m → bitsR m x = bitsR n x := by
  intro n
  induction n with
  | zero =>
    intro m x hx h1 _
    have e : x = 0 := by omega
    cases m with
    | zero => rfl
    | succ m => unfold bitsR; rw [if_pos e]
  | succ n ih =>
    intro m x hx h1 h2
    cases m with
    | zero => omega
    | succ m =>
      unfold bitsR
      by_cases e : x = 0
      · rw [if_pos e, if_pos e]
      · have := land_lt (x := x) (by omega)
        rw [if_neg e, if_neg e, ih m _ (by omega) (by omega) (by omega)]
theorem bitsF_step {x : Int} (hx : 0 < x ∧ x < 9223372036854775808) : bitsF x = 1 + bitsF (land x (x - 1)) := by
  have := land_lt hx
  unfold bitsF
  rw [show x.toNat = (x.toNat - 1) + 1 by omega]
  show (if x = 0 then 0 else 1 + bitsR (x.toNat - 1) (land x (x - 1))) = _
  rw [if_neg (by omega), bitsR_more _ _ _ (by omega) (Nat.le_refl _) (by omega)]
theorem bitsF_R : ∀ (n : Nat) (x : Int), 0 ≤ x ∧ x < 9223372036854775808 → x.toNat ≤ n → 0 ≤ bitsF x ∧ bitsF x ≤ x := by
  intro n
  induction n with
  | zero => intro x hx h; have e : x = 0 := by omega
            subst e; exact ⟨Int.le_refl 0, Int.le_refl 0⟩
  | succ n ih =>
    intro x hx h
    by_cases e : x = 0
    · subst e; exact ⟨Int.le_refl 0, Int.le_refl 0⟩
    · have q := land_lt (x := x) (by omega)
      rw [bitsF_step (by omega)]
      have := ih (land x (x - 1)) (by omega) (by omega)
      omega
theorem bits7_ok {fi fl : HI} {cr : HR} {sh : HS} {nx sl d : Nat} {x : Int} (hx : 0 ≤ x ∧ x < 9223372036854775808) : CD mt (d + 1) 196 [lv x] (G fi fl cr sh nx sl) = some (.returned (some (iv (bitsF x))), G fi fl cr sh nx sl) := by
  have w : WC (CD mt (d + 1)) 196 [lv x] (G fi fl cr sh nx sl) (fun r => r = (.returned (some (iv (bitsF x))), G fi fl cr sh nx sl)) := by
    refine WE.cd mt_X7_bits rfl rfl ?_
    refine WE.to p_X7_bits_0 ?_
    refine loopK (fun k _ v => [lv x, nv, iv k, lv v, nv]) (fun _ _ v => v.toNat) (fun k f v => f = fi ∧ (0 ≤ v ∧ v < 9223372036854775808) ∧ k + bitsF v = bitsF x) ?_ 0 fi x ⟨rfl, hx, by omega⟩
    rintro k f v ⟨rfl, hv, hk⟩ ih
    by_cases e : v = 0
    · have e0 : bitsF v = 0 := by rw [e]; rfl
      exact WE.fin (p_X7_bits_4_E) (by rw [show k = bitsF x by omega])
    · have q := land_lt (x := v) (by omega)
      have b := bitsF_step (x := v) (by omega)
      exact WE.to (p_X7_bits_4_N) (ih (k + 1) f _ ⟨rfl, by omega, by omega⟩ (by omega))
  obtain ⟨r, a, b⟩ := w
  rw [a, b]

/-! THE INT VIEW: heaps given by functions to Int; one row for each instruction of the abstract machine -/
abbrev HI : Type := Nat → Int → Int
abbrev HR : Type := Nat → Int → Option Nat
abbrev HS : Type := Nat → Option (Nat × Nat)
abbrev iv (x : Int) : Value := .int (Int32.ofInt x)
abbrev lv (x : Int) : Value := .long (Int64.ofInt x)
def G (fi fl : HI) (cr : HR) (sh : HS) (nx sl : Nat) : AH := (fun a j => Int32.ofInt (fi a (j : Int)), fun a j => Int64.ofInt (fl a (j : Int)), fun a j => cr a (j : Int), sh, nx, sl)
def up {α : Type} (f : Nat → Int → α) (a : Nat) (i : Int) (v : α) : Nat → Int → α := fun b j => if b = a then (if j = i then v else f b j) else f b j
theorem up_same {α : Type} (f : Nat → Int → α) (a : Nat) (i : Int) (v : α) : up f a i v a i = v := by unfold up; rw [if_pos rfl, if_pos rfl]
theorem up_cell {α : Type} (f : Nat → Int → α) {a b : Nat} (h : b ≠ a) (i : Int) (v : α) : up f a i v b = f b := by funext j; unfold up; rw [if_neg h]
theorem up_at {α : Type} (f : Nat → Int → α) (a : Nat) {i j : Int} (h : j ≠ i) (v : α) : up f a i v a j = f a j := by unfold up; rw [if_pos rfl, if_neg h]
theorem up_in {α : Type} (f : Nat → Int → α) (a : Nat) (i j : Int) (v : α) : up f a i v a j = if j = i then v else f a j := by unfold up; rw [if_pos rfl]
theorem ti {x : Int} (h : -2147483648 ≤ x ∧ x < 2147483648) : (Int32.ofInt x).toInt = x := Int32.toInt_ofInt_of_le (by simpa using h.1) (by simpa using h.2)
theorem tl {x : Int} (h : -9223372036854775808 ≤ x ∧ x < 9223372036854775808) : (Int64.ofInt x).toInt = x := Int64.toInt_ofInt_of_le (by simpa using h.1) (by simpa using h.2)
theorem ilt {x y : Int} (hx : -2147483648 ≤ x ∧ x < 2147483648) (hy : -2147483648 ≤ y ∧ y < 2147483648) : Int32.ofInt x < Int32.ofInt y ↔ x < y := by rw [Int32.lt_iff_toInt_lt, ti hx, ti hy]
theorem ile {x y : Int} (hx : -2147483648 ≤ x ∧ x < 2147483648) (hy : -2147483648 ≤ y ∧ y < 2147483648) : Int32.ofInt x ≤ Int32.ofInt y ↔ x ≤ y := by rw [Int32.le_iff_toInt_le, ti hx, ti hy]
theorem ieq {x y : Int} (hx : -2147483648 ≤ x ∧ x < 2147483648) (hy : -2147483648 ≤ y ∧ y < 2147483648) : Int32.ofInt x = Int32.ofInt y ↔ x = y := by rw [← Int32.toInt_inj, ti hx, ti hy]
theorem i0 : (0 : Int32) = Int32.ofInt 0 := rfl
theorem tn {x : Int} (h0 : 0 ≤ x) (h : x < 2147483648) : ((Int32.ofInt x).toNatClampNeg : Int) = x := by
  show (((Int32.ofInt x).toInt.toNat : Nat) : Int) = x
  rw [ti ⟨by omega, h⟩]; omega
theorem inbG {x : Int} {n : Nat} (h0 : 0 ≤ x) (h1 : x < (n : Int)) (hn : n ≤ 2147483648) : inb (Int32.ofInt x) n = true := by
  unfold inb
  apply decide_eq_true
  rintro (h | h)
  · rw [i0, ilt ⟨by omega, by omega⟩ (by decide)] at h; omega
  · have := tn h0 (by omega); omega
theorem okG {ts : List Nat} {tg m : Nat} {o : Option (Nat × Nat)} (hs : o = some (tg, m)) (ht : ts.elem tg = true) : okT ts o = true := by subst hs; exact ht
theorem lenG {tg m : Nat} {o : Option (Nat × Nat)} (hs : o = some (tg, m)) : lenOf o = m := by subst hs; rfl
theorem isNewN {a : Nat} (h : 100 ≤ a) : isNew a = true := Nat.ble_eq.mpr h
theorem upG {α β : Type} (f : α → β) (fi : Nat → Int → α) (a k : Nat) (v : α) : upR (fun b (j : Nat) => f (fi b (j : Int))) a k (f v) = fun b (j : Nat) => f (up fi a (k : Int) v b (j : Int)) := by
  funext b j
  unfold upR up
  by_cases hb : b = a
  · rw [if_pos hb, if_pos hb]
    by_cases hj : j = k
    · rw [if_pos hj, if_pos (by rw [hj])]
    · rw [if_neg hj, if_neg (by omega)]
  · rw [if_neg hb, if_neg hb]
theorem setI_G (fi fl : HI) (cr : HR) (sh : HS) (nx sl a k : Nat) (v : Int) : setI (G fi fl cr sh nx sl) a k (Int32.ofInt v) = G (up fi a (k : Int) v) fl cr sh nx sl := by
  unfold setI G; simp only; rw [upG Int32.ofInt fi]
theorem setL_G (fi fl : HI) (cr : HR) (sh : HS) (nx sl a k : Nat) (v : Int) : setL (G fi fl cr sh nx sl) a k (Int64.ofInt v) = G fi (up fl a (k : Int) v) cr sh nx sl := by
  unfold setL G; simp only; rw [upG Int64.ofInt fl]
theorem setR_G (fi fl : HI) (cr : HR) (sh : HS) (nx sl a k : Nat) (v : Option Nat) : setR (G fi fl cr sh nx sl) a k v = G fi fl (up cr a (k : Int) v) sh nx sl := by
  unfold setR G; simp only; rw [upG (fun x : Option Nat => x) cr]
/-! bits, bytes, longs -/
def iand (x y : Int) : Int := (Int32.ofInt x &&& Int32.ofInt y).toInt
def ior (x y : Int) : Int := (Int32.ofInt x ||| Int32.ofInt y).toInt
def ixor (x y : Int) : Int := (Int32.ofInt x ^^^ Int32.ofInt y).toInt
def ishl (x y : Int) : Int := (Int32.ofInt x <<< (Int32.ofInt y &&& 31)).toInt
def ishr (x y : Int) : Int := (Int32.ofInt x >>> (Int32.ofInt y &&& 31)).toInt
def land (x y : Int) : Int := (Int64.ofInt x &&& Int64.ofInt y).toInt
def lor (x y : Int) : Int := (Int64.ofInt x ||| Int64.ofInt y).toInt
def lshl (x y : Int) : Int := (Int64.ofInt x <<< ((Int32.ofInt y).toInt64 &&& 63)).toInt
def lshr (x y : Int) : Int := (Int64.ofInt x >>> ((Int32.ofInt y).toInt64 &&& 63)).toInt
def sx8 (x : Int) : Int := (x + 128) % 256 - 128
def ux16 (x : Int) : Int := ((Int32.ofInt x).toUInt32 % 65536).toInt32.toInt
def iabs (x : Int) : Int := if 0 ≤ x then x else -x
def lcm (x y : Int) : Int := if y < x then 1 else if x = y then 0 else -1
theorem sx8_R (x : Int) : -128 ≤ sx8 x ∧ sx8 x < 128 := by unfold sx8; omega
theorem sx8_id {x : Int} (h : -128 ≤ x ∧ x < 128) : sx8 x = x := by unfold sx8; omega
theorem sx8_G (x : Int) : (Int32.ofInt x).toInt8.toInt32 = Int32.ofInt (sx8 x) := by
  rw [Int32.toInt8_ofInt]
  apply Int32.toInt.inj
  rw [Int8.toInt_toInt32, Int8.toInt_ofInt, ti (by have := sx8_R x; omega)]
  unfold sx8
  have h : Int8.size = 256 := rfl
  rw [h, Int.bmod_def]
  omega
theorem R_lcm (x y : Int) : -2147483648 ≤ lcm x y ∧ lcm x y < 2147483648 := by
  unfold lcm
  repeat' split
  all_goals omega
theorem lcm_ne {x y : Int} (h : x ≠ y) : lcm x y ≠ 0 := by
  unfold lcm
  repeat' split
  all_goals omega
theorem lcm_lt0 {x y : Int} : lcm x y < 0 ↔ x < y := by
  unfold lcm
  repeat' split
  all_goals omega
theorem lcm_le0 {x y : Int} : lcm x y ≤ 0 ↔ x ≤ y := by
  unfold lcm
  repeat' split
  all_goals omega
theorem lcm_G {x y : Int} (hx : -9223372036854775808 ≤ x ∧ x < 9223372036854775808) (hy : -9223372036854775808 ≤ y ∧ y < 9223372036854775808) : lg_cmp (Int64.ofInt x) (Int64.ofInt y) = Int32.ofInt (lcm x y) := by
  unfold lg_cmp lcm
  simp only [gt_iff_lt, Int64.lt_iff_toInt_lt, ← Int64.toInt_inj, tl hx, tl hy]
  split
  · rfl
  · split <;> rfl
section EST
variable {t : List Act} {C : CT} {pc q : Nat} {ls st : List Value} {g : AH} {fi fl : HI} {cr : HR} {sh : HS} {nx sl : Nat}
theorem e_K (hl : LinT t) {v : Value} (h : nth t pc = aK v q) : E t C pc ls st g = E t C q ls (v :: st) g := by rw [E_step hl, h]; rfl
theorem e_KI (hl : LinT t) {c : Int32} {z : Int} (h : nth t pc = aK (.int c) q) (hz : c = Int32.ofInt z) : E t C pc ls st g = E t C q ls (iv z :: st) g := by subst hz; exact e_K hl h
theorem e_KL (hl : LinT t) {c : Int64} {z : Int} (h : nth t pc = aK (.long c) q) (hz : c = Int64.ofInt z) : E t C pc ls st g = E t C q ls (lv z :: st) g := by subst hz; exact e_K hl h
theorem e_ldI (hl : LinT t) {i : Nat} {x : Int} (h : nth t pc = aLdI i q) (hx : ls[i]? = some (iv x)) : E t C pc ls st g = E t C q ls (iv x :: st) g := by rw [E_step hl, h]; simp only [aLdI, hx]
theorem e_ldL (hl : LinT t) {i : Nat} {x : Int} (h : nth t pc = aLdL i q) (hx : ls[i]? = some (lv x)) : E t C pc ls st g = E t C q ls (lv x :: st) g := by rw [E_step hl, h]; simp only [aLdL, hx]
theorem e_ldA (hl : LinT t) {i a : Nat} (h : nth t pc = aLdA i q) (hx : ls[i]? = some (.ref a)) : E t C pc ls st g = E t C q ls (.ref a :: st) g := by rw [E_step hl, h]; simp only [aLdA, hx]
theorem e_ldN (hl : LinT t) {i : Nat} (h : nth t pc = aLdA i q) (hx : ls[i]? = some .null) : E t C pc ls st g = E t C q ls (.null :: st) g := by rw [E_step hl, h]; simp only [aLdA, hx]
theorem e_stI (hl : LinT t) {i : Nat} {x : Int} (h : nth t pc = aStI i q) (hi : decide (i < ls.length) = true) {ls' : List Value} (hs : st1 ls i (iv x) = ls') : E t C pc ls (iv x :: st) g = E t C q ls' st g := by rw [E_step hl, h]; simp only [aStI, hi, cond_true, hs]
theorem e_stL (hl : LinT t) {i : Nat} {x : Int} (h : nth t pc = aStL i q) (hi : decide (i + 1 < ls.length) = true) {ls' : List Value} (hs : st2 ls i (lv x) = ls') : E t C pc ls (lv x :: st) g = E t C q ls' st g := by rw [E_step hl, h]; simp only [aStL, hi, cond_true, hs]
theorem e_stA (hl : LinT t) {i a : Nat} (h : nth t pc = aStA i q) (hi : decide (i < ls.length) = true) {ls' : List Value} (hs : st1 ls i (.ref a) = ls') : E t C pc ls (.ref a :: st) g = E t C q ls' st g := by rw [E_step hl, h]; simp only [aStA, hi, cond_true, hs]
theorem e_stN (hl : LinT t) {i : Nat} (h : nth t pc = aStA i q) (hi : decide (i < ls.length) = true) {ls' : List Value} (hs : st1 ls i .null = ls') : E t C pc ls (.null :: st) g = E t C q ls' st g := by rw [E_step hl, h]; simp only [aStA, hi, cond_true, hs]
theorem e_inc (hl : LinT t) {i : Nat} {c : Int32} {cz x z : Int} (h : nth t pc = aInc i c q) (hc : c = Int32.ofInt cz) (hz : x + cz = z) (hx : ls[i]? = some (iv x)) {ls' : List Value} (hs : st1 ls i (iv z) = ls') : E t C pc ls st g = E t C q ls' st g := by
  rw [E_step hl, h]; simp only [aInc, hx, hc, ← Int32.ofInt_add, hz, hs]
theorem e_add (hl : LinT t) {x y z : Int} (h : nth t pc = aB (fun x y => x + y) q) (hz : x + y = z) : E t C pc ls (iv y :: iv x :: st) g = E t C q ls (iv z :: st) g := by rw [E_step hl, h]; simp only [aB, ← Int32.ofInt_add, hz]
theorem e_sub (hl : LinT t) {x y z : Int} (h : nth t pc = aB (fun x y => x - y) q) (hz : x - y = z) : E t C pc ls (iv y :: iv x :: st) g = E t C q ls (iv z :: st) g := by rw [E_step hl, h]; simp only [aB, ← Int32.ofInt_sub, hz]
theorem e_mul (hl : LinT t) {x y z : Int} (h : nth t pc = aB (fun x y => x * y) q) (hz : x * y = z) : E t C pc ls (iv y :: iv x :: st) g = E t C q ls (iv z :: st) g := by rw [E_step hl, h]; simp only [aB, ← Int32.ofInt_mul, hz]
theorem e_iand (hl : LinT t) {x y : Int} (h : nth t pc = aB (fun x y => x &&& y) q) : E t C pc ls (iv y :: iv x :: st) g = E t C q ls (iv (iand x y) :: st) g := by rw [E_step hl, h]; simp only [aB, iand, iv, Int32.ofInt_toInt]
theorem e_ior (hl : LinT t) {x y : Int} (h : nth t pc = aB (fun x y => x ||| y) q) : E t C pc ls (iv y :: iv x :: st) g = E t C q ls (iv (ior x y) :: st) g := by rw [E_step hl, h]; simp only [aB, ior, iv, Int32.ofInt_toInt]
theorem e_ixor (hl : LinT t) {x y : Int} (h : nth t pc = aB (fun x y => x ^^^ y) q) : E t C pc ls (iv y :: iv x :: st) g = E t C q ls (iv (ixor x y) :: st) g := by rw [E_step hl, h]; simp only [aB, ixor, iv, Int32.ofInt_toInt]
theorem e_ishl (hl : LinT t) {x y : Int} (h : nth t pc = aB (fun x y => x <<< (y &&& 31)) q) : E t C pc ls (iv y :: iv x :: st) g = E t C q ls (iv (ishl x y) :: st) g := by rw [E_step hl, h]; simp only [aB, ishl, iv, Int32.ofInt_toInt]
theorem e_ishr (hl : LinT t) {x y : Int} (h : nth t pc = aB (fun x y => x >>> (y &&& 31)) q) : E t C pc ls (iv y :: iv x :: st) g = E t C q ls (iv (ishr x y) :: st) g := by rw [E_step hl, h]; simp only [aB, ishr, iv, Int32.ofInt_toInt]
theorem e_neg (hl : LinT t) {x z : Int} (h : nth t pc = aU (fun x => -x) q) (hz : -x = z) : E t C pc ls (iv x :: st) g = E t C q ls (iv z :: st) g := by rw [E_step hl, h]; simp only [aU, ← Int32.ofInt_neg, hz]
theorem e_i2b (hl : LinT t) {x : Int} (h : nth t pc = aU (fun x => x.toInt8.toInt32) q) : E t C pc ls (iv x :: st) g = E t C q ls (iv (sx8 x) :: st) g := by rw [E_step hl, h]; simp only [aU, sx8_G]
theorem e_i2c (hl : LinT t) {x : Int} (h : nth t pc = aU (fun x => (x.toUInt32 % 65536).toInt32) q) : E t C pc ls (iv x :: st) g = E t C q ls (iv (ux16 x) :: st) g := by rw [E_step hl, h]; simp only [aU, ux16, iv, Int32.ofInt_toInt]
theorem i_nz {y : Int} (hy : 0 < y ∧ y < 2147483648) : Int32.ofInt y ≠ 0 := by
  intro h; rw [i0, ieq ⟨by omega, hy.2⟩ (by decide)] at h; omega
theorem i_div {x y : Int} (hx : -2147483648 ≤ x ∧ x < 2147483648) (hy : 0 < y ∧ y < 2147483648) : Int32.ofInt x / Int32.ofInt y = Int32.ofInt (Int.tdiv x y) := by
  have e1 : Int32.minValue.toInt = -2147483648 := rfl
  have e2 : Int32.maxValue.toInt = 2147483647 := rfl
  rw [Int32.ofInt_tdiv] <;> omega
theorem i_rem {x y : Int} (hx : -2147483648 ≤ x ∧ x < 2147483648) (hy : 0 < y ∧ y < 2147483648) : Int32.ofInt x - Int32.ofInt x / Int32.ofInt y * Int32.ofInt y = Int32.ofInt (Int.tmod x y) := by
  rw [i_div hx hy, ← Int32.ofInt_mul, ← Int32.ofInt_sub]
  congr 1
  have := Int.tdiv_mul_add_tmod x y
  omega
theorem e_divT (hl : LinT t) {x y : Int} (h : nth t pc = aDiv q) (hx : -2147483648 ≤ x ∧ x < 2147483648) (hy : 0 < y ∧ y < 2147483648) : E t C pc ls (iv y :: iv x :: st) g = E t C q ls (iv (Int.tdiv x y) :: st) g := by
  rw [E_step hl, h]; simp only [aDiv, decide_eq_false (i_nz hy), cond_false, i_div hx hy]
theorem e_remT (hl : LinT t) {x y : Int} (h : nth t pc = aRem q) (hx : -2147483648 ≤ x ∧ x < 2147483648) (hy : 0 < y ∧ y < 2147483648) : E t C pc ls (iv y :: iv x :: st) g = E t C q ls (iv (Int.tmod x y) :: st) g := by
  rw [E_step hl, h]; simp only [aRem, decide_eq_false (i_nz hy), cond_false, i_rem hx hy]
theorem e_div (hl : LinT t) {x y : Int} (h : nth t pc = aDiv q) (hx : 0 ≤ x ∧ x < 2147483648) (hy : 0 < y ∧ y < 2147483648) : E t C pc ls (iv y :: iv x :: st) g = E t C q ls (iv (x / y) :: st) g := by
  rw [e_divT hl h ⟨by omega, hx.2⟩ hy, Int.tdiv_eq_ediv_of_nonneg hx.1]
theorem e_rem (hl : LinT t) {x y : Int} (h : nth t pc = aRem q) (hx : 0 ≤ x ∧ x < 2147483648) (hy : 0 < y ∧ y < 2147483648) : E t C pc ls (iv y :: iv x :: st) g = E t C q ls (iv (x % y) :: st) g := by
  rw [e_remT hl h ⟨by omega, hx.2⟩ hy, Int.tmod_eq_emod_of_nonneg hx.1]
theorem e_i2l (hl : LinT t) {x : Int} (h : nth t pc = aI2L q) (hx : -2147483648 ≤ x ∧ x < 2147483648) : E t C pc ls (iv x :: st) g = E t C q ls (lv x :: st) g := by
  have e : (Int32.ofInt x).toInt64 = Int64.ofInt x := Int32.toInt64_ofInt (show (-2147483648 : Int) ≤ x from hx.1) (show x ≤ (2147483647 : Int) from by omega)
  rw [E_step hl, h]; simp only [aI2L, e]
theorem e_lsub (hl : LinT t) {x y z : Int} (h : nth t pc = aLB (fun x y => x - y) q) (hz : x - y = z) : E t C pc ls (lv y :: lv x :: st) g = E t C q ls (lv z :: st) g := by rw [E_step hl, h]; simp only [aLB, ← Int64.ofInt_sub, hz]
theorem e_land (hl : LinT t) {x y : Int} (h : nth t pc = aLB (fun x y => x &&& y) q) : E t C pc ls (lv y :: lv x :: st) g = E t C q ls (lv (land x y) :: st) g := by rw [E_step hl, h]; simp only [aLB, land, lv, Int64.ofInt_toInt]
theorem e_lor (hl : LinT t) {x y : Int} (h : nth t pc = aLB (fun x y => x ||| y) q) : E t C pc ls (lv y :: lv x :: st) g = E t C q ls (lv (lor x y) :: st) g := by rw [E_step hl, h]; simp only [aLB, lor, lv, Int64.ofInt_toInt]
theorem e_lshl (hl : LinT t) {x y : Int} (h : nth t pc = aLS (fun x y => x <<< (y.toInt64 &&& 63)) q) : E t C pc ls (iv y :: lv x :: st) g = E t C q ls (lv (lshl x y) :: st) g := by rw [E_step hl, h]; simp only [aLS, lshl, lv, Int64.ofInt_toInt]
theorem e_lshr (hl : LinT t) {x y : Int} (h : nth t pc = aLS (fun x y => x >>> (y.toInt64 &&& 63)) q) : E t C pc ls (iv y :: lv x :: st) g = E t C q ls (lv (lshr x y) :: st) g := by rw [E_step hl, h]; simp only [aLS, lshr, lv, Int64.ofInt_toInt]
theorem e_lcmp (hl : LinT t) {x y : Int} (h : nth t pc = aLcmp q) (hx : -9223372036854775808 ≤ x ∧ x < 9223372036854775808) (hy : -9223372036854775808 ≤ y ∧ y < 9223372036854775808) : E t C pc ls (lv y :: lv x :: st) g = E t C q ls (iv (lcm x y) :: st) g := by
  rw [E_step hl, h]; simp only [aLcmp, lcm_G hx hy]
theorem e_lcmpE (hl : LinT t) {x y : Int} (h : nth t pc = aLcmp q) (hxy : x = y) : E t C pc ls (lv y :: lv x :: st) g = E t C q ls (iv 0 :: st) g := by
  subst hxy
  have e : lg_cmp (Int64.ofInt x) (Int64.ofInt x) = Int32.ofInt 0 := by unfold lg_cmp; rw [if_neg (by simp [Int64.lt_iff_toInt_lt]), if_pos rfl]; rfl
  rw [E_step hl, h]; simp only [aLcmp, e]
theorem e_goto (hl : LinT t) (h : nth t pc = aGoto q) : E t C pc ls st g = E t C q ls st g := by rw [E_step hl, h]; rfl
theorem e_IfEqT (hl : LinT t) {r : Nat} {x : Int} (h : nth t pc = aIfEq q r) (_ : -2147483648 ≤ x ∧ x < 2147483648) (hc : x = 0) : E t C pc ls (iv x :: st) g = E t C q ls st g := by subst hc; rw [E_step hl, h]; rfl
theorem e_IfEqF (hl : LinT t) {r : Nat} {x : Int} (h : nth t pc = aIfEq q r) (hx : -2147483648 ≤ x ∧ x < 2147483648) (hc : x ≠ 0) : E t C pc ls (iv x :: st) g = E t C r ls st g := by
  rw [E_step hl, h]; simp only [aIfEq, i0]; rw [if_neg (fun z => hc ((ieq hx (by decide)).mp z))]
theorem e_IfLtT (hl : LinT t) {r : Nat} {x : Int} (h : nth t pc = aIfLt q r) (hx : -2147483648 ≤ x ∧ x < 2147483648) (hc : x < 0) : E t C pc ls (iv x :: st) g = E t C q ls st g := by
  rw [E_step hl, h]; simp only [aIfLt, i0]; rw [if_pos ((ilt hx (by decide : -2147483648 ≤ (0 : Int) ∧ (0 : Int) < 2147483648)).mpr hc)]
theorem e_IfLtF (hl : LinT t) {r : Nat} {x : Int} (h : nth t pc = aIfLt q r) (hx : -2147483648 ≤ x ∧ x < 2147483648) (hc : 0 ≤ x) : E t C pc ls (iv x :: st) g = E t C r ls st g := by
  rw [E_step hl, h]; simp only [aIfLt, i0]; rw [if_neg (fun z => by have := (ilt hx (by decide : -2147483648 ≤ (0 : Int) ∧ (0 : Int) < 2147483648)).mp z; omega)]
theorem e_IfLeT (hl : LinT t) {r : Nat} {x : Int} (h : nth t pc = aIfLe q r) (hx : -2147483648 ≤ x ∧ x < 2147483648) (hc : x ≤ 0) : E t C pc ls (iv x :: st) g = E t C q ls st g := by
  rw [E_step hl, h]; simp only [aIfLe, i0]; rw [if_pos ((ile hx (by decide : -2147483648 ≤ (0 : Int) ∧ (0 : Int) < 2147483648)).mpr hc)]
theorem e_IfLeF (hl : LinT t) {r : Nat} {x : Int} (h : nth t pc = aIfLe q r) (hx : -2147483648 ≤ x ∧ x < 2147483648) (hc : 0 < x) : E t C pc ls (iv x :: st) g = E t C r ls st g := by
  rw [E_step hl, h]; simp only [aIfLe, i0]; rw [if_neg (fun z => by have := (ile hx (by decide : -2147483648 ≤ (0 : Int) ∧ (0 : Int) < 2147483648)).mp z; omega)]
theorem e_IcEqT (hl : LinT t) {r : Nat} {x y : Int} (h : nth t pc = aIcEq q r) (_ : -2147483648 ≤ x ∧ x < 2147483648) (_ : -2147483648 ≤ y ∧ y < 2147483648) (hc : x = y) : E t C pc ls (iv y :: iv x :: st) g = E t C q ls st g := by
  subst hc; rw [E_step hl, h]; simp only [aIcEq, if_true]
theorem e_IcEqF (hl : LinT t) {r : Nat} {x y : Int} (h : nth t pc = aIcEq q r) (hx : -2147483648 ≤ x ∧ x < 2147483648) (hy : -2147483648 ≤ y ∧ y < 2147483648) (hc : x ≠ y) : E t C pc ls (iv y :: iv x :: st) g = E t C r ls st g := by
  rw [E_step hl, h]; simp only [aIcEq]; rw [if_neg (fun z => hc ((ieq hx hy).mp z))]
theorem e_IcLtT (hl : LinT t) {r : Nat} {x y : Int} (h : nth t pc = aIcLt q r) (hx : -2147483648 ≤ x ∧ x < 2147483648) (hy : -2147483648 ≤ y ∧ y < 2147483648) (hc : x < y) : E t C pc ls (iv y :: iv x :: st) g = E t C q ls st g := by
  rw [E_step hl, h]; simp only [aIcLt]; rw [if_pos ((ilt hx hy).mpr hc)]
theorem e_IcLtF (hl : LinT t) {r : Nat} {x y : Int} (h : nth t pc = aIcLt q r) (hx : -2147483648 ≤ x ∧ x < 2147483648) (hy : -2147483648 ≤ y ∧ y < 2147483648) (hc : y ≤ x) : E t C pc ls (iv y :: iv x :: st) g = E t C r ls st g := by
  rw [E_step hl, h]; simp only [aIcLt]; rw [if_neg (fun z => by have := (ilt hx hy).mp z; omega)]
theorem e_IcLeT (hl : LinT t) {r : Nat} {x y : Int} (h : nth t pc = aIcLe q r) (hx : -2147483648 ≤ x ∧ x < 2147483648) (hy : -2147483648 ≤ y ∧ y < 2147483648) (hc : x ≤ y) : E t C pc ls (iv y :: iv x :: st) g = E t C q ls st g := by
  rw [E_step hl, h]; simp only [aIcLe]; rw [if_pos ((ile hx hy).mpr hc)]
theorem e_IcLeF (hl : LinT t) {r : Nat} {x y : Int} (h : nth t pc = aIcLe q r) (hx : -2147483648 ≤ x ∧ x < 2147483648) (hy : -2147483648 ≤ y ∧ y < 2147483648) (hc : y < x) : E t C pc ls (iv y :: iv x :: st) g = E t C r ls st g := by
  rw [E_step hl, h]; simp only [aIcLe]; rw [if_neg (fun z => by have := (ile hx hy).mp z; omega)]
theorem e_ifNT (hl : LinT t) {r : Nat} (h : nth t pc = aIfN q r) : E t C pc ls (.null :: st) g = E t C q ls st g := by rw [E_step hl, h]; rfl
theorem e_ifNF (hl : LinT t) {r a : Nat} (h : nth t pc = aIfN q r) : E t C pc ls (.ref a :: st) g = E t C r ls st g := by rw [E_step hl, h]; rfl
theorem sw_at {x : Int} : ∀ (ts : List Nat) (lo : Int) (k tt d : Nat) (f : Nat → Option (Outcome × AH)), 0 ≤ lo → lo + ts.length < 2147483648 → x = lo + k → ts[k]? = some tt → sw (Int32.ofInt x) (Int32.ofInt lo) ts d f = f tt := by
  intro ts
  induction ts with
  | nil => intro lo k tt d f _ _ _ h; cases h
  | cons a ts ih =>
    intro lo k tt d f h0 h1 hx hk
    simp only [List.length_cons] at h1
    have hkl : k < (a :: ts).length := (List.getElem?_eq_some_iff.mp hk).1
    simp only [List.length_cons] at hkl
    unfold sw
    cases k with
    | zero => rw [if_pos (by rw [hx]; simp)]; cases hk; rfl
    | succ k =>
      rw [if_neg (fun z => by have := (ieq (x := x) (y := lo) ⟨by omega, by omega⟩ ⟨by omega, by omega⟩).mp z; omega)]
      have e : Int32.ofInt lo + 1 = Int32.ofInt (lo + 1) := by rw [Int32.ofInt_add]; rfl
      rw [e]
      exact ih (lo + 1) k tt d f (by omega) (by omega) (by omega) (by simpa using hk)
theorem sw_df {x : Int} (hx : -2147483648 ≤ x ∧ x < 2147483648) : ∀ (ts : List Nat) (lo : Int) (d : Nat) (f : Nat → Option (Outcome × AH)), 0 ≤ lo → lo + ts.length < 2147483648 → (∀ j : Nat, j < ts.length → x ≠ lo + j) → sw (Int32.ofInt x) (Int32.ofInt lo) ts d f = f d := by
  intro ts
  induction ts with
  | nil => intro lo d f _ _ _; rfl
  | cons a ts ih =>
    intro lo d f h0 h1 hk
    simp only [List.length_cons] at h1 hk
    unfold sw
    rw [if_neg (fun z => by have := (ieq hx ⟨by omega, by omega⟩).mp z; have h2 := hk 0 (by omega); omega)]
    have e : Int32.ofInt lo + 1 = Int32.ofInt (lo + 1) := by rw [Int32.ofInt_add]; rfl
    rw [e]
    exact ih (lo + 1) d f (by omega) (by omega) (fun j hj => by have := hk (j + 1) (by omega); omega)
theorem e_swK (hl : LinT t) {ts : List Nat} {d k : Nat} {x : Int} (h : nth t pc = aSw 0 ts d) (hx : x = (k : Int)) (hn : decide (ts.length < 1000) = true) (hk : ts[k]? = some q) : E t C pc ls (iv x :: st) g = E t C q ls st g := by
  have := of_decide_eq_true hn
  rw [E_step hl, h]; simp only [aSw]; rw [i0, sw_at ts 0 k q d _ (by omega) (by omega) (by omega) hk]
theorem e_swD (hl : LinT t) {ts : List Nat} {x : Int} (h : nth t pc = aSw 0 ts q) (hx : -2147483648 ≤ x ∧ x < 2147483648) (hn : decide (ts.length < 1000) = true) (hk : ∀ j : Nat, j < ts.length → x ≠ (j : Int)) : E t C pc ls (iv x :: st) g = E t C q ls st g := by
  have := of_decide_eq_true hn
  rw [E_step hl, h]; simp only [aSw]; rw [i0, sw_df hx ts 0 q _ (by omega) (by omega) (fun j hj => by have := hk j hj; omega)]
theorem e_dupI (hl : LinT t) {x : Int} (h : nth t pc = aDup q) : E t C pc ls (iv x :: st) g = E t C q ls (iv x :: iv x :: st) g := by rw [E_step hl, h]; rfl
theorem e_dupR (hl : LinT t) {a : Nat} (h : nth t pc = aDup q) : E t C pc ls (.ref a :: st) g = E t C q ls (.ref a :: .ref a :: st) g := by rw [E_step hl, h]; rfl
theorem e_dupXR (hl : LinT t) {x : Int} {a : Nat} (h : nth t pc = aDupX1 q) : E t C pc ls (iv x :: .ref a :: st) g = E t C q ls (iv x :: .ref a :: iv x :: st) g := by rw [E_step hl, h]; rfl
theorem e_dupXI (hl : LinT t) {x y : Int} (h : nth t pc = aDupX1 q) : E t C pc ls (iv x :: iv y :: st) g = E t C q ls (iv x :: iv y :: iv x :: st) g := by rw [E_step hl, h]; rfl
theorem e_dup2 (hl : LinT t) {x : Int} {a : Nat} (h : nth t pc = aDup2 q) : E t C pc ls (iv x :: .ref a :: st) g = E t C q ls (iv x :: .ref a :: iv x :: .ref a :: st) g := by rw [E_step hl, h]; rfl
theorem e_dup2L (hl : LinT t) {x : Int} (h : nth t pc = aDup2 q) : E t C pc ls (lv x :: st) g = E t C q ls (lv x :: lv x :: st) g := by rw [E_step hl, h]; rfl
theorem e_popI (hl : LinT t) {x : Int} (h : nth t pc = aPop q) : E t C pc ls (iv x :: st) g = E t C q ls st g := by rw [E_step hl, h]; rfl
theorem e_popR (hl : LinT t) {a : Nat} (h : nth t pc = aPop q) : E t C pc ls (.ref a :: st) g = E t C q ls st g := by rw [E_step hl, h]; rfl
theorem e_popN (hl : LinT t) (h : nth t pc = aPop q) : E t C pc ls (.null :: st) g = E t C q ls st g := by rw [E_step hl, h]; rfl
/-! arrays -/
theorem e_aldI (hl : LinT t) {a n : Nat} {i v : Int} (h : nth t pc = aAldI q) (hs : sh a = some (100, n)) (h0 : 0 ≤ i) (h1 : i < (n : Int)) (hn : n ≤ 2147483648) (hv : fi a i = v) : E t C pc ls (iv i :: .ref a :: st) (G fi fl cr sh nx sl) = E t C q ls (iv v :: st) (G fi fl cr sh nx sl) := by
  rw [E_step hl, h]
  simp only [aAldI, G, okG hs (show [100].elem 100 = true from rfl), lenG hs, inbG h0 h1 hn, Bool.and_self, cond_true, tn h0 (show i < 2147483648 by omega), hv]
theorem e_aldB (hl : LinT t) {a n : Nat} {i v : Int} (h : nth t pc = aAldB q) (hs : sh a = some (101, n)) (h0 : 0 ≤ i) (h1 : i < (n : Int)) (hn : n ≤ 2147483648) (hv : fi a i = v) : E t C pc ls (iv i :: .ref a :: st) (G fi fl cr sh nx sl) = E t C q ls (iv v :: st) (G fi fl cr sh nx sl) := by
  rw [E_step hl, h]
  simp only [aAldB, G, okG hs (show [101, 102].elem 101 = true from rfl), lenG hs, inbG h0 h1 hn, Bool.and_self, cond_true, tn h0 (show i < 2147483648 by omega), hv]
theorem e_aldBZ (hl : LinT t) {a n : Nat} {i v : Int} (h : nth t pc = aAldB q) (hs : sh a = some (102, n)) (h0 : 0 ≤ i) (h1 : i < (n : Int)) (hn : n ≤ 2147483648) (hv : fi a i = v) : E t C pc ls (iv i :: .ref a :: st) (G fi fl cr sh nx sl) = E t C q ls (iv v :: st) (G fi fl cr sh nx sl) := by
  rw [E_step hl, h]
  simp only [aAldB, G, okG hs (show [101, 102].elem 102 = true from rfl), lenG hs, inbG h0 h1 hn, Bool.and_self, cond_true, tn h0 (show i < 2147483648 by omega), hv]
theorem e_aldL (hl : LinT t) {a n : Nat} {i v : Int} (h : nth t pc = aAldL q) (hs : sh a = some (103, n)) (h0 : 0 ≤ i) (h1 : i < (n : Int)) (hn : n ≤ 2147483648) (hv : fl a i = v) : E t C pc ls (iv i :: .ref a :: st) (G fi fl cr sh nx sl) = E t C q ls (lv v :: st) (G fi fl cr sh nx sl) := by
  rw [E_step hl, h]
  simp only [aAldL, G, okG hs (show [103].elem 103 = true from rfl), lenG hs, inbG h0 h1 hn, Bool.and_self, cond_true, tn h0 (show i < 2147483648 by omega), hv]
theorem aisG {tg m : Nat} {o : Option (Nat × Nat)} (hs : o = some (tg, m)) (ht : 110 ≤ tg) : aIsR o = true := by subst hs; exact Nat.ble_eq.mpr ht
theorem e_aldA (hl : LinT t) {a n tg r : Nat} {i : Int} (h : nth t pc = aAldA q) (hs : sh a = some (tg, n)) (ht : 110 ≤ tg) (h0 : 0 ≤ i) (h1 : i < (n : Int)) (hn : n ≤ 2147483648) (hv : cr a i = some r) : E t C pc ls (iv i :: .ref a :: st) (G fi fl cr sh nx sl) = E t C q ls (.ref r :: st) (G fi fl cr sh nx sl) := by
  rw [E_step hl, h]
  simp only [aAldA, G, aisG hs ht, lenG hs, inbG h0 h1 hn, Bool.and_self, cond_true, tn h0 (show i < 2147483648 by omega), hv, va_rf]
theorem e_aldN (hl : LinT t) {a n tg : Nat} {i : Int} (h : nth t pc = aAldA q) (hs : sh a = some (tg, n)) (ht : 110 ≤ tg) (h0 : 0 ≤ i) (h1 : i < (n : Int)) (hn : n ≤ 2147483648) (hv : cr a i = none) : E t C pc ls (iv i :: .ref a :: st) (G fi fl cr sh nx sl) = E t C q ls (.null :: st) (G fi fl cr sh nx sl) := by
  rw [E_step hl, h]
  simp only [aAldA, G, aisG hs ht, lenG hs, inbG h0 h1 hn, Bool.and_self, cond_true, tn h0 (show i < 2147483648 by omega), hv, va_rf]
theorem e_astI (hl : LinT t) {a n : Nat} {i x : Int} (h : nth t pc = aAstI q) (hw : isNew a = true) (hs : sh a = some (100, n)) (h0 : 0 ≤ i) (h1 : i < (n : Int)) (hn : n ≤ 2147483648) : E t C pc ls (iv x :: iv i :: .ref a :: st) (G fi fl cr sh nx sl) = E t C q ls st (G (up fi a i x) fl cr sh nx sl) := by
  have e : (G fi fl cr sh nx sl).2.2.2.1 = sh := rfl
  rw [E_step hl, h]
  simp only [aAstI, e, hw, okG hs (show [100].elem 100 = true from rfl), lenG hs, inbG h0 h1 hn, Bool.and_self, cond_true, setI_G, tn h0 (show i < 2147483648 by omega)]
theorem e_astB (hl : LinT t) {a n : Nat} {i x : Int} (h : nth t pc = aAstB q) (hw : isNew a = true) (hs : sh a = some (101, n)) (h0 : 0 ≤ i) (h1 : i < (n : Int)) (hn : n ≤ 2147483648) (hx : -128 ≤ x ∧ x < 128) : E t C pc ls (iv x :: iv i :: .ref a :: st) (G fi fl cr sh nx sl) = E t C q ls st (G (up fi a i x) fl cr sh nx sl) := by
  have e : (G fi fl cr sh nx sl).2.2.2.1 = sh := rfl
  rw [E_step hl, h]
  simp only [aAstB, e, hw, okG hs (show [101].elem 101 = true from rfl), lenG hs, inbG h0 h1 hn, Bool.and_self, cond_true, sx8_G, sx8_id hx, setI_G, tn h0 (show i < 2147483648 by omega)]
theorem e_astZ (hl : LinT t) {a n : Nat} {i x : Int} (h : nth t pc = aAstB q) (hw : isNew a = true) (hs : sh a = some (102, n)) (h0 : 0 ≤ i) (h1 : i < (n : Int)) (hn : n ≤ 2147483648) (hx : x = 0 ∨ x = 1) : E t C pc ls (iv x :: iv i :: .ref a :: st) (G fi fl cr sh nx sl) = E t C q ls st (G (up fi a i x) fl cr sh nx sl) := by
  have e : (G fi fl cr sh nx sl).2.2.2.1 = sh := rfl
  have e2 : okT [101] (sh a) = false := by rw [hs]; rfl
  have e3 : decide (Int32.ofInt x = 0 ∨ Int32.ofInt x = 1) = true := by rcases hx with hx | hx <;> subst hx <;> rfl
  rw [E_step hl, h]
  simp only [aAstB, e, hw, e2, e3, okG hs (show [102].elem 102 = true from rfl), lenG hs, inbG h0 h1 hn, Bool.and_self, Bool.and_false, Bool.false_and, cond_true, cond_false, setI_G, tn h0 (show i < 2147483648 by omega)]
theorem e_astL (hl : LinT t) {a n : Nat} {i x : Int} (h : nth t pc = aAstL q) (hw : isNew a = true) (hs : sh a = some (103, n)) (h0 : 0 ≤ i) (h1 : i < (n : Int)) (hn : n ≤ 2147483648) : E t C pc ls (lv x :: iv i :: .ref a :: st) (G fi fl cr sh nx sl) = E t C q ls st (G fi (up fl a i x) cr sh nx sl) := by
  have e : (G fi fl cr sh nx sl).2.2.2.1 = sh := rfl
  rw [E_step hl, h]
  simp only [aAstL, e, hw, okG hs (show [103].elem 103 = true from rfl), lenG hs, inbG h0 h1 hn, Bool.and_self, cond_true, setL_G, tn h0 (show i < 2147483648 by omega)]
theorem e_len (hl : LinT t) {a n tg : Nat} (h : nth t pc = aLen q) (hs : sh a = some (tg, n)) (ht : ([100, 101, 102, 103].elem tg || Nat.ble 110 tg) = true) : E t C pc ls (.ref a :: st) (G fi fl cr sh nx sl) = E t C q ls (iv (n : Int) :: st) (G fi fl cr sh nx sl) := by
  have e : (okT [100, 101, 102, 103] (sh a) || aIsR (sh a)) = true := by rw [hs]; exact ht
  rw [E_step hl, h]
  simp only [aLen, G, e, lenG hs, cond_true]
  rfl
/-! fields -/
theorem e_getI (hl : LinT t) {a m tg kf : Nat} {ts : List Nat} {j v : Int} (h : nth t pc = aGetI kf ts q) (hs : sh a = some (tg, m)) (ht : ts.elem tg = true) (hj : (kf : Int) = j) (hv : fi a j = v) : E t C pc ls (.ref a :: st) (G fi fl cr sh nx sl) = E t C q ls (iv v :: st) (G fi fl cr sh nx sl) := by
  rw [E_step hl, h]; simp only [aGetI, G, okG hs ht, cond_true, hj, hv]
theorem e_getS (hl : LinT t) {a m kf : Nat} {j v : Int} (h : nth t pc = aGetS kf q) (hs : sh a = some (50, m)) (hj : (kf : Int) = j) (hv : fi a j = v) : E t C pc ls (.ref a :: st) (G fi fl cr sh nx sl) = E t C q ls (iv v :: st) (G fi fl cr sh nx sl) := by
  rw [E_step hl, h]; simp only [aGetS, G, okG hs (show [50].elem 50 = true from rfl), cond_true, hj, hv]
theorem e_getL (hl : LinT t) {a m tg kf : Nat} {ts : List Nat} {j v : Int} (h : nth t pc = aGetL kf ts q) (hs : sh a = some (tg, m)) (ht : ts.elem tg = true) (hj : (kf : Int) = j) (hv : fl a j = v) : E t C pc ls (.ref a :: st) (G fi fl cr sh nx sl) = E t C q ls (lv v :: st) (G fi fl cr sh nx sl) := by
  rw [E_step hl, h]; simp only [aGetL, G, okG hs ht, cond_true, hj, hv]
theorem e_getR (hl : LinT t) {a m tg kf r : Nat} {ts : List Nat} {j : Int} (h : nth t pc = aGetR kf ts q) (hs : sh a = some (tg, m)) (ht : ts.elem tg = true) (hj : (kf : Int) = j) (hv : cr a j = some r) : E t C pc ls (.ref a :: st) (G fi fl cr sh nx sl) = E t C q ls (.ref r :: st) (G fi fl cr sh nx sl) := by
  rw [E_step hl, h]; simp only [aGetR, G, okG hs ht, cond_true, hj, hv, va_rf]
theorem e_getRN (hl : LinT t) {a m tg kf : Nat} {ts : List Nat} {j : Int} (h : nth t pc = aGetR kf ts q) (hs : sh a = some (tg, m)) (ht : ts.elem tg = true) (hj : (kf : Int) = j) (hv : cr a j = none) : E t C pc ls (.ref a :: st) (G fi fl cr sh nx sl) = E t C q ls (.null :: st) (G fi fl cr sh nx sl) := by
  rw [E_step hl, h]; simp only [aGetR, G, okG hs ht, cond_true, hj, hv, va_rf]
theorem e_putI (hl : LinT t) {a m tg kf : Nat} {ts : List Nat} {j x : Int} (h : nth t pc = aPutI kf ts q) (hw : isNew a = true) (hs : sh a = some (tg, m)) (ht : ts.elem tg = true) (hj : (kf : Int) = j) : E t C pc ls (iv x :: .ref a :: st) (G fi fl cr sh nx sl) = E t C q ls st (G (up fi a j x) fl cr sh nx sl) := by
  have e : (G fi fl cr sh nx sl).2.2.2.1 = sh := rfl
  rw [E_step hl, h]; simp only [aPutI, e, hw, okG hs ht, Bool.and_self, cond_true, setI_G, hj]
theorem e_putZ (hl : LinT t) {a m tg kf : Nat} {ts : List Nat} {j x : Int} (h : nth t pc = aPutZ kf ts q) (hw : isNew a = true) (hs : sh a = some (tg, m)) (ht : ts.elem tg = true) (hj : (kf : Int) = j) (hx : x = 0 ∨ x = 1) : E t C pc ls (iv x :: .ref a :: st) (G fi fl cr sh nx sl) = E t C q ls st (G (up fi a j x) fl cr sh nx sl) := by
  have e : (G fi fl cr sh nx sl).2.2.2.1 = sh := rfl
  have e3 : decide (Int32.ofInt x = 0 ∨ Int32.ofInt x = 1) = true := by rcases hx with hx | hx <;> subst hx <;> rfl
  rw [E_step hl, h]; simp only [aPutZ, e, e3, hw, okG hs ht, Bool.and_self, cond_true, setI_G, hj]
theorem e_putL (hl : LinT t) {a m tg kf : Nat} {ts : List Nat} {j x : Int} (h : nth t pc = aPutL kf ts q) (hw : isNew a = true) (hs : sh a = some (tg, m)) (ht : ts.elem tg = true) (hj : (kf : Int) = j) : E t C pc ls (lv x :: .ref a :: st) (G fi fl cr sh nx sl) = E t C q ls st (G fi (up fl a j x) cr sh nx sl) := by
  have e : (G fi fl cr sh nx sl).2.2.2.1 = sh := rfl
  rw [E_step hl, h]; simp only [aPutL, e, hw, okG hs ht, Bool.and_self, cond_true, setL_G, hj]
theorem e_putR (hl : LinT t) {a m tg kf r : Nat} {ts : List Nat} {j : Int} (h : nth t pc = aPutR kf ts q) (hw : isNew a = true) (hs : sh a = some (tg, m)) (ht : ts.elem tg = true) (hj : (kf : Int) = j) : E t C pc ls (.ref r :: .ref a :: st) (G fi fl cr sh nx sl) = E t C q ls st (G fi fl (up cr a j (some r)) sh nx sl) := by
  have e : (G fi fl cr sh nx sl).2.2.2.1 = sh := rfl
  rw [E_step hl, h]; simp only [aPutR, e, hw, okG hs ht, Bool.and_self, cond_true, setR_G, hj]
/-! Math -/
theorem e_max (hl : LinT t) {x y : Int} (h : nth t pc = aMax q) (hw : Nat.ble (wgt st) 100 = true) (hx : -2147483648 ≤ x ∧ x < 2147483648) (hy : -2147483648 ≤ y ∧ y < 2147483648) : E t C pc ls (iv y :: iv x :: st) g = E t C q ls (iv (max x y) :: st) g := by
  have e : (if Int32.ofInt x < Int32.ofInt y then Int32.ofInt y else Int32.ofInt x) = Int32.ofInt (max x y) := by
    by_cases z : x < y
    · rw [if_pos ((ilt hx hy).mpr z), Int.max_eq_right (by omega)]
    · rw [if_neg (fun w => z ((ilt hx hy).mp w)), Int.max_eq_left (by omega)]
  rw [E_step hl, h]; simp only [aMax, hw, cond_true, e]
theorem e_min (hl : LinT t) {x y : Int} (h : nth t pc = aMin q) (hw : Nat.ble (wgt st) 100 = true) (hx : -2147483648 ≤ x ∧ x < 2147483648) (hy : -2147483648 ≤ y ∧ y < 2147483648) : E t C pc ls (iv y :: iv x :: st) g = E t C q ls (iv (min x y) :: st) g := by
  have e : (if Int32.ofInt y < Int32.ofInt x then Int32.ofInt y else Int32.ofInt x) = Int32.ofInt (min x y) := by
    by_cases z : y < x
    · rw [if_pos ((ilt hy hx).mpr z), Int.min_eq_right (by omega)]
    · rw [if_neg (fun w => z ((ilt hy hx).mp w)), Int.min_eq_left (by omega)]
  rw [E_step hl, h]; simp only [aMin, hw, cond_true, e]
theorem e_abs (hl : LinT t) {x : Int} (h : nth t pc = aAbs q) (hw : Nat.ble (wgt st) 100 = true) (hx : -2147483648 ≤ x ∧ x < 2147483648) : E t C pc ls (iv x :: st) g = E t C q ls (iv (iabs x) :: st) g := by
  have e : (if 0 ≤ Int32.ofInt x then Int32.ofInt x else 0 - Int32.ofInt x) = Int32.ofInt (iabs x) := by
    unfold iabs
    rw [i0]
    by_cases z : 0 ≤ x
    · rw [if_pos ((ile (by decide : -2147483648 ≤ (0 : Int) ∧ (0 : Int) < 2147483648) hx).mpr z), if_pos z]
    · rw [if_neg (fun w => z ((ile (by decide : -2147483648 ≤ (0 : Int) ∧ (0 : Int) < 2147483648) hx).mp w)), if_neg z, ← Int32.ofInt_sub]
      congr 1
      omega
  rw [E_step hl, h]; simp only [aAbs, hw, cond_true, e]
/-! calls, ends -/
theorem e_calS (hl : LinT t) {y n : Nat} {hp : Option (Nat × Nat)} {as r : List Value} {v : Value} {g' : AH} (h : nth t pc = aCalS y n q hp) (hn : popN n [] st = some (as, r)) (hw : Nat.ble (wgt r) 8 = true) (hc : C y as g = some (.returned (some v), g')) : E t C pc ls st g = E t C q ls (v :: r) g' := by
  rw [E_step hl, h]; simp only [aCalS, hn, hw, cond_true, hc, fin, Option.toList, List.cons_append, List.nil_append]
theorem e_calSV (hl : LinT t) {y n : Nat} {hp : Option (Nat × Nat)} {as r : List Value} {g' : AH} (h : nth t pc = aCalS y n q hp) (hn : popN n [] st = some (as, r)) (hw : Nat.ble (wgt r) 8 = true) (hc : C y as g = some (.returned none, g')) : E t C pc ls st g = E t C q ls r g' := by
  rw [E_step hl, h]; simp only [aCalS, hn, hw, cond_true, hc, fin, Option.toList, List.nil_append]
theorem e_calV (hl : LinT t) {y n a tg m : Nat} {ts : List Nat} {hp : Option (Nat × Nat)} {as r : List Value} {v : Value} {g' : AH} (h : nth t pc = aCalV y n q ts hp) (hn : popN n [] st = some (as, .ref a :: r)) (hs : g.2.2.2.1 a = some (tg, m)) (ht : ts.elem tg = true) (hw : Nat.ble (wgt r) 8 = true) (hc : C y (.ref a :: as) g = some (.returned (some v), g')) : E t C pc ls st g = E t C q ls (v :: r) g' := by
  rw [E_step hl, h]; simp only [aCalV, hn, hw, okG hs ht, Bool.and_self, cond_true, hc, fin, Option.toList, List.cons_append, List.nil_append]
theorem e_calVV (hl : LinT t) {y n a tg m : Nat} {ts : List Nat} {hp : Option (Nat × Nat)} {as r : List Value} {g' : AH} (h : nth t pc = aCalV y n q ts hp) (hn : popN n [] st = some (as, .ref a :: r)) (hs : g.2.2.2.1 a = some (tg, m)) (ht : ts.elem tg = true) (hw : Nat.ble (wgt r) 8 = true) (hc : C y (.ref a :: as) g = some (.returned none, g')) : E t C pc ls st g = E t C q ls r g' := by
  rw [E_step hl, h]; simp only [aCalV, hn, hw, okG hs ht, Bool.and_self, cond_true, hc, fin, Option.toList, List.nil_append]
theorem e_retV (hl : LinT t) (h : nth t pc = aRetV) : E t C pc ls st g = some (.returned none, g) := by rw [E_step hl, h]; rfl
theorem e_retI (hl : LinT t) {x : Int} (h : nth t pc = aRetI) : E t C pc ls [iv x] g = some (.returned (some (iv x)), g) := by rw [E_step hl, h]; rfl
theorem e_retZ (hl : LinT t) {x : Int} (h : nth t pc = aRetZ) (hx : x = 0 ∨ x = 1) : E t C pc ls [iv x] g = some (.returned (some (iv x)), g) := by
  rw [E_step hl, h]; rcases hx with hx | hx <;> subst hx <;> rfl
theorem e_retA (hl : LinT t) {a : Nat} (h : nth t pc = aRetA) : E t C pc ls [.ref a] g = some (.returned (some (.ref a)), g) := by rw [E_step hl, h]; rfl
theorem e_retN (hl : LinT t) (h : nth t pc = aRetA) : E t C pc ls [.null] g = some (.returned (some .null), g) := by rw [E_step hl, h]; rfl
end EST
/-- a local that is no half of a long -/
def nw (v : Value) : Prop := (∀ x, v ≠ .long x) ∧ ∀ x, v ≠ .double x
theorem nw_nv : nw nv := ⟨fun x h => (by cases h), fun x h => (by cases h)⟩
theorem nw_iv (x : Int) : nw (iv x) := ⟨fun x h => (by cases h), fun x h => (by cases h)⟩
theorem nw_ref (a : Nat) : nw (.ref a) := ⟨fun x h => (by cases h), fun x h => (by cases h)⟩
theorem nw_null : nw .null := ⟨fun x h => (by cases h), fun x h => (by cases h)⟩
theorem st1_nw {ls ls' : List Value} {j : Nat} {u v : Value} (hu : nw u) (h1 : ls[j]? = some u) (h2 : ls.set (j + 1) v = ls') : st1 ls (j + 1) v = ls' := by
  show (match ls[j]? with
    | some (.long _) => ls.set j nv
    | some (.double _) => ls.set j nv
    | _ => ls).set (j + 1) v = ls'
  rw [h1]
  cases u with
  | long x => exact absurd rfl (hu.1 x)
  | double x => exact absurd rfl (hu.2 x)
  | _ => exact h2
/-- a method's start -/
theorem CD_at {y nL : Nat} {tab : List Act} {args ls : List Value} (d : Nat) (g : AH) (h : mt[y]? = some (tab, nL)) (ha : argsOk nL args = true) (hls : padTo nL (spread args) = ls) : CD mt (d + 1) y args g = E tab (CD mt d) 0 ls [] g := by
  show (match mt[y]? with
    | some (tab, nL) => bif argsOk nL args then E tab (CD mt d) 0 (padTo nL (spread args)) [] g else none
    | none => none) = _
  rw [h]; simp only [ha, cond_true, hls]

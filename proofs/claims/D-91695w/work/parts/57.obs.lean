/-! what of the reference's cells is seen from call to call; decks; lists -/
/-- scratch: not seen from call to call -/
def Sc (b : Nat) (j : Int) : Prop := (b = 574 ∧ (j = 0 ∨ j = 3 ∨ j = 4 ∨ (7 ≤ j ∧ j ≤ 9) ∨ (11 ≤ j ∧ j ≤ 14) ∨ (20 ≤ j ∧ j ≤ 22) ∨ (41 ≤ j ∧ j ≤ 43) ∨ j = 55 ∨ (79 ≤ j ∧ j ≤ 81) ∨ j = 85)) ∨ b = 581 ∨ (583 ≤ b ∧ b ≤ 589) ∨ b = 601 ∨ b = 602 ∨ (605 ≤ b ∧ b ≤ 607) ∨ (620 ≤ b ∧ b ≤ 629) ∨ b = 631 ∨ b = 633 ∨ (b = 578 ∧ 60 ≤ j ∧ j < 120) ∨ (b = 579 ∧ 60 ≤ j ∧ j < 120) ∨ (b = 580 ∧ j = 1) ∨ (b = 611 ∧ j = 1) ∨ (b = 612 ∧ 6 ≤ j) ∨ (b = 613 ∧ 6 ≤ j) ∨ (b = 614 ∧ 3 ≤ j) ∨ (b = 615 ∧ j = 1) ∨ (616 ≤ b ∧ b ≤ 619 ∧ 8 ≤ j) ∨ (b = 593 ∧ ¬ (720 ≤ j ∧ j < 1440)) ∨ (b = 594 ∧ ¬ (4 ≤ j ∧ j < 8)) ∨ (b = 595 ∧ ¬ (800 ≤ j ∧ j < 1600)) ∨ (590 ≤ b ∧ b ≤ 592 ∧ j ≠ 1) ∨ (596 ≤ b ∧ b ≤ 600 ∧ j ≠ 1)
def Eo (fi f : HI) : Prop := ∀ b j, ¬ Sc b j → f b j = fi b j
theorem Eo.rfl' (fi : HI) : Eo fi fi := fun _ _ _ => rfl
theorem Eo.trans {a b c : HI} (h : Eo a b) (h' : Eo b c) : Eo a c := fun x j hj => (h' x j hj).trans (h x j hj)
theorem Eo.symm {a b : HI} (h : Eo a b) : Eo b a := fun x j hj => (h x j hj).symm
theorem eo_up {fi : HI} {b : Nat} {j v : Int} (h : Sc b j) : Eo fi (up fi b j v) := fun x i hi => by
  by_cases e : x = b
  · subst e
    exact up_at _ _ (fun z => hi (by rw [z]; exact h)) _
  · rw [up_cell _ e]
theorem eo_ups {fi f : HI} (h : Eo fi f) {b : Nat} {j v : Int} : Eo (up fi b j v) (up f b j v) := fun x i hi => by
  unfold up; rw [h x i hi]
theorem eo_run {fi f : HI} (h : RunFr fi f) : Eo fi f := fun b j hj => by
  unfold Sc at hj
  by_cases q : b < 584 ∨ 600 < b
  · rw [h.lo q]
  · by_cases q2 : b ≤ 589
    · exact absurd (Or.inr (Or.inr (Or.inl ⟨by omega, q2⟩))) hj
    · refine h.2 b j (by omega) ?_
      split
      · omega
      · split
        · omega
        · split <;> omega
theorem eo_pl {room : Int} {fi f : HI} (h : PlFr room fi f) : Eo fi f := (eo_up (by unfold Sc; omega)).trans (eo_run h)
/-- a list at the beginning of a cell -/
def stL (f : HI) (a : Nat) (l : List Int) : HI := blk f a 0 (l.length : Int) (fun i => l.getD i.toNat 0)
theorem stL_cell {f : HI} {a b : Nat} {l : List Int} (h : b ≠ a) : stL f a l b = f b := blk_cell h
theorem stL_nil (f : HI) (a : Nat) : stL f a [] = f := blk_nil (by decide)
theorem stL_snoc {f : HI} {a : Nat} {l : List Int} {i x : Int} (hi : i = (l.length : Int)) : up (stL f a l) a i x = stL f a (l ++ [x]) := by
  subst hi
  funext b j
  unfold stL up blk
  by_cases hb : b = a
  · rw [if_pos hb, if_pos hb, if_pos hb, List.length_append]
    by_cases hj : j = (l.length : Int)
    · rw [if_pos hj, if_pos (by simp only [List.length_cons, List.length_nil]; omega)]
      show x = (l ++ [x]).getD (j - 0).toNat 0
      rw [List.getD_eq_getElem?_getD, List.getElem?_append_right (by omega)]
      rw [show (j - 0).toNat - l.length = 0 by omega]; rfl
    · rw [if_neg hj]
      by_cases hk : 0 ≤ j ∧ j < 0 + (l.length : Int)
      · rw [if_pos hk, if_pos (by simp only [List.length_cons, List.length_nil]; omega)]
        show l.getD (j - 0).toNat 0 = (l ++ [x]).getD (j - 0).toNat 0
        rw [List.getD_eq_getElem?_getD, List.getD_eq_getElem?_getD, List.getElem?_append_left (by omega)]
      · rw [if_neg hk, if_neg (by simp only [List.length_cons, List.length_nil]; omega)]
  · rw [if_neg hb, if_neg hb, if_neg hb]
theorem eo_stL {fi f : HI} (h : Eo fi f) {a : Nat} {l : List Int} : Eo (stL fi a l) (stL f a l) := fun x i hi => by
  unfold stL blk; rw [h x i hi]
/-- those below n that are so -/
noncomputable def fdl (P : Int → Prop) : Nat → List Int
  | 0 => []
  | n + 1 => fdl P n ++ @ite _ (P (n : Int)) (Classical.propDecidable _) [(n : Int)] []
theorem fdl_yes {P : Int → Prop} {n : Nat} (h : P (n : Int)) : fdl P (n + 1) = fdl P n ++ [(n : Int)] := by show fdl P n ++ @ite _ (P (n : Int)) (Classical.propDecidable _) [(n : Int)] [] = _; rw [if_pos h]
theorem fdl_no {P : Int → Prop} {n : Nat} (h : ¬ P (n : Int)) : fdl P (n + 1) = fdl P n := by show fdl P n ++ @ite _ (P (n : Int)) (Classical.propDecidable _) [(n : Int)] [] = _; rw [if_neg h, List.append_nil]
theorem fdl_len {P : Int → Prop} : ∀ n : Nat, (fdl P n).length ≤ n := by
  intro n
  induction n with
  | zero => exact Nat.le_refl 0
  | succ n ih =>
    by_cases h : P (n : Int)
    · rw [fdl_yes h, List.length_append]; simp only [List.length_cons, List.length_nil]; omega
    · rw [fdl_no h]; omega
theorem fdl_congr {P P' : Int → Prop} : ∀ n : Nat, (∀ k : Int, 0 ≤ k ∧ k < n → (P k ↔ P' k)) → fdl P n = fdl P' n := by
  intro n
  induction n with
  | zero => intro _; rfl
  | succ n ih =>
    intro h
    have e := ih (fun k hk => h k (by omega))
    have q := h (n : Int) (by omega)
    by_cases z : P (n : Int)
    · rw [fdl_yes z, fdl_yes (q.mp z), e]
    · rw [fdl_no z, fdl_no (fun w => z (q.mpr w)), e]
/-- bytes -/
theorem iand_mask (x : Int) (k : Nat) (hk : k < 31) : iand x (2 ^ k - 1) = x % 2 ^ k := by
  have hpn : 0 < 2 ^ k := Nat.two_pow_pos k
  have hp31 : 2 ^ k < 2 ^ 31 := Nat.pow_lt_pow_right (by omega) hk
  have hp : (2 ^ k : Int) = ((2 ^ k : Nat) : Int) := by norm_cast
  have e2 : (BitVec.ofInt 32 (2 ^ k - 1 : Int)).toNat = 2 ^ k - 1 := by
    rw [BitVec.toNat_ofInt, hp]
    have : ((2 ^ k : Nat) : Int) - 1 = ((2 ^ k - 1 : Nat) : Int) := by omega
    rw [this]
    norm_cast
    rw [Nat.mod_eq_of_lt (by omega)]
    exact Int.toNat_natCast _
  have e1 : ((BitVec.ofInt 32 x) &&& (BitVec.ofInt 32 (2 ^ k - 1 : Int))).toNat = (x % 2 ^ k).toNat := by
    rw [BitVec.toNat_and, e2, Nat.and_two_pow_sub_one_eq_mod, BitVec.toNat_ofInt]
    have hd : ((2 ^ k : Nat) : Int) ∣ ((2 ^ 32 : Nat) : Int) := by
      norm_cast
      exact Nat.pow_dvd_pow 2 (by omega)
    have h0 : 0 ≤ x % ((2 ^ 32 : Nat) : Int) := Int.emod_nonneg _ (by decide)
    have h1 : x % ((2 ^ 32 : Nat) : Int) % ((2 ^ k : Nat) : Int) = x % ((2 ^ k : Nat) : Int) := Int.emod_emod_of_dvd x hd
    rw [hp, ← h1, Int.toNat_emod h0 (by omega)]
    rfl
  have h0 : 0 ≤ x % 2 ^ k := by rw [hp]; exact Int.emod_nonneg _ (by omega)
  have h1 : x % 2 ^ k < 2 ^ k := by rw [hp]; exact Int.emod_lt_of_pos _ (by omega)
  unfold iand
  show ((Int32.ofInt x).toBitVec &&& (Int32.ofInt (2 ^ k - 1)).toBitVec).toInt = _
  rw [Int32.toBitVec_ofInt, Int32.toBitVec_ofInt, BitVec.toInt_eq_toNat_of_lt (by rw [e1]; rw [hp] at h1 h0 ⊢; omega), e1]
  omega
theorem iand255 (x : Int) : iand x 255 = x % 256 := iand_mask x 8 (by decide)
theorem iand15 (x : Int) : iand x 15 = x % 16 := iand_mask x 4 (by decide)
theorem iand63 (x : Int) : iand x 63 = x % 64 := iand_mask x 6 (by decide)
theorem iand1 (x : Int) : iand x 1 = x % 2 := iand_mask x 1 (by decide)
section T7L
variable {fi fl : HI} {cr : HR} {sh : HS} {nx sl d : Nat}
theorem load_ok (hS : Stat cr sh) {b from_ n lo : Int} (hb : 0 ≤ b ∧ b ≤ 7) (hf : 0 ≤ from_ ∧ 0 ≤ n ∧ from_ + n ≤ 40) (hlo : -1 ≤ lo ∧ lo ≤ 100) :
    WC (CD mt (d + 1)) 176 [.ref 574, iv b, iv from_, iv n, iv lo] (G fi fl cr sh nx sl) (RV fl cr sh nx sl (fun f => (∀ c, c ≠ 574 → c ≠ 583 → f c = fi c) ∧ (∀ j, j ≠ 41 → f 574 j = fi 574 j) ∧ f 574 41 = (if from_ ≤ lo ∧ lo < from_ + n then n - 1 else n) ∧ ∀ k h, 0 ≤ k ∧ k < (if from_ ≤ lo ∧ lo < from_ + n then n - 1 else n) → 0 ≤ h ∧ h < 20 → f 583 (20 * k + h) = fi 576 (20 * (40 * b + (if from_ ≤ lo ∧ lo ≤ from_ + k then from_ + k + 1 else from_ + k)) + h))) := by
  refine WE.cd mt_X7_load rfl rfl ?_
  refine WE.to (p_X7_load_0 hS) ?_
  refine loopK (fun k _ v => [.ref 574, iv b, iv from_, iv n, iv lo, iv k, v]) (fun k _ _ => (from_ + n - k).toNat) (fun k f v => nw v ∧ (from_ ≤ k ∧ k ≤ from_ + n) ∧ (∀ c, c ≠ 574 → c ≠ 583 → f c = fi c) ∧ (∀ j, j ≠ 41 → f 574 j = fi 574 j) ∧ f 574 41 = (if from_ ≤ lo ∧ lo < k then k - from_ - 1 else k - from_) ∧ ∀ i h, 0 ≤ i ∧ i < f 574 41 → 0 ≤ h ∧ h < 20 → f 583 (20 * i + h) = fi 576 (20 * (40 * b + (if from_ ≤ lo ∧ lo ≤ from_ + i then from_ + i + 1 else from_ + i)) + h)) ?_ from_ _ nv ⟨nw_nv, by omega, fun c h1 h2 => up_cell _ h1 _ _, fun j hj => up_at _ _ hj _, by rw [up_same, if_neg (by omega)]; omega, fun i h hi => by rw [up_same] at hi; omega⟩
  rintro k f v ⟨hv, hk, hfr, h574, h41, hc⟩ ih
  by_cases kn : k = from_ + n
  · refine WE.fin (p_X7_load_8_F) (rv ⟨hfr, h574, ?_, fun i h hi hh => hc i h ?_ hh⟩)
    · rw [h41, kn]; split <;> omega
    · rw [h41, kn]; split <;> split at hi <;> omega
  · by_cases kl : k = lo
    · refine WE.to (p_X7_load_8_TT) (ih (k + 1) f v ⟨hv, by omega, hfr, h574, ?_, hc⟩ (by omega))
      rw [h41, if_neg (by omega), if_pos (by omega)]; omega
    · refine WE.to (p_X7_load_8_TF) ?_
      have m0 : 0 ≤ f 574 41 ∧ f 574 41 ≤ k - from_ := by rw [h41]; split <;> omega
      have e576 : f 576 = fi 576 := hfr 576 (by decide) (by decide)
      refine loopF (fun h => [.ref 574, iv b, iv from_, iv n, iv lo, iv k, iv h]) 583 (20 * f 574 41) 20 (fun h => fi 576 (20 * (40 * b + k) + h)) (by omega) (fun h h0 h1 => ?_) ?_
      · have e41 : blk f 583 (20 * f 574 41) h (fun h => fi 576 (20 * (40 * b + k) + h)) 574 41 = f 574 41 := by rw [blk_cell (by decide)]
        exact ⟨_, _, p_X7_load_29_T hS, by omega, by rw [blk_cell (by decide), e576]⟩
      · have e41 : blk f 583 (20 * f 574 41) 20 (fun h => fi 576 (20 * (40 * b + k) + h)) 574 41 = f 574 41 := by rw [blk_cell (by decide)]
        refine WE.to (p_X7_load_29_F hS) (ih (k + 1) _ (iv 20) ⟨nw_iv _, by omega, fun c h1 h2 => ?_, fun j hj => ?_, ?_, fun i h hi hh => ?_⟩ (by omega))
        · rw [up_cell _ h1, blk_cell h2, hfr c h1 h2]
        · rw [up_at _ _ hj, blk_cell (by decide), h574 j hj]
        · rw [up_same, e41, h41]; split <;> split <;> omega
        · rw [up_same, e41] at hi
          rw [up_cell _ (by decide)]
          by_cases e : i = f 574 41
          · rw [blk_in (by omega), show 20 * i + h - 20 * f 574 41 = h by omega, e, h41]
            by_cases w : from_ ≤ lo ∧ lo < k
            · rw [if_pos w, if_pos (by omega)]; congr 1; omega
            · rw [if_neg w, if_neg (by omega)]; congr 1; omega
          · rw [blk_out (by omega)]; exact hc i h (by omega) hh
end T7L

/-! the reference: an order is put in order by a column -/
/-- the entries of a cell are a list's -/
def AtL (f : HI) (a : Nat) (l : List Int) : Prop := ∀ i : Nat, i < l.length → f a (i : Int) = l.getD i 0
def bk (key : Int → Int) (l : List Int) : Nat → List Int
  | 0 => []
  | n + 1 => bk key l n ++ l.filter (fun x => decide (key x = (n : Int) - 1))
/-- put in order by a key from -1 to 9, of like ones as they were -/
def srt (key : Int → Int) (l : List Int) : List Int := bk key l 11
theorem bk_len (key : Int → Int) (l : List Int) : ∀ n : Nat, (bk key l n).length = (l.filter (fun x => decide (-1 ≤ key x ∧ key x < (n : Int) - 1))).length := by
  intro n
  induction n with
  | zero =>
    show 0 = _
    rw [List.filter_eq_nil_iff.mpr (fun x _ => by rw [decide_eq_true_eq]; omega)]; rfl
  | succ n ih =>
    show (bk key l n ++ l.filter _).length = _
    rw [List.length_append, ih]
    clear ih
    induction l with
    | nil => rfl
    | cons x l ihl =>
      simp only [List.filter_cons]
      by_cases h1 : -1 ≤ key x ∧ key x < (n : Int) - 1
      · rw [if_pos (decide_eq_true h1), if_neg (by simp; omega), if_pos (by simp; omega), List.length_cons, List.length_cons]; omega
      · by_cases h2 : key x = (n : Int) - 1
        · rw [if_neg (by simp; omega), if_pos (by simp; omega), if_pos (by simp; omega), List.length_cons, List.length_cons]; omega
        · rw [if_neg (by simp; omega), if_neg (by simp; omega), if_neg (by simp; omega)]; omega
theorem srt_len {key : Int → Int} {l : List Int} (h : ∀ x, -1 ≤ key x ∧ key x ≤ 9) : (srt key l).length = l.length := by
  unfold srt
  rw [bk_len, List.filter_eq_self.mpr (fun x _ => by have := h x; simp; omega)]
theorem bk_le (key : Int → Int) (l : List Int) (n : Nat) : (bk key l n).length ≤ l.length := by
  rw [bk_len]; exact List.length_filter_le _ _
theorem AtL.snoc {f : HI} {a : Nat} {l : List Int} (h : AtL f a l) {i x : Int} (hi : i = (l.length : Int)) : AtL (up f a i x) a (l ++ [x]) := by
  subst hi
  intro j hj
  rw [List.length_append] at hj
  simp only [List.length_cons, List.length_nil] at hj
  rw [up_in, List.getD_eq_getElem?_getD]
  by_cases e : j = l.length
  · rw [if_pos (by omega), List.getElem?_append_right (by omega), show j - l.length = 0 by omega]; rfl
  · rw [if_neg (by omega), List.getElem?_append_left (by omega), h j (by omega), List.getD_eq_getElem?_getD]
section T7R
variable {fi fl : HI} {cr : HR} {sh : HS} {nx sl d : Nat}
def keyB (fi : HI) (b n : Int) : Int → Int := fun x => dgt (fi 576 (20 * (40 * b + x) + n))
theorem sort_ok (hS : Stat cr sh) {b n : Int} {l : List Int} (hb : 0 ≤ b ∧ b ≤ 7) (hn : 0 ≤ n ∧ n < 20) (hB : BoxOk fi) (hl : (l.length : Int) = fi 577 b) (hA : AtL fi 601 l) (hx : ∀ i : Nat, i < l.length → 0 ≤ l.getD i 0 ∧ l.getD i 0 < fi 577 b) :
    WC (CD mt (d + 1)) 194 [.ref 574, iv b, iv n] (G fi fl cr sh nx sl) (RV fl cr sh nx sl (fun f => (∀ c, c ≠ 601 → c ≠ 602 → f c = fi c) ∧ AtL f 601 (srt (keyB fi b n) l))) := by
  refine WE.cd mt_X7_sort rfl rfl ?_
  have hm := (hB b hb).1
  refine WE.to (p_X7_sort_0 hS) ?_
  refine loopK (σ := Int × Value × Value) (fun v _ s => [.ref 574, iv b, iv n, iv (fi 577 b), iv s.1, iv v, s.2.1, s.2.2]) (fun v _ _ => (10 - v).toNat) (fun v f s => nw s.2.1 ∧ nw s.2.2 ∧ (-1 ≤ v ∧ v ≤ 10) ∧ s.1 = ((bk (keyB fi b n) l (v + 1).toNat).length : Int) ∧ (∀ c, c ≠ 602 → f c = fi c) ∧ AtL f 602 (bk (keyB fi b n) l (v + 1).toNat)) ?_ (-1) fi (0, nv, nv) ⟨nw_nv, nw_nv, by omega, rfl, fun _ _ => rfl, fun i hi => by cases hi⟩
  rintro v f ⟨c, v6, v7⟩ ⟨h6, h7, hv, hc, hfr, hat⟩ ih
  simp only at h6 h7 hc ih ⊢
  by_cases v10 : v = 10
  · subst v10
    refine WE.to p_X7_sort_13_F ?_
    have hs : AtL f 602 (srt (keyB fi b n) l) := hat
    have hkey : ∀ x, 0 ≤ x ∧ x < fi 577 b → -1 ≤ keyB fi b n x ∧ keyB fi b n x ≤ 9 := fun x hx' => dgt_R ((hB b hb).2 x n hx' hn).2
    have hlen : (srt (keyB fi b n) l).length = l.length := by
      unfold srt
      rw [bk_len, List.filter_eq_self.mpr (fun x hxm => ?_)]
      obtain ⟨i, hi, rfl⟩ := List.getElem_of_mem hxm
      have h1 := hx i hi
      rw [List.getD_eq_getElem?_getD, List.getElem?_eq_getElem hi] at h1
      have h2 : -1 ≤ keyB fi b n l[i] ∧ keyB fi b n l[i] ≤ 9 := hkey _ h1
      exact decide_eq_true (by omega)
    refine loopF (fun k => [.ref 574, iv b, iv n, iv (fi 577 b), iv c, iv k, v6, v7]) 601 0 (fi 577 b) (fun k => f 602 k) (by omega) (fun k k0 k1 => ⟨_, _, p_X7_sort_109_T hS, by omega, by rw [blk_cell (by decide)]⟩) ?_
    refine WE.fin (p_X7_sort_109_F) (rv ⟨fun c h1 h2 => by rw [blk_cell h1, hfr c h2], fun i hi => ?_⟩)
    rw [blk_in (by omega), Int.sub_zero]
    exact hs i hi
  · refine WE.to p_X7_sort_13_T ?_
    have main := loopK (t := t_X7_sort) (C := CD mt d) (hd := 23) (Q := RV fl cr sh nx sl (fun f => (∀ c, c ≠ 601 → c ≠ 602 → f c = fi c) ∧ AtL f 601 (srt (keyB fi b n) l))) (fl := fl) (cr := cr) (sh := sh) (nx := nx) (sl := sl) (σ := Int × Value) (fun k _ s => [.ref 574, iv b, iv n, iv (fi 577 b), iv s.1, iv v, iv k, s.2]) (fun k _ _ => (fi 577 b - k).toNat) (fun k f s => nw s.2 ∧ (0 ≤ k ∧ k ≤ fi 577 b) ∧ s.1 = ((bk (keyB fi b n) l (v + 1).toNat ++ (l.take k.toNat).filter (fun x => decide (keyB fi b n x = v))).length : Int) ∧ (∀ c, c ≠ 602 → f c = fi c) ∧ AtL f 602 (bk (keyB fi b n) l (v + 1).toNat ++ (l.take k.toNat).filter (fun x => decide (keyB fi b n x = v)))) (by
      rintro k f ⟨c, v7⟩ ⟨h7, hk, hc, hfr, hat⟩ ih2
      simp only at h7 hc ih2 ⊢
      have e601 : f 601 = fi 601 := hfr 601 (by decide)
      have e576 : f 576 = fi 576 := hfr 576 (by decide)
      by_cases kn : k = fi 577 b
      · refine WE.to p_X7_sort_23_F (ih (v + 1) f (c, iv k, v7) ⟨nw_iv _, h7, by omega, ?_, hfr, ?_⟩ (by omega))
        · rw [hc, show (v + 1 + 1).toNat = (v + 1).toNat + 1 by omega, List.take_of_length_le (by omega)]
          show _ = ((bk _ _ _ ++ l.filter (fun x => decide (keyB fi b n x = (((v + 1).toNat : Nat) : Int) - 1))).length : Int)
          rw [show (((v + 1).toNat : Nat) : Int) - 1 = v by omega]
        · rw [show (v + 1 + 1).toNat = (v + 1).toNat + 1 by omega]
          rw [List.take_of_length_le (by omega)] at hat
          show AtL f 602 (bk _ _ _ ++ l.filter (fun x => decide (keyB fi b n x = (((v + 1).toNat : Nat) : Int) - 1)))
          rw [show (((v + 1).toNat : Nat) : Int) - 1 = v by omega]
          exact hat
      · have hki : k.toNat < l.length := by omega
        have hxk := hx k.toNat hki
        have hak := hA k.toNat hki
        rw [show ((k.toNat : Nat) : Int) = k by omega, ← e601] at hak
        have hbx := (hB b hb).2 (l.getD k.toNat 0) n hxk hn
        rw [← hak, ← e576] at hbx
        rw [← hak] at hxk
        have tk1 : l.take (k + 1).toNat = l.take k.toNat ++ [f 601 k] := by
          rw [show (k + 1).toNat = k.toNat + 1 by omega, List.take_succ, hak, List.getD_eq_getElem?_getD, List.getElem?_eq_getElem hki]; rfl
        have klen : c ≤ 2 * fi 577 b := by
          rw [hc, List.length_append]
          have := bk_le (keyB fi b n) l (v + 1).toNat
          have h2 : ((l.take k.toNat).filter (fun x => decide (keyB fi b n x = v))).length ≤ (l.take k.toNat).length := List.length_filter_le _ _
          rw [List.length_take] at h2
          omega
        have ekey : keyB fi b n (f 601 k) = dgt (f 576 (20 * (40 * b + f 601 k) + n)) := by unfold keyB; rw [e576]
        have yes : keyB fi b n (f 601 k) = v → ∀ z : Int, WE t_X7_sort (CD mt d) 23 [.ref 574, iv b, iv n, iv (fi 577 b), iv (c + 1), iv v, iv (k + 1), iv z] [] (G (up f 602 c (f 601 k)) fl cr sh nx sl) (RV fl cr sh nx sl (fun f => (∀ c, c ≠ 601 → c ≠ 602 → f c = fi c) ∧ AtL f 601 (srt (keyB fi b n) l))) := fun hq z => by
          have ef : (l.take (k + 1).toNat).filter (fun x => decide (keyB fi b n x = v)) = (l.take k.toNat).filter (fun x => decide (keyB fi b n x = v)) ++ [f 601 k] := by
            rw [tk1, List.filter_append]; simp [hq]
          refine ih2 (k + 1) _ (c + 1, iv z) ⟨nw_iv _, by omega, ?_, fun x hx' => by rw [up_cell _ hx', hfr x hx'], ?_⟩ (by omega)
          · rw [ef, ← List.append_assoc, List.length_append, hc]; simp
          · rw [ef, ← List.append_assoc]; exact hat.snoc hc
        have no : keyB fi b n (f 601 k) ≠ v → ∀ z : Int, WE t_X7_sort (CD mt d) 23 [.ref 574, iv b, iv n, iv (fi 577 b), iv c, iv v, iv (k + 1), iv z] [] (G f fl cr sh nx sl) (RV fl cr sh nx sl (fun f => (∀ c, c ≠ 601 → c ≠ 602 → f c = fi c) ∧ AtL f 601 (srt (keyB fi b n) l))) := fun hq z => by
          have ef : (l.take (k + 1).toNat).filter (fun x => decide (keyB fi b n x = v)) = (l.take k.toNat).filter (fun x => decide (keyB fi b n x = v)) := by
            rw [tk1, List.filter_append]; simp [hq]
          exact ih2 (k + 1) f (c, iv z) ⟨nw_iv _, by omega, by rw [ef]; exact hc, hfr, by rw [ef]; exact hat⟩ (by omega)
        have c0 : 0 ≤ c := by omega
        by_cases q : f 576 (20 * (40 * b + f 601 k) + n) % 16 = 15
        · have ek : keyB fi b n (f 601 k) = -1 := by rw [ekey]; unfold dgt; rw [if_pos q]
          by_cases r : (-1 : Int) = v
          · exact WE.to (p_X7_sort_23_TTT hS) (yes (by rw [ek]; exact r) _)
          · exact WE.to (p_X7_sort_23_TTF hS) (no (by rw [ek]; exact r) _)
        · have ek : keyB fi b n (f 601 k) = f 576 (20 * (40 * b + f 601 k) + n) % 16 := by rw [ekey]; unfold dgt; rw [if_neg q]
          by_cases r : f 576 (20 * (40 * b + f 601 k) + n) % 16 = v
          · exact WE.to (p_X7_sort_23_TFT hS) (yes (by rw [ek]; exact r) _)
          · exact WE.to (p_X7_sort_23_TFF hS) (no (by rw [ek]; exact r) _))
    exact main 0 f (c, v7) ⟨h7, by omega, by rw [hc]; simp, hfr, by simpa using hat⟩
end T7R

/-! a run's parts, plainly; the reference's turn, prints, total, jam -/
/-- what comes of a run: numbers (0 cards, 1 totals, 2 lines, 3 punched, 4 overs, 5 and 6 the jam), wheels, lines, cards made -/
abbrev RS : Type := (Int → Int) × (Int → Int) × (Int → Int → Int) × (Int → Int → Int)
def zs (z : Int → Int) (k v : Int) : Int → Int := fun j => if j = k then v else z j
def numR (T : Int → Int) (w : Int) : Nat → Int
  | 0 => 0
  | k + 1 => 10 * numR T w k + max 0 (T (96 + 6 * w + (5 - (k : Int))))
def turns (T : Int → Int) (w : Int) : Prop := (0 ≤ T (120 + w) ∧ T (124 + w) < 0) ∨ (T (120 + w) < 0 ∧ 0 ≤ T (124 + w))
def valF (T : Int → Int) (w v : Int) : Int := if 0 ≤ T (120 + w) then v + numR T w 6 else v + (-(numR T w 6))
noncomputable def whl (T : Int → Int) (w v : Int) : Int := @ite _ (turns T w) (Classical.propDecidable _) (if -999999 ≤ valF T w v ∧ valF T w v ≤ 999999 then valF T w v else Int.tmod (valF T w v) 1000000) v
noncomputable def ovr (T : Int → Int) (w v : Int) : Int := @ite _ (turns T w ∧ ¬ (-999999 ≤ valF T w v ∧ valF T w v ≤ 999999)) (Classical.propDecidable _) 1 0
theorem whl_skip {T : Int → Int} {w v : Int} (h : ¬ turns T w) : whl T w v = v := by unfold whl; rw [if_neg h]
theorem whl_in {T : Int → Int} {w v : Int} (h : turns T w) (r : -999999 ≤ valF T w v ∧ valF T w v ≤ 999999) : whl T w v = valF T w v := by unfold whl; rw [if_pos h, if_pos r]
theorem whl_out {T : Int → Int} {w v : Int} (h : turns T w) (r : ¬ (-999999 ≤ valF T w v ∧ valF T w v ≤ 999999)) : whl T w v = Int.tmod (valF T w v) 1000000 := by unfold whl; rw [if_pos h, if_neg r]
theorem ovr_no {T : Int → Int} {w v : Int} (h : ¬ (turns T w ∧ ¬ (-999999 ≤ valF T w v ∧ valF T w v ≤ 999999))) : ovr T w v = 0 := by unfold ovr; rw [if_neg h]
theorem ovr_yes {T : Int → Int} {w v : Int} (h : turns T w ∧ ¬ (-999999 ≤ valF T w v ∧ valF T w v ≤ 999999)) : ovr T w v = 1 := by unfold ovr; rw [if_pos h]
theorem numR_R {T : Int → Int} {w : Int} (hT : ∀ h, 0 ≤ h ∧ h < 217 → -1 ≤ T h ∧ T h ≤ 9) (hw : 0 ≤ w ∧ w < 4) : ∀ k : Nat, k ≤ 6 → 0 ≤ numR T w k ∧ numR T w k < 10 ^ k := by
  intro k
  induction k with
  | zero => intro _; exact ⟨Int.le_refl 0, (by decide : (0 : Int) < 10 ^ 0)⟩
  | succ k ih =>
    intro h
    have := ih (by omega)
    have t := hT (96 + 6 * w + (5 - (k : Int))) (by omega)
    unfold numR
    rw [Int.pow_succ]
    omega
def dv (v : Int) : Nat → Int
  | 0 => v
  | k + 1 => dv v k / 10
theorem dv_R {v : Int} (h : 0 ≤ v ∧ v < 2147483648) : ∀ k : Nat, 0 ≤ dv v k ∧ dv v k < 2147483648 := by
  intro k
  induction k with
  | zero => exact h
  | succ k ih => unfold dv; omega
/-- what a total's cycle gives -/
def totG (w : Int → Int) (o : Int) : Int → Int := fun h => if h = 64 + o then 1 else if 68 ≤ h ∧ h < 92 then dv (iabs (w ((h - 68) / 6))) ((h - 68) % 6).toNat % 10 else if 92 ≤ h ∧ h < 96 then (if w (h - 92) < 0 then 1 else -1) else -1
section T7C
variable {fi fl : HI} {cr : HR} {sh : HS} {nx sl d : Nat}
theorem turn_ok (hS : Stat cr sh) {w : Int} (hw : 0 ≤ w ∧ w < 4) (hH : HvOk (fi 586) (fi 587) (fi 588)) (hT : ∀ h, 0 ≤ h ∧ h < 217 → -1 ≤ hv (fi 584) (fi 586) (fi 587) (fi 588) h ∧ hv (fi 584) (fi 586) (fi 587) (fi 588) h ≤ 9) (hv0 : -999999 ≤ fi 594 w ∧ fi 594 w ≤ 999999) :
    WC (CD mt (d + 3)) 187 [.ref 574, iv w] (G fi fl cr sh nx sl) (RV fl cr sh nx sl (fun fi' => (∀ b, b ≠ 594 → b ≠ 598 → fi' b = fi b) ∧ (∀ j, fi' 594 j = if j = w then whl (hv (fi 584) (fi 586) (fi 587) (fi 588)) w (fi 594 w) else fi 594 j) ∧ ∀ j, fi' 598 j = if j = 0 then fi 598 0 + ovr (hv (fi 584) (fi 586) (fi 587) (fi 588)) w (fi 594 w) else fi 598 j)) := by
  generalize hTT : hv (fi 584) (fi 586) (fi 587) (fi 588) = T at hT ⊢
  have a1 := hT (120 + w) (by omega)
  have a2 := hT (124 + w) (by omega)
  rw [← hTT] at a1 a2
  have n6 := numR_R hT hw 6 (by omega)
  have skip : ¬ turns T w → RV fl cr sh nx sl (fun fi' => (∀ b, b ≠ 594 → b ≠ 598 → fi' b = fi b) ∧ (∀ j, fi' 594 j = if j = w then whl T w (fi 594 w) else fi 594 j) ∧ ∀ j, fi' 598 j = if j = 0 then fi 598 0 + ovr T w (fi 594 w) else fi 598 j) (.returned none, G fi fl cr sh nx sl) := fun hn => rv ⟨fun _ _ _ => rfl, fun j => by
      rw [whl_skip hn]; split
      · next e => rw [e]
      · rfl, fun j => by
      rw [ovr_no (fun z => hn z.1)]; split
      · next e => rw [e]; omega
      · rfl⟩
  have main : ∀ x2 : Int, (x2 = 0 ∨ x2 = 1) → (x2 ≠ 0 ↔ 0 ≤ T (120 + w)) → turns T w → WE t_X7_turn (CD mt (d + 2)) 43 [.ref 574, iv w, iv x2, iv 0, iv 5] [] (G fi fl cr sh nx sl) (RV fl cr sh nx sl (fun fi' => (∀ b, b ≠ 594 → b ≠ 598 → fi' b = fi b) ∧ (∀ j, fi' 594 j = if j = w then whl T w (fi 594 w) else fi 594 j) ∧ ∀ j, fi' 598 j = if j = 0 then fi 598 0 + ovr T w (fi 594 w) else fi 598 j)) := by
    intro x2 hx2 hxT htn
    refine loopK (fun x4 _ x3 => [.ref 574, iv w, iv x2, iv x3, iv x4]) (fun x4 _ _ => (x4 + 1).toNat) (fun x4 f x3 => f = fi ∧ (-1 ≤ x4 ∧ x4 ≤ 5) ∧ x3 = numR T w (5 - x4).toNat) ?_ 5 fi 0 ⟨rfl, by omega, rfl⟩
    rintro x4 f x3 ⟨rfl, h4, h3⟩ ih
    by_cases q : x4 = -1
    · subst q
      have e6 : x3 = numR T w 6 := h3
      have fin : ∀ val : Int, val = valF T w (f 594 w) → (-999999 ≤ val ∧ val ≤ 999999) → RV fl cr sh nx sl (fun fi' => (∀ b, b ≠ 594 → b ≠ 598 → fi' b = f b) ∧ (∀ j, fi' 594 j = if j = w then whl T w (f 594 w) else f 594 j) ∧ ∀ j, fi' 598 j = if j = 0 then f 598 0 + ovr T w (f 594 w) else f 598 j) (.returned none, G (up f 594 w val) fl cr sh nx sl) := fun val e hr => rv ⟨fun b h1 h2 => up_cell _ h1 _ _, fun j => by
        rw [up_in, whl_in htn (by rw [← e]; exact hr), ← e], fun j => by
        rw [up_cell _ (by decide), ovr_no (by rw [← e]; exact fun z => z.2 hr)]; split
        · next e => rw [e]; omega
        · rfl⟩
      have fin2 : ∀ val : Int, val = valF T w (f 594 w) → ¬ (-999999 ≤ val ∧ val ≤ 999999) → RV fl cr sh nx sl (fun fi' => (∀ b, b ≠ 594 → b ≠ 598 → fi' b = f b) ∧ (∀ j, fi' 594 j = if j = w then whl T w (f 594 w) else f 594 j) ∧ ∀ j, fi' 598 j = if j = 0 then f 598 0 + ovr T w (f 594 w) else f 598 j) (.returned none, G (up (up (up f 594 w val) 598 0 (f 598 0 + 1)) 594 w (Int.tmod val 1000000)) fl cr sh nx sl) := fun val e hr => rv ⟨fun b h1 h2 => by rw [up_cell _ h1, up_cell _ h2, up_cell _ h1], fun j => by
        rw [up_in, up_cell (b := 594) (a := 598) _ (by decide), up_in, whl_out htn (by rw [← e]; exact hr), ← e]
        by_cases z : j = w
        · rw [if_pos z, if_pos z]
        · rw [if_neg z, if_neg z, if_neg z], fun j => by
        rw [up_cell (b := 598) (a := 594) _ (by decide), up_in, up_cell (b := 598) (a := 594) _ (by decide), ovr_yes ⟨htn, by rw [← e]; exact hr⟩]⟩
      have b6 : numR T w 6 < 1000000 := n6.2
      by_cases z : x2 = 0
      · have hz : ¬ 0 ≤ T (120 + w) := fun y => (hxT.mpr y) z
        have ev : f 594 w + (-x3) = valF T w (f 594 w) := by unfold valF; rw [if_neg hz, e6]
        by_cases r : -999999 ≤ f 594 w + (-x3) ∧ f 594 w + (-x3) ≤ 999999
        · exact WE.fin (p_X7_turn_43_TTT hS) (fin _ ev r)
        · exact WE.fin (p_X7_turn_43_TTF hS) (fin2 _ ev r)
      · have ev : f 594 w + x3 = valF T w (f 594 w) := by unfold valF; rw [if_pos (hxT.mp z), e6]
        by_cases r : -999999 ≤ f 594 w + x3 ∧ f 594 w + x3 ≤ 999999
        · exact WE.fin (p_X7_turn_43_TFT hS) (fin _ ev r)
        · exact WE.fin (p_X7_turn_43_TFF hS) (fin2 _ ev r)
    · have t := hT (96 + 6 * w + x4) (by omega)
      have hh := hT (96 + (6 * w) + x4) (by omega)
      rw [← hTT] at hh
      have en : numR T w (5 - (x4 + -1)).toNat = 10 * x3 + max 0 (T (96 + 6 * w + x4)) := by
        rw [show (5 - (x4 + -1)).toNat = (5 - x4).toNat + 1 by omega, h3]
        show 10 * _ + max 0 (T _) = _
        rw [show (5 - ((5 - x4).toNat : Int)) = x4 by omega]
      by_cases r : hv (f 584) (f 586) (f 587) (f 588) (96 + (6 * w) + x4) < 0
      · refine WE.to (p_X7_turn_43_FT hS hH) (ih _ f _ ⟨rfl, by omega, ?_⟩ (by omega))
        rw [en]; rw [hTT] at r; omega
      · refine WE.to (p_X7_turn_43_FF hS hH) (ih _ f _ ⟨rfl, by omega, ?_⟩ (by omega))
        rw [en, hTT]; rw [hTT] at r; omega
  refine WE.cd mt_X7_turn rfl rfl ?_
  by_cases q1 : hv (fi 584) (fi 586) (fi 587) (fi 588) (120 + w) < 0
  · by_cases q2 : hv (fi 584) (fi 586) (fi 587) (fi 588) (124 + w) < 0
    · exact WE.fin (p_X7_turn_0_TT hS hH) (skip (by rw [hTT] at q1 q2; unfold turns; omega))
    · exact WE.to (p_X7_turn_0_TF hS hH) (main 0 (Or.inl rfl) (by rw [hTT] at q1 q2; omega) (by rw [hTT] at q1 q2; unfold turns; omega))
  · by_cases q2 : hv (fi 584) (fi 586) (fi 587) (fi 588) (124 + w) < 0
    · exact WE.to (p_X7_turn_0_FT hS hH) (main 1 (Or.inr rfl) (by rw [hTT] at q1 q2; omega) (by rw [hTT] at q1 q2; unfold turns; omega))
    · exact WE.fin (p_X7_turn_0_FF hS hH) (skip (by rw [hTT] at q1 q2; unfold turns; omega))
theorem prints_ok (hS : Stat cr sh) (hH : HvOk (fi 586) (fi 587) (fi 588)) (hT : ∀ h, 0 ≤ h ∧ h < 217 → -1 ≤ hv (fi 584) (fi 586) (fi 587) (fi 588) h ∧ hv (fi 584) (fi 586) (fi 587) (fi 588) h ≤ 9) :
    (CD mt (d + 3) 186 [.ref 574] (G fi fl cr sh nx sl) = some (.returned (some (iv 1)), G fi fl cr sh nx sl) ∧ ∃ k, (0 ≤ k ∧ k < 12) ∧ 0 ≤ hv (fi 584) (fi 586) (fi 587) (fi 588) (132 + k)) ∨
    (CD mt (d + 3) 186 [.ref 574] (G fi fl cr sh nx sl) = some (.returned (some (iv 0)), G fi fl cr sh nx sl) ∧ ∀ k, 0 ≤ k ∧ k < 12 → hv (fi 584) (fi 586) (fi 587) (fi 588) (132 + k) < 0) := by
  have w : WC (CD mt (d + 3)) 186 [.ref 574] (G fi fl cr sh nx sl) (RI fl cr sh nx sl (fun v f => f = fi ∧ ((v = 1 ∧ ∃ k, (0 ≤ k ∧ k < 12) ∧ 0 ≤ hv (fi 584) (fi 586) (fi 587) (fi 588) (132 + k)) ∨ (v = 0 ∧ ∀ k, 0 ≤ k ∧ k < 12 → hv (fi 584) (fi 586) (fi 587) (fi 588) (132 + k) < 0)))) := by
    refine WE.cd mt_X7_prints rfl rfl ?_
    refine WE.to p_X7_prints_0 ?_
    refine loopK (σ := Unit) (fun k _ _ => [.ref 574, iv k]) (fun k _ _ => (12 - k).toNat) (fun k f _ => f = fi ∧ (0 ≤ k ∧ k ≤ 12) ∧ ∀ j, 0 ≤ j ∧ j < k → hv (fi 584) (fi 586) (fi 587) (fi 588) (132 + j) < 0) ?_ 0 fi () ⟨rfl, by omega, fun j hj => by omega⟩
    rintro k f _ ⟨rfl, hk, hj⟩ ih
    by_cases q : k = 12
    · subst q; exact WE.fin p_X7_prints_2_F (ri ⟨rfl, Or.inr ⟨rfl, hj⟩⟩)
    · have t := hT (132 + k) (by omega)
      by_cases r : hv (f 584) (f 586) (f 587) (f 588) (132 + k) < 0
      · exact WE.to (p_X7_prints_2_TT hS hH) (ih (k + 1) f () ⟨rfl, by omega, fun j h => by
          by_cases e : j = k
          · rw [e]; exact r
          · exact hj j (by omega)⟩ (by omega))
      · exact WE.fin (p_X7_prints_2_TF hS hH) (ri ⟨rfl, Or.inl ⟨rfl, k, by omega, by omega⟩⟩)
  obtain ⟨v, f, hc, rfl, h⟩ := w.i
  rcases h with ⟨rfl, h⟩ | ⟨rfl, h⟩
  · exact Or.inl ⟨hc, h⟩
  · exact Or.inr ⟨hc, h⟩
theorem total_ok (hS : Stat cr sh) {o : Int} (ho : 1 ≤ o ∧ o ≤ 3) (hw : ∀ q, 0 ≤ q ∧ q < 4 → -999999 ≤ fi 594 q ∧ fi 594 q ≤ 999999) :
    WC (CD mt (d + 1)) 188 [.ref 574, iv o] (G fi fl cr sh nx sl) (RV fl cr sh nx sl (fun fi' => (∀ b, b ≠ 584 → fi' b = fi b) ∧ ∀ h, 0 ≤ h ∧ h < 96 → fi' 584 h = totG (fi 594) o h)) := by
  refine WE.cd mt_X7_total rfl rfl ?_
  refine WE.to p_X7_total_0 ?_
  refine loopF (fun k => [.ref 574, iv o, iv k, nv, nv]) 584 0 96 (fun _ => -1) (by omega) (fun k h0 h1 => ⟨_, _, p_X7_total_2_T hS, by omega, rfl⟩) ?_
  refine WE.to (p_X7_total_2_F hS) ?_
  -- what is given so far: wheels below q, digits below e of wheel q
  have main := loopK (t := t_X7_total) (C := CD mt d) (hd := 35) (Q := RV fl cr sh nx sl (fun fi' => (∀ b, b ≠ 584 → fi' b = fi b) ∧ ∀ h, 0 ≤ h ∧ h < 96 → fi' 584 h = totG (fi 594) o h)) (fl := fl) (cr := cr) (sh := sh) (nx := nx) (sl := sl) (σ := Value × Value) (fun q _ v => [.ref 574, iv o, iv q, v.1, v.2]) (fun q _ _ => (4 - q).toNat) (fun q f v => nw v.1 ∧ nw v.2 ∧ (0 ≤ q ∧ q ≤ 4) ∧ (∀ b, b ≠ 584 → f b = fi b) ∧ ∀ h, 0 ≤ h ∧ h < 96 → f 584 h = if h = 64 + o ∨ (68 ≤ h ∧ h < 68 + 6 * q) ∨ (92 ≤ h ∧ h < 92 + q) then totG (fi 594) o h else -1) (by
    rintro q f ⟨v3, v4⟩ ⟨hv3, hv4, hq, hfr, hg⟩ ih
    simp only at hv3 hv4 hq hfr hg ih ⊢
    have e594 : f 594 = fi 594 := hfr 594 (by decide)
    by_cases q4 : q = 4
    · subst q4
      refine WE.fin (p_X7_total_35_F) (rv ⟨hfr, fun h hh => ?_⟩)
      rw [hg h hh]
      split
      · rfl
      · next z => unfold totG; rw [if_neg (by omega), if_neg (by omega), if_neg (by omega)]
    · have w0 := hw q (by omega)
      have w1 := w0
      rw [← e594] at w1
      have inner : ∀ x3 : Int, x3 = iabs (fi 594 q) → WE t_X7_total (CD mt d) 69 [.ref 574, iv o, iv q, iv x3, iv 0] [] (G f fl cr sh nx sl) (RV fl cr sh nx sl (fun fi' => (∀ b, b ≠ 584 → fi' b = fi b) ∧ ∀ h, 0 ≤ h ∧ h < 96 → fi' 584 h = totG (fi 594) o h)) := by
        intro x3 hx3
        have hab : 0 ≤ iabs (fi 594 q) ∧ iabs (fi 594 q) < 2147483648 := by unfold iabs; split <;> omega
        refine loopK (fun e _ x3 => [.ref 574, iv o, iv q, iv x3, iv e]) (fun e _ _ => (6 - e).toNat) (fun e f x3 => (0 ≤ e ∧ e ≤ 6) ∧ x3 = dv (iabs (fi 594 q)) e.toNat ∧ (∀ b, b ≠ 584 → f b = fi b) ∧ ∀ h, 0 ≤ h ∧ h < 96 → f 584 h = if h = 64 + o ∨ (68 ≤ h ∧ h < 68 + 6 * q + e) ∨ (92 ≤ h ∧ h < 92 + q) then totG (fi 594) o h else -1) ?_ 0 f x3 ⟨by omega, hx3, hfr, fun h hh => by rw [hg h hh, Int.add_zero]⟩
        rintro e f x3 ⟨he, h3, hfr, hg⟩ ih2
        have e594 : f 594 = fi 594 := hfr 594 (by decide)
        have w1 := w0
        rw [← e594] at w1
        have hd3 := dv_R hab e.toNat
        by_cases e6 : e = 6
        · subst e6
          have stp : ∀ v : Int, v = (if fi 594 q < 0 then 1 else -1) → WE t_X7_total (CD mt d) 35 [.ref 574, iv o, iv (q + 1), iv x3, iv 6] [] (G (up f 584 (92 + q) v) fl cr sh nx sl) (RV fl cr sh nx sl (fun fi' => (∀ b, b ≠ 584 → fi' b = fi b) ∧ ∀ h, 0 ≤ h ∧ h < 96 → fi' 584 h = totG (fi 594) o h)) := by
            intro v hv
            refine ih (q + 1) _ (iv x3, iv 6) ⟨nw_iv _, nw_iv _, by omega, fun b hb => ?_, fun h hh => ?_⟩ (by omega)
            · rw [up_cell _ hb, hfr b hb]
            · rw [up_in]
              by_cases z : h = 92 + q
              · have et : totG (fi 594) o h = if fi 594 q < 0 then 1 else -1 := by
                  unfold totG
                  rw [if_neg (by omega), if_neg (by omega), if_pos (by omega), z, show 92 + q - 92 = q by omega]
                rw [if_pos z, if_pos (by omega), hv, et]
              · rw [if_neg z, hg h hh]
                by_cases y : h = 64 + o ∨ (68 ≤ h ∧ h < 68 + 6 * q + 6) ∨ (92 ≤ h ∧ h < 92 + q)
                · rw [if_pos y, if_pos (by omega)]
                · rw [if_neg y, if_neg (by omega)]
          by_cases z : f 594 q < 0
          · exact WE.to (p_X7_total_69_FT hS) (stp 1 (by rw [e594] at z; rw [if_pos z]))
          · exact WE.to (p_X7_total_69_FF hS) (stp (-1) (by rw [e594] at z; rw [if_neg z]))
        · refine WE.to (p_X7_total_69_T hS) (ih2 (e + 1) _ _ ⟨by omega, ?_, fun b hb => ?_, fun h hh => ?_⟩ (by omega))
          · rw [show (e + 1).toNat = e.toNat + 1 by omega, h3]; rfl
          · rw [up_cell _ hb, hfr b hb]
          · rw [up_in]
            by_cases z : h = 68 + (6 * q) + e
            · rw [if_pos z, if_pos (by omega)]
              unfold totG
              rw [if_neg (by omega), if_pos (by omega), z, show (68 + 6 * q + e - 68) / 6 = q by omega, show (68 + 6 * q + e - 68) % 6 = e by omega, ← h3]
            · rw [if_neg z, hg h hh]
              by_cases y : h = 64 + o ∨ (68 ≤ h ∧ h < 68 + 6 * q + e) ∨ (92 ≤ h ∧ h < 92 + q)
              · rw [if_pos y, if_pos (by omega)]
              · rw [if_neg y, if_neg (by omega)]
      by_cases z : f 594 q < 0
      · exact WE.to (p_X7_total_35_TT hS) (inner _ (by rw [e594] at z ⊢; unfold iabs; rw [if_neg (by omega)]))
      · exact WE.to (p_X7_total_35_TF hS) (inner _ (by rw [e594] at z ⊢; unfold iabs; rw [if_pos (by omega)])))
  refine main 0 _ (nv, nv) ⟨nw_nv, nw_nv, by omega, fun b hb => ?_, fun h hh => ?_⟩
  · rw [up_cell _ hb, blk_cell hb]
  · rw [up_in]
    by_cases z : h = 65 + o - 1
    · rw [if_pos z, if_pos (by omega)]; unfold totG; rw [if_pos (by omega)]
    · rw [if_neg z, blk_in (by omega), if_neg (by omega)]
end T7C

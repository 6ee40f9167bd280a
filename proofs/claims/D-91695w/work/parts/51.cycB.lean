/-! the reference's cycle: a jam is sought; it prints, counts, clears, punches -/
theorem whl_R {T : Int → Int} {w v : Int} (hT : ∀ h, 0 ≤ h ∧ h < 217 → -1 ≤ T h ∧ T h ≤ 9) (hw : 0 ≤ w ∧ w < 4) (h : -999999 ≤ v ∧ v ≤ 999999) : -999999 ≤ whl T w v ∧ whl T w v ≤ 999999 := by
  by_cases q : turns T w
  · by_cases r : -999999 ≤ valF T w v ∧ valF T w v ≤ 999999
    · rw [whl_in q r]; exact r
    · rw [whl_out q r]
      have n6 : 0 ≤ numR T w 6 ∧ numR T w 6 < 1000000 := numR_R hT hw 6 (by omega)
      have hb : -2000000 < valF T w v ∧ valF T w v < 2000000 := by unfold valF; split <;> omega
      by_cases z : 0 ≤ valF T w v
      · rw [Int.tmod_eq_emod_of_nonneg z]; omega
      · have e : Int.tmod (valF T w v) 1000000 = -((-(valF T w v)) % 1000000) := by
          rw [← Int.tmod_eq_emod_of_nonneg (by omega : 0 ≤ -(valF T w v)), Int.neg_tmod, Int.neg_neg]
        rw [e]; omega
  · rw [whl_skip q]; exact h
section T7F
variable {fi fl : HI} {cr : HR} {sh : HS} {nx sl d : Nat} {Q : Outcome × AH → Prop}
/-- what is taken, as it lies in the heap -/
def TOk (fi : HI) (T : Int → Int) : Prop := HvOk (fi 586) (fi 587) (fi 588) ∧ (∀ x, 0 ≤ x ∧ x < 217 → hv (fi 584) (fi 586) (fi 587) (fi 588) x = T x) ∧ ∀ x, 0 ≤ x ∧ x < 217 → -1 ≤ T x ∧ T x ≤ 9
theorem TOk.mono {f : HI} {T : Int → Int} (h : TOk fi T) (e : ∀ b, b = 584 ∨ b = 586 ∨ b = 587 ∨ b = 588 → f b = fi b) : TOk f T := by
  unfold TOk; rw [e 584 (by omega), e 586 (by omega), e 587 (by omega), e 588 (by omega)]; exact h
/-- from the turning on -/
theorem cyD (hS : Stat cr sh) {c x2 room : Int} {T : Int → Int} {s : RS} (hT : TOk fi T) (hs : TSt s fi) (hb : SB room s) (hr : fi 574 43 = room) (hr40 : 0 ≤ room ∧ room ≤ 40)
    (kk : ∀ (f : HI) (v : Int) (s' : RS), ((T 179 < 0 ∧ v = 0 ∧ s' = tu1 T s) ∨ (0 ≤ T 179 ∧ s.1 3 = room ∧ v = 3 ∧ s' = tu1 T s) ∨ (0 ≤ T 179 ∧ s.1 3 ≠ room ∧ v = 0 ∧ s' = pu1 T (tu1 T s))) → TSt s' f → RunFr fi f → (∀ b, b ≤ 589 → f b = fi b) → Q (.returned (some (iv v)), G f fl cr sh nx sl)) :
    WE t_X7_cycle (CD mt (d + 3)) 318 [.ref 574, iv c, iv x2, iv 0] [] (G fi fl cr sh nx sl) Q := by
  obtain ⟨s0, s1, s2, s3, s4, s5, s6, s7, s8, s9⟩ := hs
  -- the punching
  have pun : ∀ f : HI, TSt (tu1 T s) f → RunFr fi f → (∀ b, b ≤ 589 → f b = fi b) → WE t_X7_cycle (CD mt (d + 3)) 336 [.ref 574, iv c, iv x2, iv 4] [] (G f fl cr sh nx sl) Q := by
    intro f hf frf lo
    have hTf : TOk f T := hT.mono (fun b hb => lo b (by omega))
    have v179 := hTf.2.1 179 (by omega)
    have r179 := hTf.2.2 179 (by omega)
    have e43 : f 574 43 = room := by rw [lo 574 (by omega)]; exact hr
    have hp : f 592 0 = s.1 3 := hf.2.2.2.1
    have hb3 := hb.2.1
    by_cases q : T 179 < 0
    · exact WE.fin (p_X7_cycle_336_FT hS hTf.1) (kk f 0 _ (Or.inl ⟨q, rfl, rfl⟩) hf frf lo)
    · by_cases z : s.1 3 = room
      · exact WE.fin (p_X7_cycle_336_FFT hS hTf.1) (kk f 3 _ (Or.inr (Or.inl ⟨by omega, z, rfl, rfl⟩)) hf frf lo)
      · refine WE.to (p_X7_cycle_336_FFF hS hTf.1) ?_
        refine loopF (fun k => [.ref 574, iv c, iv x2, iv k]) 595 (20 * s.1 3) 20 (fun b => if T (159 + b) < 0 then 15 else T (159 + b)) (by omega) (fun k h0 h1 => ?_) ?_
        · have hTb : TOk (blk f 595 (20 * s.1 3) k (fun b => if T (159 + b) < 0 then 15 else T (159 + b))) T := hTf.mono (fun b hb => blk_cell (by omega))
          have e592 : blk f 595 (20 * s.1 3) k (fun b => if T (159 + b) < 0 then 15 else T (159 + b)) 592 0 = s.1 3 := by rw [blk_cell (by decide)]; exact hp
          have vk := hTb.2.1 (159 + k) (by omega)
          have rk := hTb.2.2 (159 + k) (by omega)
          by_cases w : T (159 + k) < 0
          · exact ⟨_, _, p_X7_cycle_395_TT hS hTb.1, by omega, by rw [if_pos w]⟩
          · exact ⟨_, _, p_X7_cycle_395_TF hS hTb.1, by omega, by rw [if_neg w]; exact vk⟩
        · refine WE.fin (p_X7_cycle_395_F hS) (kk _ 0 _ (Or.inr (Or.inr ⟨by omega, z, rfl, rfl⟩)) ?_ ?_ ?_)
          · obtain ⟨t0, t1, t2, t3, t4, t5, t6, t7, t8, t9⟩ := hf
            have eo : ∀ b, b ≠ 592 → b ≠ 595 → up (blk f 595 (20 * s.1 3) 20 (fun b => if T (159 + b) < 0 then 15 else T (159 + b))) 592 0 (blk f 595 (20 * s.1 3) 20 (fun b => if T (159 + b) < 0 then 15 else T (159 + b)) 592 0 + 1) b = f b := fun b h1 h2 => by rw [up_cell _ h1, blk_cell h2]
            refine ⟨?_, ?_, ?_, ?_, ?_, ?_, ?_, fun q hq => ?_, fun k b hk hb => ?_, fun k b hk hb => ?_⟩
            · rw [eo _ (by decide) (by decide)]; exact t0
            · rw [eo _ (by decide) (by decide)]; exact t1
            · rw [eo _ (by decide) (by decide)]; exact t2
            · rw [up_same, blk_cell (by decide), hp]; rfl
            · rw [eo _ (by decide) (by decide)]; exact t4
            · rw [eo _ (by decide) (by decide)]; exact t5
            · rw [eo _ (by decide) (by decide)]; exact t6
            · rw [eo _ (by decide) (by decide)]; exact t7 q hq
            · rw [eo _ (by decide) (by decide)]; exact t8 k b hk hb
            · have hk' : 0 ≤ k ∧ k < s.1 3 + 1 := hk
              rw [up_cell _ (by decide)]
              by_cases w : k = s.1 3
              · rw [blk_in (by omega)]
                show _ = if k = s.1 3 then (if T (159 + b) < 0 then 15 else T (159 + b)) else _
                rw [if_pos w, show 20 * k + b - 20 * s.1 3 = b by omega]
              · rw [blk_out (by omega)]
                show _ = if k = s.1 3 then _ else (tu1 T s).2.2.2 k b
                rw [if_neg w]
                exact t9 k b ⟨hk'.1, by show k < s.1 3; omega⟩ hb
          · refine frf.trans (RunFr.trans ⟨fun b h1 h2 h3 h4 h5 h6 h7 h8 h9 h10 h11 h12 h13 h14 h15 h16 h17 => blk_cell h12, fun b j h1 h2 => ?_⟩ (RunFr.up (by omega) (fun _ => by decide)))
            by_cases w : b = 595
            · subst w
              have h3 : 800 ≤ j := h2
              exact blk_out (by omega)
            · rw [blk_cell w]
          · intro b hb'
            rw [up_cell _ (by omega), blk_cell (by omega), lo b hb']
  -- the clearing
  have clr : ∀ f : HI, (∀ b, b ≠ 594 → b ≠ 598 → f b = fi b) → (∀ q, 0 ≤ q ∧ q < 4 → f 594 q = whl T q (s.2.1 q)) → (∀ q, 4 ≤ q → f 594 q = fi 594 q) → f 598 0 = s.1 4 + ovS T s.2.1 4 → (∀ q, 1 ≤ q → f 598 q = fi 598 q) → WE t_X7_cycle (CD mt (d + 3)) 336 [.ref 574, iv c, iv x2, iv 0] [] (G f fl cr sh nx sl) Q := by
    intro f hfr h594 h594' h598 h598'
    refine loopK (σ := Unit) (fun k _ _ => [.ref 574, iv c, iv x2, iv k]) (fun k _ _ => (4 - k).toNat) (fun k f' _ => (0 ≤ k ∧ k ≤ 4) ∧ (∀ b, b ≠ 594 → f' b = f b) ∧ ∀ q, f' 594 q = if (0 ≤ q ∧ q < k) ∧ 0 ≤ T (128 + q) then 0 else f 594 q) ?_ 0 f () ⟨by omega, fun _ _ => rfl, fun q => by rw [if_neg (by omega)]⟩
    rintro k f' _ ⟨hk, hfr', hq⟩ ih
    have lo : ∀ b, b ≤ 589 → f' b = fi b := fun b hb => by rw [hfr' b (by omega), hfr b (by omega) (by omega)]
    have hTf : TOk f' T := hT.mono (fun b hb => lo b (by omega))
    by_cases k4 : k = 4
    · subst k4
      refine pun f' ?_ ?_ lo
      · have eo : ∀ b, b ≠ 594 → b ≠ 598 → f' b = fi b := fun b h1 h2 => by rw [hfr' b h1, hfr b h1 h2]
        refine ⟨?_, ?_, ?_, ?_, ?_, ?_, ?_, fun q hq' => ?_, fun k b hk hb => ?_, fun k b hk hb => ?_⟩
        · rw [eo _ (by decide) (by decide)]; exact s0
        · rw [eo _ (by decide) (by decide)]; exact s1
        · rw [eo _ (by decide) (by decide)]; exact s2
        · rw [eo _ (by decide) (by decide)]; exact s3
        · rw [hfr' 598 (by decide), h598]; rfl
        · rw [eo _ (by decide) (by decide)]; exact s5
        · rw [eo _ (by decide) (by decide)]; exact s6
        · rw [hq q]
          show _ = if 0 ≤ T (128 + q) then 0 else whl T q (s.2.1 q)
          by_cases w : 0 ≤ T (128 + q)
          · rw [if_pos ⟨hq', w⟩, if_pos w]
          · rw [if_neg (fun z => w z.2), if_neg w, h594 q hq']
        · rw [eo _ (by decide) (by decide)]; exact s8 k b hk hb
        · rw [eo _ (by decide) (by decide)]; exact s9 k b hk hb
      · refine ⟨fun b h1 h2 h3 h4 h5 h6 h7 h8 h9 h10 h11 h12 h13 h14 h15 h16 h17 => by rw [hfr' b h11, hfr b h11 h15], fun b j h1 h2 => ?_⟩
        by_cases w : b = 594
        · subst w
          have h3 : 4 ≤ j := h2
          rw [hq j, if_neg (by omega), h594' j h3]
        · by_cases w2 : b = 598
          · subst w2
            have h3 : 1 ≤ j := h2
            rw [hfr' 598 (by decide), h598' j h3]
          · rw [hfr' b w, hfr b w w2]
    · have vk := hTf.2.1 (128 + k) (by omega)
      have rk := hTf.2.2 (128 + k) (by omega)
      by_cases w : T (128 + k) < 0
      · refine WE.to (p_X7_cycle_336_TT hS hTf.1) (ih (k + 1) f' () ⟨by omega, hfr', fun q => ?_⟩ (by omega))
        rw [hq q]
        by_cases z : (0 ≤ q ∧ q < k) ∧ 0 ≤ T (128 + q)
        · rw [if_pos z, if_pos ⟨by omega, z.2⟩]
        · rw [if_neg z, if_neg]
          rintro ⟨y1, y2⟩
          by_cases e : q = k
          · subst e; omega
          · exact z ⟨by omega, y2⟩
      · refine WE.to (p_X7_cycle_336_TF hS hTf.1) (ih (k + 1) _ () ⟨by omega, fun b hb => by rw [up_cell _ hb, hfr' b hb], fun q => ?_⟩ (by omega))
        rw [up_in]
        by_cases e : q = k
        · rw [if_pos e, if_pos (by rw [e]; exact ⟨by omega, by omega⟩)]
        · rw [if_neg e, hq q]
          by_cases z : (0 ≤ q ∧ q < k) ∧ 0 ≤ T (128 + q)
          · rw [if_pos z, if_pos ⟨by omega, z.2⟩]
          · rw [if_neg z, if_neg (fun y => z ⟨by omega, y.2⟩)]
  -- the turning
  refine loopK (σ := Unit) (fun k _ _ => [.ref 574, iv c, iv x2, iv k]) (fun k _ _ => (4 - k).toNat) (fun k f _ => (0 ≤ k ∧ k ≤ 4) ∧ (∀ b, b ≠ 594 → b ≠ 598 → f b = fi b) ∧ (∀ q, 0 ≤ q ∧ q < k → f 594 q = whl T q (s.2.1 q)) ∧ (∀ q, k ≤ q → f 594 q = fi 594 q) ∧ f 598 0 = s.1 4 + ovS T s.2.1 k.toNat ∧ ∀ q, 1 ≤ q → f 598 q = fi 598 q) ?_ 0 fi () ⟨by omega, fun _ _ _ => rfl, fun q hq => by omega, fun _ _ => rfl, by rw [s4]; exact (Int.add_zero _).symm, fun _ _ => rfl⟩
  rintro k f _ ⟨hk, hfr, h1, h2, h3, h4⟩ ih
  by_cases k4 : k = 4
  · subst k4
    exact WE.to p_X7_cycle_318_F (clr f hfr h1 h2 h3 h4)
  · have hTf : TOk f T := hT.mono (fun b hb => hfr b (by omega) (by omega))
    have ek : f 594 k = s.2.1 k := by rw [h2 k (by omega), s7 k (by omega)]
    have hbk := hb.2.2 k (by omega)
    obtain ⟨f2, hc2, fr2, w2, o2⟩ := (turn_ok (fi := f) (fl := fl) (nx := nx) (sl := sl) (d := d) (w := k) hS (by omega) hTf.1 (fun h hh => by rw [hTf.2.1 h hh]; exact hTf.2.2 h hh) (by rw [ek]; exact hbk)).v
    have congT : ∀ v, whl (hv (f 584) (f 586) (f 587) (f 588)) k v = whl T k v ∧ ovr (hv (f 584) (f 586) (f 587) (f 588)) k v = ovr T k v := by
      intro v
      have e1 := hTf.2.1 (120 + k) (by omega)
      have e2 := hTf.2.1 (124 + k) (by omega)
      have en : ∀ j : Nat, j ≤ 6 → numR (hv (f 584) (f 586) (f 587) (f 588)) k j = numR T k j := by
        intro j
        induction j with
        | zero => intro _; rfl
        | succ j ih => intro hj; unfold numR; rw [ih (by omega), hTf.2.1 _ (by omega)]
      have et : turns (hv (f 584) (f 586) (f 587) (f 588)) k = turns T k := by unfold turns; rw [e1, e2]
      have ev : valF (hv (f 584) (f 586) (f 587) (f 588)) k v = valF T k v := by unfold valF; rw [e1, en 6 (by omega)]
      unfold whl ovr
      rw [ev, et]
      exact ⟨rfl, rfl⟩
    rw [ek, (congT _).1] at w2
    rw [ek, (congT _).2] at o2
    refine WE.to (p_X7_cycle_318_T hS hc2) (ih (k + 1) f2 () ⟨by omega, fun b h1 h2 => by rw [fr2 b h1 h2, hfr b h1 h2], fun q hq => ?_, fun q hq => ?_, ?_, fun q hq => ?_⟩ (by omega))
    · rw [w2 q]
      by_cases e : q = k
      · rw [if_pos e, e]
      · rw [if_neg e, h1 q (by omega)]
    · rw [w2 q, if_neg (by omega), h2 q (by omega)]
    · rw [o2 0, if_pos rfl, h3, show (k + 1).toNat = k.toNat + 1 by omega]
      show _ = s.1 4 + (ovS T s.2.1 k.toNat + ovr T (k.toNat : Int) (s.2.1 (k.toNat : Int)))
      rw [show (k.toNat : Int) = k by omega]
      omega
    · rw [o2 q, if_neg (by omega), h4 q hq]
end T7F

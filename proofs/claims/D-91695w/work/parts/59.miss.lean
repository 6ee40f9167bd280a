/-! the reference: lines told; missing -/
/-- the lines on the tape, as an outcome -/
def tapeO (fi : HI) : Int × RS := (0, (fun j => if j = 2 then fi 574 2 / 12 else 0, fun _ => 0, fun k b => fi 575 (12 * k + b) % 256, fun _ _ => 0))
def LinesOk (fi : HI) : Prop := fi 574 2 % 12 = 0 ∧ fi 574 2 ≤ 720 ∧ ∀ k, 0 ≤ k ∧ k < fi 574 2 → fi 575 k % 256 ≤ 9 ∨ fi 575 k % 256 = 15
section T7N
variable {fi fl : HI} {cr : HR} {sh : HS} {nx sl d : Nat}
theorem takeLines_ok (hS : Stat cr sh) (hm : 0 ≤ fi 574 2 ∧ fi 574 2 ≤ 740) :
    WC (CD mt (d + 2)) 202 [.ref 574] (G fi fl cr sh nx sl) (RI fl cr sh nx sl (fun v f => Eo (up fi 574 2 0) f ∧ ((v = 0 ∧ ¬ LinesOk fi) ∨ (v = 1 ∧ LinesOk fi ∧ f 574 55 = fi 574 2 / 12 ∧ ∀ k, 0 ≤ k ∧ k < fi 574 2 → f 605 k = fi 575 k % 256)))) := by
  refine WE.cd mt_X7_takeLines rfl rfl ?_
  have E1 : Eo (up fi 574 2 0) (up (up (up fi 574 3 (fi 574 2)) 574 2 0) 574 4 0) := (eo_ups (eo_up (by unfold Sc; omega))).trans (eo_up (by unfold Sc; omega))
  by_cases q1 : fi 574 2 % 12 = 0
  rotate_left
  · exact WE.fin (p_X7_takeLines_0_F hS) (ri ⟨E1, Or.inl ⟨rfl, fun h => q1 h.1⟩⟩)
  by_cases q2 : fi 574 2 ≤ 720
  rotate_left
  · exact WE.fin (p_X7_takeLines_0_TF hS) (ri ⟨E1, Or.inl ⟨rfl, fun h => q2 h.2.1⟩⟩)
  refine WE.to (p_X7_takeLines_0_TT hS) ?_
  generalize hf1 : up (up (up fi 574 3 (fi 574 2)) 574 2 0) 574 4 0 = f1 at E1
  have e3 : f1 574 3 = fi 574 2 := by rw [← hf1, up_at _ _ (by decide), up_at _ _ (by decide), up_same]
  have e575 : f1 575 = fi 575 := by rw [← hf1, up_cell _ (by decide), up_cell _ (by decide), up_cell _ (by decide)]
  refine loopK (σ := Unit) (fun k _ _ => [.ref 574, iv k]) (fun k _ _ => (fi 574 2 - k).toNat) (fun k f _ => f = f1 ∧ (0 ≤ k ∧ k ≤ fi 574 2) ∧ ∀ j, 0 ≤ j ∧ j < k → fi 575 j % 256 ≤ 9 ∨ fi 575 j % 256 = 15) ?_ 0 f1 () ⟨rfl, by omega, fun j hj => by omega⟩
  rintro k f _ ⟨rfl, hk, hj⟩ ih
  have eo : iand (f 575 k) 255 = fi 575 k % 256 := by rw [iand255, e575]
  by_cases kn : k = fi 574 2
  · refine WE.to (p_X7_takeLines_28_F hS) ?_
    refine loopF (fun k => [.ref 574, iv k]) 605 0 (fi 574 2) (fun k => fi 575 k % 256) (by omega) (fun j j0 j1 => ?_) ?_
    · have e3' : blk f 605 0 j (fun k => fi 575 k % 256) 574 3 = fi 574 2 := by rw [blk_cell (by decide), e3]
      exact ⟨_, _, p_X7_takeLines_66_T hS, by omega, by rw [blk_cell (by decide), iand255, e575]⟩
    · have e3' : blk f 605 0 (fi 574 2) (fun k => fi 575 k % 256) 574 3 = fi 574 2 := by rw [blk_cell (by decide), e3]
      refine WE.fin (p_X7_takeLines_66_F hS) (ri ⟨?_, Or.inr ⟨rfl, ⟨q1, q2, fun j h => hj j (by omega)⟩, ?_, fun j h => ?_⟩⟩)
      · refine (E1.trans (fun c j hc => ?_)).trans (eo_up (by unfold Sc; omega))
        exact congrFun (blk_cell (fun z => hc (by unfold Sc; omega))) j
      · rw [up_same, e3']
      · rw [up_cell _ (by decide), blk_in (by omega), Int.sub_zero]
  · by_cases r1 : fi 575 k % 256 ≤ 9
    · exact WE.to (p_X7_takeLines_28_TT hS) (ih (k + 1) f () ⟨rfl, by omega, fun j h => by
        by_cases e : j = k
        · rw [e]; exact Or.inl r1
        · exact hj j (by omega)⟩ (by omega))
    · by_cases r2 : fi 575 k % 256 = 15
      · exact WE.to (p_X7_takeLines_28_TFT hS) (ih (k + 1) f () ⟨rfl, by omega, fun j h => by
          by_cases e : j = k
          · rw [e]; exact Or.inr r2
          · exact hj j (by omega)⟩ (by omega))
      · exact WE.fin (p_X7_takeLines_28_TFF hS) (ri ⟨E1, Or.inl ⟨rfl, fun h => by have := h.2.2 k (by omega); omega⟩⟩)
theorem isWanted_ok (hS : Stat cr sh) {a o : Int × RS} (ha : TKp 0 a fi) (oa : OOk a) (hW : fi 574 55 = o.2.1 2) (hW2 : 0 ≤ o.2.1 2 ∧ o.2.1 2 ≤ 60) (h605 : ∀ k b, 0 ≤ k ∧ k < o.2.1 2 → 0 ≤ b ∧ b < 12 → fi 605 (12 * k + b) = o.2.2.2.1 k b ∧ 0 ≤ o.2.2.2.1 k b ∧ o.2.2.2.1 k b ≤ 255) :
    (CD mt (d + 1) 203 [.ref 574] (G fi fl cr sh nx sl) = some (.returned (some (iv 1)), G fi fl cr sh nx sl) ∧ PrLike a o) ∨ (CD mt (d + 1) 203 [.ref 574] (G fi fl cr sh nx sl) = some (.returned (some (iv 0)), G fi fl cr sh nx sl) ∧ ¬ PrLike a o) := by
  obtain ⟨a0, a1, a2, a3, a4, a5, a6, a7, a8, a9, a10⟩ := ha
  obtain ⟨⟨⟨oa1, oa2, oa3⟩, oa4⟩, oa5⟩ := oa
  have w : WC (CD mt (d + 1)) 203 [.ref 574] (G fi fl cr sh nx sl) (RI fl cr sh nx sl (fun v f => f = fi ∧ ((v = 1 ∧ PrLike a o) ∨ (v = 0 ∧ ¬ PrLike a o)))) := by
    refine WE.cd mt_X7_isWanted rfl rfl ?_
    by_cases q1 : fi 591 0 = fi 574 55
    rotate_left
    · exact WE.fin (p_X7_isWanted_0_F hS) (ri ⟨rfl, Or.inr ⟨rfl, fun h => q1 (by rw [a3, hW, h.1])⟩⟩)
    refine WE.to (p_X7_isWanted_0_T hS) ?_
    refine loopK (σ := Unit) (fun k _ _ => [.ref 574, iv k]) (fun k _ _ => (12 * fi 574 55 - k).toNat) (fun k g _ => g = fi ∧ (0 ≤ k ∧ k ≤ 12 * fi 574 55) ∧ ∀ i, 0 ≤ i ∧ i < k → fi 593 i = fi 605 i) ?_ 0 fi () ⟨rfl, by omega, fun j hj => by omega⟩
    rintro k g _ ⟨rfl, hk2, hj2⟩ ih2
    by_cases kl : k = 12 * g 574 55
    · refine WE.fin (p_X7_isWanted_17_F hS) (ri ⟨rfl, Or.inl ⟨rfl, by rw [← a3, ← hW]; exact q1, fun i c hi hc => ?_⟩⟩)
      have e1 := a9 i c hi hc
      have e2 := (h605 i c (by omega) hc).1
      rw [show 720 * 0 + (12 * i + c) = 12 * i + c by omega] at e1
      rw [← e1, ← e2]
      exact hj2 _ (by omega)
    · have e1 := a9 (k / 12) (k % 12) (by omega) (by omega)
      have e2 := h605 (k / 12) (k % 12) (by omega) (by omega)
      rw [show 720 * 0 + (12 * (k / 12) + k % 12) = k by omega] at e1
      rw [show 12 * (k / 12) + k % 12 = k by omega] at e2
      have r1 := (oa5 (k / 12) (k % 12)).1
      by_cases q : g 593 k = g 605 k
      · exact WE.to (p_X7_isWanted_17_TT hS) (ih2 (k + 1) g () ⟨rfl, by omega, fun j h => by
          by_cases e : j = k
          · rw [e]; exact q
          · exact hj2 j (by omega)⟩ (by omega))
      · exact WE.fin (p_X7_isWanted_17_TF hS) (ri ⟨rfl, Or.inr ⟨rfl, fun h => q (by rw [e1, e2.1, h.2 _ _ (by omega) (by omega)])⟩⟩)
  obtain ⟨v, f, hc, rfl, h⟩ := w.i
  rcases h with ⟨rfl, h⟩ | ⟨rfl, h⟩
  · exact Or.inl ⟨hc, h⟩
  · exact Or.inr ⟨hc, h⟩
/-- wires that must be missing -/
noncomputable def missL (fi : HI) (b : Int) : List Int := fdl (fun k => PrLike (outB fi k 40 b) (tapeO fi)) (fi 580 0).toNat
theorem missing_ok (hS : Stat cr sh) {b : Int} (hbR : -2147483648 ≤ b ∧ b < 2147483648) (hB : BoxOk fi) (hw : WirOk fi) (hm : 0 ≤ fi 574 2 ∧ fi 574 2 ≤ 740) :
    WC (CD mt (d + 6)) 201 [.ref 574, iv b] (G fi fl cr sh nx sl) (RI fl cr sh nx sl (fun v f => (¬ (LinesOk fi ∧ 0 ≤ b ∧ b ≤ 7) ∧ v = -1 ∧ Eo (up fi 574 2 0) f) ∨ ((LinesOk fi ∧ 0 ≤ b ∧ b ≤ 7) ∧ v = ((missL fi b).length : Int) ∧ Eo (up (stL (up fi 574 2 0) 603 (missL fi b)) 574 53 ((missL fi b).length : Int)) f))) := by
  refine WE.cd mt_X7_missing rfl rfl ?_
  have u2 : up fi 574 0 0 574 2 = fi 574 2 := up_at _ _ (by decide) _
  have u575 : up fi 574 0 0 575 = fi 575 := up_cell _ (by decide) _ _
  have lk0 : LinesOk (up fi 574 0 0) ↔ LinesOk fi := by unfold LinesOk; rw [u2, u575]
  obtain ⟨v, f1, c1, E1, h1⟩ := (takeLines_ok (fi := up fi 574 0 0) (fl := fl) (nx := nx) (sl := sl) (d := d + 3) hS (by rw [u2]; exact hm)).i
  have E1' : Eo (up fi 574 2 0) f1 := (eo_ups (eo_up (by unfold Sc; omega))).trans E1
  rcases h1 with ⟨rfl, h1⟩ | ⟨rfl, h1, h55, h605⟩
  · exact WE.fin (p_X7_missing_0_0 hS c1) (ri (Or.inl ⟨fun z => h1 (lk0.mpr z.1), rfl, E1'⟩))
  rw [u2] at h55 h605
  rw [u575] at h605
  have hL := lk0.mp h1
  by_cases hb : 0 ≤ b ∧ b ≤ 7
  rotate_left
  · exact WE.fin (p_X7_missing_0_1F (d := d + 3) hS c1) (ri (Or.inl ⟨fun z => hb z.2, rfl, E1'⟩))
  have hB2 : BoxOk (up fi 574 2 0) := by
    intro b hb
    rw [up_cell _ (by decide), up_cell _ (by decide)]; exact hB b hb
  have hw2 : WirOk (up fi 574 2 0) := by unfold WirOk; rw [up_cell (b := 580) _ (by decide), up_cell (b := 578) _ (by decide), up_cell (b := 579) _ (by decide)]; exact hw
  obtain ⟨f2, c2, D2, E2, fr2, g2⟩ := loadB (fi := up fi 574 2 0) (fl := fl) (nx := nx) (sl := sl) (d := d + 4) hS hb hB2 E1'
  refine WE.to (p_X7_missing_0_1T hS c1 c2) ?_
  have hn := hw.1
  have hob : ∀ k, runO (ntW (up fi 574 2 0) k) 40 (cdB (up fi 574 2 0) b) (up fi 574 2 0 577 b) = outB fi k 40 b := by
    intro k
    unfold outB ntW
    rw [up_cell (b := 580) _ (by decide), up_cell (b := 578) _ (by decide), up_cell (b := 579) _ (by decide), up_cell (b := 577) _ (by decide)]
    have : cdB (up fi 574 2 0) b = cdB fi b := by
      funext k h; unfold cdB; rw [up_cell _ (by decide)]
    rw [this]
  have n580 : up fi 574 2 0 580 0 = fi 580 0 := by rw [up_cell _ (by decide)]
  generalize hP : (fun k => PrLike (outB fi k 40 b) (tapeO fi)) = P
  have hl : missL fi b = fdl P (fi 580 0).toNat := by unfold missL; rw [hP]
  have s55 : f2 574 55 = fi 574 2 / 12 := by rw [g2 55 (by decide), h55]
  have s605 : f2 605 = f1 605 := fr2 605 (by decide) (by decide)
  refine loopK (σ := Unit) (fun k _ _ => [.ref 574, iv b, iv k]) (fun k _ _ => (fi 580 0 - k).toNat) (fun k f _ => (0 ≤ k ∧ k ≤ fi 580 0) ∧ Dk (up fi 574 2 0) (cdB (up fi 574 2 0) b) (up fi 574 2 0 577 b) f ∧ f 574 55 = fi 574 2 / 12 ∧ f 605 = f1 605 ∧ Eo (up (stL (up fi 574 2 0) 603 (fdl P k.toNat)) 574 53 ((fdl P k.toNat).length : Int)) f) ?_ 0 _ () ⟨by omega, D2.mono (fun c hc => up_cell _ (by omega) _ _) (up_at _ _ (by decide) _), by rw [up_at _ _ (by decide)]; exact s55, by rw [up_cell _ (by decide)]; exact s605, ?_⟩
  rotate_left
  · show Eo (up (stL (up fi 574 2 0) 603 []) 574 53 ((([] : List Int).length : Nat) : Int)) _
    rw [stL_nil]
    exact eo_ups E2
  rintro k f _ ⟨hk, Df, t55, t605, Ef⟩ ih
  have len := fdl_len (P := P) k.toNat
  have e580 : f 580 0 = fi 580 0 := by rw [Df.2.2.2.2.1, n580]
  have e53 : f 574 53 = ((fdl P k.toNat).length : Int) := by
    rw [Ef 574 53 (by unfold Sc; omega), up_same]
  by_cases kn : k = fi 580 0
  · have lk : fdl P k.toNat = missL fi b := by rw [hl, kn]
    refine WE.fin (p_X7_missing_41_F hS) (ri (Or.inr ⟨⟨hL, hb⟩, by rw [e53, lk], ?_⟩))
    rw [← lk]
    exact Ef.trans (eo_up (by unfold Sc; omega))
  · have Du := Df.mono (f' := up f 574 42 k) (fun c hc => up_cell _ (by omega) _ _) (up_at _ _ (by decide) _)
    have w4 : up f 574 42 k 574 42 = k := up_same _ _ _ _
    obtain ⟨f4, c4, t4, o4, s4, p4⟩ := playD (fi := up fi 574 2 0) (fl := fl) (nx := nx) (sl := sl) (d := d) (room := 40) hS (by omega) hw2 Du (by rw [w4]; omega)
    rw [w4, hob] at t4 o4 s4
    have D4 := Du.pl p4
    have E4 : Eo (up (stL (up fi 574 2 0) 603 (fdl P k.toNat)) 574 53 ((fdl P k.toNat).length : Int)) f4 := (Ef.trans (eo_up (by unfold Sc; omega))).trans (eo_pl p4)
    have e53' : f4 574 53 = ((fdl P k.toNat).length : Int) := by rw [E4 574 53 (by unfold Sc; omega), up_same]
    have x55 : f4 574 55 = fi 574 2 / 12 := by rw [p4.lo (by omega), up_at _ _ (by decide), up_at _ _ (by decide), t55]
    have x605 : f4 605 = f1 605 := by rw [p4.lo (by omega), up_cell _ (by decide), up_cell _ (by decide), t605]
    have kN : ((k.toNat : Nat) : Int) = k := by omega
    have k1 : (k + 1).toNat = k.toNat + 1 := by omega
    have tl : (tapeO fi).2.1 2 = fi 574 2 / 12 := rfl
    have hL1 := hL.1
    have hL2 := hL.2.1
    rcases isWanted_ok (fi := f4) (fl := fl) (cr := cr) (sh := sh) (nx := nx) (sl := sl) (d := d + 4) (o := tapeO fi) hS t4 o4 (by rw [x55, tl]) (by rw [tl]; omega) (fun i c hi hc => by
      rw [tl] at hi
      have e := h605 (12 * i + c) (by omega)
      rw [x605]
      show f1 605 (12 * i + c) = fi 575 (12 * i + c) % 256 ∧ 0 ≤ fi 575 (12 * i + c) % 256 ∧ fi 575 (12 * i + c) % 256 ≤ 255
      omega) with ⟨c5, lk⟩ | ⟨c5, lk⟩
    · have hPk : P ((k.toNat : Nat) : Int) := by rw [kN, ← hP]; exact lk
      refine WE.to (p_X7_missing_41_T1 hS c4 c5) (ih (k + 1) _ () ⟨by omega, D4.mono (fun c hc => by rw [up_cell _ (by omega), up_cell _ (by omega)]) (by rw [up_at _ _ (by decide), up_cell _ (by decide)]), by rw [up_at _ _ (by decide), up_cell _ (by decide)]; exact x55, by rw [up_cell _ (by decide), up_cell _ (by decide)]; exact x605, ?_⟩ (by omega))
      rw [k1, fdl_yes hPk, kN, e53']
      have := eo_ups (b := 574) (j := 53) (v := ((fdl P k.toNat).length : Int) + 1) (eo_ups (b := 603) (j := ((fdl P k.toNat).length : Int)) (v := k) E4)
      rw [stL_step (by decide) rfl] at this
      rw [List.length_append]
      exact this
    · have hPk : ¬ P ((k.toNat : Nat) : Int) := by rw [kN, ← hP]; exact lk
      refine WE.to (p_X7_missing_41_T0 hS c4 c5) (ih (k + 1) _ () ⟨by omega, D4, x55, x605, ?_⟩ (by omega))
      rw [k1, fdl_no hPk]
      exact E4
end T7N

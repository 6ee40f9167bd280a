/-! the reference: a card comes; boards are kept and used -/
def CardOk (fi : HI) : Prop := fi 574 2 = 20 ∧ ∀ k, 0 ≤ k ∧ k < 20 → fi 575 k % 256 ≤ 31 ∧ (fi 575 k % 256 % 16 ≤ 9 ∨ fi 575 k % 256 % 16 = 15)
def cardH (fi : HI) (b : Int) : HI := up (blk (up fi 574 2 0) 576 (20 * (40 * b + fi 577 b)) 20 (fun k => fi 575 k % 256)) 577 b (fi 577 b + 1)
section T7Q
variable {fi fl : HI} {cr : HR} {sh : HS} {nx sl d : Nat}
theorem card_ok (hS : Stat cr sh) {b : Int} (hbR : -2147483648 ≤ b ∧ b < 2147483648) (hB : BoxOk fi) (hm : 0 ≤ fi 574 2 ∧ fi 574 2 ≤ 740) :
    WC (CD mt (d + 3)) 151 [.ref 574, iv b] (G fi fl cr sh nx sl) (RI fl cr sh nx sl (fun v f => (¬ ((0 ≤ b ∧ b ≤ 7) ∧ fi 577 b ≠ 40 ∧ CardOk fi) ∧ v = -1 ∧ Eo (up fi 574 2 0) f) ∨ (((0 ≤ b ∧ b ≤ 7) ∧ fi 577 b ≠ 40 ∧ CardOk fi) ∧ v = fi 577 b + 1 ∧ Eo (cardH fi b) f))) := by
  refine WE.cd mt_X7_card rfl rfl ?_
  have E1 : Eo (up fi 574 2 0) (up (up (up (up fi 574 0 0) 574 3 (fi 574 2)) 574 2 0) 574 4 0) := (eo_ups ((eo_up (by unfold Sc; omega)).trans (eo_up (by unfold Sc; omega)))).trans (eo_up (by unfold Sc; omega))
  by_cases hb : 0 ≤ b ∧ b ≤ 7
  rotate_left
  · exact WE.fin (p_X7_card_0_F hS) (ri (Or.inl ⟨fun z => hb z.1, rfl, E1⟩))
  have hn := (hB b hb).1
  by_cases q1 : fi 577 b = 40
  · exact WE.fin (p_X7_card_0_TT hS) (ri (Or.inl ⟨fun z => z.2.1 q1, rfl, E1⟩))
  by_cases q2 : fi 574 2 = 20
  rotate_left
  · exact WE.fin (p_X7_card_0_TFF hS) (ri (Or.inl ⟨fun z => q2 z.2.2.1, rfl, E1⟩))
  refine WE.to (p_X7_card_0_TFT hS) ?_
  generalize hf1 : up (up (up (up fi 574 0 0) 574 3 (fi 574 2)) 574 2 0) 574 4 0 = f1 at E1
  have e575 : f1 575 = fi 575 := by rw [← hf1, up_cell _ (by decide), up_cell _ (by decide), up_cell _ (by decide), up_cell _ (by decide)]
  have e577 : f1 577 = fi 577 := by rw [← hf1, up_cell _ (by decide), up_cell _ (by decide), up_cell _ (by decide), up_cell _ (by decide)]
  refine loopK (σ := Unit) (fun k _ _ => [.ref 574, iv b, iv k]) (fun k _ _ => (20 - k).toNat) (fun k f _ => f = f1 ∧ (0 ≤ k ∧ k ≤ 20) ∧ ∀ j, 0 ≤ j ∧ j < k → fi 575 j % 256 ≤ 31 ∧ (fi 575 j % 256 % 16 ≤ 9 ∨ fi 575 j % 256 % 16 = 15)) ?_ 0 f1 () ⟨rfl, by omega, fun j hj => by omega⟩
  rintro k f _ ⟨rfl, hk, hj⟩ ih
  have eo : iand (f 575 k) 255 = fi 575 k % 256 := by rw [iand255, e575]
  by_cases kn : k = 20
  · refine WE.to p_X7_card_40_F ?_
    refine loopF (fun k => [.ref 574, iv b, iv k]) 576 (20 * (40 * b + fi 577 b)) 20 (fun k => fi 575 k % 256) (by omega) (fun j j0 j1 => ?_) ?_
    · have e7 : blk f 576 (20 * (40 * b + fi 577 b)) j (fun k => fi 575 k % 256) 577 b = fi 577 b := by rw [blk_cell (by decide), e577]
      exact ⟨_, _, p_X7_card_92_T hS, by rw [e7], by rw [blk_cell (by decide), iand255, e575]⟩
    · have e7 : blk f 576 (20 * (40 * b + fi 577 b)) 20 (fun k => fi 575 k % 256) 577 b = fi 577 b := by rw [blk_cell (by decide), e577]
      refine WE.fin (p_X7_card_92_F hS) (ri (Or.inr ⟨⟨hb, q1, q2, fun j h => hj j (by omega)⟩, by rw [e7], ?_⟩))
      rw [e7]
      exact eo_ups (eo_blk E1)
  · have nx : (fi 575 k % 256 ≤ 31 ∧ (fi 575 k % 256 % 16 ≤ 9 ∨ fi 575 k % 256 % 16 = 15)) → WE t_X7_card (CD mt (d + 2)) 40 [.ref 574, iv b, iv (k + 1)] [] (G f fl cr sh nx sl) (RI fl cr sh nx sl (fun v f => (¬ ((0 ≤ b ∧ b ≤ 7) ∧ fi 577 b ≠ 40 ∧ CardOk fi) ∧ v = -1 ∧ Eo (up fi 574 2 0) f) ∨ (((0 ≤ b ∧ b ≤ 7) ∧ fi 577 b ≠ 40 ∧ CardOk fi) ∧ v = fi 577 b + 1 ∧ Eo (cardH fi b) f))) := fun hq => ih (k + 1) f () ⟨rfl, by omega, fun j h => by
      by_cases e : j = k
      · rw [e]; exact hq
      · exact hj j (by omega)⟩ (by omega)
    have bad : ¬ (fi 575 k % 256 ≤ 31 ∧ (fi 575 k % 256 % 16 ≤ 9 ∨ fi 575 k % 256 % 16 = 15)) → ¬ ((0 ≤ b ∧ b ≤ 7) ∧ fi 577 b ≠ 40 ∧ CardOk fi) := fun hq z => hq (z.2.2.2 k (by omega))
    by_cases r1 : fi 575 k % 256 ≤ 31
    · by_cases r2 : fi 575 k % 256 % 16 ≤ 9
      · exact WE.to (p_X7_card_40_TTT hS) (nx ⟨r1, Or.inl r2⟩)
      · by_cases r3 : fi 575 k % 256 % 16 = 15
        · exact WE.to (p_X7_card_40_TTFT hS) (nx ⟨r1, Or.inr r3⟩)
        · exact WE.fin (p_X7_card_40_TTFF hS) (ri (Or.inl ⟨bad (fun z => by omega), rfl, E1⟩))
    · exact WE.fin (p_X7_card_40_TF hS) (ri (Or.inl ⟨bad (fun z => r1 z.1), rfl, E1⟩))
theorem eo_copy {f : HI} (h : Eo fi f) {a b : Int} (ha : a = 0 ∨ (2 ≤ a ∧ a < 10)) : Eo (copyH fi a b) (copyH f a b) := by
  have e : f 580 a = fi 580 a := h 580 a (by unfold Sc; omega)
  have e1 : ∀ i, 0 ≤ i ∧ i < 60 → f 578 (60 * a + i) = fi 578 (60 * a + i) := fun i hi => h 578 _ (by unfold Sc; omega)
  have e2 : ∀ i, 0 ≤ i ∧ i < 60 → f 579 (60 * a + i) = fi 579 (60 * a + i) := fun i hi => h 579 _ (by unfold Sc; omega)
  intro c j hj
  unfold copyH blk
  by_cases h9 : c = 579
  · rw [if_pos h9, if_pos h9]
    by_cases w : 60 * b ≤ j ∧ j < 60 * b + 60
    · rw [if_pos w, if_pos w]; exact e2 (j - 60 * b) (by omega)
    · have h8 : ¬ c = 578 := by omega
      simp only [if_neg h8, if_neg w]; rw [e]; exact eo_ups h c j hj
  · rw [if_neg h9, if_neg h9]
    by_cases h8 : c = 578
    · rw [if_pos h8, if_pos h8]
      by_cases w : 60 * b ≤ j ∧ j < 60 * b + 60
      · rw [if_pos w, if_pos w]; exact e1 (j - 60 * b) (by omega)
      · rw [if_neg w, if_neg w, e]; exact eo_ups h c j hj
    · rw [if_neg h8, if_neg h8, e]; exact eo_ups h c j hj
theorem keep_ok (hS : Stat cr sh) {k : Int} (hkR : -2147483648 ≤ k ∧ k < 2147483648) :
    WC (CD mt (d + 2)) 237 [.ref 574, iv k] (G fi fl cr sh nx sl) (RI fl cr sh nx sl (fun v f => (¬ (0 ≤ k ∧ k ≤ 7) ∧ v = 0 ∧ Eo fi f) ∨ ((0 ≤ k ∧ k ≤ 7) ∧ v = 1 ∧ Eo (up (copyH fi 0 (2 + k)) 582 k 1) f))) := by
  refine WE.cd mt_X7_keep rfl rfl ?_
  have E0 : Eo fi (up fi 574 0 0) := eo_up (by unfold Sc; omega)
  by_cases hk : 0 ≤ k ∧ k ≤ 7
  · exact WE.fin (p_X7_keep_0_T (d := d) hS (copyBoard_ok hS (by omega) (by omega) (by omega))) (ri (Or.inr ⟨hk, rfl, eo_ups (eo_copy E0 (Or.inl rfl))⟩))
  · exact WE.fin (p_X7_keep_0_F (d := d) hS) (ri (Or.inl ⟨hk, rfl, E0⟩))
theorem use_ok (hS : Stat cr sh) {k : Int} (hkR : -2147483648 ≤ k ∧ k < 2147483648) (hkept : ∀ j, 0 ≤ j ∧ j ≤ 7 → fi 582 j = 0 ∨ fi 582 j = 1) :
    WC (CD mt (d + 3)) 238 [.ref 574, iv k] (G fi fl cr sh nx sl) (RI fl cr sh nx sl (fun v f => (¬ ((0 ≤ k ∧ k ≤ 7) ∧ fi 582 k ≠ 0) ∧ v = -1 ∧ Eo fi f) ∨ (((0 ≤ k ∧ k ≤ 7) ∧ fi 582 k ≠ 0) ∧ v = fi 580 (2 + k) ∧ Eo (copyH fi (2 + k) 0) f))) := by
  refine WE.cd mt_X7_use rfl rfl ?_
  have E0 : Eo fi (up fi 574 0 0) := eo_up (by unfold Sc; omega)
  by_cases hk : 0 ≤ k ∧ k ≤ 7
  · have hk2 := hkept k hk
    by_cases q : fi 582 k = 0
    · exact WE.fin (p_X7_use_0_TT (d := d) hS) (ri (Or.inl ⟨fun z => z.2 q, rfl, E0⟩))
    · refine WE.fin (p_X7_use_0_TF (d := d) hS (copyBoard_ok hS (by omega) (by omega) (by omega))) (ri (Or.inr ⟨⟨hk, q⟩, ?_, eo_copy E0 (Or.inr (by omega))⟩))
      unfold copyH
      rw [blk_cell (by decide), blk_cell (by decide), up_same, up_cell _ (by decide)]
  · exact WE.fin (p_X7_use_0_F (d := d) hS) (ri (Or.inl ⟨fun z => hk z.1, rfl, E0⟩))
end T7Q

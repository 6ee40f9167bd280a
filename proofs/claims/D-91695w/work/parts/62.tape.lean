/-! the reference: the tape is fed, boards are copied, kept, used -/
def fourH (fi : HI) (w : Int) : HI := up (blk fi 575 (fi 574 2) 4 (fun i => sx8 (ishr w (24 - 8 * i)))) 574 2 (fi 574 2 + 4)
theorem eo_blk {fi f : HI} (h : Eo fi f) {a : Nat} {o n : Int} {v : Int → Int} : Eo (blk fi a o n v) (blk f a o n v) := fun x i hi => by
  unfold blk; rw [h x i hi]
theorem eo_four {fi f : HI} (h : Eo fi f) (w : Int) : Eo (fourH fi w) (fourH f w) := by
  unfold fourH
  rw [h 574 2 (by unfold Sc; omega)]
  exact eo_ups (eo_blk h)
def feedH (fi : HI) (a b c d e : Int) : HI := fourH (fourH (fourH (fourH (fourH fi a) b) c) d) e
theorem four_len (fi : HI) (w : Int) : fourH fi w 574 2 = fi 574 2 + 4 := up_same _ _ _ _
/-- one board to another place -/
def copyH (fi : HI) (a b : Int) : HI := blk (blk (up fi 580 b (fi 580 a)) 578 (60 * b) 60 (fun i => fi 578 (60 * a + i))) 579 (60 * b) 60 (fun i => fi 579 (60 * a + i))
section T7P
variable {fi fl : HI} {cr : HR} {sh : HS} {nx sl d : Nat}
theorem four_ok (hS : Stat cr sh) {w : Int} (hm : 0 ≤ fi 574 2 ∧ fi 574 2 + 4 ≤ 740) : CD mt (d + 1) 149 [.ref 574, iv w] (G fi fl cr sh nx sl) = some (.returned none, G (fourH fi w) fl cr sh nx sl) := by
  have z : WC (CD mt (d + 1)) 149 [.ref 574, iv w] (G fi fl cr sh nx sl) (fun r => r = (.returned none, G (fourH fi w) fl cr sh nx sl)) := by
    refine WE.cd mt_X7_four rfl rfl ?_
    refine WE.to p_X7_four_0 ?_
    refine loopK (σ := Int) (fun x2 _ _ => [.ref 574, iv w, iv x2]) (fun _ _ i => (4 - i).toNat) (fun x2 f i => (0 ≤ i ∧ i ≤ 4) ∧ x2 = 24 - 8 * i ∧ f = up (blk fi 575 (fi 574 2) i (fun i => sx8 (ishr w (24 - 8 * i)))) 574 2 (fi 574 2 + i)) ?_ 24 fi 0 ⟨by omega, by omega, ?_⟩
    rotate_left
    · rw [blk_nil (by omega), Int.add_zero]
      funext b j
      unfold up
      by_cases h1 : b = 574
      · rw [if_pos h1, h1]
        by_cases h2 : j = 2
        · rw [if_pos h2, h2]
        · rw [if_neg h2]
      · rw [if_neg h1]
    rintro x2 f i ⟨hi, hx, rfl⟩ ih
    by_cases i4 : i = 4
    · subst i4
      exact WE.fin (p_X7_four_3_T) rfl
    · have e2 : up (blk fi 575 (fi 574 2) i (fun i => sx8 (ishr w (24 - 8 * i)))) 574 2 (fi 574 2 + i) 574 2 = fi 574 2 + i := up_same _ _ _ _
      refine WE.to (p_X7_four_3_F hS) (ih _ _ (i + 1) ⟨by omega, by omega, ?_⟩ (by omega))
      rw [e2, up_comm (a := 575) (c := 574) (by decide), up_up, hx, blk_next (v := fun i => sx8 (ishr w (24 - 8 * i))) hi.1 rfl rfl, Int.add_assoc]
  obtain ⟨r, a, b⟩ := z
  rw [a, b]
theorem feed_ok (hS : Stat cr sh) {a b c d' e : Int} (hm : 0 ≤ fi 574 2 ∧ fi 574 2 ≤ 740) :
    WC (CD mt (d + 2)) 148 [.ref 574, iv a, iv b, iv c, iv d', iv e] (G fi fl cr sh nx sl) (RI fl cr sh nx sl (fun v f => (740 < fi 574 2 + 20 ∧ v = -1 ∧ Eo fi f) ∨ (fi 574 2 + 20 ≤ 740 ∧ v = fi 574 2 + 20 ∧ Eo (feedH fi a b c d' e) f))) := by
  refine WE.cd mt_X7_feed rfl rfl ?_
  have E0 : Eo fi (up fi 574 0 0) := eo_up (by unfold Sc; omega)
  have l0 : up fi 574 0 0 574 2 = fi 574 2 := up_at _ _ (by decide) _
  by_cases q : fi 574 2 + 20 ≤ 740
  · have l1 := four_len (up fi 574 0 0) a
    have l2 := four_len (fourH (up fi 574 0 0) a) b
    have l3 := four_len (fourH (fourH (up fi 574 0 0) a) b) c
    have l4 := four_len (fourH (fourH (fourH (up fi 574 0 0) a) b) c) d'
    have l5 := four_len (fourH (fourH (fourH (fourH (up fi 574 0 0) a) b) c) d') e
    refine WE.fin (p_X7_feed_0_T hS (four_ok hS (by omega)) (four_ok hS (by omega)) (four_ok hS (by omega)) (four_ok hS (by omega)) (four_ok hS (by omega))) (ri (Or.inr ⟨q, by omega, ?_⟩))
    exact eo_four (eo_four (eo_four (eo_four (eo_four E0 _) _) _) _) _
  · exact WE.fin (p_X7_feed_0_F hS) (ri (Or.inl ⟨by omega, rfl, E0⟩))
theorem copyBoard_ok (hS : Stat cr sh) {a b : Int} (ha : 0 ≤ a ∧ a < 10) (hb : 0 ≤ b ∧ b < 10) (hab : a ≠ b) : CD mt (d + 1) 174 [.ref 574, iv a, iv b] (G fi fl cr sh nx sl) = some (.returned none, G (copyH fi a b) fl cr sh nx sl) := by
  have z : WC (CD mt (d + 1)) 174 [.ref 574, iv a, iv b] (G fi fl cr sh nx sl) (fun r => r = (.returned none, G (copyH fi a b) fl cr sh nx sl)) := by
    refine WE.cd mt_X7_copyBoard rfl rfl ?_
    refine WE.to (p_X7_copyBoard_0 hS) ?_
    refine loopK (σ := Unit) (fun k _ _ => [.ref 574, iv a, iv b, iv k]) (fun k _ _ => (60 - k).toNat) (fun k f _ => (0 ≤ k ∧ k ≤ 60) ∧ f = blk (blk (up fi 580 b (fi 580 a)) 578 (60 * b) k (fun i => fi 578 (60 * a + i))) 579 (60 * b) k (fun i => fi 579 (60 * a + i))) ?_ 0 _ () ⟨by omega, by rw [blk_nil (by omega), blk_nil (by omega)]⟩
    rintro k f _ ⟨hk, rfl⟩ ih
    by_cases k60 : k = 60
    · subst k60
      exact WE.fin p_X7_copyBoard_14_F rfl
    · refine WE.to (p_X7_copyBoard_14_T hS) (ih (k + 1) _ () ⟨by omega, ?_⟩ (by omega))
      have e1 : blk (blk (up fi 580 b (fi 580 a)) 578 (60 * b) k (fun i => fi 578 (60 * a + i))) 579 (60 * b) k (fun i => fi 579 (60 * a + i)) 578 (60 * a + k) = fi 578 (60 * a + k) := by
        rw [blk_cell (by decide), blk_out (by omega), up_cell _ (by decide)]
      have e2 : blk (blk (up fi 580 b (fi 580 a)) 578 (60 * b) k (fun i => fi 578 (60 * a + i))) 579 (60 * b) k (fun i => fi 579 (60 * a + i)) 579 (60 * a + k) = fi 579 (60 * a + k) := by
        rw [blk_out (by omega), blk_cell (by decide), up_cell _ (by decide)]
      rw [e1, e2]
      have c1 : up (blk (blk (up fi 580 b (fi 580 a)) 578 (60 * b) k (fun i => fi 578 (60 * a + i))) 579 (60 * b) k (fun i => fi 579 (60 * a + i))) 578 (60 * b + k) (fi 578 (60 * a + k)) = blk (blk (up fi 580 b (fi 580 a)) 578 (60 * b) (k + 1) (fun i => fi 578 (60 * a + i))) 579 (60 * b) k (fun i => fi 579 (60 * a + i)) := by
        rw [← blk_next (f := up fi 580 b (fi 580 a)) (a := 578) (o := 60 * b) (n := k) (v := fun i => fi 578 (60 * a + i)) hk.1 rfl rfl]
        funext x j
        unfold up blk
        by_cases h1 : x = 578
        · subst h1; rfl
        · by_cases h2 : x = 579
          · subst h2; rfl
          · simp only [if_neg h1, if_neg h2]
      rw [c1]
      exact blk_next hk.1 rfl rfl
  obtain ⟨r, x, y⟩ := z
  rw [x, y]
end T7P

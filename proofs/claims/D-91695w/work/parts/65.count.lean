/-! the reference: count -/
theorem count_ok {fi fl : HI} {cr : HR} {sh : HS} {nx sl d : Nat} (hS : Stat cr sh) {x : Int} (hx : -2147483648 ≤ x ∧ x < 2147483648) :
    WC (CD mt (d + 1)) 247 [.ref 574, iv x] (G fi fl cr sh nx sl) (RI fl cr sh nx sl (fun v f => Eo fi f ∧ v = if x = 0 then fi 580 0 else if x = 1 then sumTo (fi 577) 8 else if x = 2 then fi 574 2 else -1)) := by
  refine WE.cd mt_X7_count rfl rfl ?_
  refine WE.to (p_X7_count_0 hS) ?_
  have E0 : Eo fi (up fi 574 0 0) := eo_up (by unfold Sc; omega)
  refine loopK (σ := Int) (fun k _ n => [.ref 574, iv x, iv n, iv k]) (fun k _ _ => (8 - k).toNat) (fun k f n => f = up fi 574 0 0 ∧ (0 ≤ k ∧ k ≤ 8) ∧ n = sumTo (fi 577) k.toNat) ?_ 0 _ 0 ⟨rfl, by omega, rfl⟩
  rintro k f n ⟨rfl, hk, hn⟩ ih
  have e577 : up fi 574 0 0 577 = fi 577 := up_cell _ (by decide) _ _
  by_cases k8 : k = 8
  · subst k8
    have hn8 : n = sumTo (fi 577) 8 := hn
    by_cases q0 : x = 0
    · exact WE.fin (p_X7_count_9_FT hS) (ri ⟨E0, by rw [if_pos q0, up_cell _ (by decide)]⟩)
    · by_cases q1 : x = 1
      · exact WE.fin (p_X7_count_9_FFT) (ri ⟨E0, by rw [if_neg q0, if_pos q1, hn8]⟩)
      · by_cases q2 : x = 2
        · exact WE.fin (p_X7_count_9_FFFT hS) (ri ⟨E0, by rw [if_neg q0, if_neg q1, if_pos q2, up_at _ _ (by decide)]⟩)
        · exact WE.fin (p_X7_count_9_FFFF) (ri ⟨E0, by rw [if_neg q0, if_neg q1, if_neg q2]⟩)
  · refine WE.to (p_X7_count_9_T hS) (ih (k + 1) _ _ ⟨rfl, by omega, ?_⟩ (by omega))
    rw [e577, show (k + 1).toNat = k.toNat + 1 by omega, hn]
    show _ = sumTo (fi 577) k.toNat + fi 577 ((k.toNat : Nat) : Int)
    rw [show ((k.toNat : Nat) : Int) = k by omega]

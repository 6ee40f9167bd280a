/-! the reference: a pass -/
theorem bk_mem {key : Int → Int} {l : List Int} : ∀ (n : Nat) (x : Int), x ∈ bk key l n → x ∈ l := by
  intro n
  induction n with
  | zero => intro x h; cases h
  | succ n ih =>
    intro x h
    rcases List.mem_append.mp h with h | h
    · exact ih x h
    · exact (List.mem_filter.mp h).1
def idL (m : Nat) : List Int := (List.range m).map (fun i : Nat => (i : Int))
theorem idL_len (m : Nat) : (idL m).length = m := by unfold idL; simp
theorem idL_at {m i : Nat} (h : i < m) : (idL m).getD i 0 = (i : Int) := by
  unfold idL; rw [List.getD_eq_getElem?_getD]; simp [h]
theorem idL_mem {m : Nat} {x : Int} (h : x ∈ idL m) : 0 ≤ x ∧ x < m := by
  unfold idL at h
  obtain ⟨i, hi, rfl⟩ := List.mem_map.mp h
  have := List.mem_range.mp hi
  omega
/-- the cards of a box behind a pass -/
def passH (fi : HI) (b n : Int) : HI := blk fi 576 (800 * b) (20 * fi 577 b) (fun i => fi 576 (20 * (40 * b + (srt (keyB fi b (n - 1)) (idL (fi 577 b).toNat)).getD (i / 20).toNat 0) + i % 20))
section T7S
variable {fi fl : HI} {cr : HR} {sh : HS} {nx sl d : Nat}
theorem pass_ok (hS : Stat cr sh) {b n : Int} (hbR : -2147483648 ≤ b ∧ b < 2147483648) (hnR : -2147483648 ≤ n ∧ n < 2147483648) (hB : BoxOk fi) :
    WC (CD mt (d + 3)) 193 [.ref 574, iv b, iv n] (G fi fl cr sh nx sl) (RI fl cr sh nx sl (fun v f => (¬ ((0 ≤ b ∧ b ≤ 7) ∧ 1 ≤ n ∧ n ≤ 20) ∧ v = 0 ∧ Eo fi f) ∨ (((0 ≤ b ∧ b ≤ 7) ∧ 1 ≤ n ∧ n ≤ 20) ∧ v = 1 ∧ Eo (passH fi b n) f))) := by
  refine WE.cd mt_X7_pass rfl rfl ?_
  have E0 : Eo fi (up fi 574 0 0) := eo_up (by unfold Sc; omega)
  by_cases hb : 0 ≤ b ∧ b ≤ 7
  rotate_left
  · exact WE.fin (p_X7_pass_0_F hS) (ri (Or.inl ⟨fun z => hb z.1, rfl, E0⟩))
  by_cases hn : 1 ≤ n ∧ n ≤ 20
  rotate_left
  · exact WE.fin (p_X7_pass_0_TF hS) (ri (Or.inl ⟨fun z => hn z.2, rfl, E0⟩))
  have hm := (hB b hb).1
  refine WE.to (p_X7_pass_0_TT hS) ?_
  have u : ∀ c, c ≠ 574 → up fi 574 0 0 c = fi c := fun c hc => up_cell _ hc _ _
  refine loopF (fun k => [.ref 574, iv b, iv n, iv k, nv]) 601 0 (fi 577 b) (fun k => k) (by omega) (fun k k0 k1 => ?_) ?_
  · have e7 : blk (up fi 574 0 0) 601 0 k (fun k => k) 577 b = fi 577 b := by rw [blk_cell (by decide), u 577 (by decide)]
    exact ⟨_, _, p_X7_pass_26_T hS, by omega, rfl⟩
  generalize hf1 : blk (up fi 574 0 0) 601 0 (fi 577 b) (fun k => k) = f1
  have e1 : ∀ c, c ≠ 601 → c ≠ 574 → f1 c = fi c := fun c h1 h2 => by rw [← hf1, blk_cell h1, u c h2]
  have E1 : Eo fi f1 := E0.trans (fun c j hj => by
    rw [← hf1]; exact congrFun (blk_cell (fun z => hj (by unfold Sc; omega))) j)
  have hA : AtL f1 601 (idL (fi 577 b).toNat) := fun i hi => by
    rw [idL_len] at hi
    rw [← hf1, blk_in (by omega), idL_at hi, Int.sub_zero]
  have hB1 : BoxOk f1 := by
    intro c hc
    rw [e1 577 (by decide) (by decide), e1 576 (by decide) (by decide)]; exact hB c hc
  have e17 : f1 577 b = fi 577 b := by rw [e1 577 (by decide) (by decide)]
  obtain ⟨f2, c2, fr2, at2⟩ := (sort_ok (fi := f1) (fl := fl) (nx := nx) (sl := sl) (d := d + 1) (b := b) (n := n - 1) (l := idL (fi 577 b).toNat) hS hb (by omega) hB1 (by rw [idL_len, e17]; omega) hA (fun i hi => by rw [idL_len] at hi; rw [idL_at hi, e17]; omega)).v
  have ek : keyB f1 b (n - 1) = keyB fi b (n - 1) := by funext x; unfold keyB; rw [e1 576 (by decide) (by decide)]
  rw [ek] at at2
  refine WE.to (p_X7_pass_26_F hS c2) ?_
  have hmem : ∀ x, x ∈ srt (keyB fi b (n - 1)) (idL (fi 577 b).toNat) → 0 ≤ x ∧ x < fi 577 b := fun x hx => by
    have := idL_mem (bk_mem 11 x hx); omega
  have hlen : (srt (keyB fi b (n - 1)) (idL (fi 577 b).toNat)).length = (fi 577 b).toNat := by
    unfold srt
    rw [bk_len, List.filter_eq_self.mpr (fun x hx => ?_), idL_len]
    have h1 := idL_mem hx
    have h2 : -1 ≤ keyB fi b (n - 1) x ∧ keyB fi b (n - 1) x ≤ 9 := dgt_R ((hB b hb).2 x (n - 1) (by omega) (by omega)).2
    exact decide_eq_true (by omega)
  generalize hL : srt (keyB fi b (n - 1)) (idL (fi 577 b).toNat) = L at at2 hmem hlen
  have hLR : ∀ i : Nat, i < L.length → 0 ≤ L.getD i 0 ∧ L.getD i 0 < fi 577 b := fun i hi => by
    refine hmem _ ?_
    rw [List.getD_eq_getElem?_getD, List.getElem?_eq_getElem hi]
    exact List.getElem_mem hi
  have e2 : ∀ c, c ≠ 601 → c ≠ 602 → c ≠ 574 → f2 c = fi c := fun c h1 h2 h3 => by rw [fr2 c h1 h2, e1 c h1 h3]
  have E2 : Eo fi f2 := E1.trans (fun c j hj => by rw [fr2 c (fun z => hj (by unfold Sc; omega)) (fun z => hj (by unfold Sc; omega))])
  refine loopK (fun k _ v => [.ref 574, iv b, iv n, iv k, v]) (fun k _ _ => (fi 577 b - k).toNat) (fun k f v => nw v ∧ (0 ≤ k ∧ k ≤ fi 577 b) ∧ (∀ c, c ≠ 602 → f c = f2 c) ∧ ∀ i h, 0 ≤ i ∧ i < k → 0 ≤ h ∧ h < 20 → f 602 (20 * i + h) = fi 576 (20 * (40 * b + L.getD i.toNat 0) + h)) ?_ 0 f2 nv ⟨nw_nv, by omega, fun _ _ => rfl, fun i h hi => by omega⟩
  rintro k f v ⟨hv, hk, hfr, hc⟩ ih
  have e577 : f 577 b = fi 577 b := by rw [hfr 577 (by decide), e2 577 (by decide) (by decide) (by decide)]
  by_cases kn : k = fi 577 b
  · refine WE.to (p_X7_pass_59_F hS) ?_
    refine loopF (fun i => [.ref 574, iv b, iv n, iv i, v]) 576 (800 * b) (20 * fi 577 b) (fun i => fi 576 (20 * (40 * b + L.getD (i / 20).toNat 0) + i % 20)) (by omega) (fun i i0 i1 => ?_) ?_
    · have e7 : blk f 576 (800 * b) i (fun i => fi 576 (20 * (40 * b + L.getD (i / 20).toNat 0) + i % 20)) 577 b = fi 577 b := by rw [blk_cell (by decide), e577]
      refine ⟨_, _, p_X7_pass_127_T hS, by omega, ?_⟩
      have := hc (i / 20) (i % 20) (by omega) (by omega)
      rw [show 20 * (i / 20) + i % 20 = i by omega] at this
      rw [blk_cell (by decide), this]
    · have e7 : blk f 576 (800 * b) (20 * fi 577 b) (fun i => fi 576 (20 * (40 * b + L.getD (i / 20).toNat 0) + i % 20)) 577 b = fi 577 b := by rw [blk_cell (by decide), e577]
      refine WE.fin (p_X7_pass_127_F hS) (ri (Or.inr ⟨⟨hb, hn⟩, rfl, ?_⟩))
      unfold passH
      rw [hL]
      exact eo_blk (E2.trans (fun c j hj => by rw [hfr c (fun z => hj (by unfold Sc; omega))]))
  · refine WE.to (p_X7_pass_59_T hS) ?_
    have a1 := at2 k.toNat (by rw [hlen]; omega)
    have a2 := hLR k.toNat (by rw [hlen]; omega)
    rw [show ((k.toNat : Nat) : Int) = k by omega, ← hfr 601 (by decide)] at a1
    refine loopF (fun h => [.ref 574, iv b, iv n, iv k, iv h]) 602 (20 * k) 20 (fun h => fi 576 (20 * (40 * b + L.getD k.toNat 0) + h)) (by omega) (fun h h0 h1 => ?_) ?_
    · have x1 : blk f 602 (20 * k) h (fun h => fi 576 (20 * (40 * b + L.getD k.toNat 0) + h)) 601 k = L.getD k.toNat 0 := by rw [blk_cell (by decide), a1]
      have x6 : blk f 602 (20 * k) h (fun h => fi 576 (20 * (40 * b + L.getD k.toNat 0) + h)) 576 = fi 576 := by rw [blk_cell (by decide), hfr 576 (by decide), e2 576 (by decide) (by decide) (by decide)]
      exact ⟨_, _, p_X7_pass_72_T hS, rfl, by rw [x1, x6]⟩
    · refine WE.to (p_X7_pass_72_F) (ih (k + 1) _ (iv 20) ⟨nw_iv _, by omega, fun c h1 => by rw [blk_cell h1, hfr c h1], fun i h hi hh => ?_⟩ (by omega))
      by_cases e : i = k
      · rw [blk_in (by omega), e, show 20 * k + h - 20 * k = h by omega]
      · rw [blk_out (by omega)]; exact hc i h (by omega) hh
end T7S

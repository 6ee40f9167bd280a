/-! the reference: unseen, run -/
/-- a box's cards without one -/
def cdX (fi : HI) (b lo : Int) : Int → Int → Int := fun k h => fi 576 (20 * (40 * b + (if lo ≤ k then k + 1 else k)) + h)
noncomputable def outU (fi : HI) (b k : Int) : Int × RS := runO (ntW fi (-1)) 40 (cdX fi b (k + 1)) (fi 577 b - 1)
noncomputable def unseenL (fi : HI) (b : Int) : List Int := fdl (fun k => OLike (outU fi b k) (outB fi (-1) 40 b)) (fi 577 b - 1).toNat
section T7O
variable {fi fl : HI} {cr : HR} {sh : HS} {nx sl d : Nat}
theorem loadU (hS : Stat cr sh) {b lo : Int} {f : HI} (hb : 0 ≤ b ∧ b ≤ 7) (hB : BoxOk fi) (e577 : f 577 b = fi 577 b) (e576 : ∀ j, f 576 j = fi 576 j) (e580 : f 580 0 = fi 580 0) (e578 : ∀ k, 0 ≤ k ∧ k < 60 → f 578 k = fi 578 k ∧ f 579 k = fi 579 k) (hlo : 0 ≤ lo ∧ lo < fi 577 b) :
    ∃ f', CD mt (d + 1) 176 [.ref 574, iv b, iv 0, iv (f 577 b), iv lo] (G f fl cr sh nx sl) = some (.returned none, G f' fl cr sh nx sl) ∧ Dk fi (cdX fi b lo) (fi 577 b - 1) f' ∧ Eo f f' ∧ (∀ c, c ≠ 574 → c ≠ 583 → f' c = f c) ∧ ∀ j, j ≠ 41 → f' 574 j = f 574 j := by
  have hn := (hB b hb).1
  obtain ⟨f', hc, fr, f574, f41, fc⟩ := (load_ok (fi := f) (fl := fl) (nx := nx) (sl := sl) (d := d) (b := b) (from_ := 0) (n := f 577 b) (lo := lo) hS hb (by omega) (by omega)).v
  rw [if_pos (by omega)] at f41
  have eo2 : Eo f f' := fun c j hj => by
    by_cases h1 : c = 574
    · subst h1
      exact f574 j (fun z => hj (by unfold Sc; omega))
    · by_cases h2 : c = 583
      · exact absurd (by unfold Sc; omega) hj
      · rw [fr c h1 h2]
  refine ⟨f', hc, ⟨by rw [f41, e577], by omega, fun k h hk hh => ?_, fun k h hk hh => ?_, ?_, fun k hk => ⟨?_, ?_⟩⟩, eo2, fr, f574⟩
  · exact (hB b hb).2 (if lo ≤ k then k + 1 else k) h (by split <;> omega) hh
  · have := fc k h (by rw [if_pos (by omega), e577]; exact hk) hh
    rw [this, e576]
    unfold cdX
    by_cases w : lo ≤ k
    · rw [if_pos (by omega), if_pos w, Int.zero_add]
    · rw [if_neg (by omega), if_neg w, Int.zero_add]
  · rw [fr 580 (by decide) (by decide)]; exact e580
  · rw [fr 578 (by decide) (by decide)]; exact (e578 k hk).1
  · rw [fr 579 (by decide) (by decide)]; exact (e578 k hk).2
theorem eo_keep {t : Int} (ht : t = 2) {f f' : HI} (h1 : ∀ b, b < 590 ∨ 600 < b → f' b = f b) (h2 : ∀ b j, 590 ≤ b ∧ b ≤ 600 → ¬ ((if b = 593 then 720 * t else if b = 594 then 4 * t else if b = 595 then 800 * t else t) ≤ j ∧ j < (if b = 593 then 720 * t + 720 else if b = 594 then 4 * t + 4 else if b = 595 then 800 * t + 800 else t + 1)) → f' b j = f b j) : Eo f f' := fun c j hj => by
  subst ht
  by_cases q : c < 590 ∨ 600 < c
  · rw [h1 c q]
  · refine h2 c j (by omega) (fun z => hj ?_)
    unfold Sc
    split at z
    · omega
    · split at z
      · omega
      · split at z <;> omega
theorem unseen_ok (hS : Stat cr sh) {b : Int} (hbR : -2147483648 ≤ b ∧ b < 2147483648) (hB : BoxOk fi) (hw : WirOk fi) :
    WC (CD mt (d + 6)) 208 [.ref 574, iv b] (G fi fl cr sh nx sl) (RI fl cr sh nx sl (fun v f => (¬ (0 ≤ b ∧ b ≤ 7) ∧ v = -1 ∧ Eo fi f) ∨ ((0 ≤ b ∧ b ≤ 7) ∧ v = ((unseenL fi b).length : Int) ∧ Eo (up (stL fi 604 (unseenL fi b)) 574 54 ((unseenL fi b).length : Int)) f))) := by
  refine WE.cd mt_X7_unseen rfl rfl ?_
  by_cases hb : 0 ≤ b ∧ b ≤ 7
  rotate_left
  · exact WE.fin (p_X7_unseen_0_F (d := d + 3) hS) (ri (Or.inl ⟨hb, rfl, eo_up (by unfold Sc; omega)⟩))
  have hn := (hB b hb).1
  have E0 : Eo fi (up (up fi 574 0 0) 574 42 (-1)) := (eo_up (by unfold Sc; omega)).trans (eo_up (by unfold Sc; omega))
  obtain ⟨f1, c1, D1, E1, fr1, g1⟩ := loadB (fl := fl) (nx := nx) (sl := sl) (d := d + 4) hS hb hB E0
  rw [show up (up fi 574 0 0) 574 42 (-1) 577 b = fi 577 b by rw [up_cell _ (by decide), up_cell _ (by decide)]] at c1
  have w1 : f1 574 42 = -1 := by rw [g1 42 (by decide), up_same]
  obtain ⟨f2, c2, t2, o2, s2, p2⟩ := playD (fi := fi) (fl := fl) (nx := nx) (sl := sl) (d := d) (room := 40) hS (by omega) hw D1 (by rw [w1]; omega)
  rw [w1] at t2 o2 s2
  have w2 : f2 574 42 = -1 := by rw [p2.lo (by omega), up_at _ _ (by decide), w1]
  obtain ⟨f3, c3, t3, fr3, fr3'⟩ := (keepRun_ok (fi := f2) (fl := fl) (nx := nx) (sl := sl) (d := d + 4) (t := 2) hS (by omega) o2.1 t2).v
  have E3 : Eo fi f3 := (E1.trans (eo_pl p2)).trans (eo_keep rfl fr3 fr3')
  have w3 : f3 574 42 = -1 := by rw [fr3 574 (by omega), w2]
  refine WE.to (p_X7_unseen_0_T hS c1 c2 c3) ?_
  generalize hP : (fun k => OLike (outU fi b k) (outB fi (-1) 40 b)) = P
  have hl : unseenL fi b = fdl P (fi 577 b - 1).toNat := by unfold unseenL; rw [hP]
  refine loopK (σ := Unit) (fun k _ _ => [.ref 574, iv b, iv k]) (fun k _ _ => (fi 577 b - k).toNat) (fun k f _ => (0 ≤ k ∧ (k ≤ fi 577 b - 1 ∨ k = 0)) ∧ f 574 42 = -1 ∧ TKp 2 (outB fi (-1) 40 b) f ∧ Eo (up (stL fi 604 (fdl P k.toNat)) 574 54 ((fdl P k.toNat).length : Int)) f) ?_ 0 _ () ⟨by omega, by rw [up_at _ _ (by decide)]; exact w3, t3.cells (fun c hc => up_cell _ (by omega) _ _), ?_⟩
  rotate_left
  · show Eo (up (stL fi 604 []) 574 54 ((([] : List Int).length : Nat) : Int)) _
    rw [stL_nil]
    exact eo_ups E3
  rintro k f _ ⟨hk, wf, tf, Ef⟩ ih
  have len := fdl_len (P := P) k.toNat
  have oE : ∀ c j, ¬ Sc c j → c ≠ 604 → (c = 574 → j ≠ 54) → f c j = fi c j := fun c j h1 h2 h3 => by
    rw [Ef c j h1]
    by_cases e : c = 574
    · subst e; rw [up_at _ _ (h3 rfl), stL_cell (by decide)]
    · rw [up_cell _ e, stL_cell h2]
  have e577 : f 577 b = fi 577 b := oE 577 b (by unfold Sc; omega) (by decide) (by omega)
  have e54 : f 574 54 = ((fdl P k.toNat).length : Int) := by
    rw [Ef 574 54 (by unfold Sc; omega), up_same]
  by_cases kn : fi 577 b ≤ k + 1
  · have lk : fdl P k.toNat = unseenL fi b := by rw [hl]; congr 1; omega
    refine WE.fin (p_X7_unseen_50_F hS) (ri (Or.inr ⟨hb, by rw [e54, lk], ?_⟩))
    rw [← lk]
    exact Ef
  · obtain ⟨f4, c4, D4, E4, fr4, g4⟩ := loadU (fi := fi) (f := f) (fl := fl) (nx := nx) (sl := sl) (d := d + 4) (lo := k + 1) hS hb hB e577 (fun j => oE 576 j (by unfold Sc; omega) (by decide) (by omega)) (oE 580 0 (by unfold Sc; omega) (by decide) (by omega)) (fun j hj => ⟨oE 578 j (by unfold Sc; omega) (by decide) (by omega), oE 579 j (by unfold Sc; omega) (by decide) (by omega)⟩) (by omega)
    have w4 : f4 574 42 = -1 := by rw [g4 42 (by decide), wf]
    obtain ⟨f5, c5, t5, o5, s5, p5⟩ := playD (fi := fi) (fl := fl) (nx := nx) (sl := sl) (d := d) (room := 40) hS (by omega) hw D4 (by rw [w4]; omega)
    rw [w4] at t5 o5 s5
    have tf5 : TKp 2 (outB fi (-1) 40 b) f5 := TKp.mono (by omega) ((tf.cells (fun c hc => fr4 c (by omega) (by omega))).cells (fun c hc => up_cell (f := f4) (by omega) 43 40)) o2.1 p5
    have E5 : Eo (up (stL fi 604 (fdl P k.toNat)) 574 54 ((fdl P k.toNat).length : Int)) f5 := (Ef.trans E4).trans (eo_pl p5)
    have e54' : f5 574 54 = ((fdl P k.toNat).length : Int) := by rw [E5 574 54 (by unfold Sc; omega), up_same]
    have w5 : f5 574 42 = -1 := by rw [p5.lo (by omega), up_at _ _ (by decide), w4]
    have kN : ((k.toNat : Nat) : Int) = k := by omega
    have k1 : (k + 1).toNat = k.toNat + 1 := by omega
    rcases isLike_ok (fi := f5) (fl := fl) (cr := cr) (sh := sh) (nx := nx) (sl := sl) (d := d + 4) hS t5 tf5 o5 o2 with ⟨c6, lk⟩ | ⟨c6, lk⟩
    · have hPk : P ((k.toNat : Nat) : Int) := by rw [kN, ← hP]; exact lk
      refine WE.to (p_X7_unseen_50_T1 hS c4 c5 c6) (ih (k + 1) _ () ⟨by omega, by rw [up_at _ _ (by decide), up_cell _ (by decide)]; exact w5, tf5.cells (fun c hc => by rw [up_cell _ (by omega), up_cell _ (by omega)]), ?_⟩ (by omega))
      rw [k1, fdl_yes hPk, kN, e54']
      have := eo_ups (b := 574) (j := 54) (v := ((fdl P k.toNat).length : Int) + 1) (eo_ups (b := 604) (j := ((fdl P k.toNat).length : Int)) (v := k) E5)
      rw [stL_step (by decide) rfl] at this
      rw [List.length_append]
      exact this
    · have hPk : ¬ P ((k.toNat : Nat) : Int) := by rw [kN, ← hP]; exact lk
      refine WE.to (p_X7_unseen_50_T0 hS c4 c5 c6) (ih (k + 1) _ () ⟨by omega, w5, tf5, ?_⟩ (by omega))
      rw [k1, fdl_no hPk]
      exact E5
/-- the box behind a run, and that it was run -/
noncomputable def runH (fi : HI) (to_ : Int) (o : Int × RS) : HI := up (up (blk fi 576 (20 * (40 * to_ + fi 577 to_)) (20 * o.2.1 3) (fun i => o.2.2.2.2 (i / 20) (i % 20))) 577 to_ (fi 577 to_ + o.2.1 3)) 574 44 1
theorem run_ok (hS : Stat cr sh) {b t : Int} (hbR : -2147483648 ≤ b ∧ b < 2147483648) (htR : -2147483648 ≤ t ∧ t < 2147483648) (hB : BoxOk fi) (hw : WirOk fi) :
    WC (CD mt (d + 6)) 175 [.ref 574, iv b, iv t] (G fi fl cr sh nx sl) (RI fl cr sh nx sl (fun v f => (¬ ((0 ≤ b ∧ b ≤ 7) ∧ (0 ≤ t ∧ t ≤ 7) ∧ b ≠ t) ∧ v = -1 ∧ Eo fi f) ∨ (((0 ≤ b ∧ b ≤ 7) ∧ (0 ≤ t ∧ t ≤ 7) ∧ b ≠ t) ∧ v = (outB fi (-1) (40 - fi 577 t) b).1 ∧ OOk (outB fi (-1) (40 - fi 577 t) b) ∧ SB (40 - fi 577 t) (outB fi (-1) (40 - fi 577 t) b).2 ∧ TKp 1 (outB fi (-1) (40 - fi 577 t) b) f ∧ ∀ c j, ¬ Sc c j → ¬ (590 ≤ c ∧ c ≤ 600) → f c j = runH fi t (outB fi (-1) (40 - fi 577 t) b) c j))) := by
  refine WE.cd mt_X7_run rfl rfl ?_
  have E00 : Eo fi (up fi 574 0 0) := eo_up (by unfold Sc; omega)
  by_cases hb : 0 ≤ b ∧ b ≤ 7
  rotate_left
  · exact WE.fin (p_X7_run_0_F (d := d + 3) hS) (ri (Or.inl ⟨fun z => hb z.1, rfl, E00⟩))
  by_cases ht : 0 ≤ t ∧ t ≤ 7
  rotate_left
  · exact WE.fin (p_X7_run_0_TF (d := d + 3) hS) (ri (Or.inl ⟨fun z => ht z.2.1, rfl, E00⟩))
  by_cases hbt : b = t
  · exact WE.fin (p_X7_run_0_TTT (d := d + 3) hS) (ri (Or.inl ⟨fun z => z.2.2 hbt, rfl, E00⟩))
  have hn := (hB b hb).1
  have hnt := (hB t ht).1
  have E0 : Eo fi (up (up fi 574 0 0) 574 42 (-1)) := E00.trans (eo_up (by unfold Sc; omega))
  obtain ⟨f1, c1, D1, E1, fr1, g1⟩ := loadB (fl := fl) (nx := nx) (sl := sl) (d := d + 4) hS hb hB E0
  rw [show up (up fi 574 0 0) 574 42 (-1) 577 b = fi 577 b by rw [up_cell _ (by decide), up_cell _ (by decide)]] at c1
  have w1 : f1 574 42 = -1 := by rw [g1 42 (by decide), up_same]
  have e577 : f1 577 = fi 577 := by rw [fr1 577 (by decide) (by decide), up_cell _ (by decide), up_cell _ (by decide)]
  obtain ⟨f2, c2, t2, o2, s2, p2⟩ := playD (fi := fi) (fl := fl) (nx := nx) (sl := sl) (d := d) (room := 40 - fi 577 t) hS (by omega) hw D1 (by rw [w1]; omega)
  rw [w1] at t2 o2 s2
  rw [← e577] at c2
  refine WE.to (p_X7_run_0_TTF hS c1 c2) ?_
  have E2 : Eo fi f2 := E1.trans (eo_pl p2)
  have m2 : f2 577 t = fi 577 t := E2 577 t (by unfold Sc; omega)
  have hsp := s2.2.1
  have hdef : runO (ntW fi (-1)) (40 - fi 577 t) (cdB fi b) (fi 577 b) = outB fi (-1) (40 - fi 577 t) b := rfl
  rw [hdef] at t2 o2 s2 hsp
  generalize outB fi (-1) (40 - fi 577 t) b = o at t2 o2 s2 hsp
  have e592 : f2 592 0 = o.2.1 3 := t2.2.2.2.2.1
  refine loopF (fun k => [.ref 574, iv b, iv t, iv k]) 576 (20 * (40 * t + fi 577 t)) (20 * o.2.1 3) (fun i => o.2.2.2.2 (i / 20) (i % 20)) (by omega) (fun k h0 h1 => ?_) ?_
  · have x1 : blk f2 576 (20 * (40 * t + fi 577 t)) k (fun i => o.2.2.2.2 (i / 20) (i % 20)) 592 0 = o.2.1 3 := by rw [blk_cell (by decide), e592]
    have x2 : blk f2 576 (20 * (40 * t + fi 577 t)) k (fun i => o.2.2.2.2 (i / 20) (i % 20)) 577 t = fi 577 t := by rw [blk_cell (by decide), m2]
    refine ⟨_, _, p_X7_run_59_T hS, by rw [x2], ?_⟩
    have := t2.2.2.2.2.2.2.2.2.2.2 (k / 20) (k % 20) (by omega) (by omega)
    rw [show 800 * 0 + (20 * (k / 20) + k % 20) = k by omega] at this
    rw [blk_cell (by decide), this]
  · generalize hf3 : blk f2 576 (20 * (40 * t + fi 577 t)) (20 * o.2.1 3) (fun i => o.2.2.2.2 (i / 20) (i % 20)) = f3
    have eo3 : ∀ c, c ≠ 576 → f3 c = f2 c := fun c hc => by rw [← hf3, blk_cell hc]
    have x1 : f3 592 0 = o.2.1 3 := by rw [eo3 _ (by decide), e592]
    have x2 : f3 577 t = fi 577 t := by rw [eo3 _ (by decide), m2]
    have t3 : TKp 0 o (up f3 577 t (f3 577 t + f3 592 0)) := t2.cells (fun c hc => by rw [up_cell _ (by omega), eo3 c (by omega)])
    obtain ⟨f4, c4, t4, fr4, fr4'⟩ := (keepRun_ok (fi := up f3 577 t (f3 577 t + f3 592 0)) (fl := fl) (nx := nx) (sl := sl) (d := d + 4) (t := 1) hS (by omega) o2.1 t3).v
    have v590 : f4 590 0 = o.1 := by
      rw [fr4' 590 0 (by omega) (by rw [if_neg (by decide), if_neg (by decide), if_neg (by decide)]; omega)]; exact t3.1
    refine WE.fin (p_X7_run_59_F hS c4) (ri (Or.inr ⟨⟨hb, ht, hbt⟩, v590, o2, s2, t4.cells (fun c hc => up_cell _ (by omega) _ _), fun c j h1 h2 => ?_⟩))
    unfold runH
    by_cases q : c = 574
    · subst q
      rw [up_in, up_in]
      by_cases q2 : j = 44
      · rw [if_pos q2, if_pos q2]
      · rw [if_neg q2, if_neg q2, fr4 574 (by omega), up_cell _ (by decide), eo3 574 (by decide), up_cell _ (by decide), blk_cell (by decide)]
        exact E2 574 j h1
    · rw [up_cell _ q, up_cell _ q, fr4 c (by omega), x1, x2]
      by_cases q3 : c = 577
      · subst q3
        rw [up_in, up_in, eo3 577 (by decide), blk_cell (by decide), E2 577 j h1]
      · rw [up_cell _ q3, up_cell _ q3, ← hf3]
        by_cases q4 : c = 576
        · subst q4
          unfold blk
          rw [if_pos rfl, if_pos rfl, E2 576 j h1]
        · rw [blk_cell q4, blk_cell q4]
          exact E2 c j h1
end T7O

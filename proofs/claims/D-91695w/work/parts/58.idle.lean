/-! the reference: runs of a box; idle -/
theorem up_comm {f : HI} {a c : Nat} (h : a ≠ c) {i j x y : Int} : up (up f c j y) a i x = up (up f a i x) c j y := by
  funext b k
  unfold up
  by_cases h1 : b = a
  · rw [if_pos h1, if_neg (fun z => h (h1.symm.trans z)), if_neg (fun z => h (h1.symm.trans z)), if_pos h1]
  · rw [if_neg h1, if_neg h1]
theorem up_up {f : HI} {a : Nat} {i x y : Int} : up (up f a i x) a i y = up f a i y := by
  funext b k
  unfold up
  by_cases h1 : b = a
  · rw [if_pos h1, if_pos h1, if_pos h1]
    by_cases h2 : k = i
    · rw [if_pos h2, if_pos h2]
    · rw [if_neg h2, if_neg h2, if_neg h2]
  · rw [if_neg h1, if_neg h1, if_neg h1]
theorem stL_step {f : HI} {a c : Nat} (h : a ≠ c) {l : List Int} {j m m' x i : Int} (hi : i = (l.length : Int)) : up (up (up (stL f a l) c j m) a i x) c j m' = up (stL f a (l ++ [x])) c j m' := by
  rw [up_comm h, up_up, stL_snoc hi]
def BoxOk (fi : HI) : Prop := ∀ b, 0 ≤ b ∧ b ≤ 7 → (0 ≤ fi 577 b ∧ fi 577 b ≤ 40) ∧ ∀ k h, 0 ≤ k ∧ k < fi 577 b → 0 ≤ h ∧ h < 20 → (0 ≤ fi 576 (20 * (40 * b + k) + h) ∧ fi 576 (20 * (40 * b + k) + h) ≤ 31) ∧ (fi 576 (20 * (40 * b + k) + h) % 16 ≤ 9 ∨ fi 576 (20 * (40 * b + k) + h) % 16 = 15)
def WirOk (fi : HI) : Prop := (0 ≤ fi 580 0 ∧ fi 580 0 ≤ 60) ∧ ∀ k, 0 ≤ k → k < fi 580 0 → (0 ≤ fi 578 k ∧ fi 578 k < 217) ∧ (0 ≤ fi 579 k ∧ fi 579 k < 217)
def ntW (fi : HI) (wo : Int) : NT := ntOf (fi 578) (fi 579) (fi 580 0) wo
def cdB (fi : HI) (b : Int) : Int → Int → Int := fun k h => fi 576 (20 * (40 * b + k) + h)
/-- what a run of a box comes to, without a wire -/
noncomputable def outB (fi : HI) (wo room b : Int) : Int × RS := runO (ntW fi wo) room (cdB fi b) (fi 577 b)
theorem TKp.mono {i : Int} {o : Int × RS} {fi f : HI} (hi : 1 ≤ i) (h : TKp i o fi) (ho : OB o) (fr : RunFr fi f) : TKp i o f := by
  obtain ⟨h0, h1, h2, h3, h4, h5, h6, h7, h8, h9, h10⟩ := h
  have hb := ho.1
  have one : ∀ b, (590 ≤ b ∧ b ≤ 592) ∨ (596 ≤ b ∧ b ≤ 600) → f b i = fi b i := fun b hb => fr.2 b i (by omega) (by rw [if_neg (by omega), if_neg (by omega), if_neg (by omega)]; exact hi)
  refine ⟨?_, ?_, ?_, ?_, ?_, ?_, ?_, ?_, fun q hq => ?_, fun k b hk hb' => ?_, fun k b hk hb' => ?_⟩
  · rw [one _ (by omega)]; exact h0
  · rw [one _ (by omega)]; exact h1
  · rw [one _ (by omega)]; exact h2
  · rw [one _ (by omega)]; exact h3
  · rw [one _ (by omega)]; exact h4
  · rw [one _ (by omega)]; exact h5
  · rw [one _ (by omega)]; exact h6
  · rw [one _ (by omega)]; exact h7
  · rw [fr.2 594 _ (by omega) (show (4 : Int) ≤ 4 * i + q by omega)]; exact h8 q hq
  · rw [fr.2 593 _ (by omega) (show (720 : Int) ≤ 720 * i + (12 * k + b) by omega)]; exact h9 k b hk hb'
  · rw [fr.2 595 _ (by omega) (show (800 : Int) ≤ 800 * i + (20 * k + b) by omega)]; exact h10 k b hk hb'
theorem TKp.cells {i : Int} {o : Int × RS} {fi f : HI} (h : TKp i o fi) (e : ∀ b, 590 ≤ b ∧ b ≤ 600 → f b = fi b) : TKp i o f := by
  unfold TKp
  rw [e 590 (by omega), e 596 (by omega), e 597 (by omega), e 591 (by omega), e 592 (by omega), e 598 (by omega), e 599 (by omega), e 600 (by omega), e 594 (by omega), e 593 (by omega), e 595 (by omega)]
  exact h
section T7M
variable {fi fl : HI} {cr : HR} {sh : HS} {nx sl d : Nat}
/-- a state with the cards of a deck at hand, as fi has the wires -/
def Dk (fi : HI) (cd : Int → Int → Int) (n : Int) (f : HI) : Prop := f 574 41 = n ∧ (0 ≤ n ∧ n ≤ 40) ∧ DOk cd n ∧ (∀ k h, 0 ≤ k ∧ k < n → 0 ≤ h ∧ h < 20 → f 583 (20 * k + h) = cd k h) ∧ f 580 0 = fi 580 0 ∧ (∀ k, 0 ≤ k ∧ k < 60 → f 578 k = fi 578 k ∧ f 579 k = fi 579 k)
/-- a run with the deck at hand -/
theorem playD (hS : Stat cr sh) {room : Int} {cd : Int → Int → Int} {n : Int} {f : HI} (hr40 : 0 ≤ room ∧ room ≤ 40) (hw : WirOk fi) (hd : Dk fi cd n f) (hwo : -2147483648 ≤ f 574 42 ∧ f 574 42 < 2147483648) :
    ∃ f', CD mt (d + 5) 177 [.ref 574, iv room] (G f fl cr sh nx sl) = some (.returned none, G f' fl cr sh nx sl) ∧ TKp 0 (runO (ntW fi (f 574 42)) room cd n) f' ∧ OOk (runO (ntW fi (f 574 42)) room cd n) ∧ SB room (runO (ntW fi (f 574 42)) room cd n).2 ∧ PlFr room f f' := by
  obtain ⟨d1, d2, d3, d4, d5, d6⟩ := hd
  have hW : WOk f := ⟨by rw [d5]; exact hw.1, hwo, fun k h0 h1 => by
    have hn := hw.1
    rw [d5] at h1
    rw [(d6 k ⟨h0, by omega⟩).1, (d6 k ⟨h0, by omega⟩).2]; exact hw.2 k h0 h1⟩
  obtain ⟨f', hc, ht, ho, hb, hfr⟩ := play_ok' (fi := f) (fl := fl) (nx := nx) (sl := sl) (d := d) hS hr40 hW (by rw [d1]; exact d2) (by
    rw [d1]
    intro k h hk hh
    show (0 ≤ f 583 (20 * k + h) ∧ f 583 (20 * k + h) ≤ 31) ∧ (f 583 (20 * k + h) % 16 ≤ 9 ∨ f 583 (20 * k + h) % 16 = 15)
    rw [d4 k h hk hh]; exact d3 k h hk hh)
  have e : runO (ntT f) room (fun k h => f 583 (20 * k + h)) (f 574 41) = runO (ntW fi (f 574 42)) room cd n := by
    have en : ntT f = ntW fi (f 574 42) := by
      unfold ntT ntW
      rw [d5]
      have hn := hw.1
      exact ntOf_congr (fun k hk => (d6 k (by omega)).1) (fun k hk => (d6 k (by omega)).2)
    rw [en, d1]
    exact runO_congr d2.1 d4
  rw [e] at ht ho hb
  exact ⟨f', hc, ht, ho, hb, hfr⟩
theorem Dk.mono {cd : Int → Int → Int} {n : Int} {f f' : HI} (h : Dk fi cd n f) (e : ∀ b, b = 578 ∨ b = 579 ∨ b = 580 ∨ b = 583 → f' b = f b) (e41 : f' 574 41 = f 574 41) : Dk fi cd n f' := by
  unfold Dk; rw [e41, e 578 (by omega), e 579 (by omega), e 580 (by omega), e 583 (by omega)]; exact h
theorem Dk.pl {room : Int} {cd : Int → Int → Int} {n : Int} {f f' : HI} (h : Dk fi cd n f) (hp : PlFr room f f') : Dk fi cd n f' := h.mono (fun b hb => by rw [hp.lo (by omega), up_cell _ (by omega)]) (by rw [hp.lo (by omega), up_at _ _ (by decide)])
/-- a box's cards are laid at hand -/
theorem loadB (hS : Stat cr sh) {b : Int} {f : HI} (hb : 0 ≤ b ∧ b ≤ 7) (hB : BoxOk fi) (hE : Eo fi f) :
    ∃ f', CD mt (d + 1) 176 [.ref 574, iv b, iv 0, iv (f 577 b), iv (-1)] (G f fl cr sh nx sl) = some (.returned none, G f' fl cr sh nx sl) ∧ Dk fi (cdB fi b) (fi 577 b) f' ∧ Eo fi f' ∧ (∀ c, c ≠ 574 → c ≠ 583 → f' c = f c) ∧ ∀ j, j ≠ 41 → f' 574 j = f 574 j := by
  have e577 : f 577 b = fi 577 b := hE 577 b (by unfold Sc; omega)
  have hn := (hB b hb).1
  obtain ⟨f', hc, fr, f574, f41, fc⟩ := (load_ok (fi := f) (fl := fl) (nx := nx) (sl := sl) (d := d) (b := b) (from_ := 0) (n := f 577 b) (lo := -1) hS hb (by omega) (by omega)).v
  rw [if_neg (by omega)] at f41
  have eo2 : Eo f f' := fun c j hj => by
    by_cases h1 : c = 574
    · subst h1
      exact f574 j (fun z => hj (by unfold Sc; omega))
    · by_cases h2 : c = 583
      · exact absurd (by unfold Sc; omega) hj
      · rw [fr c h1 h2]
  refine ⟨f', hc, ⟨by rw [f41, e577], hn, (hB b hb).2, fun k h hk hh => ?_, ?_, fun k hk => ⟨?_, ?_⟩⟩, hE.trans eo2, fr, f574⟩
  · have := fc k h (by rw [if_neg (by omega), e577]; exact hk) hh
    rw [this, if_neg (by omega), Int.zero_add]
    exact hE 576 _ (by unfold Sc; omega)
  · rw [fr 580 (by decide) (by decide)]; exact hE 580 0 (by unfold Sc; omega)
  · rw [fr 578 (by decide) (by decide)]; exact hE 578 k (by unfold Sc; omega)
  · rw [fr 579 (by decide) (by decide)]; exact hE 579 k (by unfold Sc; omega)
/-- wires that do nothing -/
noncomputable def idleL (fi : HI) (b : Int) : List Int := fdl (fun k => OLike (outB fi k 40 b) (outB fi (-1) 40 b)) (fi 580 0).toNat
theorem idle_ok (hS : Stat cr sh) {b : Int} (hbR : -2147483648 ≤ b ∧ b < 2147483648) (hB : BoxOk fi) (hw : WirOk fi) :
    WC (CD mt (d + 6)) 199 [.ref 574, iv b] (G fi fl cr sh nx sl) (RI fl cr sh nx sl (fun v f => (¬ (0 ≤ b ∧ b ≤ 7) ∧ v = -1 ∧ Eo fi f) ∨ ((0 ≤ b ∧ b ≤ 7) ∧ v = ((idleL fi b).length : Int) ∧ Eo (up (stL fi 603 (idleL fi b)) 574 53 ((idleL fi b).length : Int)) f))) := by
  refine WE.cd mt_X7_idle rfl rfl ?_
  by_cases hb : 0 ≤ b ∧ b ≤ 7
  rotate_left
  · exact WE.fin (p_X7_idle_0_F (d := d + 3) hS) (ri (Or.inl ⟨hb, rfl, eo_up (by unfold Sc; omega)⟩))
  have E0 : Eo fi (up (up fi 574 0 0) 574 42 (-1)) := (eo_up (by unfold Sc; omega)).trans (eo_up (by unfold Sc; omega))
  obtain ⟨f1, c1, D1, E1, fr1, g1⟩ := loadB (fl := fl) (nx := nx) (sl := sl) (d := d + 4) hS hb hB E0
  rw [show up (up fi 574 0 0) 574 42 (-1) 577 b = fi 577 b by rw [up_cell _ (by decide), up_cell _ (by decide)]] at c1
  have w1 : f1 574 42 = -1 := by rw [g1 42 (by decide), up_same]
  obtain ⟨f2, c2, t2, o2, s2, p2⟩ := playD (fi := fi) (fl := fl) (nx := nx) (sl := sl) (d := d) (room := 40) hS (by omega) hw D1 (by rw [w1]; omega)
  rw [w1] at t2 o2 s2
  obtain ⟨f3, c3, t3, fr3, fr3'⟩ := (keepRun_ok (fi := f2) (fl := fl) (nx := nx) (sl := sl) (d := d + 4) (t := 2) hS (by omega) o2.1 t2).v
  have E3 : Eo fi f3 := (E1.trans (eo_pl p2)).trans (fun c j hj => by
    by_cases h1 : c < 590 ∨ 600 < c
    · rw [fr3 c h1]
    · refine fr3' c j (by omega) (fun z => hj ?_)
      unfold Sc
      split at z
      · omega
      · split at z
        · omega
        · split at z <;> omega)
  have D3 : Dk fi (cdB fi b) (fi 577 b) f3 := (D1.pl p2).mono (fun c hc => fr3 c (by omega)) (by rw [fr3 574 (by omega)])
  refine WE.to (p_X7_idle_0_T hS c1 c2 c3) ?_
  have hn := hw.1
  generalize hP : (fun k => OLike (outB fi k 40 b) (outB fi (-1) 40 b)) = P
  have hl : idleL fi b = fdl P (fi 580 0).toNat := by unfold idleL; rw [hP]
  refine loopK (σ := Unit) (fun k _ _ => [.ref 574, iv b, iv k]) (fun k _ _ => (fi 580 0 - k).toNat) (fun k f _ => (0 ≤ k ∧ k ≤ fi 580 0) ∧ Dk fi (cdB fi b) (fi 577 b) f ∧ TKp 2 (outB fi (-1) 40 b) f ∧ Eo (up (stL fi 603 (fdl P k.toNat)) 574 53 ((fdl P k.toNat).length : Int)) f) ?_ 0 _ () ⟨by omega, D3.mono (fun c hc => up_cell _ (by omega) _ _) (up_at _ _ (by decide) _), t3.cells (fun c hc => up_cell _ (by omega) _ _), ?_⟩
  rotate_left
  · show Eo (up (stL fi 603 []) 574 53 ((([] : List Int).length : Nat) : Int)) _
    rw [stL_nil]
    exact eo_ups E3
  rintro k f _ ⟨hk, Df, tf, Ef⟩ ih
  have len := fdl_len (P := P) k.toNat
  have e580 : f 580 0 = fi 580 0 := Df.2.2.2.2.1
  have e53 : f 574 53 = ((fdl P k.toNat).length : Int) := by
    rw [Ef 574 53 (by unfold Sc; omega), up_same]
  by_cases kn : k = fi 580 0
  · have lk : fdl P k.toNat = idleL fi b := by rw [hl, kn]
    refine WE.fin (p_X7_idle_50_F hS) (ri (Or.inr ⟨hb, by rw [e53, lk], ?_⟩))
    rw [← lk]
    exact Ef.trans (eo_up (by unfold Sc; omega))
  · have Du : Dk fi (cdB fi b) (fi 577 b) (up f 574 42 k) := Df.mono (fun c hc => up_cell _ (by omega) _ _) (up_at _ _ (by decide) _)
    have w4 : up f 574 42 k 574 42 = k := up_same _ _ _ _
    obtain ⟨f4, c4, t4, o4, s4, p4⟩ := playD (fi := fi) (fl := fl) (nx := nx) (sl := sl) (d := d) (room := 40) hS (by omega) hw Du (by rw [w4]; omega)
    rw [w4] at t4 o4 s4
    have D4 := Du.pl p4
    have tf4 : TKp 2 (outB fi (-1) 40 b) f4 := TKp.mono (by omega) ((tf.cells (fun c hc => up_cell (f := f) (by omega) 42 k)).cells (fun c hc => up_cell (f := up f 574 42 k) (by omega) 43 40)) o2.1 p4
    have E4 : Eo (up (stL fi 603 (fdl P k.toNat)) 574 53 ((fdl P k.toNat).length : Int)) f4 := (Ef.trans (eo_up (by unfold Sc; omega))).trans (eo_pl p4)
    have e53' : f4 574 53 = ((fdl P k.toNat).length : Int) := by rw [E4 574 53 (by unfold Sc; omega), up_same]
    have kN : ((k.toNat : Nat) : Int) = k := by omega
    have k1 : (k + 1).toNat = k.toNat + 1 := by omega
    rcases isLike_ok (fi := f4) (fl := fl) (cr := cr) (sh := sh) (nx := nx) (sl := sl) (d := d + 4) hS t4 tf4 o4 o2 with ⟨c5, lk⟩ | ⟨c5, lk⟩
    · have hPk : P ((k.toNat : Nat) : Int) := by rw [kN, ← hP]; exact lk
      refine WE.to (p_X7_idle_50_T1 hS c4 c5) (ih (k + 1) _ () ⟨by omega, D4.mono (fun c hc => by rw [up_cell _ (by omega), up_cell _ (by omega)]) (by rw [up_at _ _ (by decide), up_cell _ (by decide)]), tf4.cells (fun c hc => by rw [up_cell _ (by omega), up_cell _ (by omega)]), ?_⟩ (by omega))
      rw [k1, fdl_yes hPk, kN, e53']
      have := eo_ups (b := 574) (j := 53) (v := ((fdl P k.toNat).length : Int) + 1) (eo_ups (b := 603) (j := ((fdl P k.toNat).length : Int)) (v := k) E4)
      rw [stL_step (by decide) rfl] at this
      rw [List.length_append]
      exact this
    · have hPk : ¬ P ((k.toNat : Nat) : Int) := by rw [kN, ← hP]; exact lk
      refine WE.to (p_X7_idle_50_T0 hS c4 c5) (ih (k + 1) _ () ⟨by omega, D4, tf4, ?_⟩ (by omega))
      rw [k1, fdl_no hPk]
      exact E4
end T7M

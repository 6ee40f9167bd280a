/-! the reference's play, whole -/
section T7I
variable {fi fl : HI} {cr : HR} {sh : HS} {nx sl d : Nat}
/-- what a run of the reference leaves: as RunFr, and the room told -/
def PlFr (room : Int) (fi f : HI) : Prop := RunFr (up fi 574 43 room) f
theorem play_ok (hS : Stat cr sh) {room : Int} (hr40 : 0 ≤ room ∧ room ≤ 40) (hw : WOk fi) (hn : 0 ≤ fi 574 41 ∧ fi 574 41 ≤ 40) (hd : DOk (fun k h => fi 583 (20 * k + h)) (fi 574 41)) :
    WC (CD mt (d + 5)) 177 [.ref 574, iv room] (G fi fl cr sh nx sl) (RV fl cr sh nx sl (fun f => ∃ v s, RunR (ntT fi) room (fun k h => fi 583 (20 * k + h)) (fi 574 41) v s ∧ f 590 0 = v ∧ TSt s f ∧ SB room s ∧ PlFr room fi f)) := by
  refine WE.cd mt_X7_play rfl rfl ?_
  refine WE.to (p_X7_play_0 hS) ?_
  generalize hf0 : up (up (up (up (up (up (up (up (up fi 574 43 room) 590 0 0) 591 0 0) 592 0 0) 596 0 0) 597 0 0) 598 0 0) 599 0 (-1)) 600 0 (-1) = f0
  have fr0 : RunFr (up fi 574 43 room) f0 := by
    rw [← hf0]
    exact (((((((RunFr.up (by omega) (fun _ => by decide)).trans (RunFr.up (by omega) (fun _ => by decide))).trans (RunFr.up (by omega) (fun _ => by decide))).trans (RunFr.up (by omega) (fun _ => by decide))).trans (RunFr.up (by omega) (fun _ => by decide))).trans (RunFr.up (by omega) (fun _ => by decide))).trans (RunFr.up (by omega) (fun _ => by decide))).trans (RunFr.up (by omega) (fun _ => by decide))
  have a590 : f0 590 0 = 0 := by rw [← hf0]; rfl
  have a591 : f0 591 0 = 0 := by rw [← hf0]; rfl
  have a592 : f0 592 0 = 0 := by rw [← hf0]; rfl
  have a596 : f0 596 0 = 0 := by rw [← hf0]; rfl
  have a597 : f0 597 0 = 0 := by rw [← hf0]; rfl
  have a598 : f0 598 0 = 0 := by rw [← hf0]; rfl
  have a599 : f0 599 0 = -1 := by rw [← hf0]; rfl
  have a600 : f0 600 0 = -1 := by rw [← hf0]; rfl
  refine loopF (fun k => [.ref 574, iv room, iv k, nv, nv, nv]) 594 0 4 (fun _ => 0) (by omega) (fun k h0 h1 => ⟨_, _, p_X7_play_63_T hS, by omega, rfl⟩) ?_
  generalize hf1 : blk f0 594 0 4 (fun _ => 0) = f1
  have eo : ∀ b, b ≠ 594 → f1 b = f0 b := fun b hb => by rw [← hf1, blk_cell hb]
  have fr1 : RunFr (up fi 574 43 room) f1 := fr0.trans ⟨fun b h1 h2 h3 h4 h5 h6 h7 h8 h9 h10 h11 h12 h13 h14 h15 h16 h17 => eo b h11, fun b j h1 h2 => by
    by_cases w : b = 594
    · subst w
      have h3 : 4 ≤ j := h2
      rw [← hf1, blk_out (by omega)]
    · rw [eo b w]⟩
  have ts1 : TSt rs0 f1 := by
    refine ⟨?_, ?_, ?_, ?_, ?_, ?_, ?_, fun q hq => ?_, fun k b hk _ => ?_, fun k b hk _ => ?_⟩
    · rw [eo _ (by decide), a596]; rfl
    · rw [eo _ (by decide), a597]; rfl
    · rw [eo _ (by decide), a591]; rfl
    · rw [eo _ (by decide), a592]; rfl
    · rw [eo _ (by decide), a598]; rfl
    · rw [eo _ (by decide), a599]; rfl
    · rw [eo _ (by decide), a600]; rfl
    · rw [← hf1, blk_in (by omega)]; rfl
    · have : k < 0 := hk.2; omega
    · have : k < 0 := hk.2; omega
  have sb1 : SB room rs0 := ⟨⟨by decide, by decide⟩, ⟨by decide, hr40.1⟩, fun q _ => ⟨(by decide : (-999999 : Int) ≤ 0), (by decide : (0 : Int) ≤ 999999)⟩⟩
  have e41 : f1 574 41 = fi 574 41 := by rw [fr1.lo (by omega), up_at _ _ (by decide)]
  have e43 : f1 574 43 = room := by rw [fr1.lo (by omega), up_same]
  have e42 : f1 574 42 = fi 574 42 := by rw [fr1.lo (by omega), up_at _ _ (by decide)]
  have ec : ∀ b, b ≠ 574 → b < 584 → f1 b = fi b := fun b h1 h2 => by rw [fr1.lo (by omega), up_cell _ h1]
  have hw1 : WOk f1 := by unfold WOk; rw [e42, ec 578 (by decide) (by decide), ec 579 (by decide) (by decide), ec 580 (by decide) (by decide)]; exact hw
  have nt1 : ntT f1 = ntT fi := by unfold ntT; rw [e42, ec 578 (by decide) (by decide), ec 579 (by decide) (by decide), ec 580 (by decide) (by decide)]
  by_cases z : fi 574 41 = 0
  · refine WE.fin (p_X7_play_63_FT hS) (rv ⟨0, rs0, ?_, by rw [eo _ (by decide)]; exact a590, ts1, sb1, fr1⟩)
    rw [z]; exact ⟨rfl, rfl⟩
  have hS585 := s_585 hS
  obtain ⟨f2, c2, fr2, n2⟩ := (nets_ok (fi := f1) (fl := fl) (nx := nx) (sl := sl) (d := d + 2) (x2 := 0) hS (s_585 hS) (Or.inl rfl) (Or.inl rfl) hw1.1 hw1.2.1 hw1.2.2 (fun w => absurd rfl w)).v
  refine WE.to (p_X7_play_63_FF hS c2) ?_
  -- the base of all cycles: f2
  have fr2' : RunFr (up fi 574 43 room) f2 := fr1.trans (RunFr.of (fun b hb => fr2 b (by omega)))
  have e2 : ∀ b, b < 584 → f2 b = f1 b := fun b hb => fr2 b (by omega)
  have hw2 : WOk f2 := hw1.mono (fun b hb => e2 b (by omega))
  have nt2 : ntT f2 = ntT fi := by rw [ntT_mono (fun b hb => e2 b (by omega)), nt1]
  have p2 : NetOk (Ed (f2 578) (f2 579) (f2 580 0) (f2 574 42) (fun _ => False)) (f2 585) := by
    rw [e2 578 (by omega), e2 579 (by omega), e2 580 (by omega), e2 574 (by omega)]
    exact n2.congr (Ed_congr (fun q _ => ⟨fun w => w.1 rfl, fun w => w.elim⟩)) (fun _ _ => rfl)
  have r2 : f2 574 43 = room := by rw [e2 574 (by omega), e43]
  have m2 : f2 574 41 = fi 574 41 := by rw [e2 574 (by omega), e41]
  have d2 : f2 583 = fi 583 := by rw [e2 583 (by omega), ec 583 (by decide) (by decide)]
  have ts2 : TSt rs0 f2 := ts1.mono (fun b hb => fr2 b (by omega))
  generalize hcd : (fun k h => fi 583 (20 * k + h)) = cd at hd ⊢
  have hcd' : ∀ k h, cd k h = fi 583 (20 * k + h) := fun k h => by rw [← hcd]
  generalize hN : fi 574 41 = N at hn hd m2 z ⊢
  generalize hnt : ntT fi = nt at nt2 ⊢
  -- the end, once it is known
  have fin : ∀ (f : HI) (v : Int) (s : RS), TSt s f → SB room s → RunFr f2 f → RunR nt room cd N v s → RV fl cr sh nx sl (fun f => ∃ v s, RunR nt room cd N v s ∧ f 590 0 = v ∧ TSt s f ∧ SB room s ∧ PlFr room fi f) (.returned none, G (up f 590 0 v) fl cr sh nx sl) := fun f v s ht hb fr hR => rv ⟨v, s, hR, up_same _ _ _ _, ht.of (fun b hb => up_cell _ (by omega) _ _), hb, (fr2'.trans fr).trans (RunFr.up (by omega) (fun _ => by decide))⟩
  refine loopK (σ := Int × RS × Value × Value) (fun k _ v => [.ref 574, iv room, iv v.1, iv k, v.2.2.1, v.2.2.2]) (fun k _ _ => (N - k).toNat) (fun k f v => nw v.2.2.1 ∧ nw v.2.2.2 ∧ (0 ≤ k ∧ k ≤ N) ∧ TSt v.2.1 f ∧ SB room v.2.1 ∧ RunFr f2 f ∧ f 585 = f2 585 ∧ ((v.1 = 0 ∧ ∀ v' s', cardsR nt room cd N (N - k).toNat k v.2.1 v' s' → RunR nt room cd N v' s') ∨ (v.1 = 1 ∧ RunR nt room cd N 1 v.2.1))) ?_ 0 f2 (0, rs0, nv, nv) ⟨nw_nv, nw_nv, by omega, ts2, sb1, RunFr.rfl' _, rfl, Or.inl ⟨rfl, fun v' s' h' => by rw [Int.sub_zero] at h'; exact h'⟩⟩
  rintro k f ⟨x2, s, v4, v5⟩ ⟨hv4, hv5, hk, ts, sb, fr, h585, hcont⟩ ih
  simp only at hv4 hv5 ts sb hcont ih ⊢
  have m3 : f 574 41 = N := by rw [fr.lo (by omega), m2]
  rcases hcont with ⟨x20, hR⟩ | ⟨x21, hR⟩
  · by_cases kN : k = N
    · refine WE.fin (p_X7_play_102_FT hS) (fin f 0 s ts sb fr (hR 0 s ?_))
      rw [show (N - k).toNat = 0 by omega]; exact ⟨rfl, rfl⟩
    · refine WE.to (p_X7_play_102_TT hS) ?_
      refine loopF (fun j => [.ref 574, iv room, iv x2, iv k, iv j, v5]) 584 0 96 (fun _ => -1) (by omega) (fun j h0 h1 => ⟨_, _, p_X7_play_117_T hS, by omega, rfl⟩) ?_
      refine WE.to p_X7_play_117_F ?_
      generalize hfa : blk f 584 0 96 (fun _ => -1) = fa
      have fra : ∀ b, b ≠ 584 → fa b = f b := fun b hb => by rw [← hfa, blk_cell hb]
      refine loopK (σ := Unit) (fun j _ _ => [.ref 574, iv room, iv x2, iv k, iv j, v5]) (fun j _ _ => (20 - j).toNat) (fun j g _ => (0 ≤ j ∧ j ≤ 20) ∧ (∀ b, b ≠ 584 → g b = f b) ∧ ∀ h, 0 ≤ h ∧ h < 96 → g 584 h = if (0 ≤ h ∧ h < j) ∨ (20 ≤ h ∧ h < 20 + j) ∨ (40 ≤ h ∧ h < 40 + j) then cardG cd N k h else -1) ?_ 0 fa () ⟨by omega, fra, fun h hh => by rw [← hfa, blk_in (by omega), if_neg (by omega)]⟩
      rintro j g _ ⟨hj, hgf, hgv⟩ ih2
      have mg : g 574 41 = N := by rw [hgf 574 (by decide), m3]
      have dg583 : g 583 = fi 583 := by rw [hgf 583 (by decide), fr.lo (by omega), d2]
      by_cases j20 : j = 20
      · subst j20
        have gG : ∀ h, 0 ≤ h ∧ h < 96 → up g 584 60 1 584 h = cardG cd N k h := by
          intro h hh
          rw [up_in]
          by_cases w : h = 60
          · rw [if_pos w]; unfold cardG; rw [if_neg (by omega), if_neg (by omega), if_neg (by omega), if_pos w]
          · rw [if_neg w, hgv h hh]
            by_cases y : (0 ≤ h ∧ h < 20) ∨ (20 ≤ h ∧ h < 20 + 20) ∨ (40 ≤ h ∧ h < 40 + 20)
            · rw [if_pos y]
            · rw [if_neg y]; unfold cardG; rw [if_neg (by omega), if_neg (by omega), if_neg (by omega), if_neg w]
        have cok := cardG_ok hd (k := k) (by omega)
        have frg : RunFr f2 (up g 584 60 1) := fr.trans (RunFr.of (fun b hb => by rw [up_cell _ (by omega), hgf b (by omega)]))
        have e0 : ∀ b, b = 574 ∨ b = 578 ∨ b = 579 ∨ b = 580 → up g 584 60 1 b = f2 b := fun b hb => frg.lo (by omega)
        have g585 : up g 584 60 1 585 = f2 585 := by rw [up_cell _ (by decide), hgf 585 (by decide), h585]
        obtain ⟨c, f3, c3, s3, cy, ts3, sb3, rf3, p3, hT⟩ := (cycle_ok (fi := up g 584 60 1) (fl := fl) (nx := nx) (sl := sl) (d := d) (c := 1) (room := room) (s := s) hS (Or.inr rfl) (hw2.mono e0) ⟨fun h hh => by rw [gG h hh]; exact cok.1 h hh, fun h hh => by rw [gG h (by omega)]; exact cok.2 h hh⟩ (by rw [e0 574 (by omega), e0 578 (by omega), e0 579 (by omega), e0 580 (by omega), g585]; exact p2) (ts.mono (fun b hb => by rw [up_cell _ (by omega), hgf b (by omega)])) sb (by rw [e0 574 (by omega)]; exact r2) hr40).i
        rw [ntT_mono e0, nt2] at cy hT
        rw [TF_congr gG] at hT
        have cy' := cy.congr gG
        have fr3 : RunFr f2 f3 := frg.trans rf3
        have m4 : f3 574 41 = N := by rw [fr3.lo (by omega), m2]
        have vR : c = 0 ∨ c = 2 ∨ c = 3 := by
          rcases cy with ⟨_, _, _, h, _⟩ | ⟨_, ⟨_, _, h, _⟩ | ⟨_, ⟨_, h, _⟩ | ⟨_, _, h, _⟩ | ⟨_, _, h, _⟩⟩⟩ <;> omega
        have hfu : (N - k).toNat = (N - (k + 1)).toNat + 1 := by omega
        rw [hfu] at hR
        by_cases c0 : c = 0
        · have hTk := hT c0
          generalize hTT : TF nt (cardG cd N k) 1 = T at hTk
          have v180 := hTk.2.1 180 (by omega)
          have v158 := hTk.2.1 158 (by omega)
          have v157 := hTk.2.1 157 (by omega)
          have v156 := hTk.2.1 156 (by omega)
          have q180 := hTk.2.2 180 (by omega)
          have q158 := hTk.2.2 158 (by omega)
          have q157 := hTk.2.2 157 (by omega)
          have q156 := hTk.2.2 156 (by omega)
          have go : ∀ x2' ord : Int, (x2' = if 0 ≤ T 180 then 1 else 0) → ord = ordF T N k → WE t_X7_play (CD mt (d + 4)) 341 [.ref 574, iv room, iv x2', iv k, iv ord, iv 1] [] (G (up (up f3 590 0 c) 596 0 (f3 596 0 + 1)) fl cr sh nx sl) (RV fl cr sh nx sl (fun f => ∃ v s, RunR nt room cd N v s ∧ f 590 0 = v ∧ TSt s f ∧ SB room s ∧ PlFr room fi f)) := by
            intro x2' ord hx' hord
            have ordR : 0 ≤ ord ∧ ord ≤ 3 := by rw [hord]; unfold ordF; repeat' split
                                                all_goals omega
            refine tots_ok (R := fun v2 s2 => (v2 ≠ 0 → RunR nt room cd N v2 s2) ∧ (v2 = 0 → (0 ≤ T 180 → RunR nt room cd N 1 s2) ∧ (¬ 0 ≤ T 180 → ∀ v' s', cardsR nt room cd N (N - (k + 1)).toNat (k + 1) s2 v' s' → RunR nt room cd N v' s'))) hS hw2 nt2.symm p2 r2 hr40 ordR ?_ ?_ ord.toNat 1 _ (zs s3.1 0 (s3.1 0 + 1), s3.2) (by omega) (by omega) ?_ sb3 ?_ ?_ ?_
            · intro f4 s4 x5 ts4 sb4 fr4 h4 hR4
              have hz4 := hR4.2 rfl
              refine ih (k + 1) f4 (x2', s4, iv ord, iv x5) ⟨nw_iv _, nw_iv _, by omega, ts4, sb4, fr4, h4, ?_⟩ (by omega)
              by_cases w : 0 ≤ T 180
              · exact Or.inr ⟨by rw [hx', if_pos w], hz4.1 w⟩
              · exact Or.inl ⟨by rw [hx', if_neg w], hz4.2 w⟩
            · intro f4 v s4 ts4 sb4 fr4 hv hR4
              exact fin f4 v s4 ts4 sb4 fr4 (hR4.1 hv)
            · obtain ⟨t0, t1, t2, t3, t4, t5, t6, t7, t8, t9⟩ := ts3
              have eo : ∀ b, b ≠ 590 → b ≠ 596 → up (up f3 590 0 c) 596 0 (f3 596 0 + 1) b = f3 b := fun b h1 h2 => by rw [up_cell _ h2, up_cell _ h1]
              refine ⟨?_, ?_, ?_, ?_, ?_, ?_, ?_, fun q hq => ?_, fun k b hk hb => ?_, fun k b hk hb => ?_⟩
              · rw [up_same, t0]; rfl
              · rw [eo _ (by decide) (by decide)]; exact t1
              · rw [eo _ (by decide) (by decide)]; exact t2
              · rw [eo _ (by decide) (by decide)]; exact t3
              · rw [eo _ (by decide) (by decide)]; exact t4
              · rw [eo _ (by decide) (by decide)]; exact t5
              · rw [eo _ (by decide) (by decide)]; exact t6
              · rw [eo _ (by decide) (by decide)]; exact t7 q hq
              · rw [eo _ (by decide) (by decide)]; exact t8 k b hk hb
              · rw [eo _ (by decide) (by decide)]; exact t9 k b hk hb
            · exact fr3.trans ((RunFr.up (by omega) (fun _ => by decide)).trans (RunFr.up (by omega) (fun _ => by decide)))
            · rw [up_cell _ (by decide), up_cell _ (by decide), p3, g585]
            · intro v2 s2 ht2
              rw [hord, ← hTT] at ht2
              refine ⟨fun hv => hR v2 s2 ⟨c, s3, cy', Or.inr ⟨c0, v2, s2, ht2, Or.inl ⟨hv, rfl, rfl⟩⟩⟩, fun hv => ⟨fun w => hR 1 s2 ⟨c, s3, cy', Or.inr ⟨c0, v2, s2, ht2, Or.inr ⟨hv, Or.inl ⟨by rw [hTT]; exact w, rfl, rfl⟩⟩⟩⟩, fun w v' s' h' => hR v' s' ⟨c, s3, cy', Or.inr ⟨c0, v2, s2, ht2, Or.inr ⟨hv, Or.inr ⟨by rw [hTT]; exact w, h'⟩⟩⟩⟩⟩⟩
          by_cases w180 : 0 ≤ T 180
          · have o3 : (3 : Int) = ordF T N k := by unfold ordF; rw [if_pos (Or.inl w180)]
            have x1' : (1 : Int) = if 0 ≤ T 180 then 1 else 0 := by rw [if_pos w180]
            by_cases w158 : 0 ≤ T 158
            · exact WE.to (p_X7_play_141_FTFF hS c3 hTk.1) (go 1 3 x1' o3)
            · by_cases w157 : 0 ≤ T 157
              · exact WE.to (p_X7_play_141_FTFTF hS c3 hTk.1) (go 1 3 x1' o3)
              · by_cases w156 : 0 ≤ T 156
                · exact WE.to (p_X7_play_141_FTFTTF hS c3 hTk.1) (go 1 3 x1' o3)
                · exact WE.to (p_X7_play_141_FTFTTT hS c3 hTk.1) (go 1 3 x1' o3)
          · have x0' : (0 : Int) = if 0 ≤ T 180 then 1 else 0 := by rw [if_neg w180]
            by_cases last : k = N - 1
            · have o3 : (3 : Int) = ordF T N k := by unfold ordF; rw [if_pos (Or.inr last)]
              by_cases w158 : 0 ≤ T 158
              · exact WE.to (p_X7_play_141_FTTFT hS c3 hTk.1) (go 0 3 x0' o3)
              · by_cases w157 : 0 ≤ T 157
                · exact WE.to (p_X7_play_141_FTTTFT hS c3 hTk.1) (go 0 3 x0' o3)
                · by_cases w156 : 0 ≤ T 156
                  · exact WE.to (p_X7_play_141_FTTTTFT hS c3 hTk.1) (go 0 3 x0' o3)
                  · exact WE.to (p_X7_play_141_FTTTTTT hS c3 hTk.1) (go 0 3 x0' o3)
            · have ne : ¬ (0 ≤ T 180 ∨ k = N - 1) := fun w => w.elim w180 last
              by_cases w158 : 0 ≤ T 158
              · exact WE.to (p_X7_play_141_FTTFF hS c3 hTk.1) (go 0 3 x0' (by unfold ordF; rw [if_neg ne, if_pos w158]))
              · by_cases w157 : 0 ≤ T 157
                · exact WE.to (p_X7_play_141_FTTTFF hS c3 hTk.1) (go 0 2 x0' (by unfold ordF; rw [if_neg ne, if_neg w158, if_pos w157]))
                · by_cases w156 : 0 ≤ T 156
                  · exact WE.to (p_X7_play_141_FTTTTFF hS c3 hTk.1) (go 0 1 x0' (by unfold ordF; rw [if_neg ne, if_neg w158, if_neg w157, if_pos w156]))
                  · exact WE.to (p_X7_play_141_FTTTTTF hS c3 hTk.1) (go 0 0 x0' (by unfold ordF; rw [if_neg ne, if_neg w158, if_neg w157, if_neg w156]))
        · exact WE.fin (p_X7_play_141_FF hS c3) (fin f3 c s3 ts3 sb3 fr3 (hR c s3 ⟨c, s3, cy', Or.inl ⟨c0, rfl, rfl⟩⟩))
      · have hdk := hd k j (by omega) (by omega)
        rw [hcd'] at hdk
        have D1 : DgOk (g 583) (g 574 41) k j := ⟨by omega, by rw [mg]; omega, fun _ => ⟨by omega, by rw [dg583]; omega⟩⟩
        have D2 : DgOk (g 583) (g 574 41) (k + 1) j := ⟨by omega, by rw [mg]; omega, fun w => by
          rw [mg] at w
          have := hd (k + 1) j (by omega) (by omega)
          rw [hcd'] at this
          exact ⟨by omega, by rw [dg583]; omega⟩⟩
        have g83 : g 583 (20 * k + j) = cd k j := by rw [dg583, hcd']
        have vA : dg (g 583) (g 574 41) k j = cardG cd N k j := by
          unfold dg cardG; rw [mg, if_neg (c := N ≤ k) (by omega), if_pos (c := 0 ≤ j ∧ j < 20) (by omega), dg583, ← hcd']; rfl
        have vB : dg (g 583) (g 574 41) (k + 1) j = cardG cd N k (20 + j) := by
          unfold dg cardG; rw [mg, if_neg (c := 0 ≤ 20 + j ∧ 20 + j < 20) (by omega), if_pos (c := 20 ≤ 20 + j ∧ 20 + j < 40) (by omega), dg583, ← hcd', show 20 + j - 20 = j by omega]
          by_cases w : k + 1 < N
          · rw [if_neg (by omega), if_pos w]; rfl
          · rw [if_pos (by omega), if_neg w]
        have nxt : ∀ v : Int, v = cardG cd N k (40 + j) → WE t_X7_play (CD mt (d + 4)) 141 [.ref 574, iv room, iv x2, iv k, iv (j + 1), v5] [] (G (up (up (up g 584 (0 + j) (dg (g 583) (g 574 41) k j)) 584 (20 + j) (dg (g 583) (g 574 41) (k + 1) j)) 584 (40 + j) v) fl cr sh nx sl) (RV fl cr sh nx sl (fun f => ∃ v s, RunR nt room cd N v s ∧ f 590 0 = v ∧ TSt s f ∧ SB room s ∧ PlFr room fi f)) := by
          intro v hv
          refine ih2 (j + 1) _ () ⟨by omega, fun b hb => by rw [up_cell _ hb, up_cell _ hb, up_cell _ hb, hgf b hb], fun h hh => ?_⟩ (by omega)
          rw [up_in, up_in, up_in]
          by_cases y3 : h = 40 + j
          · rw [if_pos y3, if_pos (by omega), hv, y3]
          · rw [if_neg y3]
            by_cases y2 : h = 20 + j
            · rw [if_pos y2, if_pos (by omega), vB, y2]
            · rw [if_neg y2]
              by_cases y1 : h = 0 + j
              · rw [if_pos y1, if_pos (by omega), vA, y1, Int.zero_add]
              · rw [if_neg y1, hgv h hh]
                by_cases y : (0 ≤ h ∧ h < j) ∨ (20 ≤ h ∧ h < 20 + j) ∨ (40 ≤ h ∧ h < 40 + j)
                · rw [if_pos y, if_pos (by omega)]
                · rw [if_neg y, if_neg (by omega)]
        have eC : cardG cd N k (40 + j) = if 15 < cd k j then 1 else -1 := by
          unfold cardG; rw [if_neg (by omega), if_neg (by omega), if_pos (by omega), show 40 + j - 40 = j by omega]
        rw [← dg583] at hdk
        by_cases w : g 583 (20 * k + j) ≤ 15
        · exact WE.to (p_X7_play_141_TT hS D1 D2) (nxt (-1) (by rw [eC, if_neg (by omega)]))
        · exact WE.to (p_X7_play_141_TF hS D1 D2) (nxt 1 (by rw [eC, if_pos (by omega)]))
  · by_cases kN : k < N
    · exact WE.fin (p_X7_play_102_TF hS) (fin f 1 s ts sb fr hR)
    · exact WE.fin (p_X7_play_102_FF hS) (fin f 1 s ts sb fr hR)
end T7I

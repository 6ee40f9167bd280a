/-! the reference's cycle, whole -/
theorem TSt.mono {s : RS} {fi f : HI} (h : TSt s fi) (e : ∀ b, 590 ≤ b ∧ b ≤ 600 → f b = fi b) : TSt s f := by
  unfold TSt
  rw [e 596 (by omega), e 597 (by omega), e 591 (by omega), e 592 (by omega), e 598 (by omega), e 599 (by omega), e 600 (by omega), e 594 (by omega), e 593 (by omega), e 595 (by omega)]
  exact h
theorem TSt.of {s : RS} {fi f : HI} (h : TSt s fi) (e : ∀ b, 591 ≤ b ∧ b ≤ 600 → f b = fi b) : TSt s f := by
  unfold TSt
  rw [e 596 (by omega), e 597 (by omega), e 591 (by omega), e 592 (by omega), e 598 (by omega), e 599 (by omega), e 600 (by omega), e 594 (by omega), e 593 (by omega), e 595 (by omega)]
  exact h
theorem SB_tu {room : Int} {T : Int → Int} {s : RS} (h : SB room s) (hT : ∀ x, 0 ≤ x ∧ x < 217 → -1 ≤ T x ∧ T x ≤ 9) : SB room (tu1 T s) := by
  refine ⟨h.1, h.2.1, fun q hq => ?_⟩
  show -999999 ≤ (if 0 ≤ T (128 + q) then 0 else whl T q (s.2.1 q)) ∧ (if 0 ≤ T (128 + q) then 0 else whl T q (s.2.1 q)) ≤ 999999
  split
  · omega
  · exact whl_R hT hq (h.2.2 q hq)
theorem SB_pu {room : Int} {T : Int → Int} {s : RS} (h : SB room s) (hne : s.1 3 ≠ room) : SB room (pu1 T s) := by
  refine ⟨h.1, ?_, h.2.2⟩
  have := h.2.1
  show 0 ≤ s.1 3 + 1 ∧ s.1 3 + 1 ≤ room
  omega
section T7G
variable {fi fl : HI} {cr : HR} {sh : HS} {nx sl d : Nat}
theorem cycle_ok (hS : Stat cr sh) {c room : Int} {s : RS} (hc : c = 0 ∨ c = 1) (hw : WOk fi) (hg : GOk (fi 584)) (hp : NetOk (Ed (fi 578) (fi 579) (fi 580 0) (fi 574 42) (fun _ => False)) (fi 585)) (hs : TSt s fi) (hb : SB room s) (hr : fi 574 43 = room) (hr40 : 0 ≤ room ∧ room ≤ 40) :
    WC (CD mt (d + 4)) 181 [.ref 574, iv c] (G fi fl cr sh nx sl) (RI fl cr sh nx sl (fun v f => ∃ s', CycR (ntT fi) room (fi 584) c s v s' ∧ TSt s' f ∧ SB room s' ∧ RunFr fi f ∧ f 585 = fi 585 ∧ (v = 0 → TOk f (TF (ntT fi) (fi 584) c)))) := by
  refine WE.cd mt_X7_cycle rfl rfl ?_
  refine cyA hS hw hg hp (fun f x2 fr1 hG => ?_)
  have e584 : f 584 = fi 584 := fr1 584 (by omega)
  refine cyB (fi := f) (nt := ntT fi) (e := Ed (fi 578) (fi 579) (fi 580 0) (fi 574 42) (pkF (ntT fi) (fi 584))) hS hc (by rw [e584]; exact hg) (by rw [e584]; rfl) (by rw [e584]; exact hG) (fun f2 fr2 g2 hG2 => ?_)
  rw [e584] at g2 hG2
  generalize hgc : gcF (ntT fi) (fi 584) c = gc at g2 hG2
  generalize hT0 : TF (ntT fi) (fi 584) c = T
  have hTdef : ∀ x, T x = tk (Conn (Ed (fi 578) (fi 579) (fi 580 0) (fi 574 42) (pkF (ntT fi) (fi 584)))) gc x := fun x => by rw [← hT0, ← hgc]; rfl
  have gcR : ∀ h, 0 ≤ h ∧ h < 96 → -1 ≤ gc h ∧ gc h ≤ 9 := fun h hh => by
    rw [← hgc]
    unfold gcF
    by_cases z : c ≠ 0 ∧ 61 ≤ h ∧ h < 65
    · rw [if_pos z]; split <;> omega
    · rw [if_neg z]; exact hg.1 h hh
  have lo : ∀ b, b < 584 ∨ 589 < b ∨ b = 585 → f2 b = fi b := fun b hb => by rw [fr2 b (by omega) (by omega) (by omega), fr1 b (by omega)]
  have hT : TOk f2 T := by
    refine ⟨hG2.hvOk, fun x hx => ?_, fun x _ => by rw [hTdef]; exact tk_R9 gcR x⟩
    rw [hTdef, ← hG2.val hx]
    unfold hv
    rcases hG2.2 _ (hG2.1.1 x hx) with ⟨q, _⟩ | ⟨a1, a2, _⟩
    · rw [if_pos q, if_pos q]
    · rw [g2 _ ⟨a1, a2⟩]
  have hs2 : TSt s f2 := hs.mono (fun b hb => lo b (by omega))
  have fr0 : RunFr fi f2 := RunFr.of (fun b hb => lo b (by omega))
  have e585 : f2 585 = fi 585 := lo 585 (by omega)
  have hr2 : f2 574 43 = room := by rw [lo 574 (by omega)]; exact hr
  have sm0 : smF (ntT fi) (fi 584) = Conn (Ed (fi 578) (fi 579) (fi 580 0) (fi 574 42) (pkF (ntT fi) (fi 584))) := rfl
  refine loopK (σ := Unit) (fun k _ _ => [.ref 574, iv c, iv x2, iv k]) (fun k _ _ => (96 - k).toNat) (fun k g _ => g = f2 ∧ (0 ≤ k ∧ k ≤ 96) ∧ ∀ y, 0 ≤ y ∧ y < k → ¬ (Gv gc y ∧ 1 < f2 588 (f2 586 y))) ?_ 0 f2 () ⟨rfl, by omega, fun y hy => by omega⟩
  rintro k g _ ⟨rfl, hk, hno⟩ ih
  have R188 : ∀ y, 0 ≤ y ∧ y < 217 → (0 ≤ g 586 y ∧ g 586 y < 217) ∧ (-2147483648 ≤ g 588 (g 586 y) ∧ g 588 (g 586 y) < 2147483648) := fun y hy => ⟨hG2.1.1 y hy, hT.1.2.1 _ (hG2.1.1 y hy)⟩
  by_cases k96 : k = 96
  · subst k96
    have nj : NoJam (smF (ntT fi) (fi 584)) (gcF (ntT fi) (fi 584) c) := by
      rw [hgc, sm0]
      intro x y hx hy hxy hxy2
      exact hno x ⟨hx.1, hx.2.1⟩ ⟨hx, (hG2.many hx).mpr ⟨y, hy, by omega, hxy2.symm⟩⟩
    have l60 : g 591 0 = s.1 2 := hs2.2.2.1
    have hb2 := hb.1
    have fin : ∀ (s1 : RS) (f3 : HI), s1 = pr1 T s → SB room s1 → TSt s1 f3 → RunFr fi f3 → (∀ b, b ≤ 589 → f3 b = g b) → ¬ (anyP T ∧ s.1 2 = 60) → WE t_X7_cycle (CD mt (d + 3)) 318 [.ref 574, iv c, iv x2, iv 0] [] (G f3 fl cr sh nx sl) (RI fl cr sh nx sl (fun v f => ∃ s', CycR (ntT fi) room (fi 584) c s v s' ∧ TSt s' f ∧ SB room s' ∧ RunFr fi f ∧ f 585 = fi 585 ∧ (v = 0 → TOk f T))) := by
      intro s1 f3 e1 hb1 ht3 fr3 lo3 hna
      have hT3 : TOk f3 T := hT.mono (fun b hb => lo3 b (by omega))
      have e13 : s1.1 3 = s.1 3 := by
        rw [e1]; unfold pr1; split
        · rfl
        · rfl
      refine cyD hS hT3 ht3 hb1 (by rw [lo3 574 (by omega)]; exact hr2) hr40 (fun f4 v s' hcase ht4 fr4 lo4 => ri ⟨s', Or.inr ⟨nj, Or.inr ⟨by rw [hT0]; exact hna, ?_⟩⟩, ht4, ?_, fr3.trans fr4, ?_, fun _ => ?_⟩)
      · rw [hT0, ← e1]
        rcases hcase with q | ⟨q1, q2, q3⟩ | ⟨q1, q2, q3⟩
        · exact Or.inl q
        · exact Or.inr (Or.inl ⟨q1, by rw [← e13]; exact q2, q3⟩)
        · exact Or.inr (Or.inr ⟨q1, by rw [← e13]; exact q2, q3⟩)
      · rcases hcase with ⟨_, _, rfl⟩ | ⟨_, _, _, rfl⟩ | ⟨_, q, _, rfl⟩
        · exact SB_tu hb1 hT.2.2
        · exact SB_tu hb1 hT.2.2
        · exact SB_pu (SB_tu hb1 hT.2.2) q
      · rw [lo4 585 (by omega), lo3 585 (by omega), e585]
      · exact hT3.mono (fun b hb => lo4 b (by omega))
    rcases prints_ok (fi := g) (fl := fl) (cr := cr) (sh := sh) (nx := nx) (sl := sl) (d := d) hS hT.1 (fun h hh => by rw [hT.2.1 h hh]; exact hT.2.2 h hh) with ⟨hcp, kp, kp1, kp2⟩ | ⟨hcp, hnone⟩
    · have any : anyP T := ⟨kp, kp1, by rw [← hT.2.1 _ (by omega)]; exact kp2⟩
      by_cases z : s.1 2 = 60
      · refine WE.fin (p_X7_cycle_188_F1T hS hcp) (ri ⟨s, Or.inr ⟨nj, Or.inl ⟨by rw [hT0]; exact any, z, rfl, rfl⟩⟩, hs2, hb, fr0, e585, fun w => absurd w (by decide)⟩)
      · refine WE.to (p_X7_cycle_188_F1F hS hcp) ?_
        refine loopF (fun k => [.ref 574, iv c, iv x2, iv k]) 593 (12 * s.1 2) 12 (fun b => if T (132 + b) < 0 then 15 else T (132 + b)) (by omega) (fun k h0 h1 => ?_) ?_
        · have hTb : TOk (blk g 593 (12 * s.1 2) k (fun b => if T (132 + b) < 0 then 15 else T (132 + b))) T := hT.mono (fun b hb => blk_cell (by omega))
          have e591 : blk g 593 (12 * s.1 2) k (fun b => if T (132 + b) < 0 then 15 else T (132 + b)) 591 0 = s.1 2 := by rw [blk_cell (by decide)]; exact l60
          have vk := hTb.2.1 (132 + k) (by omega)
          have rk := hTb.2.2 (132 + k) (by omega)
          by_cases w : T (132 + k) < 0
          · exact ⟨_, _, p_X7_cycle_252_TT hS hTb.1, by omega, by rw [if_pos w]⟩
          · exact ⟨_, _, p_X7_cycle_252_TF hS hTb.1, by omega, by rw [if_neg w]; exact vk⟩
        · have e1 : pr1 T s = (zs s.1 2 (s.1 2 + 1), s.2.1, fun k b => if k = s.1 2 then (if T (132 + b) < 0 then 15 else T (132 + b)) else s.2.2.1 k b, s.2.2.2) := by unfold pr1; rw [if_pos any]
          refine WE.to (p_X7_cycle_252_F hS) (fin (pr1 T s) _ rfl ?_ ?_ ?_ ?_ (fun w => z w.2))
          · rw [e1]
            refine ⟨?_, hb.2.1, hb.2.2⟩
            show 0 ≤ s.1 2 + 1 ∧ s.1 2 + 1 ≤ 60
            omega
          · rw [e1]
            obtain ⟨t0, t1, t2, t3, t4, t5, t6, t7, t8, t9⟩ := hs2
            have eo : ∀ b, b ≠ 591 → b ≠ 593 → up (blk g 593 (12 * s.1 2) 12 (fun b => if T (132 + b) < 0 then 15 else T (132 + b))) 591 0 (blk g 593 (12 * s.1 2) 12 (fun b => if T (132 + b) < 0 then 15 else T (132 + b)) 591 0 + 1) b = g b := fun b h1 h2 => by rw [up_cell _ h1, blk_cell h2]
            refine ⟨?_, ?_, ?_, ?_, ?_, ?_, ?_, fun q hq => ?_, fun k b hk hb => ?_, fun k b hk hb => ?_⟩
            · rw [eo _ (by decide) (by decide)]; exact t0
            · rw [eo _ (by decide) (by decide)]; exact t1
            · rw [up_same, blk_cell (by decide), l60]; rfl
            · rw [eo _ (by decide) (by decide)]; exact t3
            · rw [eo _ (by decide) (by decide)]; exact t4
            · rw [eo _ (by decide) (by decide)]; exact t5
            · rw [eo _ (by decide) (by decide)]; exact t6
            · rw [eo _ (by decide) (by decide)]; exact t7 q hq
            · have hk' : 0 ≤ k ∧ k < s.1 2 + 1 := hk
              rw [up_cell _ (by decide)]
              by_cases w : k = s.1 2
              · rw [blk_in (by omega)]
                show _ = if k = s.1 2 then (if T (132 + b) < 0 then 15 else T (132 + b)) else _
                rw [if_pos w, show 12 * k + b - 12 * s.1 2 = b by omega]
              · rw [blk_out (by omega)]
                show _ = if k = s.1 2 then _ else s.2.2.1 k b
                rw [if_neg w]
                exact t8 k b ⟨hk'.1, by omega⟩ hb
            · rw [eo _ (by decide) (by decide)]; exact t9 k b hk hb
          · refine fr0.trans (RunFr.trans ⟨fun b h1 h2 h3 h4 h5 h6 h7 h8 h9 h10 h11 h12 h13 h14 h15 h16 h17 => blk_cell h10, fun b j h1 h2 => ?_⟩ (RunFr.up (by omega) (fun _ => by decide)))
            by_cases w : b = 593
            · subst w
              have h3 : 720 ≤ j := h2
              exact blk_out (by omega)
            · rw [blk_cell w]
          · intro b hb'
            rw [up_cell _ (by omega), blk_cell (by omega)]
    · have nany : ¬ anyP T := by
        rintro ⟨k, k1, k2⟩
        have := hnone k k1
        rw [hT.2.1 _ (by omega)] at this
        omega
      have e1 : pr1 T s = s := by unfold pr1; rw [if_neg nany]
      exact WE.to (p_X7_cycle_188_F0 hS hcp) (fin s g e1.symm hb hs2 fr0 (fun _ _ => rfl) (fun w => nany w.1))
  · have gk := g2 k (by omega)
    have gr := gcR k (by omega)
    have r1 := R188 k (by omega)
    rw [← gk] at gr
    by_cases q : g 584 k < 0
    · exact WE.to (p_X7_cycle_188_TT hS) (ih (k + 1) g () ⟨rfl, by omega, fun y hy => by
        by_cases e : y = k
        · subst e; intro w; have := w.1.2.2; omega
        · exact hno y (by omega)⟩ (by omega))
    · by_cases r : g 588 (g 586 k) ≤ 1
      · exact WE.to (p_X7_cycle_188_TFT hS) (ih (k + 1) g () ⟨rfl, by omega, fun y hy => by
          by_cases e : y = k
          · subst e; intro w; omega
          · exact hno y (by omega)⟩ (by omega))
      · have gvk : Gv gc k := ⟨hk.1, by omega, by omega⟩
        obtain ⟨y, y1, y2, y3⟩ := (hG2.many gvk).mp (by omega)
        have cn : ∀ x, Gv gc x → (g 586 x = g 586 k ↔ Conn (Ed (fi 578) (fi 579) (fi 580 0) (fi 574 42) (pkF (ntT fi) (fi 584))) x k) := fun x hx => hG2.1.2 x k ⟨hx.1, by have := hx.2.1; omega⟩ (by omega)
        have after : ∀ x, Gv gc x → x ≠ k → Conn (Ed (fi 578) (fi 579) (fi 580 0) (fi 574 42) (pkF (ntT fi) (fi 584))) x k → k < x := by
          intro x hx hne hcx
          by_cases w : x < k
          · exact absurd ⟨hx, (hG2.many hx).mpr ⟨k, gvk, fun z => hne z.symm, hcx.symm⟩⟩ (hno x ⟨hx.1, w⟩)
          · omega
        obtain ⟨o, ⟨o1, o2, o3⟩, o4⟩ := least_of (P := fun x => Gv gc x ∧ k < x ∧ Conn (Ed (fi 578) (fi 579) (fi 580 0) (fi 574 42) (pkF (ntT fi) (fi 584))) x k) ⟨y1, after y y1 y2 y3, y3⟩ (fun x hx => hx.1.1)
        have hj := jam_ok (fi := g) (fl := fl) (cr := cr) (sh := sh) (nx := nx) (sl := sl) (d := d + 2) (h := k) (o := o) hS hk.1 (fun x hx => by rw [g2 x hx]; exact gcR x hx) hG2.1.1 ⟨o2, o1.2.1⟩ ⟨by rw [g2 o ⟨o1.1, o1.2.1⟩]; exact o1.2.2, (cn o o1).mpr o3⟩ (fun x hx w => by
          have hx2 := o1.2.1
          have gx : Gv gc x := ⟨by omega, by omega, by rw [← g2 x ⟨by omega, by omega⟩]; exact w.1⟩
          have := o4 x ⟨gx, hx.1, (cn x gx).mp w.2⟩
          omega)
        refine WE.fin (p_X7_cycle_188_TFF hS hj) (ri ⟨(zs (zs s.1 5 k) 6 o, s.2), Or.inl ⟨k, o, ?_, rfl, rfl⟩, ?_, hb, ?_, ?_, fun w => absurd w (by decide)⟩)
        · rw [hgc, sm0]
          refine ⟨gvk, o1, o2, o3.symm, fun x y hx hy hxy hc2 => ?_, fun y hy hky hc2 => o4 y ⟨hy, hky, hc2.symm⟩⟩
          by_cases w : x < k
          · exact absurd ⟨hx, (hG2.many hx).mpr ⟨y, hy, by omega, hc2.symm⟩⟩ (hno x ⟨hx.1, w⟩)
          · omega
        · obtain ⟨t0, t1, t2, t3, t4, t5, t6, t7, t8, t9⟩ := hs2
          have eo : ∀ b, b ≠ 599 → b ≠ 600 → up (up g 599 0 k) 600 0 o b = g b := fun b h1 h2 => by rw [up_cell _ h2, up_cell _ h1]
          refine ⟨?_, ?_, ?_, ?_, ?_, ?_, ?_, fun q hq => ?_, fun k b hk hb => ?_, fun k b hk hb => ?_⟩
          · rw [eo _ (by decide) (by decide)]; exact t0
          · rw [eo _ (by decide) (by decide)]; exact t1
          · rw [eo _ (by decide) (by decide)]; exact t2
          · rw [eo _ (by decide) (by decide)]; exact t3
          · rw [eo _ (by decide) (by decide)]; exact t4
          · rw [up_cell _ (by decide), up_same]; rfl
          · rw [up_same]; rfl
          · rw [eo _ (by decide) (by decide)]; exact t7 q hq
          · rw [eo _ (by decide) (by decide)]; exact t8 k b hk hb
          · rw [eo _ (by decide) (by decide)]; exact t9 k b hk hb
        · exact fr0.trans ((RunFr.up (by omega) (fun _ => by decide)).trans (RunFr.up (by omega) (fun _ => by decide)))
        · rw [up_cell _ (by decide), up_cell _ (by decide), e585]
end T7G

/-! the reference: nets, gather, jam -/
section T7A
variable {fi fl : HI} {cr : HR} {sh : HS} {nx sl d : Nat}
def NetOk (e : Int → Int → Prop) (row : Int → Int) : Prop := (∀ a, 0 ≤ a ∧ a < 217 → 0 ≤ row a ∧ row a < 217) ∧ ∀ a b, 0 ≤ a ∧ a < 217 → 0 ≤ b ∧ b < 217 → (row a = row b ↔ Conn e a b)
theorem joins_ok {a0 : Nat} {x1 x2 : Int} (hs : sh a0 = some (100, 217)) (h0 : 100 ≤ a0) (hx : 0 ≤ x1 ∧ x1 < 217) (hy : 0 ≤ x2 ∧ x2 < 217) (hr : ∀ a, 0 ≤ a ∧ a < 217 → 0 ≤ fi a0 a ∧ fi a0 a < 217) :
    (CD mt (d + 1) 179 [.ref a0, iv x1, iv x2] (G fi fl cr sh nx sl) = some (.returned (some (iv 0)), G fi fl cr sh nx sl) ∧ fi a0 x1 = fi a0 x2) ∨
    ∃ m, CD mt (d + 1) 179 [.ref a0, iv x1, iv x2] (G fi fl cr sh nx sl) = some (.returned (some (iv 1)), G (up (up fi a0 x1 m) a0 x2 m) fl cr sh nx sl) ∧ fi a0 x1 ≠ fi a0 x2 ∧ (m = fi a0 x1 ∨ m = fi a0 x2) ∧ m ≤ fi a0 x1 ∧ m ≤ fi a0 x2 := by
  have h1 := hr x1 hx
  have h2 := hr x2 hy
  by_cases e : fi a0 x1 = fi a0 x2
  · exact Or.inl ⟨c_X7_joins_T hs, e⟩
  · right
    by_cases q : fi a0 x1 < fi a0 x2
    · exact ⟨_, c_X7_joins_FT hs, e, Or.inl rfl, by omega, by omega⟩
    · exact ⟨_, c_X7_joins_FF hs, e, Or.inr rfl, by omega, by omega⟩
def NInv (a1 : Nat) (fi fi' : HI) (e : Int → Int → Prop) (s0 x3 : Int) : Prop := (∀ b, b ≠ a1 → fi' b = fi b) ∧ (∀ a, 0 ≤ a ∧ a < 217 → 0 ≤ fi' a1 a ∧ fi' a1 a < 217) ∧ (∀ a, 0 ≤ a ∧ a < 217 → Conn e a (fi' a1 a)) ∧ (x3 = 0 ∨ x3 = 1) ∧ sumTo (fi' a1) 217 ≤ s0 ∧ (x3 = 1 → sumTo (fi' a1) 217 < s0)
theorem NInv.join {a1 : Nat} {fi fi' : HI} {e : Int → Int → Prop} {s0 x3 x y m : Int} (h : NInv a1 fi fi' e s0 x3) (he : e x y) (hx : 0 ≤ x ∧ x < 217) (hy : 0 ≤ y ∧ y < 217) (hne : fi' a1 x ≠ fi' a1 y) (hm : m = fi' a1 x ∨ m = fi' a1 y) (m1 : m ≤ fi' a1 x) (m2 : m ≤ fi' a1 y) : NInv a1 fi (up (up fi' a1 x m) a1 y m) e s0 1 := by
  obtain ⟨h1, h2, h3, h4, h5, h6⟩ := h
  have hxy : x ≠ y := fun q => hne (by rw [q])
  have ex : up (up fi' a1 x m) a1 y m a1 x = m := by rw [up_at _ _ hxy, up_same]
  have ey : up (up fi' a1 x m) a1 y m a1 y = m := up_same _ _ _ _
  have eo : ∀ k, k ≠ x → k ≠ y → up (up fi' a1 x m) a1 y m a1 k = fi' a1 k := fun k q1 q2 => by rw [up_at _ _ q2, up_at _ _ q1]
  have cx : Conn e x m := by
    rcases hm with q | q
    · rw [q]; exact h3 x hx
    · rw [q]; exact (Conn.edge he).trans (h3 y hy)
  have cy : Conn e y m := (Conn.edge he).symm.trans cx
  have s1 : sumTo (up (up fi' a1 x m) a1 y m a1) 217 = sumTo (up fi' a1 x m a1) 217 - up fi' a1 x m a1 y + m := by
    have := sumTo_set (f := up fi' a1 x m a1) (g := up (up fi' a1 x m) a1 y m a1) (i := y) 217 hy (fun k hk => up_at _ _ hk _)
    rw [ey] at this; exact this
  have s2 : sumTo (up fi' a1 x m a1) 217 = sumTo (fi' a1) 217 - fi' a1 x + m := by
    have := sumTo_set (f := fi' a1) (g := up fi' a1 x m a1) (i := x) 217 hx (fun k hk => up_at _ _ hk _)
    rw [up_same] at this; exact this
  rw [up_at _ _ (Ne.symm hxy)] at s1
  refine ⟨fun b hb => ?_, fun a ha => ?_, fun a ha => ?_, Or.inr rfl, ?_, fun _ => ?_⟩
  · rw [up_cell _ hb, up_cell _ hb, h1 b hb]
  · have := h2 x hx; have := h2 y hy; have := h2 a ha
    by_cases q1 : a = x
    · subst q1; rw [ex]; omega
    · by_cases q2 : a = y
      · subst q2; rw [ey]; omega
      · rw [eo a q1 q2]; omega
  · by_cases q1 : a = x
    · subst q1; rw [ex]; exact cx
    · by_cases q2 : a = y
      · subst q2; rw [ey]; exact cy
      · rw [eo a q1 q2]; exact h3 a ha
  · omega
  · omega
theorem nets_ok (hS : Stat cr sh) {a1 : Nat} (hs : sh a1 = some (100, 217)) (ha : a1 = 585 ∨ a1 = 586) {x2 : Int} (hx : x2 = 0 ∨ x2 = 1) (hn : 0 ≤ fi 580 0 ∧ fi 580 0 ≤ 60) (hw : -2147483648 ≤ fi 574 42 ∧ fi 574 42 < 2147483648) (ho : ∀ k, 0 ≤ k → k < fi 580 0 → (0 ≤ fi 578 k ∧ fi 578 k < 217) ∧ (0 ≤ fi 579 k ∧ fi 579 k < 217)) (hp : x2 ≠ 0 → ∀ r, 0 ≤ r → r < 4 → fi 589 r = 0 ∨ fi 589 r = 1) :
    WC (CD mt (d + 2)) 178 [.ref 574, .ref a1, iv x2] (G fi fl cr sh nx sl) (RV fl cr sh nx sl (fun fi' => (∀ b, b ≠ a1 → fi' b = fi b) ∧ NetOk (Ed (fi 578) (fi 579) (fi 580 0) (fi 574 42) (fun r => x2 ≠ 0 ∧ fi 589 r ≠ 0)) (fi' a1))) := by
  have ha0 : 100 ≤ a1 := by omega
  have hc : ∀ b, b = 574 ∨ b = 578 ∨ b = 579 ∨ b = 580 ∨ b = 589 → b ≠ a1 := by omega
  generalize he : Ed (fi 578) (fi 579) (fi 580 0) (fi 574 42) (fun r => x2 ≠ 0 ∧ fi 589 r ≠ 0) = e
  refine WE.cd mt_X7_nets rfl rfl ?_
  refine WE.to p_X7_nets_0 ?_
  refine loopF (fun k => [.ref 574, .ref a1, iv x2, iv k, nv]) a1 0 217 (fun k => k) (by omega) (fun k h0 h1 => ⟨_, _, p_X7_nets_2_T hs, by omega, rfl⟩) ?_
  refine WE.to p_X7_nets_2_F ?_
  have main := loopW (t := t_X7_nets) (C := CD mt (d + 1)) (hd := 21) (Q := RV fl cr sh nx sl (fun fi' => (∀ b, b ≠ a1 → fi' b = fi b) ∧ NetOk e (fi' a1))) (σ := HI × Int × Value) (fun s => [.ref 574, .ref a1, iv x2, iv s.2.1, s.2.2]) (fun s => G s.1 fl cr sh nx sl) (fun s => (2 * sumTo (s.1 a1) 217 + s.2.1).toNat) (fun s => NInv a1 fi s.1 e (sumTo (s.1 a1) 217 + 1) s.2.1 ∧ (s.2.1 = 0 → ∀ x y, e x y → s.1 a1 x = s.1 a1 y)) (by
    rintro ⟨f1, x3, v4⟩ ⟨hI, hfix⟩ ih
    simp only at hI hfix ih ⊢
    have hI0 := hI
    obtain ⟨i1, i2, i3, i4, i5, i6⟩ := hI
    rcases i4 with z | z
    · refine WE.fin (p_X7_nets_21_T) (rv ⟨i1, i2, fun a b qa qb => net_of i3 (fun x y q => ?_) qa qb⟩)
      refine ⟨?_, ?_, hfix z x y q⟩
      · rw [← he] at q
        rcases q with ⟨k, k0, k1, _, rfl, rfl⟩ | ⟨k, k0, k1, rfl, _⟩
        · exact (ho k k0 k1).1
        · omega
      · rw [← he] at q
        rcases q with ⟨k, k0, k1, _, rfl, rfl⟩ | ⟨k, k0, k1, rfl, q⟩
        · exact (ho k k0 k1).2
        · rcases q with ⟨_, rfl⟩ | ⟨_, rfl⟩ <;> omega
    · refine WE.to (p_X7_nets_21_F) ?_
      have hsum : 0 ≤ sumTo (f1 a1) 217 := sumTo_nonneg 217 (fun k h0 h1 => (i2 k ⟨h0, h1⟩).1)
      have lp2 := loopW (t := t_X7_nets) (C := CD mt (d + 1)) (hd := 82) (Q := RV fl cr sh nx sl (fun fi' => (∀ b, b ≠ a1 → fi' b = fi b) ∧ NetOk e (fi' a1))) (σ := Int × HI × Int) (fun s => [.ref 574, .ref a1, iv x2, iv s.2.2, iv s.1]) (fun s => G s.2.1 fl cr sh nx sl) (fun s => (12 - s.1).toNat) (fun s => (0 ≤ s.1 ∧ s.1 ≤ 12) ∧ NInv a1 fi s.2.1 e (sumTo (f1 a1) 217) s.2.2 ∧ (s.2.2 = 0 → (∀ k, 0 ≤ k ∧ k < fi 580 0 ∧ k ≠ fi 574 42 → s.2.1 a1 (fi 578 k) = s.2.1 a1 (fi 579 k)) ∧ ∀ k, 0 ≤ k ∧ k < s.1 → (x2 ≠ 0 ∧ fi 589 (k / 3) ≠ 0 → s.2.1 a1 (181 + k) = s.2.1 a1 (205 + k)) ∧ (¬ (x2 ≠ 0 ∧ fi 589 (k / 3) ≠ 0) → s.2.1 a1 (181 + k) = s.2.1 a1 (193 + k)))) (by
        rintro ⟨k, f2, y3⟩ ⟨hk, hJ, hq⟩ ih2
        simp only at hk hJ hq ih2 ⊢
        have hJ0 := hJ
        obtain ⟨j1, j2, j3, j4, j5, j6⟩ := hJ
        have e589 : f2 589 = fi 589 := j1 589 (by omega)
        by_cases hk2 : k = 12
        · refine WE.to p_X7_nets_82_F (ih (f2, y3, iv k) ⟨⟨j1, j2, j3, j4, by show _ ≤ _; simp only; omega, fun _ => by show _ < _; simp only; omega⟩, fun z3 x y q => ?_⟩ ?_)
          · simp only at z3 ⊢
            obtain ⟨q1, q2⟩ := hq z3
            rw [← he] at q
            rcases q with ⟨k', k0, k1, kn, rfl, rfl⟩ | ⟨k', k0, k1, rfl, q⟩
            · exact q1 k' ⟨k0, k1, kn⟩
            · have := q2 k' ⟨k0, by omega⟩
              rcases q with ⟨p1, rfl⟩ | ⟨p1, rfl⟩
              · exact this.1 p1
              · exact this.2 p1
          · have := sumTo_nonneg (f := f2 a1) 217 (fun k h0 h1 => (j2 k ⟨h0, h1⟩).1)
            simp only
            rcases j4 with w | w
            · omega
            · have := j6 w; omega
        · have hkr : x2 ≠ 0 → fi 589 (k / 3) = 0 ∨ fi 589 (k / 3) = 1 := fun w => hp w (k / 3) (by omega) (by omega)
          by_cases hpk : x2 ≠ 0 ∧ fi 589 (k / 3) ≠ 0
          · have hed : e (181 + k) (205 + k) := by rw [← he]; exact Or.inr ⟨k, hk.1, by omega, rfl, Or.inl ⟨hpk, rfl⟩⟩
            rcases joins_ok (fi := f2) (fl := fl) (cr := cr) (nx := nx) (sl := sl) (d := d) (x1 := 181 + k) (x2 := 205 + k) hs ha0 (by omega) (by omega) j2 with ⟨hc1, heq⟩ | ⟨m, hc1, hne, hm, m1, m2⟩
            · have hv : f2 589 (k / 3) ≠ 0 := by rw [e589]; exact hpk.2
              have hvr : f2 589 (k / 3) = 0 ∨ f2 589 (k / 3) = 1 := by rw [e589]; exact hkr hpk.1
              refine WE.to (p_X7_nets_82_TFF0 hS hc1) (ih2 (k + 1, f2, y3) ⟨by omega, hJ0, fun z3 => ⟨(hq z3).1, fun k' hk' => ?_⟩⟩ (by simp only; omega))
              by_cases e' : k' = k
              · subst e'; exact ⟨fun _ => heq, fun w => absurd hpk w⟩
              · exact (hq z3).2 k' ⟨hk'.1, by omega⟩
            · have hv : f2 589 (k / 3) ≠ 0 := by rw [e589]; exact hpk.2
              have hvr : f2 589 (k / 3) = 0 ∨ f2 589 (k / 3) = 1 := by rw [e589]; exact hkr hpk.1
              exact WE.to (p_X7_nets_82_TFF1 hS hc1) (ih2 (k + 1, _, 1) ⟨by omega, hJ0.join hed (by omega) (by omega) hne hm m1 m2, fun z3 => absurd (show (1 : Int) = 0 from z3) (by decide)⟩ (by simp only; omega))
          · have hed : e (181 + k) (193 + k) := by rw [← he]; exact Or.inr ⟨k, hk.1, by omega, rfl, Or.inr ⟨hpk, rfl⟩⟩
            have h193 := joins_ok (fi := f2) (fl := fl) (cr := cr) (nx := nx) (sl := sl) (d := d) (x1 := 181 + k) (x2 := 193 + k) hs ha0 (by omega) (by omega) j2
            have keep : ∀ (heq : f2 a1 (181 + k) = f2 a1 (193 + k)), WE t_X7_nets (CD mt (d + 1)) 82 [.ref 574, .ref a1, iv x2, iv y3, iv (k + 1)] [] (G f2 fl cr sh nx sl) (RV fl cr sh nx sl (fun fi' => (∀ b, b ≠ a1 → fi' b = fi b) ∧ NetOk e (fi' a1))) := fun heq => ih2 (k + 1, f2, y3) ⟨by omega, hJ0, fun z3 => ⟨(hq z3).1, fun k' hk' => by
              by_cases e' : k' = k
              · subst e'; exact ⟨fun w => absurd w hpk, fun _ => heq⟩
              · exact (hq z3).2 k' ⟨hk'.1, by omega⟩⟩⟩ (by simp only; omega)
            by_cases hx0 : x2 = 0
            · rcases h193 with ⟨hc1, heq⟩ | ⟨m, hc1, hne, hm, m1, m2⟩
              · exact WE.to (p_X7_nets_82_TT0 hc1) (keep heq)
              · exact WE.to (p_X7_nets_82_TT1 hc1) (ih2 (k + 1, _, 1) ⟨by omega, hJ0.join hed (by omega) (by omega) hne hm m1 m2, fun z3 => absurd (show (1 : Int) = 0 from z3) (by decide)⟩ (by simp only; omega))
            · have hz : f2 589 (k / 3) = 0 := by rw [e589]; rcases hkr hx0 with w | w; exact w; exact absurd ⟨hx0, by omega⟩ hpk
              rcases h193 with ⟨hc1, heq⟩ | ⟨m, hc1, hne, hm, m1, m2⟩
              · exact WE.to (p_X7_nets_82_TFT0 hS hc1) (keep heq)
              · exact WE.to (p_X7_nets_82_TFT1 hS hc1) (ih2 (k + 1, _, 1) ⟨by omega, hJ0.join hed (by omega) (by omega) hne hm m1 m2, fun z3 => absurd (show (1 : Int) = 0 from z3) (by decide)⟩ (by simp only; omega)))
      have lp1 := loopW (t := t_X7_nets) (C := CD mt (d + 1)) (hd := 30) (Q := RV fl cr sh nx sl (fun fi' => (∀ b, b ≠ a1 → fi' b = fi b) ∧ NetOk e (fi' a1))) (σ := Int × HI × Int) (fun s => [.ref 574, .ref a1, iv x2, iv s.2.2, iv s.1]) (fun s => G s.2.1 fl cr sh nx sl) (fun s => (fi 580 0 - s.1).toNat) (fun s => (0 ≤ s.1 ∧ s.1 ≤ fi 580 0) ∧ NInv a1 fi s.2.1 e (sumTo (f1 a1) 217) s.2.2 ∧ (s.2.2 = 0 → ∀ k, 0 ≤ k ∧ k < s.1 ∧ k ≠ fi 574 42 → s.2.1 a1 (fi 578 k) = s.2.1 a1 (fi 579 k))) (by
        rintro ⟨k, f2, y3⟩ ⟨hk, hJ, hq⟩ ih2
        simp only at hk hJ hq ih2 ⊢
        have hJ0 := hJ
        obtain ⟨j1, j2, j3, j4, j5, j6⟩ := hJ
        have e574 : f2 574 = fi 574 := j1 574 (by omega)
        have e578 : f2 578 = fi 578 := j1 578 (by omega)
        have e579 : f2 579 = fi 579 := j1 579 (by omega)
        have e580 : f2 580 = fi 580 := j1 580 (by omega)
        have n580 : f2 580 0 = fi 580 0 := by rw [e580]
        have n574 : f2 574 42 = fi 574 42 := by rw [e574]
        by_cases hk2 : k = fi 580 0
        · exact WE.to (p_X7_nets_30_F hS) (lp2 (0, f2, y3) ⟨by simp only; omega, hJ0, fun z3 => ⟨fun k' hk' => hq z3 k' ⟨hk'.1, by omega, hk'.2.2⟩, fun k' hk' => by simp only at hk'; omega⟩⟩)
        · by_cases hw2 : k = fi 574 42
          · exact WE.to (p_X7_nets_30_TT hS) (ih2 (k + 1, f2, y3) ⟨by simp only; omega, hJ0, fun z3 k' hk' => hq z3 k' ⟨hk'.1, by simp only at hk'; omega, hk'.2.2⟩⟩ (by simp only; omega))
          · have hab := ho k hk.1 (by omega)
            have hed : e (fi 578 k) (fi 579 k) := by rw [← he]; exact Or.inl ⟨k, hk.1, by omega, hw2, rfl, rfl⟩
            have hj := joins_ok (fi := f2) (fl := fl) (cr := cr) (nx := nx) (sl := sl) (d := d) hs ha0 hab.1 hab.2 j2
            rw [← e578, ← e579] at hj
            rcases hj with ⟨hc1, heq⟩ | ⟨m, hc1, hne, hm, m1, m2⟩
            · refine WE.to (p_X7_nets_30_TF0 hS hc1) (ih2 (k + 1, f2, y3) ⟨by simp only; omega, hJ0, fun z3 k' hk' => ?_⟩ (by simp only; omega))
              simp only at hk' ⊢
              by_cases e' : k' = k
              · subst e'; rw [e578, e579] at heq; exact heq
              · exact hq z3 k' ⟨hk'.1, by omega, hk'.2.2⟩
            · simp only [e578, e579] at hne hm m1 m2
              refine WE.to (p_X7_nets_30_TF1 hS hc1) (ih2 (k + 1, _, 1) ⟨by simp only; omega, ?_, fun z3 => absurd (show (1 : Int) = 0 from z3) (by decide)⟩ (by simp only; omega))
              simp only
              rw [e578, e579]
              exact hJ0.join hed hab.1 hab.2 hne hm m1 m2)
      exact lp1 (0, f1, 0) ⟨by simp only; omega, ⟨i1, i2, i3, Or.inl rfl, by simp only; omega, fun w => absurd (show (0 : Int) = 1 from w) (by decide)⟩, fun _ k hk => by simp only at hk; omega⟩)
  refine main (blk fi a1 0 217 (fun k => k), 1, nv) ⟨⟨fun b hb => blk_cell (f := fi) (a := a1) (o := 0) (n := 217) (v := fun k => k) hb, fun a ha => ?_, fun a ha => ?_, Or.inr rfl, ?_, fun _ => ?_⟩, fun w => absurd (show (1 : Int) = 0 from w) (by decide)⟩
  · simp only; rw [blk_in (by omega)]; omega
  · simp only; rw [blk_in (by omega), Int.sub_zero]; exact Conn.rfl' a
  · simp only; omega
  · simp only; omega
end T7A

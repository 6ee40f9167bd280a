/-! the reference's cycle: relays are picked, comparers find -/
theorem Ed_congr {one two : Int → Int} {n wo : Int} {pk pk' : Int → Prop} (h : ∀ r, 0 ≤ r ∧ r < 4 → (pk r ↔ pk' r)) (x y : Int) : Ed one two n wo pk x y ↔ Ed one two n wo pk' x y := by
  constructor
  · rintro (q | ⟨k, k0, k1, rfl, ⟨p, rfl⟩ | ⟨p, rfl⟩⟩)
    · exact Or.inl q
    · exact Or.inr ⟨k, k0, k1, rfl, Or.inl ⟨(h _ (by omega)).mp p, rfl⟩⟩
    · exact Or.inr ⟨k, k0, k1, rfl, Or.inr ⟨fun z => p ((h _ (by omega)).mpr z), rfl⟩⟩
  · rintro (q | ⟨k, k0, k1, rfl, ⟨p, rfl⟩ | ⟨p, rfl⟩⟩)
    · exact Or.inl q
    · exact Or.inr ⟨k, k0, k1, rfl, Or.inl ⟨(h _ (by omega)).mpr p, rfl⟩⟩
    · exact Or.inr ⟨k, k0, k1, rfl, Or.inr ⟨fun z => p ((h _ (by omega)).mp z), rfl⟩⟩
theorem Conn_congr {e e' : Int → Int → Prop} (h : ∀ x y, e x y ↔ e' x y) {a b : Int} : Conn e a b ↔ Conn e' a b :=
  ⟨fun z r h1 h2 h3 h4 => z r h1 h2 h3 (fun x y q => h4 x y ((h x y).mp q)), fun z r h1 h2 h3 h4 => z r h1 h2 h3 (fun x y q => h4 x y ((h x y).mpr q))⟩
theorem NetOk.congr {e e' : Int → Int → Prop} {row row' : Int → Int} (h : NetOk e row) (he : ∀ x y, e x y ↔ e' x y) (hr : ∀ a, 0 ≤ a ∧ a < 217 → row' a = row a) : NetOk e' row' :=
  ⟨fun a ha => by rw [hr a ha]; exact h.1 a ha, fun a b ha hb => by rw [hr a ha, hr b hb, h.2 a b ha hb]; exact Conn_congr he⟩
theorem GatOk.cnt {e : Int → Int → Prop} {g l f c : Int → Int} (h : GatOk e g l f c) {x : Int} (hx : 0 ≤ x ∧ x < 217) : (c (l x) = 0 ∧ tk (Conn e) g x < 0) ∨ (0 < c (l x) ∧ 0 ≤ tk (Conn e) g x) := by
  have hl := h.1.1 x hx
  rcases h.2 (l x) hl with ⟨q, z⟩ | ⟨a1, a2, ⟨a3, a3'⟩, a4, a5⟩
  · refine Or.inl ⟨q, ?_⟩
    rw [tk_none (fun k hk hc => z k ⟨hk.1, hk.2.1⟩ ⟨hk, (h.1.2 k x ⟨hk.1, by have := hk.2.1; omega⟩ hx).mpr hc⟩)]; omega
  · refine Or.inr ⟨by rcases a5 with ⟨q, _⟩ | ⟨q, _⟩ <;> omega, tk_pos.mpr ⟨_, a3, (h.1.2 _ x ⟨a1, by omega⟩ hx).mp a3'⟩⟩
section T7E
variable {fi fl : HI} {cr : HR} {sh : HS} {nx sl d : Nat} {Q : Outcome × AH → Prop}
/-- what the cycle needs of the wires -/
def WOk (fi : HI) : Prop := (0 ≤ fi 580 0 ∧ fi 580 0 ≤ 60) ∧ (-2147483648 ≤ fi 574 42 ∧ fi 574 42 < 2147483648) ∧ ∀ k, 0 ≤ k → k < fi 580 0 → (0 ≤ fi 578 k ∧ fi 578 k < 217) ∧ (0 ≤ fi 579 k ∧ fi 579 k < 217)
def ntT (fi : HI) : NT := ntOf (fi 578) (fi 579) (fi 580 0) (fi 574 42)
def GOk (g : Int → Int) : Prop := (∀ h, 0 ≤ h ∧ h < 96 → -1 ≤ g h ∧ g h ≤ 9) ∧ ∀ h, 61 ≤ h ∧ h ≤ 64 → g h = -1
theorem gat_of {e : Int → Int → Prop} {g l f c : Int → Int} {x2 : Int} (hn : NetOk e l) (hu : x2 = 0 → ∀ h, 61 ≤ h ∧ h ≤ 64 → g h = -1) (h : ∀ k, 0 ≤ k ∧ k < 217 → Cnt (fun h => (0 ≤ g h ∧ ¬ (x2 = 0 ∧ 61 ≤ h ∧ h ≤ 64)) ∧ l h = k) 96 (c k) (f k)) : GatOk e g l f c := by
  refine ⟨hn, fun k hk => (h k hk).congr (fun x hx => ⟨fun z => ⟨⟨hx.1, hx.2, z.1.1⟩, z.2⟩, fun z => ⟨⟨z.1.2.2, fun w => ?_⟩, z.2⟩⟩)⟩
  have := hu w.1 x w.2
  have := z.1.2.2
  omega
theorem cyA (hS : Stat cr sh) {c : Int} (hw : WOk fi) (hg : GOk (fi 584)) (hp : NetOk (Ed (fi 578) (fi 579) (fi 580 0) (fi 574 42) (fun _ => False)) (fi 585))
    (kk : ∀ (f : HI) (x2 : Int), (∀ b, b < 586 ∨ 589 < b → f b = fi b) → GatOk (Ed (fi 578) (fi 579) (fi 580 0) (fi 574 42) (pkF (ntT fi) (fi 584))) (fi 584) (f 586) (f 587) (f 588) → WE t_X7_cycle (CD mt (d + 3)) 127 [.ref 574, iv c, iv x2, iv 0] [] (G f fl cr sh nx sl) Q) :
    WE t_X7_cycle (CD mt (d + 3)) 0 [.ref 574, iv c, nv, nv] [] (G fi fl cr sh nx sl) Q := by
  obtain ⟨f1, hc1, fr1, cn1⟩ := (gather_ok (fi := fi) (fl := fl) (nx := nx) (sl := sl) (d := d + 1) (x2 := 0) hS (s_585 hS) (Or.inl rfl) (Or.inl rfl) hp.1 (fun h hh => by have := hg.1 h hh; omega)).v
  have ga := gat_of (x2 := 0) hp (fun _ => hg.2) cn1
  refine WE.to (p_X7_cycle_0 hS hc1) ?_
  -- behind the picking: labels
  have fin : ∀ (f : HI) (x2 : Int), (∀ b, b < 586 ∨ 589 < b → f b = fi b) → NetOk (Ed (fi 578) (fi 579) (fi 580 0) (fi 574 42) (pkF (ntT fi) (fi 584))) (f 586) → ∃ f', CD mt (d + 3) 182 [.ref 574, .ref 586, iv 0] (G f fl cr sh nx sl) = some (.returned none, G f' fl cr sh nx sl) ∧ WE t_X7_cycle (CD mt (d + 3)) 127 [.ref 574, iv c, iv x2, iv 0] [] (G f' fl cr sh nx sl) Q := by
    intro f x2 fr hn
    have e584 : f 584 = fi 584 := fr 584 (by omega)
    obtain ⟨f2, hc2, fr2, cn2⟩ := (gather_ok (fi := f) (fl := fl) (nx := nx) (sl := sl) (d := d + 1) (x2 := 0) hS (s_586 hS) (Or.inr rfl) (Or.inl rfl) hn.1 (fun h hh => by rw [e584]; have := hg.1 h hh; omega)).v
    refine ⟨f2, hc2, kk f2 x2 (fun b hb => by rw [fr2 b (by omega) (by omega), fr b hb]) ?_⟩
    have e586 : f2 586 = f 586 := fr2 586 (by decide) (by decide)
    rw [e586]
    rw [e584] at cn2
    exact gat_of (x2 := 0) hn (fun _ => hg.2) cn2
  refine loopK (fun r _ x2 => [.ref 574, iv c, iv x2, iv r]) (fun r _ _ => (4 - r).toNat) (fun r f x2 => (0 ≤ r ∧ r ≤ 4) ∧ (x2 = 0 ∨ x2 = 1) ∧ (∀ b, b ≠ 589 → f b = f1 b) ∧ (∀ q, 0 ≤ q ∧ q < r → (f 589 q = 0 ∨ f 589 q = 1) ∧ (f 589 q ≠ 0 ↔ pkF (ntT fi) (fi 584) q)) ∧ (x2 = 0 → ∀ q, 0 ≤ q ∧ q < r → f 589 q = 0)) ?_ 0 f1 0 ⟨by omega, Or.inl rfl, fun _ _ => rfl, fun q hq => by omega, fun _ q hq => by omega⟩
  rintro r f x2 ⟨hr, hx, hfr, hpk, hz⟩ ih
  by_cases r4 : r = 4
  · subst r4
    have frf : ∀ b, b < 587 ∨ 589 < b → f b = fi b := fun b hb => by rw [hfr b (by omega), fr1 b (by omega) (by omega)]
    have frf' : ∀ b, b < 586 ∨ 589 < b → f b = fi b := fun b hb => frf b (by omega)
    have e578 := frf 578 (by omega)
    have e579 := frf 579 (by omega)
    have e580 := frf 580 (by omega)
    have e574 := frf 574 (by omega)
    by_cases z : x2 = 0
    · refine WE.to (p_X7_cycle_13_FT) ?_
      have e585 : f 585 = fi 585 := frf 585 (by omega)
      refine loopF (fun k => [.ref 574, iv c, iv x2, iv k]) 586 0 217 (fun k => fi 585 k) (by omega) (fun k h0 h1 => ⟨_, _, p_X7_cycle_87_TT hS, by omega, ?_⟩) ?_
      · rw [blk_cell (by decide), e585]
      · obtain ⟨f', q1, q2⟩ := fin (blk f 586 0 217 (fun k => fi 585 k)) x2 (fun b hb => by rw [blk_cell (by omega), frf' b hb]) (hp.congr (Ed_congr (fun q hq => ⟨fun w => w.elim, fun w => absurd (hz z q hq) ((hpk q hq).2.mpr w)⟩)) (fun a ha => by rw [blk_in (by omega), Int.sub_zero]))
        exact WE.to (p_X7_cycle_87_F hS q1) q2
    · obtain ⟨f2, hc2, fr2, n2⟩ := (nets_ok (fi := f) (fl := fl) (nx := nx) (sl := sl) (d := d + 1) (x2 := 1) hS (s_586 hS) (Or.inr rfl) (Or.inr rfl) (by rw [e580]; exact hw.1) (by rw [e574]; exact hw.2.1) (by rw [e578, e579, e580]; exact hw.2.2) (fun _ q h0 h1 => (hpk q ⟨h0, h1⟩).1)).v
      refine WE.to (p_X7_cycle_13_FF hS hc2) ?_
      rw [e578, e579, e580, e574] at n2
      obtain ⟨f', q1, q2⟩ := fin f2 x2 (fun b hb => by rw [fr2 b (by omega), frf' b hb]) (n2.congr (Ed_congr (fun q hq => ⟨fun w => (hpk q hq).2.mp w.2, fun w => ⟨by decide, (hpk q hq).2.mpr w⟩⟩)) (fun _ _ => rfl))
      exact WE.to (p_X7_cycle_87_TF hS q1) q2
  · have e585 : f 585 = fi 585 := by rw [hfr 585 (by decide), fr1 585 (by decide) (by decide)]
    have e588 : f 588 = f1 588 := hfr 588 (by decide)
    have hl := hp.1 (144 + r) (by omega)
    have ct := ga.cnt (x := 144 + r) (by omega)
    have cR := (ga.2 _ hl).R (by omega)
    have hl' := hl
    rw [← e585] at hl'
    rw [← e588, ← e585] at ct cR
    have nxt : ∀ v x2' : Int, (v = 0 ∨ v = 1) → (v ≠ 0 ↔ pkF (ntT fi) (fi 584) r) → (x2' = 0 ∨ x2' = 1) → (x2' = 0 → x2 = 0 ∧ v = 0) → WE t_X7_cycle (CD mt (d + 3)) 13 [.ref 574, iv c, iv x2', iv (r + 1)] [] (G (up f 589 r v) fl cr sh nx sl) Q := by
      intro v x2' hv1 hv2 hx1 hx2
      refine ih (r + 1) _ x2' ⟨by omega, hx1, fun b hb => by rw [up_cell _ hb, hfr b hb], fun q hq => ?_, fun w q hq => ?_⟩ (by omega)
      · rw [up_in]
        by_cases e : q = r
        · rw [if_pos e, e]; exact ⟨hv1, hv2⟩
        · rw [if_neg e]; exact hpk q (by omega)
      · rw [up_in]
        by_cases e : q = r
        · rw [if_pos e]; exact (hx2 w).2
        · rw [if_neg e]; exact hz (hx2 w).1 q (by omega)
    have hpkr : pkF (ntT fi) (fi 584) r ↔ 0 ≤ tk (Conn (Ed (fi 578) (fi 579) (fi 580 0) (fi 574 42) (fun _ => False))) (fi 584) (144 + r) := Iff.rfl
    rcases ct with ⟨c1, c2⟩ | ⟨c1, c2⟩
    · by_cases z : x2 = 0
      · exact WE.to (p_X7_cycle_13_TTT hS) (nxt 0 0 (Or.inl rfl) (by rw [hpkr]; omega) (Or.inl rfl) (fun _ => ⟨z, rfl⟩))
      · exact WE.to (p_X7_cycle_13_TTF hS) (nxt 0 1 (Or.inl rfl) (by rw [hpkr]; omega) (Or.inr rfl) (fun w => by omega))
    · by_cases z : x2 = 0
      · exact WE.to (p_X7_cycle_13_TFT hS) (nxt 1 1 (Or.inr rfl) (by rw [hpkr]; omega) (Or.inr rfl) (fun w => by omega))
      · exact WE.to (p_X7_cycle_13_TFF hS) (nxt 1 1 (Or.inr rfl) (by rw [hpkr]; omega) (Or.inr rfl) (fun w => by omega))
theorem tk_R9 {sm : Int → Int → Prop} {g : Int → Int} (hg : ∀ h, 0 ≤ h ∧ h < 96 → -1 ≤ g h ∧ g h ≤ 9) (h : Int) : -1 ≤ tk sm g h ∧ tk sm g h ≤ 9 := by
  have := tk_R (sm := sm) (g := g) (h := h) (b := 10) (fun k hk => by have := hg k hk; omega) (by omega); omega
theorem cyB (hS : Stat cr sh) {c x2 : Int} {e : Int → Int → Prop} {nt : NT} (hc : c = 0 ∨ c = 1) (hg : GOk (fi 584)) (hsm : smF nt (fi 584) = Conn e) (hG : GatOk e (fi 584) (fi 586) (fi 587) (fi 588))
    (kk : ∀ f : HI, (∀ b, b ≠ 584 → b ≠ 587 → b ≠ 588 → f b = fi b) → (∀ h, 0 ≤ h ∧ h < 96 → f 584 h = gcF nt (fi 584) c h) → GatOk e (gcF nt (fi 584) c) (f 586) (f 587) (f 588) → WE t_X7_cycle (CD mt (d + 3)) 188 [.ref 574, iv c, iv x2, iv 0] [] (G f fl cr sh nx sl) Q) :
    WE t_X7_cycle (CD mt (d + 3)) 127 [.ref 574, iv c, iv x2, iv 0] [] (G fi fl cr sh nx sl) Q := by
  have gcR : ∀ h, 0 ≤ h ∧ h < 96 → -1 ≤ gcF nt (fi 584) c h ∧ gcF nt (fi 584) c h ≤ 9 := fun h hh => by
    unfold gcF
    by_cases z : c ≠ 0 ∧ 61 ≤ h ∧ h < 65
    · rw [if_pos z]; split <;> omega
    · rw [if_neg z]; exact hg.1 h hh
  have fin : ∀ f : HI, (∀ b, b ≠ 584 → f b = fi b) → (∀ h, 0 ≤ h ∧ h < 96 → f 584 h = gcF nt (fi 584) c h) → ∃ f', CD mt (d + 3) 182 [.ref 574, .ref 586, iv 1] (G f fl cr sh nx sl) = some (.returned none, G f' fl cr sh nx sl) ∧ WE t_X7_cycle (CD mt (d + 3)) 188 [.ref 574, iv c, iv x2, iv 0] [] (G f' fl cr sh nx sl) Q := by
    intro f fr hgc
    have e586 : f 586 = fi 586 := fr 586 (by decide)
    obtain ⟨f2, hc2, fr2, cn2⟩ := (gather_ok (fi := f) (fl := fl) (nx := nx) (sl := sl) (d := d + 1) (x2 := 1) hS (s_586 hS) (Or.inr rfl) (Or.inr rfl) (by rw [e586]; exact hG.1.1) (fun h hh => by rw [hgc h hh]; have := gcR h hh; omega)).v
    have e586' : f2 586 = fi 586 := by rw [fr2 586 (by decide) (by decide), e586]
    refine ⟨f2, hc2, kk f2 (fun b h1 h2 h3 => by rw [fr2 b h2 h3, fr b h1]) (fun h hh => by rw [fr2 584 (by decide) (by decide)]; exact hgc h hh) ?_⟩
    have e584' : f2 584 = f 584 := fr2 584 (by decide) (by decide)
    rw [e586']
    refine gat_of (x2 := 1) hG.1 (fun w => absurd w (by decide)) (fun k hk => (cn2 k hk).congr (fun x hx => ?_))
    rw [hgc x hx, e586]
  by_cases c0 : c = 0
  · obtain ⟨f', q1, q2⟩ := fin fi (fun _ _ => rfl) (fun h hh => by unfold gcF; rw [if_neg (by omega)])
    exact WE.to (p_X7_cycle_127_TT hS q1) q2
  · refine loopK (σ := Unit) (fun n _ _ => [.ref 574, iv c, iv x2, iv n]) (fun n _ _ => (4 - n).toNat) (fun n f _ => (0 ≤ n ∧ n ≤ 4) ∧ (∀ b, b ≠ 584 → f b = fi b) ∧ ∀ h, 0 ≤ h ∧ h < 96 → f 584 h = if 61 ≤ h ∧ h < 61 + n then gcF nt (fi 584) c h else fi 584 h) ?_ 0 fi () ⟨by omega, fun _ _ => rfl, fun h hh => by rw [if_neg (by omega)]⟩
    rintro n f _ ⟨hn, hfr, hgv⟩ ih
    by_cases n4 : n = 4
    · subst n4
      obtain ⟨f', q1, q2⟩ := fin f hfr (fun h hh => by
        rw [hgv h hh]
        by_cases z : 61 ≤ h ∧ h < 61 + 4
        · rw [if_pos z]
        · rw [if_neg z]; unfold gcF; rw [if_neg (by omega)])
      exact WE.to (p_X7_cycle_127_F hS q1) q2
    · have e586 : f 586 = fi 586 := hfr 586 (by decide)
      have e587 : f 587 = fi 587 := hfr 587 (by decide)
      have e588 : f 588 = fi 588 := hfr 588 (by decide)
      have hH : HvOk (f 586) (f 587) (f 588) := by rw [e586, e587, e588]; exact hG.hvOk
      have hval : ∀ x, 0 ≤ x ∧ x < 217 → hv (f 584) (f 586) (f 587) (f 588) x = tk (smF nt (fi 584)) (fi 584) x := by
        intro x hx
        rw [hsm, ← hG.val hx, e586, e587, e588]
        unfold hv
        rcases hG.2 _ (hG.1.1 x hx) with ⟨q, _⟩ | ⟨a1, a2, ⟨a3, _⟩, _, a5⟩
        · rw [if_pos q, if_pos q]
        · rw [if_neg (by rcases a5 with ⟨q, _⟩ | ⟨q, _⟩ <;> omega), if_neg (by rcases a5 with ⟨q, _⟩ | ⟨q, _⟩ <;> omega), hgv _ ⟨a1, a2⟩, if_neg]
          intro w
          have := hg.2 (fi 587 (fi 586 x)) (by omega)
          have := a3.2.2
          omega
      have t1 := tk_R9 (sm := smF nt (fi 584)) hg.1 (148 + n)
      have t2 := tk_R9 (sm := smF nt (fi 584)) hg.1 (152 + n)
      rw [← hval _ (by omega)] at t1 t2
      have nxt : ∀ v : Int, v = gcF nt (fi 584) c (61 + n) → WE t_X7_cycle (CD mt (d + 3)) 127 [.ref 574, iv c, iv x2, iv (n + 1)] [] (G (up f 584 (61 + n) v) fl cr sh nx sl) Q := by
        intro v hv
        refine ih (n + 1) _ () ⟨by omega, fun b hb => by rw [up_cell _ hb, hfr b hb], fun h hh => ?_⟩ (by omega)
        rw [up_in]
        by_cases z : h = 61 + n
        · rw [if_pos z, if_pos (by omega), hv, z]
        · rw [if_neg z, hgv h hh]
          by_cases y : 61 ≤ h ∧ h < 61 + n
          · rw [if_pos y, if_pos (by omega)]
          · rw [if_neg y, if_neg (by omega)]
      have eg : gcF nt (fi 584) c (61 + n) = if tk (smF nt (fi 584)) (fi 584) (148 + n) = tk (smF nt (fi 584)) (fi 584) (152 + n) then -1 else 1 := by
        unfold gcF; rw [if_pos (by omega), show 61 + n - 61 = n by omega]
      by_cases z : hv (f 584) (f 586) (f 587) (f 588) (148 + n) = hv (f 584) (f 586) (f 587) (f 588) (152 + n)
      · exact WE.to (p_X7_cycle_127_TFT hS hH) (nxt (-1) (by rw [eg, ← hval _ (by omega), ← hval _ (by omega), if_pos z]))
      · exact WE.to (p_X7_cycle_127_TFF hS hH) (nxt 1 (by rw [eg, ← hval _ (by omega), ← hval _ (by omega), if_neg z]))
end T7E

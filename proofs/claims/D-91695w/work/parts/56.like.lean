/-! bounds of what is printed and punched; the reference's play by runO; alike; decks -/
def PV (s : RS) : Prop := ∀ k b, (-1 ≤ s.2.2.1 k b ∧ s.2.2.1 k b ≤ 15) ∧ (-1 ≤ s.2.2.2 k b ∧ s.2.2.2 k b ≤ 15)
theorem gcF_R {nt : NT} {g : Int → Int} {c : Int} (hg : GOk g) : ∀ h, 0 ≤ h ∧ h < 96 → -1 ≤ gcF nt g c h ∧ gcF nt g c h ≤ 9 := fun h hh => by
  unfold gcF
  by_cases z : c ≠ 0 ∧ 61 ≤ h ∧ h < 65
  · rw [if_pos z]; split <;> omega
  · rw [if_neg z]; exact hg.1 h hh
theorem TF_R {nt : NT} {g : Int → Int} {c : Int} (hg : GOk g) (h : Int) : -1 ≤ TF nt g c h ∧ TF nt g c h ≤ 9 := tk_R9 (gcF_R hg) h
theorem PV_pr {T : Int → Int} {s : RS} (hT : ∀ h, -1 ≤ T h ∧ T h ≤ 9) (h : PV s) : PV (pr1 T s) := by
  unfold pr1
  split
  · intro k b
    refine ⟨?_, (h k b).2⟩
    show -1 ≤ (if k = s.1 2 then (if T (132 + b) < 0 then 15 else T (132 + b)) else s.2.2.1 k b) ∧ (if k = s.1 2 then (if T (132 + b) < 0 then 15 else T (132 + b)) else s.2.2.1 k b) ≤ 15
    have := hT (132 + b)
    have := h k b
    split
    · split <;> omega
    · omega
  · exact h
theorem PV_pu {T : Int → Int} {s : RS} (hT : ∀ h, -1 ≤ T h ∧ T h ≤ 9) (h : PV s) : PV (pu1 T s) := by
  intro k b
  refine ⟨(h k b).1, ?_⟩
  show -1 ≤ (if k = s.1 3 then (if T (159 + b) < 0 then 15 else T (159 + b)) else s.2.2.2 k b) ∧ (if k = s.1 3 then (if T (159 + b) < 0 then 15 else T (159 + b)) else s.2.2.2 k b) ≤ 15
  have := hT (159 + b)
  have := h k b
  split
  · split <;> omega
  · omega
theorem CycR.pv {nt : NT} {room c v : Int} {g : Int → Int} {s s' : RS} (hg : GOk g) (h : CycR nt room g c s v s') (p : PV s) : PV s' := by
  rcases h with ⟨_, _, _, _, rfl⟩ | ⟨_, ⟨_, _, _, rfl⟩ | ⟨_, ⟨_, _, rfl⟩ | ⟨_, _, _, rfl⟩ | ⟨_, _, _, rfl⟩⟩⟩
  · exact p
  · exact p
  · exact PV_pr (TF_R hg) p
  · exact PV_pr (TF_R hg) p
  · exact PV_pu (TF_R hg) (PV_pr (TF_R hg) p)
theorem CycR.end_ {nt : NT} {room c v : Int} {g : Int → Int} {s s' : RS} (h : CycR nt room g c s v s') : v = 0 ∨ v = 2 ∨ v = 3 := by
  rcases h with ⟨_, _, _, h, _⟩ | ⟨_, ⟨_, _, h, _⟩ | ⟨_, ⟨_, h, _⟩ | ⟨_, _, h, _⟩ | ⟨_, _, h, _⟩⟩⟩ <;> omega
theorem totsR.pv {nt : NT} {room : Int} : ∀ (n : Nat) (t : Int) (s : RS) (v : Int) (s' : RS), 1 ≤ t → t + n ≤ 4 → totsR nt room n t s v s' → PV s → PV s' ∧ (v = 0 ∨ v = 2 ∨ v = 3) := by
  intro n
  induction n with
  | zero => rintro t s v s' _ _ ⟨rfl, rfl⟩ p; exact ⟨p, Or.inl rfl⟩
  | succ n ih =>
    rintro t s v s' h1 h2 ⟨u, x, hc, h⟩ p
    have px := hc.pv (totG_ok (by omega)) p
    rcases h with ⟨_, rfl, rfl⟩ | ⟨_, h⟩
    · exact ⟨px, hc.end_⟩
    · exact ih _ _ _ _ (by omega) (by omega) h px
theorem ordF_R (T : Int → Int) (n k : Int) : 0 ≤ ordF T n k ∧ ordF T n k ≤ 3 := by
  unfold ordF; repeat' split
  all_goals omega
theorem cardsR.pv {nt : NT} {room n : Int} {cd : Int → Int → Int} (hd : DOk cd n) : ∀ (m : Nat) (k : Int) (s : RS) (v : Int) (s' : RS), 0 ≤ k → k + m ≤ n → cardsR nt room cd n m k s v s' → PV s → PV s' ∧ (0 ≤ v ∧ v ≤ 3) := by
  intro m
  induction m with
  | zero => rintro k s v s' _ _ ⟨rfl, rfl⟩ p; exact ⟨p, by omega⟩
  | succ m ih =>
    rintro k s v s' h0 h1 ⟨u, x, hc, h⟩ p
    have px := hc.pv (cardG_ok hd (by omega)) p
    have eu := hc.end_
    rcases h with ⟨_, rfl, rfl⟩ | ⟨_, w, y, ht, h⟩
    · exact ⟨px, by omega⟩
    · have o := ordF_R (TF nt (cardG cd n k) 1) n k
      have py := totsR.pv _ _ _ _ _ (by omega) (by omega) ht px
      rcases h with ⟨_, rfl, rfl⟩ | ⟨_, ⟨_, rfl, rfl⟩ | ⟨_, h⟩⟩
      · exact ⟨py.1, by omega⟩
      · exact ⟨py.1, by omega⟩
      · exact ih _ _ _ _ (by omega) (by omega) h py.1
/-- an outcome, within all bounds -/
def OOk (o : Int × RS) : Prop := OB o ∧ PV o.2
section T7K
variable {fi fl : HI} {cr : HR} {sh : HS} {nx sl d : Nat}
theorem play_ok' (hS : Stat cr sh) {room : Int} (hr40 : 0 ≤ room ∧ room ≤ 40) (hw : WOk fi) (hn : 0 ≤ fi 574 41 ∧ fi 574 41 ≤ 40) (hd : DOk (fun k h => fi 583 (20 * k + h)) (fi 574 41)) :
    ∃ f, CD mt (d + 5) 177 [.ref 574, iv room] (G fi fl cr sh nx sl) = some (.returned none, G f fl cr sh nx sl) ∧ TKp 0 (runO (ntT fi) room (fun k h => fi 583 (20 * k + h)) (fi 574 41)) f ∧ OOk (runO (ntT fi) room (fun k h => fi 583 (20 * k + h)) (fi 574 41)) ∧ SB room (runO (ntT fi) room (fun k h => fi 583 (20 * k + h)) (fi 574 41)).2 ∧ PlFr room fi f := by
  obtain ⟨f, hc, v, s, hR, h0, ht, hb, hfr⟩ := (play_ok (fl := fl) (nx := nx) (sl := sl) (d := d) hS hr40 hw hn hd).v
  have pv := cardsR.pv hd _ _ _ _ _ (by omega) (by omega) hR (fun k b => ⟨⟨(by decide : (-1 : Int) ≤ 0), (by decide : (0 : Int) ≤ 15)⟩, ⟨(by decide : (-1 : Int) ≤ 0), (by decide : (0 : Int) ≤ 15)⟩⟩ : PV rs0)
  rw [runO_eq hR]
  refine ⟨f, hc, TKp0.mpr ⟨h0, ht⟩, ⟨⟨⟨hb.1, ⟨hb.2.1.1, ?_⟩, hb.2.2⟩, pv.2⟩, pv.1⟩, hb, hfr⟩
  have := hb.2.1.2
  show s.1 3 ≤ 40
  omega
theorem isLike_ok (hS : Stat cr sh) {a b : Int × RS} (ha : TKp 0 a fi) (hb : TKp 2 b fi) (oa : OOk a) (ob : OOk b) :
    (CD mt (d + 1) 200 [.ref 574, iv 2] (G fi fl cr sh nx sl) = some (.returned (some (iv 1)), G fi fl cr sh nx sl) ∧ OLike a b) ∨ (CD mt (d + 1) 200 [.ref 574, iv 2] (G fi fl cr sh nx sl) = some (.returned (some (iv 0)), G fi fl cr sh nx sl) ∧ ¬ OLike a b) := by
  obtain ⟨a0, a1, a2, a3, a4, a5, a6, a7, a8, a9, a10⟩ := ha
  obtain ⟨b0, b1, b2, b3, b4, b5, b6, b7, b8, b9, b10⟩ := hb
  obtain ⟨⟨⟨oa1, oa2, oa3⟩, oa4⟩, oa5⟩ := oa
  obtain ⟨⟨⟨ob1, ob2, ob3⟩, ob4⟩, ob5⟩ := ob
  have w : WC (CD mt (d + 1)) 200 [.ref 574, iv 2] (G fi fl cr sh nx sl) (RI fl cr sh nx sl (fun v f => f = fi ∧ ((v = 1 ∧ OLike a b) ∨ (v = 0 ∧ ¬ OLike a b)))) := by
    refine WE.cd mt_X7_isLike rfl rfl ?_
    by_cases q0 : fi 590 0 = fi 590 2
    rotate_left
    · exact WE.fin (p_X7_isLike_0_F hS) (ri ⟨rfl, Or.inr ⟨rfl, fun h => q0 (by rw [a0, b0, h.1])⟩⟩)
    by_cases q1 : fi 591 0 = fi 591 2
    rotate_left
    · exact WE.fin (p_X7_isLike_0_TF hS) (ri ⟨rfl, Or.inr ⟨rfl, fun h => q1 (by rw [a3, b3, h.2.2.1.1])⟩⟩)
    by_cases q2 : fi 592 0 = fi 592 2
    rotate_left
    · exact WE.fin (p_X7_isLike_0_TTF hS) (ri ⟨rfl, Or.inr ⟨rfl, fun h => q2 (by rw [a4, b4, h.2.1])⟩⟩)
    refine WE.to (p_X7_isLike_0_TTT hS) ?_
    refine loopK (σ := Unit) (fun k _ _ => [.ref 574, iv 2, iv k]) (fun k _ _ => (4 - k).toNat) (fun k f _ => f = fi ∧ (0 ≤ k ∧ k ≤ 4) ∧ ∀ j, 0 ≤ j ∧ j < k → a.2.2.1 j = b.2.2.1 j) ?_ 0 fi () ⟨rfl, by omega, fun j hj => by omega⟩
    rintro k f _ ⟨rfl, hk, hj⟩ ih
    by_cases k4 : k = 4
    rotate_left
    · have e1 := a8 k (by omega)
      have e2 := b8 k (by omega)
      rw [show 4 * 0 + k = k by omega] at e1
      have r1 := oa3 k (by omega)
      have r2 := ob3 k (by omega)
      by_cases q : f 594 k = f 594 (4 * 2 + k)
      · exact WE.to (p_X7_isLike_49_TT hS) (ih (k + 1) f () ⟨rfl, by omega, fun j h => by
          by_cases e : j = k
          · rw [e, ← e1, ← e2]; exact q
          · exact hj j (by omega)⟩ (by omega))
      · exact WE.fin (p_X7_isLike_49_TF hS) (ri ⟨rfl, Or.inr ⟨rfl, fun h => q (by rw [e1, e2, h.2.2.2.1 k (by omega)])⟩⟩)
    subst k4
    refine WE.to p_X7_isLike_49_F ?_
    refine loopK (σ := Unit) (fun k _ _ => [.ref 574, iv 2, iv k]) (fun k _ _ => (12 * f 591 0 - k).toNat) (fun k g _ => g = f ∧ (0 ≤ k ∧ k ≤ 12 * f 591 0) ∧ ∀ i, 0 ≤ i ∧ i < k → f 593 i = f 593 (720 * 2 + i)) ?_ 0 f () ⟨rfl, by omega, fun j hj => by omega⟩
    rintro k g _ ⟨rfl, hk2, hj2⟩ ih2
    by_cases kl : k = 12 * g 591 0
    rotate_left
    · have e1 := a9 (k / 12) (k % 12) (by omega) (by omega)
      have e2 := b9 (k / 12) (k % 12) (by omega) (by omega)
      rw [show 720 * 0 + (12 * (k / 12) + k % 12) = k by omega] at e1
      rw [show 720 * 2 + (12 * (k / 12) + k % 12) = 720 * 2 + k by omega] at e2
      have r1 := (oa5 (k / 12) (k % 12)).1
      have r2 := (ob5 (k / 12) (k % 12)).1
      by_cases q : g 593 k = g 593 (720 * 2 + k)
      · exact WE.to (p_X7_isLike_83_TT hS) (ih2 (k + 1) g () ⟨rfl, by omega, fun j h => by
          by_cases e : j = k
          · rw [e]; exact q
          · exact hj2 j (by omega)⟩ (by omega))
      · exact WE.fin (p_X7_isLike_83_TF hS) (ri ⟨rfl, Or.inr ⟨rfl, fun h => q (by rw [e1, e2, h.2.2.1.2 _ _ (by omega) (by omega)])⟩⟩)
    refine WE.to (p_X7_isLike_83_F hS) ?_
    refine loopK (σ := Unit) (fun k _ _ => [.ref 574, iv 2, iv k]) (fun k _ _ => (20 * g 592 0 - k).toNat) (fun k f _ => f = g ∧ (0 ≤ k ∧ k ≤ 20 * g 592 0) ∧ ∀ i, 0 ≤ i ∧ i < k → g 595 i = g 595 (800 * 2 + i)) ?_ 0 g () ⟨rfl, by omega, fun j hj => by omega⟩
    rintro m f _ ⟨rfl, hk3, hj3⟩ ih3
    by_cases ml : m = 20 * f 592 0
    rotate_left
    · have e1 := a10 (m / 20) (m % 20) (by omega) (by omega)
      have e2 := b10 (m / 20) (m % 20) (by omega) (by omega)
      rw [show 800 * 0 + (20 * (m / 20) + m % 20) = m by omega] at e1
      rw [show 800 * 2 + (20 * (m / 20) + m % 20) = 800 * 2 + m by omega] at e2
      have r1 := (oa5 (m / 20) (m % 20)).2
      have r2 := (ob5 (m / 20) (m % 20)).2
      by_cases q : f 595 m = f 595 (800 * 2 + m)
      · exact WE.to (p_X7_isLike_127_TT hS) (ih3 (m + 1) f () ⟨rfl, by omega, fun j h => by
          by_cases e : j = m
          · rw [e]; exact q
          · exact hj3 j (by omega)⟩ (by omega))
      · exact WE.fin (p_X7_isLike_127_TF hS) (ri ⟨rfl, Or.inr ⟨rfl, fun h => q (by rw [e1, e2, h.2.2.2.2 _ _ (by omega) (by omega)])⟩⟩)
    refine WE.fin (p_X7_isLike_127_F hS) (ri ⟨rfl, Or.inl ⟨rfl, ?_⟩⟩)
    refine ⟨by rw [← a0, ← b0]; exact q0, by rw [← a4, ← b4]; exact q2, ⟨by rw [← a3, ← b3]; exact q1, fun i c hi hc => ?_⟩, hj, fun i c hi hc => ?_⟩
    · have e1 := a9 i c hi hc
      have e2 := b9 i c (by omega) hc
      rw [← e1, ← e2, show 720 * 0 + (12 * i + c) = 12 * i + c by omega]
      exact hj2 _ (by omega)
    · have e1 := a10 i c hi hc
      have e2 := b10 i c (by omega) hc
      rw [← e1, ← e2, show 800 * 0 + (20 * i + c) = 20 * i + c by omega]
      exact hj3 _ (by omega)
  obtain ⟨v, f, hc, rfl, h⟩ := w.i
  rcases h with ⟨rfl, h⟩ | ⟨rfl, h⟩
  · exact Or.inl ⟨hc, h⟩
  · exact Or.inr ⟨hc, h⟩
end T7K

/-! a run, plainly; the reference's play -/
def dgt (v : Int) : Int := if v % 16 = 15 then -1 else v % 16
/-- what a card's cycle gives -/
def cardG (cd : Int → Int → Int) (n k : Int) : Int → Int := fun h => if 0 ≤ h ∧ h < 20 then dgt (cd k h) else if 20 ≤ h ∧ h < 40 then (if k + 1 < n then dgt (cd (k + 1) (h - 20)) else -1) else if 40 ≤ h ∧ h < 60 then (if 15 < cd k (h - 40) then 1 else -1) else if h = 60 then 1 else -1
def totsR (nt : NT) (room : Int) : Nat → Int → RS → Int → RS → Prop
  | 0, _, s, v, s' => v = 0 ∧ s' = s
  | n + 1, t, s, v, s' => ∃ v1 s1, CycR nt room (totG s.2.1 t) 0 s v1 s1 ∧ ((v1 ≠ 0 ∧ v = v1 ∧ s' = s1) ∨ (v1 = 0 ∧ totsR nt room n (t + 1) (zs s1.1 1 (s1.1 1 + 1), s1.2) v s'))
def ordF (T : Int → Int) (n k : Int) : Int := if 0 ≤ T 180 ∨ k = n - 1 then 3 else if 0 ≤ T 158 then 3 else if 0 ≤ T 157 then 2 else if 0 ≤ T 156 then 1 else 0
def cardsR (nt : NT) (room : Int) (cd : Int → Int → Int) (n : Int) : Nat → Int → RS → Int → RS → Prop
  | 0, _, s, v, s' => v = 0 ∧ s' = s
  | m + 1, k, s, v, s' => ∃ v1 s1, CycR nt room (cardG cd n k) 1 s v1 s1 ∧ ((v1 ≠ 0 ∧ v = v1 ∧ s' = s1) ∨ (v1 = 0 ∧ ∃ v2 s2, totsR nt room (ordF (TF nt (cardG cd n k) 1) n k).toNat 1 (zs s1.1 0 (s1.1 0 + 1), s1.2) v2 s2 ∧ ((v2 ≠ 0 ∧ v = v2 ∧ s' = s2) ∨ (v2 = 0 ∧ ((0 ≤ TF nt (cardG cd n k) 1 180 ∧ v = 1 ∧ s' = s2) ∨ (¬ 0 ≤ TF nt (cardG cd n k) 1 180 ∧ cardsR nt room cd n m (k + 1) s2 v s'))))))
def rs0 : RS := (fun j => if j = 5 ∨ j = 6 then -1 else 0, fun _ => 0, fun _ _ => 0, fun _ _ => 0)
def RunR (nt : NT) (room : Int) (cd : Int → Int → Int) (n : Int) (v : Int) (s : RS) : Prop := cardsR nt room cd n n.toNat 0 rs0 v s
theorem CycR.congr {nt : NT} {room c v : Int} {g g' : Int → Int} {s s' : RS} (hg : ∀ h, 0 ≤ h ∧ h < 96 → g h = g' h) (h : CycR nt room g c s v s') : CycR nt room g' c s v s' := by
  have e1 : pkF nt g = pkF nt g' := by
    funext r; unfold pkF
    rw [tk_congr (fun _ _ => Iff.rfl) hg]
  have e2 : smF nt g = smF nt g' := by unfold smF; rw [e1]
  have e3 : ∀ h, 0 ≤ h ∧ h < 96 → gcF nt g c h = gcF nt g' c h := by
    intro h hh
    unfold gcF
    rw [e2, tk_congr (h := 148 + (h - 61)) (fun _ _ => Iff.rfl) hg, tk_congr (h := 152 + (h - 61)) (fun _ _ => Iff.rfl) hg, hg h hh]
  have e4 : TF nt g c = TF nt g' c := by
    funext h; unfold TF
    rw [e2]
    exact tk_congr (fun _ _ => Iff.rfl) e3
  have e5 : ∀ k, Gv (gcF nt g c) k ↔ Gv (gcF nt g' c) k := fun k => ⟨fun ⟨a, b, q⟩ => ⟨a, b, by rw [← e3 k ⟨a, b⟩]; exact q⟩, fun ⟨a, b, q⟩ => ⟨a, b, by rw [e3 k ⟨a, b⟩]; exact q⟩⟩
  rcases h with ⟨x, o, ⟨j1, j2, j3, j4, j5, j6⟩, hv, hs⟩ | ⟨nj, h⟩
  · refine Or.inl ⟨x, o, ⟨(e5 _).mp j1, (e5 _).mp j2, j3, by rw [← e2]; exact j4, fun a b ha hb hab hs => j5 a b ((e5 _).mpr ha) ((e5 _).mpr hb) hab (by rw [e2]; exact hs), fun b hb hab hs => j6 b ((e5 _).mpr hb) hab (by rw [e2]; exact hs)⟩, hv, hs⟩
  · refine Or.inr ⟨fun a b ha hb hab hs => nj a b ((e5 _).mpr ha) ((e5 _).mpr hb) hab (by rw [e2]; exact hs), ?_⟩
    rw [← e4]; exact h
theorem TF_congr {nt : NT} {c : Int} {g g' : Int → Int} (hg : ∀ h, 0 ≤ h ∧ h < 96 → g h = g' h) : TF nt g c = TF nt g' c := by
  have e1 : pkF nt g = pkF nt g' := by
    funext r; unfold pkF
    rw [tk_congr (fun _ _ => Iff.rfl) hg]
  have e2 : smF nt g = smF nt g' := by unfold smF; rw [e1]
  funext h; unfold TF
  rw [e2]
  refine tk_congr (fun _ _ => Iff.rfl) (fun h hh => ?_)
  unfold gcF
  rw [e2, tk_congr (h := 148 + (h - 61)) (fun _ _ => Iff.rfl) hg, tk_congr (h := 152 + (h - 61)) (fun _ _ => Iff.rfl) hg, hg h hh]
theorem dgt_R {v : Int} (h : v % 16 ≤ 9 ∨ v % 16 = 15) : -1 ≤ dgt v ∧ dgt v ≤ 9 := by unfold dgt; split <;> omega
theorem totG_ok {w : Int → Int} {o : Int} (ho : 1 ≤ o ∧ o ≤ 3) : GOk (totG w o) := by
  refine ⟨fun h hh => ?_, fun h hh => ?_⟩
  · unfold totG
    split
    · omega
    · split
      · generalize dv (iabs (w ((h - 68) / 6))) ((h - 68) % 6).toNat = z; omega
      · split
        · split <;> omega
        · omega
  · unfold totG; rw [if_neg (by omega), if_neg (by omega), if_neg (by omega)]
section T7H
variable {fi fl : HI} {cr : HR} {sh : HS} {nx sl d : Nat}
/-- a deck -/
def DOk (cd : Int → Int → Int) (n : Int) : Prop := ∀ k h, 0 ≤ k ∧ k < n → 0 ≤ h ∧ h < 20 → (0 ≤ cd k h ∧ cd k h ≤ 31) ∧ (cd k h % 16 ≤ 9 ∨ cd k h % 16 = 15)
theorem cardG_ok {cd : Int → Int → Int} {n k : Int} (h : DOk cd n) (hk : 0 ≤ k ∧ k < n) : GOk (cardG cd n k) := by
  refine ⟨fun x hx => ?_, fun x hx => ?_⟩
  · unfold cardG
    split
    · next q => exact dgt_R (h k x hk q).2
    · split
      · next q => split
                  · next z => exact dgt_R (h (k + 1) (x - 20) (by omega) (by omega)).2
                  · omega
      · split
        · split <;> omega
        · split <;> omega
  · unfold cardG; rw [if_neg (by omega), if_neg (by omega), if_neg (by omega), if_neg (by omega)]
theorem WOk.mono {f : HI} (h : WOk fi) (e : ∀ b, b = 574 ∨ b = 578 ∨ b = 579 ∨ b = 580 → f b = fi b) : WOk f := by
  unfold WOk; rw [e 574 (by omega), e 578 (by omega), e 579 (by omega), e 580 (by omega)]; exact h
theorem ntT_mono {f : HI} (e : ∀ b, b = 574 ∨ b = 578 ∨ b = 579 ∨ b = 580 → f b = fi b) : ntT f = ntT fi := by
  unfold ntT; rw [e 574 (by omega), e 578 (by omega), e 579 (by omega), e 580 (by omega)]
theorem RunFr.lo {f : HI} (h : RunFr fi f) {b : Nat} (hb : b < 584 ∨ 600 < b) : f b = fi b := h.1 b (by omega) (by omega) (by omega) (by omega) (by omega) (by omega) (by omega) (by omega) (by omega) (by omega) (by omega) (by omega) (by omega) (by omega) (by omega) (by omega) (by omega)
/-- the totals' cycles -/
theorem tots_ok (hS : Stat cr sh) {room x1 x2 k ord : Int} {Q : Outcome × AH → Prop} {nt : NT} {pl : Int → Int} {f0 : HI} (hw : WOk f0) (hnt : nt = ntT f0) (hp : NetOk (Ed (f0 578) (f0 579) (f0 580 0) (f0 574 42) (fun _ => False)) pl) (hr : f0 574 43 = room) (hr40 : 0 ≤ room ∧ room ≤ 40) (ho : 0 ≤ ord ∧ ord ≤ 3) {R : Int → RS → Prop} (kk : ∀ (f : HI) (s : RS) (x5 : Int), TSt s f → SB room s → RunFr f0 f → f 585 = pl → R 0 s → WE t_X7_play (CD mt (d + 4)) 102 [.ref 574, iv x1, iv x2, iv (k + 1), iv ord, iv x5] [] (G f fl cr sh nx sl) Q) (ke : ∀ (f : HI) (v : Int) (s : RS), TSt s f → SB room s → RunFr f0 f → v ≠ 0 → R v s → Q (.returned none, G (up f 590 0 v) fl cr sh nx sl)) :
    ∀ (m : Nat) (t : Int) (f : HI) (s : RS), 1 ≤ t → t + m = ord + 1 → TSt s f → SB room s → RunFr f0 f → f 585 = pl → (∀ v s', totsR nt room m t s v s' → R v s') → WE t_X7_play (CD mt (d + 4)) 341 [.ref 574, iv x1, iv x2, iv k, iv ord, iv t] [] (G f fl cr sh nx sl) Q := by
  intro m
  induction m with
  | zero =>
    intro t f s ht hm hs hb fr h5 hR
    exact WE.to p_X7_play_341_F (kk f s t hs hb fr h5 (hR 0 s ⟨rfl, rfl⟩))
  | succ m ih =>
    intro t f s ht hm hs hb fr h5 hR
    obtain ⟨f1, c1, fr1, g1⟩ := (total_ok (fi := f) (fl := fl) (nx := nx) (sl := sl) (d := d + 3) (o := t) hS (by omega) (fun q hq => by rw [hs.2.2.2.2.2.2.2.1 q hq]; exact hb.2.2 q hq)).v
    have fr1' : RunFr f0 f1 := fr.trans (RunFr.of (fun b hb => fr1 b (by omega)))
    have e0 : ∀ b, b = 574 ∨ b = 578 ∨ b = 579 ∨ b = 580 → f1 b = f0 b := fun b hb => fr1'.lo (by omega)
    have hs1 : TSt s f1 := hs.mono (fun b hb => fr1 b (by omega))
    have e594 : f 594 = f1 594 := (fr1 594 (by decide)).symm
    have gt : ∀ h, 0 ≤ h ∧ h < 96 → f1 584 h = totG s.2.1 t h := by
      intro h hh
      rw [g1 h hh]
      unfold totG
      split
      · rfl
      · split
        · rw [hs.2.2.2.2.2.2.2.1 _ (by omega)]
        · split
          · rw [hs.2.2.2.2.2.2.2.1 _ (by omega)]
          · rfl
    have gok : GOk (f1 584) := ⟨fun h hh => by rw [gt h hh]; exact (totG_ok (by omega)).1 h hh, fun h hh => by rw [gt h (by omega)]; exact (totG_ok (by omega)).2 h hh⟩
    obtain ⟨v, f2, c2, s2, cy, ts2, sb2, rf2, p2, _⟩ := (cycle_ok (fi := f1) (fl := fl) (nx := nx) (sl := sl) (d := d) (c := 0) (room := room) (s := s) hS (Or.inl rfl) (hw.mono e0) gok (by rw [e0 574 (by omega), e0 578 (by omega), e0 579 (by omega), e0 580 (by omega), fr1 585 (by decide), h5]; exact hp) hs1 hb (by rw [e0 574 (by omega)]; exact hr) hr40).i
    rw [ntT_mono e0, ← hnt] at cy
    have cy' := cy.congr gt
    have fr2 : RunFr f0 f2 := fr1'.trans rf2
    have vR : v = 0 ∨ v = 2 ∨ v = 3 := by
      rcases cy with ⟨_, _, _, h, _⟩ | ⟨_, ⟨_, _, h, _⟩ | ⟨_, ⟨_, h, _⟩ | ⟨_, _, h, _⟩ | ⟨_, _, h, _⟩⟩⟩ <;> omega
    by_cases z : v = 0
    · refine WE.to (p_X7_play_341_TT hS c1 c2) (ih (t + 1) _ (zs s2.1 1 (s2.1 1 + 1), s2.2) (by omega) (by omega) ?_ sb2 ?_ ?_ (fun v' s' h' => hR v' s' ⟨v, s2, cy', Or.inr ⟨z, h'⟩⟩))
      · obtain ⟨t0, t1, t2, t3, t4, t5, t6, t7, t8, t9⟩ := ts2
        have eo : ∀ b, b ≠ 590 → b ≠ 597 → up (up f2 590 0 v) 597 0 (f2 597 0 + 1) b = f2 b := fun b h1 h2 => by rw [up_cell _ h2, up_cell _ h1]
        refine ⟨?_, ?_, ?_, ?_, ?_, ?_, ?_, fun q hq => ?_, fun k b hk hb => ?_, fun k b hk hb => ?_⟩
        · rw [eo _ (by decide) (by decide)]; exact t0
        · rw [up_same, t1]; rfl
        · rw [eo _ (by decide) (by decide)]; exact t2
        · rw [eo _ (by decide) (by decide)]; exact t3
        · rw [eo _ (by decide) (by decide)]; exact t4
        · rw [eo _ (by decide) (by decide)]; exact t5
        · rw [eo _ (by decide) (by decide)]; exact t6
        · rw [eo _ (by decide) (by decide)]; exact t7 q hq
        · rw [eo _ (by decide) (by decide)]; exact t8 k b hk hb
        · rw [eo _ (by decide) (by decide)]; exact t9 k b hk hb
      · exact fr2.trans ((RunFr.up (by omega) (fun _ => by decide)).trans (RunFr.up (by omega) (fun _ => by decide)))
      · rw [up_cell _ (by decide), up_cell _ (by decide), p2, fr1 585 (by decide), h5]
    · exact WE.fin (p_X7_play_341_TF hS c1 c2) (ke f2 v s2 ts2 sb2 fr2 z (hR v s2 ⟨v, s2, cy', Or.inl ⟨z, rfl, rfl⟩⟩))
end T7H

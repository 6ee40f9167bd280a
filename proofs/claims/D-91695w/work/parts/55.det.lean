/-! a run comes to one end; what it comes to, as a function -/
theorem JamAt.uniq {sm : Int → Int → Prop} {g : Int → Int} {h o h' o' : Int} (a : JamAt sm g h o) (b : JamAt sm g h' o') : h = h' ∧ o = o' := by
  obtain ⟨a1, a2, a3, a4, a5, a6⟩ := a
  obtain ⟨b1, b2, b3, b4, b5, b6⟩ := b
  have e : h = h' := by
    have := a5 _ _ b1 b2 b3 b4
    have := b5 _ _ a1 a2 a3 a4
    omega
  subst e
  have := a6 _ b2 b3 b4
  have := b6 _ a2 a3 a4
  exact ⟨rfl, by omega⟩
theorem CycR.det {nt : NT} {room c v v' : Int} {g : Int → Int} {s s1 s2 : RS} (a : CycR nt room g c s v s1) (b : CycR nt room g c s v' s2) : v = v' ∧ s1 = s2 := by
  rcases a with ⟨h, o, j, rfl, rfl⟩ | ⟨nj, a⟩
  · rcases b with ⟨h', o', j', rfl, rfl⟩ | ⟨nj, _⟩
    · obtain ⟨rfl, rfl⟩ := j.uniq j'; exact ⟨rfl, rfl⟩
    · exact absurd j.2.2.2.1 (nj _ _ j.1 j.2.1 j.2.2.1)
  · rcases b with ⟨h', o', j, rfl, rfl⟩ | ⟨_, b⟩
    · exact absurd j.2.2.2.1 (nj _ _ j.1 j.2.1 j.2.2.1)
    · rcases a with ⟨a1, a2, rfl, rfl⟩ | ⟨a1, a⟩
      · rcases b with ⟨_, _, rfl, rfl⟩ | ⟨b1, _⟩
        · exact ⟨rfl, rfl⟩
        · exact absurd ⟨a1, a2⟩ b1
      · rcases b with ⟨b1, b2, _⟩ | ⟨_, b⟩
        · exact absurd ⟨b1, b2⟩ a1
        · rcases a with ⟨a1, rfl, rfl⟩ | ⟨a1, a2, rfl, rfl⟩ | ⟨a1, a2, rfl, rfl⟩ <;> rcases b with ⟨b1, rfl, rfl⟩ | ⟨b1, b2, rfl, rfl⟩ | ⟨b1, b2, rfl, rfl⟩ <;> first | exact ⟨rfl, rfl⟩ | (exfalso; omega)
theorem totsR.det {nt : NT} {room : Int} : ∀ (n : Nat) (t : Int) (s : RS) (v v' : Int) (s1 s2 : RS), totsR nt room n t s v s1 → totsR nt room n t s v' s2 → v = v' ∧ s1 = s2 := by
  intro n
  induction n with
  | zero => rintro t s v v' s1 s2 ⟨rfl, rfl⟩ ⟨rfl, rfl⟩; exact ⟨rfl, rfl⟩
  | succ n ih =>
    rintro t s v v' s1 s2 ⟨u, x, hc, h⟩ ⟨u', x', hc', h'⟩
    obtain ⟨rfl, rfl⟩ := hc.det hc'
    rcases h with ⟨h1, rfl, rfl⟩ | ⟨h1, h⟩ <;> rcases h' with ⟨h1', rfl, rfl⟩ | ⟨h1', h'⟩
    · exact ⟨rfl, rfl⟩
    · exact absurd h1' h1
    · exact absurd h1 h1'
    · exact ih _ _ _ _ _ _ h h'
theorem cardsR.det {nt : NT} {room n : Int} {cd : Int → Int → Int} : ∀ (m : Nat) (k : Int) (s : RS) (v v' : Int) (s1 s2 : RS), cardsR nt room cd n m k s v s1 → cardsR nt room cd n m k s v' s2 → v = v' ∧ s1 = s2 := by
  intro m
  induction m with
  | zero => rintro k s v v' s1 s2 ⟨rfl, rfl⟩ ⟨rfl, rfl⟩; exact ⟨rfl, rfl⟩
  | succ m ih =>
    rintro k s v v' s1 s2 ⟨u, x, hc, h⟩ ⟨u', x', hc', h'⟩
    obtain ⟨rfl, rfl⟩ := hc.det hc'
    rcases h with ⟨h1, rfl, rfl⟩ | ⟨h1, w, y, ht, h⟩ <;> rcases h' with ⟨h1', rfl, rfl⟩ | ⟨h1', w', y', ht', h'⟩
    · exact ⟨rfl, rfl⟩
    · exact absurd h1' h1
    · exact absurd h1 h1'
    · obtain ⟨rfl, rfl⟩ := totsR.det _ _ _ _ _ _ _ ht ht'
      rcases h with ⟨q, rfl, rfl⟩ | ⟨q, h⟩ <;> rcases h' with ⟨q', rfl, rfl⟩ | ⟨q', h'⟩
      · exact ⟨rfl, rfl⟩
      · exact absurd q' q
      · exact absurd q q'
      · rcases h with ⟨z, rfl, rfl⟩ | ⟨z, h⟩ <;> rcases h' with ⟨z', rfl, rfl⟩ | ⟨z', h'⟩
        · exact ⟨rfl, rfl⟩
        · exact absurd z z'
        · exact absurd z' z
        · exact ih _ _ _ _ _ _ h h'
theorem cardG_congr {cd cd' : Int → Int → Int} {n k : Int} (hk : 0 ≤ k ∧ k < n) (h : ∀ k h, 0 ≤ k ∧ k < n → 0 ≤ h ∧ h < 20 → cd k h = cd' k h) : cardG cd n k = cardG cd' n k := by
  funext x
  unfold cardG
  by_cases q1 : 0 ≤ x ∧ x < 20
  · rw [if_pos q1, if_pos q1, h k x hk q1]
  · rw [if_neg q1, if_neg q1]
    by_cases q2 : 20 ≤ x ∧ x < 40
    · rw [if_pos q2, if_pos q2]
      by_cases q3 : k + 1 < n
      · rw [if_pos q3, if_pos q3, h (k + 1) (x - 20) (by omega) (by omega)]
      · rw [if_neg q3, if_neg q3]
    · rw [if_neg q2, if_neg q2]
      by_cases q3 : 40 ≤ x ∧ x < 60
      · rw [if_pos q3, if_pos q3, h k (x - 40) hk (by omega)]
      · rw [if_neg q3, if_neg q3]
theorem cardsR.congr {nt : NT} {room n : Int} {cd cd' : Int → Int → Int} (h : ∀ k h, 0 ≤ k ∧ k < n → 0 ≤ h ∧ h < 20 → cd k h = cd' k h) : ∀ (m : Nat) (k : Int) (s : RS) (v : Int) (s1 : RS), 0 ≤ k → k + m ≤ n → cardsR nt room cd n m k s v s1 → cardsR nt room cd' n m k s v s1 := by
  intro m
  induction m with
  | zero => intro k s v s1 _ _ q; exact q
  | succ m ih =>
    rintro k s v s1 h0 h1 ⟨u, x, hc, q⟩
    have e := cardG_congr (n := n) (k := k) (by omega) h
    rw [e] at hc q
    refine ⟨u, x, hc, ?_⟩
    rcases q with q | ⟨q1, w, y, ht, q⟩
    · exact Or.inl q
    · refine Or.inr ⟨q1, w, y, ht, ?_⟩
      rcases q with q | ⟨q2, q | ⟨q3, q⟩⟩
      · exact Or.inl q
      · exact Or.inr ⟨q2, Or.inl q⟩
      · exact Or.inr ⟨q2, Or.inr ⟨q3, ih _ _ _ _ (by omega) (by omega) q⟩⟩
theorem RunR.congr {nt : NT} {room n v : Int} {cd cd' : Int → Int → Int} {s : RS} (hn : 0 ≤ n) (h : ∀ k h, 0 ≤ k ∧ k < n → 0 ≤ h ∧ h < 20 → cd k h = cd' k h) (r : RunR nt room cd n v s) : RunR nt room cd' n v s := cardsR.congr h _ _ _ _ _ (by omega) (by omega) r
/-- what a run comes to -/
noncomputable def runO (nt : NT) (room : Int) (cd : Int → Int → Int) (n : Int) : Int × RS := @dite _ (∃ p : Int × RS, RunR nt room cd n p.1 p.2) (Classical.propDecidable _) (fun q => q.choose) (fun _ => (0, rs0))
theorem runO_eq {nt : NT} {room n v : Int} {cd : Int → Int → Int} {s : RS} (r : RunR nt room cd n v s) : runO nt room cd n = (v, s) := by
  have q : ∃ p : Int × RS, RunR nt room cd n p.1 p.2 := ⟨(v, s), r⟩
  unfold runO; rw [dif_pos q]
  have := cardsR.det _ _ _ _ _ _ _ q.choose_spec r
  exact Prod.ext this.1 this.2
theorem runO_congr {nt : NT} {room n : Int} {cd cd' : Int → Int → Int} (hn : 0 ≤ n) (h : ∀ k h, 0 ≤ k ∧ k < n → 0 ≤ h ∧ h < 20 → cd k h = cd' k h) : runO nt room cd n = runO nt room cd' n := by
  by_cases q : ∃ p : Int × RS, RunR nt room cd n p.1 p.2
  · obtain ⟨p, hp⟩ := q
    rw [runO_eq hp, runO_eq (hp.congr hn h)]
  · have q' : ¬ ∃ p : Int × RS, RunR nt room cd' n p.1 p.2 := fun ⟨p, hp⟩ => q ⟨p, hp.congr hn (fun k x hk hx => (h k x hk hx).symm)⟩
    unfold runO; rw [dif_neg q, dif_neg q']
theorem ntOf_congr {one two one' two' : Int → Int} {n wo : Int} (h1 : ∀ k, 0 ≤ k ∧ k < n → one k = one' k) (h2 : ∀ k, 0 ≤ k ∧ k < n → two k = two' k) : ntOf one two n wo = ntOf one' two' n wo := by
  funext pk a b
  apply propext
  refine Conn_congr (fun x y => ⟨?_, ?_⟩)
  · rintro (⟨k, k0, k1, k2, rfl, rfl⟩ | q)
    · exact Or.inl ⟨k, k0, k1, k2, h1 k ⟨k0, k1⟩, h2 k ⟨k0, k1⟩⟩
    · exact Or.inr q
  · rintro (⟨k, k0, k1, k2, rfl, rfl⟩ | q)
    · exact Or.inl ⟨k, k0, k1, k2, (h1 k ⟨k0, k1⟩).symm, (h2 k ⟨k0, k1⟩).symm⟩
    · exact Or.inr q
/-- outcomes that are alike; lines alone -/
def PrLike (o o' : Int × RS) : Prop := o.2.1 2 = o'.2.1 2 ∧ ∀ k b, 0 ≤ k ∧ k < o.2.1 2 → 0 ≤ b ∧ b < 12 → o.2.2.2.1 k b = o'.2.2.2.1 k b
def OLike (o o' : Int × RS) : Prop := o.1 = o'.1 ∧ o.2.1 3 = o'.2.1 3 ∧ PrLike o o' ∧ (∀ q, 0 ≤ q ∧ q < 4 → o.2.2.1 q = o'.2.2.1 q) ∧ ∀ k b, 0 ≤ k ∧ k < o.2.1 3 → 0 ≤ b ∧ b < 20 → o.2.2.2.2 k b = o'.2.2.2.2 k b
section T7J
variable {fi fl : HI} {cr : HR} {sh : HS} {nx sl d : Nat}
/-- an outcome as the reference keeps it: 0 at hand, 1 the latest told, 2 what is held against -/
def TKp (i : Int) (o : Int × RS) (fi : HI) : Prop := fi 590 i = o.1 ∧ fi 596 i = o.2.1 0 ∧ fi 597 i = o.2.1 1 ∧ fi 591 i = o.2.1 2 ∧ fi 592 i = o.2.1 3 ∧ fi 598 i = o.2.1 4 ∧ fi 599 i = o.2.1 5 ∧ fi 600 i = o.2.1 6 ∧ (∀ q, 0 ≤ q ∧ q < 4 → fi 594 (4 * i + q) = o.2.2.1 q) ∧ (∀ k b, 0 ≤ k ∧ k < o.2.1 2 → 0 ≤ b ∧ b < 12 → fi 593 (720 * i + (12 * k + b)) = o.2.2.2.1 k b) ∧ ∀ k b, 0 ≤ k ∧ k < o.2.1 3 → 0 ≤ b ∧ b < 20 → fi 595 (800 * i + (20 * k + b)) = o.2.2.2.2 k b
theorem TKp0 {v : Int} {s : RS} : TKp 0 (v, s) fi ↔ fi 590 0 = v ∧ TSt s fi := by
  unfold TKp TSt
  simp only [Int.mul_zero, Int.zero_add]
/-- the bounds of an outcome -/
def OB (o : Int × RS) : Prop := SB 40 o.2 ∧ 0 ≤ o.1 ∧ o.1 ≤ 3
theorem keepRun_ok (hS : Stat cr sh) {t : Int} (ht : 1 ≤ t ∧ t ≤ 2) {o : Int × RS} (ho : OB o) (h : TKp 0 o fi) :
    WC (CD mt (d + 1)) 189 [.ref 574, iv t] (G fi fl cr sh nx sl) (RV fl cr sh nx sl (fun f => TKp t o f ∧ (∀ b, b < 590 ∨ 600 < b → f b = fi b) ∧ ∀ b j, 590 ≤ b ∧ b ≤ 600 → ¬ ((if b = 593 then 720 * t else if b = 594 then 4 * t else if b = 595 then 800 * t else t) ≤ j ∧ j < (if b = 593 then 720 * t + 720 else if b = 594 then 4 * t + 4 else if b = 595 then 800 * t + 800 else t + 1)) → f b j = fi b j)) := by
  obtain ⟨h0, h1, h2, h3, h4, h5, h6, h7, h8, h9, h10⟩ := h
  have hb := ho.1
  refine WE.cd mt_X7_keepRun rfl rfl ?_
  refine WE.to (p_X7_keepRun_0 hS) ?_
  generalize hf1 : up (up (up (up (up (up (up (up fi 590 t (fi 590 0)) 591 t (fi 591 0)) 592 t (fi 592 0)) 596 t (fi 596 0)) 597 t (fi 597 0)) 598 t (fi 598 0)) 599 t (fi 599 0)) 600 t (fi 600 0) = f1
  have eo : ∀ b, b < 590 ∨ 600 < b ∨ b = 593 ∨ b = 594 ∨ b = 595 → f1 b = fi b := fun b hb => by
    rw [← hf1, up_cell _ (by omega), up_cell _ (by omega), up_cell _ (by omega), up_cell _ (by omega), up_cell _ (by omega), up_cell _ (by omega), up_cell _ (by omega), up_cell _ (by omega)]
  have ea : ∀ b j, b ≠ 593 → b ≠ 594 → b ≠ 595 → 590 ≤ b ∧ b ≤ 600 → f1 b j = if j = t then fi b 0 else fi b j := fun b j n1 n2 n3 hb => by
    rw [← hf1]
    have hc : b = 590 ∨ b = 591 ∨ b = 592 ∨ b = 596 ∨ b = 597 ∨ b = 598 ∨ b = 599 ∨ b = 600 := by omega
    unfold up
    rcases hc with rfl | rfl | rfl | rfl | rfl | rfl | rfl | rfl <;> rfl
  refine loopF (fun k => [.ref 574, iv t, iv k]) 593 (720 * t) 720 (fun j => fi 593 j) (by omega) (fun k k0 k1 => ⟨_, _, p_X7_keepRun_98_T hS, by omega, by rw [blk_out (by omega), eo 593 (by omega)]⟩) ?_
  refine WE.to p_X7_keepRun_98_F ?_
  refine loopF (fun k => [.ref 574, iv t, iv k]) 594 (4 * t) 4 (fun j => fi 594 j) (by omega) (fun k k0 k1 => ⟨_, _, p_X7_keepRun_131_T hS, by omega, by rw [blk_out (by omega), blk_cell (by decide), eo 594 (by omega)]⟩) ?_
  refine WE.to p_X7_keepRun_131_F ?_
  refine loopF (fun k => [.ref 574, iv t, iv k]) 595 (800 * t) 800 (fun j => fi 595 j) (by omega) (fun k k0 k1 => ⟨_, _, p_X7_keepRun_160_T hS, by omega, by rw [blk_out (by omega), blk_cell (by decide), blk_cell (by decide), eo 595 (by omega)]⟩) ?_
  refine WE.fin p_X7_keepRun_160_F (rv ⟨?_, fun b hb => ?_, fun b j hb hj => ?_⟩)
  · refine ⟨?_, ?_, ?_, ?_, ?_, ?_, ?_, ?_, fun q hq => ?_, fun k b hk hb => ?_, fun k b hk hb => ?_⟩
    · rw [blk_cell (by decide), blk_cell (by decide), blk_cell (by decide), ea _ _ (by decide) (by decide) (by decide) (by omega), if_pos rfl]; exact h0
    · rw [blk_cell (by decide), blk_cell (by decide), blk_cell (by decide), ea _ _ (by decide) (by decide) (by decide) (by omega), if_pos rfl]; exact h1
    · rw [blk_cell (by decide), blk_cell (by decide), blk_cell (by decide), ea _ _ (by decide) (by decide) (by decide) (by omega), if_pos rfl]; exact h2
    · rw [blk_cell (by decide), blk_cell (by decide), blk_cell (by decide), ea _ _ (by decide) (by decide) (by decide) (by omega), if_pos rfl]; exact h3
    · rw [blk_cell (by decide), blk_cell (by decide), blk_cell (by decide), ea _ _ (by decide) (by decide) (by decide) (by omega), if_pos rfl]; exact h4
    · rw [blk_cell (by decide), blk_cell (by decide), blk_cell (by decide), ea _ _ (by decide) (by decide) (by decide) (by omega), if_pos rfl]; exact h5
    · rw [blk_cell (by decide), blk_cell (by decide), blk_cell (by decide), ea _ _ (by decide) (by decide) (by decide) (by omega), if_pos rfl]; exact h6
    · rw [blk_cell (by decide), blk_cell (by decide), blk_cell (by decide), ea _ _ (by decide) (by decide) (by decide) (by omega), if_pos rfl]; exact h7
    · have := h8 q hq
      rw [blk_cell (by decide), blk_in (by omega), show 4 * t + q - 4 * t = 4 * 0 + q by omega]; exact this
    · have := h9 k b hk hb
      have := hb.1
      have := ho.1.1
      rw [blk_cell (by decide), blk_cell (by decide), blk_in (by omega), show 720 * t + (12 * k + b) - 720 * t = 720 * 0 + (12 * k + b) by omega]; assumption
    · have := h10 k b hk hb
      have := ho.1.2.1
      rw [blk_in (by omega), show 800 * t + (20 * k + b) - 800 * t = 800 * 0 + (20 * k + b) by omega]; assumption
  · rw [blk_cell (by omega), blk_cell (by omega), blk_cell (by omega), eo b (by omega)]
  · by_cases w3 : b = 593
    · subst w3
      have hj' : ¬ (720 * t ≤ j ∧ j < 720 * t + 720) := hj
      rw [blk_cell (by decide), blk_cell (by decide), blk_out hj', eo 593 (by omega)]
    · by_cases w4 : b = 594
      · subst w4
        have hj' : ¬ (4 * t ≤ j ∧ j < 4 * t + 4) := hj
        rw [blk_cell (by decide), blk_out hj', blk_cell (by decide), eo 594 (by omega)]
      · by_cases w5 : b = 595
        · subst w5
          have hj' : ¬ (800 * t ≤ j ∧ j < 800 * t + 800) := hj
          rw [blk_out hj', blk_cell (by decide), blk_cell (by decide), eo 595 (by omega)]
        · rw [if_neg w3, if_neg w4, if_neg w5, if_neg w3, if_neg w4, if_neg w5] at hj
          rw [blk_cell w5, blk_cell w4, blk_cell w3, ea b j w3 w4 w5 hb, if_neg (by omega)]
end T7J

/-! the reference: who gives in each net -/
def Cnt (P : Int → Prop) (k c f : Int) : Prop := (c = 0 ∧ ∀ h, 0 ≤ h ∧ h < k → ¬ P h) ∨ (0 ≤ f ∧ f < k ∧ P f ∧ (∀ h, 0 ≤ h ∧ h < f → ¬ P h) ∧ ((c = 1 ∧ ∀ h, f < h ∧ h < k → ¬ P h) ∨ (1 < c ∧ c ≤ k ∧ ∃ h, f < h ∧ h < k ∧ P h)))
theorem Cnt.R {P : Int → Prop} {k c f : Int} (h : Cnt P k c f) (hk : 0 ≤ k) : 0 ≤ c ∧ (c ≤ k ∨ c ≤ 1) := by
  rcases h with ⟨h, _⟩ | ⟨_, _, _, _, ⟨h, _⟩ | ⟨h1, h2, _⟩⟩ <;> omega
theorem Cnt.skip {P : Int → Prop} {k c f : Int} (h : Cnt P k c f) (hp : ¬ P k) : Cnt P (k + 1) c f := by
  rcases h with ⟨h, q⟩ | ⟨a1, a2, a3, a4, ⟨h, q⟩ | ⟨h1, h2, x, x1, x2, x3⟩⟩
  · exact Or.inl ⟨h, fun x hx => by
      by_cases e : x = k
      · subst e; exact hp
      · exact q x (by omega)⟩
  · exact Or.inr ⟨a1, by omega, a3, a4, Or.inl ⟨h, fun x hx => by
      by_cases e : x = k
      · subst e; exact hp
      · exact q x (by omega)⟩⟩
  · exact Or.inr ⟨a1, by omega, a3, a4, Or.inr ⟨h1, by omega, x, x1, by omega, x3⟩⟩
theorem Cnt.first {P : Int → Prop} {k c f : Int} (h : Cnt P k c f) (hk : 0 ≤ k) (hc : c = 0) (hp : P k) : Cnt P (k + 1) (c + 1) k := by
  rcases h with ⟨h, q⟩ | ⟨a1, a2, a3, a4, ⟨h, q⟩ | ⟨h1, h2, _⟩⟩
  · exact Or.inr ⟨hk, by omega, hp, q, Or.inl ⟨by omega, fun x hx => by omega⟩⟩
  · omega
  · omega
theorem Cnt.more {P : Int → Prop} {k c f : Int} (h : Cnt P k c f) (hc : c ≠ 0) (hp : P k) : Cnt P (k + 1) (c + 1) f := by
  rcases h with ⟨h, q⟩ | ⟨a1, a2, a3, a4, ⟨h, q⟩ | ⟨h1, h2, _⟩⟩
  · exact absurd h hc
  · exact Or.inr ⟨a1, by omega, a3, a4, Or.inr ⟨by omega, by omega, k, by omega, by omega, hp⟩⟩
  · exact Or.inr ⟨a1, by omega, a3, a4, Or.inr ⟨by omega, by omega, k, by omega, by omega, hp⟩⟩
section T7B
variable {fi fl : HI} {cr : HR} {sh : HS} {nx sl d : Nat}
theorem gather_ok (hS : Stat cr sh) {a1 : Nat} (hs : sh a1 = some (100, 217)) (ha : a1 = 585 ∨ a1 = 586) {x2 : Int} (hx : x2 = 0 ∨ x2 = 1) (hr : ∀ a, 0 ≤ a ∧ a < 217 → 0 ≤ fi a1 a ∧ fi a1 a < 217) (hg : ∀ h, 0 ≤ h ∧ h < 96 → -2147483648 ≤ fi 584 h ∧ fi 584 h < 2147483648) :
    WC (CD mt (d + 2)) 182 [.ref 574, .ref a1, iv x2] (G fi fl cr sh nx sl) (RV fl cr sh nx sl (fun fi' => (∀ b, b ≠ 587 → b ≠ 588 → fi' b = fi b) ∧ ∀ l, 0 ≤ l ∧ l < 217 → Cnt (fun h => (0 ≤ fi 584 h ∧ ¬ (x2 = 0 ∧ 61 ≤ h ∧ h ≤ 64)) ∧ fi a1 h = l) 96 (fi' 588 l) (fi' 587 l))) := by
  refine WE.cd mt_X7_gather rfl rfl ?_
  refine WE.to p_X7_gather_0 ?_
  refine loopF (fun k => [.ref 574, .ref a1, iv x2, iv k, nv]) 588 0 217 (fun _ => 0) (by omega) (fun k h0 h1 => ⟨_, _, p_X7_gather_2_T hS, by omega, rfl⟩) ?_
  refine WE.to p_X7_gather_2_F ?_
  refine loopK (fun k _ v => [.ref 574, .ref a1, iv x2, iv k, v]) (fun k _ _ => (96 - k).toNat) (fun k f v => (0 ≤ k ∧ k ≤ 96) ∧ nw v ∧ (∀ b, b ≠ 587 → b ≠ 588 → f b = fi b) ∧ ∀ l, 0 ≤ l ∧ l < 217 → Cnt (fun h => (0 ≤ fi 584 h ∧ ¬ (x2 = 0 ∧ 61 ≤ h ∧ h ≤ 64)) ∧ fi a1 h = l) k (f 588 l) (f 587 l)) ?_ 0 _ nv ⟨by omega, nw_nv, fun b h1 h2 => blk_cell h2, fun l hl => Or.inl ⟨blk_in ⟨by omega, by omega⟩, fun h hh => by omega⟩⟩
  rintro k f v ⟨hk, hv, hfr, hc⟩ ih
  have e584 : f 584 = fi 584 := hfr 584 (by decide) (by decide)
  have ea1 : f a1 = fi a1 := hfr a1 (by omega) (by omega)
  by_cases k96 : k = 96
  · subst k96; exact WE.fin p_X7_gather_24_F (rv ⟨hfr, hc⟩)
  have g1 := hg k (by omega)
  rw [← e584] at g1
  by_cases q1 : f 584 k < 0
  · refine WE.to (p_X7_gather_24_TT hS) (ih (k + 1) f v ⟨by omega, hv, hfr, fun l hl => (hc l hl).skip (fun z => ?_)⟩ (by omega))
    rw [← e584] at z; omega
  by_cases q2 : x2 = 0 ∧ 61 ≤ k ∧ k ≤ 64
  · refine WE.to (p_X7_gather_24_TFTT hS) (ih (k + 1) f v ⟨by omega, hv, hfr, fun l hl => (hc l hl).skip (fun z => z.1.2 q2)⟩ (by omega))
  have hrk := hr k (by omega)
  have hck := hc _ hrk
  have hcr := hck.R hk.1
  rw [← ea1] at hrk hcr
  have hP : 0 ≤ fi 584 k ∧ ¬ (x2 = 0 ∧ 61 ≤ k ∧ k ≤ 64) := ⟨by rw [← e584]; omega, q2⟩
  by_cases q3 : f 588 (f a1 k) = 0
  · have fin : WE t_X7_gather (CD mt (d + 1)) 24 [.ref 574, .ref a1, iv x2, iv (k + 1), iv (f a1 k)] [] (G (up (up f 587 (f a1 k) k) 588 (f a1 k) (f 588 (f a1 k) + 1)) fl cr sh nx sl) (RV fl cr sh nx sl (fun fi' => (∀ b, b ≠ 587 → b ≠ 588 → fi' b = fi b) ∧ ∀ l, 0 ≤ l ∧ l < 217 → Cnt (fun h => (0 ≤ fi 584 h ∧ ¬ (x2 = 0 ∧ 61 ≤ h ∧ h ≤ 64)) ∧ fi a1 h = l) 96 (fi' 588 l) (fi' 587 l))) := by
      refine ih (k + 1) _ (iv _) ⟨by omega, nw_iv _, fun b h1 h2 => ?_, fun l hl => ?_⟩ (by omega)
      · rw [up_cell _ h2, up_cell _ h1, hfr b h1 h2]
      · rw [up_cell (b := 587) (a := 588) _ (by decide), up_in, up_in, up_cell (b := 588) (a := 587) _ (by decide)]
        by_cases e : l = f a1 k
        · rw [if_pos e, if_pos e]
          have := hc l hl
          rw [e] at this ⊢
          exact this.first hk.1 q3 ⟨hP, by rw [ea1]⟩
        · rw [if_neg e, if_neg e]
          exact (hc l hl).skip (fun z => e (by rw [ea1]; exact z.2.symm))
    by_cases q4 : x2 = 0
    · exact WE.to (p_X7_gather_24_TFTFT hS hs) fin
    · exact WE.to (p_X7_gather_24_TFFT hS hs) fin
  · have fin : WE t_X7_gather (CD mt (d + 1)) 24 [.ref 574, .ref a1, iv x2, iv (k + 1), iv (f a1 k)] [] (G (up f 588 (f a1 k) (f 588 (f a1 k) + 1)) fl cr sh nx sl) (RV fl cr sh nx sl (fun fi' => (∀ b, b ≠ 587 → b ≠ 588 → fi' b = fi b) ∧ ∀ l, 0 ≤ l ∧ l < 217 → Cnt (fun h => (0 ≤ fi 584 h ∧ ¬ (x2 = 0 ∧ 61 ≤ h ∧ h ≤ 64)) ∧ fi a1 h = l) 96 (fi' 588 l) (fi' 587 l))) := by
      refine ih (k + 1) _ (iv _) ⟨by omega, nw_iv _, fun b h1 h2 => ?_, fun l hl => ?_⟩ (by omega)
      · rw [up_cell _ h2, hfr b h1 h2]
      · rw [up_cell (b := 587) (a := 588) _ (by decide), up_in]
        by_cases e : l = f a1 k
        · rw [if_pos e]
          have := hc l hl
          rw [e] at this ⊢
          exact this.more q3 ⟨hP, by rw [ea1]⟩
        · rw [if_neg e]
          exact (hc l hl).skip (fun z => e (by rw [ea1]; exact z.2.symm))
    by_cases q4 : x2 = 0
    · exact WE.to (p_X7_gather_24_TFTFF hS hs) fin
    · exact WE.to (p_X7_gather_24_TFFF hS hs) fin
end T7B
/-! what a hub takes, by nets -/
def Gv (g : Int → Int) (h : Int) : Prop := 0 ≤ h ∧ h < 96 ∧ 0 ≤ g h
noncomputable def tk (sm : Int → Int → Prop) (g : Int → Int) (h : Int) : Int := @dite _ (∃ m, Gv g m ∧ sm m h ∧ ∀ k, Gv g k → sm k h → m ≤ k) (Classical.propDecidable _) (fun q => g q.choose) (fun _ => -1)
theorem tk_some {sm : Int → Int → Prop} {g : Int → Int} {h m : Int} (hm : Gv g m) (hs : sm m h) (hl : ∀ k, Gv g k → sm k h → m ≤ k) : tk sm g h = g m := by
  have q : ∃ m, Gv g m ∧ sm m h ∧ ∀ k, Gv g k → sm k h → m ≤ k := ⟨m, hm, hs, hl⟩
  unfold tk; rw [dif_pos q]
  have c := q.choose_spec
  have := hl _ c.1 c.2.1
  have := c.2.2 m hm hs
  congr 1; omega
theorem tk_none {sm : Int → Int → Prop} {g : Int → Int} {h : Int} (hn : ∀ k, Gv g k → ¬ sm k h) : tk sm g h = -1 := by
  unfold tk; rw [dif_neg]
  rintro ⟨m, h1, h2, _⟩
  exact hn m h1 h2
theorem least_of {P : Int → Prop} {n : Int} (h : P n) (h0 : ∀ k, P k → 0 ≤ k) : ∃ m, P m ∧ ∀ k, P k → m ≤ k := by
  have key : ∀ j : Nat, ∀ n, P n → n.toNat < j → ∃ m, P m ∧ ∀ k, P k → m ≤ k := by
    intro j
    induction j with
    | zero => intro n _ hj; omega
    | succ j ih =>
      intro n hn hj
      by_cases q : ∃ k, P k ∧ k < n
      · obtain ⟨k, k1, k2⟩ := q
        have := h0 k k1
        exact ih k k1 (by omega)
      · exact ⟨n, hn, fun k hk => by
          by_cases z : n ≤ k
          · exact z
          · exact absurd ⟨k, hk, by omega⟩ q⟩
  exact key (n.toNat + 1) n h (by omega)
theorem tk_pos {sm : Int → Int → Prop} {g : Int → Int} {h : Int} : 0 ≤ tk sm g h ↔ ∃ m, Gv g m ∧ sm m h := by
  constructor
  · intro q
    by_cases z : ∃ m, Gv g m ∧ sm m h
    · exact z
    · rw [tk_none (fun k h1 h2 => z ⟨k, h1, h2⟩)] at q; omega
  · rintro ⟨m, h1, h2⟩
    obtain ⟨n, ⟨n1, n2⟩, n3⟩ := least_of (P := fun m => Gv g m ∧ sm m h) ⟨h1, h2⟩ (fun k hk => hk.1.1)
    rw [tk_some n1 n2 (fun k k1 k2 => n3 k ⟨k1, k2⟩)]
    exact n1.2.2
theorem tk_R {sm : Int → Int → Prop} {g : Int → Int} {h b : Int} (hb : ∀ k, 0 ≤ k ∧ k < 96 → g k < b) (hb0 : 0 ≤ b) : -1 ≤ tk sm g h ∧ tk sm g h < b := by
  by_cases z : ∃ m, Gv g m ∧ sm m h
  · obtain ⟨m, h1, h2⟩ := z
    obtain ⟨n, ⟨n1, n2⟩, n3⟩ := least_of (P := fun m => Gv g m ∧ sm m h) ⟨h1, h2⟩ (fun k hk => hk.1.1)
    rw [tk_some n1 n2 (fun k k1 k2 => n3 k ⟨k1, k2⟩)]
    have := hb n ⟨n1.1, n1.2.1⟩; have := n1.2.2; omega
  · rw [tk_none (fun k h1 h2 => z ⟨k, h1, h2⟩)]; omega
theorem tk_congr {sm sm' : Int → Int → Prop} {g g' : Int → Int} {h : Int} (h1 : ∀ k, 0 ≤ k ∧ k < 96 → (sm k h ↔ sm' k h)) (h2 : ∀ k, 0 ≤ k ∧ k < 96 → g k = g' k) : tk sm g h = tk sm' g' h := by
  have e : ∀ k, Gv g k ↔ Gv g' k := fun k => ⟨fun ⟨a, b, c⟩ => ⟨a, b, by rw [← h2 k ⟨a, b⟩]; exact c⟩, fun ⟨a, b, c⟩ => ⟨a, b, by rw [h2 k ⟨a, b⟩]; exact c⟩⟩
  by_cases z : ∃ m, Gv g m ∧ sm m h
  · obtain ⟨m, m1, m2⟩ := z
    obtain ⟨n, ⟨n1, n2⟩, n3⟩ := least_of (P := fun m => Gv g m ∧ sm m h) ⟨m1, m2⟩ (fun k hk => hk.1.1)
    rw [tk_some n1 n2 (fun k k1 k2 => n3 k ⟨k1, k2⟩), tk_some ((e n).mp n1) ((h1 n ⟨n1.1, n1.2.1⟩).mp n2) (fun k k1 k2 => n3 k ⟨(e k).mpr k1, (h1 k ⟨k1.1, k1.2.1⟩).mpr k2⟩), h2 n ⟨n1.1, n1.2.1⟩]
  · rw [tk_none (fun k h1 h2 => z ⟨k, h1, h2⟩), tk_none (fun k k1 k2 => z ⟨k, (e k).mpr k1, (h1 k ⟨k1.1, k1.2.1⟩).mpr k2⟩)]
/-- labels, firsts and counts that stand for nets and givers -/
def GatOk (e : Int → Int → Prop) (g l f c : Int → Int) : Prop := NetOk e l ∧ ∀ k, 0 ≤ k ∧ k < 217 → Cnt (fun h => Gv g h ∧ l h = k) 96 (c k) (f k)
theorem Cnt.congr {P P' : Int → Prop} {c f : Int} {k : Int} (h : Cnt P k c f) (e : ∀ x, 0 ≤ x ∧ x < k → (P x ↔ P' x)) : Cnt P' k c f := by
  rcases h with ⟨h, q⟩ | ⟨a1, a2, a3, a4, ⟨h, q⟩ | ⟨h1, h2, x, x1, x2, x3⟩⟩
  · exact Or.inl ⟨h, fun x hx z => q x hx ((e x hx).mpr z)⟩
  · exact Or.inr ⟨a1, a2, (e f ⟨a1, a2⟩).mp a3, fun x hx z => a4 x hx ((e x ⟨hx.1, by omega⟩).mpr z), Or.inl ⟨h, fun x hx z => q x hx ((e x ⟨by omega, hx.2⟩).mpr z)⟩⟩
  · exact Or.inr ⟨a1, a2, (e f ⟨a1, a2⟩).mp a3, fun x hx z => a4 x hx ((e x ⟨hx.1, by omega⟩).mpr z), Or.inr ⟨h1, h2, x, x1, x2, (e x ⟨by omega, x2⟩).mp x3⟩⟩
theorem GatOk.hvOk {e : Int → Int → Prop} {g l f c : Int → Int} (h : GatOk e g l f c) : HvOk l f c := by
  refine ⟨h.1.1, fun k hk => ?_, fun k hk hc => ?_⟩
  · have := (h.2 k hk).R (by omega); omega
  · rcases h.2 k hk with ⟨q, _⟩ | ⟨a1, a2, _⟩
    · exact absurd q hc
    · omega
theorem GatOk.val {e : Int → Int → Prop} {g l f c : Int → Int} (h : GatOk e g l f c) {x : Int} (hx : 0 ≤ x ∧ x < 217) : hv g l f c x = tk (Conn e) g x := by
  have hl := h.1.1 x hx
  unfold hv
  rcases h.2 (l x) hl with ⟨q, z⟩ | ⟨a1, a2, ⟨a3, a3'⟩, a4, a5⟩
  · rw [if_pos q, tk_none]
    intro k hk hc
    exact z k ⟨hk.1, hk.2.1⟩ ⟨hk, (h.1.2 k x ⟨hk.1, by have := hk.2.1; omega⟩ hx).mpr hc⟩
  · rw [if_neg (by rcases a5 with ⟨q, _⟩ | ⟨q, _⟩ <;> omega)]
    rw [tk_some a3 ((h.1.2 _ x ⟨a1, by omega⟩ hx).mp a3')]
    intro k hk hc
    by_cases w : f (l x) ≤ k
    · exact w
    · exact absurd ⟨hk, (h.1.2 k x ⟨hk.1, by have := hk.2.1; omega⟩ hx).mpr hc⟩ (a4 k ⟨hk.1, by omega⟩)
theorem GatOk.many {e : Int → Int → Prop} {g l f c : Int → Int} (h : GatOk e g l f c) {x : Int} (hx : Gv g x) : 1 < c (l x) ↔ ∃ k, Gv g k ∧ k ≠ x ∧ Conn e k x := by
  have hx2 : 0 ≤ x ∧ x < 217 := ⟨hx.1, by have := hx.2.1; omega⟩
  have hl := h.1.1 x hx2
  have cn : ∀ k, Gv g k → (l k = l x ↔ Conn e k x) := fun k hk => h.1.2 k x ⟨hk.1, by have := hk.2.1; omega⟩ hx2
  have h2 := h.2 (l x) hl
  rcases h2 with ⟨q, z⟩ | ⟨a1, a2, ⟨a3, a3'⟩, a4, a5⟩
  · exact absurd ⟨hx, rfl⟩ (z x ⟨hx.1, hx.2.1⟩)
  · rcases a5 with ⟨q, z⟩ | ⟨q, q2, y, y1, y2, y3, y4⟩
    · constructor
      · intro w; omega
      · rintro ⟨k, k1, k2, k3⟩
        have hk := (cn k k1).mpr k3
        have e1 : k = f (l x) := by
          by_cases w : k < f (l x)
          · exact absurd ⟨k1, hk⟩ (a4 k ⟨k1.1, w⟩)
          · by_cases w2 : f (l x) < k
            · exact absurd ⟨k1, hk⟩ (z k ⟨w2, k1.2.1⟩)
            · omega
        have e2 : x = f (l x) := by
          by_cases w : x < f (l x)
          · exact absurd ⟨hx, rfl⟩ (a4 x ⟨hx.1, w⟩)
          · by_cases w2 : f (l x) < x
            · exact absurd ⟨hx, rfl⟩ (z x ⟨w2, hx.2.1⟩)
            · omega
        omega
    · constructor
      · intro _
        by_cases w : x = f (l x)
        · exact ⟨y, y3, by omega, (cn y y3).mp y4⟩
        · exact ⟨f (l x), a3, fun z => w z.symm, (cn _ a3).mp a3'⟩
      · intro _; exact q

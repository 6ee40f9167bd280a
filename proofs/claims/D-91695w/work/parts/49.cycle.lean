/-! one cycle, plainly; the reference's cycle -/
/-- two that give in one net: the first such pair -/
def JamAt (sm : Int → Int → Prop) (g : Int → Int) (h o : Int) : Prop := Gv g h ∧ Gv g o ∧ h < o ∧ sm h o ∧ (∀ x y, Gv g x → Gv g y → x < y → sm x y → h ≤ x) ∧ ∀ y, Gv g y → h < y → sm h y → o ≤ y
def NoJam (sm : Int → Int → Prop) (g : Int → Int) : Prop := ∀ x y, Gv g x → Gv g y → x < y → ¬ sm x y
/-- nets by what is picked -/
abbrev NT : Type := (Int → Prop) → Int → Int → Prop
def ntOf (one two : Int → Int) (n wo : Int) : NT := fun pk => Conn (Ed one two n wo pk)
def pkF (nt : NT) (g : Int → Int) : Int → Prop := fun r => 0 ≤ tk (nt (fun _ => False)) g (144 + r)
def smF (nt : NT) (g : Int → Int) : Int → Int → Prop := nt (pkF nt g)
/-- what is given once comparers have found -/
noncomputable def gcF (nt : NT) (g : Int → Int) (c : Int) : Int → Int := fun h => if c ≠ 0 ∧ 61 ≤ h ∧ h < 65 then (if tk (smF nt g) g (148 + (h - 61)) = tk (smF nt g) g (152 + (h - 61)) then -1 else 1) else g h
noncomputable def TF (nt : NT) (g : Int → Int) (c : Int) : Int → Int := fun h => tk (smF nt g) (gcF nt g c) h
def anyP (T : Int → Int) : Prop := ∃ k, (0 ≤ k ∧ k < 12) ∧ 0 ≤ T (132 + k)
/-- printed, turned, cleared, punched -/
noncomputable def pr1 (T : Int → Int) (s : RS) : RS := @ite _ (anyP T) (Classical.propDecidable _) (zs s.1 2 (s.1 2 + 1), s.2.1, fun k b => if k = s.1 2 then (if T (132 + b) < 0 then 15 else T (132 + b)) else s.2.2.1 k b, s.2.2.2) s
noncomputable def ovS (T w : Int → Int) : Nat → Int
  | 0 => 0
  | k + 1 => ovS T w k + ovr T (k : Int) (w (k : Int))
noncomputable def tu1 (T : Int → Int) (s : RS) : RS := (zs s.1 4 (s.1 4 + ovS T s.2.1 4), fun q => if 0 ≤ T (128 + q) then 0 else whl T q (s.2.1 q), s.2.2.1, s.2.2.2)
def pu1 (T : Int → Int) (s : RS) : RS := (zs s.1 3 (s.1 3 + 1), s.2.1, s.2.2.1, fun k b => if k = s.1 3 then (if T (159 + b) < 0 then 15 else T (159 + b)) else s.2.2.2 k b)
/-- how a cycle ends (0: it goes on; 2: a jam; 3: no room), what it leaves -/
def CycR (nt : NT) (room : Int) (g : Int → Int) (c : Int) (s : RS) (v : Int) (s' : RS) : Prop :=
  (∃ h o, JamAt (smF nt g) (gcF nt g c) h o ∧ v = 2 ∧ s' = (zs (zs s.1 5 h) 6 o, s.2)) ∨
  (NoJam (smF nt g) (gcF nt g c) ∧ ((anyP (TF nt g c) ∧ s.1 2 = 60 ∧ v = 3 ∧ s' = s) ∨ (¬ (anyP (TF nt g c) ∧ s.1 2 = 60) ∧
    ((TF nt g c 179 < 0 ∧ v = 0 ∧ s' = tu1 (TF nt g c) (pr1 (TF nt g c) s)) ∨ (0 ≤ TF nt g c 179 ∧ s.1 3 = room ∧ v = 3 ∧ s' = tu1 (TF nt g c) (pr1 (TF nt g c) s)) ∨ (0 ≤ TF nt g c 179 ∧ s.1 3 ≠ room ∧ v = 0 ∧ s' = pu1 (TF nt g c) (tu1 (TF nt g c) (pr1 (TF nt g c) s)))))))
/-- a run's state within its bounds -/
def SB (room : Int) (s : RS) : Prop := (0 ≤ s.1 2 ∧ s.1 2 ≤ 60) ∧ (0 ≤ s.1 3 ∧ s.1 3 ≤ room) ∧ ∀ q, 0 ≤ q ∧ q < 4 → -999999 ≤ s.2.1 q ∧ s.2.1 q ≤ 999999
/-- the reference's state at hand -/
def TSt (s : RS) (fi : HI) : Prop := fi 596 0 = s.1 0 ∧ fi 597 0 = s.1 1 ∧ fi 591 0 = s.1 2 ∧ fi 592 0 = s.1 3 ∧ fi 598 0 = s.1 4 ∧ fi 599 0 = s.1 5 ∧ fi 600 0 = s.1 6 ∧ (∀ q, 0 ≤ q ∧ q < 4 → fi 594 q = s.2.1 q) ∧ (∀ k b, 0 ≤ k ∧ k < s.1 2 → 0 ≤ b ∧ b < 12 → fi 593 (12 * k + b) = s.2.2.1 k b) ∧ ∀ k b, 0 ≤ k ∧ k < s.1 3 → 0 ≤ b ∧ b < 20 → fi 595 (20 * k + b) = s.2.2.2 k b
/-- what a run leaves as it is: cells, and what was put by in the cells of outcomes -/
def RunFr (fi fi' : HI) : Prop := (∀ b, b ≠ 584 → b ≠ 585 → b ≠ 586 → b ≠ 587 → b ≠ 588 → b ≠ 589 → b ≠ 590 → b ≠ 591 → b ≠ 592 → b ≠ 593 → b ≠ 594 → b ≠ 595 → b ≠ 596 → b ≠ 597 → b ≠ 598 → b ≠ 599 → b ≠ 600 → fi' b = fi b) ∧ (∀ b j, 590 ≤ b ∧ b ≤ 600 → (if b = 593 then 720 else if b = 594 then 4 else if b = 595 then 800 else 1) ≤ j → fi' b j = fi b j)
theorem RunFr.rfl' (fi : HI) : RunFr fi fi := ⟨fun _ _ _ _ _ _ _ _ _ _ _ _ _ _ _ _ _ _ => rfl, fun _ _ _ _ => rfl⟩
theorem RunFr.trans {f g h : HI} (a : RunFr f g) (b : RunFr g h) : RunFr f h := ⟨fun x h1 h2 h3 h4 h5 h6 h7 h8 h9 h10 h11 h12 h13 h14 h15 h16 h17 => (b.1 x h1 h2 h3 h4 h5 h6 h7 h8 h9 h10 h11 h12 h13 h14 h15 h16 h17).trans (a.1 x h1 h2 h3 h4 h5 h6 h7 h8 h9 h10 h11 h12 h13 h14 h15 h16 h17), fun x j h1 h2 => (b.2 x j h1 h2).trans (a.2 x j h1 h2)⟩
theorem RunFr.of {f g : HI} (h : ∀ b, b < 584 ∨ 589 < b → g b = f b) : RunFr f g := ⟨fun b h1 h2 h3 h4 h5 h6 _ _ _ _ _ _ _ _ _ _ _ => h b (by omega), fun b j h1 _ => by rw [h b (by omega)]⟩
theorem RunFr.up {f : HI} {a : Nat} {i v : Int} (h : 584 ≤ a ∧ a ≤ 600) (hi : 590 ≤ a → i < (if a = 593 then 720 else if a = 594 then 4 else if a = 595 then 800 else 1)) : RunFr f (up f a i v) := by
  refine ⟨fun b h1 h2 h3 h4 h5 h6 h7 h8 h9 h10 h11 h12 h13 h14 h15 h16 h17 => up_cell _ (by omega) _ _, fun b j h1 h2 => ?_⟩
  by_cases e : b = a
  · subst e
    have := hi h1.1
    exact up_at _ _ (by omega) _
  · rw [up_cell _ e]
section T7D
variable {fi fl : HI} {cr : HR} {sh : HS} {nx sl d : Nat}
theorem jam_ok (hS : Stat cr sh) {h o : Int} (hh : 0 ≤ h) (hg : ∀ k, 0 ≤ k ∧ k < 96 → -1 ≤ fi 584 k ∧ fi 584 k ≤ 9) (hl : ∀ k, 0 ≤ k ∧ k < 217 → 0 ≤ fi 586 k ∧ fi 586 k < 217) (ho : h < o ∧ o < 96) (g1 : 0 ≤ fi 584 o ∧ fi 586 o = fi 586 h) (g2 : ∀ y, h < y ∧ y < o → ¬ (0 ≤ fi 584 y ∧ fi 586 y = fi 586 h)) :
    CD mt (d + 1) 185 [.ref 574, iv h] (G fi fl cr sh nx sl) = some (.returned (some (iv 2)), G (up (up fi 599 0 h) 600 0 o) fl cr sh nx sl) := by
  have w : WC (CD mt (d + 1)) 185 [.ref 574, iv h] (G fi fl cr sh nx sl) (fun r => r = (.returned (some (iv 2)), G (up (up fi 599 0 h) 600 0 o) fl cr sh nx sl)) := by
    refine WE.cd mt_X7_jam rfl rfl ?_
    refine WE.to (p_X7_jam_0 hS) ?_
    refine loopK (σ := Unit) (fun k _ _ => [.ref 574, iv h, iv k]) (fun k _ _ => (o - k).toNat) (fun k f _ => f = up fi 599 0 h ∧ (h < k ∧ k ≤ o)) ?_ (h + 1) _ () ⟨rfl, by omega⟩
    rintro k f _ ⟨rfl, hk⟩ ih
    have e584 : up fi 599 0 h 584 = fi 584 := up_cell _ (by decide) _ _
    have e586 : up fi 599 0 h 586 = fi 586 := up_cell _ (by decide) _ _
    have a1 := hg k (by omega)
    have a2 := hl k (by omega)
    have a3 := hl h (by omega)
    rw [← e584] at a1
    rw [← e586] at a2 a3
    by_cases q : up fi 599 0 h 584 k < 0
    · refine WE.to (p_X7_jam_11_T hS) (ih (k + 1) _ () ⟨rfl, ?_⟩ ?_)
      · rw [e584] at q
        by_cases e : k = o
        · subst e; omega
        · omega
      · rw [e584] at q
        by_cases e : k = o
        · subst e; omega
        · omega
    · by_cases r : up fi 599 0 h 586 k = up fi 599 0 h 586 h
      · have e : k = o := by
          by_cases e : k = o
          · exact e
          · rw [e584] at q; rw [e586] at r; exact absurd ⟨by omega, r⟩ (g2 k (by omega))
        subst e
        exact WE.fin (p_X7_jam_11_FT hS) rfl
      · refine WE.to (p_X7_jam_11_FF hS) (ih (k + 1) _ () ⟨rfl, ?_⟩ ?_)
        · rw [e586] at r
          by_cases e : k = o
          · subst e; exact absurd g1.2 r
          · omega
        · rw [e586] at r
          by_cases e : k = o
          · subst e; exact absurd g1.2 r
          · omega
  obtain ⟨r, a, b⟩ := w
  rw [a, b]
end T7D

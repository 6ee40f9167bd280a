/-! WEAKEST PRECONDITIONS over the abstract machine, loops, blocks of cells; nets -/
def WE (t : List Act) (C : CT) (pc : Nat) (ls st : List Value) (g : AH) (Q : Outcome × AH → Prop) : Prop := ∃ r, E t C pc ls st g = some r ∧ Q r
def WC (C : CT) (y : Nat) (args : List Value) (g : AH) (Q : Outcome × AH → Prop) : Prop := ∃ r, C y args g = some r ∧ Q r
section WEs
variable {t : List Act} {C : CT} {Q Q' : Outcome × AH → Prop}
theorem WE.to {pc pc' : Nat} {ls st ls' st' : List Value} {g g' : AH} (h : E t C pc ls st g = E t C pc' ls' st' g') (w : WE t C pc' ls' st' g' Q) : WE t C pc ls st g Q := by
  obtain ⟨r, a, b⟩ := w; exact ⟨r, h.trans a, b⟩
theorem WE.fin {pc : Nat} {ls st : List Value} {g : AH} {r : Outcome × AH} (h : E t C pc ls st g = some r) (q : Q r) : WE t C pc ls st g Q := ⟨r, h, q⟩
theorem WE.mono {pc : Nat} {ls st : List Value} {g : AH} (w : WE t C pc ls st g Q) (h : ∀ r, Q r → Q' r) : WE t C pc ls st g Q' := by
  obtain ⟨r, a, b⟩ := w; exact ⟨r, a, h r b⟩
theorem WC.mono {y : Nat} {args : List Value} {g : AH} (w : WC C y args g Q) (h : ∀ r, Q r → Q' r) : WC C y args g Q' := by
  obtain ⟨r, a, b⟩ := w; exact ⟨r, a, h r b⟩
theorem WE.cd {y nL d : Nat} {tab : List Act} {args ls : List Value} {g : AH} (h : mt[y]? = some (tab, nL)) (ha : argsOk nL args = true) (hls : padTo nL (spread args) = ls) (w : WE tab (CD mt d) 0 ls [] g Q) : WC (CD mt (d + 1)) y args g Q := by
  obtain ⟨r, a, b⟩ := w; exact ⟨r, (CD_at d g h ha hls).trans a, b⟩
theorem loopW {σ : Type} {hd : Nat} (L : σ → List Value) (H : σ → AH) (m : σ → Nat) (Inv : σ → Prop) (step : ∀ s, Inv s → (∀ s', Inv s' → m s' < m s → WE t C hd (L s') [] (H s') Q) → WE t C hd (L s) [] (H s) Q) : ∀ s, Inv s → WE t C hd (L s) [] (H s) Q := by
  have key : ∀ n s, m s < n → Inv s → WE t C hd (L s) [] (H s) Q := by
    intro n
    induction n with
    | zero => intro s h; omega
    | succ n ih => intro s h hi; exact step s hi (fun s' hi' hm => ih s' (by omega) hi')
  intro s hi
  exact key (m s + 1) s (by omega) hi
end WEs
/-- what a method that answers nothing, or an int, comes to; of the heap the ints alone change -/
def RV (fl : HI) (cr : HR) (sh : HS) (nx sl : Nat) (P : HI → Prop) : Outcome × AH → Prop := fun r => ∃ fi', r = (.returned none, G fi' fl cr sh nx sl) ∧ P fi'
def RI (fl : HI) (cr : HR) (sh : HS) (nx sl : Nat) (P : Int → HI → Prop) : Outcome × AH → Prop := fun r => ∃ v fi', r = (.returned (some (iv v)), G fi' fl cr sh nx sl) ∧ P v fi'
theorem rv {fl : HI} {cr : HR} {sh : HS} {nx sl : Nat} {P : HI → Prop} {fi' : HI} (h : P fi') : RV fl cr sh nx sl P (.returned none, G fi' fl cr sh nx sl) := ⟨fi', rfl, h⟩
theorem ri {fl : HI} {cr : HR} {sh : HS} {nx sl : Nat} {P : Int → HI → Prop} {v : Int} {fi' : HI} (h : P v fi') : RI fl cr sh nx sl P (.returned (some (iv v)), G fi' fl cr sh nx sl) := ⟨v, fi', rfl, h⟩
theorem WC.v {C : CT} {y : Nat} {args : List Value} {g : AH} {fl : HI} {cr : HR} {sh : HS} {nx sl : Nat} {P : HI → Prop} (w : WC C y args g (RV fl cr sh nx sl P)) : ∃ fi', C y args g = some (.returned none, G fi' fl cr sh nx sl) ∧ P fi' := by
  obtain ⟨r, a, fi', e, h⟩ := w; subst e; exact ⟨fi', a, h⟩
theorem WC.i {C : CT} {y : Nat} {args : List Value} {g : AH} {fl : HI} {cr : HR} {sh : HS} {nx sl : Nat} {P : Int → HI → Prop} (w : WC C y args g (RI fl cr sh nx sl P)) : ∃ v fi', C y args g = some (.returned (some (iv v)), G fi' fl cr sh nx sl) ∧ P v fi' := by
  obtain ⟨r, a, v, fi', e, h⟩ := w; subst e; exact ⟨v, fi', a, h⟩
/-! blocks of a cell -/
def blk {α : Type} (f : Nat → Int → α) (a : Nat) (o n : Int) (v : Int → α) : Nat → Int → α := fun b j => if b = a then (if o ≤ j ∧ j < o + n then v (j - o) else f b j) else f b j
section BLK
variable {α : Type} {f : Nat → Int → α} {a b : Nat} {o n j : Int} {v : Int → α}
theorem blk_cell (h : b ≠ a) : blk f a o n v b = f b := by funext j; unfold blk; rw [if_neg h]
theorem blk_in (h : o ≤ j ∧ j < o + n) : blk f a o n v a j = v (j - o) := by unfold blk; rw [if_pos rfl, if_pos h]
theorem blk_out (h : ¬ (o ≤ j ∧ j < o + n)) : blk f a o n v a j = f a j := by unfold blk; rw [if_pos rfl, if_neg h]
theorem blk_nil (h : n ≤ 0) : blk f a o n v = f := by
  funext b j; unfold blk
  by_cases hb : b = a
  · rw [if_pos hb, if_neg (by omega)]
  · rw [if_neg hb]
theorem blk_next {i : Int} {w : α} (h : 0 ≤ n) (hi : i = o + n) (hw : w = v n) : up (blk f a o n v) a i w = blk f a o (n + 1) v := by
  subst hi hw
  funext b j; unfold up blk
  by_cases hb : b = a
  · rw [if_pos hb, if_pos hb, if_pos hb]
    by_cases hj : j = o + n
    · rw [if_pos hj, if_pos (by omega), hj]; congr 1; omega
    · rw [if_neg hj]
      by_cases hk : o ≤ j ∧ j < o + n
      · rw [if_pos hk, if_pos (by omega)]
      · rw [if_neg hk, if_neg (by omega)]
  · rw [if_neg hb, if_neg hb, if_neg hb]
end BLK
/-- a loop that fills a block -/
theorem loopF {t : List Act} {C : CT} {Q : Outcome × AH → Prop} {hd : Nat} {fi fl : HI} {cr : HR} {sh : HS} {nx sl : Nat} (L : Int → List Value) (a : Nat) (o n : Int) (v : Int → Int) (hn : 0 ≤ n)
    (step : ∀ k, 0 ≤ k → k < n → ∃ i w, E t C hd (L k) [] (G (blk fi a o k v) fl cr sh nx sl) = E t C hd (L (k + 1)) [] (G (up (blk fi a o k v) a i w) fl cr sh nx sl) ∧ i = o + k ∧ w = v k)
    (fin : WE t C hd (L n) [] (G (blk fi a o n v) fl cr sh nx sl) Q) : WE t C hd (L 0) [] (G fi fl cr sh nx sl) Q := by
  have key := loopW (t := t) (C := C) (hd := hd) (Q := Q) (σ := Int) L (fun k => G (blk fi a o k v) fl cr sh nx sl) (fun k => (n - k).toNat) (fun k => 0 ≤ k ∧ k ≤ n) (by
    rintro k ⟨h0, h1⟩ ih
    by_cases hk : k = n
    · subst hk; exact fin
    · obtain ⟨i, w, e, hi, hw⟩ := step k h0 (by omega)
      rw [blk_next h0 hi hw] at e
      exact WE.to e (ih (k + 1) ⟨by omega, by omega⟩ (by omega)))
  have := key 0 ⟨by omega, hn⟩
  rw [blk_nil (by omega)] at this
  exact this
/-! nets -/
/-- joined by wires 0 .. n-1 but one, and by the relays' points as they are picked -/
def Ed (one two : Int → Int) (n wo : Int) (pk : Int → Prop) (x y : Int) : Prop := (∃ k, 0 ≤ k ∧ k < n ∧ k ≠ wo ∧ x = one k ∧ y = two k) ∨ ∃ k, 0 ≤ k ∧ k < 12 ∧ x = 181 + k ∧ ((pk (k / 3) ∧ y = 205 + k) ∨ (¬ pk (k / 3) ∧ y = 193 + k))
def Conn (e : Int → Int → Prop) (a b : Int) : Prop := ∀ r : Int → Int → Prop, (∀ x, r x x) → (∀ x y, r x y → r y x) → (∀ x y z, r x y → r y z → r x z) → (∀ x y, e x y → r x y) → r a b
theorem Conn.rfl' {e : Int → Int → Prop} (a : Int) : Conn e a a := fun _ h _ _ _ => h a
theorem Conn.symm {e : Int → Int → Prop} {a b : Int} (h : Conn e a b) : Conn e b a := fun r h1 h2 h3 h4 => h2 _ _ (h r h1 h2 h3 h4)
theorem Conn.trans {e : Int → Int → Prop} {a b c : Int} (h : Conn e a b) (h' : Conn e b c) : Conn e a c := fun r h1 h2 h3 h4 => h3 _ _ _ (h r h1 h2 h3 h4) (h' r h1 h2 h3 h4)
theorem Conn.edge {e : Int → Int → Prop} {a b : Int} (h : e a b) : Conn e a b := fun _ _ _ _ h4 => h4 _ _ h
/-- labels that are equal over edges, each joined to its hub, are the nets -/
theorem net_of {e : Int → Int → Prop} {row : Int → Int} (h1 : ∀ a, 0 ≤ a ∧ a < 217 → Conn e a (row a)) (h2 : ∀ x y, e x y → (0 ≤ x ∧ x < 217) ∧ (0 ≤ y ∧ y < 217) ∧ row x = row y) {a b : Int} (ha : 0 ≤ a ∧ a < 217) (hb : 0 ≤ b ∧ b < 217) : row a = row b ↔ Conn e a b := by
  constructor
  · intro h
    have := h1 a ha
    rw [h] at this
    exact this.trans (h1 b hb).symm
  · intro h
    have := h (fun x y => x = y ∨ ((0 ≤ x ∧ x < 217) ∧ (0 ≤ y ∧ y < 217) ∧ row x = row y)) (fun x => Or.inl rfl) (fun x y q => by
      rcases q with q | ⟨q1, q2, q3⟩
      · exact Or.inl q.symm
      · exact Or.inr ⟨q2, q1, q3.symm⟩) (fun x y z q q' => by
      rcases q with q | ⟨q1, q2, q3⟩
      · subst q; exact q'
      · rcases q' with q' | ⟨p1, p2, p3⟩
        · subst q'; exact Or.inr ⟨q1, q2, q3⟩
        · exact Or.inr ⟨q1, p2, q3.trans p3⟩) (fun x y q => Or.inr (h2 x y q))
    rcases this with q | ⟨_, _, q⟩
    · rw [q]
    · exact q
/-- the sum of labels -/
def sumTo (f : Int → Int) : Nat → Int
  | 0 => 0
  | n + 1 => sumTo f n + f n
theorem sumTo_congr {f g : Int → Int} : ∀ n : Nat, (∀ k : Int, 0 ≤ k → k < n → f k = g k) → sumTo f n = sumTo g n := by
  intro n
  induction n with
  | zero => intro _; rfl
  | succ n ih => intro h; unfold sumTo; rw [ih (fun k h0 h1 => h k h0 (by omega)), h n (by omega) (by omega)]
theorem sumTo_set {f g : Int → Int} {i : Int} : ∀ n : Nat, (0 ≤ i ∧ i < n) → (∀ k, k ≠ i → g k = f k) → sumTo g n = sumTo f n - f i + g i := by
  intro n
  induction n with
  | zero => intro h; omega
  | succ n ih =>
    intro h hk
    unfold sumTo
    by_cases e : i = n
    · subst e
      rw [sumTo_congr n (fun k _ h1 => hk k (by omega))]; omega
    · rw [ih ⟨h.1, by omega⟩ hk, hk n (by omega)]; omega
theorem sumTo_nonneg {f : Int → Int} : ∀ n : Nat, (∀ k : Int, 0 ≤ k → k < n → 0 ≤ f k) → 0 ≤ sumTo f n := by
  intro n
  induction n with
  | zero => intro _; exact Int.le_refl 0
  | succ n ih => intro h; unfold sumTo; have := ih (fun k h0 h1 => h k h0 (by omega)); have := h n (by omega) (by omega); omega
theorem loopK {t : List Act} {C : CT} {Q : Outcome × AH → Prop} {fl : HI} {cr : HR} {sh : HS} {nx sl : Nat} {σ : Type} {hd : Nat} (L : Int → HI → σ → List Value) (m : Int → HI → σ → Nat) (Inv : Int → HI → σ → Prop)
    (step : ∀ k f v, Inv k f v → (∀ k' f' v', Inv k' f' v' → m k' f' v' < m k f v → WE t C hd (L k' f' v') [] (G f' fl cr sh nx sl) Q) → WE t C hd (L k f v) [] (G f fl cr sh nx sl) Q) : ∀ k f v, Inv k f v → WE t C hd (L k f v) [] (G f fl cr sh nx sl) Q := by
  have key : ∀ n k f v, m k f v < n → Inv k f v → WE t C hd (L k f v) [] (G f fl cr sh nx sl) Q := by
    intro n
    induction n with
    | zero => intro k f v h; omega
    | succ n ih => intro k f v h hi; exact step k f v hi (fun k' f' v' hi' hm => ih k' f' v' (by omega) hi')
  intro k f v hi
  exact key (m k f v + 1) k f v (by omega) hi

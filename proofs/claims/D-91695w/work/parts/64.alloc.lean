/-! THE INT VIEW: new cells, references in arrays, throws (for the class's own code) -/
def z1 {α : Type} (f : Nat → Int → α) (a : Nat) (v : α) : Nat → Int → α := fun b j => if b = a then v else f b j
theorem z1_self {α : Type} (f : Nat → Int → α) (a : Nat) (v : α) (j : Int) : z1 f a v a j = v := by unfold z1; rw [if_pos rfl]
theorem z1_cell {α : Type} (f : Nat → Int → α) {a b : Nat} (h : b ≠ a) (v : α) : z1 f a v b = f b := by funext j; unfold z1; rw [if_neg h]
theorem born_G (fi fl : HI) (cr : HR) (sh : HS) (nx sl t n sz : Nat) : born (G fi fl cr sh nx sl) t n sz = G (z1 fi nx 0) (z1 fl nx 0) (z1 cr nx none) (up1 sh nx (some (t, n))) (nx + 1) (sl + sz) := by
  have e1 : up1 (fun a (j : Nat) => Int32.ofInt (fi a (j : Int))) nx (fun _ => 0) = fun a (j : Nat) => Int32.ofInt (z1 fi nx 0 a (j : Int)) := by
    funext a j; unfold up1 z1
    by_cases h : a = nx
    · rw [if_pos h, if_pos h]; rfl
    · rw [if_neg h, if_neg h]
  have e2 : up1 (fun a (j : Nat) => Int64.ofInt (fl a (j : Int))) nx (fun _ => 0) = fun a (j : Nat) => Int64.ofInt (z1 fl nx 0 a (j : Int)) := by
    funext a j; unfold up1 z1
    by_cases h : a = nx
    · rw [if_pos h, if_pos h]; rfl
    · rw [if_neg h, if_neg h]
  have e3 : up1 (fun a (j : Nat) => cr a (j : Int)) nx (fun _ => none) = fun a (j : Nat) => z1 cr nx none a (j : Int) := by
    funext a j; unfold up1 z1
    by_cases h : a = nx
    · rw [if_pos h, if_pos h]
    · rw [if_neg h, if_neg h]
  unfold born G
  simp only
  rw [e1, e2, e3]
section EAL
variable {t : List Act} {C : CT} {pc q : Nat} {ls st : List Value} {g : AH} {fi fl : HI} {cr : HR} {sh : HS} {nx sl : Nat}
theorem hasRmG {n : Nat} (h1 : nx + 1 ≤ 600000) (h2 : sl + n ≤ 7200000) : hasRm (G fi fl cr sh nx sl) n = true := by
  have e1 : Nat.ble (nx + 1) limC = true := Nat.ble_eq.mpr h1
  have e2 : Nat.ble (sl + n) limS = true := Nat.ble_eq.mpr h2
  show (Nat.ble (nx + 1) limC && Nat.ble (sl + n) limS) = true
  rw [e1, e2]; rfl
theorem e_new (hl : LinT t) {tg N : Nat} (h : nth t pc = aNew tg N q) (h1 : nx + 1 ≤ 600000) (h2 : sl + N ≤ 7200000) : E t C pc ls st (G fi fl cr sh nx sl) = E t C q ls (.ref nx :: st) (G (z1 fi nx 0) (z1 fl nx 0) (z1 cr nx none) (up1 sh nx (some (tg, 0))) (nx + 1) (sl + N)) := by
  have e : (G fi fl cr sh nx sl).2.2.2.2.1 = nx := rfl
  rw [E_step hl, h]; simp only [aNew, hasRmG h1 h2, cond_true, e, born_G]
theorem e_newA (hl : LinT t) {tg : Nat} {n : Int} {m : Nat} (h : nth t pc = aNewA tg q) (hm : n = (m : Int)) (h0 : m < 1000000) (h1 : nx + 1 ≤ 600000) (h2 : sl + m ≤ 7200000) : E t C pc ls (iv n :: st) (G fi fl cr sh nx sl) = E t C q ls (.ref nx :: st) (G (z1 fi nx 0) (z1 fl nx 0) (z1 cr nx none) (up1 sh nx (some (tg, m))) (nx + 1) (sl + m)) := by
  have e : (G fi fl cr sh nx sl).2.2.2.2.1 = nx := rfl
  have en : (Int32.ofInt n).toNatClampNeg = m := by have := tn (x := n) (by omega) (by omega); omega
  have ei : inb (Int32.ofInt n) 1000000 = true := inbG (by omega) (by omega) (by omega)
  rw [E_step hl, h]; simp only [aNewA, en, ei, hasRmG h1 h2, Bool.and_self, cond_true, e, born_G]
theorem e_objI (hl : LinT t) {a : Nat} (h : nth t pc = aObjI q) (hw : Nat.ble (wgt st) 100 = true) : E t C pc ls (.ref a :: st) g = E t C q ls st g := by
  rw [E_step hl, h]; simp only [aObjI, hw, cond_true]
theorem e_astA (hl : LinT t) {a n tg v tv m : Nat} {i : Int} (h : nth t pc = aAstA q) (hw : isNew a = true) (hs : sh a = some (tg, n)) (h0 : 0 ≤ i) (h1 : i < (n : Int)) (hn : n ≤ 2147483648) (hv : sh v = some (tv, m)) (hc : cmpA tg tv = true) (hvn : isNew v = true) : E t C pc ls (.ref v :: iv i :: .ref a :: st) (G fi fl cr sh nx sl) = E t C q ls st (G fi fl (up cr a i (some v)) sh nx sl) := by
  have e : (G fi fl cr sh nx sl).2.2.2.1 = sh := rfl
  have ec : cmpO (sh a) (sh v) = true := by rw [hs, hv]; exact hc
  rw [E_step hl, h]
  simp only [aAstA, e, hw, lenG hs, inbG h0 h1 hn, ec, hvn, Bool.true_or, Bool.and_self, cond_true, setR_G, tn h0 (show i < 2147483648 by omega)]
theorem e_putRN (hl : LinT t) {a m tg kf : Nat} {ts : List Nat} {j : Int} (h : nth t pc = aPutR kf ts q) (hw : isNew a = true) (hs : sh a = some (tg, m)) (ht : ts.elem tg = true) (hj : (kf : Int) = j) : E t C pc ls (.null :: .ref a :: st) (G fi fl cr sh nx sl) = E t C q ls st (G fi fl (up cr a j none) sh nx sl) := by
  have e : (G fi fl cr sh nx sl).2.2.2.1 = sh := rfl
  rw [E_step hl, h]; simp only [aPutR, e, hw, okG hs ht, Bool.and_self, cond_true, setR_G, hj]
theorem e_calI (hl : LinT t) {y n a : Nat} {hp : Option (Nat × Nat)} {as r : List Value} {g' : AH} (h : nth t pc = aCalI y n q hp) (hn : popN n [] st = some (as, .ref a :: r)) (hw : Nat.ble (wgt r) 8 = true) (hc : C y (.ref a :: as) g = some (.returned none, g')) : E t C pc ls st g = E t C q ls r g' := by
  rw [E_step hl, h]; simp only [aCalI, hn, hw, cond_true, hc, fin, Option.toList, List.nil_append]
theorem e_thrV (hl : LinT t) {y n a tg m x : Nat} {ts : List Nat} {as r : List Value} {g' : AH} (h : nth t pc = aCalV y n q ts none) (hn : popN n [] st = some (as, .ref a :: r)) (hs : g.2.2.2.1 a = some (tg, m)) (ht : ts.elem tg = true) (hw : Nat.ble (wgt r) 8 = true) (hc : C y (.ref a :: as) g = some (.threw x, g')) : E t C pc ls st g = some (.threw x, g') := by
  rw [E_step hl, h]; simp only [aCalV, hn, hw, okG hs ht, Bool.and_self, cond_true, hc, fin]
theorem e_thrS (hl : LinT t) {y n x : Nat} {as r : List Value} {g' : AH} (h : nth t pc = aCalS y n q none) (hn : popN n [] st = some (as, r)) (hw : Nat.ble (wgt r) 8 = true) (hc : C y as g = some (.threw x, g')) : E t C pc ls st g = some (.threw x, g') := by
  rw [E_step hl, h]; simp only [aCalS, hn, hw, cond_true, hc, fin]
theorem e_catV (hl : LinT t) {y n a tg m x hd ct k : Nat} {ts : List Nat} {as r : List Value} {g' : AH} (h : nth t pc = aCalV y n q ts (some (hd, ct))) (hn : popN n [] st = some (as, .ref a :: r)) (hs : g.2.2.2.1 a = some (tg, m)) (ht : ts.elem tg = true) (hw : Nat.ble (wgt r) 8 = true) (hc : C y (.ref a :: as) g = some (.threw x, g')) (hx : g'.2.2.2.1 x = some (ct, k)) (hxn : isNew x = true) : E t C pc ls st g = E t C hd ls [.ref x] g' := by
  have e : okT [ct] (g'.2.2.2.1 x) = true := okG hx (by simp)
  rw [E_step hl, h]; simp only [aCalV, hn, hw, okG hs ht, Bool.and_self, cond_true, hc, fin, e, hxn]
theorem e_throw (hl : LinT t) {a tg m : Nat} (h : nth t pc = aThrow) (hs : g.2.2.2.1 a = some (tg, m)) (ht : [8, 11].elem tg = true) (hw : isNew a = true) : E t C pc ls (.ref a :: st) g = some (.threw a, g) := by
  rw [E_step hl, h]; simp only [aThrow, okG hs ht, hw, Bool.and_self, cond_true]
theorem e_acNeT (hl : LinT t) {r a b : Nat} (h : nth t pc = aAcNe q r) (hn : isNew b = true) (hab : a ≠ b) : E t C pc ls (.ref b :: .ref a :: st) g = E t C q ls st g := by
  rw [E_step hl, h]; simp only [aAcNe, hn, Bool.or_true, cond_true]; rw [if_neg hab]
end EAL

/-! SOUNDNESS: Object's constructor, constants of text, statics, casts, an enum's fields -/
def aObjI (nx : Nat) : Act := fun _ ls st g k => match st with
  | .ref _ :: r => bif Nat.ble (wgt r) 100 then k nx ls r g else none
  | _ => none
def aGetS (kf nx : Nat) : Act := fun _ ls st g k => match st with
  | .ref a :: r => bif okT [50] (g.2.2.2.1 a) then k nx ls (.int (g.1 a kf) :: r) g else none
  | _ => none
def aGetW (nx : Nat) : Act := fun _ ls st g k => match st with
  | .ref a :: r => bif okT [50] (g.2.2.2.1 a) then k nx ls (va_rf (g.2.2.1 a 0) :: r) g else none
  | _ => none
/-- 'instanceof String', 'checkcast String' -/
def aIns (nx : Nat) : Act := fun _ ls st g k => match st with
  | .ref a :: r => bif okT [13] (g.2.2.2.1 a) then k nx ls (.int 1 :: r) g else none
  | _ => none
def aCst (nx : Nat) : Act := fun _ ls st g k => match st with
  | .ref a :: r => bif okT [13] (g.2.2.2.1 a) then k nx ls (.ref a :: r) g else none
  | _ => none
/-- two references compared: one of them was made by the law -/
def aAcNe (t nx : Nat) : Act := fun _ ls st g k => match st with
  | .ref b :: .ref a :: r => bif isNew a || isNew b then (if a = b then k nx ls r g else k t ls r g) else none
  | _ => none
section SD8
variable {mi : List MI} {y : MethodName} {cc : ByteArray} {nL pc : Nat} {ret : Option FieldType} {hh : List (Nat × Nat × Nat × Nat)}
theorem s_objInit {idx nx : Nat} (hd : decode cc pc = .ok (.invokespecial idx, 3)) (w1 : Cond.methodLink y.cls idx Lib.objectInit ∈ lw_all) (w2 : Cond.instanceMethod Lib.objectInit ∈ lw_all) (w3 : Cond.code Lib.objectInit ⟨#[0xb1]⟩ 1 none ∈ lw_all) (hn : pc + 3 = nx) : Sd mi y cc nL ret hh pc (aObjI nx) := by
  refine ⟨fun C ls st g => ?_, ?_⟩
  · unfold aObjI
    split
    · exact lp_bif _ (lp_go _ _ _ _) lp_no
    · exact lp_no
  intro D ad H0 C d p l e R s m args below meth c hC hX ls st g k r H locs cells slots ls' h hF hk
  subst hn
  unfold aObjI at h
  split at h
  · next a r' =>
    obtain ⟨hb, h⟩ := bif_t h
    have hw := Nat.le_of_ble_eq_true hb
    have hfr := hX.2.2.2.2.2.2.2.2.1
    have hlc := hX.2.2.2.2.2.2.2.2.2.1
    exact W.objInit hX.1 hX.2.1 hX.2.2.2.1 (hX.w w1) (hX.w w2) (hX.w w3) rfl (by show ls'.size = _; rw [hF.1.1, hX.2.2.1]) rfl hd (by omega) (by show 2 * 0 + ((r'.map (mv ad)).map fun v => v.category).sum + 12 ≤ _; rw [wgt_sum]; omega) (hk _ _ _ _ h _ _ _ _ _ hF)
  · cases h
theorem s_ldcS {idx id nx : Nat} {tx : String} (hd : decode cc pc = .ok (.ldc idx, 2)) (hm : (y.cls, idx, tx, id) ∈ strT) (hn : pc + 2 = nx) : Sd mi y cc nL ret hh pc (aK (.ref id) nx) := by
  refine ⟨fun C ls st g => lp_go _ _ _ _, ?_⟩
  intro D ad H0 C d p l e R s m args below meth c hC hX ls st g k r H locs cells slots ls' h hF hk
  subst hn
  exact va_ldcS hX.1 hX.2.1 hX.2.2.2.1 (hX.2.2.2.2.2.2.2.1.2.2.2.1 _ hm) hd (hk _ _ _ _ h _ _ _ _ _ hF)
theorem s_getstatic {idx nx : Nat} {C' n d' : String} {v : Value} (hd : decode cc pc = .ok (.getstatic idx, 3)) (hm : (C', n, d', v) ∈ staT) (hlk : FLk y.cls idx C' n d') (hn : pc + 3 = nx) : Sd mi y cc nL ret hh pc (aK v nx) := by
  refine ⟨fun C ls st g => lp_go _ _ _ _, ?_⟩
  intro D ad H0 C d p l e R s m args below meth c hC hX ls st g k r H locs cells slots ls' h hF hk
  subst hn
  obtain ⟨cf, kf, fi, f, a, cell, h1, h2, h3, h4, h5, h6, h7, h8⟩ := hX.2.2.2.2.2.2.2.1.2.2.2.2 _ hm
  have hc : H[a]? = some cell := by rw [hF.2.1.2.2.2.2.1 a (by omega)]; exact h5
  rcases hlk with w | ⟨host, w⟩
  · exact W.gets hX.1 hX.2.1 hX.2.2.2.1 (hX.w w) h1 h2 h3 h4 hc (fun e => by rw [e] at h6; cases h6) h7 rfl hd (hk _ _ _ _ h _ _ _ _ _ hF)
  · exact va_WgetsN hX.1 hX.2.1 hX.2.2.2.1 (hX.n w) h1 h2 h3 h4 hc (fun e => by rw [e] at h6; cases h6) h7 rfl hd (hk _ _ _ _ h _ _ _ _ _ hF)
end SD8

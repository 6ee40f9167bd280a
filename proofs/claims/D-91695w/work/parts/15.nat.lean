/-! SOUNDNESS: Math, System.arraycopy -/
def aMax (nx : Nat) : Act := fun _ ls st g k => match st with
  | .int y :: .int x :: r => bif Nat.ble (wgt r) 100 then k nx ls (.int (if x < y then y else x) :: r) g else none
  | _ => none
def aMin (nx : Nat) : Act := fun _ ls st g k => match st with
  | .int y :: .int x :: r => bif Nat.ble (wgt r) 100 then k nx ls (.int (if y < x then y else x) :: r) g else none
  | _ => none
def aAbs (nx : Nat) : Act := fun _ ls st g k => match st with
  | .int x :: r => bif Nat.ble (wgt r) 100 then k nx ls (.int (if 0 ≤ x then x else 0 - x) :: r) g else none
  | _ => none
def cpOk (sp dp n : Int32) (la lb : Nat) : Bool := decide (¬ sp < 0 ∧ ¬ dp < 0 ∧ ¬ n < 0 ∧ sp.toNatClampNeg + n.toNatClampNeg ≤ la ∧ dp.toNatClampNeg + n.toNatClampNeg ≤ lb)
def cpI (g : AH) (a b sp dp n : Nat) : AH := (up1 g.1 b (va_cpy (g.1 a) (g.1 b) sp dp n), g.2)
def cpR (g : AH) (a b sp dp n : Nat) : AH := (g.1, g.2.1, up1 g.2.2.1 b (va_cpy (g.2.2.1 a) (g.2.2.1 b) sp dp n), g.2.2.2)
def elOk (g : AH) (a sp n : Nat) : Bool := (List.range n).all (fun i => match g.2.2.1 a (sp + i) with
  | none => true
  | some r => okT [101] (g.2.2.2.1 r) && isNew r)
def aCopy (nx : Nat) : Act := fun _ ls st g k => match st with
  | .int n :: .int dp :: .ref b :: .int sp :: .ref a :: r => bif Nat.ble (wgt r) 100 && isNew b && cpOk sp dp n (lenOf (g.2.2.2.1 a)) (lenOf (g.2.2.2.1 b)) then (bif (okT [100] (g.2.2.2.1 a) && okT [100] (g.2.2.2.1 b)) || (okT [101] (g.2.2.2.1 a) && okT [101] (g.2.2.2.1 b)) then k nx ls r (cpI g a b sp.toNatClampNeg dp.toNatClampNeg n.toNatClampNeg) else (bif okT [110] (g.2.2.2.1 a) && okT [110] (g.2.2.2.1 b) && elOk g a sp.toNatClampNeg n.toNatClampNeg then k nx ls r (cpR g a b sp.toNatClampNeg dp.toNatClampNeg n.toNatClampNeg) else none)) else none
  | _ => none
theorem sp_at (at_ j : Nat) : ∀ (vs : List Value) (i : Nat) (c : Cell), j < c.slots.size → (c.storePairs at_ (vs.zipIdx i)).slots[j]? = if at_ + i ≤ j ∧ j < at_ + i + vs.length then vs[j - (at_ + i)]? else c.slots[j]? := by
  intro vs
  induction vs with
  | nil => intro i c h; rw [if_neg (by simp only [List.length_nil]; omega)]; rfl
  | cons v vs ih =>
    intro i c h
    rw [List.zipIdx_cons]
    show ((c.setSlot (at_ + i) v).storePairs at_ (vs.zipIdx (i + 1))).slots[j]? = _
    rw [ih (i + 1) _ (by rw [setSlot_size]; exact h), setSlot_at _ _ _ _ h]
    by_cases hk : j = at_ + i
    · subst hk
      rw [if_neg (by omega), if_pos rfl, if_pos (by simp only [List.length_cons]; omega)]
      simp
    · rw [if_neg hk]
      by_cases hq : at_ + (i + 1) ≤ j ∧ j < at_ + (i + 1) + vs.length
      · rw [if_pos hq, if_pos (by simp only [List.length_cons]; omega), show j - (at_ + i) = (j - (at_ + (i + 1))) + 1 by omega]
        rfl
      · rw [if_neg hq, if_neg (by simp only [List.length_cons]; omega)]
theorem nnI {z : Int32} (hz : ¬ z < 0) : z.toInt = (z.toNatClampNeg : Int) := by
  have hz0 : (0 : Int) ≤ z.toInt := by
    have := Int32.not_lt.mp hz
    simpa using Int32.le_iff_toInt_le.mp this
  show z.toInt = ((z.toInt.toNat : Nat) : Int)
  omega
section SD9
variable {mi : List MI} {y : MethodName} {cc : ByteArray} {nL pc : Nat} {ret : Option FieldType} {hh : List (Nat × Nat × Nat × Nat)}
theorem s_max {idx nx : Nat} (hd : decode cc pc = .ok (.invokestatic idx, 3)) (w1 : Cond.methodLink y.cls idx Lib.Math.max.name ∈ lw_all) (w2 : Cond.static Lib.Math.max.name ∈ lw_all) (w3 : Cond.initialized "java/lang/Math" ∈ lw_all) (w4 : Cond.code Lib.Math.max.name Lib.Math.max.code 2 (some .int) ∈ lw_all) (hn : pc + 3 = nx) : Sd mi y cc nL ret hh pc (aMax nx) := by
  refine ⟨fun C ls st g => ?_, ?_⟩
  · unfold aMax
    split
    · exact lp_bif _ (lp_go _ _ _ _) lp_no
    · exact lp_no
  intro D ad H0 C d p l e R s m args below meth c hC hX ls st g k r H locs cells slots ls' h hF hk
  subst hn
  unfold aMax at h
  split at h
  · next y' x r' =>
    obtain ⟨hb, h⟩ := bif_t h
    have hw := Nat.le_of_ble_eq_true hb
    have hfr := hX.2.2.2.2.2.2.2.2.1
    have hlc := hX.2.2.2.2.2.2.2.2.2.1
    have q1 := hF.2.2.2.1
    have q2 := hF.2.2.2.2
    exact va_mmax hX.1 hX.2.1 (by rw [hX.2.2.1, hF.1.1]) hX.2.2.2.1 (hX.w w1) (hX.w w2) (hX.w w3) (hX.w w4) (by omega) (by rw [wgt_sum]; omega) (by omega) (by omega) hd (hk _ _ _ _ h _ _ _ _ _ hF)
  · cases h
theorem s_min {idx nx : Nat} (hd : decode cc pc = .ok (.invokestatic idx, 3)) (w1 : Cond.methodLink y.cls idx Lib.Math.min.name ∈ lw_all) (w2 : Cond.static Lib.Math.min.name ∈ lw_all) (w3 : Cond.initialized "java/lang/Math" ∈ lw_all) (w4 : Cond.code Lib.Math.min.name Lib.Math.min.code 2 (some .int) ∈ lw_all) (hn : pc + 3 = nx) : Sd mi y cc nL ret hh pc (aMin nx) := by
  refine ⟨fun C ls st g => ?_, ?_⟩
  · unfold aMin
    split
    · exact lp_bif _ (lp_go _ _ _ _) lp_no
    · exact lp_no
  intro D ad H0 C d p l e R s m args below meth c hC hX ls st g k r H locs cells slots ls' h hF hk
  subst hn
  unfold aMin at h
  split at h
  · next y' x r' =>
    obtain ⟨hb, h⟩ := bif_t h
    have hw := Nat.le_of_ble_eq_true hb
    have hfr := hX.2.2.2.2.2.2.2.2.1
    have hlc := hX.2.2.2.2.2.2.2.2.2.1
    have q1 := hF.2.2.2.1
    have q2 := hF.2.2.2.2
    exact va_mmin hX.1 hX.2.1 (by rw [hX.2.2.1, hF.1.1]) hX.2.2.2.1 (hX.w w1) (hX.w w2) (hX.w w3) (hX.w w4) (by omega) (by rw [wgt_sum]; omega) (by omega) (by omega) hd (hk _ _ _ _ h _ _ _ _ _ hF)
  · cases h
theorem s_abs {idx nx : Nat} (hd : decode cc pc = .ok (.invokestatic idx, 3)) (w1 : Cond.methodLink y.cls idx Lib.Math.abs.name ∈ lw_all) (w2 : Cond.static Lib.Math.abs.name ∈ lw_all) (w3 : Cond.initialized "java/lang/Math" ∈ lw_all) (w4 : Cond.code Lib.Math.abs.name Lib.Math.abs.code 1 (some .int) ∈ lw_all) (hn : pc + 3 = nx) : Sd mi y cc nL ret hh pc (aAbs nx) := by
  refine ⟨fun C ls st g => ?_, ?_⟩
  · unfold aAbs
    split
    · exact lp_bif _ (lp_go _ _ _ _) lp_no
    · exact lp_no
  intro D ad H0 C d p l e R s m args below meth c hC hX ls st g k r H locs cells slots ls' h hF hk
  subst hn
  unfold aAbs at h
  split at h
  · next x r' =>
    obtain ⟨hb, h⟩ := bif_t h
    have hw := Nat.le_of_ble_eq_true hb
    have hfr := hX.2.2.2.2.2.2.2.2.1
    have hlc := hX.2.2.2.2.2.2.2.2.2.1
    have q1 := hF.2.2.2.1
    have q2 := hF.2.2.2.2
    exact va_mabs hX.1 hX.2.1 (by rw [hX.2.2.1, hF.1.1]) hX.2.2.2.1 (hX.w w1) (hX.w w2) (hX.w w3) (hX.w w4) (by omega) (by rw [wgt_sum]; omega) (by omega) (by omega) hd (hk _ _ _ _ h _ _ _ _ _ hF)
  · cases h
end SD9
section SD10
variable {mi : List MI} {y : MethodName} {cc : ByteArray} {nL pc : Nat} {ret : Option FieldType} {hh : List (Nat × Nat × Nat × Nat)}
theorem s_copy {idx nx : Nat} (hd : decode cc pc = .ok (.invokestatic idx, 3)) (w1 : Cond.methodLink y.cls idx arraycopyName ∈ lw_all) (w2 : Cond.native arraycopyName ∈ lw_all) (w3 : Cond.static arraycopyName ∈ lw_all) (w4 : Cond.initialized "java/lang/System" ∈ lw_all) (hn : pc + 3 = nx) : Sd mi y cc nL ret hh pc (aCopy nx) := by
  refine ⟨fun C ls st g => ?_, ?_⟩
  · unfold aCopy
    split
    · exact lp_bif _ (lp_bif _ (lp_go _ _ _ _) (lp_bif _ (lp_go _ _ _ _) lp_no)) lp_no
    · exact lp_no
  intro D ad H0 C d p l e R s m args below meth c hC hX ls st g k r H locs cells slots ls' h hF hk
  subst hn
  unfold aCopy at h
  split at h
  · next n dp b sp a r' =>
    obtain ⟨hb, h⟩ := bif_t h
    obtain ⟨hb, hcp⟩ := (Bool.and_eq_true _ _).mp hb |>.imp id id
    obtain ⟨hw, hbn⟩ := (Bool.and_eq_true _ _).mp hb |>.imp id id
    have hw := Nat.le_of_ble_eq_true hw
    have hbn := isNew_spec hbn
    have hcp := of_decide_eq_true hcp
    have hfr := hX.2.2.2.2.2.2.2.2.1
    have hlc := hX.2.2.2.2.2.2.2.2.2.1
    have go : ∀ (t na nb : Nat) (g1 : AH), g.2.2.2.1 a = some (t, na) → g.2.2.2.1 b = some (t, nb) → 100 ≤ t → g1.2.2.2 = g.2.2.2 → (∀ x, x ≠ b → g1.1 x = g.1 x ∧ g1.2.1 x = g.2.1 x ∧ g1.2.2.1 x = g.2.2.1 x) → (∀ j, vF ad g1 (etyN t) b j = if dp.toNatClampNeg ≤ j ∧ j < dp.toNatClampNeg + n.toNatClampNeg then vF ad g (etyN t) a (sp.toNatClampNeg + (j - dp.toNatClampNeg)) else vF ad g (etyN t) b j) →
        (∀ (U : State) (comp : ClassId) (i : Nat), U.heap = H → s.vm.Alike U.vm → (110 ≤ t → s.vm.findClass (cnm (etyN t)) = some comp) → i < n.toNatClampNeg → U.takes comp (vF ad g (etyN t) a (sp.toNatClampNeg + i))) → k (pc + 3) ls r' g1 = some r →
        W p l e R s m args below meth c H locs cells slots (QE D ad H0 R s below r) (F0 m pc ls' (((Value.int n :: .int dp :: .ref b :: .int sp :: .ref a :: r')).map (mv ad))) := by
      intro t na nb g1 hsa hsb ht e0 eo ev htk hkk
      rw [hsa, hsb] at hcp
      obtain ⟨p1, p2, p3, p4, p5⟩ : ¬ sp < 0 ∧ ¬ dp < 0 ∧ ¬ n < 0 ∧ sp.toNatClampNeg + n.toNatClampNeg ≤ na ∧ dp.toNatClampNeg + n.toNatClampNeg ≤ nb := hcp
      obtain ⟨cs, a1, a2, a3, a4, a5, a6⟩ := hF.2.1.arr hsa ht
      obtain ⟨cd, b1, b2, b3, b4, b5, b6⟩ := hF.2.1.arr hsb ht
      obtain ⟨hso, ks, hks, scomp, hsk⟩ := a2
      obtain ⟨hdo, kd, hkd, dcomp, hdk⟩ := b2
      have hget : ∀ i, i < n.toNatClampNeg → cs.slots.getD (sp.toNatClampNeg + i) .null = vF ad g (etyN t) a (sp.toNatClampNeg + i) := by
        intro i hi
        rw [Array.getD_eq_getD_getElem?, (a5 _ (by omega)).1]
        rfl
      intro T hT X
      have hml : c.maxLocals = ls'.size := by rw [hX.2.2.1, hF.1.1]
      have hnf : nativeFrameWords "java/lang/System" "arraycopy" 5 ≤ 1000 := by decide +kernel
      obtain ⟨vm', X', step⟩ := X.arraycopy hX.1 hX.2.2.2.1 (hX.w w1) (hX.w w2) (hX.w w3) (hX.w w4) (src := ad a) (dst := ad b) (cs := cs) (cd := cd) (srcPos := sp) (destPos := dp) (n := n) (by rw [hT]; exact a1) (by rw [hT]; exact b1) hso hdo a3 b3 hks hkd hsk hdk (by simp) p1 p2 p3
        (by rw [nnI p1, nnI p3, a4]; omega) (by rw [nnI p2, nnI p3, b4]; omega)
        (fun vm₁ hal i hi => by
          rw [hget i hi]
          refine ⟨(a5 _ (by omega)).2, htk _ dcomp i hT hal (fun q => ?_) hi⟩
          obtain ⟨-, kA, comp, k1, k2, k3, k4⟩ := b6 hbn
          cases hkd.symm.trans k1
          cases hdk.symm.trans k2
          exact k4 (ety_ref q))
        (g := F0 m pc ls' (((Value.int n :: .int dp :: .ref b :: .int sp :: .ref a :: r')).map (mv ad))) rfl (by rw [hml]) (rest := r'.map (mv ad)) rfl (by rw [hX.2.1]; exact hd) (by omega) (by show 2 * 0 + ((r'.map (mv ad)).map fun v => v.category).sum + _ ≤ _; rw [wgt_sum]; omega)
      have hl : ad b < H.size := (Array.getElem?_eq_some_iff.mp b1).1
      have hheap : ((T.setVm vm').setCell (ad b) (copied cs cd sp dp n)).heap = H.setIfInBounds (ad b) (copied cs cd sp dp n) := by rw [← hT]; rfl
      have fac := Cell.storePairs_facts cd dp.toNatClampNeg (cs.stretch sp.toNatClampNeg n.toNatClampNeg).zipIdx
      have hslot : ∀ j, j < nb → (copied cs cd sp dp n).slots[j]? = some (vF ad g1 (etyN t) b j) := by
        intro j hj
        show (cd.storePairs dp.toNatClampNeg ((cs.stretch sp.toNatClampNeg n.toNatClampNeg).zipIdx 0)).slots[j]? = _
        rw [sp_at _ _ _ _ _ (by omega), ev j]
        have hlen : (cs.stretch sp.toNatClampNeg n.toNatClampNeg).length = n.toNatClampNeg := by simp [Cell.stretch]
        rw [hlen, Nat.add_zero]
        by_cases q : dp.toNatClampNeg ≤ j ∧ j < dp.toNatClampNeg + n.toNatClampNeg
        · rw [if_pos q, if_pos q]
          simp only [Cell.stretch]
          rw [List.getElem?_map, List.getElem?_range (by omega)]
          show some (cs.slots.getD _ _) = _
          rw [hget _ (by omega)]
        · rw [if_neg q, if_neg q]
          exact (b5 j hj).1
      have hrel : Rel D ad H0 s g1 (H.setIfInBounds (ad b) (copied cs cd sp dp n)) := by
        refine hF.2.1.wr hbn hsb (by simp) (fun q hq => by simp [Array.getElem?_setIfInBounds, Ne.symm hq]) e0 eo ?_
        refine Or.inr (Or.inl ⟨ht, copied cs cd sp dp n, by simp [Array.getElem?_setIfInBounds, hl], ⟨by rw [show (copied cs cd sp dp n).vm = cd.vm from fac.2.1]; exact hdo, kd, by rw [show (copied cs cd sp dp n).cls = cd.cls from fac.1]; exact hkd, dcomp, hdk⟩, by rw [show (copied cs cd sp dp n).vm = cd.vm from fac.2.1]; exact b3, by rw [show (copied cs cd sp dp n).slots.size = cd.slots.size from fac.2.2.1]; exact b4, fun j hj => ⟨hslot j hj, ?_⟩, fun q => ?_⟩)
        · rw [ev j]
          split
          · exact (a5 _ (by omega)).2
          · exact (b5 j hj).2
        · rw [show (copied cs cd sp dp n).vm = cd.vm from fac.2.1, show (copied cs cd sp dp n).cls = cd.cls from fac.1]
          exact b6 q
      have hFR : FR D ad H0 R s nL ls g1 (H.setIfInBounds (ad b) (copied cs cd sp dp n)) (locs ++ (cs.stretch sp.toNatClampNeg n.toNatClampNeg).zipIdx.map fun q => ⟨ad b, dp.toNatClampNeg + q.2⟩) cells slots ls' := by
        refine ⟨hF.1, hrel, t_lL hF.2.2.1 (fun q hq => ?_), by rw [e0]; exact hF.2.2.2.1, by rw [e0]; exact hF.2.2.2.2⟩
        obtain ⟨z, -, hz⟩ := List.mem_map.mp hq
        rw [← hz]
        show H0.size ≤ ad b
        rw [hF.2.1.2.2.1 b hbn]
        omega
      obtain ⟨tt, s1, s2⟩ := hk _ _ _ _ hkk _ _ _ _ _ hFR _ hheap X'
      exact ⟨tt, step tt s1, s2⟩
    cases hI : ((okT [100] (g.2.2.2.1 a) && okT [100] (g.2.2.2.1 b)) || (okT [101] (g.2.2.2.1 a) && okT [101] (g.2.2.2.1 b))) with
    | true =>
      rw [hI] at h
      replace h : k _ _ _ _ = some r := h
      have ht : ∃ t na nb, g.2.2.2.1 a = some (t, na) ∧ g.2.2.2.1 b = some (t, nb) ∧ (t = 100 ∨ t = 101) := by
        rcases (Bool.or_eq_true _ _).mp hI with q | q
        · obtain ⟨q1, q2⟩ := (Bool.and_eq_true _ _).mp q |>.imp id id
          obtain ⟨t, na, z1, z2⟩ := okT_spec q1
          obtain ⟨t', nb, z3, z4⟩ := okT_spec q2
          cases List.mem_singleton.mp z2
          cases List.mem_singleton.mp z4
          exact ⟨_, _, _, z1, z3, Or.inl rfl⟩
        · obtain ⟨q1, q2⟩ := (Bool.and_eq_true _ _).mp q |>.imp id id
          obtain ⟨t, na, z1, z2⟩ := okT_spec q1
          obtain ⟨t', nb, z3, z4⟩ := okT_spec q2
          cases List.mem_singleton.mp z2
          cases List.mem_singleton.mp z4
          exact ⟨_, _, _, z1, z3, Or.inr rfl⟩
      obtain ⟨t, na, nb, z1, z2, z3⟩ := ht
      have hI2 : isI (etyN t) = true := by rcases z3 with rfl | rfl <;> rfl
      refine go t na nb (cpI g a b sp.toNatClampNeg dp.toNatClampNeg n.toNatClampNeg) z1 z2 (by omega) rfl (fun x hx => ⟨up1_ne hx, rfl, rfl⟩) (fun j => ?_) (fun U comp i _ _ _ _ => ?_) h
      · rw [vF_I hI2]
        show Value.int ((up1 g.1 b _ b : Nat → Int32) j) = _
        rw [up1_self]
        unfold va_cpy
        split
        · rw [vF_I hI2]
        · rw [vF_I hI2]
      · rw [vF_I hI2]
        trivial
    | false =>
      rw [hI] at h
      obtain ⟨hb2, h⟩ := bif_t (show (bif _ then _ else none) = some r from h)
      obtain ⟨hb2, hel⟩ := (Bool.and_eq_true _ _).mp hb2 |>.imp id id
      obtain ⟨q1, q2⟩ := (Bool.and_eq_true _ _).mp hb2 |>.imp id id
      obtain ⟨t, na, z1, z2⟩ := okT_spec q1
      obtain ⟨t', nb, z3, z4⟩ := okT_spec q2
      cases List.mem_singleton.mp z2
      cases List.mem_singleton.mp z4
      refine go 110 na nb (cpR g a b sp.toNatClampNeg dp.toNatClampNeg n.toNatClampNeg) z1 z3 (by omega) rfl (fun x hx => ⟨rfl, rfl, up1_ne hx⟩) (fun j => ?_) (fun U comp i hU hal hcm hi => ?_) h
      · rw [vF_ref (by omega)]
        show va_rf (Option.map ad ((up1 g.2.2.1 b _ b : Nat → Option Nat) j)) = _
        rw [up1_self]
        unfold va_cpy
        split
        · rw [vF_ref (by omega)]
        · rw [vF_ref (by omega)]
      · rw [vF_ref (by omega)]
        have he := List.all_eq_true.mp hel i (List.mem_range.mpr hi)
        cases hr : g.2.2.1 a (sp.toNatClampNeg + i) with
        | none => trivial
        | some x =>
          rw [hr] at he
          obtain ⟨he1, he2⟩ := (Bool.and_eq_true _ _).mp he |>.imp id id
          obtain ⟨tx, nx', y1, y2⟩ := okT_spec he1
          cases List.mem_singleton.mp y2
          obtain ⟨cv, v1, v2, v3, v4, v5, v6⟩ := hF.2.1.arr y1 (by decide)
          obtain ⟨v7, kV, compV, k1, k2, k3, -⟩ := v6 (isNew_spec he2)
          have hcm := hcm (by omega)
          have ec : cv.cls = comp := Option.some.inj (k3.symm.trans hcm)
          obtain ⟨kV', hkV', -⟩ := hal.2.2 _ _ k1
          exact ⟨cv, by rw [hU]; exact v1, v2.1, ⟨kV', hkV'⟩, ⟨kV', by rw [← ec]; exact hkV'⟩, by rw [← ec]; exact va_asg _ _⟩
  · cases h
end SD10

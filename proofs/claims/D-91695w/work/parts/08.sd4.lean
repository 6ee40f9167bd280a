/-! SOUNDNESS: new cells, stores of references, switches, returns -/
def up1 {α : Type} (f : Nat → α) (a : Nat) (v : α) : Nat → α := fun b => if b = a then v else f b
def born (g : AH) (t n sz : Nat) : AH := (up1 g.1 g.2.2.2.2.1 (fun _ => 0), up1 g.2.1 g.2.2.2.2.1 (fun _ => 0), up1 g.2.2.1 g.2.2.2.2.1 (fun _ => none), up1 g.2.2.2.1 g.2.2.2.2.1 (some (t, n)), g.2.2.2.2.1 + 1, g.2.2.2.2.2 + sz)
def hasRm (g : AH) (n : Nat) : Bool := Nat.ble (g.2.2.2.2.1 + 1) limC && Nat.ble (g.2.2.2.2.2 + n) limS
def aNew (t N nx : Nat) : Act := fun _ ls st g k => bif hasRm g N then k nx ls (.ref g.2.2.2.2.1 :: st) (born g t 0 N) else none
def aNewA (t nx : Nat) : Act := fun _ ls st g k => match st with
  | .int n :: r => bif inb n 1000000 && hasRm g n.toNatClampNeg then k nx ls (.ref g.2.2.2.2.1 :: r) (born g t n.toNatClampNeg n.toNatClampNeg) else none
  | _ => none
def dOk (t : FieldType) : Bool := isI t || isL t || isR t
theorem born_v {ad : Nat → Nat} {g : AH} {t n sz : Nat} {ty : FieldType} (h : dOk ty = true) (k : Nat) : vF ad (born g t n sz) ty g.2.2.2.2.1 k = defaultValue ty := by
  cases ty <;> first | (simp [vF, born, up1, defaultValue, va_rf]; done) | (simp [dOk, isI, isL, isR] at h)
theorem up1_ne {α : Type} {f : Nat → α} {a b : Nat} {v : α} (h : b ≠ a) : up1 f a v b = f b := by simp [up1, h]
theorem up1_self {α : Type} {f : Nat → α} {a : Nat} {v : α} : up1 f a v a = v := by simp [up1]
section SD5
variable {D : va_G} {ad : Nat → Nat} {H0 : Heap} {R : Room} {s : State} {g : AH} {H : Heap} {nL : Nat} {ls : List Value} {locs : List Loc} {cells slots : Nat} {ls' : Array Slot}
theorem Rel.top (h : Rel D ad H0 s g H) : ad g.2.2.2.2.1 = H.size := by
  rw [h.2.2.1 _ h.2.1]
  have := h.1
  have := h.2.1
  omega
theorem Rel.below (h : Rel D ad H0 s g H) {a : Nat} (ha : a < g.2.2.2.2.1) : ad a < H.size := by
  have h1 := h.1
  have h2 := h.2.1
  by_cases q : oldN ≤ a
  · rw [h.2.2.1 a q]; omega
  · have := h.2.2.2.1 a (by omega); omega
theorem Rel.born {t n sz : Nat} {H1 : Heap} (h : Rel D ad H0 s g H) (hz : H1.size = H.size + 1) (hq : ∀ q : Nat, q < H.size → H1[q]? = H[q]?) (hc : CellOk D ad s (born g t n sz) H1 g.2.2.2.2.1 t n) : Rel D ad H0 s (born g t n sz) H1 := by
  have h1 := h.1
  have h2 := h.2.1
  refine ⟨by rw [hz]; show H.size + 1 + oldN = H0.size + (g.2.2.2.2.1 + 1); omega, Nat.le_succ_of_le h2, h.2.2.1, h.2.2.2.1, fun q hq0 => ?_, fun a t' n' ha => ?_⟩
  · rw [hq q (by omega)]; exact h.2.2.2.2.1 q hq0
  · by_cases q : a = g.2.2.2.2.1
    · subst q
      have e : some (t, n) = some (t', n') := by rw [← ha]; exact (up1_self).symm
      cases e
      exact ⟨Nat.lt_succ_self _, hc⟩
    · have e : g.2.2.2.1 a = some (t', n') := by rw [← ha]; exact (up1_ne q).symm
      obtain ⟨e1, e2⟩ := h.2.2.2.2.2 a t' n' e
      exact ⟨Nat.lt_succ_of_lt e1, e2.kept (hq _ (h.below e1)) (up1_ne q) (up1_ne q) (up1_ne q)⟩
theorem hasRm_spec {n : Nat} (h : hasRm g n = true) : g.2.2.2.2.1 + 1 ≤ limC ∧ g.2.2.2.2.2 + n ≤ limS := by
  obtain ⟨h1, h2⟩ := (Bool.and_eq_true _ _).mp h |>.imp id id
  exact ⟨Nat.le_of_ble_eq_true h1, Nat.le_of_ble_eq_true h2⟩
theorem FR.born {t n sz : Nat} {H1 : Heap} (h : FR D ad H0 R s nL ls g H locs cells slots ls') (hm : hasRm g sz = true) (hr : Rel D ad H0 s (born g t n sz) H1) : FR D ad H0 R s nL ls (born g t n sz) H1 locs (cells + 1) (slots + sz) ls' := by
  have h1 := h.2.2.2.1
  have h2 := h.2.2.2.2
  obtain ⟨m1, m2⟩ := hasRm_spec hm
  exact ⟨h.1, hr, h.2.2.1, by show cells + 1 + limC ≤ R.cells + (g.2.2.2.2.1 + 1) ∧ g.2.2.2.2.1 + 1 ≤ limC; omega, by show slots + sz + limS ≤ R.slots + (g.2.2.2.2.2 + sz) ∧ g.2.2.2.2.2 + sz ≤ limS; omega⟩
end SD5
/-- entry idx of own is the class of number t, with N slots -/
def NOk (own : String) (idx t N : Nat) : Prop := ∃ (C : String) (T : u_T), cls[t]? = some (C, T, N) ∧ t < 50 ∧ (∀ w ∈ u_ws C T N, w ∈ lw_all) ∧ (∀ j, j < N → parseFieldDescriptor (T j).2.2.1 = some (tyN t j)) ∧ (∀ j, j < N → dOk (tyN t j) = true) ∧ Cond.classLink own idx C ∈ lw_all ∧ Cond.instantiable C N ∈ lw_all ∧ Cond.initialized C ∈ lw_all
theorem W.mono {p : Program} {l : Launch} {e : Env} {R : Room} {s : State} {m : MethodId} {args : Array Value} {below : List Frame} {meth : Method} {c : Code} {H : Heap} {locs : List Loc} {cells slots : Nat} {Q Q' : State → Prop} {g : JFrame} (hq : ∀ t, Q t → Q' t) (h : W p l e R s m args below meth c H locs cells slots Q g) : W p l e R s m args below meth c H locs cells slots Q' g := fun T hT X => by
  obtain ⟨t, h1, h2⟩ := h T hT X
  exact ⟨t, h1, hq t h2⟩
section SD6
variable {mi : List MI} {y : MethodName} {cc : ByteArray} {nL pc : Nat} {ret : Option FieldType} {hh : List (Nat × Nat × Nat × Nat)}
theorem s_new {idx t N nx : Nat} (hd : decode cc pc = .ok (.new idx, 3)) (hf : NOk y.cls idx t N) (hn : pc + 3 = nx) : Sd mi y cc nL ret hh pc (aNew t N nx) := by
  refine ⟨fun C ls st g => lp_bif _ (lp_go _ _ _ _) lp_no, ?_⟩
  intro D ad H0 C d p l e R s m args below meth c hC hX ls st g k r H locs cells slots ls' h hF hk
  subst hn
  obtain ⟨hb, h⟩ := bif_t (show (bif hasRm g N then _ else none) = some r from h)
  obtain ⟨r1, r2⟩ := hasRm_spec hb
  obtain ⟨C', T, f1, f50, f3, f6, f8, w1, w2, w3⟩ := hf
  have hKn := hX.K.1 t _ f1
  have q1 := hF.2.2.2.1
  have q2 := hF.2.2.2.2
  refine W.newcK hX.1 hX.2.1 hX.2.2.2.1 (hX.w w1) (hX.w w2) (hX.w w3) rfl hd (by omega) (by omega) hKn.2.1 rfl fun H1 kC hkC e1 z1 o1 => ?_
  have h3 := hk _ _ _ _ h H1 locs (cells + 1) (slots + N) ls' (hF.born hb (hF.2.1.born z1 o1 ?_))
  · rw [List.map_cons, show mv ad (.ref g.2.2.2.2.1) = .ref H.size by show Value.ref (ad _) = _; rw [hF.2.1.top]] at h3
    exact h3
  · refine Or.inl ⟨hF.2.1.2.1, f50, _, f1, ?_⟩
    rw [hF.2.1.top]
    exact (u_born (tyN t) (fun w h => hX.w (args := args) h) f3 hKn hkC e1 f6).to (fun j hj => (born_v (f8 j hj) j).symm)
theorem arr_new {D : va_G} {ad : Nat → Nat} {H0 : Heap} {s : State} {g : AH} {H H1 : Heap} {t N sz : Nat} {cA : ClassId} (h : Rel D ad H0 s g H) (ht : 100 ≤ t) (e1 : H1[H.size]? = some (arrV cA N (fun _ => defaultValue (etyN t)))) (hA : ArrOfT s cA (etyN t)) (hr : RAx s cA (etyN t)) (hok : dOk (etyN t) = true) (hft : fits (etyN t) (defaultValue (etyN t)) = true) : CellOk D ad s (born g t N sz) H1 g.2.2.2.2.1 t N := by
  refine Or.inr (Or.inl ⟨ht, _, by rw [h.top]; exact e1, hA N _, (fun q => (by cases q)), arrV_size .., fun j hj => ?_, fun _ => ⟨rfl, hr⟩⟩)
  rw [arrV_read _ _ hj, born_v hok]
  exact ⟨rfl, hft⟩
theorem s_newarray {at' : ArrayType} {t nx : Nat} (hd : decode cc pc = .ok (.newarray at', 2)) (ht : newarray.typeOf at' = etyN t) (h100 : 100 ≤ t ∧ t < 104) (hw : Cond.arrayClass (newarray.typeOf at') ∈ lw_all) (hn : pc + 2 = nx) : Sd mi y cc nL ret hh pc (aNewA t nx) := by
  refine ⟨fun C ls st g => ?_, ?_⟩
  · unfold aNewA
    split
    · exact lp_bif _ (lp_go _ _ _ _) lp_no
    · exact lp_no
  intro D ad H0 C d p l e R s m args below meth c hC hX ls st g k r H locs cells slots ls' h hF hk
  subst hn
  unfold aNewA at h
  split at h
  · next n r' =>
    obtain ⟨hb, h⟩ := bif_t h
    obtain ⟨h1, h2⟩ := (Bool.and_eq_true _ _).mp hb |>.imp id id
    have h1 := inb_spec h1
    obtain ⟨r1, r2⟩ := hasRm_spec h2
    have q1 := hF.2.2.2.1
    have q2 := hF.2.2.2.2
    have hlt : n.toNatClampNeg < 1000000 := Nat.not_le.mp fun q => h1 (Or.inr q)
    have hby : n.toNatClampNeg * componentBytes (newarray.typeOf at') ≤ 536870912 := by
      have : componentBytes (newarray.typeOf at') ≤ 8 := by cases at' <;> decide
      have := Nat.mul_le_mul (Nat.le_of_lt hlt) this
      omega
    refine va_newaK hX.1 hX.2.1 (hX.w hw) rfl hd rfl (fun q => h1 (Or.inl q)) rfl hby (by omega) (by omega) rfl fun H1 cA e1 z1 o1 hAr hNm => ?_
    rw [ht] at e1 hAr hNm
    have hr : RAx s cA (etyN t) := by
      obtain ⟨_, kA, k1, comp, k2⟩ := hAr 0 (fun _ => .null)
      refine ⟨kA, comp, k1, k2, hNm, fun q => ?_⟩
      obtain ⟨t1, t2⟩ := h100
      have : t = 100 ∨ t = 101 ∨ t = 102 ∨ t = 103 := by omega
      rcases this with rfl | rfl | rfl | rfl <;> cases q
    have hok : dOk (etyN t) = true ∧ fits (etyN t) (defaultValue (etyN t)) = true := by
      obtain ⟨t1, t2⟩ := h100
      have : t = 100 ∨ t = 101 ∨ t = 102 ∨ t = 103 := by omega
      rcases this with rfl | rfl | rfl | rfl <;> exact ⟨rfl, by decide⟩
    have h3 := hk _ _ _ _ h H1 locs (cells + 1) (slots + n.toNatClampNeg) ls' (hF.born h2 (hF.2.1.born z1 o1 (arr_new hF.2.1 h100.1 e1 hAr hr hok.1 hok.2)))
    rw [List.map_cons, show mv ad (.ref g.2.2.2.2.1) = .ref H.size by show Value.ref (ad _) = _; rw [hF.2.1.top]] at h3
    exact h3
  · cases h
theorem s_anew {idx t nx : Nat} {C' : String} (hd : decode cc pc = .ok (.anewarray idx, 3)) (ht : etyN t = .object C') (h110 : 110 ≤ t) (w1 : Cond.classLink y.cls idx C' ∈ lw_all) (w2 : Cond.arrayOver (.object C') ∈ nst) (hn : pc + 3 = nx) : Sd mi y cc nL ret hh pc (aNewA t nx) := by
  refine ⟨fun C ls st g => ?_, ?_⟩
  · unfold aNewA
    split
    · exact lp_bif _ (lp_go _ _ _ _) lp_no
    · exact lp_no
  intro D ad H0 C d p l e R s m args below meth c hC hX ls st g k r H locs cells slots ls' h hF hk
  subst hn
  unfold aNewA at h
  split at h
  · next n r' =>
    obtain ⟨hb, h⟩ := bif_t h
    obtain ⟨h1, h2⟩ := (Bool.and_eq_true _ _).mp hb |>.imp id id
    have h1 := inb_spec h1
    obtain ⟨r1, r2⟩ := hasRm_spec h2
    have q1 := hF.2.2.2.1
    have q2 := hF.2.2.2.2
    have hlt : n.toNatClampNeg < 1000000 := Nat.not_le.mp fun q => h1 (Or.inr q)
    refine W.anew hX.1 hX.2.1 hX.2.2.2.1 (hX.w w1) (hX.n w2) rfl hd rfl (fun q => h1 (Or.inl q)) (by omega) (by omega) (by omega) fun cA kA comp k1 k2 k3 k4 => ?_
    have hr : RAx s cA (etyN t) := ⟨kA, comp, k2, by rw [ht]; exact k3, by rw [ht]; exact k1, fun _ => by rw [ht]; exact k4⟩
    have hA : ArrOfT s cA (etyN t) := fun n z => ⟨fun q hq => (by cases hq), kA, k2, comp, by rw [ht]; exact k3⟩
    have hdv : defaultValue (etyN t) = .null := by rw [ht]; rfl
    generalize hH1 : H.push ({ cls := cA, slots := Array.replicate n.toNatClampNeg .null, vm := .none } : Cell) = H1
    have e1 : H1[H.size]? = some (arrV cA n.toNatClampNeg (fun _ => defaultValue (etyN t))) := by rw [← hH1, hdv, ← arrV_new]; simp
    have z1 : H1.size = H.size + 1 := by rw [← hH1]; simp
    have o1 : ∀ q : Nat, q < H.size → H1[q]? = H[q]? := fun q hq => by rw [← hH1, Array.getElem?_push, if_neg (Nat.ne_of_lt hq)]
    have h3 := hk _ _ _ _ h H1 locs (cells + 1) (slots + n.toNatClampNeg) ls' (hF.born h2 (hF.2.1.born z1 o1 (arr_new (cA := cA) hF.2.1 (by omega) e1 hA hr (by rw [ht]; rfl) (by rw [ht]; rfl))))
    rw [List.map_cons, show mv ad (.ref g.2.2.2.2.1) = .ref H.size by show Value.ref (ad _) = _; rw [hF.2.1.top]] at h3
    exact h3
  · cases h
theorem s_anewA {idx t nx : Nat} {t' : FieldType} (hd : decode cc pc = .ok (.anewarray idx, 3)) (ht : etyN t = .array t') (h110 : 110 ≤ t) (w1 : Cond.classLink y.cls idx (FieldType.array t').toString ∈ lw_all) (w2 : Cond.arrayOver (.array t') ∈ nst) (hn : pc + 3 = nx) : Sd mi y cc nL ret hh pc (aNewA t nx) := by
  refine ⟨fun C ls st g => ?_, ?_⟩
  · unfold aNewA
    split
    · exact lp_bif _ (lp_go _ _ _ _) lp_no
    · exact lp_no
  intro D ad H0 C d p l e R s m args below meth c hC hX ls st g k r H locs cells slots ls' h hF hk
  subst hn
  unfold aNewA at h
  split at h
  · next n r' =>
    obtain ⟨hb, h⟩ := bif_t h
    obtain ⟨h1, h2⟩ := (Bool.and_eq_true _ _).mp hb |>.imp id id
    have h1 := inb_spec h1
    obtain ⟨r1, r2⟩ := hasRm_spec h2
    have q1 := hF.2.2.2.1
    have q2 := hF.2.2.2.2
    have hlt : n.toNatClampNeg < 1000000 := Nat.not_le.mp fun q => h1 (Or.inr q)
    refine W.anewA hX.1 hX.2.1 hX.2.2.2.1 (hX.w w1) (hX.n w2) rfl hd rfl (fun q => h1 (Or.inl q)) (by omega) (by omega) (by omega) fun cA kA comp k1 k2 k3 k4 => ?_
    have hr : RAx s cA (etyN t) := ⟨kA, comp, k2, by rw [ht]; exact k3, by rw [ht]; exact k1, fun _ => by rw [ht]; exact k4⟩
    have hA : ArrOfT s cA (etyN t) := fun n z => ⟨fun q hq => (by cases hq), kA, k2, comp, by rw [ht]; exact k3⟩
    have hdv : defaultValue (etyN t) = .null := by rw [ht]; rfl
    generalize hH1 : H.push ({ cls := cA, slots := Array.replicate n.toNatClampNeg .null, vm := .none } : Cell) = H1
    have e1 : H1[H.size]? = some (arrV cA n.toNatClampNeg (fun _ => defaultValue (etyN t))) := by rw [← hH1, hdv, ← arrV_new]; simp
    have z1 : H1.size = H.size + 1 := by rw [← hH1]; simp
    have o1 : ∀ q : Nat, q < H.size → H1[q]? = H[q]? := fun q hq => by rw [← hH1, Array.getElem?_push, if_neg (Nat.ne_of_lt hq)]
    have h3 := hk _ _ _ _ h H1 locs (cells + 1) (slots + n.toNatClampNeg) ls' (hF.born h2 (hF.2.1.born z1 o1 (arr_new (cA := cA) hF.2.1 (by omega) e1 hA hr (by rw [ht]; rfl) (by rw [ht]; rfl))))
    rw [List.map_cons, show mv ad (.ref g.2.2.2.2.1) = .ref H.size by show Value.ref (ad _) = _; rw [hF.2.1.top]] at h3
    exact h3
  · cases h
/-- which cells may lie in which arrays of references -/
def cmpA (t tv : Nat) : Bool := (Nat.beq t 110 && Nat.beq tv 101) || (Nat.beq t 112 && Nat.beq tv 5) || (Nat.beq t 113 && Nat.beq tv 1) || (Nat.beq t 114 && Nat.beq tv 13)
def cmpO (x z : Option (Nat × Nat)) : Bool := match x, z with
  | some (t, _), some (tv, _) => cmpA t tv
  | _, _ => false
def aAstA (nx : Nat) : Act := fun _ ls st g k => match st with
  | .ref v :: .int i :: .ref a :: r => bif isNew a && inb i (lenOf (g.2.2.2.1 a)) && cmpO (g.2.2.2.1 a) (g.2.2.2.1 v) && (isNew v || okT [13] (g.2.2.2.1 v)) then k nx ls r (setR g a i.toNatClampNeg (some v)) else none
  | _ => none
theorem s_aastore {nx : Nat} (hd : decode cc pc = .ok (.aastore, 1)) (hn : pc + 1 = nx) : Sd mi y cc nL ret hh pc (aAstA nx) := by
  refine ⟨fun C ls st g => ?_, ?_⟩
  · unfold aAstA
    split
    · exact lp_bif _ (lp_go _ _ _ _) lp_no
    · exact lp_no
  intro D ad H0 C d p l e R s m args below meth c hC hX ls st g k r H locs cells slots ls' h hF hk
  subst hn
  unfold aAstA at h
  split at h
  · next v i a r' =>
    obtain ⟨hb, h⟩ := bif_t h
    obtain ⟨hb, hv⟩ := (Bool.and_eq_true _ _).mp hb |>.imp id id
    obtain ⟨hb, hcm⟩ := (Bool.and_eq_true _ _).mp hb |>.imp id id
    obtain ⟨h0, h2⟩ := (Bool.and_eq_true _ _).mp hb |>.imp id id
    have h0 := isNew_spec h0
    cases hs : g.2.2.2.1 a with
    | none => rw [hs] at hcm; cases hcm
    | some q =>
    cases hsv : g.2.2.2.1 v with
    | none => rw [hs, hsv] at hcm; cases hcm
    | some qv =>
    obtain ⟨t, n⟩ := q
    obtain ⟨tv, nv'⟩ := qv
    rw [hs, hsv] at hcm
    rw [hs] at h2
    rw [hsv] at hv
    have h2 := inb_spec h2
    have hcm : cmpA t tv = true := hcm
    have ht : 110 ≤ t ∧ (t = 110 ∧ tv = 101 ∨ t = 112 ∧ tv = 5 ∨ t = 113 ∧ tv = 1 ∨ t = 114 ∧ tv = 13) := by
      simp only [cmpA, Bool.or_eq_true, Bool.and_eq_true] at hcm
      have e := fun a b => @Nat.eq_of_beq_eq_true a b
      rcases hcm with ((⟨q1, q2⟩ | ⟨q1, q2⟩) | ⟨q1, q2⟩) | ⟨q1, q2⟩ <;> have q1 := e _ _ q1 <;> have q2 := e _ _ q2 <;> omega
    obtain ⟨cell, c1, c2, c3, c4, c5, c6⟩ := hF.2.1.arr hs (by omega)
    obtain ⟨c7, kA, comp, k1, k2, k3, k4⟩ := c6 h0
    have k4 := k4 (ety_ref ht.1)
    have hval : ∃ cv : Cell, H[ad v]? = some cv ∧ (∀ q, cv.vm ≠ .statics q) ∧ (∃ kv : Class, s.vm.classes[cv.cls]? = some kv) ∧ cv.cls = comp := by
      have obj : ∀ (C' : String) (T : u_T) (N : Nat), cls[tv]? = some (C', T, N) → cnm (etyN t) = C' → tv < 50 → ∃ cv : Cell, H[ad v]? = some cv ∧ (∀ q, cv.vm ≠ .statics q) ∧ (∃ kv : Class, s.vm.classes[cv.cls]? = some kv) ∧ cv.cls = comp := by
        intro C' T N f1 f2 f3
        obtain ⟨hS, hfc, kC, hkC, hkind⟩ := hX.K.1 tv _ f1
        rw [f2] at k4
        have hcomp : D.1 tv = comp := Option.some.inj (hfc.symm.trans k4)
        rcases (hF.2.1.2.2.2.2.2 v tv nv' hsv).2 with ⟨_, _, q, g1, cell, q1, q2, q3, q4⟩ | ⟨z, _⟩ | ⟨_, z, _⟩ | ⟨_, z, cell, d1, d2, d3, d4, d5⟩
        · exact ⟨cell, q1, fun q hq => (by rw [q3] at hq; cases hq), ⟨kC, by rw [q2]; exact hkC⟩, q2.trans hcomp⟩
        · omega
        · omega
        · subst z
          exact ⟨cell, d1, fun q hq => (by rw [hq] at d2; cases d2), ⟨kC, by rw [d4]; exact hkC⟩, d4.trans hcomp⟩
      rcases ht.2 with ⟨rfl, rfl⟩ | ⟨rfl, rfl⟩ | ⟨rfl, rfl⟩ | ⟨rfl, rfl⟩
      · obtain ⟨cv, v1, v2, v3, v4, v5, v6⟩ := hF.2.1.arr hsv (by decide)
        have hvn : oldN ≤ v := by
          rcases (Bool.or_eq_true _ _).mp hv with q | q
          · exact isNew_spec q
          · cases q
        obtain ⟨v7, kV, compV, w1, w2, w3, -⟩ := v6 hvn
        exact ⟨cv, v1, fun q hq => (by rw [v7] at hq; cases hq), ⟨kV, w1⟩, Option.some.inj (w3.symm.trans k4)⟩
      · exact obj _ _ _ cls_X6 rfl (by decide)
      · exact obj _ _ _ cls_X2 rfl (by decide)
      · exact obj _ _ _ cls_J8 rfl (by decide)
    obtain ⟨cv, v1, v2, ⟨kv, v3⟩, v4⟩ := hval
    refine W.aast hX.1 hX.2.1 c1 c2.1 c3 k1 k2 (ety_ref ht.1) (by rw [← v4]; exact v3) ⟨fun q => h2 (Or.inl q), by rw [c4]; exact Nat.not_le.mp fun q => h2 (Or.inr q)⟩ v1 v2 v3 (by rw [v4]; exact va_asg _ _) rfl rfl hd fun H1 e1 z oq => ?_
    refine hk _ _ _ _ h _ _ _ _ _ (hF.wr h0 rfl (hF.2.1.wr h0 hs z oq rfl (fun b hb => ⟨rfl, rfl, upR_ne _ _ _ hb⟩) ?_))
    refine CellOk.ast (by omega) e1 c2 c3 c4 c5 c6 ?_ ?_ (fun j hj => ?_)
    · rw [vF_ref ht.1]; show va_rf (Option.map ad (upR _ _ _ _ _ _)) = _; rw [upR_self, if_pos rfl]; rfl
    · rcases ht.2 with ⟨rfl, rfl⟩ | ⟨rfl, rfl⟩ | ⟨rfl, rfl⟩ | ⟨rfl, rfl⟩ <;> rfl
    · rw [vF_ref ht.1, vF_ref ht.1]; show va_rf (Option.map ad (upR _ _ _ _ _ _)) = _; rw [upR_self, if_neg hj]
  · cases h
end SD6

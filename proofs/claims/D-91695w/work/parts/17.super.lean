/-! SOUNDNESS: a superclass's method by invokespecial; clone of an array of bytes -/
def setC (g : AH) (a : Nat) (f : Nat → Int32) : AH := (up1 g.1 a f, g.2)
section SUP
variable {mi : List MI} {y : MethodName} {cc : ByteArray} {nL pc : Nat} {ret : Option FieldType} {hh : List (Nat × Nat × Nat × Nat)}
theorem s_super {idx yn n nx : Nat} {ts : List Nat} {q : MI} (hd : decode cc pc = .ok (.invokespecial idx, 3)) (hq : mi[yn]? = some q) (hM : MOk q n) (hnm : q.1.name ≠ "<init>") (w1 : Cond.methodLink y.cls idx q.1 ∈ lw_all) (w2 : Cond.sameMethod q.1.cls q.1.cls q.1.name q.1.desc ∈ lw_all) (w3 : Cond.superclass y.cls q.1.cls ∈ lw_all) (w4 : Cond.instanceMethod q.1 ∈ lw_all) (hts : ∀ t ∈ ts, t < 50) (hhp : ∀ D ad H0, HOk D ad H0 y cc nL ret hh pc none) (hn : pc + 3 = nx) : Sd mi y cc nL ret hh pc (aCalV yn n nx ts none) := by
  refine ⟨fun C ls st g => ?_, ?_⟩
  · unfold aCalV
    split
    · exact lp_bif _ (lp_fin _ _ _ _ _) lp_no
    · exact lp_no
  intro D ad H0 C d p l e R s m args below meth c hC hX ls st g k r H locs cells slots ls' h hF hk
  unfold aCalV at h
  split at h
  · next as a r' hpop =>
    obtain ⟨hb, h⟩ := bif_t h
    obtain ⟨hb, hok⟩ := (Bool.and_eq_true _ _).mp hb |>.imp id id
    have hw := Nat.le_of_ble_eq_true hb
    obtain ⟨tg, nn, hs, hm⟩ := okT_spec hok
    have f50 := hts tg hm
    obtain ⟨xs, x1, x2, x3⟩ := popN_spec _ _ _ _ _ hpop
    rw [List.append_nil] at x1
    subst x1
    obtain ⟨mk, methk, ck, b1, b2, b3, b4, b5, b6, b7, b8, b9⟩ := hM.spec hX.2.2.2.2.2.2.2.1
    have hcell : ∃ (cell : Cell) (kc : Class), H[ad a]? = some cell ∧ (∀ z, cell.vm ≠ .statics z) ∧ s.vm.classes[cell.cls]? = some kc := by
      rcases (hF.2.1.2.2.2.2.2 a tg nn hs).2 with ⟨_, _, q, g1, cell, q1, q2, q3, q4⟩ | ⟨z, _⟩ | ⟨_, z, _⟩ | ⟨_, z, cell, d1, d2, d3, d4, d5⟩
      · obtain ⟨hS, hfc, kC, hkC, hkind⟩ := hX.K.1 tg _ g1
        exact ⟨cell, kC, q1, fun q hq => (by rw [q3] at hq; cases hq), by rw [q2]; exact hkC⟩
      · omega
      · omega
      · subst z
        obtain ⟨hS, hfc, kC, hkC, hkind⟩ := hX.K.1 13 _ cls_J8
        exact ⟨cell, kC, d1, fun q hq => (by rw [hq] at d2; cases d2), by rw [d4]; exact hkC⟩
    obtain ⟨cell, kc, c1, c2, c3⟩ := hcell
    intro T hT X
    subst hT
    have hstack : (F0 m pc ls' (st.map (mv ad))).stack = (as.map (mv ad)).reverse ++ .ref (ad a) :: r'.map (mv ad) := by show st.map (mv ad) = _; rw [x3]; simp [mv]
    have hdec : decode c.code (F0 m pc ls' (st.map (mv ad))).pc = .ok (.invokespecial idx, 3) := by rw [hX.2.1]; exact hd
    obtain ⟨mk', methM, hnamed, hmethM, hstM, habM⟩ := Cond.instanceMethod_spec (hX.w (args := args) w4)
    cases b1.symm.trans hnamed
    cases b2.symm.trans hmethM
    have hlen : (as.map (mv ad)).length = methk.sig.parameters.length := by rw [List.length_map, x2]; exact b9
    obtain ⟨vm₁, X₁, hstep⟩ : ∃ vm', Stand p l e R s m args below meth c (T.setVm vm') locs cells slots ∧ ∀ target, (∀ acts, Steps p.tables e below (doInvoke e ((T.setVm vm').setTop { F0 m pc ls' (st.map (mv ad)) with stack := r'.map (mv ad) }) acts mk (.ref (ad a) :: as.map (mv ad)).toArray).1 target) → Steps p.tables e below (T.setTop (F0 m pc ls' (st.map (mv ad)))) target := by
      obtain ⟨ps, dk, kp, hps, hdk, hkp, hsuper, -, -, hnid⟩ := Cond.superclass_spec hX.2.2.2.1 (hX.w (args := args) w3)
      have hpm : ps = mk.cls := Option.some.inj (hps.symm.trans (findClass_of_methodNamed b1))
      have hsub : s.vm.isSubclass ps mk.cls = true := by rw [hpm]; simp [Vm.isSubclass, Vm.isSubclassAux]
      obtain ⟨vm₁, X₁, hstep₁⟩ := X.invokespecialUp hX.1 hX.2.2.2.1 (hX.w w1) (hX.w w2) (show s.methodNamed? ⟨q.1.cls, q.1.name, q.1.desc⟩ = some mk from b1) b2 hstM habM hnm hdk hnid hps hsuper hsub c1 c2 c3 rfl hlen hstack hdec
      exact ⟨vm₁, X₁, fun target h => hstep₁ _ (h _)⟩
    obtain ⟨t, s1, s2⟩ := call_end (T := T.setVm vm₁) X₁ hC hX hq hM (hhp D ad H0) h hn hF hw hd b1 hk
    exact ⟨t, hstep t (fun acts => by rw [doInvoke_state]; exact s1), s2⟩
  · cases h
/-- clone of an array of bytes -/
def aClone (nx : Nat) : Act := fun _ ls st g k => match st with
  | .ref a :: r => bif Nat.ble (wgt r) 100 && okT [101] (g.2.2.2.1 a) && isNew a && hasRm g (lenOf (g.2.2.2.1 a)) then k nx ls (.ref g.2.2.2.2.1 :: r) (setC (born g 101 (lenOf (g.2.2.2.1 a)) (lenOf (g.2.2.2.1 a))) g.2.2.2.2.1 (g.1 a)) else none
  | _ => none
theorem s_clone {idx nx : Nat} (hd : decode cc pc = .ok (.invokevirtual idx, 3)) (w1 : Cond.methodLink y.cls idx ⟨"[B", "clone", "()Ljava/lang/Object;"⟩ ∈ lw_all) (w2 : Cond.sameMethod "[B" "java/lang/Object" "clone" "()Ljava/lang/Object;" ∈ lw_all) (w3 : Cond.native ⟨"java/lang/Object", "clone", "()Ljava/lang/Object;"⟩ ∈ lw_all) (w4 : Cond.instanceMethod ⟨"java/lang/Object", "clone", "()Ljava/lang/Object;"⟩ ∈ lw_all)
    (w5 : Cond.selects "[B" ⟨"[B", "clone", "()Ljava/lang/Object;"⟩ ⟨"java/lang/Object", "clone", "()Ljava/lang/Object;"⟩ ∈ lw_all) (w6 : Cond.castable "[B" "java/lang/Cloneable" ∈ nst) (hn : pc + 3 = nx) : Sd mi y cc nL ret hh pc (aClone nx) := by
  refine ⟨fun C ls st g => ?_, ?_⟩
  · unfold aClone
    split
    · exact lp_bif _ (lp_go _ _ _ _) lp_no
    · exact lp_no
  intro D ad H0 C d p l e R s m args below meth c hC hX ls st g k r H locs cells slots ls' h hF hk
  subst hn
  unfold aClone at h
  split at h
  · next a r' =>
    obtain ⟨hb, h⟩ := bif_t h
    obtain ⟨hb, hrm⟩ := (Bool.and_eq_true _ _).mp hb |>.imp id id
    obtain ⟨hb, hnew⟩ := (Bool.and_eq_true _ _).mp hb |>.imp id id
    obtain ⟨hw, hok⟩ := (Bool.and_eq_true _ _).mp hb |>.imp id id
    have hw := Nat.le_of_ble_eq_true hw
    have hnew := isNew_spec hnew
    obtain ⟨t, n, hs, hm⟩ := okT_spec hok
    cases List.mem_singleton.mp hm
    rw [hs] at h hrm
    replace h : k (pc + 3) ls (.ref g.2.2.2.2.1 :: r') (setC (born g 101 n n) g.2.2.2.2.1 (g.1 a)) = some r := h
    replace hrm : hasRm g n = true := hrm
    obtain ⟨r1, r2⟩ := hasRm_spec hrm
    obtain ⟨cell, c1, c2, c3, c4, c5, c6⟩ := hF.2.1.arr hs (by decide)
    obtain ⟨c7, kA, comp, k1, k2, k3, -⟩ := c6 hnew
    have hfr := hX.2.2.2.2.2.2.2.2.1
    have hlc := hX.2.2.2.2.2.2.2.2.2.1
    have q1 := hF.2.2.2.1
    have q2 := hF.2.2.2.2
    obtain ⟨c0, t0', f1, f2, f3⟩ := Cond.castable_spec (hX.n (args := args) w6)
    have hnm : s.vm.findClass "[B" = some cell.cls := k3
    cases hnm.symm.trans f1
    intro T hT X
    subst hT
    obtain ⟨kA', hkA', heA⟩ := X.warmed.alike.2.2 _ _ k1
    have hkind' : kA'.kind = .array comp .byte := by rw [heA]; exact k2
    obtain ⟨vm', X', st'⟩ := X.cloneArray hX.1 hX.2.2.2.1 (hX.w w1) (hX.w w2) (hX.w w3) (hX.w w4) (hX.w w5) (a := ad a) (cell := cell) c1 c2.1 c3 hnm f2 f3
      (fun i v hv => by
        have hi : i < n := by rw [← c4]; exact (Array.getElem?_eq_some_iff.mp hv).1
        have e1 := (c5 i hi).1.symm.trans hv
        cases e1
        have e2 : fits .byte (vF ad g (etyN 101) a i) = true := (c5 i hi).2
        simpa [State.fitsSlot, State.slotType?, hkA', hkind', c7] using e2)
      (g := F0 m pc ls' ((Value.ref a :: r').map (mv ad))) rfl (by show ls'.size = _; rw [hF.1.1, hX.2.2.1]) rfl (by rw [hX.2.1]; exact hd) (by omega) (by show 2 * 0 + ((r'.map (mv ad)).map fun v => v.category).sum + 14 ≤ _; rw [wgt_sum]; omega) (by omega) (by rw [c4]; omega) (hloader := Vm.clonesLoader_of_array k1 k2)
    rw [c4] at X'
    generalize hcl : ({ cls := cell.cls, slots := cell.slots } : Cell) = cl2 at X' st'
    have d1 : cl2.cls = cell.cls := by rw [← hcl]
    have d2 : cl2.slots = cell.slots := by rw [← hcl]
    have d3 : cl2.vm = .none := by rw [← hcl]
    generalize hH1 : T.heap.push cl2 = H1
    have z1 : H1.size = T.heap.size + 1 := by rw [← hH1]; simp
    have e1 : H1[T.heap.size]? = some cl2 := by rw [← hH1]; simp
    have o1 : ∀ q : Nat, q < T.heap.size → H1[q]? = T.heap[q]? := fun q hq => by rw [← hH1, Array.getElem?_push, if_neg (Nat.ne_of_lt hq)]
    have hrel : Rel D ad H0 s (setC (born g 101 n n) g.2.2.2.2.1 (g.1 a)) H1 := by
      have h1 := hF.2.1.1
      have h2 := hF.2.1.2.1
      refine ⟨by rw [z1]; show T.heap.size + 1 + oldN = H0.size + (g.2.2.2.2.1 + 1); omega, Nat.le_succ_of_le h2, hF.2.1.2.2.1, hF.2.1.2.2.2.1, fun q hq0 => ?_, fun b t' n' ha => ?_⟩
      · rw [o1 q (by omega)]; exact hF.2.1.2.2.2.2.1 q hq0
      · by_cases q : b = g.2.2.2.2.1
        · subst q
          have e : some (101, n) = some (t', n') := by rw [← ha]; exact (up1_self).symm
          cases e
          refine ⟨Nat.lt_succ_self _, Or.inr (Or.inl ⟨by decide, cl2, by rw [hF.2.1.top]; exact e1, ⟨by rw [d3]; exact fun q hq => (by cases hq), kA, by rw [d1]; exact k1, comp, k2⟩, by rw [d3]; exact fun q => (by cases q), by rw [d2]; exact c4, fun j hj => ?_, fun _ => ⟨d3, kA, comp, by rw [d1]; exact k1, k2, by rw [d1]; exact k3, fun q => (by cases q)⟩⟩)⟩
          have ev : vF ad (setC (born g 101 n n) g.2.2.2.2.1 (g.1 a)) (etyN 101) g.2.2.2.2.1 j = vF ad g (etyN 101) a j := by
            show Value.int ((up1 _ _ _ _ : Nat → Int32) j) = _
            rw [up1_self]
            rfl
          rw [ev, d2]
          exact c5 j hj
        · have e : g.2.2.2.1 b = some (t', n') := by rw [← ha]; exact (up1_ne q).symm
          obtain ⟨y1, y2⟩ := hF.2.1.2.2.2.2.2 b t' n' e
          exact ⟨Nat.lt_succ_of_lt y1, y2.kept (o1 _ (hF.2.1.below y1)) ((up1_ne q).trans (up1_ne q)) (up1_ne q) (up1_ne q)⟩
    have hFR : FR D ad H0 R s nL ls (setC (born g 101 n n) g.2.2.2.2.1 (g.1 a)) H1 locs (cells + 1) (slots + n) ls' :=
      ⟨hF.1, hrel, hF.2.2.1, by show cells + 1 + limC ≤ R.cells + (g.2.2.2.2.1 + 1) ∧ g.2.2.2.2.1 + 1 ≤ limC; omega, by show slots + n + limS ≤ R.slots + (g.2.2.2.2.2 + n) ∧ g.2.2.2.2.2 + n ≤ limS; omega⟩
    obtain ⟨tt, s1, s2⟩ := hk _ _ _ _ h _ _ _ _ _ hFR ((T.setVm vm').pushCell cl2) (by rw [← hH1]; rfl) X'
    refine ⟨tt, st' tt ?_, s2⟩
    rw [List.map_cons, show mv ad (.ref g.2.2.2.2.1) = .ref T.heap.size by show Value.ref (ad _) = _; rw [hF.2.1.top]] at s1
    exact s1
  · cases h
/-- 'checkcast byte[]' -/
def aCstB (nx : Nat) : Act := fun _ ls st g k => match st with
  | .ref a :: r => bif okT [101] (g.2.2.2.1 a) && isNew a then k nx ls (.ref a :: r) g else none
  | _ => none
theorem s_castB {idx nx : Nat} (hd : decode cc pc = .ok (.checkcast idx, 3)) (w : Cond.classLink y.cls idx "[B" ∈ lw_all) (hn : pc + 3 = nx) : Sd mi y cc nL ret hh pc (aCstB nx) := by
  refine ⟨fun C ls st g => ?_, ?_⟩
  · unfold aCstB
    split
    · exact lp_bif _ (lp_go _ _ _ _) lp_no
    · exact lp_no
  intro D ad H0 C d p l e R s m args below meth c hC hX ls st g k r H locs cells slots ls' h hF hk
  subst hn
  unfold aCstB at h
  split at h
  · next a r' =>
    obtain ⟨hb, h⟩ := bif_t h
    obtain ⟨hb, hnew⟩ := (Bool.and_eq_true _ _).mp hb |>.imp id id
    obtain ⟨t, n, hs, hm⟩ := okT_spec hb
    cases List.mem_singleton.mp hm
    obtain ⟨cell, c1, c2, c3, c4, c5, c6⟩ := hF.2.1.arr hs (by decide)
    obtain ⟨c7, kA, comp, k1, k2, k3, -⟩ := c6 (isNew_spec hnew)
    exact va_castE hX.1 hX.2.1 hX.2.2.2.1 (hX.w w) ⟨cell, c1, by rw [c7]; rfl, k3⟩ hd (hk _ _ _ _ h _ _ _ _ _ hF)
  · cases h
end SUP

/-! SOUNDNESS: invokestatic, invokevirtual, invokespecial of constructors -/
section INV
variable {mi : List MI} {y : MethodName} {cc : ByteArray} {nL pc : Nat} {ret : Option FieldType} {hh : List (Nat × Nat × Nat × Nat)}
theorem s_static {idx yn n nx : Nat} {hp : Option (Nat × Nat)} {q : MI} (hd : decode cc pc = .ok (.invokestatic idx, 3)) (hq : mi[yn]? = some q) (hM : MOk q n) (hlk : Cond.methodLink y.cls idx q.1 ∈ lw_all ∨ ∃ host, Cond.methodLinkNest y.cls idx q.1 host ∈ nst) (hst : Cond.static q.1 ∈ lw_all) (hin : Cond.initialized q.1.cls ∈ lw_all) (hhp : ∀ D ad H0, HOk D ad H0 y cc nL ret hh pc hp) (hn : pc + 3 = nx) : Sd mi y cc nL ret hh pc (aCalS yn n nx hp) := by
  refine ⟨fun C ls st g => ?_, ?_⟩
  · unfold aCalS
    split
    · exact lp_bif _ (lp_fin _ _ _ _ _) lp_no
    · exact lp_no
  intro D ad H0 C d p l e R s m args below meth c hC hX ls st g k r H locs cells slots ls' h hF hk
  unfold aCalS at h
  split at h
  · next as r' hpop =>
    obtain ⟨hb, h⟩ := bif_t h
    have hw := Nat.le_of_ble_eq_true hb
    obtain ⟨xs, x1, x2, x3⟩ := popN_spec _ _ _ _ _ hpop
    rw [List.append_nil] at x1
    subst x1
    obtain ⟨mk, methk, ck, b1, b2, b3, b4, b5, b6, b7, b8, b9⟩ := hM.spec hX.2.2.2.2.2.2.2.1
    obtain ⟨kP, hkP, -⟩ := className_of_methodNamed b1
    intro T hT X
    subst hT
    have hstack : (F0 m pc ls' (st.map (mv ad))).stack = (as.map (mv ad)).reverse ++ r'.map (mv ad) := by show st.map (mv ad) = _; rw [x3]; simp
    have hlen : (as.map (mv ad)).length = methk.sig.parameters.length := by rw [List.length_map, x2]; exact b9
    have hstm : methk.isStatic = true := Cond.static_spec b1 b2 (hX.w (args := args) hst)
    have hini : kP.init = .initialized := Cond.initialized_spec (findClass_of_methodNamed b1) hkP (hX.w (args := args) hin)
    have key : ∃ vm', Stand p l e R s m args below meth c (T.setVm vm') locs cells slots ∧ ∀ target, (∀ acts, Steps p.tables e below (doInvoke e ((T.setVm vm').setTop { F0 m pc ls' (st.map (mv ad)) with stack := r'.map (mv ad) }) acts mk (as.map (mv ad)).toArray).1 target) → Steps p.tables e below (T.setTop (F0 m pc ls' (st.map (mv ad)))) target := by
      rcases hlk with w | ⟨host, w⟩
      · exact X.invokestatic hX.1 hX.2.2.2.1 (hX.w w) b1 b2 hstm hkP hini hM.2.1 rfl hlen hstack (by rw [hX.2.1]; exact hd)
      · exact X.invokestaticNest hX.1 hX.2.2.2.1 (hX.n w) b1 b2 hstm hkP hini hM.2.1 rfl hlen hstack (by rw [hX.2.1]; exact hd)
    obtain ⟨vm₁, X₁, hstep⟩ := key
    obtain ⟨t, s1, s2⟩ := call_end (T := T.setVm vm₁) X₁ hC hX hq hM (hhp D ad H0) h hn hF hw hd b1 hk
    exact ⟨t, hstep t (fun acts => by rw [doInvoke_state]; exact s1), s2⟩
  · cases h
theorem s_init {idx yn n nx : Nat} {hp : Option (Nat × Nat)} {q : MI} (hd : decode cc pc = .ok (.invokespecial idx, 3)) (hq : mi[yn]? = some q) (hM : MOk q n) (hcd : Cond.code q.1 q.2.1 q.2.2.1 none ∈ lw_all) (hnm : q.1.name = "<init>") (hlk : Cond.methodLink y.cls idx q.1 ∈ lw_all ∨ ∃ host, Cond.methodLinkNest y.cls idx q.1 host ∈ nst) (hst : Cond.instanceMethod q.1 ∈ lw_all) (hhp : ∀ D ad H0, HOk D ad H0 y cc nL ret hh pc hp) (hn : pc + 3 = nx) : Sd mi y cc nL ret hh pc (aCalI yn n nx hp) := by
  refine ⟨fun C ls st g => ?_, ?_⟩
  · unfold aCalI
    split
    · exact lp_bif _ (lp_fin _ _ _ _ _) lp_no
    · exact lp_no
  intro D ad H0 C d p l e R s m args below meth c hC hX ls st g k r H locs cells slots ls' h hF hk
  unfold aCalI at h
  split at h
  · next as a r' hpop =>
    obtain ⟨hb, h⟩ := bif_t h
    have hw := Nat.le_of_ble_eq_true hb
    obtain ⟨xs, x1, x2, x3⟩ := popN_spec _ _ _ _ _ hpop
    rw [List.append_nil] at x1
    subst x1
    obtain ⟨mk, methk, ck, b1, b2, b3, b4, b5, b6, b7, b8, b9⟩ := hM.spec hX.2.2.2.2.2.2.2.1
    intro T hT X
    subst hT
    have hstack : (F0 m pc ls' (st.map (mv ad))).stack = (as.map (mv ad)).reverse ++ .ref (ad a) :: r'.map (mv ad) := by show st.map (mv ad) = _; rw [x3]; simp [mv]
    have hpl : e.platform.magicAccessors = ({} : Platform).magicAccessors := by rw [X.admits.platform]
    have hlen : ∀ sig, parseMethodDescriptor q.1.desc = some sig → (as.map (mv ad)).length = sig.parameters.length := by
      intro sig hs
      have h4 := hM.2.2.2.1
      rw [hs] at h4
      rw [List.length_map, x2]
      exact (Option.some.inj h4).symm
    have key : ∃ vm', s.WarmedH vm' ∧ ∀ target, (∀ acts, Steps p.tables e below (doInvoke e ((T.setVm vm').setTop { F0 m pc ls' (st.map (mv ad)) with stack := r'.map (mv ad) }) acts mk (.ref (ad a) :: as.map (mv ad)).toArray).1 target) → Steps p.tables e below (T.setTop (F0 m pc ls' (st.map (mv ad)))) target := by
      rcases hlk with w | ⟨host, w⟩
      · obtain ⟨tm, _, _, _, vm', z1, -, -, -, -, -, -, -, z2, z3⟩ := Steps.initColdArgs (e := e) X.here hX.1 X.warmed hpl hX.2.2.2.1 hnm hM.2.1 (hX.w (args := args) w) (hX.w hst) (hX.w hcd) (f := F0 m pc ls' (st.map (mv ad))) rfl hlen hstack (by rw [hX.2.1]; exact hd)
        cases b1.symm.trans z1
        exact ⟨vm', z2, z3⟩
      · obtain ⟨tm, _, _, _, vm', z1, -, -, -, -, -, -, -, z2, z3⟩ := Steps.initColdArgsNest (e := e) X.here hX.1 X.warmed hpl hX.2.2.2.1 hnm hM.2.1 (hX.n (args := args) w) (hX.w hst) (hX.w hcd) (f := F0 m pc ls' (st.map (mv ad))) rfl hlen hstack (by rw [hX.2.1]; exact hd)
        cases b1.symm.trans z1
        exact ⟨vm', z2, z3⟩
    obtain ⟨vm₁, hW₁, hstep⟩ := key
    obtain ⟨t, s1, s2⟩ := call_end (T := T.setVm vm₁) (X.noted hW₁) hC hX hq hM (hhp D ad H0) h hn hF hw hd b1 hk
    exact ⟨t, hstep t (fun acts => by rw [doInvoke_state]; exact s1), s2⟩
  · cases h
/-- a method is declared -/
def Dcl (x : MethodName) : Prop := Cond.declares x ∈ nst ∨ (Cond.instanceMethod x ∈ lw_all ∧ ∃ (b : ByteArray) (m : Nat) (ret : Option FieldType), Cond.code x b m ret ∈ lw_all)
/-- the words of a call through an object of class C: plain, or of an inherited method -/
def VLk (own : String) (idx : Nat) (C : String) (q : MI) : Prop :=
  (Cond.methodLink own idx q.1 ∈ lw_all ∧ Cond.selects C q.1 q.1 ∈ lw_all) ∨
  (∃ (x : MethodName) (owner : String), Cond.methodLink own idx x ∈ lw_all ∧ Cond.sameMethod x.cls owner x.name x.desc ∈ lw_all ∧ Dcl ⟨owner, x.name, x.desc⟩ ∧ (owner ≠ "java/lang/invoke/MethodHandle" ∧ owner ≠ "java/lang/invoke/VarHandle") ∧ Cond.selects C x q.1 ∈ lw_all ∧ x.desc = q.1.desc) ∨
  (Cond.methodLink own idx q.1 ∈ lw_all ∧ Cond.privateMethod q.1 ∈ nst ∧ Cond.sameMethod q.1.cls q.1.cls q.1.name q.1.desc ∈ lw_all)
theorem s_virt {idx yn n nx : Nat} {ts : List Nat} {hp : Option (Nat × Nat)} {q : MI} (hd : decode cc pc = .ok (.invokevirtual idx, 3)) (hq : mi[yn]? = some q) (hM : MOk q n) (hst : Cond.instanceMethod q.1 ∈ lw_all) (hts : ∀ t ∈ ts, ∃ (C : String) (T : u_T) (N : Nat), cls[t]? = some (C, T, N) ∧ t < 50 ∧ VLk y.cls idx C q) (hhp : ∀ D ad H0, HOk D ad H0 y cc nL ret hh pc hp) (hn : pc + 3 = nx) : Sd mi y cc nL ret hh pc (aCalV yn n nx ts hp) := by
  refine ⟨fun C ls st g => ?_, ?_⟩
  · unfold aCalV
    split
    · exact lp_bif _ (lp_fin _ _ _ _ _) lp_no
    · exact lp_no
  intro D ad H0 C d p l e R s m args below meth c hC hX ls st g k r H locs cells slots ls' h hF hk
  unfold aCalV at h
  split at h
  · next as a r' hpop =>
    obtain ⟨hb, h⟩ := bif_t h
    obtain ⟨hb, hok⟩ := (Bool.and_eq_true _ _).mp hb |>.imp id id
    have hw := Nat.le_of_ble_eq_true hb
    obtain ⟨tg, nn, hs, hm⟩ := okT_spec hok
    obtain ⟨Cn, Tn, Nn, f1, f50, hvl⟩ := hts tg hm
    obtain ⟨xs, x1, x2, x3⟩ := popN_spec _ _ _ _ _ hpop
    rw [List.append_nil] at x1
    subst x1
    obtain ⟨mk, methk, ck, b1, b2, b3, b4, b5, b6, b7, b8, b9⟩ := hM.spec hX.2.2.2.2.2.2.2.1
    obtain ⟨hS, hfc, kC, hkC, hkind⟩ := hX.K.1 tg _ f1
    have hcell : ∃ cell : Cell, H[ad a]? = some cell ∧ (∀ z, cell.vm ≠ .statics z) ∧ cell.cls = D.1 tg := by
      rcases (hF.2.1.2.2.2.2.2 a tg nn hs).2 with ⟨_, _, q, g1, cell, q1, q2, q3, q4⟩ | ⟨z, _⟩ | ⟨_, z, _⟩ | ⟨_, z, cell, d1, d2, d3, d4, d5⟩
      · exact ⟨cell, q1, fun q hq => (by rw [q3] at hq; cases hq), q2⟩
      · omega
      · omega
      · subst z
        exact ⟨cell, d1, fun q hq => (by rw [hq] at d2; cases d2), d4⟩
    obtain ⟨cell, c1, c2, c3⟩ := hcell
    intro T hT X
    subst hT
    have hstack : (F0 m pc ls' (st.map (mv ad))).stack = (as.map (mv ad)).reverse ++ .ref (ad a) :: r'.map (mv ad) := by show st.map (mv ad) = _; rw [x3]; simp [mv]
    have hdec : decode c.code (F0 m pc ls' (st.map (mv ad))).pc = .ok (.invokevirtual idx, 3) := by rw [hX.2.1]; exact hd
    obtain ⟨mk', methM, hnamed, hmethM, hstM, habM⟩ := Cond.instanceMethod_spec (hX.w (args := args) hst)
    cases b1.symm.trans hnamed
    cases b2.symm.trans hmethM
    have hlen : (as.map (mv ad)).length = methk.sig.parameters.length := by rw [List.length_map, x2]; exact b9
    have key : ∃ vm', Stand p l e R s m args below meth c (T.setVm vm') locs cells slots ∧ ∀ target, (∀ acts, Steps p.tables e below (doInvoke e ((T.setVm vm').setTop { F0 m pc ls' (st.map (mv ad)) with stack := r'.map (mv ad) }) acts mk (.ref (ad a) :: as.map (mv ad)).toArray).1 target) → Steps p.tables e below (T.setTop (F0 m pc ls' (st.map (mv ad)))) target := by
      rcases hvl with ⟨w1, w2⟩ | ⟨x, owner, w1, w2, w3, w4, w5, w6⟩ | ⟨w1, w2, w3⟩
      · obtain ⟨c2', r2, m2, q1, q2, q3, q4, kP, hkP, hkPi⟩ := Cond.selects_spec (hX.w (args := args) w2)
        cases hfc.symm.trans q1
        cases (State.methodFound?_of_named b1 hM.2.1).symm.trans q2
        cases b1.symm.trans q3
        have hselP : selectMethod e.platform s.vm cell.cls mk = .method mk := by rw [Launch.admits_selectMethod X.admits, c3]; exact q4
        exact X.invokevirtual hX.1 hX.2.2.2.1 (hX.w w1) b1 b2 hstM hkP hkPi hM.2.1 c1 c2 hselP b2 habM hkP hkPi rfl hlen hstack hdec
      · have hdc : va_Decl s ⟨owner, x.name, x.desc⟩ := by
          rcases w3 with w3 | ⟨w3, b', m', ret', w3'⟩
          · exact va_Decl.abs (show va_Nw (.declares ⟨owner, x.name, x.desc⟩) s from hX.2.2.2.2.2.2.2.1.2.1 _ w3 #[])
          · exact va_Decl.of (hX.w (args := args) w3) (hX.w (args := args) w3')
        obtain ⟨r0, r1, hn0, hrm, hstR, hsigR⟩ := hdc
        obtain ⟨cn, ck', r1', hcn, hck, hni, hf, hn1⟩ := Cond.sameMethod_found (hX.w (args := args) w2)
        cases hn0.symm.trans hn1
        obtain ⟨c2', r2, m2, q1, q2, q3, q4, kP, hkP, hkPi⟩ := Cond.selects_spec (hX.w (args := args) w5)
        cases hfc.symm.trans q1
        cases hf.symm.trans q2
        cases b1.symm.trans q3
        have hselP : selectMethod e.platform s.vm cell.cls r0 = .method mk := by rw [Launch.admits_selectMethod X.admits, c3]; exact q4
        have hlen2 : (as.map (mv ad)).length = r1.sig.parameters.length := by
          have h4 := hM.2.2.2.1
          rw [← w6, hsigR] at h4
          rw [List.length_map, x2]
          exact (Option.some.inj h4).symm
        exact X.invokevirtualUp hX.1 hX.2.2.2.1 (hX.w w1) (hX.w w2) w4 hn0 hrm hstR c1 c2 hselP b2 habM hkP hkPi rfl hlen2 hstack hdec
      · obtain ⟨cn, ck', r1', hcn, hck, hni, hf, hn1⟩ := Cond.sameMethod_found (hX.w (args := args) w3)
        cases (findClass_of_methodNamed b1).symm.trans hcn
        have hselP : selectMethod e.platform s.vm cell.cls mk = .method mk := by rw [Launch.admits_selectMethod X.admits]; exact selectMethod_private b2 (Cond.privateMethod_at (hX.n (args := args) w2) mk methk b1 b2)
        exact X.invokevirtual hX.1 hX.2.2.2.1 (hX.w w1) b1 b2 hstM hck hni hM.2.1 c1 c2 hselP b2 habM hck hni rfl hlen hstack hdec
    obtain ⟨vm₁, X₁, hstep⟩ := key
    obtain ⟨t, s1, s2⟩ := call_end (T := T.setVm vm₁) X₁ hC hX hq hM (hhp D ad H0) h hn hF hw hd b1 hk
    exact ⟨t, hstep t (fun acts => by rw [doInvoke_state]; exact s1), s2⟩
  · cases h
end INV

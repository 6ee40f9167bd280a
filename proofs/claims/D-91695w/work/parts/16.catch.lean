/-! SOUNDNESS: a handler whose class is resolved at the catch -/
theorem go_cold {E : CtlPost} {e : Env} {d : Bool} {acts : List Action} {s : State} {f : JFrame} {a : Addr} {Q : Handler → Pre} {x : ExceptionTableEntry} {t : List ExceptionTableEntry} {c : ClassId} {cell : Cell} {vm' : Vm} (hx : covers x f.pc = true) (h0 : x.catchType ≠ 0) (hg : (Jvm.resolveClass f.method.cls x.catchType).Gives e.toSetting s.vm (.ok c) vm') (hsz : vm'.classes.size ≤ s.vm.classes.size) (hcell : s.heap[a]? = some cell) (hobj : ∀ k, cell.vm ≠ .statics k)
    (hk : ∃ k, vm'.classes[cell.cls]? = some k) (hc : ∃ k, vm'.classes[c]? = some k) (hfit : vm'.assignable cell.cls c = true) :
    wp (findHandler.go f a (x :: t)) Q E e d acts s ↔ Q (.found x.handlerPc) d acts (s.setVm vm') := by
  simp only [covers] at hx
  obtain ⟨ha, ht⟩ := hg.op (op := VmOp.resolveClass f.method.cls x.catchType) rfl
  have hcell' : (s.setVm vm').heap[a]? = some cell := hcell
  simp [findHandler.go, hx, h0, ha, ht, hsz, hcell, hcell', hobj, hk, hc, hfit, VmOp.dirties, VmOp.acts]
theorem catchTo {e : Env} {s : State} {a : Addr} {f : JFrame} {r : List Frame} {pc : Nat} {vm' : Vm} (hfind : ∀ (Q : Handler → Pre) (E : CtlPost) (d : Bool) (acts : List Action), wp (findHandler f a) Q E e d acts s ↔ Q (.found pc) d acts (s.setVm vm')) :
    (stepThrowing e s a (.java f :: r)).Is ((s.setVm vm').setFrames (.java { f with pc := pc, stack := [.ref a] } :: r)) [] := by
  simp only [stepThrowing, searchFrame, vmDo]
  generalize hr : Sem.go _ e false [] s = res
  obtain ⟨as, rfl, ha⟩ := Sem.eq_ok_of hr (a := Handler.found pc) (s' := s.setVm vm') (acts' := []) (by simp [hfind _ _ _ _])
  exact ⟨rfl, ha⟩
theorem caughtTo {tb : Tables} {e : Env} {s target : State} {g : JFrame} {c : Code} {below : List Frame} {a : Addr} {vm' : Vm} (h : At s g.method c below) {pc : Nat} (hfind : ∀ (Q : Handler → Pre) (E : CtlPost) (d : Bool) (acts : List Action), wp (findHandler g a) Q E e d acts ((s.setTop g).pushFrame (.throwing a)) ↔ Q (.found pc) d acts (((s.setTop g).pushFrame (.throwing a)).setVm vm'))
    (hrest : Steps tb e below ((s.setVm vm').setTop { g with pc := pc, stack := [.ref a] }) target) : Steps tb e below ((s.setTop g).pushFrame (.throwing a)) target := by
  obtain ⟨hgo, hw⟩ := h.throwing a
  refine Steps.head hgo hw ?_
  rw [stepThread_throwing (frames_entered h.top _), (catchTo (s := (s.setTop g).pushFrame (.throwing a)) hfind).1]
  obtain ⟨g₀, hg⟩ := Option.isSome_iff_exists.mp h.top
  obtain ⟨r, hr⟩ := State.topJava?_eq_some.mp hg
  have hr' : (s.setVm vm').frames = .java g₀ :: r := hr
  rw [State.setTop_of_frames _ hr'] at hrest
  rw [State.pushFrame, State.setTop_of_frames _ hr, State.setFrames_setFrames]
  have e1 : ∀ (fs : List Frame), (s.setFrames fs).setVm vm' = (s.setVm vm').setFrames fs := fun fs => rfl
  rw [e1, State.setFrames_setFrames, hr]
  exact hrest
section CATCH
variable {y : MethodName} {cc : ByteArray} {nL pc : Nat} {ret : Option FieldType} {hh : List (Nat × Nat × Nat × Nat)}
theorem hOk_one {a b h ct t : Nat} {C : String} {T : u_T} {N : Nat} (hh1 : hh = [(a, b, h, ct)]) (hp : a ≤ pc ∧ pc < b) (h0 : ct ≠ 0) (f1 : cls[t]? = some (C, T, N)) (f50 : t < 50) (w : Cond.classLink y.cls ct C ∈ lw_all) : ∀ D ad H0, HOk D ad H0 y cc nL ret hh pc (some (h, t)) := by
  intro D ad H0 p l e R s m args below meth c T' locs cells slots d x n g g0 hX X hR hs hx hg hpc
  have hpl : e.platform.magicAccessors = ({} : Platform).magicAccessors := by rw [X.admits.platform]
  obtain ⟨cC, hfc, hcl⟩ := Cond.classLink_spec hX.2.2.2.1 (hX.w (args := args) w) e.platform hpl
  obtain ⟨hg₁, hwarm₁, hready₁⟩ := State.classEntry (e := e) X.warmed hcl
  obtain ⟨hS, hfc2, kC, hkC, hkind⟩ := hX.K.1 t _ f1
  cases hfc.symm.trans hfc2
  obtain ⟨q, g1, cell, q1, q2, q3, q4⟩ := hR.obj hx f50 hs
  have hal := hwarm₁.alike
  obtain ⟨kC', hkC', -⟩ := hal.2.2 _ _ hkC
  have htab : ∃ z : ExceptionTableEntry, c.exceptionTable.toList = [z] ∧ z.startPc = a ∧ z.endPc = b ∧ z.handlerPc = h ∧ z.catchType = ct := by
    have e1 := hX.2.2.2.2.2.2.2.2.2.2
    rw [hh1] at e1
    cases hl : c.exceptionTable.toList with
    | nil => rw [hl] at e1; cases e1
    | cons z l =>
      rw [hl] at e1
      cases l with
      | nil =>
        simp only [List.map_cons, List.map_nil, List.cons.injEq, Prod.mk.injEq, and_true] at e1
        exact ⟨z, rfl, e1.1, e1.2.1, e1.2.2.1, e1.2.2.2⟩
      | cons z2 l2 => cases e1
  obtain ⟨z, z1, z2, z3, z4, z5⟩ := htab
  subst hg
  refine ⟨_, X.noted hwarm₁, fun target hrest => caughtTo X.here (pc := h) ?_ hrest⟩
  intro Q E d acts
  rw [W.findHandler_eq (meth := meth) (code := c) (by show T'.vm.method? _ = _; exact X.method') X.code, z1, ← z4]
  refine go_cold (c := D.1 t) (cell := cell) (by simp only [covers, z2, z3, hpc, Bool.and_eq_true, decide_eq_true_eq]; exact hp) (by rw [z5]; exact h0) (by rw [z5]; exact hg₁) ?_ q1 (fun k hk => by rw [q3] at hk; cases hk) ⟨kC', by rw [q2]; exact hkC'⟩ ⟨kC', hkC'⟩ (by rw [q2]; exact va_asg _ _)
  exact Nat.le_of_eq (by rw [show ((T'.setTop g0).pushFrame (.throwing (ad x))).vm = T'.vm from rfl]; simp [Vm.noted])
end CATCH

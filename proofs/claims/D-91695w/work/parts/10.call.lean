/-! SOUNDNESS: calls: into a method and out of it -/
theorem RAx.moved {u U : State} (hvm : u.vm.Alike U.vm) {cA : ClassId} {ty : FieldType} (h : RAx u cA ty) : RAx U cA ty := by
  obtain ⟨kA, comp, h1, h2, h3, h4⟩ := h
  obtain ⟨k', hk', he⟩ := hvm.2.2 _ _ h1
  exact ⟨k', comp, hk', by rw [he]; exact h2, by rw [hvm.findClass]; exact h3, fun q => by rw [hvm.findClass]; exact h4 q⟩
theorem CellOk.moved {D : va_G} {ad : Nat → Nat} {u U : State} {g : AH} {H : Heap} {a t n : Nat} (hvm : u.vm.Alike U.vm) (h : CellOk D ad u g H a t n) : CellOk D ad U g H a t n := by
  rcases h with h | ⟨h1, cell, c1, c2, c3, c4, c5, c6⟩ | ⟨h0, h1, cell, c1, c2, c3, c4, c5⟩ | h
  · exact Or.inl h
  · exact Or.inr (Or.inl ⟨h1, cell, c1, State.isArrayOf_alike hvm c2, c3, c4, c5, fun q => ⟨(c6 q).1, (c6 q).2.moved hvm⟩⟩)
  · refine Or.inr (Or.inr (Or.inl ⟨h0, h1, cell, c1, c2, c3, by rw [hvm.findClass]; exact c4, fun k hk => ?_⟩))
    obtain ⟨cf, kf, i, f, f1, f2, f3⟩ := c5 k hk
    obtain ⟨k', hi', he⟩ := State.fieldFound?_setVm hvm f1
    exact ⟨cf, k', i, f, hi', f2, f3⟩
  · exact Or.inr (Or.inr (Or.inr h))
theorem Rel.moved {D : va_G} {ad : Nat → Nat} {H0 : Heap} {u U : State} {g : AH} {H : Heap} (hvm : u.vm.Alike U.vm) (h : Rel D ad H0 u g H) : Rel D ad H0 U g H :=
  ⟨h.1, h.2.1, h.2.2.1, h.2.2.2.1, h.2.2.2.2.1, fun a t n hs => ⟨(h.2.2.2.2.2 a t n hs).1, (h.2.2.2.2.2 a t n hs).2.moved hvm⟩⟩
theorem arrOver_moved {t : FieldType} {u U : State} {a a' : Array Value} (hvm : u.vm.Alike U.vm) (h : (Cond.arrayOver (.array t)).before a u = true) : (Cond.arrayOver (.array t)).before a' U = true := by
  obtain ⟨comp, c, k, h1, h2, h3, h4, h5⟩ := arrayOverA_spec h
  obtain ⟨k', hk', he⟩ := hvm.2.2 _ _ h3
  have hi : (U.vm.classes.findIdx? fun (x : Class) => match x.kind with | .array component _ => component == comp | _ => false) = some c := by
    rw [hvm.findIdx?_eq _ (fun _ => rfl)]; exact h2
  have hkind : k'.kind = .array comp (.array t) := by rw [he]; exact h4
  have f1 : U.vm.findClass (FieldType.array t).toString = some comp := by rw [hvm.findClass]; exact h1
  have f2 : U.vm.findClass ("[" ++ (FieldType.array t).toString) = some c := by rw [hvm.findClass]; exact h5
  unfold Cond.before Cond.holds
  simp only [Cond.value]
  rw [f1, Option.bind_some]
  refine (congrArg (fun o : Option Nat => (o.bind (fun c => (U.vm.classes[c]?).map fun (k : Class) => match k.kind with | .array _ ty => decide (ty = FieldType.array t) && decide (U.vm.findClass ("[" ++ (FieldType.array t).toString) = some c) | _ => false) == some true)) hi).trans ?_
  simp [hk', hkind, f2]
theorem Ks.warm {D : va_G} {ad : Nat → Nat} {H0 : Heap} {s U : State} (h : Ks D ad H0 s) (hW : s.WarmedH U.vm) : Ks D ad H0 U := by
  obtain ⟨h1, h2, h3, h4, h5⟩ := h
  refine ⟨fun w hw a' => word_at hW (good_of_word (List.mem_filter.mp hw).2) (h1 w hw #[]), fun w hw a' => ?_, va_K.moved hW.alike h3, fun q hq => (h4 q hq).warm hW, fun q hq => (h5 q hq).moved hW.alike⟩
  have h6 := h2 w hw #[]
  have h7 := (List.mem_filter.mp hw).2
  cases w <;> first | (cases h7; done) | skip
  all_goals first
    | exact va_Nw.use rfl (va_Nw.warmF hW h6)
    | exact va_Nw.use rfl (va_Nw.warmM hW h6)
    | exact va_Nw.use rfl (va_Nw.warmC hW h6)
    | exact va_Nw.use rfl (va_Nw.warmD hW h6)
    | exact va_tabs rfl (rfl : (s.setVm U.vm).vm = U.vm) (A := #[]) (by rw [Cond.privateMethod_setVm hW.alike]; exact h6)
    | skip
  rename_i ty
  cases ty <;> first | (cases h7; done) | exact va_AO.use (va_AO.moved hW.alike h6) | exact arrOver_moved hW.alike h6
theorem Steps.weak {tb : Tables} {e : Env} {f : Frame} {below : List Frame} {s s' : State} (h : Steps tb e (f :: below) s s') : Steps tb e below s s' := by
  obtain ⟨n, h1, h2⟩ := h
  exact ⟨n, h1, fun k hk => Within.weaken (mid := [f]) (h2 k hk)⟩
/-- what is known of a method that is called: n parameters of its descriptor -/
def MOk (q : MI) (n : Nat) : Prop := plainName q.1.cls = true ∧ (q.1.cls ≠ "java/lang/invoke/MethodHandle" ∧ q.1.cls ≠ "java/lang/invoke/VarHandle") ∧ ((q.2.2.2.2 = [] ∧ Cond.code q.1 q.2.1 q.2.2.1 q.2.2.2.1 ∈ lw_all) ∨ Cond.codeWith q.1 q.2.1 q.2.2.1 q.2.2.2.1 q.2.2.2.2 ∈ lw_all) ∧ (parseMethodDescriptor q.1.desc).map (fun g => g.parameters.length) = some n ∧ q.2.2.1 ≤ 40
theorem MOk.spec {D : va_G} {ad : Nat → Nat} {H0 : Heap} {s : State} {q : MI} {n : Nat} (h : MOk q n) (hK : Ks D ad H0 s) : ∃ mk methk ck, s.methodNamed? q.1 = some mk ∧ s.vm.method? mk = some methk ∧ methk.code = some ck ∧ ck.code = q.2.1 ∧ ck.maxLocals = q.2.2.1 ∧ methk.sig.returnType = q.2.2.2.1 ∧ methk.locks = false ∧ ck.exceptionTable.toList.map (fun h => (h.startPc, h.endPc, h.handlerPc, h.catchType)) = q.2.2.2.2 ∧ n = methk.sig.parameters.length := by
  obtain ⟨-, -, h3, h4, -⟩ := h
  rcases h3 with ⟨e0, w⟩ | w
  · have hc := hK.1 _ w #[]
    obtain ⟨mk, hn⟩ := Cond.code_named hc
    obtain ⟨meth, c, a1, a2, a3, a4, a5, a6, a7, a8⟩ := Cond.code_spec hn hc
    refine ⟨mk, meth, c, hn, a1, a2, a3, a4, a5, a6, ?_, ?_⟩
    · rw [e0]
      have : c.exceptionTable = #[] := by simpa using a7
      rw [this]; rfl
    · rw [a8] at h4
      exact (Option.some.inj h4).symm
  · obtain ⟨mk, meth, c, hn, a1, a2, a3, a4, a5, a6, a7, a8⟩ := Cond.codeWith_spec (hK.1 _ w #[])
    refine ⟨mk, meth, c, hn, a1, a2, a3, a4, a6, a7, a5, ?_⟩
    rw [a8] at h4
    exact (Option.some.inj h4).symm
section IN
variable {p : Program} {l : Launch} {e : Env} {R : Room} {s : State} {m : MethodId} {args : Array Value} {below : List Frame} {meth : Method} {c : Code} {T : State} {locs : List Loc} {cells slots : Nat}
variable {D : va_G} {ad : Nat → Nat} {H0 : Heap} {mi : List MI} {C : CT} {d : Nat} {y : MethodName} {cc : ByteArray} {nL : Nat} {ret : Option FieldType} {hh : List (Nat × Nat × Nat × Nat)}
/-- the call, from the callee's entry to its end -/
theorem go_in (X : Stand p l e R s m args below meth c T locs cells slots) (hC : COk D ad H0 mi C d) (hX : Cx D ad H0 p R s m meth c y cc nL ret hh (d + 1)) {yn n : Nat} {q : MI} (hq : mi[yn]? = some q) (hM : MOk q n) {as : List Value} {g : AH} {r : Outcome × AH} (h : C yn as g = some r) (hR : Rel D ad H0 s g T.heap) (hlo : ∀ q ∈ locs, H0.size ≤ q.base) (hc1 : cells + limC ≤ R.cells + g.2.2.2.2.1 ∧ g.2.2.2.2.1 ≤ limC) (hc2 : slots + limS ≤ R.slots + g.2.2.2.2.2 ∧ g.2.2.2.2.2 ≤ limS)
    {g0 : JFrame} (hg : g0.method = m) (hsize : g0.locals.size = c.maxLocals) (hmr : g0.monitorRoom = 0) (hw : (g0.stack.map fun v => v.category).sum ≤ 8) {ig : Instr} (hdg : decode c.code g0.pc = .ok (ig, 3)) {mk : MethodId} (hn : s.methodNamed? q.1 = some mk) :
    ∃ (T' : State) (L : List Loc) (k n : Nat), Stand p l e R s m args below meth c T' (locs ++ L) (cells + k) (slots + n) ∧ Rel D ad H0 s r.2 T'.heap ∧ (∀ q ∈ locs ++ L, H0.size ≤ q.base) ∧ (cells + k + limC ≤ R.cells + r.2.2.2.2.2.1 ∧ r.2.2.2.2.2.1 ≤ limC) ∧ (slots + n + limS ≤ R.slots + r.2.2.2.2.2.2 ∧ r.2.2.2.2.2.2 ≤ limS) ∧
      ((∃ v, r.1 = .returned v ∧ Steps p.tables e below (doInvoke e (T.setTop g0) [] mk (as.map (mv ad)).toArray).1 (T'.setTop { g0 with pc := g0.pc + 3, stack := (v.map (mv ad)).toList ++ g0.stack })) ∨
       (∃ x, r.1 = .threw x ∧ Steps p.tables e below (doInvoke e (T.setTop g0) [] mk (as.map (mv ad)).toArray).1 ((T'.setTop g0).pushFrame (.throwing (ad x))))) := by
  obtain ⟨mk', methk, ck, b1, b2, b3, b4, b5, b6, b7, b8, b9⟩ := hM.spec hX.2.2.2.2.2.2.2.1
  cases hn.symm.trans b1
  have hal := X.warmed.alike
  have hmk : T.vm.method? mk = some methk := by rw [hal.method?]; exact b2
  have hpk : T.plainMethod mk := by
    refine State.plainMethod.of_name ?_
    intro k hk
    obtain ⟨k', hk', hnm⟩ := className_of_methodNamed b1
    obtain ⟨k2, hk2, he2⟩ := hal.2.2 _ _ hk'
    cases (show T.vm.classes[mk.cls]? = some k from hk).symm.trans hk2
    rw [he2, hnm]
    exact hM.1
  have hfr := hX.2.2.2.2.2.2.2.2.1
  have hlc := hX.2.2.2.2.2.2.2.2.2.1
  have h40 : ck.maxLocals ≤ 40 := by rw [b5]; exact hM.2.2.2.2
  obtain ⟨Y, hdo⟩ := X.into (R' := { frames := R.frames - 1, cells := R.cells - cells, slots := R.slots - slots, locals := R.locals - (ck.maxLocals + 19) }) hg hsize hdg (as.map (mv ad)).toArray hmk b3 b7 hpk
    (by show R.frames - 1 + 1 ≤ R.frames; omega) (by show 2 * g0.monitorRoom + (g0.stack.map fun v => v.category).sum + (ck.maxLocals + 11) + (R.locals - (ck.maxLocals + 19)) ≤ R.locals; rw [hmr]; omega) (by show cells + (R.cells - cells) ≤ R.cells; omega) (by show slots + (R.slots - slots) ≤ R.slots; omega)
  have hwarm : s.WarmedH (T.calling g0 mk (as.map (mv ad)).toArray).vm := X.warmed
  have hcx : Cx D ad H0 p { frames := R.frames - 1, cells := R.cells - cells, slots := R.slots - slots, locals := R.locals - (ck.maxLocals + 19) } (T.calling g0 mk (as.map (mv ad)).toArray) mk methk ck q.1 q.2.1 q.2.2.1 q.2.2.2.1 q.2.2.2.2 d := by
    refine ⟨hX.1, b4, b5, ?_, b6, b7, (name_of_methodNamed b1 b2).1, hX.2.2.2.2.2.2.2.1.warm hwarm, ?_, ?_, b8⟩
    · show T.vm.findClass _ = _
      rw [hal.findClass]
      exact findClass_of_methodNamed b1
    · show d + 10 ≤ R.frames - 1
      omega
    · show 64 * d + 12000 ≤ R.locals - (ck.maxLocals + 19)
      omega
  have hW := hC yn as g r q h hq p l e _ _ mk (as.map (mv ad)).toArray (.java g0 :: below) methk ck T.heap hcx rfl (hR.moved hal) (by show limC ≤ R.cells - cells + _ ∧ _; omega) (by show limS ≤ R.slots - slots + _ ∧ _; omega)
  obtain ⟨t, st, q1, q2, q3, L, k, n', q4, q5, q6, q7, q8⟩ := hW _ (by rfl) Y
  rw [b5] at hdo
  have hst : Steps p.tables e below (doInvoke e (T.setTop g0) [] mk (as.map (mv ad)).toArray).1 t := by
    rw [hdo]
    have := Steps.weak st
    rw [b5] at this
    exact this
  have q6 : k + limC ≤ R.cells - cells + r.2.2.2.2.2.1 ∧ r.2.2.2.2.2.1 ≤ limC := q6
  have q7 : n' + limS ≤ R.slots - slots + r.2.2.2.2.2.2 ∧ r.2.2.2.2.2.2 ≤ limS := q7
  have q8 : Rel D ad H0 s r.2 t.heap := q8.moved hwarm.alike.symm
  cases hr : r.1 with
  | returned v =>
    rw [hr] at q2
    obtain ⟨T', X', z1, z2, z3⟩ := X.outOf hg hdg q2 q3 q4
    have z4 : T'.heap = t.heap := by rw [z3]; rfl
    refine ⟨T', L, k, n', X', by rw [z4]; exact q8, t_lL hlo q5, by omega, by omega, Or.inl ⟨v, rfl, ?_⟩⟩
    rw [← z3]
    exact hst
  | threw x =>
    rw [hr] at q2
    obtain ⟨T', X', z1, z2, z3⟩ := X.outOfThrown hg q2 q3 q4
    have z4 : T'.heap = t.heap := by rw [z3]; rfl
    refine ⟨T', L, k, n', X', by rw [z4]; exact q8, t_lL hlo q5, by omega, by omega, Or.inr ⟨x, rfl, ?_⟩⟩
    rw [← z3]
    exact hst
end IN

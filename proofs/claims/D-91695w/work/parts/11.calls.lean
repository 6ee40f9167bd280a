/-! SOUNDNESS: the invoking instructions -/
def fin (nx : Nat) (hp : Option (Nat × Nat)) (ls rest : List Value) (r : Option (Outcome × AH)) (k : KT) : Option (Outcome × AH) := match r with
  | some (.returned v, g) => k nx ls (v.toList ++ rest) g
  | some (.threw x, g) => (match hp with
    | none => some (.threw x, g)
    | some (h, t) => bif okT [t] (g.2.2.2.1 x) && isNew x then k h ls [.ref x] g else none)
  | none => none
theorem lp_fin (nx : Nat) (hp : Option (Nat × Nat)) (ls rest : List Value) (r : Option (Outcome × AH)) : LinP (fin nx hp ls rest r) := by
  cases r with
  | none => exact lp_no
  | some q =>
    obtain ⟨o, g⟩ := q
    cases o with
    | returned v => exact lp_go _ _ _ _
    | threw x =>
      cases hp with
      | none => exact lp_end _
      | some z => exact lp_bif _ (lp_go _ _ _ _) lp_no
/-- a static call -/
def aCalS (y n nx : Nat) (hp : Option (Nat × Nat)) : Act := fun C ls st g k => match popN n [] st with
  | some (as, r) => bif Nat.ble (wgt r) 8 then fin nx hp ls r (C y as g) k else none
  | none => none
/-- a call through an object of one of the classes ts -/
def aCalV (y n nx : Nat) (ts : List Nat) (hp : Option (Nat × Nat)) : Act := fun C ls st g k => match popN n [] st with
  | some (as, .ref a :: r) => bif Nat.ble (wgt r) 8 && okT ts (g.2.2.2.1 a) then fin nx hp ls r (C y (.ref a :: as) g) k else none
  | _ => none
/-- a constructor's call -/
def aCalI (y n nx : Nat) (hp : Option (Nat × Nat)) : Act := fun C ls st g k => match popN n [] st with
  | some (as, .ref a :: r) => bif Nat.ble (wgt r) 8 then fin nx hp ls r (C y (.ref a :: as) g) k else none
  | _ => none
theorem popN_spec : ∀ (n : Nat) (acc st as r : List Value), popN n acc st = some (as, r) → ∃ xs, as = xs ++ acc ∧ xs.length = n ∧ st = xs.reverse ++ r := by
  intro n
  induction n with
  | zero => intro acc st as r h; cases h; exact ⟨[], rfl, rfl, rfl⟩
  | succ n ih =>
    intro acc st as r h
    cases st with
    | nil => cases h
    | cons v st =>
      obtain ⟨xs, h1, h2, h3⟩ := ih (v :: acc) st as r h
      exact ⟨xs ++ [v], by rw [h1]; simp, by simp [h2], by rw [h3]; simp⟩
theorem wgt_sum (ad : Nat → Nat) (l : List Value) : ((l.map (mv ad)).map fun v => v.category).sum = wgt l := by
  induction l with
  | nil => rfl
  | cons v l ih => simp only [List.map_cons, List.sum_cons, ih, mv_cat, wgt]
section CALL
variable {p : Program} {l : Launch} {e : Env} {R : Room} {s : State} {m : MethodId} {args : Array Value} {below : List Frame} {meth : Method} {c : Code} {T : State} {locs : List Loc} {cells slots : Nat}
variable {D : va_G} {ad : Nat → Nat} {H0 : Heap} {mi : List MI} {C : CT} {d : Nat} {y : MethodName} {cc : ByteArray} {nL pc : Nat} {ret : Option FieldType} {hh : List (Nat × Nat × Nat × Nat)}
/-- no handler at pc -/
def NoH (hh : List (Nat × Nat × Nat × Nat)) (pc : Nat) : Prop := ∀ q ∈ hh, ¬ (q.1 ≤ pc ∧ pc < q.2.1)
theorem noH_out (hX : Cx D ad H0 p R s m meth c y cc nL ret hh d) (h : NoH hh pc) : ∀ x ∈ c.exceptionTable.toList, covers x pc = false := by
  intro x hx
  have e1 := hX.2.2.2.2.2.2.2.2.2.2
  have h2 := h (x.startPc, x.endPc, x.handlerPc, x.catchType) (by rw [← e1]; exact List.mem_map.mpr ⟨x, hx, rfl⟩)
  cases hc : covers x pc with
  | false => rfl
  | true =>
    simp only [covers, Bool.and_eq_true, decide_eq_true_eq] at hc
    exact absurd hc h2
/-- what the handler at pc catches, if it catches: the handler goes on -/
def HOk (D : va_G) (ad : Nat → Nat) (H0 : Heap) (y : MethodName) (cc : ByteArray) (nL : Nat) (ret : Option FieldType) (hh : List (Nat × Nat × Nat × Nat)) (pc : Nat) (hp : Option (Nat × Nat)) : Prop := match hp with
  | none => NoH hh pc
  | some (h, t) => ∀ (p : Program) (l : Launch) (e : Env) (R : Room) (s : State) (m : MethodId) (args : Array Value) (below : List Frame) (meth : Method) (c : Code) (T : State) (locs : List Loc) (cells slots d x n : Nat) (g : AH) (g0 : JFrame), Cx D ad H0 p R s m meth c y cc nL ret hh d → Stand p l e R s m args below meth c T locs cells slots → Rel D ad H0 s g T.heap → g.2.2.2.1 x = some (t, n) → oldN ≤ x → g0.method = m → g0.pc = pc → ∃ vm', Stand p l e R s m args below meth c (T.setVm vm') locs cells slots ∧ ∀ target, Steps p.tables e below ((T.setVm vm').setTop { g0 with pc := h, stack := [.ref (ad x)] }) target → Steps p.tables e below ((T.setTop g0).pushFrame (.throwing (ad x))) target
theorem call_end (X : Stand p l e R s m args below meth c T locs cells slots) (hC : COk D ad H0 mi C d) (hX : Cx D ad H0 p R s m meth c y cc nL ret hh (d + 1)) {yn n nx : Nat} {q : MI} (hq : mi[yn]? = some q) (hM : MOk q n) {as rest ls : List Value} {g : AH} {r : Outcome × AH} {hp : Option (Nat × Nat)} (hhp : HOk D ad H0 y cc nL ret hh pc hp) {k : KT} (h : fin nx hp ls rest (C yn as g) k = some r) (hn : pc + 3 = nx) {ls' : Array Slot} (hF : FR D ad H0 R s nL ls g T.heap locs cells slots ls')
    (hw : wgt rest ≤ 8) {ig : Instr} (hdg : decode cc pc = .ok (ig, 3)) {mk : MethodId} (hnm : s.methodNamed? q.1 = some mk)
    (hk : ∀ (pc2 : Nat) (ls2 st2 : List Value) (g2 : AH), k pc2 ls2 st2 g2 = some r → ∀ (H2 : Heap) (locs2 : List Loc) (cells2 slots2 : Nat) (ls2' : Array Slot), FR D ad H0 R s nL ls2 g2 H2 locs2 cells2 slots2 ls2' → W p l e R s m args below meth c H2 locs2 cells2 slots2 (QE D ad H0 R s below r) (F0 m pc2 ls2' (st2.map (mv ad)))) :
    ∃ t, Steps p.tables e below (doInvoke e (T.setTop (F0 m pc ls' (rest.map (mv ad)))) [] mk (as.map (mv ad)).toArray).1 t ∧ QE D ad H0 R s below r t := by
  cases hr : C yn as g with
  | none => rw [hr] at h; cases h
  | some rc =>
    rw [hr] at h
    obtain ⟨T', L, k', n', X', z1, z2, z3, z4, z5⟩ := go_in X hC hX hq hM hr hF.2.1 hF.2.2.1 hF.2.2.2.1 hF.2.2.2.2 (g0 := F0 m pc ls' (rest.map (mv ad))) rfl (by show ls'.size = c.maxLocals; rw [hF.1.1, hX.2.2.1]) rfl (by show ((rest.map (mv ad)).map fun v => v.category).sum ≤ 8; rw [wgt_sum]; exact hw) (ig := ig) (by rw [hX.2.1]; exact hdg) hnm
    rcases z5 with ⟨v, e1, st⟩ | ⟨x, e1, st⟩
    · obtain ⟨o, g'⟩ := rc
      cases e1
      have h : k nx ls (v.toList ++ rest) g' = some r := h
      subst hn
      obtain ⟨t, a1, b1⟩ := hk _ _ _ _ h T'.heap _ _ _ ls' ⟨hF.1, z1, z2, z3, z4⟩ T' rfl X'
      refine ⟨t, st.trans ?_, b1⟩
      have e2 : (v.toList ++ rest).map (mv ad) = (v.map (mv ad)).toList ++ rest.map (mv ad) := by cases v <;> simp
      rw [e2] at a1
      exact a1
    · obtain ⟨o, g'⟩ := rc
      cases e1
      cases hp with
      | none =>
        cases h
        have hlocks : meth.locks = false := hX.2.2.2.2.2.1
        obtain ⟨s1, s2, s3, s4, s5⟩ := X'.leaveThrown (ad x) (g := F0 m pc ls' (rest.map (mv ad))) rfl rfl rfl (noH_out hX hhp)
        exact ⟨_, st.trans s1, s2, s3, s4, _, _, _, s5, z2, z3, z4, z1⟩
      | some hz =>
        obtain ⟨hpc, tg⟩ := hz
        obtain ⟨hb, h⟩ := bif_t (show (bif okT [tg] (g'.2.2.2.1 x) && isNew x then k hpc ls [.ref x] g' else none) = some r from h)
        obtain ⟨hb, hb2⟩ := (Bool.and_eq_true _ _).mp hb |>.imp id id
        obtain ⟨t, n2, hs, hm⟩ := okT_spec hb
        cases List.mem_singleton.mp hm
        have hW := hk _ _ _ _ h T'.heap _ _ _ ls' ⟨hF.1, z1, z2, z3, z4⟩
        have key : ∃ tt, Steps p.tables e below ((T'.setTop (F0 m pc ls' (rest.map (mv ad)))).pushFrame (.throwing (ad x))) tt ∧ QE D ad H0 R s below r tt := by
          obtain ⟨vm', X'', hs2⟩ := hhp p l e R s m args below meth c T' _ _ _ _ x n2 g' (F0 m pc ls' (rest.map (mv ad))) hX X' z1 hs (isNew_spec hb2) rfl rfl
          obtain ⟨tt, a1, b1⟩ := hW (T'.setVm vm') rfl X''
          exact ⟨tt, hs2 tt a1, b1⟩
        obtain ⟨tt, k1, k2⟩ := key
        exact ⟨tt, st.trans k1, k2⟩
end CALL

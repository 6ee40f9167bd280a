/-! THE ABSTRACT MACHINE AGAINST THE MACHINE: what it is that they stand for each other; what a sound instruction is -/
def mv (ad : Nat → Nat) (v : Value) : Value := match v with
  | .ref a => .ref (ad a)
  | w => w
def mo (ad : Nat → Nat) (o : Outcome) : Outcome := match o with
  | .returned v => .returned (v.map (mv ad))
  | .threw a => .threw (ad a)
def etyN (t : Nat) : FieldType := match t with
  | 100 => .int
  | 101 => .byte
  | 102 => .boolean
  | 103 => .long
  | 110 => .array .byte
  | 111 => .array .int
  | 112 => .object "PlugHall$Box"
  | 113 => .object "PlugHall$Board"
  | 114 => .object "java/lang/String"
  | _ => .object "PlugHall$Sort"
def vF (ad : Nat → Nat) (g : AH) (ty : FieldType) (a k : Nat) : Value := match ty with
  | .long => .long (g.2.1 a k)
  | .object _ => va_rf ((g.2.2.1 a k).map ad)
  | .array _ => va_rf ((g.2.2.1 a k).map ad)
  | _ => .int (g.1 a k)
/-- the name by which a component's class is found -/
def cnm (t : FieldType) : String := match t with
  | .object C => C
  | t => t.toString
/-- an array's class: its component is the class of that name; it is the class of its own name -/
def RAx (U : State) (cA : ClassId) (ty : FieldType) : Prop := ∃ (kA : Class) (comp : ClassId), U.vm.classes[cA]? = some kA ∧ kA.kind = .array comp ty ∧ U.vm.findClass ("[" ++ ty.toString) = some cA ∧ (ty.isReference = true → U.vm.findClass (cnm ty) = some comp)
/-- the fields of an enum's constant that are read -/
def soN (k : Nat) : String × String × FieldType := match k with
  | 0 => ("word", "Ljava/lang/String;", .object "java/lang/String")
  | 1 => ("from", "I", .int)
  | 2 => ("first", "I", .int)
  | _ => ("second", "I", .int)
/-- the cell that stands for a -/
def CellOk (D : va_G) (ad : Nat → Nat) (U : State) (g : AH) (H : Heap) (a t n : Nat) : Prop :=
  (oldN ≤ a ∧ t < 50 ∧ ∃ q : vw_C, cls[t]? = some q ∧ t_OB (ad a) (D.1 t) q.2.2 (D.2 t) H (fun k => vF ad g (tyN t k) a k)) ∨
  (100 ≤ t ∧ ∃ cell : Cell, H[ad a]? = some cell ∧ U.isArrayOf cell (etyN t) ∧ cell.vm ≠ .unknown ∧ cell.slots.size = n ∧ (∀ j : Nat, j < n → cell.slots[j]? = some (vF ad g (etyN t) a j) ∧ fits (etyN t) (vF ad g (etyN t) a j) = true) ∧ (oldN ≤ a → cell.vm = .none ∧ RAx U cell.cls (etyN t))) ∨
  (a < oldN ∧ t = 50 ∧ ∃ cell : Cell, H[ad a]? = some cell ∧ cell.vm.isStatics = false ∧ cell.vm ≠ .unknown ∧ U.vm.findClass "PlugHall$Sort" = some cell.cls ∧ ∀ k, k < 4 → ∃ (cf : ClassId) (kf : Class) (i : Nat) (f : Field), U.fieldFound? "PlugHall$Sort" (soN k).1 (soN k).2.1 = some (cf, kf, i, f) ∧ f.isStatic = false ∧ cell.slots[f.slot]? = some (vF ad g (soN k).2.2 a k)) ∨
  (a < oldN ∧ t = 13 ∧ ∃ cell : Cell, H[ad a]? = some cell ∧ cell.vm.isStatics = false ∧ cell.vm ≠ .unknown ∧ cell.cls = D.1 13 ∧ ∀ k, k < 2 → cell.slots[D.2 13 k]? = some (vF ad g (tyN 13 k) a k))
def Rel (D : va_G) (ad : Nat → Nat) (H0 : Heap) (U : State) (g : AH) (H : Heap) : Prop :=
  H.size + oldN = H0.size + g.2.2.2.2.1 ∧ oldN ≤ g.2.2.2.2.1 ∧ (∀ a, oldN ≤ a → ad a = H0.size + (a - oldN)) ∧ (∀ a, a < oldN → ad a < H0.size) ∧ (∀ q : Nat, q < H0.size → H[q]? = H0[q]?) ∧ ∀ a t n, g.2.2.2.1 a = some (t, n) → a < g.2.2.2.2.1 ∧ CellOk D ad U g H a t n
/-- words that do not ride in lw_all, but stay -/
def nestW : Cond → Bool
  | .fieldLinkNest .. => true
  | .methodLinkNest .. => true
  | .castable .. => true
  | .arrayOver (.object _) => true
  | .arrayOver (.array _) => true
  | .declares _ => true
  | .privateMethod _ => true
  | _ => false
def nst : List Cond := lw_tbl.filter nestW
/-- the strings' constants: class, entry, text, number -/
def strT : List (String × Nat × String × Nat) := [("PlugHall$Tokens", 7, "", 1), ("PlugHall$JobReader", 52, "field", 2), ("PlugHall$JobReader", 58, "break", 3), ("PlugHall$JobReader", 60, "sum", 4), ("PlugHall$JobReader", 62, "count", 5), ("PlugHall$JobReader", 24, " field break sum count over ", 6), ("PlugHall$JobReader", 29, " ", 7), ("PlugHall$JobReader", 130, "over", 8)]
/-- the statics that are read: class, name, descriptor, value -/
def staT : List (String × String × String × Value) := [("java/lang/String", "COMPACT_STRINGS", "Z", .int 1), ("PlugHall", "SORTS", "[LPlugHall$Sort;", .ref 9)]
def Kc (ad : Nat → Nat) (H0 : Heap) (s : State) : Prop := (∀ q ∈ strT, vk_R q.1 q.2.1 q.2.2.1 (ad q.2.2.2) s) ∧ ∀ q ∈ staT, va_Z q.1 q.2.1 q.2.2.1 (mv ad q.2.2.2) (fun a => H0.size ≤ a) s H0
/-- the words that every invocation's tables hold -/
def Ks (D : va_G) (ad : Nat → Nat) (H0 : Heap) (s : State) : Prop := (∀ w ∈ lw_all, ∀ a' : Array Value, w.before a' s = true) ∧ (∀ w ∈ nst, ∀ a' : Array Value, w.before a' s = true) ∧ va_K D cls [] s ∧ Kc ad H0 s
/-- an invocation of the method y -/
def Cx (D : va_G) (ad : Nat → Nat) (H0 : Heap) (p : Program) (R : Room) (s : State) (m : MethodId) (meth : Method) (c : Code) (y : MethodName) (cc : ByteArray) (nL : Nat) (ret : Option FieldType) (hh : List (Nat × Nat × Nat × Nat)) (d : Nat) : Prop :=
  p.tables.exec = Jvm.exec ∧ c.code = cc ∧ c.maxLocals = nL ∧ s.vm.findClass y.cls = some m.cls ∧ meth.sig.returnType = ret ∧ meth.locks = false ∧ meth.name = y.name ∧ Ks D ad H0 s ∧ d + 10 ≤ R.frames ∧ 64 * d + 12000 ≤ R.locals ∧ c.exceptionTable.toList.map (fun h => (h.startPc, h.endPc, h.handlerPc, h.catchType)) = hh
/-- locals -/
def LR (ad : Nat → Nat) (nL : Nat) (ls : List Value) (ls' : Array Slot) : Prop := ls'.size = nL ∧ ls.length = nL ∧ lv_wf ls' ∧ ∀ (i : Nat) (v : Value), ls[i]? = some v → (∀ n, v ≠ .retAddr n) → ls'[i]? = some (.val (mv ad v))
/-- a frame, its heap, what it may still use -/
def FR (D : va_G) (ad : Nat → Nat) (H0 : Heap) (R : Room) (s : State) (nL : Nat) (ls : List Value) (g : AH) (H : Heap) (locs : List Loc) (cells slots : Nat) (ls' : Array Slot) : Prop :=
  LR ad nL ls ls' ∧ Rel D ad H0 s g H ∧ (∀ q ∈ locs, H0.size ≤ q.base) ∧ (cells + limC ≤ R.cells + g.2.2.2.2.1 ∧ g.2.2.2.2.1 ≤ limC) ∧ (slots + limS ≤ R.slots + g.2.2.2.2.2 ∧ g.2.2.2.2.2 ≤ limS)
/-- the end of an invocation -/
def QE (D : va_G) (ad : Nat → Nat) (H0 : Heap) (R : Room) (s : State) (below : List Frame) (r : Outcome × AH) : State → Prop := fun t =>
  t.status = .running ∧ Ended t below (mo ad r.1) ∧ s.WarmedH t.vm ∧ ∃ (L : List Loc) (k n : Nat), s.sameButNew ({ t with vm := s.vm } : State) L k n ∧ (∀ q ∈ L, H0.size ≤ q.base) ∧ (k + limC ≤ R.cells + r.2.2.2.2.2.1 ∧ r.2.2.2.2.2.1 ≤ limC) ∧ (n + limS ≤ R.slots + r.2.2.2.2.2.2 ∧ r.2.2.2.2.2.2 ≤ limS) ∧ Rel D ad H0 s r.2 t.heap
/-- what is known of the methods, by their numbers: name, code, locals, answer, handlers -/
abbrev MI : Type := MethodName × ByteArray × Nat × Option FieldType × List (Nat × Nat × Nat × Nat)
/-- the callee semantics C is met by the machine, at depth d -/
def COk (D : va_G) (ad : Nat → Nat) (H0 : Heap) (mi : List MI) (C : CT) (d : Nat) : Prop :=
  ∀ (y : Nat) (a : List Value) (g : AH) (r : Outcome × AH) (q : MI), C y a g = some r → mi[y]? = some q →
    ∀ (p : Program) (l : Launch) (e : Env) (R : Room) (s : State) (m : MethodId) (args : Array Value) (below : List Frame) (meth : Method) (c : Code) (H : Heap),
      Cx D ad H0 p R s m meth c q.1 q.2.1 q.2.2.1 q.2.2.2.1 q.2.2.2.2 d → args = (a.map (mv ad)).toArray → Rel D ad H0 s g H → (limC ≤ R.cells + g.2.2.2.2.1 ∧ g.2.2.2.2.1 ≤ limC) → (limS ≤ R.slots + g.2.2.2.2.2 ∧ g.2.2.2.2.2 ≤ limS) →
      W p l e R s m args below meth c H [] 0 0 (QE D ad H0 R s below r) (entryFrame m args q.2.2.1)
/-- a sound instruction at pc of the method y -/
def Sd (mi : List MI) (y : MethodName) (cc : ByteArray) (nL : Nat) (ret : Option FieldType) (hh : List (Nat × Nat × Nat × Nat)) (pc : Nat) (act : Act) : Prop := Lin act ∧
  ∀ (D : va_G) (ad : Nat → Nat) (H0 : Heap) (C : CT) (d : Nat) (p : Program) (l : Launch) (e : Env) (R : Room) (s : State) (m : MethodId) (args : Array Value) (below : List Frame) (meth : Method) (c : Code),
    COk D ad H0 mi C d → Cx D ad H0 p R s m meth c y cc nL ret hh (d + 1) →
    ∀ (ls st : List Value) (g : AH) (k : KT) (r : Outcome × AH) (H : Heap) (locs : List Loc) (cells slots : Nat) (ls' : Array Slot),
      act C ls st g k = some r → FR D ad H0 R s nL ls g H locs cells slots ls' →
      (∀ (pc2 : Nat) (ls2 st2 : List Value) (g2 : AH), k pc2 ls2 st2 g2 = some r → ∀ (H2 : Heap) (locs2 : List Loc) (cells2 slots2 : Nat) (ls2' : Array Slot), FR D ad H0 R s nL ls2 g2 H2 locs2 cells2 slots2 ls2' →
        W p l e R s m args below meth c H2 locs2 cells2 slots2 (QE D ad H0 R s below r) (F0 m pc2 ls2' (st2.map (mv ad)))) →
      W p l e R s m args below meth c H locs cells slots (QE D ad H0 R s below r) (F0 m pc ls' (st.map (mv ad)))

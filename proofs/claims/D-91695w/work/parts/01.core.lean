/-! THE ABSTRACT MACHINE: a heap of numbered cells, instructions as functions in continuation style, the meaning E of a frame as a limit -/
abbrev AH : Type := (Nat → Nat → Int32) × (Nat → Nat → Int64) × (Nat → Nat → Option Nat) × (Nat → Option (Nat × Nat)) × Nat × Nat
abbrev KT : Type := Nat → List Value → List Value → AH → Option (Outcome × AH)
abbrev CT : Type := Nat → List Value → AH → Option (Outcome × AH)
abbrev Act : Type := CT → List Value → List Value → AH → KT → Option (Outcome × AH)
def aBad : Act := fun _ _ _ _ _ => none
def nth : List Act → Nat → Act
  | [], _ => aBad
  | a :: _, 0 => a
  | _ :: l, n + 1 => nth l n
def runN (tab : List Act) (C : CT) : Nat → KT
  | 0 => fun _ _ _ _ => none
  | n + 1 => fun pc ls st g => nth tab pc C ls st g (runN tab C n)
/-- an instruction goes on at one place, or ends, or sticks -/
def Lin (a : Act) : Prop := ∀ (C : CT) (ls st : List Value) (g : AH), (∀ k : KT, a C ls st g k = none) ∨ (∃ (pc' : Nat) (ls' st' : List Value) (g' : AH), ∀ k : KT, a C ls st g k = k pc' ls' st' g') ∨ (∃ r : Outcome × AH, ∀ k : KT, a C ls st g k = some r)
def LinP (f : KT → Option (Outcome × AH)) : Prop := (∀ k : KT, f k = none) ∨ (∃ (pc' : Nat) (ls' st' : List Value) (g' : AH), ∀ k : KT, f k = k pc' ls' st' g') ∨ (∃ r : Outcome × AH, ∀ k : KT, f k = some r)
theorem lp_no : LinP (fun _ => none) := Or.inl fun _ => rfl
theorem lp_go (pc : Nat) (ls st : List Value) (g : AH) : LinP (fun k => k pc ls st g) := Or.inr (Or.inl ⟨pc, ls, st, g, fun _ => rfl⟩)
theorem lp_end (r : Outcome × AH) : LinP (fun _ => some r) := Or.inr (Or.inr ⟨r, fun _ => rfl⟩)
theorem lp_bif (b : Bool) {f f2 : KT → Option (Outcome × AH)} (h : LinP f) (h2 : LinP f2) : LinP (fun k => bif b then f k else f2 k) := by
  cases b
  · exact h2
  · exact h
theorem lp_ite (P : Prop) (i : Decidable P) {f f2 : KT → Option (Outcome × AH)} (h : LinP f) (h2 : LinP f2) : LinP (fun k => @ite _ P i (f k) (f2 k)) := by
  by_cases q : P
  · simp only [if_pos q]; exact h
  · simp only [if_neg q]; exact h2
def LinT (tab : List Act) : Prop := ∀ pc, Lin (nth tab pc)
theorem lin_bad : Lin aBad := fun _ _ _ _ => Or.inl fun _ => rfl
theorem lin_nil : LinT [] := fun pc => by cases pc <;> exact lin_bad
theorem lin_cons {a : Act} {l : List Act} (h : Lin a) (t : LinT l) : LinT (a :: l) := fun pc => by
  cases pc with
  | zero => exact h
  | succ n => exact t n
theorem runN_mono {tab : List Act} (hl : LinT tab) (C : CT) : ∀ (n pc : Nat) (ls st : List Value) (g : AH) (r : Outcome × AH), runN tab C n pc ls st g = some r → runN tab C (n + 1) pc ls st g = some r := by
  intro n
  induction n with
  | zero => intro pc ls st g r h; cases h
  | succ n ih =>
    intro pc ls st g r h
    have h1 : nth tab pc C ls st g (runN tab C n) = some r := h
    show nth tab pc C ls st g (runN tab C (n + 1)) = some r
    rcases hl pc C ls st g with q | ⟨pc', ls', st', g', q⟩ | ⟨r', q⟩
    · rw [q] at h1; cases h1
    · rw [q] at h1 ⊢; exact ih _ _ _ _ _ h1
    · rw [q] at h1 ⊢; exact h1
theorem runN_le {tab : List Act} (hl : LinT tab) (C : CT) {n m : Nat} (hnm : n ≤ m) {pc : Nat} {ls st : List Value} {g : AH} {r : Outcome × AH} (h : runN tab C n pc ls st g = some r) : runN tab C m pc ls st g = some r := by
  induction hnm with
  | refl => exact h
  | step _ ih => exact runN_mono hl C _ _ _ _ _ _ ih
noncomputable def E (tab : List Act) (C : CT) : KT := fun pc ls st g => @dite _ (∃ r : Outcome × AH, ∃ n : Nat, runN tab C n pc ls st g = some r) (Classical.propDecidable _) (fun h => some h.choose) (fun _ => none)
theorem E_iff {tab : List Act} (hl : LinT tab) {C : CT} {pc : Nat} {ls st : List Value} {g : AH} {r : Outcome × AH} : E tab C pc ls st g = some r ↔ ∃ n, runN tab C n pc ls st g = some r := by
  unfold E
  constructor
  · intro h
    split at h
    · next q =>
      cases h
      exact q.choose_spec
    · cases h
  · rintro ⟨n, h⟩
    have q : ∃ r : Outcome × AH, ∃ n : Nat, runN tab C n pc ls st g = some r := ⟨r, n, h⟩
    rw [dif_pos q]
    obtain ⟨n2, h2⟩ := q.choose_spec
    have h3 := runN_le hl C (Nat.le_max_left n n2) h
    have h4 := runN_le hl C (Nat.le_max_right n n2) h2
    exact h4.symm.trans h3
theorem E_step {tab : List Act} (hl : LinT tab) (C : CT) (pc : Nat) (ls st : List Value) (g : AH) : E tab C pc ls st g = nth tab pc C ls st g (E tab C) := by
  have key : ∀ r, E tab C pc ls st g = some r ↔ nth tab pc C ls st g (E tab C) = some r := by
    intro r
    rw [E_iff hl]
    rcases hl pc C ls st g with q | ⟨pc', ls', st', g', q⟩ | ⟨r', q⟩
    · rw [q]
      constructor
      · rintro ⟨n, h⟩
        cases n with
        | zero => cases h
        | succ n =>
          have h1 : nth tab pc C ls st g (runN tab C n) = some r := h
          rw [q] at h1; cases h1
      · intro h; cases h
    · rw [q, E_iff hl]
      constructor
      · rintro ⟨n, h⟩
        cases n with
        | zero => cases h
        | succ n =>
          have h1 : nth tab pc C ls st g (runN tab C n) = some r := h
          rw [q] at h1
          exact ⟨n, h1⟩
      · rintro ⟨n, h⟩
        exact ⟨n + 1, show nth tab pc C ls st g (runN tab C n) = some r by rw [q]; exact h⟩
    · rw [q]
      constructor
      · rintro ⟨n, h⟩
        cases n with
        | zero => cases h
        | succ n =>
          have h1 : nth tab pc C ls st g (runN tab C n) = some r := h
          rw [q] at h1; exact h1
      · intro h
        exact ⟨1, show nth tab pc C ls st g (runN tab C 0) = some r by rw [q]; exact h⟩
  cases h : E tab C pc ls st g with
  | some r => exact ((key r).mp h).symm
  | none =>
    cases h2 : nth tab pc C ls st g (E tab C) with
    | none => rfl
    | some r => exact absurd (h.symm.trans ((key r).mpr h2)) (by intro q; cases q)
/-- unfolding up to cut points -/
noncomputable def EK (tab : List Act) (C : CT) (cut : List Nat) : Nat → KT
  | 0 => E tab C
  | n + 1 => fun pc ls st g => bif cut.elem pc then E tab C pc ls st g else nth tab pc C ls st g (EK tab C cut n)
theorem EK_eq {tab : List Act} (hl : LinT tab) (C : CT) (cut : List Nat) : ∀ n, EK tab C cut n = E tab C := by
  intro n
  induction n with
  | zero => rfl
  | succ n ih =>
    funext pc ls st g
    show (bif cut.elem pc then E tab C pc ls st g else nth tab pc C ls st g (EK tab C cut n)) = _
    cases cut.elem pc with
    | true => rfl
    | false => show nth tab pc C ls st g (EK tab C cut n) = _; rw [ih, E_step hl]
theorem E_unf {tab : List Act} (hl : LinT tab) (C : CT) (cut : List Nat) (n pc : Nat) (ls st : List Value) (g : AH) : E tab C pc ls st g = nth tab pc C ls st g (EK tab C cut n) := by
  rw [EK_eq hl C cut n, ← E_step hl]
def nv : Value := .retAddr 0
def spread : List Value → List Value
  | [] => []
  | .long x :: l => .long x :: nv :: spread l
  | v :: l => v :: spread l
def padTo : Nat → List Value → List Value
  | 0, _ => []
  | n + 1, [] => nv :: padTo n []
  | n + 1, v :: l => v :: padTo n l
/-- the arguments that a method takes: no doubles, and they fit its locals -/
def argsOk (nL : Nat) (as : List Value) : Bool := decide ((lg_sl as).length ≤ nL) && as.all (fun v => match v with
  | .double _ => false
  | .float _ => false
  | _ => true)
noncomputable def CD (mt : List (List Act × Nat)) : Nat → CT
  | 0 => fun _ _ _ => none
  | d + 1 => fun y args g => match mt[y]? with
    | some (tab, nL) => bif argsOk nL args then E tab (CD mt d) 0 (padTo nL (spread args)) [] g else none
    | none => none
def limC : Nat := 600000
def limS : Nat := 7200000
/-- in range -/
def inb (i : Int32) (n : Nat) : Bool := decide (¬ (i < 0 ∨ n ≤ i.toNatClampNeg))
def okT (ts : List Nat) (x : Option (Nat × Nat)) : Bool := match x with
  | some (t, _) => ts.elem t
  | none => false
def lenOf (x : Option (Nat × Nat)) : Nat := match x with
  | some (_, n) => n
  | none => 0
def popN : Nat → List Value → List Value → Option (List Value × List Value)
  | 0, acc, st => some (acc, st)
  | n + 1, acc, v :: st => popN n (v :: acc) st
  | _ + 1, _, [] => none
def wgt : List Value → Nat
  | [] => 0
  | v :: l => v.category + wgt l
def st1 (ls : List Value) (i : Nat) (v : Value) : List Value := match i with
  | 0 => ls.set 0 v
  | j + 1 => (match ls[j]? with
    | some (.long _) => ls.set j nv
    | some (.double _) => ls.set j nv
    | _ => ls).set (j + 1) v
def st2 (ls : List Value) (i : Nat) (v : Value) : List Value := (st1 ls i v).set (i + 1) nv
/-! the instructions -/
def aK (v : Value) (nx : Nat) : Act := fun _ ls st g k => k nx ls (v :: st) g
def aLdI (i nx : Nat) : Act := fun _ ls st g k => match ls[i]? with
  | some (.int x) => k nx ls (.int x :: st) g
  | _ => none
def aLdL (i nx : Nat) : Act := fun _ ls st g k => match ls[i]? with
  | some (.long x) => k nx ls (.long x :: st) g
  | _ => none
def aLdA (i nx : Nat) : Act := fun _ ls st g k => match ls[i]? with
  | some (.ref x) => k nx ls (.ref x :: st) g
  | some .null => k nx ls (.null :: st) g
  | _ => none
def aStI (i nx : Nat) : Act := fun _ ls st g k => match st with
  | .int x :: r => bif decide (i < ls.length) then k nx (st1 ls i (.int x)) r g else none
  | _ => none
def aStL (i nx : Nat) : Act := fun _ ls st g k => match st with
  | .long x :: r => bif decide (i + 1 < ls.length) then k nx (st2 ls i (.long x)) r g else none
  | _ => none
def aStA (i nx : Nat) : Act := fun _ ls st g k => match st with
  | .ref x :: r => bif decide (i < ls.length) then k nx (st1 ls i (.ref x)) r g else none
  | .null :: r => bif decide (i < ls.length) then k nx (st1 ls i .null) r g else none
  | _ => none
def aInc (i : Nat) (c : Int32) (nx : Nat) : Act := fun _ ls st g k => match ls[i]? with
  | some (.int x) => k nx (st1 ls i (.int (x + c))) st g
  | _ => none
def aB (f : Int32 → Int32 → Int32) (nx : Nat) : Act := fun _ ls st g k => match st with
  | .int y :: .int x :: r => k nx ls (.int (f x y) :: r) g
  | _ => none
def aDiv (nx : Nat) : Act := fun _ ls st g k => match st with
  | .int y :: .int x :: r => bif decide (y = 0) then none else k nx ls (.int (x / y) :: r) g
  | _ => none
def aRem (nx : Nat) : Act := fun _ ls st g k => match st with
  | .int y :: .int x :: r => bif decide (y = 0) then none else k nx ls (.int (x - x / y * y) :: r) g
  | _ => none
def aU (f : Int32 → Int32) (nx : Nat) : Act := fun _ ls st g k => match st with
  | .int x :: r => k nx ls (.int (f x) :: r) g
  | _ => none
def aI2L (nx : Nat) : Act := fun _ ls st g k => match st with
  | .int x :: r => k nx ls (.long x.toInt64 :: r) g
  | _ => none
def aLB (f : Int64 → Int64 → Int64) (nx : Nat) : Act := fun _ ls st g k => match st with
  | .long y :: .long x :: r => k nx ls (.long (f x y) :: r) g
  | _ => none
def aLS (f : Int64 → Int32 → Int64) (nx : Nat) : Act := fun _ ls st g k => match st with
  | .int y :: .long x :: r => k nx ls (.long (f x y) :: r) g
  | _ => none
def aLcmp (nx : Nat) : Act := fun _ ls st g k => match st with
  | .long y :: .long x :: r => k nx ls (.int (lg_cmp x y) :: r) g
  | _ => none
def aGoto (t : Nat) : Act := fun _ ls st g k => k t ls st g
def aIfEq (t nx : Nat) : Act := fun _ ls st g k => match st with
  | .int x :: r => if x = 0 then k t ls r g else k nx ls r g
  | _ => none
def aIfLt (t nx : Nat) : Act := fun _ ls st g k => match st with
  | .int x :: r => if x < 0 then k t ls r g else k nx ls r g
  | _ => none
def aIfLe (t nx : Nat) : Act := fun _ ls st g k => match st with
  | .int x :: r => if x ≤ 0 then k t ls r g else k nx ls r g
  | _ => none
def aIcEq (t nx : Nat) : Act := fun _ ls st g k => match st with
  | .int y :: .int x :: r => if x = y then k t ls r g else k nx ls r g
  | _ => none
def aIcLt (t nx : Nat) : Act := fun _ ls st g k => match st with
  | .int y :: .int x :: r => if x < y then k t ls r g else k nx ls r g
  | _ => none
def aIcLe (t nx : Nat) : Act := fun _ ls st g k => match st with
  | .int y :: .int x :: r => if x ≤ y then k t ls r g else k nx ls r g
  | _ => none
/-- a branch on null: at null to t, else to nx -/
def aIfN (t nx : Nat) : Act := fun _ ls st g k => match st with
  | .ref _ :: r => k nx ls r g
  | .null :: r => k t ls r g
  | _ => none
def sw (x : Int32) : Int32 → List Nat → Nat → (Nat → Option (Outcome × AH)) → Option (Outcome × AH)
  | _, [], d, f => f d
  | lo, t :: ts, d, f => if x = lo then f t else sw x (lo + 1) ts d f
def aSw (lo : Int32) (ts : List Nat) (d : Nat) : Act := fun _ ls st g k => match st with
  | .int x :: r => sw x lo ts d (fun t => k t ls r g)
  | _ => none
def aDup (nx : Nat) : Act := fun _ ls st g k => match st with
  | .int x :: r => k nx ls (.int x :: .int x :: r) g
  | .ref x :: r => k nx ls (.ref x :: .ref x :: r) g
  | _ => none
def aDupX1 (nx : Nat) : Act := fun _ ls st g k => match st with
  | .int x :: .ref y :: r => k nx ls (.int x :: .ref y :: .int x :: r) g
  | .int x :: .int y :: r => k nx ls (.int x :: .int y :: .int x :: r) g
  | _ => none
def aDup2 (nx : Nat) : Act := fun _ ls st g k => match st with
  | .int x :: .ref y :: r => k nx ls (.int x :: .ref y :: .int x :: .ref y :: r) g
  | .long x :: r => k nx ls (.long x :: .long x :: r) g
  | _ => none
def aPop (nx : Nat) : Act := fun _ ls st g k => match st with
  | .int _ :: r => k nx ls r g
  | .ref _ :: r => k nx ls r g
  | .null :: r => k nx ls r g
  | _ => none
/-! arrays: tags 100 int, 101 byte, 102 boolean, 103 long, from 110 on references -/
def upR {α : Type} (f : Nat → Nat → α) (a i : Nat) (v : α) : Nat → Nat → α := fun b j => if b = a then (if j = i then v else f b j) else f b j
def aAldI (nx : Nat) : Act := fun _ ls st g k => match st with
  | .int i :: .ref a :: r => bif okT [100] (g.2.2.2.1 a) && inb i (lenOf (g.2.2.2.1 a)) then k nx ls (.int (g.1 a i.toNatClampNeg) :: r) g else none
  | _ => none
def aAldB (nx : Nat) : Act := fun _ ls st g k => match st with
  | .int i :: .ref a :: r => bif okT [101, 102] (g.2.2.2.1 a) && inb i (lenOf (g.2.2.2.1 a)) then k nx ls (.int (g.1 a i.toNatClampNeg) :: r) g else none
  | _ => none
def aAldL (nx : Nat) : Act := fun _ ls st g k => match st with
  | .int i :: .ref a :: r => bif okT [103] (g.2.2.2.1 a) && inb i (lenOf (g.2.2.2.1 a)) then k nx ls (.long (g.2.1 a i.toNatClampNeg) :: r) g else none
  | _ => none
def aIsR (x : Option (Nat × Nat)) : Bool := match x with
  | some (t, _) => Nat.ble 110 t
  | none => false
def aAldA (nx : Nat) : Act := fun _ ls st g k => match st with
  | .int i :: .ref a :: r => bif aIsR (g.2.2.2.1 a) && inb i (lenOf (g.2.2.2.1 a)) then k nx ls (va_rf (g.2.2.1 a i.toNatClampNeg) :: r) g else none
  | _ => none
def setI (g : AH) (a i : Nat) (v : Int32) : AH := (upR g.1 a i v, g.2)
def setL (g : AH) (a i : Nat) (v : Int64) : AH := (g.1, upR g.2.1 a i v, g.2.2)
def setR (g : AH) (a i : Nat) (v : Option Nat) : AH := (g.1, g.2.1, upR g.2.2.1 a i v, g.2.2.2)
def oldN : Nat := 100
def isNew (a : Nat) : Bool := Nat.ble oldN a
def aAstI (nx : Nat) : Act := fun _ ls st g k => match st with
  | .int x :: .int i :: .ref a :: r => bif isNew a && okT [100] (g.2.2.2.1 a) && inb i (lenOf (g.2.2.2.1 a)) then k nx ls r (setI g a i.toNatClampNeg x) else none
  | _ => none
def aAstB (nx : Nat) : Act := fun _ ls st g k => match st with
  | .int x :: .int i :: .ref a :: r => bif isNew a && okT [101] (g.2.2.2.1 a) && inb i (lenOf (g.2.2.2.1 a)) then k nx ls r (setI g a i.toNatClampNeg x.toInt8.toInt32) else (bif isNew a && okT [102] (g.2.2.2.1 a) && inb i (lenOf (g.2.2.2.1 a)) && decide (x = 0 ∨ x = 1) then k nx ls r (setI g a i.toNatClampNeg x) else none)
  | _ => none
def aAstL (nx : Nat) : Act := fun _ ls st g k => match st with
  | .long x :: .int i :: .ref a :: r => bif isNew a && okT [103] (g.2.2.2.1 a) && inb i (lenOf (g.2.2.2.1 a)) then k nx ls r (setL g a i.toNatClampNeg x) else none
  | _ => none

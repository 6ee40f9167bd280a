/-! SOUNDNESS of the instructions that touch no heap (by program, gen_sd1.py) -/
theorem bif_t {b : Bool} {α : Type} {x : Option α} {r : α} (h : (bif b then x else none) = some r) : b = true ∧ x = some r := by
  cases b
  · cases h
  · exact ⟨rfl, h⟩
theorem bif_f {b : Bool} {α : Type} {x : Option α} {r : α} (h : (bif b then none else x) = some r) : b = false ∧ x = some r := by
  cases b
  · exact ⟨rfl, h⟩
  · cases h
def asc (ad : Nat → Nat) (ls : List Value) : List (Nat × Value) := (List.range ls.length).filterMap (fun i : Nat => match (ls[i]? : Option Value) with
  | some (.retAddr _) => none
  | some v => some (i, mv ad v)
  | none => none)
theorem asc_mem {ad : Nat → Nat} {ls : List Value} {i : Nat} {v : Value} (h : ls[i]? = some v) (hn : ∀ n, v ≠ .retAddr n) : (i, mv ad v) ∈ asc ad ls := by
  refine List.mem_filterMap.mpr ⟨i, List.mem_range.mpr (List.getElem?_eq_some_iff.mp h).1, ?_⟩
  rw [h]
  cases v <;> first | rfl | exact absurd rfl (hn _)
theorem asc_of {ad : Nat → Nat} {ls : List Value} {q : Nat × Value} (h : q ∈ asc ad ls) : ∃ v, ls[q.1]? = some v ∧ (∀ n, v ≠ .retAddr n) ∧ q.2 = mv ad v := by
  obtain ⟨i, -, hi⟩ := List.mem_filterMap.mp h
  cases hv : ls[i]? with
  | none => rw [hv] at hi; cases hi
  | some v =>
    rw [hv] at hi
    cases v <;> first | (cases hi; done) | (cases hi; exact ⟨_, hv, (fun _ z => by cases z), rfl⟩)
theorem LR.has {ad : Nat → Nat} {nL : Nat} {ls : List Value} {ls' : Array Slot} (h : LR ad nL ls ls') : lv_has ls' nL (asc ad ls) := by
  refine ⟨h.1, h.2.2.1, fun q hq => ?_⟩
  obtain ⟨v, h1, h2, h3⟩ := asc_of hq
  rw [h3]
  exact h.2.2.2 q.1 v h1 h2
theorem mv_cat (ad : Nat → Nat) (v : Value) : (mv ad v).category = v.category := by cases v <;> rfl
theorem st1_len (ls : List Value) (i : Nat) (v : Value) : (st1 ls i v).length = ls.length := by
  cases i with
  | zero => simp [st1]
  | succ j =>
    simp only [st1]
    split <;> simp
theorem st1_at {ls : List Value} {i j : Nat} {v w : Value} (h : (st1 ls i v)[j]? = some w) (hj : j ≠ i) (hw : ∀ n, w ≠ .retAddr n) : ls[j]? = some w ∧ ¬ (j + 1 = i ∧ w.category = 2) := by
  cases i with
  | zero =>
    simp only [st1] at h
    rw [List.getElem?_set_ne (Ne.symm hj)] at h
    exact ⟨h, fun q => by omega⟩
  | succ k =>
    simp only [st1] at h
    rw [List.getElem?_set_ne (Ne.symm hj)] at h
    by_cases hk : j = k
    · subst hk
      split at h
      · next x hx => rw [List.getElem?_set_self (List.getElem?_eq_some_iff.mp hx).1] at h; cases h; exact absurd rfl (hw 0)
      · next x hx => rw [List.getElem?_set_self (List.getElem?_eq_some_iff.mp hx).1] at h; cases h; exact absurd rfl (hw 0)
      · next h1 h2 =>
        refine ⟨h, fun q => ?_⟩
        cases w <;> first | exact h1 _ h | exact h2 _ h | (have := q.2; simp [Value.category] at this)
    · have e : ls[j]? = some w := by
        split at h
        · rwa [List.getElem?_set_ne (Ne.symm hk)] at h
        · rwa [List.getElem?_set_ne (Ne.symm hk)] at h
        · exact h
      exact ⟨e, fun q => hk (by omega)⟩
theorem st1_self {ls : List Value} {i : Nat} {v : Value} (h : i < ls.length) : (st1 ls i v)[i]? = some v := by
  cases i with
  | zero => simp [st1, h]
  | succ j =>
    simp only [st1]
    rw [List.getElem?_set_self]
    split <;> simpa using h
theorem LR.one {ad : Nat → Nat} {nL i : Nat} {ls : List Value} {v : Value} {ls2' : Array Slot} (hl : ls.length = nL) (hi : i < nL) (h : lv_has ls2' nL ((i, mv ad v) :: (asc ad ls).filter (fun q => !(q.1 == i) && !(q.1 + 1 == i && q.2.category == 2)))) : LR ad nL (st1 ls i v) ls2' := by
  refine ⟨h.1, by rw [st1_len]; exact hl, h.2.1, fun j w hw hn => ?_⟩
  by_cases hj : j = i
  · subst hj
    rw [st1_self (by omega)] at hw
    cases hw
    exact h.2.2 _ List.mem_cons_self
  · obtain ⟨e1, e2⟩ := st1_at hw hj hn
    refine h.2.2 (j, mv ad w) (List.mem_cons_of_mem _ (List.mem_filter.mpr ⟨asc_mem e1 hn, ?_⟩))
    simp only [mv_cat, Bool.and_eq_true, Bool.not_eq_true', beq_eq_false_iff_ne, Bool.and_eq_false_iff]
    refine ⟨hj, ?_⟩
    by_cases q : j + 1 = i
    · exact Or.inr (fun z => e2 ⟨q, z⟩)
    · exact Or.inl q
theorem LR.two {ad : Nat → Nat} {nL i : Nat} {ls : List Value} {v : Value} {ls2' : Array Slot} (hl : ls.length = nL) (hi : i + 1 < nL) (h : lv_has ls2' nL ((i, mv ad v) :: (asc ad ls).filter (fun q => !(q.1 == i) && (!(q.1 == i + 1) && !(q.1 + 1 == i && q.2.category == 2))))) : LR ad nL (st2 ls i v) ls2' := by
  refine ⟨h.1, by simp [st2, st1_len]; exact hl, h.2.1, fun j w hw hn => ?_⟩
  unfold st2 at hw
  by_cases hj1 : j = i + 1
  · subst hj1
    rw [List.getElem?_set_self (by rw [st1_len]; omega)] at hw
    cases hw
    exact absurd rfl (hn 0)
  rw [List.getElem?_set_ne (Ne.symm hj1)] at hw
  by_cases hj : j = i
  · subst hj
    rw [st1_self (by omega)] at hw
    cases hw
    exact h.2.2 _ List.mem_cons_self
  · obtain ⟨e1, e2⟩ := st1_at hw hj hn
    refine h.2.2 (j, mv ad w) (List.mem_cons_of_mem _ (List.mem_filter.mpr ⟨asc_mem e1 hn, ?_⟩))
    simp only [mv_cat, Bool.and_eq_true, Bool.not_eq_true', beq_eq_false_iff_ne, Bool.and_eq_false_iff]
    refine ⟨hj, hj1, ?_⟩
    by_cases q : j + 1 = i
    · exact Or.inr (fun z => e2 ⟨q, z⟩)
    · exact Or.inl q
theorem FR.loc {D : va_G} {ad : Nat → Nat} {H0 : Heap} {R : Room} {s : State} {nL : Nat} {ls ls2 : List Value} {g : AH} {H : Heap} {locs : List Loc} {cells slots : Nat} {ls' ls2' : Array Slot} (h : FR D ad H0 R s nL ls g H locs cells slots ls') (h2 : LR ad nL ls2 ls2') : FR D ad H0 R s nL ls2 g H locs cells slots ls2' := ⟨h2, h.2⟩
section SD1
variable {mi : List MI} {y : MethodName} {cc : ByteArray} {nL pc : Nat} {ret : Option FieldType} {hh : List (Nat × Nat × Nat × Nat)}
theorem s_iconst {n : Int} {v : Int32} {nx : Nat} (hd : decode cc pc = .ok (.iconst n, 1)) (hv : Int32.ofInt n = v) (hn : pc + 1 = nx) : Sd mi y cc nL ret hh pc (aK (.int v) nx) := by
  refine ⟨fun C ls st g => lp_go _ _ _ _, ?_⟩
  intro D ad H0 C d p l e R s m args below meth c hC hX ls st g k r H locs cells slots ls' h hF hk
  subst hn
  exact lv_iconst hX.1 hX.2.1 hd hv (hk _ _ _ _ h _ _ _ _ _ hF)
theorem s_bipush {n : Int} {v : Int32} {nx : Nat} (hd : decode cc pc = .ok (.bipush n, 2)) (hv : (Int8.ofInt n).toInt32 = v) (hn : pc + 2 = nx) : Sd mi y cc nL ret hh pc (aK (.int v) nx) := by
  refine ⟨fun C ls st g => lp_go _ _ _ _, ?_⟩
  intro D ad H0 C d p l e R s m args below meth c hC hX ls st g k r H locs cells slots ls' h hF hk
  subst hn
  exact lv_bipush hX.1 hX.2.1 hd hv (hk _ _ _ _ h _ _ _ _ _ hF)
theorem s_sipush {n : Int} {v : Int32} {nx : Nat} (hd : decode cc pc = .ok (.sipush n, 3)) (hv : (Int16.ofInt n).toInt32 = v) (hn : pc + 3 = nx) : Sd mi y cc nL ret hh pc (aK (.int v) nx) := by
  refine ⟨fun C ls st g => lp_go _ _ _ _, ?_⟩
  intro D ad H0 C d p l e R s m args below meth c hC hX ls st g k r H locs cells slots ls' h hF hk
  subst hn
  exact lv_sipush hX.1 hX.2.1 hd hv (hk _ _ _ _ h _ _ _ _ _ hF)
theorem s_lconst {n : Fin 2} {v : Int64} {nx : Nat} (hd : decode cc pc = .ok (.lconst n, 1)) (hv : Int64.ofNat (n : Nat) = v) (hn : pc + 1 = nx) : Sd mi y cc nL ret hh pc (aK (.long v) nx) := by
  refine ⟨fun C ls st g => lp_go _ _ _ _, ?_⟩
  intro D ad H0 C d p l e R s m args below meth c hC hX ls st g k r H locs cells slots ls' h hF hk
  subst hn
  exact lv_lconst hX.1 hX.2.1 hd hv (hk _ _ _ _ h _ _ _ _ _ hF)
theorem s_null {nx : Nat} (hd : decode cc pc = .ok (.aconst_null, 1)) (hn : pc + 1 = nx) : Sd mi y cc nL ret hh pc (aK .null nx) := by
  refine ⟨fun C ls st g => lp_go _ _ _ _, ?_⟩
  intro D ad H0 C d p l e R s m args below meth c hC hX ls st g k r H locs cells slots ls' h hF hk
  subst hn
  exact lv_null hX.1 hX.2.1 hd (hk _ _ _ _ h _ _ _ _ _ hF)
theorem s_ldc {i : Nat} {v : Int32} {nx : Nat} (hd : decode cc pc = .ok (.ldc i, 2)) (hw : Cond.constant y.cls i v ∈ lw_all) (hn : pc + 2 = nx) : Sd mi y cc nL ret hh pc (aK (.int v) nx) := by
  refine ⟨fun C ls st g => lp_go _ _ _ _, ?_⟩
  intro D ad H0 C d p l e R s m args below meth c hC hX ls st g k r H locs cells slots ls' h hF hk
  subst hn
  exact lv_ldc hX.1 hX.2.1 hX.2.2.2.1 (hX.2.2.2.2.2.2.2.1.1 _ hw _) hd (hk _ _ _ _ h _ _ _ _ _ hF)
theorem s_ldcw {i : Nat} {v : Int32} {nx : Nat} (hd : decode cc pc = .ok (.ldc_w i, 3)) (hw : Cond.constant y.cls i v ∈ lw_all) (hn : pc + 3 = nx) : Sd mi y cc nL ret hh pc (aK (.int v) nx) := by
  refine ⟨fun C ls st g => lp_go _ _ _ _, ?_⟩
  intro D ad H0 C d p l e R s m args below meth c hC hX ls st g k r H locs cells slots ls' h hF hk
  subst hn
  exact lv_ldcw hX.1 hX.2.1 hX.2.2.2.1 (hX.2.2.2.2.2.2.2.1.1 _ hw _) hd (hk _ _ _ _ h _ _ _ _ _ hF)
theorem s_ldc2 {i : Nat} {v : Int64} {nx : Nat} (hd : decode cc pc = .ok (.ldc2_w i, 3)) (hw : Cond.constantLong y.cls i v ∈ lw_all) (hn : pc + 3 = nx) : Sd mi y cc nL ret hh pc (aK (.long v) nx) := by
  refine ⟨fun C ls st g => lp_go _ _ _ _, ?_⟩
  intro D ad H0 C d p l e R s m args below meth c hC hX ls st g k r H locs cells slots ls' h hF hk
  subst hn
  exact lv_ldc2 hX.1 hX.2.1 hX.2.2.2.1 (hX.2.2.2.2.2.2.2.1.1 _ hw _) hd (hk _ _ _ _ h _ _ _ _ _ hF)
theorem s_iload {i nx : Nat} (hd : decode cc pc = .ok (.iload i, 2)) (hn : pc + 2 = nx) : Sd mi y cc nL ret hh pc (aLdI i nx) := by
  refine ⟨fun C ls st g => ?_, ?_⟩
  · unfold aLdI
    (repeat' split) <;> first | exact lp_no | exact lp_go _ _ _ _
  intro D ad H0 C d p l e R s m args below meth c hC hX ls st g k r H locs cells slots ls' h hF hk
  subst hn
  unfold aLdI at h
  split at h
  next x hx => exact lv_iload hX.1 hX.2.1 hd (hF.1.2.2.2 i _ hx (fun _ q => by cases q)) (hk _ _ _ _ h _ _ _ _ _ hF)
  · cases h
theorem s_iload_n {f : Fin 4} {i nx : Nat} (hd : decode cc pc = .ok (.iload_n f, 1)) (hi : (f : Nat) = i) (hn : pc + 1 = nx) : Sd mi y cc nL ret hh pc (aLdI i nx) := by
  refine ⟨fun C ls st g => ?_, ?_⟩
  · unfold aLdI
    (repeat' split) <;> first | exact lp_no | exact lp_go _ _ _ _
  intro D ad H0 C d p l e R s m args below meth c hC hX ls st g k r H locs cells slots ls' h hF hk
  subst hn
  unfold aLdI at h
  split at h
  next x hx => exact lv_iload_n hX.1 hX.2.1 hd hi (hF.1.2.2.2 i _ hx (fun _ q => by cases q)) (hk _ _ _ _ h _ _ _ _ _ hF)
  · cases h
theorem s_lload {i nx : Nat} (hd : decode cc pc = .ok (.lload i, 2)) (hn : pc + 2 = nx) : Sd mi y cc nL ret hh pc (aLdL i nx) := by
  refine ⟨fun C ls st g => ?_, ?_⟩
  · unfold aLdL
    (repeat' split) <;> first | exact lp_no | exact lp_go _ _ _ _
  intro D ad H0 C d p l e R s m args below meth c hC hX ls st g k r H locs cells slots ls' h hF hk
  subst hn
  unfold aLdL at h
  split at h
  next x hx => exact lv_lload hX.1 hX.2.1 hd (hF.1.2.2.2 i _ hx (fun _ q => by cases q)) (hk _ _ _ _ h _ _ _ _ _ hF)
  · cases h
theorem s_lload_n {f : Fin 4} {i nx : Nat} (hd : decode cc pc = .ok (.lload_n f, 1)) (hi : (f : Nat) = i) (hn : pc + 1 = nx) : Sd mi y cc nL ret hh pc (aLdL i nx) := by
  refine ⟨fun C ls st g => ?_, ?_⟩
  · unfold aLdL
    (repeat' split) <;> first | exact lp_no | exact lp_go _ _ _ _
  intro D ad H0 C d p l e R s m args below meth c hC hX ls st g k r H locs cells slots ls' h hF hk
  subst hn
  unfold aLdL at h
  split at h
  next x hx => exact lv_lload_n hX.1 hX.2.1 hd hi (hF.1.2.2.2 i _ hx (fun _ q => by cases q)) (hk _ _ _ _ h _ _ _ _ _ hF)
  · cases h
theorem s_aload {i nx : Nat} (hd : decode cc pc = .ok (.aload i, 2)) (hn : pc + 2 = nx) : Sd mi y cc nL ret hh pc (aLdA i nx) := by
  refine ⟨fun C ls st g => ?_, ?_⟩
  · unfold aLdA
    (repeat' split) <;> first | exact lp_no | exact lp_go _ _ _ _
  intro D ad H0 C d p l e R s m args below meth c hC hX ls st g k r H locs cells slots ls' h hF hk
  subst hn
  unfold aLdA at h
  split at h
  next x hx => exact lv_aload hX.1 hX.2.1 hd (hF.1.2.2.2 i _ hx (fun _ q => by cases q)) (hk _ _ _ _ h _ _ _ _ _ hF)
  next hx => exact lv_aloadN hX.1 hX.2.1 hd (hF.1.2.2.2 i _ hx (fun _ q => by cases q)) (hk _ _ _ _ h _ _ _ _ _ hF)
  · cases h
theorem s_aload_n {f : Fin 4} {i nx : Nat} (hd : decode cc pc = .ok (.aload_n f, 1)) (hi : (f : Nat) = i) (hn : pc + 1 = nx) : Sd mi y cc nL ret hh pc (aLdA i nx) := by
  refine ⟨fun C ls st g => ?_, ?_⟩
  · unfold aLdA
    (repeat' split) <;> first | exact lp_no | exact lp_go _ _ _ _
  intro D ad H0 C d p l e R s m args below meth c hC hX ls st g k r H locs cells slots ls' h hF hk
  subst hn
  unfold aLdA at h
  split at h
  next x hx => exact lv_aload_n hX.1 hX.2.1 hd hi (hF.1.2.2.2 i _ hx (fun _ q => by cases q)) (hk _ _ _ _ h _ _ _ _ _ hF)
  next hx => exact lv_aload_nN hX.1 hX.2.1 hd hi (hF.1.2.2.2 i _ hx (fun _ q => by cases q)) (hk _ _ _ _ h _ _ _ _ _ hF)
  · cases h
theorem s_istore {i nx : Nat} (hd : decode cc pc = .ok (.istore i, 2)) (hn : pc + 2 = nx) : Sd mi y cc nL ret hh pc (aStI i nx) := by
  refine ⟨fun C ls st g => ?_, ?_⟩
  · unfold aStI
    split
    · exact lp_bif _ (lp_go _ _ _ _) lp_no
    · exact lp_no
  intro D ad H0 C d p l e R s m args below meth c hC hX ls st g k r H locs cells slots ls' h hF hk
  subst hn
  unfold aStI at h
  split at h
  · obtain ⟨hb, h⟩ := bif_t h
    have hi : i < nL := by have := of_decide_eq_true hb; rw [hF.1.2.1] at this; exact this
    exact lv_istore hX.1 hX.2.1 hd hF.1.has hi rfl (fun ls2' hl2 => hk _ _ _ _ h _ _ _ _ _ (hF.loc (LR.one (v := .int _) hF.1.2.1 hi hl2)))
  · cases h
theorem s_istore_n {f : Fin 4} {i nx : Nat} (hd : decode cc pc = .ok (.istore_n f, 1)) (hf : (f : Nat) = i) (hn : pc + 1 = nx) : Sd mi y cc nL ret hh pc (aStI i nx) := by
  refine ⟨fun C ls st g => ?_, ?_⟩
  · unfold aStI
    split
    · exact lp_bif _ (lp_go _ _ _ _) lp_no
    · exact lp_no
  intro D ad H0 C d p l e R s m args below meth c hC hX ls st g k r H locs cells slots ls' h hF hk
  subst hn
  unfold aStI at h
  split at h
  · obtain ⟨hb, h⟩ := bif_t h
    have hi : i < nL := by have := of_decide_eq_true hb; rw [hF.1.2.1] at this; exact this
    exact lv_istore_n hX.1 hX.2.1 hd hf hF.1.has hi rfl (fun ls2' hl2 => hk _ _ _ _ h _ _ _ _ _ (hF.loc (LR.one (v := .int _) hF.1.2.1 hi hl2)))
  · cases h
theorem s_lstore {i nx : Nat} (hd : decode cc pc = .ok (.lstore i, 2)) (hn : pc + 2 = nx) : Sd mi y cc nL ret hh pc (aStL i nx) := by
  refine ⟨fun C ls st g => ?_, ?_⟩
  · unfold aStL
    split
    · exact lp_bif _ (lp_go _ _ _ _) lp_no
    · exact lp_no
  intro D ad H0 C d p l e R s m args below meth c hC hX ls st g k r H locs cells slots ls' h hF hk
  subst hn
  unfold aStL at h
  split at h
  · obtain ⟨hb, h⟩ := bif_t h
    have hi : i + 1 < nL := by have := of_decide_eq_true hb; rw [hF.1.2.1] at this; exact this
    exact lv_lstore hX.1 hX.2.1 hd hF.1.has hi rfl (fun ls2' hl2 => hk _ _ _ _ h _ _ _ _ _ (hF.loc (LR.two (v := .long _) hF.1.2.1 hi hl2)))
  · cases h
theorem s_lstore_n {f : Fin 4} {i nx : Nat} (hd : decode cc pc = .ok (.lstore_n f, 1)) (hf : (f : Nat) = i) (hn : pc + 1 = nx) : Sd mi y cc nL ret hh pc (aStL i nx) := by
  refine ⟨fun C ls st g => ?_, ?_⟩
  · unfold aStL
    split
    · exact lp_bif _ (lp_go _ _ _ _) lp_no
    · exact lp_no
  intro D ad H0 C d p l e R s m args below meth c hC hX ls st g k r H locs cells slots ls' h hF hk
  subst hn
  unfold aStL at h
  split at h
  · obtain ⟨hb, h⟩ := bif_t h
    have hi : i + 1 < nL := by have := of_decide_eq_true hb; rw [hF.1.2.1] at this; exact this
    exact lv_lstore_n hX.1 hX.2.1 hd hf hF.1.has hi rfl (fun ls2' hl2 => hk _ _ _ _ h _ _ _ _ _ (hF.loc (LR.two (v := .long _) hF.1.2.1 hi hl2)))
  · cases h
theorem s_astore {i nx : Nat} (hd : decode cc pc = .ok (.astore i, 2)) (hn : pc + 2 = nx) : Sd mi y cc nL ret hh pc (aStA i nx) := by
  refine ⟨fun C ls st g => ?_, ?_⟩
  · unfold aStA
    split
    · exact lp_bif _ (lp_go _ _ _ _) lp_no
    · exact lp_bif _ (lp_go _ _ _ _) lp_no
    · exact lp_no
  intro D ad H0 C d p l e R s m args below meth c hC hX ls st g k r H locs cells slots ls' h hF hk
  subst hn
  unfold aStA at h
  split at h
  · obtain ⟨hb, h⟩ := bif_t h
    have hi : i < nL := by have := of_decide_eq_true hb; rw [hF.1.2.1] at this; exact this
    exact lv_astore hX.1 hX.2.1 hd hF.1.has hi rfl (fun ls2' hl2 => hk _ _ _ _ h _ _ _ _ _ (hF.loc (LR.one (v := .ref _) hF.1.2.1 hi hl2)))
  · obtain ⟨hb, h⟩ := bif_t h
    have hi : i < nL := by have := of_decide_eq_true hb; rw [hF.1.2.1] at this; exact this
    exact lv_astoreN hX.1 hX.2.1 hd hF.1.has hi rfl (fun ls2' hl2 => hk _ _ _ _ h _ _ _ _ _ (hF.loc (LR.one (v := .null) hF.1.2.1 hi hl2)))
  · cases h
theorem s_astore_n {f : Fin 4} {i nx : Nat} (hd : decode cc pc = .ok (.astore_n f, 1)) (hf : (f : Nat) = i) (hn : pc + 1 = nx) : Sd mi y cc nL ret hh pc (aStA i nx) := by
  refine ⟨fun C ls st g => ?_, ?_⟩
  · unfold aStA
    split
    · exact lp_bif _ (lp_go _ _ _ _) lp_no
    · exact lp_bif _ (lp_go _ _ _ _) lp_no
    · exact lp_no
  intro D ad H0 C d p l e R s m args below meth c hC hX ls st g k r H locs cells slots ls' h hF hk
  subst hn
  unfold aStA at h
  split at h
  · obtain ⟨hb, h⟩ := bif_t h
    have hi : i < nL := by have := of_decide_eq_true hb; rw [hF.1.2.1] at this; exact this
    exact lv_astore_n hX.1 hX.2.1 hd hf hF.1.has hi rfl (fun ls2' hl2 => hk _ _ _ _ h _ _ _ _ _ (hF.loc (LR.one (v := .ref _) hF.1.2.1 hi hl2)))
  · obtain ⟨hb, h⟩ := bif_t h
    have hi : i < nL := by have := of_decide_eq_true hb; rw [hF.1.2.1] at this; exact this
    exact lv_astore_nN hX.1 hX.2.1 hd hf hF.1.has hi rfl (fun ls2' hl2 => hk _ _ _ _ h _ _ _ _ _ (hF.loc (LR.one (v := .null) hF.1.2.1 hi hl2)))
  · cases h
theorem s_iinc {i nx : Nat} {n : Int} {w : Int32} (hd : decode cc pc = .ok (.iinc i n, 3)) (hw : Int32.ofInt n = w) (hn : pc + 3 = nx) : Sd mi y cc nL ret hh pc (aInc i w nx) := by
  refine ⟨fun C ls st g => ?_, ?_⟩
  · unfold aInc
    (repeat' split) <;> first | exact lp_no | exact lp_go _ _ _ _
  intro D ad H0 C d p l e R s m args below meth c hC hX ls st g k r H locs cells slots ls' h hF hk
  subst hn
  unfold aInc at h
  split at h
  next x hx =>
    have hi : i < nL := by have := (List.getElem?_eq_some_iff.mp hx).1; rw [hF.1.2.1] at this; exact this
    obtain ⟨j, hj⟩ := List.getElem?_of_mem (asc_mem (ad := ad) hx (fun _ q => by cases q))
    exact lv_iinc hX.1 hX.2.1 hd hF.1.has hj (by rw [hw]) hi rfl (fun ls2' hl2 => hk _ _ _ _ h _ _ _ _ _ (hF.loc (LR.one (v := .int _) hF.1.2.1 hi hl2)))
  · cases h
theorem s_iadd {nx : Nat} (hd : decode cc pc = .ok (.iadd, 1)) (hn : pc + 1 = nx) : Sd mi y cc nL ret hh pc (aB (fun x y => x + y) nx) := by
  refine ⟨fun C ls st g => ?_, ?_⟩
  · unfold aB
    (repeat' split) <;> first | exact lp_no | exact lp_go _ _ _ _
  intro D ad H0 C d p l e R s m args below meth c hC hX ls st g k r H locs cells slots ls' h hF hk
  subst hn
  unfold aB at h
  split at h
  · exact lv_iadd hX.1 hX.2.1 hd (hk _ _ _ _ h _ _ _ _ _ hF)
  · cases h
theorem s_isub {nx : Nat} (hd : decode cc pc = .ok (.isub, 1)) (hn : pc + 1 = nx) : Sd mi y cc nL ret hh pc (aB (fun x y => x - y) nx) := by
  refine ⟨fun C ls st g => ?_, ?_⟩
  · unfold aB
    (repeat' split) <;> first | exact lp_no | exact lp_go _ _ _ _
  intro D ad H0 C d p l e R s m args below meth c hC hX ls st g k r H locs cells slots ls' h hF hk
  subst hn
  unfold aB at h
  split at h
  · exact lv_isub hX.1 hX.2.1 hd (hk _ _ _ _ h _ _ _ _ _ hF)
  · cases h
theorem s_imul {nx : Nat} (hd : decode cc pc = .ok (.imul, 1)) (hn : pc + 1 = nx) : Sd mi y cc nL ret hh pc (aB (fun x y => x * y) nx) := by
  refine ⟨fun C ls st g => ?_, ?_⟩
  · unfold aB
    (repeat' split) <;> first | exact lp_no | exact lp_go _ _ _ _
  intro D ad H0 C d p l e R s m args below meth c hC hX ls st g k r H locs cells slots ls' h hF hk
  subst hn
  unfold aB at h
  split at h
  · exact lv_imul hX.1 hX.2.1 hd (hk _ _ _ _ h _ _ _ _ _ hF)
  · cases h
theorem s_iand {nx : Nat} (hd : decode cc pc = .ok (.iand, 1)) (hn : pc + 1 = nx) : Sd mi y cc nL ret hh pc (aB (fun x y => x &&& y) nx) := by
  refine ⟨fun C ls st g => ?_, ?_⟩
  · unfold aB
    (repeat' split) <;> first | exact lp_no | exact lp_go _ _ _ _
  intro D ad H0 C d p l e R s m args below meth c hC hX ls st g k r H locs cells slots ls' h hF hk
  subst hn
  unfold aB at h
  split at h
  · exact lv_iand hX.1 hX.2.1 hd (hk _ _ _ _ h _ _ _ _ _ hF)
  · cases h
theorem s_ior {nx : Nat} (hd : decode cc pc = .ok (.ior, 1)) (hn : pc + 1 = nx) : Sd mi y cc nL ret hh pc (aB (fun x y => x ||| y) nx) := by
  refine ⟨fun C ls st g => ?_, ?_⟩
  · unfold aB
    (repeat' split) <;> first | exact lp_no | exact lp_go _ _ _ _
  intro D ad H0 C d p l e R s m args below meth c hC hX ls st g k r H locs cells slots ls' h hF hk
  subst hn
  unfold aB at h
  split at h
  · exact lv_ior hX.1 hX.2.1 hd (hk _ _ _ _ h _ _ _ _ _ hF)
  · cases h
theorem s_ixor {nx : Nat} (hd : decode cc pc = .ok (.ixor, 1)) (hn : pc + 1 = nx) : Sd mi y cc nL ret hh pc (aB (fun x y => x ^^^ y) nx) := by
  refine ⟨fun C ls st g => ?_, ?_⟩
  · unfold aB
    (repeat' split) <;> first | exact lp_no | exact lp_go _ _ _ _
  intro D ad H0 C d p l e R s m args below meth c hC hX ls st g k r H locs cells slots ls' h hF hk
  subst hn
  unfold aB at h
  split at h
  · exact lv_ixor hX.1 hX.2.1 hd (hk _ _ _ _ h _ _ _ _ _ hF)
  · cases h
theorem s_ishl {nx : Nat} (hd : decode cc pc = .ok (.ishl, 1)) (hn : pc + 1 = nx) : Sd mi y cc nL ret hh pc (aB (fun x y => x <<< (y &&& 31)) nx) := by
  refine ⟨fun C ls st g => ?_, ?_⟩
  · unfold aB
    (repeat' split) <;> first | exact lp_no | exact lp_go _ _ _ _
  intro D ad H0 C d p l e R s m args below meth c hC hX ls st g k r H locs cells slots ls' h hF hk
  subst hn
  unfold aB at h
  split at h
  · exact lv_ishl hX.1 hX.2.1 hd (hk _ _ _ _ h _ _ _ _ _ hF)
  · cases h
theorem s_ishr {nx : Nat} (hd : decode cc pc = .ok (.ishr, 1)) (hn : pc + 1 = nx) : Sd mi y cc nL ret hh pc (aB (fun x y => x >>> (y &&& 31)) nx) := by
  refine ⟨fun C ls st g => ?_, ?_⟩
  · unfold aB
    (repeat' split) <;> first | exact lp_no | exact lp_go _ _ _ _
  intro D ad H0 C d p l e R s m args below meth c hC hX ls st g k r H locs cells slots ls' h hF hk
  subst hn
  unfold aB at h
  split at h
  · exact lv_ishr hX.1 hX.2.1 hd (hk _ _ _ _ h _ _ _ _ _ hF)
  · cases h
theorem s_iushr {nx : Nat} (hd : decode cc pc = .ok (.iushr, 1)) (hn : pc + 1 = nx) : Sd mi y cc nL ret hh pc (aB (fun x y => (x.toUInt32 >>> (y.toUInt32 &&& Int32.toUInt32 31)).toInt32) nx) := by
  refine ⟨fun C ls st g => ?_, ?_⟩
  · unfold aB
    (repeat' split) <;> first | exact lp_no | exact lp_go _ _ _ _
  intro D ad H0 C d p l e R s m args below meth c hC hX ls st g k r H locs cells slots ls' h hF hk
  subst hn
  unfold aB at h
  split at h
  · exact lv_iushr hX.1 hX.2.1 hd rfl (hk _ _ _ _ h _ _ _ _ _ hF)
  · cases h
theorem s_idiv {nx : Nat} (hd : decode cc pc = .ok (.idiv, 1)) (hn : pc + 1 = nx) : Sd mi y cc nL ret hh pc (aDiv nx) := by
  refine ⟨fun C ls st g => ?_, ?_⟩
  · unfold aDiv
    split
    · exact lp_bif _ lp_no (lp_go _ _ _ _)
    · exact lp_no
  intro D ad H0 C d p l e R s m args below meth c hC hX ls st g k r H locs cells slots ls' h hF hk
  subst hn
  unfold aDiv at h
  split at h
  · obtain ⟨hb, h⟩ := bif_f h
    exact lv_idiv hX.1 hX.2.1 hd (of_decide_eq_false hb) (hk _ _ _ _ h _ _ _ _ _ hF)
  · cases h
theorem s_irem {nx : Nat} (hd : decode cc pc = .ok (.irem, 1)) (hn : pc + 1 = nx) : Sd mi y cc nL ret hh pc (aRem nx) := by
  refine ⟨fun C ls st g => ?_, ?_⟩
  · unfold aRem
    split
    · exact lp_bif _ lp_no (lp_go _ _ _ _)
    · exact lp_no
  intro D ad H0 C d p l e R s m args below meth c hC hX ls st g k r H locs cells slots ls' h hF hk
  subst hn
  unfold aRem at h
  split at h
  · obtain ⟨hb, h⟩ := bif_f h
    exact lv_irem hX.1 hX.2.1 hd (of_decide_eq_false hb) (hk _ _ _ _ h _ _ _ _ _ hF)
  · cases h
theorem s_ineg {nx : Nat} (hd : decode cc pc = .ok (.ineg, 1)) (hn : pc + 1 = nx) : Sd mi y cc nL ret hh pc (aU (fun x => -x) nx) := by
  refine ⟨fun C ls st g => ?_, ?_⟩
  · unfold aU
    (repeat' split) <;> first | exact lp_no | exact lp_go _ _ _ _
  intro D ad H0 C d p l e R s m args below meth c hC hX ls st g k r H locs cells slots ls' h hF hk
  subst hn
  unfold aU at h
  split at h
  · exact lv_ineg hX.1 hX.2.1 hd (hk _ _ _ _ h _ _ _ _ _ hF)
  · cases h
theorem s_i2b {nx : Nat} (hd : decode cc pc = .ok (.i2b, 1)) (hn : pc + 1 = nx) : Sd mi y cc nL ret hh pc (aU (fun x => x.toInt8.toInt32) nx) := by
  refine ⟨fun C ls st g => ?_, ?_⟩
  · unfold aU
    (repeat' split) <;> first | exact lp_no | exact lp_go _ _ _ _
  intro D ad H0 C d p l e R s m args below meth c hC hX ls st g k r H locs cells slots ls' h hF hk
  subst hn
  unfold aU at h
  split at h
  · exact lv_i2b hX.1 hX.2.1 hd rfl (hk _ _ _ _ h _ _ _ _ _ hF)
  · cases h
theorem s_i2c {nx : Nat} (hd : decode cc pc = .ok (.i2c, 1)) (hn : pc + 1 = nx) : Sd mi y cc nL ret hh pc (aU (fun x => (x.toUInt32 % 65536).toInt32) nx) := by
  refine ⟨fun C ls st g => ?_, ?_⟩
  · unfold aU
    (repeat' split) <;> first | exact lp_no | exact lp_go _ _ _ _
  intro D ad H0 C d p l e R s m args below meth c hC hX ls st g k r H locs cells slots ls' h hF hk
  subst hn
  unfold aU at h
  split at h
  · exact lv_i2c hX.1 hX.2.1 hd rfl (hk _ _ _ _ h _ _ _ _ _ hF)
  · cases h
theorem s_i2l {nx : Nat} (hd : decode cc pc = .ok (.i2l, 1)) (hn : pc + 1 = nx) : Sd mi y cc nL ret hh pc (aI2L nx) := by
  refine ⟨fun C ls st g => ?_, ?_⟩
  · unfold aI2L
    (repeat' split) <;> first | exact lp_no | exact lp_go _ _ _ _
  intro D ad H0 C d p l e R s m args below meth c hC hX ls st g k r H locs cells slots ls' h hF hk
  subst hn
  unfold aI2L at h
  split at h
  · exact lv_i2l hX.1 hX.2.1 hd rfl (hk _ _ _ _ h _ _ _ _ _ hF)
  · cases h
theorem s_lsub {nx : Nat} (hd : decode cc pc = .ok (.lsub, 1)) (hn : pc + 1 = nx) : Sd mi y cc nL ret hh pc (aLB (fun x y => x - y) nx) := by
  refine ⟨fun C ls st g => ?_, ?_⟩
  · unfold aLB
    (repeat' split) <;> first | exact lp_no | exact lp_go _ _ _ _
  intro D ad H0 C d p l e R s m args below meth c hC hX ls st g k r H locs cells slots ls' h hF hk
  subst hn
  unfold aLB at h
  split at h
  · exact lv_lsub hX.1 hX.2.1 hd (hk _ _ _ _ h _ _ _ _ _ hF)
  · cases h
theorem s_land {nx : Nat} (hd : decode cc pc = .ok (.land, 1)) (hn : pc + 1 = nx) : Sd mi y cc nL ret hh pc (aLB (fun x y => x &&& y) nx) := by
  refine ⟨fun C ls st g => ?_, ?_⟩
  · unfold aLB
    (repeat' split) <;> first | exact lp_no | exact lp_go _ _ _ _
  intro D ad H0 C d p l e R s m args below meth c hC hX ls st g k r H locs cells slots ls' h hF hk
  subst hn
  unfold aLB at h
  split at h
  · exact lv_land hX.1 hX.2.1 hd (hk _ _ _ _ h _ _ _ _ _ hF)
  · cases h
theorem s_lor {nx : Nat} (hd : decode cc pc = .ok (.lor, 1)) (hn : pc + 1 = nx) : Sd mi y cc nL ret hh pc (aLB (fun x y => x ||| y) nx) := by
  refine ⟨fun C ls st g => ?_, ?_⟩
  · unfold aLB
    (repeat' split) <;> first | exact lp_no | exact lp_go _ _ _ _
  intro D ad H0 C d p l e R s m args below meth c hC hX ls st g k r H locs cells slots ls' h hF hk
  subst hn
  unfold aLB at h
  split at h
  · exact lv_lor hX.1 hX.2.1 hd (hk _ _ _ _ h _ _ _ _ _ hF)
  · cases h
theorem s_lshl {nx : Nat} (hd : decode cc pc = .ok (.lshl, 1)) (hn : pc + 1 = nx) : Sd mi y cc nL ret hh pc (aLS (fun x y => x <<< (y.toInt64 &&& 63)) nx) := by
  refine ⟨fun C ls st g => ?_, ?_⟩
  · unfold aLS
    (repeat' split) <;> first | exact lp_no | exact lp_go _ _ _ _
  intro D ad H0 C d p l e R s m args below meth c hC hX ls st g k r H locs cells slots ls' h hF hk
  subst hn
  unfold aLS at h
  split at h
  · exact lv_lshl hX.1 hX.2.1 hd rfl (hk _ _ _ _ h _ _ _ _ _ hF)
  · cases h
theorem s_lshr {nx : Nat} (hd : decode cc pc = .ok (.lshr, 1)) (hn : pc + 1 = nx) : Sd mi y cc nL ret hh pc (aLS (fun x y => x >>> (y.toInt64 &&& 63)) nx) := by
  refine ⟨fun C ls st g => ?_, ?_⟩
  · unfold aLS
    (repeat' split) <;> first | exact lp_no | exact lp_go _ _ _ _
  intro D ad H0 C d p l e R s m args below meth c hC hX ls st g k r H locs cells slots ls' h hF hk
  subst hn
  unfold aLS at h
  split at h
  · exact lv_lshr hX.1 hX.2.1 hd rfl (hk _ _ _ _ h _ _ _ _ _ hF)
  · cases h
theorem s_lcmp {nx : Nat} (hd : decode cc pc = .ok (.lcmp, 1)) (hn : pc + 1 = nx) : Sd mi y cc nL ret hh pc (aLcmp nx) := by
  refine ⟨fun C ls st g => ?_, ?_⟩
  · unfold aLcmp
    (repeat' split) <;> first | exact lp_no | exact lp_go _ _ _ _
  intro D ad H0 C d p l e R s m args below meth c hC hX ls st g k r H locs cells slots ls' h hF hk
  subst hn
  unfold aLcmp at h
  split at h
  · exact W.lcmp hX.1 hX.2.1 hd (hk _ _ _ _ h _ _ _ _ _ hF)
  · cases h
theorem s_goto {off : Int} {t : Nat} (hd : decode cc pc = .ok (.goto off, 3)) (ht : (pc : Int) + off = (t : Int)) : Sd mi y cc nL ret hh pc (aGoto t) := by
  refine ⟨fun C ls st g => lp_go _ _ _ _, ?_⟩
  intro D ad H0 C d p l e R s m args below meth c hC hX ls st g k r H locs cells slots ls' h hF hk
  exact lv_goto hX.1 hX.2.1 hd ht (hk _ _ _ _ h _ _ _ _ _ hF)
theorem s_ifeq {off : Int} {t nx : Nat} (hd : decode cc pc = .ok (.ifCond .eq off, 3)) (ht : (pc : Int) + off = (t : Int)) (hn : pc + 3 = nx) : Sd mi y cc nL ret hh pc (aIfEq t nx) := by
  refine ⟨fun C ls st g => ?_, ?_⟩
  · unfold aIfEq
    split
    · exact lp_ite _ _ (lp_go _ _ _ _) (lp_go _ _ _ _)
    · exact lp_no
  intro D ad H0 C d p l e R s m args below meth c hC hX ls st g k r H locs cells slots ls' h hF hk
  subst hn
  unfold aIfEq at h
  split at h
  · refine lv_if_eq hX.1 hX.2.1 hd ht (fun q => ?_) (fun q => ?_)
    · rw [if_pos q] at h
      exact hk _ _ _ _ h _ _ _ _ _ hF
    · rw [if_neg q] at h
      exact hk _ _ _ _ h _ _ _ _ _ hF
  · cases h
theorem s_ifne {off : Int} {t nx : Nat} (hd : decode cc pc = .ok (.ifCond .ne off, 3)) (ht : (pc : Int) + off = (t : Int)) (hn : pc + 3 = nx) : Sd mi y cc nL ret hh pc (aIfEq nx t) := by
  refine ⟨fun C ls st g => ?_, ?_⟩
  · unfold aIfEq
    split
    · exact lp_ite _ _ (lp_go _ _ _ _) (lp_go _ _ _ _)
    · exact lp_no
  intro D ad H0 C d p l e R s m args below meth c hC hX ls st g k r H locs cells slots ls' h hF hk
  subst hn
  unfold aIfEq at h
  split at h
  · refine lv_if_ne hX.1 hX.2.1 hd ht (fun q => ?_) (fun q => ?_)
    · rw [if_neg q] at h
      exact hk _ _ _ _ h _ _ _ _ _ hF
    · rw [if_pos q] at h
      exact hk _ _ _ _ h _ _ _ _ _ hF
  · cases h
theorem s_iflt {off : Int} {t nx : Nat} (hd : decode cc pc = .ok (.ifCond .lt off, 3)) (ht : (pc : Int) + off = (t : Int)) (hn : pc + 3 = nx) : Sd mi y cc nL ret hh pc (aIfLt t nx) := by
  refine ⟨fun C ls st g => ?_, ?_⟩
  · unfold aIfLt
    split
    · exact lp_ite _ _ (lp_go _ _ _ _) (lp_go _ _ _ _)
    · exact lp_no
  intro D ad H0 C d p l e R s m args below meth c hC hX ls st g k r H locs cells slots ls' h hF hk
  subst hn
  unfold aIfLt at h
  split at h
  · refine lv_if_lt hX.1 hX.2.1 hd ht (fun q => ?_) (fun q => ?_)
    · rw [if_pos q] at h
      exact hk _ _ _ _ h _ _ _ _ _ hF
    · rw [if_neg q] at h
      exact hk _ _ _ _ h _ _ _ _ _ hF
  · cases h
theorem s_ifge {off : Int} {t nx : Nat} (hd : decode cc pc = .ok (.ifCond .ge off, 3)) (ht : (pc : Int) + off = (t : Int)) (hn : pc + 3 = nx) : Sd mi y cc nL ret hh pc (aIfLt nx t) := by
  refine ⟨fun C ls st g => ?_, ?_⟩
  · unfold aIfLt
    split
    · exact lp_ite _ _ (lp_go _ _ _ _) (lp_go _ _ _ _)
    · exact lp_no
  intro D ad H0 C d p l e R s m args below meth c hC hX ls st g k r H locs cells slots ls' h hF hk
  subst hn
  unfold aIfLt at h
  split at h
  · refine lv_if_ge hX.1 hX.2.1 hd ht (fun q => ?_) (fun q => ?_)
    · rw [if_neg (Int32.not_lt.mpr q)] at h
      exact hk _ _ _ _ h _ _ _ _ _ hF
    · rw [if_pos (Int32.not_le.mp q)] at h
      exact hk _ _ _ _ h _ _ _ _ _ hF
  · cases h
theorem s_ifgt {off : Int} {t nx : Nat} (hd : decode cc pc = .ok (.ifCond .gt off, 3)) (ht : (pc : Int) + off = (t : Int)) (hn : pc + 3 = nx) : Sd mi y cc nL ret hh pc (aIfLe nx t) := by
  refine ⟨fun C ls st g => ?_, ?_⟩
  · unfold aIfLe
    split
    · exact lp_ite _ _ (lp_go _ _ _ _) (lp_go _ _ _ _)
    · exact lp_no
  intro D ad H0 C d p l e R s m args below meth c hC hX ls st g k r H locs cells slots ls' h hF hk
  subst hn
  unfold aIfLe at h
  split at h
  · refine lv_if_gt hX.1 hX.2.1 hd ht (fun q => ?_) (fun q => ?_)
    · rw [if_neg (Int32.not_le.mpr q)] at h
      exact hk _ _ _ _ h _ _ _ _ _ hF
    · rw [if_pos (Int32.not_lt.mp q)] at h
      exact hk _ _ _ _ h _ _ _ _ _ hF
  · cases h
theorem s_ifle {off : Int} {t nx : Nat} (hd : decode cc pc = .ok (.ifCond .le off, 3)) (ht : (pc : Int) + off = (t : Int)) (hn : pc + 3 = nx) : Sd mi y cc nL ret hh pc (aIfLe t nx) := by
  refine ⟨fun C ls st g => ?_, ?_⟩
  · unfold aIfLe
    split
    · exact lp_ite _ _ (lp_go _ _ _ _) (lp_go _ _ _ _)
    · exact lp_no
  intro D ad H0 C d p l e R s m args below meth c hC hX ls st g k r H locs cells slots ls' h hF hk
  subst hn
  unfold aIfLe at h
  split at h
  · refine lv_if_le hX.1 hX.2.1 hd ht (fun q => ?_) (fun q => ?_)
    · rw [if_pos q] at h
      exact hk _ _ _ _ h _ _ _ _ _ hF
    · rw [if_neg q] at h
      exact hk _ _ _ _ h _ _ _ _ _ hF
  · cases h
theorem s_iceq {off : Int} {t nx : Nat} (hd : decode cc pc = .ok (.if_icmp .eq off, 3)) (ht : (pc : Int) + off = (t : Int)) (hn : pc + 3 = nx) : Sd mi y cc nL ret hh pc (aIcEq t nx) := by
  refine ⟨fun C ls st g => ?_, ?_⟩
  · unfold aIcEq
    split
    · exact lp_ite _ _ (lp_go _ _ _ _) (lp_go _ _ _ _)
    · exact lp_no
  intro D ad H0 C d p l e R s m args below meth c hC hX ls st g k r H locs cells slots ls' h hF hk
  subst hn
  unfold aIcEq at h
  split at h
  · refine lv_icmp_eq hX.1 hX.2.1 hd ht (fun q => ?_) (fun q => ?_)
    · rw [if_pos q] at h
      exact hk _ _ _ _ h _ _ _ _ _ hF
    · rw [if_neg q] at h
      exact hk _ _ _ _ h _ _ _ _ _ hF
  · cases h
theorem s_icne {off : Int} {t nx : Nat} (hd : decode cc pc = .ok (.if_icmp .ne off, 3)) (ht : (pc : Int) + off = (t : Int)) (hn : pc + 3 = nx) : Sd mi y cc nL ret hh pc (aIcEq nx t) := by
  refine ⟨fun C ls st g => ?_, ?_⟩
  · unfold aIcEq
    split
    · exact lp_ite _ _ (lp_go _ _ _ _) (lp_go _ _ _ _)
    · exact lp_no
  intro D ad H0 C d p l e R s m args below meth c hC hX ls st g k r H locs cells slots ls' h hF hk
  subst hn
  unfold aIcEq at h
  split at h
  · refine lv_icmp_ne hX.1 hX.2.1 hd ht (fun q => ?_) (fun q => ?_)
    · rw [if_neg q] at h
      exact hk _ _ _ _ h _ _ _ _ _ hF
    · rw [if_pos q] at h
      exact hk _ _ _ _ h _ _ _ _ _ hF
  · cases h
theorem s_iclt {off : Int} {t nx : Nat} (hd : decode cc pc = .ok (.if_icmp .lt off, 3)) (ht : (pc : Int) + off = (t : Int)) (hn : pc + 3 = nx) : Sd mi y cc nL ret hh pc (aIcLt t nx) := by
  refine ⟨fun C ls st g => ?_, ?_⟩
  · unfold aIcLt
    split
    · exact lp_ite _ _ (lp_go _ _ _ _) (lp_go _ _ _ _)
    · exact lp_no
  intro D ad H0 C d p l e R s m args below meth c hC hX ls st g k r H locs cells slots ls' h hF hk
  subst hn
  unfold aIcLt at h
  split at h
  · refine lv_icmp_lt hX.1 hX.2.1 hd ht (fun q => ?_) (fun q => ?_)
    · rw [if_pos q] at h
      exact hk _ _ _ _ h _ _ _ _ _ hF
    · rw [if_neg q] at h
      exact hk _ _ _ _ h _ _ _ _ _ hF
  · cases h
theorem s_icge {off : Int} {t nx : Nat} (hd : decode cc pc = .ok (.if_icmp .ge off, 3)) (ht : (pc : Int) + off = (t : Int)) (hn : pc + 3 = nx) : Sd mi y cc nL ret hh pc (aIcLt nx t) := by
  refine ⟨fun C ls st g => ?_, ?_⟩
  · unfold aIcLt
    split
    · exact lp_ite _ _ (lp_go _ _ _ _) (lp_go _ _ _ _)
    · exact lp_no
  intro D ad H0 C d p l e R s m args below meth c hC hX ls st g k r H locs cells slots ls' h hF hk
  subst hn
  unfold aIcLt at h
  split at h
  · refine lv_icmp_ge hX.1 hX.2.1 hd ht (fun q => ?_) (fun q => ?_)
    · rw [if_neg (Int32.not_lt.mpr q)] at h
      exact hk _ _ _ _ h _ _ _ _ _ hF
    · rw [if_pos (Int32.not_le.mp q)] at h
      exact hk _ _ _ _ h _ _ _ _ _ hF
  · cases h
theorem s_icgt {off : Int} {t nx : Nat} (hd : decode cc pc = .ok (.if_icmp .gt off, 3)) (ht : (pc : Int) + off = (t : Int)) (hn : pc + 3 = nx) : Sd mi y cc nL ret hh pc (aIcLe nx t) := by
  refine ⟨fun C ls st g => ?_, ?_⟩
  · unfold aIcLe
    split
    · exact lp_ite _ _ (lp_go _ _ _ _) (lp_go _ _ _ _)
    · exact lp_no
  intro D ad H0 C d p l e R s m args below meth c hC hX ls st g k r H locs cells slots ls' h hF hk
  subst hn
  unfold aIcLe at h
  split at h
  · refine lv_icmp_gt hX.1 hX.2.1 hd ht (fun q => ?_) (fun q => ?_)
    · rw [if_neg (Int32.not_le.mpr q)] at h
      exact hk _ _ _ _ h _ _ _ _ _ hF
    · rw [if_pos (Int32.not_lt.mp q)] at h
      exact hk _ _ _ _ h _ _ _ _ _ hF
  · cases h
theorem s_icle {off : Int} {t nx : Nat} (hd : decode cc pc = .ok (.if_icmp .le off, 3)) (ht : (pc : Int) + off = (t : Int)) (hn : pc + 3 = nx) : Sd mi y cc nL ret hh pc (aIcLe t nx) := by
  refine ⟨fun C ls st g => ?_, ?_⟩
  · unfold aIcLe
    split
    · exact lp_ite _ _ (lp_go _ _ _ _) (lp_go _ _ _ _)
    · exact lp_no
  intro D ad H0 C d p l e R s m args below meth c hC hX ls st g k r H locs cells slots ls' h hF hk
  subst hn
  unfold aIcLe at h
  split at h
  · refine lv_icmp_le hX.1 hX.2.1 hd ht (fun q => ?_) (fun q => ?_)
    · rw [if_pos q] at h
      exact hk _ _ _ _ h _ _ _ _ _ hF
    · rw [if_neg q] at h
      exact hk _ _ _ _ h _ _ _ _ _ hF
  · cases h
theorem s_ifnull {off : Int} {t nx : Nat} (hd : decode cc pc = .ok (.ifnull off, 3)) (ht : (pc : Int) + off = (t : Int)) (hn : pc + 3 = nx) : Sd mi y cc nL ret hh pc (aIfN t nx) := by
  refine ⟨fun C ls st g => ?_, ?_⟩
  · unfold aIfN
    (repeat' split) <;> first | exact lp_no | exact lp_go _ _ _ _
  intro D ad H0 C d p l e R s m args below meth c hC hX ls st g k r H locs cells slots ls' h hF hk
  subst hn
  unfold aIfN at h
  split at h
  · exact lv_ifnull hX.1 hX.2.1 hd (hk _ _ _ _ h _ _ _ _ _ hF)
  · exact lv_ifnullN hX.1 hX.2.1 hd ht (hk _ _ _ _ h _ _ _ _ _ hF)
  · cases h
theorem s_ifnonnull {off : Int} {t nx : Nat} (hd : decode cc pc = .ok (.ifnonnull off, 3)) (ht : (pc : Int) + off = (t : Int)) (hn : pc + 3 = nx) : Sd mi y cc nL ret hh pc (aIfN nx t) := by
  refine ⟨fun C ls st g => ?_, ?_⟩
  · unfold aIfN
    (repeat' split) <;> first | exact lp_no | exact lp_go _ _ _ _
  intro D ad H0 C d p l e R s m args below meth c hC hX ls st g k r H locs cells slots ls' h hF hk
  subst hn
  unfold aIfN at h
  split at h
  · exact lv_ifnonnull hX.1 hX.2.1 hd ht (hk _ _ _ _ h _ _ _ _ _ hF)
  · exact lv_ifnonnullN hX.1 hX.2.1 hd (hk _ _ _ _ h _ _ _ _ _ hF)
  · cases h
theorem s_dup {nx : Nat} (hd : decode cc pc = .ok (.dup, 1)) (hn : pc + 1 = nx) : Sd mi y cc nL ret hh pc (aDup nx) := by
  refine ⟨fun C ls st g => ?_, ?_⟩
  · unfold aDup
    (repeat' split) <;> first | exact lp_no | exact lp_go _ _ _ _
  intro D ad H0 C d p l e R s m args below meth c hC hX ls st g k r H locs cells slots ls' h hF hk
  subst hn
  unfold aDup at h
  split at h
  · exact lv_dup hX.1 hX.2.1 hd rfl (hk _ _ _ _ h _ _ _ _ _ hF)
  · exact lv_dup hX.1 hX.2.1 hd rfl (hk _ _ _ _ h _ _ _ _ _ hF)
  · cases h
theorem s_dup_x1 {nx : Nat} (hd : decode cc pc = .ok (.dup_x1, 1)) (hn : pc + 1 = nx) : Sd mi y cc nL ret hh pc (aDupX1 nx) := by
  refine ⟨fun C ls st g => ?_, ?_⟩
  · unfold aDupX1
    (repeat' split) <;> first | exact lp_no | exact lp_go _ _ _ _
  intro D ad H0 C d p l e R s m args below meth c hC hX ls st g k r H locs cells slots ls' h hF hk
  subst hn
  unfold aDupX1 at h
  split at h
  · exact lv_dup_x1 hX.1 hX.2.1 hd rfl rfl (hk _ _ _ _ h _ _ _ _ _ hF)
  · exact lv_dup_x1 hX.1 hX.2.1 hd rfl rfl (hk _ _ _ _ h _ _ _ _ _ hF)
  · cases h
theorem s_dup2 {nx : Nat} (hd : decode cc pc = .ok (.dup2, 1)) (hn : pc + 1 = nx) : Sd mi y cc nL ret hh pc (aDup2 nx) := by
  refine ⟨fun C ls st g => ?_, ?_⟩
  · unfold aDup2
    (repeat' split) <;> first | exact lp_no | exact lp_go _ _ _ _
  intro D ad H0 C d p l e R s m args below meth c hC hX ls st g k r H locs cells slots ls' h hF hk
  subst hn
  unfold aDup2 at h
  split at h
  · exact lv_dup2_11 hX.1 hX.2.1 hd rfl rfl (hk _ _ _ _ h _ _ _ _ _ hF)
  · exact lv_dup2_2 hX.1 hX.2.1 hd rfl (hk _ _ _ _ h _ _ _ _ _ hF)
  · cases h
theorem s_pop {nx : Nat} (hd : decode cc pc = .ok (.pop, 1)) (hn : pc + 1 = nx) : Sd mi y cc nL ret hh pc (aPop nx) := by
  refine ⟨fun C ls st g => ?_, ?_⟩
  · unfold aPop
    (repeat' split) <;> first | exact lp_no | exact lp_go _ _ _ _
  intro D ad H0 C d p l e R s m args below meth c hC hX ls st g k r H locs cells slots ls' h hF hk
  subst hn
  unfold aPop at h
  split at h
  · exact lv_pop hX.1 hX.2.1 hd rfl (hk _ _ _ _ h _ _ _ _ _ hF)
  · exact lv_pop hX.1 hX.2.1 hd rfl (hk _ _ _ _ h _ _ _ _ _ hF)
  · exact lv_pop hX.1 hX.2.1 hd rfl (hk _ _ _ _ h _ _ _ _ _ hF)
  · cases h
end SD1

/-! SOUNDNESS: arrays -/
theorem vF_congr {ad : Nat → Nat} {g g1 : AH} {a : Nat} (e1 : g1.1 a = g.1 a) (e2 : g1.2.1 a = g.2.1 a) (e3 : g1.2.2.1 a = g.2.2.1 a) (ty : FieldType) (k : Nat) : vF ad g1 ty a k = vF ad g ty a k := by
  cases ty <;> simp only [vF, e1, e2, e3]
theorem CellOk.kept {D : va_G} {ad : Nat → Nat} {U : State} {g g1 : AH} {H H1 : Heap} {a t n : Nat} (h : CellOk D ad U g H a t n) (hq : H1[ad a]? = H[ad a]?) (e1 : g1.1 a = g.1 a) (e2 : g1.2.1 a = g.2.1 a) (e3 : g1.2.2.1 a = g.2.2.1 a) : CellOk D ad U g1 H1 a t n := by
  rcases h with ⟨h0, h1, q, h2, h3⟩ | ⟨h1, cell, c1, c2, c3, c4, c5, c6⟩ | ⟨h0, h1, cell, c1, c2, c3, c4, c5⟩ | ⟨h0, h1, cell, c1, c2, c3, c4, c5⟩
  · exact Or.inl ⟨h0, h1, q, h2, (h3.kept hq).to (fun k _ => (vF_congr e1 e2 e3 _ k).symm)⟩
  · exact Or.inr (Or.inl ⟨h1, cell, by rw [hq]; exact c1, c2, c3, c4, fun j hj => by rw [vF_congr e1 e2 e3]; exact c5 j hj, c6⟩)
  · refine Or.inr (Or.inr (Or.inl ⟨h0, h1, cell, by rw [hq]; exact c1, c2, c3, c4, fun k hk => ?_⟩))
    obtain ⟨cf, kf, i, f, f1, f2, f3⟩ := c5 k hk
    exact ⟨cf, kf, i, f, f1, f2, by rw [vF_congr e1 e2 e3]; exact f3⟩
  · exact Or.inr (Or.inr (Or.inr ⟨h0, h1, cell, by rw [hq]; exact c1, c2, c3, c4, fun k hk => by rw [vF_congr e1 e2 e3]; exact c5 k hk⟩))
theorem Rel.ne {D : va_G} {ad : Nat → Nat} {H0 : Heap} {U : State} {g : AH} {H : Heap} (h : Rel D ad H0 U g H) {a b : Nat} (ha : oldN ≤ a) (hb : b ≠ a) : ad b ≠ ad a := by
  rw [h.2.2.1 a ha]
  by_cases q : oldN ≤ b
  · rw [h.2.2.1 b q]; omega
  · have := h.2.2.2.1 b (by omega); omega
/-- behind a store into the cell a -/
theorem Rel.wr {D : va_G} {ad : Nat → Nat} {H0 : Heap} {U : State} {g g1 : AH} {H H1 : Heap} {a t n : Nat} (h : Rel D ad H0 U g H) (ha : oldN ≤ a) (hs : g.2.2.2.1 a = some (t, n)) (hz : H1.size = H.size) (hq : ∀ q : Nat, q ≠ ad a → H1[q]? = H[q]?) (e0 : g1.2.2.2 = g.2.2.2) (e : ∀ b, b ≠ a → g1.1 b = g.1 b ∧ g1.2.1 b = g.2.1 b ∧ g1.2.2.1 b = g.2.2.1 b) (hc : CellOk D ad U g1 H1 a t n) : Rel D ad H0 U g1 H1 := by
  refine ⟨by rw [hz, e0]; exact h.1, by rw [e0]; exact h.2.1, h.2.2.1, h.2.2.2.1, fun q hq0 => ?_, fun b t' n' hb => ?_⟩
  · rw [hq q (by rw [h.2.2.1 a ha]; omega)]
    exact h.2.2.2.2.1 q hq0
  · rw [e0] at hb ⊢
    obtain ⟨h1, h2⟩ := h.2.2.2.2.2 b t' n' hb
    refine ⟨h1, ?_⟩
    by_cases q : b = a
    · subst q
      rw [hs] at hb
      cases hb
      exact hc
    · obtain ⟨e1, e2, e3⟩ := e b q
      exact h2.kept (hq _ (h.ne ha q)) e1 e2 e3
theorem okT_spec {ts : List Nat} {x : Option (Nat × Nat)} (h : okT ts x = true) : ∃ t n, x = some (t, n) ∧ t ∈ ts := by
  cases x with
  | none => cases h
  | some q => exact ⟨q.1, q.2, rfl, by simpa [okT] using h⟩
theorem inb_spec {i : Int32} {n : Nat} (h : inb i n = true) : ¬ (i < 0 ∨ n ≤ i.toNatClampNeg) := of_decide_eq_true h
theorem isNew_spec {a : Nat} (h : isNew a = true) : oldN ≤ a := Nat.le_of_ble_eq_true h
theorem upR_self {α : Type} (f : Nat → Nat → α) (a i : Nat) (v : α) (j : Nat) : upR f a i v a j = if j = i then v else f a j := by simp [upR]
theorem upR_ne {α : Type} (f : Nat → Nat → α) {a b : Nat} (i : Nat) (v : α) (h : b ≠ a) : upR f a i v b = f b := by funext j; simp [upR, h]
/-- an array's cell -/
theorem Rel.arr {D : va_G} {ad : Nat → Nat} {H0 : Heap} {U : State} {g : AH} {H : Heap} (h : Rel D ad H0 U g H) {a t n : Nat} (hs : g.2.2.2.1 a = some (t, n)) (ht : 100 ≤ t) : ∃ cell : Cell, H[ad a]? = some cell ∧ U.isArrayOf cell (etyN t) ∧ cell.vm ≠ .unknown ∧ cell.slots.size = n ∧ (∀ j : Nat, j < n → cell.slots[j]? = some (vF ad g (etyN t) a j) ∧ fits (etyN t) (vF ad g (etyN t) a j) = true) ∧ (oldN ≤ a → cell.vm = .none ∧ RAx U cell.cls (etyN t)) := by
  rcases (h.2.2.2.2.2 a t n hs).2 with ⟨_, q, _⟩ | ⟨_, q⟩ | ⟨_, q, _⟩ | ⟨_, q, _⟩
  · omega
  · exact q
  · omega
  · omega
theorem setSlot_arr {U : State} {cell : Cell} {ty : FieldType} (h : U.isArrayOf cell ty) (i : Nat) (v : Value) : U.isArrayOf (cell.setSlot i v) ty := h
theorem setSlot_at (cell : Cell) (i : Nat) (v : Value) (j : Nat) (hj : j < cell.slots.size) : (cell.setSlot i v).slots[j]? = if j = i then some v else cell.slots[j]? := by
  simp only [Cell.setSlot]
  by_cases q : j = i
  · subst q; simp [hj]
  · rw [if_neg q, Array.getElem?_setIfInBounds_ne (fun z => q z.symm)]
theorem setSlot_size (cell : Cell) (i : Nat) (v : Value) : (cell.setSlot i v).slots.size = cell.slots.size := by simp [Cell.setSlot]
/-- an array's cell behind a store -/
theorem CellOk.ast {D : va_G} {ad : Nat → Nat} {U : State} {g g1 : AH} {H1 : Heap} {a t n i : Nat} {v : Value} {cell : Cell} (ht : 100 ≤ t) (c1 : H1[ad a]? = some (cell.setSlot i v)) (c2 : U.isArrayOf cell (etyN t)) (c3 : cell.vm ≠ .unknown) (c4 : cell.slots.size = n) (c5 : ∀ j : Nat, j < n → cell.slots[j]? = some (vF ad g (etyN t) a j) ∧ fits (etyN t) (vF ad g (etyN t) a j) = true) (c6 : oldN ≤ a → cell.vm = .none ∧ RAx U cell.cls (etyN t)) (hv : vF ad g1 (etyN t) a i = v) (hft : fits (etyN t) v = true) (ho : ∀ j, j ≠ i → vF ad g1 (etyN t) a j = vF ad g (etyN t) a j) : CellOk D ad U g1 H1 a t n := by
  refine Or.inr (Or.inl ⟨ht, _, c1, setSlot_arr c2 i v, c3, by rw [setSlot_size]; exact c4, fun j hj => ?_, c6⟩)
  rw [setSlot_at _ _ _ _ (by omega)]
  by_cases q : j = i
  · subst q; rw [if_pos rfl, hv]; exact ⟨rfl, hft⟩
  · rw [if_neg q, ho j q]; exact c5 j hj
theorem FR.wr {D : va_G} {ad : Nat → Nat} {H0 : Heap} {R : Room} {s : State} {nL : Nat} {ls : List Value} {g g1 : AH} {H H1 : Heap} {locs : List Loc} {cells slots : Nat} {ls' : Array Slot} {a i : Nat} (h : FR D ad H0 R s nL ls g H locs cells slots ls') (ha : oldN ≤ a) (e0 : g1.2.2.2 = g.2.2.2) (hr : Rel D ad H0 s g1 H1) : FR D ad H0 R s nL ls g1 H1 (locs ++ [⟨ad a, i⟩]) cells slots ls' := by
  refine ⟨h.1, hr, t_lc h.2.2.1 (by rw [h.2.1.2.2.1 a ha]; omega), by rw [e0]; exact h.2.2.2.1, by rw [e0]; exact h.2.2.2.2⟩
theorem mv_rf (ad : Nat → Nat) (r : Option Nat) : mv ad (va_rf r) = va_rf (r.map ad) := by cases r <;> rfl
section SD2
variable {mi : List MI} {y : MethodName} {cc : ByteArray} {nL pc : Nat} {ret : Option FieldType} {hh : List (Nat × Nat × Nat × Nat)}
theorem s_iaload {nx : Nat} (hd : decode cc pc = .ok (.iaload, 1)) (hn : pc + 1 = nx) : Sd mi y cc nL ret hh pc (aAldI nx) := by
  refine ⟨fun C ls st g => ?_, ?_⟩
  · unfold aAldI
    split
    · exact lp_bif _ (lp_go _ _ _ _) lp_no
    · exact lp_no
  intro D ad H0 C d p l e R s m args below meth c hC hX ls st g k r H locs cells slots ls' h hF hk
  subst hn
  unfold aAldI at h
  split at h
  · next i a r' =>
    obtain ⟨hb, h⟩ := bif_t h
    obtain ⟨h1, h2⟩ := (Bool.and_eq_true _ _).mp hb |>.imp id id
    obtain ⟨t, n, hs, hm⟩ := okT_spec h1
    rw [hs] at h2
    have h2 := inb_spec h2
    cases List.mem_singleton.mp hm
    obtain ⟨cell, c1, c2, c3, c4, c5, c6⟩ := hF.2.1.arr hs (by decide)
    exact W.iald hX.1 hX.2.1 c1 c2 c3 (by rw [c4]; exact h2) (c5 _ (Nat.not_le.mp fun q => h2 (Or.inr q))).1 rfl rfl hd (hk _ _ _ _ h _ _ _ _ _ hF)
  · cases h
theorem s_baload {nx : Nat} (hd : decode cc pc = .ok (.baload, 1)) (hn : pc + 1 = nx) : Sd mi y cc nL ret hh pc (aAldB nx) := by
  refine ⟨fun C ls st g => ?_, ?_⟩
  · unfold aAldB
    split
    · exact lp_bif _ (lp_go _ _ _ _) lp_no
    · exact lp_no
  intro D ad H0 C d p l e R s m args below meth c hC hX ls st g k r H locs cells slots ls' h hF hk
  subst hn
  unfold aAldB at h
  split at h
  · next i a r' =>
    obtain ⟨hb, h⟩ := bif_t h
    obtain ⟨h1, h2⟩ := (Bool.and_eq_true _ _).mp hb |>.imp id id
    obtain ⟨t, n, hs, hm⟩ := okT_spec h1
    rw [hs] at h2
    have h2 := inb_spec h2
    rcases List.mem_cons.mp hm with rfl | hm
    · obtain ⟨cell, c1, c2, c3, c4, c5, c6⟩ := hF.2.1.arr hs (by decide)
      exact W.bald hX.1 hX.2.1 c1 c2 c3 (by rw [c4]; exact h2) (c5 _ (Nat.not_le.mp fun q => h2 (Or.inr q))).1 rfl rfl hd (hk _ _ _ _ h _ _ _ _ _ hF)
    · cases List.mem_singleton.mp hm
      obtain ⟨cell, c1, c2, c3, c4, c5, c6⟩ := hF.2.1.arr hs (by decide)
      exact W.zald hX.1 hX.2.1 c1 c2 c3 (by rw [c4]; exact h2) (c5 _ (Nat.not_le.mp fun q => h2 (Or.inr q))).1 rfl rfl hd (hk _ _ _ _ h _ _ _ _ _ hF)
  · cases h
theorem s_laload {nx : Nat} (hd : decode cc pc = .ok (.laload, 1)) (hn : pc + 1 = nx) : Sd mi y cc nL ret hh pc (aAldL nx) := by
  refine ⟨fun C ls st g => ?_, ?_⟩
  · unfold aAldL
    split
    · exact lp_bif _ (lp_go _ _ _ _) lp_no
    · exact lp_no
  intro D ad H0 C d p l e R s m args below meth c hC hX ls st g k r H locs cells slots ls' h hF hk
  subst hn
  unfold aAldL at h
  split at h
  · next i a r' =>
    obtain ⟨hb, h⟩ := bif_t h
    obtain ⟨h1, h2⟩ := (Bool.and_eq_true _ _).mp hb |>.imp id id
    obtain ⟨t, n, hs, hm⟩ := okT_spec h1
    rw [hs] at h2
    have h2 := inb_spec h2
    cases List.mem_singleton.mp hm
    obtain ⟨cell, c1, c2, c3, c4, c5, c6⟩ := hF.2.1.arr hs (by decide)
    exact W.lald hX.1 hX.2.1 c1 c2 c3 (by rw [c4]; exact h2) (c5 _ (Nat.not_le.mp fun q => h2 (Or.inr q))).1 rfl rfl hd (hk _ _ _ _ h _ _ _ _ _ hF)
  · cases h
theorem ety_ref {t : Nat} (h : 110 ≤ t) : (etyN t).isReference = true := by
  unfold etyN
  split <;> first | omega | rfl
theorem vF_ref {ad : Nat → Nat} {g : AH} {t a k : Nat} (h : 110 ≤ t) : vF ad g (etyN t) a k = va_rf ((g.2.2.1 a k).map ad) := by
  unfold etyN
  split <;> first | omega | rfl
theorem s_aaload {nx : Nat} (hd : decode cc pc = .ok (.aaload, 1)) (hn : pc + 1 = nx) : Sd mi y cc nL ret hh pc (aAldA nx) := by
  refine ⟨fun C ls st g => ?_, ?_⟩
  · unfold aAldA
    split
    · exact lp_bif _ (lp_go _ _ _ _) lp_no
    · exact lp_no
  intro D ad H0 C d p l e R s m args below meth c hC hX ls st g k r H locs cells slots ls' h hF hk
  subst hn
  unfold aAldA at h
  split at h
  · next i a r' =>
    obtain ⟨hb, h⟩ := bif_t h
    obtain ⟨h1, h2⟩ := (Bool.and_eq_true _ _).mp hb |>.imp id id
    cases hs : g.2.2.2.1 a with
    | none => rw [hs] at h1; cases h1
    | some q =>
      obtain ⟨t, n⟩ := q
      rw [hs] at h1 h2
      have h2 := inb_spec h2
      have ht : 110 ≤ t := Nat.le_of_ble_eq_true h1
      obtain ⟨cell, c1, c2, c3, c4, c5, c6⟩ := hF.2.1.arr hs (by omega)
      have h3 := hk _ _ _ _ h _ _ _ _ _ hF
      rw [List.map_cons, mv_rf, ← vF_ref ht] at h3
      exact W.aald hX.1 hX.2.1 c1 c2 (ety_ref ht) c3 (by rw [c4]; exact h2) (c5 _ (Nat.not_le.mp fun q => h2 (Or.inr q))).1 rfl rfl hd h3
  · cases h
theorem s_iastore {nx : Nat} (hd : decode cc pc = .ok (.iastore, 1)) (hn : pc + 1 = nx) : Sd mi y cc nL ret hh pc (aAstI nx) := by
  refine ⟨fun C ls st g => ?_, ?_⟩
  · unfold aAstI
    split
    · exact lp_bif _ (lp_go _ _ _ _) lp_no
    · exact lp_no
  intro D ad H0 C d p l e R s m args below meth c hC hX ls st g k r H locs cells slots ls' h hF hk
  subst hn
  unfold aAstI at h
  split at h
  · next x i a r' =>
    obtain ⟨hb, h⟩ := bif_t h
    obtain ⟨h0, h2⟩ := (Bool.and_eq_true _ _).mp hb |>.imp id id
    obtain ⟨h0, h1⟩ := (Bool.and_eq_true _ _).mp h0 |>.imp id id
    have h0 := isNew_spec h0
    obtain ⟨t, n, hs, hm⟩ := okT_spec h1
    rw [hs] at h2
    have h2 := inb_spec h2
    cases List.mem_singleton.mp hm
    obtain ⟨cell, c1, c2, c3, c4, c5, c6⟩ := hF.2.1.arr hs (by decide)
    refine W.iast hX.1 hX.2.1 c1 c2 c3 (by rw [c4]; exact h2) rfl rfl hd fun H1 e1 z oq => ?_
    refine hk _ _ _ _ h _ _ _ _ _ (hF.wr h0 rfl (hF.2.1.wr h0 hs z oq rfl (fun b hb => ⟨upR_ne _ _ _ hb, rfl, rfl⟩) ?_))
    exact CellOk.ast (by decide) e1 c2 c3 c4 c5 c6 (by show Value.int (upR _ _ _ _ _ _) = _; rw [upR_self, if_pos rfl]) rfl (fun j hj => by show Value.int (upR _ _ _ _ _ _) = _; rw [upR_self, if_neg hj]; rfl)
  · cases h
theorem s_lastore {nx : Nat} (hd : decode cc pc = .ok (.lastore, 1)) (hn : pc + 1 = nx) : Sd mi y cc nL ret hh pc (aAstL nx) := by
  refine ⟨fun C ls st g => ?_, ?_⟩
  · unfold aAstL
    split
    · exact lp_bif _ (lp_go _ _ _ _) lp_no
    · exact lp_no
  intro D ad H0 C d p l e R s m args below meth c hC hX ls st g k r H locs cells slots ls' h hF hk
  subst hn
  unfold aAstL at h
  split at h
  · next x i a r' =>
    obtain ⟨hb, h⟩ := bif_t h
    obtain ⟨h0, h2⟩ := (Bool.and_eq_true _ _).mp hb |>.imp id id
    obtain ⟨h0, h1⟩ := (Bool.and_eq_true _ _).mp h0 |>.imp id id
    have h0 := isNew_spec h0
    obtain ⟨t, n, hs, hm⟩ := okT_spec h1
    rw [hs] at h2
    have h2 := inb_spec h2
    cases List.mem_singleton.mp hm
    obtain ⟨cell, c1, c2, c3, c4, c5, c6⟩ := hF.2.1.arr hs (by decide)
    refine W.last hX.1 hX.2.1 c1 c2 c3 (by rw [c4]; exact h2) rfl rfl hd fun H1 e1 z oq => ?_
    refine hk _ _ _ _ h _ _ _ _ _ (hF.wr h0 rfl (hF.2.1.wr h0 hs z oq rfl (fun b hb => ⟨rfl, upR_ne _ _ _ hb, rfl⟩) ?_))
    exact CellOk.ast (by decide) e1 c2 c3 c4 c5 c6 (by show Value.long (upR _ _ _ _ _ _) = _; rw [upR_self, if_pos rfl]) rfl (fun j hj => by show Value.long (upR _ _ _ _ _ _) = _; rw [upR_self, if_neg hj]; rfl)
  · cases h
theorem nar_bool {x : Int32} (h : x = 0 ∨ x = 1) : narrow .boolean (.int x) = .int x := by rcases h with rfl | rfl <;> decide
theorem fit_bool {x : Int32} (h : x = 0 ∨ x = 1) : fits .boolean (.int x) = true := by rcases h with rfl | rfl <;> decide
theorem s_bastore {nx : Nat} (hd : decode cc pc = .ok (.bastore, 1)) (hn : pc + 1 = nx) : Sd mi y cc nL ret hh pc (aAstB nx) := by
  refine ⟨fun C ls st g => ?_, ?_⟩
  · unfold aAstB
    split
    · exact lp_bif _ (lp_go _ _ _ _) (lp_bif _ (lp_go _ _ _ _) lp_no)
    · exact lp_no
  intro D ad H0 C d p l e R s m args below meth c hC hX ls st g k r H locs cells slots ls' h hF hk
  subst hn
  unfold aAstB at h
  split at h
  · next x i a r' =>
    cases hb : (isNew a && okT [101] (g.2.2.2.1 a) && inb i (lenOf (g.2.2.2.1 a))) with
    | true =>
      rw [hb] at h
      replace h : k _ _ _ _ = some r := h
      obtain ⟨h0, h2⟩ := (Bool.and_eq_true _ _).mp hb |>.imp id id
      obtain ⟨h0, h1⟩ := (Bool.and_eq_true _ _).mp h0 |>.imp id id
      have h0 := isNew_spec h0
      obtain ⟨t, n, hs, hm⟩ := okT_spec h1
      rw [hs] at h2
      have h2 := inb_spec h2
      cases List.mem_singleton.mp hm
      obtain ⟨cell, c1, c2, c3, c4, c5, c6⟩ := hF.2.1.arr hs (by decide)
      refine W.bast hX.1 hX.2.1 c1 c2 c3 (by rw [c4]; exact h2) rfl rfl hd fun H1 e1 z oq => ?_
      refine hk _ _ _ _ h _ _ _ _ _ (hF.wr h0 rfl (hF.2.1.wr h0 hs z oq rfl (fun b hb => ⟨upR_ne _ _ _ hb, rfl, rfl⟩) ?_))
      exact CellOk.ast (by decide) e1 c2 c3 c4 c5 c6 (by show Value.int (upR _ _ _ _ _ _) = _; rw [upR_self, if_pos rfl]; rfl) (pk_fb _) (fun j hj => by show Value.int (upR _ _ _ _ _ _) = _; rw [upR_self, if_neg hj]; rfl)
    | false =>
      rw [hb] at h
      obtain ⟨hb, h⟩ := bif_t (show (bif _ then _ else none) = some r from h)
      obtain ⟨h0, h3⟩ := (Bool.and_eq_true _ _).mp hb |>.imp id id
      obtain ⟨h0, h2⟩ := (Bool.and_eq_true _ _).mp h0 |>.imp id id
      obtain ⟨h0, h1⟩ := (Bool.and_eq_true _ _).mp h0 |>.imp id id
      have h0 := isNew_spec h0
      have h3 := of_decide_eq_true h3
      obtain ⟨t, n, hs, hm⟩ := okT_spec h1
      rw [hs] at h2
      have h2 := inb_spec h2
      cases List.mem_singleton.mp hm
      obtain ⟨cell, c1, c2, c3, c4, c5, c6⟩ := hF.2.1.arr hs (by decide)
      refine W.zast hX.1 hX.2.1 c1 c2 c3 (by rw [c4]; exact h2) rfl rfl hd fun H1 e1 z oq => ?_
      rw [nar_bool h3] at e1
      refine hk _ _ _ _ h _ _ _ _ _ (hF.wr h0 rfl (hF.2.1.wr h0 hs z oq rfl (fun b hb => ⟨upR_ne _ _ _ hb, rfl, rfl⟩) ?_))
      exact CellOk.ast (by decide) e1 c2 c3 c4 c5 c6 (by show Value.int (upR _ _ _ _ _ _) = _; rw [upR_self, if_pos rfl]) (fit_bool h3) (fun j hj => by show Value.int (upR _ _ _ _ _ _) = _; rw [upR_self, if_neg hj]; rfl)
  · cases h
def aLen (nx : Nat) : Act := fun _ ls st g k => match st with
  | .ref a :: r => bif okT [100, 101, 102, 103] (g.2.2.2.1 a) || aIsR (g.2.2.2.1 a) then k nx ls (.int (Int32.ofNat (lenOf (g.2.2.2.1 a))) :: r) g else none
  | _ => none
theorem s_len {nx : Nat} (hd : decode cc pc = .ok (.arraylength, 1)) (hn : pc + 1 = nx) : Sd mi y cc nL ret hh pc (aLen nx) := by
  refine ⟨fun C ls st g => ?_, ?_⟩
  · unfold aLen
    split
    · exact lp_bif _ (lp_go _ _ _ _) lp_no
    · exact lp_no
  intro D ad H0 C d p l e R s m args below meth c hC hX ls st g k r H locs cells slots ls' h hF hk
  subst hn
  unfold aLen at h
  split at h
  · next a r' =>
    obtain ⟨hb, h⟩ := bif_t h
    have ht : ∃ t n, g.2.2.2.1 a = some (t, n) ∧ 100 ≤ t := by
      rcases (Bool.or_eq_true _ _).mp hb with q | q
      · obtain ⟨t, n, hs, hm⟩ := okT_spec q
        refine ⟨t, n, hs, ?_⟩
        simp at hm
        omega
      · cases hs : g.2.2.2.1 a with
        | none => rw [hs] at q; cases q
        | some z => rw [hs] at q; exact ⟨z.1, z.2, rfl, Nat.le_trans (by decide) (Nat.le_of_ble_eq_true q)⟩
    obtain ⟨t, n, hs, ht⟩ := ht
    obtain ⟨cell, c1, c2, c3, c4, c5, c6⟩ := hF.2.1.arr hs ht
    have h3 := hk _ _ _ _ h _ _ _ _ _ hF
    rw [hs] at h3
    exact W.alen (n := Int32.ofNat n) hX.1 hX.2.1 c1 c2 (by rw [c4]) rfl rfl hd h3
  · cases h
end SD2

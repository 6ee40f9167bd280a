/-! THE SIMULATION: sound tables are met by the machine -/
/-- a table of the method q: every instruction is sound, where there is one -/
def SdT (mi : List MI) (q : MI) (o : Nat) (tab : List Act) : Prop := ∀ i, nth tab i = aBad ∨ Sd mi q.1 q.2.1 q.2.2.1 q.2.2.2.1 q.2.2.2.2 (o + i) (nth tab i)
theorem sdT_nil (mi : List MI) (q : MI) (o : Nat) : SdT mi q o [] := fun i => Or.inl (by cases i <;> rfl)
theorem sdT_bad {mi : List MI} {q : MI} {o : Nat} {l : List Act} (t : SdT mi q (o + 1) l) : SdT mi q o (aBad :: l) := fun i => by
  cases i with
  | zero => exact Or.inl rfl
  | succ n => rw [show o + (n + 1) = o + 1 + n by omega]; exact t n
theorem sdT_cons {mi : List MI} {q : MI} {o : Nat} {a : Act} {l : List Act} (h : Sd mi q.1 q.2.1 q.2.2.1 q.2.2.2.1 q.2.2.2.2 o a) (t : SdT mi q (o + 1) l) : SdT mi q o (a :: l) := fun i => by
  cases i with
  | zero => exact Or.inr h
  | succ n => rw [show o + (n + 1) = o + 1 + n by omega]; exact t n
theorem SdT.lin {mi : List MI} {q : MI} {o : Nat} {tab : List Act} (h : SdT mi q o tab) : LinT tab := fun pc => by
  rcases h pc with z | z
  · rw [z]; exact lin_bad
  · exact z.1
section SIM
variable {D : va_G} {ad : Nat → Nat} {H0 : Heap} {mi : List MI}
theorem sim_run {C : CT} {d : Nat} (hC : COk D ad H0 mi C d) {q : MI} {tab : List Act} (hT : SdT mi q 0 tab) {p : Program} {l : Launch} {e : Env} {R : Room} {s : State} {m : MethodId} {args : Array Value} {below : List Frame} {meth : Method} {c : Code} (hX : Cx D ad H0 p R s m meth c q.1 q.2.1 q.2.2.1 q.2.2.2.1 q.2.2.2.2 (d + 1)) {r : Outcome × AH} :
    ∀ (n pc : Nat) (ls st : List Value) (g : AH), runN tab C n pc ls st g = some r → ∀ (H : Heap) (locs : List Loc) (cells slots : Nat) (ls' : Array Slot), FR D ad H0 R s q.2.2.1 ls g H locs cells slots ls' → W p l e R s m args below meth c H locs cells slots (QE D ad H0 R s below r) (F0 m pc ls' (st.map (mv ad))) := by
  intro n
  induction n with
  | zero => intro pc ls st g h; cases h
  | succ n ih =>
    intro pc ls st g h H locs cells slots ls' hF
    have h : nth tab pc C ls st g (runN tab C n) = some r := h
    rcases hT pc with z | z
    · rw [z] at h; cases h
    · rw [Nat.zero_add] at z
      exact z.2 D ad H0 C d p l e R s m args below meth c hC hX ls st g _ r H locs cells slots ls' h hF ih
theorem spread_len (ad : Nat → Nat) (as : List Value) (nL : Nat) (h : (lg_sl (as.map (mv ad))).length ≤ nL) : (padTo nL (spread as)).length = nL := by
  have : ∀ (n : Nat) (l : List Value), (padTo n l).length = n := by
    intro n
    induction n with
    | zero => intro l; rfl
    | succ n ih => intro l; cases l <;> simp [padTo, ih]
  exact this _ _
theorem pad_at : ∀ (n : Nat) (l : List Value) (i : Nat) (v : Value), (padTo n l)[i]? = some v → (∀ k, v ≠ .retAddr k) → l[i]? = some v := by
  intro n
  induction n with
  | zero => intro l i v h; cases h
  | succ n ih =>
    intro l i v h hn
    cases l with
    | nil =>
      cases i with
      | zero => cases h; exact absurd rfl (hn 0)
      | succ i => exact absurd (ih [] i v h hn) (by simp)
    | cons w l =>
      cases i with
      | zero => exact h
      | succ i => exact ih l i v h hn
theorem spread_at (ad : Nat → Nat) : ∀ (as : List Value), (∀ v ∈ as, (∀ b, v ≠ .double b)) → ∀ (o i : Nat) (v : Value), (spread as)[i]? = some v → (∀ k, v ≠ .retAddr k) → (o + i, mv ad v) ∈ lv_args o (as.map (mv ad)) := by
  intro as
  induction as with
  | nil => intro _ o i v h; simp [spread] at h
  | cons w as ih =>
    intro hd o i v h hn
    have hd' : ∀ v ∈ as, ∀ b, v ≠ .double b := fun v hv => hd v (List.mem_cons_of_mem _ hv)
    have hw := hd w List.mem_cons_self
    have one : w.category = 1 → spread (w :: as) = w :: spread as → (o + i, mv ad v) ∈ lv_args o ((w :: as).map (mv ad)) := by
      intro hc e
      rw [e] at h
      show _ ∈ (o, mv ad w) :: lv_args (if (mv ad w).category = 2 then o + 2 else o + 1) (as.map (mv ad))
      rw [mv_cat, hc, if_neg (by decide)]
      cases i with
      | zero => cases h; exact List.mem_cons_self
      | succ i =>
        have := ih hd' (o + 1) i v h hn
        rw [show o + (i + 1) = o + 1 + i by omega]
        exact List.mem_cons_of_mem _ this
    cases w with
    | double b => exact absurd rfl (hw b)
    | long x =>
      show _ ∈ (o, Value.long x) :: lv_args (o + 2) (as.map (mv ad))
      have h : (Value.long x :: nv :: spread as)[i]? = some v := h
      cases i with
      | zero => cases h; exact List.mem_cons_self
      | succ i =>
        cases i with
        | zero => cases h; exact absurd rfl (hn 0)
        | succ i =>
          have := ih hd' (o + 2) i v h hn
          rw [show o + (i + 1 + 1) = o + 2 + i by omega]
          exact List.mem_cons_of_mem _ this
    | _ => exact one rfl rfl
theorem lg_len (ad : Nat → Nat) (as : List Value) : (lg_sl (as.map (mv ad))).length = (lg_sl as).length := by
  induction as with
  | nil => rfl
  | cons v as ih =>
    simp only [lg_sl, List.map_cons, List.flatMap_cons, List.length_append] at ih ⊢
    rw [ih]
    cases v <;> rfl
theorem sim_entry {C : CT} {d : Nat} (hC : COk D ad H0 mi C d) {q : MI} {tab : List Act} (hT : SdT mi q 0 tab) {as : List Value} {g : AH} {r : Outcome × AH} (hr : E tab C 0 (padTo q.2.2.1 (spread as)) [] g = some r) (hok : argsOk q.2.2.1 as = true)
    {p : Program} {l : Launch} {e : Env} {R : Room} {s : State} {m : MethodId} {args : Array Value} {below : List Frame} {meth : Method} {c : Code} {H : Heap} (hX : Cx D ad H0 p R s m meth c q.1 q.2.1 q.2.2.1 q.2.2.2.1 q.2.2.2.2 (d + 1)) (ha : args = (as.map (mv ad)).toArray) (hR : Rel D ad H0 s g H) (h1 : limC ≤ R.cells + g.2.2.2.2.1 ∧ g.2.2.2.2.1 ≤ limC) (h2 : limS ≤ R.slots + g.2.2.2.2.2 ∧ g.2.2.2.2.2 ≤ limS) :
    W p l e R s m args below meth c H [] 0 0 (QE D ad H0 R s below r) (entryFrame m args q.2.2.1) := by
  obtain ⟨n, hn⟩ := (E_iff hT.lin).mp hr
  obtain ⟨o1, o2⟩ := (Bool.and_eq_true _ _).mp hok |>.imp id id
  have o1 : (lg_sl (as.map (mv ad))).length ≤ q.2.2.1 := by rw [lg_len]; exact of_decide_eq_true o1
  have hl := lv_entry (as.map (mv ad)) (n := q.2.2.1) o1
  subst ha
  rw [lg_entry_eq]
  generalize (lg_sl (as.map (mv ad)) ++ List.replicate (q.2.2.1 - (lg_sl (as.map (mv ad))).length) Slot.unset).toArray = ls' at hl ⊢
  refine sim_run hC hT hX n 0 (padTo q.2.2.1 (spread as)) [] g hn H [] 0 0 ls' ⟨⟨hl.1, spread_len ad as _ o1, hl.2.1, fun i v hv hne => ?_⟩, hR, fun q hq => (by cases hq), by omega, by omega⟩
  have hd : ∀ v ∈ as, ∀ b, v ≠ .double b := by
    intro v hv b e
    have := List.all_eq_true.mp o2 v hv
    rw [e] at this
    cases this
  have := hl.2.2 _ (spread_at ad as hd 0 i v (pad_at _ _ _ _ hv hne) hne)
  rw [Nat.zero_add] at this
  exact this
theorem sim {mt : List (List Act × Nat)} (h : ∀ (y : Nat) (tab : List Act) (nL : Nat), mt[y]? = some (tab, nL) → ∃ q : MI, mi[y]? = some q ∧ q.2.2.1 = nL ∧ SdT mi q 0 tab) : ∀ d, COk D ad H0 mi (CD mt d) d := by
  intro d
  induction d with
  | zero => intro y a g r q hc; cases hc
  | succ d ih =>
    intro y a g r q hc hq p l e R s m args below meth c H hX ha hR h1 h2
    have hc : (match mt[y]? with
      | some (tab, nL) => bif argsOk nL a then E tab (CD mt d) 0 (padTo nL (spread a)) [] g else none
      | none => none) = some r := hc
    cases hm : mt[y]? with
    | none => rw [hm] at hc; cases hc
    | some z =>
      obtain ⟨tab, nL⟩ := z
      rw [hm] at hc
      obtain ⟨hb, hc⟩ := bif_t (show (bif argsOk nL a then _ else none) = some r from hc)
      obtain ⟨q', e1, e2, e3⟩ := h y tab nL hm
      cases hq.symm.trans e1
      subst e2
      exact sim_entry ih e3 hc hb hX ha hR h1 h2
end SIM

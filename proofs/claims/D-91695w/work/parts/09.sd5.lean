/-! SOUNDNESS: returns, throws, switches -/
def aRetV : Act := fun _ _ _ g _ => some (.returned none, g)
def aRetI : Act := fun _ _ st g _ => match st with
  | [.int x] => some (.returned (some (.int x)), g)
  | _ => none
def aRetZ : Act := fun _ _ st g _ => match st with
  | [.int x] => bif decide (x = 0 ∨ x = 1) then some (.returned (some (.int x)), g) else none
  | _ => none
def aRetA : Act := fun _ _ st g _ => match st with
  | [.ref x] => some (.returned (some (.ref x)), g)
  | [.null] => some (.returned (some .null), g)
  | _ => none
def aThrow : Act := fun _ _ st g _ => match st with
  | .ref a :: _ => bif okT [8, 11] (g.2.2.2.1 a) && isNew a then some (.threw a, g) else none
  | _ => none
section SD7
variable {mi : List MI} {y : MethodName} {cc : ByteArray} {nL pc : Nat} {ret : Option FieldType} {hh : List (Nat × Nat × Nat × Nat)}
theorem qe_of {D : va_G} {ad : Nat → Nat} {H0 : Heap} {R : Room} {s : State} {below : List Frame} {nL : Nat} {ls : List Value} {g : AH} {H : Heap} {locs : List Loc} {cells slots : Nat} {ls' : Array Slot} {v : Option Value} {a : Array Value} (hF : FR D ad H0 R s nL ls g H locs cells slots ls') {t : State} (h : MQ below (fun _ _ o t => o = .returned (v.map (mv ad)) ∧ t.heap = H) a s cells slots (fun q => H0.size ≤ q) t) : QE D ad H0 R s below (.returned v, g) t := by
  obtain ⟨o, h1, h2, ⟨h3, h4⟩, L, ⟨-, h5, h6⟩, h7⟩ := h
  subst h3
  exact ⟨h1, h2, h5, L, cells, slots, h6, h7, hF.2.2.2.1, hF.2.2.2.2, by rw [h4]; exact hF.2.1⟩
theorem s_return (hd : decode cc pc = .ok (.return_, 1)) (hr : ret = none) : Sd mi y cc nL ret hh pc aRetV := by
  refine ⟨fun C ls st g => lp_end _, ?_⟩
  intro D ad H0 C d p l e R s m args below meth c hC hX ls st g k r H locs cells slots ls' h hF hk
  cases h
  have hlocks : meth.locks = false := hX.2.2.2.2.2.1
  have key : W p l e R s m args below meth c H locs cells slots (MQ below (fun _ _ o t => o = .returned ((none : Option Value).map (mv ad)) ∧ t.heap = H) args s cells slots (fun q => H0.size ≤ q)) (F0 m pc ls' (st.map (mv ad))) := by
    intro T hT X
    obtain ⟨fs, hret, hrun, hended, hW, hframe⟩ := X.leave (v := none) (fun _ => rfl)
    have hmeth' : T.vm.method? m = some meth := X.method'
    have hr' : meth.sig.returnType = none := by rw [hX.2.2.2.2.1]; exact hr
    have hx := hX.1
    have hb := hX.2.1
    refine ⟨T.setFrames fs, ?_, .returned none, hrun, hended, ⟨rfl, hT⟩, locs, ⟨⟨_, rfl⟩, hW, hframe⟩, hF.2.2.1⟩
    jvm_step X.here [X.here.top, hx, hb, hd, hmeth', hr']
    (try refine ⟨rfl, ?_⟩); (try refine ⟨rfl, ?_⟩)
    first | (intro acts; rw [hret _ acts rfl rfl rfl]) | rw [hret _ _ rfl rfl rfl]
    exact Steps.refl _
  exact key.mono fun t ht => qe_of hF ht
theorem s_ireturn (hd : decode cc pc = .ok (.ireturn, 1)) (hr : ret = some .int) : Sd mi y cc nL ret hh pc aRetI := by
  refine ⟨fun C ls st g => ?_, ?_⟩
  · unfold aRetI
    split
    · exact lp_end _
    · exact lp_no
  intro D ad H0 C d p l e R s m args below meth c hC hX ls st g k r H locs cells slots ls' h hF hk
  unfold aRetI at h
  split at h
  · cases h
    have hlocks : meth.locks = false := hX.2.2.2.2.2.1
    exact (W.iret (free := fun q => H0.size ≤ q) hX.1 hX.2.1 (hX.2.2.2.2.1.trans hr) (fun t ht hW => ⟨rfl, ht⟩) hF.2.2.1 hd).mono fun t ht => qe_of (v := some (.int _)) hF ht
  · cases h
theorem s_zreturn {ty : FieldType} (hd : decode cc pc = .ok (.ireturn, 1)) (hr : ret = some ty) (hty : ty = .boolean ∨ ty = .byte) : Sd mi y cc nL ret hh pc aRetZ := by
  refine ⟨fun C ls st g => ?_, ?_⟩
  · unfold aRetZ
    split
    · exact lp_bif _ (lp_end _) lp_no
    · exact lp_no
  intro D ad H0 C d p l e R s m args below meth c hC hX ls st g k r H locs cells slots ls' h hF hk
  unfold aRetZ at h
  split at h
  · obtain ⟨hb, h⟩ := bif_t h
    cases h
    have hlocks : meth.locks = false := hX.2.2.2.2.2.1
    exact (W.zret (free := fun q => H0.size ≤ q) hX.1 hX.2.1 (hX.2.2.2.2.1.trans hr) (fit_Z hty (of_decide_eq_true hb)).1 (fun t ht hW => ⟨rfl, ht⟩) hF.2.2.1 hd).mono fun t ht => qe_of (v := some (.int _)) hF ht
  · cases h
theorem s_areturn {ty : FieldType} (hd : decode cc pc = .ok (.areturn, 1)) (hr : ret = some ty) (hty : (∃ n, ty = .object n) ∨ ∃ t, ty = .array t) : Sd mi y cc nL ret hh pc aRetA := by
  refine ⟨fun C ls st g => ?_, ?_⟩
  · unfold aRetA
    split
    · exact lp_end _
    · exact lp_end _
    · exact lp_no
  intro D ad H0 C d p l e R s m args below meth c hC hX ls st g k r H locs cells slots ls' h hF hk
  have hlocks : meth.locks = false := hX.2.2.2.2.2.1
  unfold aRetA at h
  split at h
  · cases h
    exact (W.aret (free := fun q => H0.size ≤ q) hX.1 hX.2.1 (hX.2.2.2.2.1.trans hr) hty (Or.inr ⟨_, rfl⟩) (fun t ht hW => ⟨rfl, ht⟩) hF.2.2.1 hd).mono fun t ht => qe_of (v := some (.ref _)) hF ht
  · cases h
    exact (W.aret (free := fun q => H0.size ≤ q) hX.1 hX.2.1 (hX.2.2.2.2.1.trans hr) hty (Or.inl rfl) (fun t ht hW => ⟨rfl, ht⟩) hF.2.2.1 hd).mono fun t ht => qe_of (v := some .null) hF ht
  · cases h
/-- a throw that leaves the method: it has no handlers -/
theorem s_athrow (hd : decode cc pc = .ok (.athrow, 1)) (hh0 : hh = []) : Sd mi y cc nL ret hh pc aThrow := by
  refine ⟨fun C ls st g => ?_, ?_⟩
  · unfold aThrow
    split
    · exact lp_bif _ (lp_end _) lp_no
    · exact lp_no
  intro D ad H0 C d p l e R s m args below meth c hC hX ls st g k r H locs cells slots ls' h hF hk
  have hlocks : meth.locks = false := hX.2.2.2.2.2.1
  unfold aThrow at h
  split at h
  · next a r' =>
    obtain ⟨hb, h⟩ := bif_t h
    cases h
    intro T hT X
    have hout : ∀ x ∈ c.exceptionTable.toList, covers x pc = false := by
      have e1 := hX.2.2.2.2.2.2.2.2.2.2
      rw [hh0] at e1
      have e2 := List.map_eq_nil_iff.mp e1
      intro x hx
      rw [e2] at hx
      cases hx
    obtain ⟨h1, h2, h3, h4, h5⟩ := X.athrowLeaves (g := F0 m pc ls' ((Value.ref a :: r').map (mv ad))) hX.1 rfl rfl rfl hout rfl (by rw [hX.2.1]; exact hd)
    exact ⟨_, h1, h2, h3, h4, locs, cells, slots, h5, hF.2.2.1, hF.2.2.2.1, hF.2.2.2.2, by show Rel D ad H0 s g T.heap; rw [hT]; exact hF.2.1⟩
  · cases h
theorem lp_sw (x : Int32) (ls st : List Value) (g : AH) : ∀ (ts : List Nat) (lo : Int32) (d : Nat), LinP (fun k => sw x lo ts d (fun t => k t ls st g)) := by
  intro ts
  induction ts with
  | nil => intro lo d; exact lp_go _ _ _ _
  | cons t ts ih => intro lo d; exact lp_ite _ _ (lp_go _ _ _ _) (ih _ _)
/-- a switch from 0 on: its targets -/
theorem sw_in {x : Int32} {f : Nat → Option (Outcome × AH)} {r : Outcome × AH} {d : Nat} : ∀ (ts : List Nat) (lo : Nat), lo + ts.length < 1000 → sw x (Int32.ofNat lo) ts d f = some r → (∃ (j : Nat) (t : Nat), ts[j]? = some t ∧ x = Int32.ofNat (lo + j) ∧ f t = some r) ∨ ((∀ j, j < ts.length → x ≠ Int32.ofNat (lo + j)) ∧ f d = some r) := by
  intro ts
  induction ts with
  | nil => intro lo _ h; exact Or.inr ⟨fun j hj => (by cases hj), h⟩
  | cons t ts ih =>
    intro lo hl h
    by_cases q : x = Int32.ofNat lo
    · have h : (if x = Int32.ofNat lo then f t else sw x (Int32.ofNat lo + 1) ts d f) = some r := h
      rw [if_pos q] at h
      exact Or.inl ⟨0, t, rfl, q, h⟩
    · have h : (if x = Int32.ofNat lo then f t else sw x (Int32.ofNat lo + 1) ts d f) = some r := h
      rw [if_neg q, show Int32.ofNat lo + 1 = Int32.ofNat (lo + 1) from nI_1 lo] at h
      rcases ih (lo + 1) (by simp at hl; omega) h with ⟨j, t', h1, h2, h3⟩ | ⟨h1, h2⟩
      · exact Or.inl ⟨j + 1, t', h1, by rw [h2]; congr 1; omega, h3⟩
      · refine Or.inr ⟨fun j hj => ?_, h2⟩
        cases j with
        | zero => exact q
        | succ j =>
          have := h1 j (by simpa using hj)
          rw [show lo + (j + 1) = lo + 1 + j by omega]
          exact this
theorem s_switch {dflt : Int} {hi len dt : Nat} {offs : Array Int} {ts : List Nat} (hd : decode cc pc = .ok (.tableswitch dflt 0 (hi : Int) offs, len)) (hdt : (pc : Int) + dflt = (dt : Int)) (hl : ts.length = hi + 1 ∧ hi < 900) (ho : ∀ j, j < hi + 1 → ∃ (o : Int) (t : Nat), offs[j]? = some o ∧ ts[j]? = some t ∧ (pc : Int) + o = (t : Int)) : Sd mi y cc nL ret hh pc (aSw 0 ts dt) := by
  refine ⟨fun C ls st g => ?_, ?_⟩
  · unfold aSw
    split
    · exact lp_sw _ _ _ _ _ _ _
    · exact lp_no
  intro D ad H0 C d p l e R s m args below meth c hC hX ls st g k r H locs cells slots ls' h hF hk
  unfold aSw at h
  split at h
  · next x r' =>
    rcases sw_in ts 0 (by omega) h with ⟨j, t, h1, h2, h3⟩ | ⟨h1, h2⟩
    · have hj : j < hi + 1 := by have := (List.getElem?_eq_some_iff.mp h1).1; omega
      obtain ⟨o, t', o1, o2, o3⟩ := ho j hj
      cases h1.symm.trans o2
      have hx : x.toInt = (j : Int) := by rw [h2, Nat.zero_add]; exact nI_toInt (by omega)
      exact lv_tableIn hX.1 hX.2.1 hd (by omega) (by omega) (by rw [hx]; simpa using o1) o3 (hk _ _ _ _ h3 _ _ _ _ _ hF)
    · refine lv_tableOut hX.1 hX.2.1 hd ?_ hdt (hk _ _ _ _ h2 _ _ _ _ _ hF)
      by_cases q : x.toInt < 0
      · exact Or.inl q
      · right
        refine Int.not_le.mp fun z => ?_
        have hz := h1 x.toInt.toNat (by omega)
        apply hz
        apply Int32.toInt_inj.mp
        rw [Nat.zero_add]
        rw [show (Int32.ofNat x.toInt.toNat).toInt = (x.toInt.toNat : Int) from nI_toInt (by omega)]
        omega
  · cases h
end SD7

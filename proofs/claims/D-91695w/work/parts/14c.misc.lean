section SD8
variable {mi : List MI} {y : MethodName} {cc : ByteArray} {nL pc : Nat} {ret : Option FieldType} {hh : List (Nat × Nat × Nat × Nat)}
theorem str_cell {D : va_G} {ad : Nat → Nat} {H0 : Heap} {s : State} {g : AH} {H : Heap} (hK : va_K D cls [] s) (h : Rel D ad H0 s g H) {a n : Nat} (hs : g.2.2.2.1 a = some (13, n)) : ∃ cell : Cell, H[ad a]? = some cell ∧ cell.vm.isStatics = false ∧ s.vm.findClass "java/lang/String" = some cell.cls := by
  obtain ⟨hS, hfc, kC, hkC, hkind⟩ := hK.1 13 _ cls_J8
  rcases (h.2.2.2.2.2 a 13 n hs).2 with ⟨_, _, q, g1, cell, q1, q2, q3, q4⟩ | ⟨z, _⟩ | ⟨_, z, _⟩ | ⟨_, _, cell, d1, d2, d3, d4, d5⟩
  · exact ⟨cell, q1, by rw [q3]; rfl, by rw [q2]; exact hfc⟩
  · omega
  · omega
  · exact ⟨cell, d1, d2, by rw [d4]; exact hfc⟩
theorem s_inst {idx nx : Nat} (hd : decode cc pc = .ok (.instanceof idx, 3)) (w : Cond.classLink y.cls idx "java/lang/String" ∈ lw_all) (hn : pc + 3 = nx) : Sd mi y cc nL ret hh pc (aIns nx) := by
  refine ⟨fun C ls st g => ?_, ?_⟩
  · unfold aIns
    split
    · exact lp_bif _ (lp_go _ _ _ _) lp_no
    · exact lp_no
  intro D ad H0 C d p l e R s m args below meth c hC hX ls st g k r H locs cells slots ls' h hF hk
  subst hn
  unfold aIns at h
  split at h
  · next a r' =>
    obtain ⟨hb, h⟩ := bif_t h
    obtain ⟨t, n, hs, hm⟩ := okT_spec hb
    cases List.mem_singleton.mp hm
    exact va_instE hX.1 hX.2.1 hX.2.2.2.1 (hX.w w) (str_cell hX.K hF.2.1 hs) hd (hk _ _ _ _ h _ _ _ _ _ hF)
  · cases h
theorem s_cast {idx nx : Nat} (hd : decode cc pc = .ok (.checkcast idx, 3)) (w : Cond.classLink y.cls idx "java/lang/String" ∈ lw_all) (hn : pc + 3 = nx) : Sd mi y cc nL ret hh pc (aCst nx) := by
  refine ⟨fun C ls st g => ?_, ?_⟩
  · unfold aCst
    split
    · exact lp_bif _ (lp_go _ _ _ _) lp_no
    · exact lp_no
  intro D ad H0 C d p l e R s m args below meth c hC hX ls st g k r H locs cells slots ls' h hF hk
  subst hn
  unfold aCst at h
  split at h
  · next a r' =>
    obtain ⟨hb, h⟩ := bif_t h
    obtain ⟨t, n, hs, hm⟩ := okT_spec hb
    cases List.mem_singleton.mp hm
    exact va_castE hX.1 hX.2.1 hX.2.2.2.1 (hX.w w) (str_cell hX.K hF.2.1 hs) hd (hk _ _ _ _ h _ _ _ _ _ hF)
  · cases h
theorem s_acmpne {off : Int} {t nx : Nat} (hd : decode cc pc = .ok (.if_acmp .ne off, 3)) (ht : (pc : Int) + off = (t : Int)) (hn : pc + 3 = nx) : Sd mi y cc nL ret hh pc (aAcNe t nx) := by
  refine ⟨fun C ls st g => ?_, ?_⟩
  · unfold aAcNe
    split
    · exact lp_bif _ (lp_ite _ _ (lp_go _ _ _ _) (lp_go _ _ _ _)) lp_no
    · exact lp_no
  intro D ad H0 C d p l e R s m args below meth c hC hX ls st g k r H locs cells slots ls' h hF hk
  subst hn
  unfold aAcNe at h
  split at h
  · next b a r' =>
    obtain ⟨hb, h⟩ := bif_t h
    have hne : a ≠ b → ad a ≠ ad b := by
      intro q
      rcases (Bool.or_eq_true _ _).mp hb with z | z
      · exact fun e => (hF.2.1.ne (isNew_spec z) (Ne.symm q)) e.symm
      · exact hF.2.1.ne (isNew_spec z) q
    refine lv_acmp_ne (rx := some (ad a)) (ry := some (ad b)) hX.1 hX.2.1 hd ht (fun q => ?_) (fun q => ?_)
    · have q : a ≠ b := fun e => q (by rw [e])
      rw [if_neg q] at h
      exact hk _ _ _ _ h _ _ _ _ _ hF
    · have q : a = b := Classical.byContradiction fun z => hne z (Option.some.inj q)
      rw [if_pos q] at h
      exact hk _ _ _ _ h _ _ _ _ _ hF
  · cases h
end SD8

section SD8
variable {mi : List MI} {y : MethodName} {cc : ByteArray} {nL pc : Nat} {ret : Option FieldType} {hh : List (Nat × Nat × Nat × Nat)}
theorem Rel.sort {D : va_G} {ad : Nat → Nat} {H0 : Heap} {U : State} {g : AH} {H : Heap} (h : Rel D ad H0 U g H) {a n : Nat} (hs : g.2.2.2.1 a = some (50, n)) : ∃ cell : Cell, H[ad a]? = some cell ∧ cell.vm ≠ .unknown ∧ ∀ k, k < 4 → ∃ (cf : ClassId) (kf : Class) (i : Nat) (f : Field), U.fieldFound? "PlugHall$Sort" (soN k).1 (soN k).2.1 = some (cf, kf, i, f) ∧ f.isStatic = false ∧ cell.slots[f.slot]? = some (vF ad g (soN k).2.2 a k) := by
  rcases (h.2.2.2.2.2 a 50 n hs).2 with ⟨_, z, _⟩ | ⟨z, _⟩ | ⟨_, _, cell, c1, c2, c3, c4, c5⟩ | ⟨_, z, _⟩
  · omega
  · omega
  · exact ⟨cell, c1, c3, c5⟩
  · omega
theorem s_getS {idx kf nx : Nat} (hd : decode cc pc = .ok (.getfield idx, 3)) (hk3 : 0 < kf ∧ kf < 4) (hlk : FLk y.cls idx "PlugHall$Sort" (soN kf).1 (soN kf).2.1) (hn : pc + 3 = nx) : Sd mi y cc nL ret hh pc (aGetS kf nx) := by
  refine ⟨fun C ls st g => ?_, ?_⟩
  · unfold aGetS
    split
    · exact lp_bif _ (lp_go _ _ _ _) lp_no
    · exact lp_no
  intro D ad H0 C d p l e R s m args below meth c hC hX ls st g k r H locs cells slots ls' h hF hk
  subst hn
  unfold aGetS at h
  split at h
  · next a r' =>
    obtain ⟨hb, h⟩ := bif_t h
    obtain ⟨t, n, hs, hm⟩ := okT_spec hb
    cases List.mem_singleton.mp hm
    obtain ⟨cell, c1, c2, c3⟩ := hF.2.1.sort hs
    obtain ⟨cf, kf', i, f, f1, f2, f3⟩ := c3 kf hk3.2
    have h3 := hk _ _ _ _ h _ _ _ _ _ hF
    have e : vF ad g (soN kf).2.2 a kf = .int (g.1 a kf) := by
      have : kf = 1 ∨ kf = 2 ∨ kf = 3 := by omega
      rcases this with rfl | rfl | rfl <;> rfl
    rw [e] at f3
    rcases hlk with w | ⟨host, w⟩
    · exact W.getf hX.1 hX.2.1 hX.2.2.2.1 (hX.w w) f1 f2 c1 c2 f3 rfl rfl hd h3
    · exact va_Wgetf hX.1 hX.2.1 hX.2.2.2.1 (hX.n w) f1 f2 c1 c2 f3 rfl rfl hd h3
  · cases h
theorem s_getW {idx nx : Nat} (hd : decode cc pc = .ok (.getfield idx, 3)) (hlk : FLk y.cls idx "PlugHall$Sort" "word" "Ljava/lang/String;") (hn : pc + 3 = nx) : Sd mi y cc nL ret hh pc (aGetW nx) := by
  refine ⟨fun C ls st g => ?_, ?_⟩
  · unfold aGetW
    split
    · exact lp_bif _ (lp_go _ _ _ _) lp_no
    · exact lp_no
  intro D ad H0 C d p l e R s m args below meth c hC hX ls st g k r H locs cells slots ls' h hF hk
  subst hn
  unfold aGetW at h
  split at h
  · next a r' =>
    obtain ⟨hb, h⟩ := bif_t h
    obtain ⟨t, n, hs, hm⟩ := okT_spec hb
    cases List.mem_singleton.mp hm
    obtain ⟨cell, c1, c2, c3⟩ := hF.2.1.sort hs
    obtain ⟨cf, kf', i, f, f1, f2, f3⟩ := c3 0 (by decide)
    have h3 := hk _ _ _ _ h _ _ _ _ _ hF
    rw [List.map_cons, mv_rf] at h3
    rcases hlk with w | ⟨host, w⟩
    · exact W.getf hX.1 hX.2.1 hX.2.2.2.1 (hX.w w) f1 f2 c1 c2 f3 rfl rfl hd h3
    · exact va_Wgetf hX.1 hX.2.1 hX.2.2.2.1 (hX.n w) f1 f2 c1 c2 f3 rfl rfl hd h3
  · cases h
end SD8

/-! SOUNDNESS: fields -/
def isI (t : FieldType) : Bool := match t with
  | .int => true
  | .byte => true
  | .boolean => true
  | .char => true
  | .short => true
  | _ => false
def isL (t : FieldType) : Bool := match t with
  | .long => true
  | _ => false
def isR (t : FieldType) : Bool := match t with
  | .object _ => true
  | .array _ => true
  | _ => false
theorem vF_I {ad : Nat → Nat} {g : AH} {t : FieldType} (h : isI t = true) (a k : Nat) : vF ad g t a k = .int (g.1 a k) := by cases t <;> first | rfl | cases h
theorem vF_L {ad : Nat → Nat} {g : AH} {t : FieldType} (h : isL t = true) (a k : Nat) : vF ad g t a k = .long (g.2.1 a k) := by cases t <;> first | rfl | cases h
theorem vF_R {ad : Nat → Nat} {g : AH} {t : FieldType} (h : isR t = true) (a k : Nat) : vF ad g t a k = va_rf ((g.2.2.1 a k).map ad) := by cases t <;> first | rfl | cases h
/-- the link of a field, plain or of a nest mate -/
def FLk (own : String) (idx : Nat) (ref n d : String) : Prop := Cond.fieldLink own idx ref n d ∈ lw_all ∨ ∃ host, Cond.fieldLinkNest own idx ref n d host ∈ nst
/-- entry idx of the class own is the field k of the class of number t -/
def FOk (own : String) (idx t k : Nat) : Prop := ∃ (C : String) (T : u_T) (N : Nat) (ref : String), cls[t]? = some (C, T, N) ∧ t < 50 ∧ k < N ∧ (∀ w ∈ u_ws C T N, w ∈ lw_all) ∧ FLk own idx ref (T k).2.1 (T k).2.2.1 ∧ (ref = (T k).1 ∨ Cond.sameField ref (T k).1 (T k).2.1 (T k).2.2.1 ∈ lw_all) ∧ (∀ j, j < N → parseFieldDescriptor (T j).2.2.1 = some (tyN t j)) ∧ (∀ a, a < N → ∀ b, b < N → a ≠ b → (T a).2.1 ≠ (T b).2.1)
/-- it is no final field; or it is, and of the class own -/
def FFin (own : String) (t k : Nat) (b : Bool) : Prop := ∃ (C : String) (T : u_T) (N : Nat), cls[t]? = some (C, T, N) ∧ (T k).2.2.2 = b ∧ (b = true → (T k).1 = own)
section SD3
variable {p : Program} {l : Launch} {e : Env} {R : Room} {s : State} {m : MethodId} {args : Array Value} {below : List Frame} {meth : Method} {c : Code} {H : Heap} {locs : List Loc} {cells slots : Nat} {Q : State → Prop}
variable {D : va_G} {ad : Nat → Nat} {H0 : Heap} {y : MethodName} {cc : ByteArray} {nL pc : Nat} {ret : Option FieldType} {hh : List (Nat × Nat × Nat × Nat)} {d : Nat} {g : AH} {ls' : Array Slot} {rest : List Value} {ls : List Value}
theorem Cx.w (hX : Cx D ad H0 p R s m meth c y cc nL ret hh d) {w : Cond} (h : w ∈ lw_all) : w.before args s = true := hX.2.2.2.2.2.2.2.1.1 w h _
theorem Cx.n (hX : Cx D ad H0 p R s m meth c y cc nL ret hh d) {w : Cond} (h : w ∈ nst) : w.before args s = true := hX.2.2.2.2.2.2.2.1.2.1 w h _
theorem Cx.K (hX : Cx D ad H0 p R s m meth c y cc nL ret hh d) : va_K D cls [] s := hX.2.2.2.2.2.2.2.1.2.2.1
theorem getW (hX : Cx D ad H0 p R s m meth c y cc nL ret hh d) (hR : Rel D ad H0 s g H) {idx t k n a : Nat} (fo : FOk y.cls idx t k) (hs : g.2.2.2.1 a = some (t, n)) (h13 : t = 13 → k < 2) (hd : decode cc pc = .ok (.getfield idx, 3))
    (kk : W p l e R s m args below meth c H locs cells slots Q (F0 m (pc + 3) ls' (vF ad g (tyN t k) a k :: rest))) : W p l e R s m args below meth c H locs cells slots Q (F0 m pc ls' (.ref (ad a) :: rest)) := by
  obtain ⟨C, T, N, ref, f1, f50, f2, f3, f4, f5, f6, f7⟩ := fo
  obtain ⟨hS, hfc, kC, hkC, hkind⟩ := hX.K.1 t _ f1
  obtain ⟨cf, kf, fi, f, hi, hsl⟩ := hS k f2
  have hst := (u_facts (args := args) hfc hkC (u_lays (fun w h => hX.w h) f3 f2) hi).1
  have hi2 : s.fieldFound? ref (T k).2.1 (T k).2.2.1 = some (cf, kf, fi, f) := by
    rcases f5 with q | q
    · rw [q]; exact hi
    · exact u_same (hX.w (args := args) q) _ hi
  have hcell : ∃ cell : Cell, H[ad a]? = some cell ∧ cell.vm ≠ .unknown ∧ cell.slots[f.slot]? = some (vF ad g (tyN t k) a k) := by
    rw [hsl]
    rcases (hR.2.2.2.2.2 a t n hs).2 with ⟨_, _, q, g1, cell, q1, q2, q3, q4⟩ | ⟨z, _⟩ | ⟨_, z, _⟩ | ⟨_, z, cell, c1, c2, c3, c4, c5⟩
    · have hq : q = (C, T, N) := Option.some.inj (g1.symm.trans f1)
      subst hq
      exact ⟨cell, q1, (by rw [q3]; exact fun h => (by cases h)), q4 k f2⟩
    · omega
    · omega
    · subst z
      exact ⟨cell, c1, c3, c5 k (h13 rfl)⟩
  obtain ⟨cell, q1, q2, q3⟩ := hcell
  rcases f4 with q | ⟨host, q⟩
  · exact W.getf hX.1 hX.2.1 hX.2.2.2.1 (hX.w q) hi2 hst q1 q2 q3 rfl rfl hd kk
  · exact va_Wgetf hX.1 hX.2.1 hX.2.2.2.1 (hX.n q) hi2 hst q1 q2 q3 rfl rfl hd kk
theorem Rel.obj (hR : Rel D ad H0 s g H) {a t n : Nat} (ha : oldN ≤ a) (ht : t < 50) (hs : g.2.2.2.1 a = some (t, n)) : ∃ q : vw_C, cls[t]? = some q ∧ t_OB (ad a) (D.1 t) q.2.2 (D.2 t) H (fun k => vF ad g (tyN t k) a k) := by
  rcases (hR.2.2.2.2.2 a t n hs).2 with ⟨_, _, q⟩ | ⟨z, _⟩ | ⟨_, z, _⟩ | ⟨z, _⟩
  · exact q
  · omega
  · omega
  · omega
theorem putW (hX : Cx D ad H0 p R s m meth c y cc nL ret hh d) (hR : Rel D ad H0 s g H) {idx t k n a : Nat} {v : Value} {b : Bool} (fo : FOk y.cls idx t k) (ff : FFin y.cls t k b) (hin : b = true → y.name = "<init>") (ha : oldN ≤ a) (hs : g.2.2.2.1 a = some (t, n)) (hn : narrow (tyN t k) v = v) (hfit : fits (tyN t k) v = true) (hd : decode cc pc = .ok (.putfield idx, 3))
    (kk : ∀ (H1 : Heap) (i : Nat), H1.size = H.size → (∀ q : Nat, q ≠ ad a → H1[q]? = H[q]?) → (∀ g1 : AH, vF ad g1 (tyN t k) a k = v → (∀ j, j ≠ k → vF ad g1 (tyN t j) a j = vF ad g (tyN t j) a j) → CellOk D ad s g1 H1 a t n) → W p l e R s m args below meth c H1 (locs ++ [⟨ad a, i⟩]) cells slots Q (F0 m (pc + 3) ls' rest)) : W p l e R s m args below meth c H locs cells slots Q (F0 m pc ls' (v :: .ref (ad a) :: rest)) := by
  obtain ⟨C, T, N, ref, f1, f50, f2, f3, f4, f5, f6, f7⟩ := fo
  obtain ⟨C', T', N', f1', hb, hown⟩ := ff
  cases f1.symm.trans f1'
  have hlw : ∀ w ∈ lw_all, w.before args s = true := fun w h => hX.w h
  have hap := va_apart (own := y.cls) hlw f3 (tyN t) f6 f7 hX.K f1
  obtain ⟨hS, hfc, kC, hkC, hkind⟩ := hX.K.1 t _ f1
  obtain ⟨cf, kf, fi, f, hi, hsl⟩ := hS k f2
  have hst := (u_facts hfc hkC (u_lays hlw f3 f2) hi).1
  have hi2 : s.fieldFound? ref (T k).2.1 (T k).2.2.1 = some (cf, kf, fi, f) := by
    rcases f5 with q | q
    · rw [q]; exact hi
    · exact u_same (hX.w (args := args) q) _ hi
  obtain ⟨q, g1, cell, q1, q2, q3, q4⟩ := hR.obj ha f50 hs
  cases f1.symm.trans g1
  have hlay := hlw _ (f3 _ (u_in_lay f2))
  unfold u_lay at hlay
  have fin : ∀ H1 : Heap, H1[ad a]? = some (cell.setSlot f.slot v) → ∀ g1 : AH, vF ad g1 (tyN t k) a k = v → (∀ j, j ≠ k → vF ad g1 (tyN t j) a j = vF ad g (tyN t j) a j) → CellOk D ad s g1 H1 a t n := by
    intro H1 e1 g1 hv ho
    rw [hsl] at e1
    refine Or.inl ⟨ha, f50, _, f1, t_OB.to (V := updV (fun k => vF ad g (tyN t k) a k) k v) ⟨_, e1, q2, q3, t_set q4 hap f2 v⟩ (fun j _ => ?_)⟩
    unfold updV
    by_cases z : j = k
    · subst z; rw [if_pos rfl, hv]
    · rw [if_neg z, ho j z]
  have hlt : f.slot < cell.slots.size := by rw [hsl]; exact k2_hasslot (q4 k f2)
  cases b with
  | false =>
    rw [if_neg (by rw [hb]; decide)] at hlay
    have h6 := u_store hfc hkC hkind hlay hi (f6 k f2) hn hfit
    rcases f4 with q | ⟨host, q⟩
    · exact W.putK hX.1 hX.2.1 (f := f) ⟨hX.2.2.2.1, hX.w q, ⟨_, _, _, hi2⟩, hst⟩ (by rw [q2]; exact h6) q1 q3 hlt rfl rfl hd fun H' e1 e2 e3 => kk H' _ e2 e3 (fin H' e1)
    · exact va_WputK hX.1 hX.2.1 (f := f) hX.2.2.2.1 (hX.n q) hi2 hst (by rw [q2]; exact h6) q1 q3 hlt rfl rfl hd fun H' e1 e2 e3 => kk H' _ e2 e3 (fin H' e1)
  | true =>
    rw [if_pos hb] at hlay
    have hcf : m.cls = cf := by
      obtain ⟨_, _, c', _, _, _, -, -, hf', -, -, -, hown2, -⟩ := Cond.laysFinal_spec hlay
      have e1 : c' = cf := by have := hi.symm.trans hf'; simp at this; exact this.1.symm
      rw [hown rfl] at hown2
      rw [← e1]; exact Option.some.inj (hX.2.2.2.1.symm.trans hown2)
    have h6 := u_fits hfc hkC hkind (Or.inr hlay) hi (f6 k f2) hn hfit
    have hnm : meth.name = "<init>" := by rw [hX.2.2.2.2.2.2.1]; exact hin rfl
    rcases f4 with q | ⟨host, q⟩
    · exact W.putFinK hX.1 hX.2.1 hX.2.2.2.1 (hX.w q) hi2 hst hcf hnm (by rw [q2]; exact h6) q1 q3 hlt rfl rfl hd fun H' e1 e2 e3 => kk H' _ e2 e3 (fin H' e1)
    · refine va_Wputf hX.1 hX.2.1 hX.2.2.2.1 (hX.n q) hi2 hst (Or.inr ⟨hcf, hnm⟩) q1 (by rw [q3]; exact fun h => by cases h) hlt h6.1 (by rw [q2, q3]; exact h6.2) rfl rfl hd ?_
      have hal : ad a < H.size := (Array.getElem?_eq_some_iff.mp q1).1
      refine kk _ _ (by simp) (fun q hq => by simp [Array.getElem?_setIfInBounds, Ne.symm hq]) (fin _ (by simp [Array.getElem?_setIfInBounds, hal]))
end SD3
/-! the instructions -/
def aGetI (kf : Nat) (ts : List Nat) (nx : Nat) : Act := fun _ ls st g k => match st with
  | .ref a :: r => bif okT ts (g.2.2.2.1 a) then k nx ls (.int (g.1 a kf) :: r) g else none
  | _ => none
def aGetL (kf : Nat) (ts : List Nat) (nx : Nat) : Act := fun _ ls st g k => match st with
  | .ref a :: r => bif okT ts (g.2.2.2.1 a) then k nx ls (.long (g.2.1 a kf) :: r) g else none
  | _ => none
def aGetR (kf : Nat) (ts : List Nat) (nx : Nat) : Act := fun _ ls st g k => match st with
  | .ref a :: r => bif okT ts (g.2.2.2.1 a) then k nx ls (va_rf (g.2.2.1 a kf) :: r) g else none
  | _ => none
def aPutI (kf : Nat) (ts : List Nat) (nx : Nat) : Act := fun _ ls st g k => match st with
  | .int x :: .ref a :: r => bif isNew a && okT ts (g.2.2.2.1 a) then k nx ls r (setI g a kf x) else none
  | _ => none
def aPutZ (kf : Nat) (ts : List Nat) (nx : Nat) : Act := fun _ ls st g k => match st with
  | .int x :: .ref a :: r => bif isNew a && okT ts (g.2.2.2.1 a) && decide (x = 0 ∨ x = 1) then k nx ls r (setI g a kf x) else none
  | _ => none
def aPutL (kf : Nat) (ts : List Nat) (nx : Nat) : Act := fun _ ls st g k => match st with
  | .long x :: .ref a :: r => bif isNew a && okT ts (g.2.2.2.1 a) then k nx ls r (setL g a kf x) else none
  | _ => none
def aPutR (kf : Nat) (ts : List Nat) (nx : Nat) : Act := fun _ ls st g k => match st with
  | .ref x :: .ref a :: r => bif isNew a && okT ts (g.2.2.2.1 a) then k nx ls r (setR g a kf (some x)) else none
  | .null :: .ref a :: r => bif isNew a && okT ts (g.2.2.2.1 a) then k nx ls r (setR g a kf none) else none
  | _ => none
theorem fit_R {t : FieldType} (h : isR t = true) (r : Option Nat) : narrow t (va_rf r) = va_rf r ∧ fits t (va_rf r) = true := by
  cases t <;> first | (cases h; done) | (cases r <;> exact ⟨rfl, rfl⟩)
theorem fit_L {t : FieldType} (h : isL t = true) (x : Int64) : narrow t (.long x) = .long x ∧ fits t (.long x) = true := by
  cases t <;> first | (cases h; done) | exact ⟨rfl, rfl⟩
theorem fit_Z {t : FieldType} (h : t = .boolean ∨ t = .byte) {x : Int32} (hx : x = 0 ∨ x = 1) : narrow t (.int x) = .int x ∧ fits t (.int x) = true := by
  rcases h with rfl | rfl <;> rcases hx with rfl | rfl <;> exact ⟨by decide, by decide⟩
section SD4
variable {mi : List MI} {y : MethodName} {cc : ByteArray} {nL pc : Nat} {ret : Option FieldType} {hh : List (Nat × Nat × Nat × Nat)}
theorem s_getI {idx kf nx : Nat} {ts : List Nat} (hd : decode cc pc = .ok (.getfield idx, 3)) (hf : ∀ t ∈ ts, FOk y.cls idx t kf ∧ (t = 13 → kf < 2) ∧ isI (tyN t kf) = true) (hn : pc + 3 = nx) : Sd mi y cc nL ret hh pc (aGetI kf ts nx) := by
  refine ⟨fun C ls st g => ?_, ?_⟩
  · unfold aGetI
    split
    · exact lp_bif _ (lp_go _ _ _ _) lp_no
    · exact lp_no
  intro D ad H0 C d p l e R s m args below meth c hC hX ls st g k r H locs cells slots ls' h hF hk
  subst hn
  unfold aGetI at h
  split at h
  · next a r' =>
    obtain ⟨hb, h⟩ := bif_t h
    obtain ⟨t, n, hs, hm⟩ := okT_spec hb
    obtain ⟨f1, f2, f3⟩ := hf t hm
    refine getW hX hF.2.1 f1 hs f2 hd ?_
    rw [vF_I f3]
    exact hk _ _ _ _ h _ _ _ _ _ hF
  · cases h
theorem s_getL {idx kf nx : Nat} {ts : List Nat} (hd : decode cc pc = .ok (.getfield idx, 3)) (hf : ∀ t ∈ ts, FOk y.cls idx t kf ∧ (t = 13 → kf < 2) ∧ isL (tyN t kf) = true) (hn : pc + 3 = nx) : Sd mi y cc nL ret hh pc (aGetL kf ts nx) := by
  refine ⟨fun C ls st g => ?_, ?_⟩
  · unfold aGetL
    split
    · exact lp_bif _ (lp_go _ _ _ _) lp_no
    · exact lp_no
  intro D ad H0 C d p l e R s m args below meth c hC hX ls st g k r H locs cells slots ls' h hF hk
  subst hn
  unfold aGetL at h
  split at h
  · next a r' =>
    obtain ⟨hb, h⟩ := bif_t h
    obtain ⟨t, n, hs, hm⟩ := okT_spec hb
    obtain ⟨f1, f2, f3⟩ := hf t hm
    refine getW hX hF.2.1 f1 hs f2 hd ?_
    rw [vF_L f3]
    exact hk _ _ _ _ h _ _ _ _ _ hF
  · cases h
theorem s_getR {idx kf nx : Nat} {ts : List Nat} (hd : decode cc pc = .ok (.getfield idx, 3)) (hf : ∀ t ∈ ts, FOk y.cls idx t kf ∧ (t = 13 → kf < 2) ∧ isR (tyN t kf) = true) (hn : pc + 3 = nx) : Sd mi y cc nL ret hh pc (aGetR kf ts nx) := by
  refine ⟨fun C ls st g => ?_, ?_⟩
  · unfold aGetR
    split
    · exact lp_bif _ (lp_go _ _ _ _) lp_no
    · exact lp_no
  intro D ad H0 C d p l e R s m args below meth c hC hX ls st g k r H locs cells slots ls' h hF hk
  subst hn
  unfold aGetR at h
  split at h
  · next a r' =>
    obtain ⟨hb, h⟩ := bif_t h
    obtain ⟨t, n, hs, hm⟩ := okT_spec hb
    obtain ⟨f1, f2, f3⟩ := hf t hm
    refine getW hX hF.2.1 f1 hs f2 hd ?_
    rw [vF_R f3, ← mv_rf]
    exact hk _ _ _ _ h _ _ _ _ _ hF
  · cases h
theorem vF_other {ad : Nat → Nat} {g g1 : AH} {a k : Nat} {ty : FieldType} (e1 : g1.1 a k = g.1 a k) (e2 : g1.2.1 a k = g.2.1 a k) (e3 : g1.2.2.1 a k = g.2.2.1 a k) : vF ad g1 ty a k = vF ad g ty a k := by cases ty <;> simp only [vF, e1, e2, e3]
theorem s_putI {idx kf nx : Nat} {ts : List Nat} {b : Bool} (hd : decode cc pc = .ok (.putfield idx, 3)) (hf : ∀ t ∈ ts, FOk y.cls idx t kf ∧ FFin y.cls t kf b ∧ tyN t kf = .int) (hin : b = true → y.name = "<init>") (hn : pc + 3 = nx) : Sd mi y cc nL ret hh pc (aPutI kf ts nx) := by
  refine ⟨fun C ls st g => ?_, ?_⟩
  · unfold aPutI
    split
    · exact lp_bif _ (lp_go _ _ _ _) lp_no
    · exact lp_no
  intro D ad H0 C d p l e R s m args below meth c hC hX ls st g k r H locs cells slots ls' h hF hk
  subst hn
  unfold aPutI at h
  split at h
  · next x a r' =>
    obtain ⟨hb, h⟩ := bif_t h
    obtain ⟨h0, hb⟩ := (Bool.and_eq_true _ _).mp hb |>.imp id id
    have h0 := isNew_spec h0
    obtain ⟨t, n, hs, hm⟩ := okT_spec hb
    obtain ⟨f1, f2, f3⟩ := hf t hm
    refine putW hX hF.2.1 f1 f2 hin h0 hs (v := .int x) (by rw [f3]; rfl) (by rw [f3]; rfl) hd fun H1 i z oq hc => ?_
    refine hk _ _ _ _ h _ _ _ _ _ (hF.wr h0 rfl (hF.2.1.wr h0 hs z oq rfl (fun b hb => ⟨upR_ne _ _ _ hb, rfl, rfl⟩) (hc _ ?_ (fun j hj => ?_))))
    · rw [f3]; show Value.int (upR _ _ _ _ _ _) = _; rw [upR_self, if_pos rfl]
    · exact vF_other (by show upR _ _ _ _ _ _ = _; rw [upR_self, if_neg hj]) rfl rfl
  · cases h
theorem s_putZ {idx kf nx : Nat} {ts : List Nat} {b : Bool} (hd : decode cc pc = .ok (.putfield idx, 3)) (hf : ∀ t ∈ ts, FOk y.cls idx t kf ∧ FFin y.cls t kf b ∧ (tyN t kf = .boolean ∨ tyN t kf = .byte)) (hin : b = true → y.name = "<init>") (hn : pc + 3 = nx) : Sd mi y cc nL ret hh pc (aPutZ kf ts nx) := by
  refine ⟨fun C ls st g => ?_, ?_⟩
  · unfold aPutZ
    split
    · exact lp_bif _ (lp_go _ _ _ _) lp_no
    · exact lp_no
  intro D ad H0 C d p l e R s m args below meth c hC hX ls st g k r H locs cells slots ls' h hF hk
  subst hn
  unfold aPutZ at h
  split at h
  · next x a r' =>
    obtain ⟨hb, h⟩ := bif_t h
    obtain ⟨hb, h3⟩ := (Bool.and_eq_true _ _).mp hb |>.imp id id
    obtain ⟨h0, hb⟩ := (Bool.and_eq_true _ _).mp hb |>.imp id id
    have h0 := isNew_spec h0
    have h3 := of_decide_eq_true h3
    obtain ⟨t, n, hs, hm⟩ := okT_spec hb
    obtain ⟨f1, f2, f3⟩ := hf t hm
    refine putW hX hF.2.1 f1 f2 hin h0 hs (v := .int x) (fit_Z f3 h3).1 (fit_Z f3 h3).2 hd fun H1 i z oq hc => ?_
    refine hk _ _ _ _ h _ _ _ _ _ (hF.wr h0 rfl (hF.2.1.wr h0 hs z oq rfl (fun b hb => ⟨upR_ne _ _ _ hb, rfl, rfl⟩) (hc _ ?_ (fun j hj => ?_))))
    · rw [vF_I (by rcases f3 with q | q <;> rw [q] <;> rfl)]; show Value.int (upR _ _ _ _ _ _) = _; rw [upR_self, if_pos rfl]
    · exact vF_other (by show upR _ _ _ _ _ _ = _; rw [upR_self, if_neg hj]) rfl rfl
  · cases h
theorem s_putL {idx kf nx : Nat} {ts : List Nat} {b : Bool} (hd : decode cc pc = .ok (.putfield idx, 3)) (hf : ∀ t ∈ ts, FOk y.cls idx t kf ∧ FFin y.cls t kf b ∧ isL (tyN t kf) = true) (hin : b = true → y.name = "<init>") (hn : pc + 3 = nx) : Sd mi y cc nL ret hh pc (aPutL kf ts nx) := by
  refine ⟨fun C ls st g => ?_, ?_⟩
  · unfold aPutL
    split
    · exact lp_bif _ (lp_go _ _ _ _) lp_no
    · exact lp_no
  intro D ad H0 C d p l e R s m args below meth c hC hX ls st g k r H locs cells slots ls' h hF hk
  subst hn
  unfold aPutL at h
  split at h
  · next x a r' =>
    obtain ⟨hb, h⟩ := bif_t h
    obtain ⟨h0, hb⟩ := (Bool.and_eq_true _ _).mp hb |>.imp id id
    have h0 := isNew_spec h0
    obtain ⟨t, n, hs, hm⟩ := okT_spec hb
    obtain ⟨f1, f2, f3⟩ := hf t hm
    refine putW hX hF.2.1 f1 f2 hin h0 hs (v := .long x) (fit_L f3 x).1 (fit_L f3 x).2 hd fun H1 i z oq hc => ?_
    refine hk _ _ _ _ h _ _ _ _ _ (hF.wr h0 rfl (hF.2.1.wr h0 hs z oq rfl (fun b hb => ⟨rfl, upR_ne _ _ _ hb, rfl⟩) (hc _ ?_ (fun j hj => ?_))))
    · rw [vF_L f3]; show Value.long (upR _ _ _ _ _ _) = _; rw [upR_self, if_pos rfl]
    · exact vF_other rfl (by show upR _ _ _ _ _ _ = _; rw [upR_self, if_neg hj]) rfl
  · cases h
theorem s_putR {idx kf nx : Nat} {ts : List Nat} {b : Bool} (hd : decode cc pc = .ok (.putfield idx, 3)) (hf : ∀ t ∈ ts, FOk y.cls idx t kf ∧ FFin y.cls t kf b ∧ isR (tyN t kf) = true) (hin : b = true → y.name = "<init>") (hn : pc + 3 = nx) : Sd mi y cc nL ret hh pc (aPutR kf ts nx) := by
  refine ⟨fun C ls st g => ?_, ?_⟩
  · unfold aPutR
    split
    · exact lp_bif _ (lp_go _ _ _ _) lp_no
    · exact lp_bif _ (lp_go _ _ _ _) lp_no
    · exact lp_no
  intro D ad H0 C d p l e R s m args below meth c hC hX ls st g k r H locs cells slots ls' h hF hk
  subst hn
  unfold aPutR at h
  have go : ∀ (a : Nat) (r' : List Value) (v : Option Nat), isNew a = true → okT ts (g.2.2.2.1 a) = true → k (pc + 3) ls r' (setR g a kf v) = some r → W p l e R s m args below meth c H locs cells slots (QE D ad H0 R s below r) (F0 m pc ls' (va_rf (v.map ad) :: .ref (ad a) :: r'.map (mv ad))) := by
    intro a r' v h0 hb h
    have h0 := isNew_spec h0
    obtain ⟨t, n, hs, hm⟩ := okT_spec hb
    obtain ⟨f1, f2, f3⟩ := hf t hm
    refine putW hX hF.2.1 f1 f2 hin h0 hs (fit_R f3 _).1 (fit_R f3 _).2 hd fun H1 i z oq hc => ?_
    refine hk _ _ _ _ h _ _ _ _ _ (hF.wr h0 rfl (hF.2.1.wr h0 hs z oq rfl (fun b hb => ⟨rfl, rfl, upR_ne _ _ _ hb⟩) (hc _ ?_ (fun j hj => ?_))))
    · rw [vF_R f3]; show va_rf (Option.map ad (upR _ _ _ _ _ _)) = _; rw [upR_self, if_pos rfl]
    · exact vF_other rfl rfl (by show upR _ _ _ _ _ _ = _; rw [upR_self, if_neg hj])
  split at h
  · next x a r' =>
    obtain ⟨hb, h⟩ := bif_t h
    obtain ⟨h0, hb⟩ := (Bool.and_eq_true _ _).mp hb |>.imp id id
    exact go a r' (some x) h0 hb h
  · next a r' =>
    obtain ⟨hb, h⟩ := bif_t h
    obtain ⟨h0, hb⟩ := (Bool.and_eq_true _ _).mp hb |>.imp id id
    exact go a r' none h0 hb h
  · cases h
end SD4

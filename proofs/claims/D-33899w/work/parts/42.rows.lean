/-! MY ROWS, more: arrays of references, new cells, copies, statics, casts -/
set_option maxRecDepth 100000
theorem hobj : ∀ (ci : Nat) (r : vw_C), ci < 11 → vcl[ci]? = some r → Cond.castable r.1 "java/lang/Object" ∈ lw_tbl := by
  intro ci r hci h
  match ci, h with
  | 0, h => cases h; exact q2347
  | 1, h => cases h; exact q2342
  | 2, h => cases h; exact q2343
  | 3, h => cases h; exact q2350
  | 4, h => cases h; exact q2357
  | 5, h => cases h; exact q2349
  | 6, h => cases h; exact q2351
  | 7, h => cases h; exact q2352
  | 8, h => cases h; exact q2344
  | 9, h => cases h; exact q2345
  | 10, h => cases h; exact q2346
  | n + 11, _ => omega
theorem hvcl : ∀ (ci : Nat), ci < 11 → ∃ r, vcl[ci]? = some r := fun ci h => ⟨_, List.getElem?_eq_getElem (show ci < vcl.length from Nat.lt_of_lt_of_le h (by decide))⟩
theorem HC.any {K : HK} {X0 X : hX} {s : State} {N : Nat} {H : Heap} (hC : HC K X0 s) (hP : hI K X0 N X H) {v ci : Nat} {fs : List Value} (hci : ci < 11) (hX : X v = some (.inr (ci, fs))) : va_Any "java/lang/Object" s H v := by
  obtain ⟨r, hr⟩ := hvcl ci hci
  obtain ⟨ws, k, h1, h2, -, -⟩ := hP.cell hX
  refine va_rAny hC.2.2.2 h2 h1 hr (fun comp c0 g1 g2 => ?_)
  obtain ⟨c1, t1, f1, f2, f3⟩ := Cond.castable_spec (va_Nw.use (A := #[]) rfl (hC.2.2.1.2.2.2.2.2.1 _ (hobj ci r hci hr) rfl))
  rw [g1] at f2
  rw [g2] at f1
  cases f1
  cases f2
  exact f3
theorem keq {K : KT} {cA : ClassId} {s : State} (t : Nat) (ty : FieldType) (ht : (tyK K)[t]? = some (K.2 t, ty)) (h : va_K K.1 vcl (tyK K ++ [(cA, ty)]) s) (hty : ty = .int ∨ ty = .long ∨ ty = .byte ∨ ty = .float ∨ ty = .object "java/lang/Object") : cA = K.2 t := by
  have hl := (List.getElem?_eq_some_iff.mp ht).1
  have h1 := (h.2 t (K.2 t, ty) (by rw [List.getElem?_append_left hl]; exact ht)).2
  have h2 := (h.2 5 (cA, ty) rfl).2
  rcases hty with rfl | rfl | rfl | rfl | rfl
  · exact Option.some.inj ((va_nm_int h2).symm.trans (va_nm_int h1))
  · exact Option.some.inj ((va_nm_long h2).symm.trans (va_nm_long h1))
  · exact Option.some.inj ((va_nm_byte h2).symm.trans (va_nm_byte h1))
  · exact Option.some.inj ((va_nm_float h2).symm.trans (va_nm_float h1))
  · exact Option.some.inj ((va_nmO h2 rfl).symm.trans (va_nmO h1 rfl))
section XROWS2
variable {p : Program} {l : Launch} {e : Env} {R0 : Room} {s : State} {m : MethodId} {args : Array Value} {below : List Frame} {meth : Method} {c : Code} {H : Heap} {locs : List Loc} {cells slots : Nat} {Q : State → Prop}
variable {pc nL : Nat} {ls : Array Slot} {rest st As : List Value} {cc : ByteArray} {K : HK} {X0 X : hX} {index n maxL : Nat} {y : MethodName} {bytes : ByteArray} {ret : Option FieldType} {ws : List Cond} {rm : Room} {wp : Prop} {own : String} {a : Nat}
theorem x_aast (hF : CallFix p m c cc nL s args lw_all own) (hC : HC K X0 s) (hP : hI K X0 s.heap.size X H) (hS : va_S (hA X0 s.heap.size) s.heap H locs) {N v : Nat} {f : Nat → Option Nat} {i : Int32} (hX : X a = some (.inl (4, N, .inr (.inr (.inr (.inr f)))))) (hi : vp_in i N) (hv : ∃ ci fs, ci < 11 ∧ X v = some (.inr (ci, fs))) (hdg : decode cc pc = .ok (.aastore, 1))
    (kk : ∀ (H1 : Heap) (locs1 : List Loc), hI K X0 s.heap.size (hup X a (.inl (4, N, .inr (.inr (.inr (.inr (va_up f i.toNatClampNeg (some v)))))))) H1 → va_S (hA X0 s.heap.size) s.heap H1 locs1 → W p l e R0 s m args below meth c H1 locs1 cells slots Q (F0 m (pc + 1) ls rest)) : W p l e R0 s m args below meth c H locs cells slots Q (F0 m pc ls (.ref v :: .int i :: .ref a :: rest)) := by
  obtain ⟨hx, hb, hml, hown, hts⟩ := hF
  obtain ⟨ci, fs, hci, hXv⟩ := hv
  obtain ⟨ws, q0, h1, h2, h3, h4⟩ := hP.cell hX
  exact va_astqM hx hb hC.2.2.2 h2 h3 hS q0 4 h1 rfl (hC.any hP hci hXv) hi hdg (fun H1 locs1 g1 g2 g3 => kk H1 locs1 (h4 (.inl (4, N, .inr (.inr (.inr (.inr (va_up f i.toNatClampNeg (some v))))))) H1 (hC.hi g3) g1 g2) g3)
theorem x_alen (hF : CallFix p m c cc nL s args lw_all own) (hC : HC K X0 s) (hP : hI K X0 s.heap.size X H) (hS : va_S (hA X0 s.heap.size) s.heap H locs) {P : Int32 → Prop} (hw : alen (K.2.2 0) X a P) (hdg : decode cc pc = .ok (.arraylength, 1))
    (kk : ∀ v : Int32, P v → W p l e R0 s m args below meth c H locs cells slots Q (F0 m (pc + 1) ls (.int v :: rest))) : W p l e R0 s m args below meth c H locs cells slots Q (F0 m pc ls (.ref a :: rest)) := by
  obtain ⟨hx, hb, hml, hown, hts⟩ := hF
  rcases hw with ⟨t, w, ht, hX, hp⟩ | ⟨rfl, hp⟩
  · obtain ⟨ws, q0, h1, h2, -, -⟩ := hP.cell hX
    match t, ht, h1 with
    | 0, _, h1 => exact va_alen hx hb hC.2.2.2 h2 q0 0 h1 rfl rfl hdg (kk _ hp)
    | 1, _, h1 => exact va_alen hx hb hC.2.2.2 h2 q0 1 h1 rfl rfl hdg (kk _ hp)
    | 2, _, h1 => exact va_alen hx hb hC.2.2.2 h2 q0 2 h1 rfl rfl hdg (kk _ hp)
    | 3, _, h1 => exact va_alen hx hb hC.2.2.2 h2 q0 3 h1 rfl rfl hdg (kk _ hp)
    | 4, _, h1 => exact va_alen hx hb hC.2.2.2 h2 q0 4 h1 rfl rfl hdg (kk _ hp)
    | t + 5, ht, _ => exact absurd ht (Nat.not_lt.mpr (Nat.le_add_left 5 t))
  · exact va_tlen hx hb hC.2.2.1.1.2.1 (hC.sN hS) (by decide) hdg (kk _ hp)
theorem x_new (hF : CallFix p m c cc nL s args lw_all own) (hC : HC K X0 s) (hP : hI K X0 s.heap.size X H) (hS : va_S (hA X0 s.heap.size) s.heap H locs) {C : String} {T : u_T} {N ci mc ms : Nat} (hin : ∀ w ∈ u_ws C T N, w ∈ lw_all) (hc : vcl[ci]? = some (C, T, N)) (ty : Nat → FieldType) (hty : ∀ k, k < N → parseFieldDescriptor (T k).2.2.1 = some (ty k)) (hcl : (Cond.classLink own index C) ∈ lw_all) (hinst : (Cond.instantiable C N) ∈ lw_all) (hini : (Cond.initialized C) ∈ lw_all) {fs : List Value} (hfs : ∀ j, j < N → defaultValue (ty j) = vp_V fs j) {P : Nat → hX → Prop} (hw : newO X ci fs N cells slots mc ms P) (hR : R0.cells = mc ∧ R0.slots = ms) (hdg : decode cc pc = .ok (.new index, 3))
    (kk : ∀ (q : Nat) (X1 : hX) (H1 : Heap), cells + 1 ≤ mc → slots + N ≤ ms → P q X1 → hI K X0 s.heap.size X1 H1 → va_S (hA X0 s.heap.size) s.heap H1 locs → W p l e R0 s m args below meth c H1 locs (cells + 1) (slots + N) Q (F0 m (pc + 3) ls (.ref q :: rest))) : W p l e R0 s m args below meth c H locs cells slots Q (F0 m pc ls rest) := by
  obtain ⟨hx, hb, hml, hown, hts⟩ := hF
  obtain ⟨w1, w2, w3⟩ := hw
  obtain ⟨ws, h2, h3, -, h4⟩ := hP.all hC.1 hC.2.1
  refine va_new hx hb hts hin ty hty hown (hts _ hcl) (hts _ hinst) (hts _ hini) hC.2.2.2 h2 h3 hS (fun q hq => Or.inr hq) hc hfs (by rw [hR.1]; exact w1) (by rw [hR.2]; exact w2) hdg (fun q H1 g1 g2 g3 => ?_)
  obtain ⟨k1, k2⟩ := h4 q (.inr (ci, fs)) H1 (hC.hi g3) g1 g2
  exact kk q _ H1 w1 w2 (w3 q k1) k2 g3
theorem x_newa (hF : CallFix p m c cc nL s args lw_all own) (hC : HC K X0 s) (hP : hI K X0 s.heap.size X H) (hS : va_S (hA X0 s.heap.size) s.heap H locs) {atype : ArrayType} {ty : FieldType} {sz t mc ms : Nat} (harr : (Cond.arrayClass (newarray.typeOf atype)) ∈ lw_all) (hty : newarray.typeOf atype = ty) (hsz : componentBytes ty = sz) (ht : (tyK K.1)[t]? = some (K.1.2 t, ty)) (htt : ty = .int ∨ ty = .long ∨ ty = .byte ∨ ty = .float ∨ ty = .object "java/lang/Object") {w : (Nat → Int32) ⊕ (Nat → Int64) ⊕ (Nat → UInt32) ⊕ (Nat → UInt64) ⊕ (Nat → Option Nat)} (ha : ∀ (cA : ClassId) (N : Nat), vp_cell cA (N, w) = arrV cA N (fun _ => defaultValue ty)) {n : Int32} {P : Nat → hX → Prop} (hw : newA X t w n sz cells slots mc ms P) (hR : R0.cells = mc ∧ R0.slots = ms) (hdg : decode cc pc = .ok (.newarray atype, 2))
    (kk : ∀ (q : Nat) (X1 : hX) (H1 : Heap), cells + 1 ≤ mc → slots + n.toNatClampNeg ≤ ms → P q X1 → hI K X0 s.heap.size X1 H1 → va_S (hA X0 s.heap.size) s.heap H1 locs → W p l e R0 s m args below meth c H1 locs (cells + 1) (slots + n.toNatClampNeg) Q (F0 m (pc + 2) ls (.ref q :: rest))) : W p l e R0 s m args below meth c H locs cells slots Q (F0 m pc ls (.int n :: rest)) := by
  obtain ⟨hx, hb, hml, hown, hts⟩ := hF
  obtain ⟨w1, w2, w3, w4, w5⟩ := hw
  obtain ⟨ws, h2, h3, -, h4⟩ := hP.all hC.1 hC.2.1
  refine va_newa (a0 := (n.toNatClampNeg, w)) hx hb (hts _ harr) hty hC.2.2.2 h2 h3 hS (fun q hq => Or.inr hq) (fun cA => ha cA _) w1 rfl (by rw [hsz]; exact w2) (by rw [hR.1]; exact w3) (by rw [hR.2]; exact w4) hdg (fun q cA H1 g0 g1 g2 g3 => ?_)
  have e1 := keq t ty ht g0 htt
  subst e1
  obtain ⟨k1, k2⟩ := h4 q (.inl (t, n.toNatClampNeg, w)) H1 (hC.hi g3) g1 g2
  exact kk q _ H1 w3 w4 (w5 q k1) k2 g3
theorem x_newq (hF : CallFix p m c cc nL s args lw_all own) (hC : HC K X0 s) (hP : hI K X0 s.heap.size X H) (hS : va_S (hA X0 s.heap.size) s.heap H locs) {mc ms : Nat} (hcl : (Cond.classLink own index "java/lang/Object") ∈ lw_all) {n : Int32} {P : Nat → hX → Prop} (hw : newA X 4 (.inr (.inr (.inr (.inr (fun _ => none))))) n 4 cells slots mc ms P) (hR : R0.cells = mc ∧ R0.slots = ms) (hdg : decode cc pc = .ok (.anewarray index, 3))
    (kk : ∀ (q : Nat) (X1 : hX) (H1 : Heap), cells + 1 ≤ mc → slots + n.toNatClampNeg ≤ ms → P q X1 → hI K X0 s.heap.size X1 H1 → va_S (hA X0 s.heap.size) s.heap H1 locs → W p l e R0 s m args below meth c H1 locs (cells + 1) (slots + n.toNatClampNeg) Q (F0 m (pc + 3) ls (.ref q :: rest))) : W p l e R0 s m args below meth c H locs cells slots Q (F0 m pc ls (.int n :: rest)) := by
  obtain ⟨hx, hb, hml, hown, hts⟩ := hF
  obtain ⟨w1, w2, w3, w4, w5⟩ := hw
  obtain ⟨ws, h2, h3, -, h4⟩ := hP.all hC.1 hC.2.1
  refine va_newq hx hb hown (hts _ hcl) hC.2.2.1.2.2.2.2.1 hC.2.2.2 h2 h3 hS (fun q hq => Or.inr hq) w1 rfl w2 (by rw [hR.1]; exact w3) (by rw [hR.2]; exact w4) hdg (fun q cA H1 g0 g1 g2 g3 => ?_)
  have e1 := keq 4 (.object "java/lang/Object") rfl g0 (by simp)
  subst e1
  obtain ⟨k1, k2⟩ := h4 q (.inl (4, n.toNatClampNeg, .inr (.inr (.inr (.inr (fun _ => none)))))) H1 (hC.hi g3) g1 g2
  exact kk q _ H1 w3 w4 (w5 q k1) k2 g3
def cloI (X : hX) (a : Nat) (kc ks mc ms : Nat) (P : Nat → Nat → hX → Prop) : Prop := ∃ n f, X a = some (.inl (0, n, .inl f)) ∧ kc + 1 ≤ mc ∧ ks + n ≤ ms ∧ ∀ q, X q = none → P n q (hup X q (.inl (0, n, .inl f)))
/-- int[].clone() -/
theorem x_cloI (hF : CallFix p m c cc nL s args lw_all own) (hls : ls.size = nL) (hC : HC K X0 s) (hP : hI K X0 s.heap.size X H) (hS : va_S (hA X0 s.heap.size) s.heap H locs) {mc ms : Nat} (hlink : (Cond.methodLink own index ⟨"[I", "clone", "()Ljava/lang/Object;"⟩) ∈ lw_all) (hsame : (Cond.sameMethod "[I" "java/lang/Object" "clone" "()Ljava/lang/Object;") ∈ lw_all) (hnat : (Cond.native ⟨"java/lang/Object", "clone", "()Ljava/lang/Object;"⟩) ∈ lw_all) (hinst : (Cond.instanceMethod ⟨"java/lang/Object", "clone", "()Ljava/lang/Object;"⟩) ∈ lw_all) (hsel : (Cond.selects "[I" ⟨"[I", "clone", "()Ljava/lang/Object;"⟩ ⟨"java/lang/Object", "clone", "()Ljava/lang/Object;"⟩) ∈ lw_all) {P : Nat → Nat → hX → Prop} (hw : cloI X a cells slots mc ms P) (hR : R0.cells = mc ∧ R0.slots = ms) (hfr : 1 ≤ R0.frames) (hlo : (rest.map fun v => v.category).sum + 14 ≤ R0.locals) (hdg : decode cc pc = .ok (.invokevirtual index, 3))
    (kk : ∀ (N q : Nat) (X1 : hX) (H1 : Heap), cells + 1 ≤ mc → slots + N ≤ ms → P N q X1 → hI K X0 s.heap.size X1 H1 → va_S (hA X0 s.heap.size) s.heap H1 locs → W p l e R0 s m args below meth c H1 locs (cells + 1) (slots + N) Q (F0 m (pc + 3) ls (.ref q :: rest))) : W p l e R0 s m args below meth c H locs cells slots Q (F0 m pc ls (.ref a :: rest)) := by
  obtain ⟨hx, hb, hml, hown, hts⟩ := hF
  obtain ⟨N, f, hX, w3, w4, w5⟩ := hw
  obtain ⟨ws, h2, h3, h0, h4⟩ := hP.all hC.1 hC.2.1
  obtain ⟨q0, h1⟩ := h0 a _ hX
  refine va_clone hx hb (by rw [hml, hls]) hown (hts _ hlink) (hts _ hsame) (hts _ hnat) (hts _ hinst) (hts _ hsel) (hC.2.2.1.2.2.2.2.2.1 _ q755 rfl) hC.2.2.2 h2 h3 hS (fun q hq => Or.inr hq) q0 0 h1 rfl (va_nm_int (hC.2.2.2.2 0 _ rfl).2) (fun i v hv => ?_) hfr hlo (by rw [hR.1]; exact w3) (by rw [hR.2]; exact w4) hdg (fun q H1 g0 g1 g2 g3 => ?_)
  · have hl := (Array.getElem?_eq_some_iff.mp hv).1
    rw [vp_cell_i, arrV_size] at hl
    rw [vp_cell_i, arrV_read _ _ hl] at hv
    cases hv
    rfl
  · obtain ⟨k1, k2⟩ := h4 q (.inl (0, N, .inl f)) H1 (hC.hi g3) g1 g2
    exact kk N q _ H1 w3 w4 (w5 q k1) k2 g3
end XROWS2

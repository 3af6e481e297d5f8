/-! MY ROWS over the partial map of cells -/
set_option maxRecDepth 100000
section XROWS
variable {p : Program} {l : Launch} {e : Env} {R0 : Room} {s : State} {m : MethodId} {args : Array Value} {below : List Frame} {meth : Method} {c : Code} {H : Heap} {locs : List Loc} {cells slots : Nat} {Q : State → Prop}
variable {pc nL : Nat} {ls : Array Slot} {rest st As : List Value} {cc : ByteArray} {K : HK} {X0 X : hX} {index n maxL : Nat} {y : MethodName} {bytes : ByteArray} {ret : Option FieldType} {ws : List Cond} {rm : Room} {wp : Prop} {own : String} {a : Nat}
theorem x_get (hF : CallFix p m c cc nL s args lw_all own) (hC : HC K X0 s) (hP : hI K X0 s.heap.size X H) {ref C : String} {T : u_T} {N ci : Nat} (hin : ∀ w ∈ u_ws C T N, w ∈ lw_all) (hc : vcl[ci]? = some (C, T, N)) (k : Nat) (hk : k < N) (hlink : (Cond.fieldLink own index ref (T k).2.1 (T k).2.2.1) ∈ lw_all) (hsame : ∀ x, s.fieldFound? (T k).1 (T k).2.1 (T k).2.2.1 = some x → s.fieldFound? ref (T k).2.1 (T k).2.2.1 = some x) {fs : List Value} {v : Value} (hX : X a = some (.inr (ci, fs))) (hv : fs[k]? = some v) (hdg : decode cc pc = .ok (.getfield index, 3))
    (kk : W p l e R0 s m args below meth c H locs cells slots Q (F0 m (pc + 3) ls (v :: rest))) : W p l e R0 s m args below meth c H locs cells slots Q (F0 m pc ls (.ref a :: rest)) := by
  obtain ⟨hx, hb, hml, hown, hts⟩ := hF
  obtain ⟨ws, q0, h1, h2, -, -⟩ := hP.cell hX
  exact va_get hx hb hts hin hown hC.2.2.2 h2 q0 h1 hc k hk (hts _ hlink) hsame hv hdg kk
theorem x_getN (hF : CallFix p m c cc nL s args lw_all own) (hC : HC K X0 s) (hP : hI K X0 s.heap.size X H) {ref C host : String} {T : u_T} {N ci : Nat} (hin : ∀ w ∈ u_ws C T N, w ∈ lw_all) (hc : vcl[ci]? = some (C, T, N)) (k : Nat) (hk : k < N) (hlink : (Cond.fieldLinkNest own index ref (T k).2.1 (T k).2.2.1 host) ∈ lw_tbl) (hsame : ∀ x, s.fieldFound? (T k).1 (T k).2.1 (T k).2.2.1 = some x → s.fieldFound? ref (T k).2.1 (T k).2.2.1 = some x) {fs : List Value} {v : Value} (hX : X a = some (.inr (ci, fs))) (hv : fs[k]? = some v) (hdg : decode cc pc = .ok (.getfield index, 3))
    (kk : W p l e R0 s m args below meth c H locs cells slots Q (F0 m (pc + 3) ls (v :: rest))) : W p l e R0 s m args below meth c H locs cells slots Q (F0 m pc ls (.ref a :: rest)) := by
  obtain ⟨hx, hb, hml, hown, hts⟩ := hF
  obtain ⟨ws, q0, h1, h2, -, -⟩ := hP.cell hX
  exact va_getN hx hb hts hin hown hC.2.2.2 h2 q0 h1 hc k hk (va_Nw.use (A := args) rfl (hC.2.2.1.2.2.2.2.2.1 _ hlink rfl)) hsame hv hdg kk
theorem x_put (hF : CallFix p m c cc nL s args lw_all own) (hC : HC K X0 s) (hP : hI K X0 s.heap.size X H) (hS : va_S (hA X0 s.heap.size) s.heap H locs) {ref C : String} {T : u_T} {N ci : Nat} (hin : ∀ w ∈ u_ws C T N, w ∈ lw_all) (hc : vcl[ci]? = some (C, T, N)) (ty0 : Nat → FieldType) (hty : ∀ k, k < N → parseFieldDescriptor (T k).2.2.1 = some (ty0 k)) (hnm : ∀ a, a < N → ∀ b, b < N → a ≠ b → (T a).2.1 ≠ (T b).2.1) (k : Nat) (hk : k < N) (hlink : (Cond.fieldLink own index ref (T k).2.1 (T k).2.2.1) ∈ lw_all) (hsame : ∀ x, s.fieldFound? (T k).1 (T k).2.1 (T k).2.2.1 = some x → s.fieldFound? ref (T k).2.1 (T k).2.2.1 = some x) (hfin : (T k).2.2.2 = false) {fs : List Value} {v : Value} (hn : narrow (ty0 k) v = v) (hfit : fits (ty0 k) v = true) (hX : X a = some (.inr (ci, fs))) (hl : k < fs.length) (hdg : decode cc pc = .ok (.putfield index, 3))
    (kk : ∀ (H1 : Heap) (locs1 : List Loc), hI K X0 s.heap.size (hup X a (.inr (ci, fs.set k v))) H1 → va_S (hA X0 s.heap.size) s.heap H1 locs1 → W p l e R0 s m args below meth c H1 locs1 cells slots Q (F0 m (pc + 3) ls rest)) : W p l e R0 s m args below meth c H locs cells slots Q (F0 m pc ls (v :: .ref a :: rest)) := by
  obtain ⟨hx, hb, hml, hown, hts⟩ := hF
  obtain ⟨ws, q0, h1, h2, h3, h4⟩ := hP.cell hX
  exact va_put hx hb hts hin ty0 hty hnm hown hC.2.2.2 h2 h3 hS q0 h1 hc k hk (hts _ hlink) hsame hfin (hty k hk) hn hfit hl hdg (fun H1 locs1 g1 g2 g3 => kk H1 locs1 (h4 _ H1 (hC.hi g3) g1 g2) g3)
theorem x_putN (hF : CallFix p m c cc nL s args lw_all own) (hC : HC K X0 s) (hP : hI K X0 s.heap.size X H) (hS : va_S (hA X0 s.heap.size) s.heap H locs) {ref C host : String} {T : u_T} {N ci : Nat} (hin : ∀ w ∈ u_ws C T N, w ∈ lw_all) (hc : vcl[ci]? = some (C, T, N)) (ty0 : Nat → FieldType) (hty : ∀ k, k < N → parseFieldDescriptor (T k).2.2.1 = some (ty0 k)) (hnm : ∀ a, a < N → ∀ b, b < N → a ≠ b → (T a).2.1 ≠ (T b).2.1) (k : Nat) (hk : k < N) (hlink : (Cond.fieldLinkNest own index ref (T k).2.1 (T k).2.2.1 host) ∈ lw_tbl) (hsame : ∀ x, s.fieldFound? (T k).1 (T k).2.1 (T k).2.2.1 = some x → s.fieldFound? ref (T k).2.1 (T k).2.2.1 = some x) (hfin : (T k).2.2.2 = false) {fs : List Value} {v : Value} (hn : narrow (ty0 k) v = v) (hfit : fits (ty0 k) v = true) (hX : X a = some (.inr (ci, fs))) (hl : k < fs.length) (hdg : decode cc pc = .ok (.putfield index, 3))
    (kk : ∀ (H1 : Heap) (locs1 : List Loc), hI K X0 s.heap.size (hup X a (.inr (ci, fs.set k v))) H1 → va_S (hA X0 s.heap.size) s.heap H1 locs1 → W p l e R0 s m args below meth c H1 locs1 cells slots Q (F0 m (pc + 3) ls rest)) : W p l e R0 s m args below meth c H locs cells slots Q (F0 m pc ls (v :: .ref a :: rest)) := by
  obtain ⟨hx, hb, hml, hown, hts⟩ := hF
  obtain ⟨ws, q0, h1, h2, h3, h4⟩ := hP.cell hX
  exact va_putN hx hb hts hin ty0 hty hnm hown hC.2.2.2 h2 h3 hS q0 h1 hc k hk (va_Nw.use (A := args) rfl (hC.2.2.1.2.2.2.2.2.1 _ hlink rfl)) hsame hfin (hty k hk) hn hfit hl hdg (fun H1 locs1 g1 g2 g3 => kk H1 locs1 (h4 _ H1 (hC.hi g3) g1 g2) g3)
theorem x_putF (hF : CallFix p m c cc nL s args lw_all own) (hin2 : meth.name = "<init>") (hC : HC K X0 s) (hP : hI K X0 s.heap.size X H) (hS : va_S (hA X0 s.heap.size) s.heap H locs) {ref C : String} {T : u_T} {N ci : Nat} (hin : ∀ w ∈ u_ws C T N, w ∈ lw_all) (hc : vcl[ci]? = some (C, T, N)) (ty0 : Nat → FieldType) (hty : ∀ k, k < N → parseFieldDescriptor (T k).2.2.1 = some (ty0 k)) (hnm : ∀ a, a < N → ∀ b, b < N → a ≠ b → (T a).2.1 ≠ (T b).2.1) (k : Nat) (hk : k < N) (hlink : (Cond.fieldLink own index ref (T k).2.1 (T k).2.2.1) ∈ lw_all) (hsame : ∀ x, s.fieldFound? (T k).1 (T k).2.1 (T k).2.2.1 = some x → s.fieldFound? ref (T k).2.1 (T k).2.2.1 = some x) (hfin : (T k).2.2.2 = true) (hdecl : (T k).1 = own) {fs : List Value} {v : Value} (hn : narrow (ty0 k) v = v) (hfit : fits (ty0 k) v = true) (hX : X a = some (.inr (ci, fs))) (hl : k < fs.length) (hdg : decode cc pc = .ok (.putfield index, 3))
    (kk : ∀ (H1 : Heap) (locs1 : List Loc), hI K X0 s.heap.size (hup X a (.inr (ci, fs.set k v))) H1 → va_S (hA X0 s.heap.size) s.heap H1 locs1 → W p l e R0 s m args below meth c H1 locs1 cells slots Q (F0 m (pc + 3) ls rest)) : W p l e R0 s m args below meth c H locs cells slots Q (F0 m pc ls (v :: .ref a :: rest)) := by
  obtain ⟨hx, hb, hml, hown, hts⟩ := hF
  obtain ⟨ws, q0, h1, h2, h3, h4⟩ := hP.cell hX
  exact va_putF hx hb hts hin ty0 hty hnm hown hC.2.2.2 h2 h3 hS q0 h1 hc k hk (hts _ hlink) hsame hfin hin2 hdecl (hty k hk) hn hfit hl hdg (fun H1 locs1 g1 g2 g3 => kk H1 locs1 (h4 _ H1 (hC.hi g3) g1 g2) g3)
theorem x_iald (hF : CallFix p m c cc nL s args lw_all own) (hC : HC K X0 s) (hP : hI K X0 s.heap.size X H) {N : Nat} {f : Nat → Int32} {i : Int32} (hX : X a = some (.inl (0, N, .inl f))) (hi : vp_in i N) (hdg : decode cc pc = .ok (.iaload, 1))
    (kk : W p l e R0 s m args below meth c H locs cells slots Q (F0 m (pc + 1) ls (.int (f i.toNatClampNeg) :: rest))) : W p l e R0 s m args below meth c H locs cells slots Q (F0 m pc ls (.int i :: .ref a :: rest)) := by
  obtain ⟨hx, hb, hml, hown, hts⟩ := hF
  obtain ⟨ws, q0, h1, h2, -, -⟩ := hP.cell hX
  exact va_iald hx hb hC.2.2.2 h2 q0 0 h1 rfl hi hdg kk
theorem x_bald (hF : CallFix p m c cc nL s args lw_all own) (hC : HC K X0 s) (hP : hI K X0 s.heap.size X H) {N : Nat} {f : Nat → Int32} {i : Int32} (hX : X a = some (.inl (2, N, .inl f))) (hi : vp_in i N) (hdg : decode cc pc = .ok (.baload, 1))
    (kk : W p l e R0 s m args below meth c H locs cells slots Q (F0 m (pc + 1) ls (.int (f i.toNatClampNeg) :: rest))) : W p l e R0 s m args below meth c H locs cells slots Q (F0 m pc ls (.int i :: .ref a :: rest)) := by
  obtain ⟨hx, hb, hml, hown, hts⟩ := hF
  obtain ⟨ws, q0, h1, h2, -, -⟩ := hP.cell hX
  exact va_bald hx hb hC.2.2.2 h2 q0 2 h1 rfl hi hdg kk
theorem x_lald (hF : CallFix p m c cc nL s args lw_all own) (hC : HC K X0 s) (hP : hI K X0 s.heap.size X H) {N : Nat} {f : Nat → Int64} {i : Int32} (hX : X a = some (.inl (1, N, .inr (.inl f)))) (hi : vp_in i N) (hdg : decode cc pc = .ok (.laload, 1))
    (kk : W p l e R0 s m args below meth c H locs cells slots Q (F0 m (pc + 1) ls (.long (f i.toNatClampNeg) :: rest))) : W p l e R0 s m args below meth c H locs cells slots Q (F0 m pc ls (.int i :: .ref a :: rest)) := by
  obtain ⟨hx, hb, hml, hown, hts⟩ := hF
  obtain ⟨ws, q0, h1, h2, -, -⟩ := hP.cell hX
  exact va_lald hx hb hC.2.2.2 h2 q0 1 h1 rfl hi hdg kk
theorem x_fald (hF : CallFix p m c cc nL s args lw_all own) (hC : HC K X0 s) (hP : hI K X0 s.heap.size X H) {N : Nat} {f : Nat → UInt32} {i : Int32} (hX : X a = some (.inl (3, N, .inr (.inr (.inl f))))) (hi : vp_in i N) (hdg : decode cc pc = .ok (.faload, 1))
    (kk : W p l e R0 s m args below meth c H locs cells slots Q (F0 m (pc + 1) ls (.float (f i.toNatClampNeg) :: rest))) : W p l e R0 s m args below meth c H locs cells slots Q (F0 m pc ls (.int i :: .ref a :: rest)) := by
  obtain ⟨hx, hb, hml, hown, hts⟩ := hF
  obtain ⟨ws, q0, h1, h2, -, -⟩ := hP.cell hX
  exact va_fald hx hb hC.2.2.2 h2 q0 3 h1 rfl hi hdg kk
theorem x_aald (hF : CallFix p m c cc nL s args lw_all own) (hC : HC K X0 s) (hP : hI K X0 s.heap.size X H) {N : Nat} {f : Nat → Option Nat} {i : Int32} (hX : X a = some (.inl (4, N, .inr (.inr (.inr (.inr f)))))) (hi : vp_in i N) (hdg : decode cc pc = .ok (.aaload, 1))
    (kk : W p l e R0 s m args below meth c H locs cells slots Q (F0 m (pc + 1) ls (va_rf (f i.toNatClampNeg) :: rest))) : W p l e R0 s m args below meth c H locs cells slots Q (F0 m pc ls (.int i :: .ref a :: rest)) := by
  obtain ⟨hx, hb, hml, hown, hts⟩ := hF
  obtain ⟨ws, q0, h1, h2, -, -⟩ := hP.cell hX
  exact va_aldq hx hb hC.2.2.2 h2 q0 4 h1 rfl hi hdg kk
theorem x_iast (hF : CallFix p m c cc nL s args lw_all own) (hC : HC K X0 s) (hP : hI K X0 s.heap.size X H) (hS : va_S (hA X0 s.heap.size) s.heap H locs) {N : Nat} {f : Nat → Int32} {i x : Int32} (hX : X a = some (.inl (0, N, .inl f))) (hi : vp_in i N) (hdg : decode cc pc = .ok (.iastore, 1))
    (kk : ∀ (H1 : Heap) (locs1 : List Loc), hI K X0 s.heap.size (hup X a (.inl (0, N, .inl (upd f i.toNatClampNeg x)))) H1 → va_S (hA X0 s.heap.size) s.heap H1 locs1 → W p l e R0 s m args below meth c H1 locs1 cells slots Q (F0 m (pc + 1) ls rest)) : W p l e R0 s m args below meth c H locs cells slots Q (F0 m pc ls (.int x :: .int i :: .ref a :: rest)) := by
  obtain ⟨hx, hb, hml, hown, hts⟩ := hF
  obtain ⟨ws, q0, h1, h2, h3, h4⟩ := hP.cell hX
  exact va_iast hx hb hC.2.2.2 h2 h3 hS q0 0 h1 rfl hi hdg (fun H1 locs1 g1 g2 g3 => kk H1 locs1 (h4 (.inl (0, N, .inl (upd f i.toNatClampNeg x))) H1 (hC.hi g3) g1 g2) g3)
theorem x_bast (hF : CallFix p m c cc nL s args lw_all own) (hC : HC K X0 s) (hP : hI K X0 s.heap.size X H) (hS : va_S (hA X0 s.heap.size) s.heap H locs) {N : Nat} {f : Nat → Int32} {i x : Int32} (hX : X a = some (.inl (2, N, .inl f))) (hi : vp_in i N) (hdg : decode cc pc = .ok (.bastore, 1))
    (kk : ∀ (H1 : Heap) (locs1 : List Loc), hI K X0 s.heap.size (hup X a (.inl (2, N, .inl (upd f i.toNatClampNeg (vp_nar .byte x))))) H1 → va_S (hA X0 s.heap.size) s.heap H1 locs1 → W p l e R0 s m args below meth c H1 locs1 cells slots Q (F0 m (pc + 1) ls rest)) : W p l e R0 s m args below meth c H locs cells slots Q (F0 m pc ls (.int x :: .int i :: .ref a :: rest)) := by
  obtain ⟨hx, hb, hml, hown, hts⟩ := hF
  obtain ⟨ws, q0, h1, h2, h3, h4⟩ := hP.cell hX
  exact va_bast hx hb hC.2.2.2 h2 h3 hS q0 2 h1 rfl hi hdg (fun H1 locs1 g1 g2 g3 => kk H1 locs1 (h4 (.inl (2, N, .inl (upd f i.toNatClampNeg (vp_nar .byte x)))) H1 (hC.hi g3) g1 g2) g3)
theorem x_last (hF : CallFix p m c cc nL s args lw_all own) (hC : HC K X0 s) (hP : hI K X0 s.heap.size X H) (hS : va_S (hA X0 s.heap.size) s.heap H locs) {N : Nat} {f : Nat → Int64} {i : Int32} {x : Int64} (hX : X a = some (.inl (1, N, .inr (.inl f)))) (hi : vp_in i N) (hdg : decode cc pc = .ok (.lastore, 1))
    (kk : ∀ (H1 : Heap) (locs1 : List Loc), hI K X0 s.heap.size (hup X a (.inl (1, N, .inr (.inl (vp_updL f i.toNatClampNeg x))))) H1 → va_S (hA X0 s.heap.size) s.heap H1 locs1 → W p l e R0 s m args below meth c H1 locs1 cells slots Q (F0 m (pc + 1) ls rest)) : W p l e R0 s m args below meth c H locs cells slots Q (F0 m pc ls (.long x :: .int i :: .ref a :: rest)) := by
  obtain ⟨hx, hb, hml, hown, hts⟩ := hF
  obtain ⟨ws, q0, h1, h2, h3, h4⟩ := hP.cell hX
  exact va_last hx hb hC.2.2.2 h2 h3 hS q0 1 h1 rfl hi hdg (fun H1 locs1 g1 g2 g3 => kk H1 locs1 (h4 (.inl (1, N, .inr (.inl (vp_updL f i.toNatClampNeg x)))) H1 (hC.hi g3) g1 g2) g3)
theorem x_fast (hF : CallFix p m c cc nL s args lw_all own) (hC : HC K X0 s) (hP : hI K X0 s.heap.size X H) (hS : va_S (hA X0 s.heap.size) s.heap H locs) {N : Nat} {f : Nat → UInt32} {i : Int32} {x : UInt32} (hX : X a = some (.inl (3, N, .inr (.inr (.inl f))))) (hi : vp_in i N) (hdg : decode cc pc = .ok (.fastore, 1))
    (kk : ∀ (H1 : Heap) (locs1 : List Loc), hI K X0 s.heap.size (hup X a (.inl (3, N, .inr (.inr (.inl (vf_upd f i.toNatClampNeg x)))))) H1 → va_S (hA X0 s.heap.size) s.heap H1 locs1 → W p l e R0 s m args below meth c H1 locs1 cells slots Q (F0 m (pc + 1) ls rest)) : W p l e R0 s m args below meth c H locs cells slots Q (F0 m pc ls (.float x :: .int i :: .ref a :: rest)) := by
  obtain ⟨hx, hb, hml, hown, hts⟩ := hF
  obtain ⟨ws, q0, h1, h2, h3, h4⟩ := hP.cell hX
  exact va_fast hx hb hC.2.2.2 h2 h3 hS q0 3 h1 rfl hi hdg (fun H1 locs1 g1 g2 g3 => kk H1 locs1 (h4 (.inl (3, N, .inr (.inr (.inl (vf_upd f i.toNatClampNeg x))))) H1 (hC.hi g3) g1 g2) g3)
theorem x_aasN (hF : CallFix p m c cc nL s args lw_all own) (hC : HC K X0 s) (hP : hI K X0 s.heap.size X H) (hS : va_S (hA X0 s.heap.size) s.heap H locs) {N : Nat} {f : Nat → Option Nat} {i : Int32} (hX : X a = some (.inl (4, N, .inr (.inr (.inr (.inr f)))))) (hi : vp_in i N) (hdg : decode cc pc = .ok (.aastore, 1))
    (kk : ∀ (H1 : Heap) (locs1 : List Loc), hI K X0 s.heap.size (hup X a (.inl (4, N, .inr (.inr (.inr (.inr (va_up f i.toNatClampNeg none))))))) H1 → va_S (hA X0 s.heap.size) s.heap H1 locs1 → W p l e R0 s m args below meth c H1 locs1 cells slots Q (F0 m (pc + 1) ls rest)) : W p l e R0 s m args below meth c H locs cells slots Q (F0 m pc ls (.null :: .int i :: .ref a :: rest)) := by
  obtain ⟨hx, hb, hml, hown, hts⟩ := hF
  obtain ⟨ws, q0, h1, h2, h3, h4⟩ := hP.cell hX
  exact va_astqN hx hb hC.2.2.2 h2 h3 hS q0 4 h1 rfl hi hdg (fun H1 locs1 g1 g2 g3 => kk H1 locs1 (h4 (.inl (4, N, .inr (.inr (.inr (.inr (va_up f i.toNatClampNeg none)))))) H1 (hC.hi g3) g1 g2) g3)
end XROWS

/-! MY ROWS: copies, statics, casts, nullable references, calls, ends -/
set_option maxRecDepth 100000
def cpyQ (X : hX) (a0 : Nat) (sp : Int32) (a : Nat) (dp n : Int32) (P : hX → Prop) : Prop := ∃ n0 f n1 g, X a0 = some (.inl (4, n0, .inr (.inr (.inr (.inr f))))) ∧ X a = some (.inl (4, n1, .inr (.inr (.inr (.inr g))))) ∧ (¬ sp < 0 ∧ ¬ dp < 0 ∧ ¬ n < 0 ∧ sp.toNatClampNeg + n.toNatClampNeg ≤ n0 ∧ dp.toNatClampNeg + n.toNatClampNeg ≤ n1) ∧ (∀ i : Nat, i < n.toNatClampNeg → ∀ y : Nat, f (sp.toNatClampNeg + i) = some y → ∃ ci fs, ci < 11 ∧ X y = some (.inr (ci, fs))) ∧ P (hup X a (.inl (4, n1, .inr (.inr (.inr (.inr (va_cpy f g sp.toNatClampNeg dp.toNatClampNeg n.toNatClampNeg)))))))
def cpyB (X : hX) (a0 : Nat) (sp : Int32) (a : Nat) (dp n : Int32) (P : hX → Prop) : Prop := ∃ n0 f n1 g, X a0 = some (.inl (2, n0, .inl f)) ∧ X a = some (.inl (2, n1, .inl g)) ∧ (¬ sp < 0 ∧ ¬ dp < 0 ∧ ¬ n < 0 ∧ sp.toNatClampNeg + n.toNatClampNeg ≤ n0 ∧ dp.toNatClampNeg + n.toNatClampNeg ≤ n1) ∧ (∀ i : Nat, i < n.toNatClampNeg → fits .byte (.int (f (sp.toNatClampNeg + i))) = true) ∧ P (hup X a (.inl (2, n1, .inl (va_cpy f g sp.toNatClampNeg dp.toNatClampNeg n.toNatClampNeg))))
section XROWS3
variable {p : Program} {l : Launch} {e : Env} {R0 : Room} {s : State} {m : MethodId} {args : Array Value} {below : List Frame} {meth : Method} {c : Code} {H : Heap} {locs : List Loc} {cells slots : Nat} {Q : State → Prop}
variable {pc nL : Nat} {ls : Array Slot} {rest st As : List Value} {cc : ByteArray} {K : HK} {X0 X : hX} {index n maxL : Nat} {y : MethodName} {bytes : ByteArray} {ret : Option FieldType} {ws : List Cond} {rm : Room} {wp : Prop} {own : String} {a : Nat}
theorem hI.cell2 {X0 X : hX} {N : Nat} {H : Heap} (h : hI K X0 N X H) {a0 a : Nat} {e0 e : va_E} (hX0 : X a0 = some e0) (hX : X a = some e) : ∃ (ws : va_W) (k0 k : Nat), ws[k0]? = some (a0, hT K e0) ∧ ws[k]? = some (a, hT K e) ∧ va_P K.1.1 vcl ws H ∧ va_D (hA X0 N) ws ∧
    (∀ (e' : va_E) (H1 : Heap) , K.2.1 ≤ H1.size → va_P K.1.1 vcl (ws.set k (a, hT K e')) H1 → va_D (hA X0 N) (ws.set k (a, hT K e')) → hI K X0 N (hup X a e') H1) := by
  obtain ⟨⟨h0, L, h1, h2, h3, h4⟩, hg⟩ := h
  have ha0 : a0 ∈ L := (h1 a0).mpr (by rw [hX0]; exact fun z => by cases z)
  have ha : a ∈ L := (h1 a).mpr (by rw [hX]; exact fun z => by cases z)
  obtain ⟨k0, hk0⟩ := va_pl_get (X := []) (f := hf K X) ha0
  obtain ⟨k, hk⟩ := va_pl_get (X := []) (f := hf K X) ha
  have hD : va_D (hA X0 N) ([] ++ va_pl L (hf K X)) := ⟨h4.1, fun i q hi => by
    obtain ⟨b, hb, e2⟩ := List.mem_map.mp (show q ∈ va_pl L (hf K X) from List.mem_of_getElem? hi)
    rw [← e2]
    exact hg b ((h1 b).mp hb)⟩
  refine ⟨_, k0, k, by rw [hk0, hf_of hX0], by rw [hk, hf_of hX], h3, hD, fun e' H1 g0 g1 g2 => ?_⟩
  have e3 : ([] ++ va_pl L (hf K X)).set k (a, hT K e') = [] ++ va_pl L (hf K (hup X a e')) := (va_pl_set hD ha hk).trans (by rw [va_pl_congr (g := hf K (hup X a e')) (fun b => hf_up b)])
  rw [e3] at g1 g2
  refine ⟨⟨g0, L, fun b => ?_, h2, g1, g2.weaken (fun _ _ _ _ => trivial)⟩, fun b hb => ?_⟩
  · by_cases e4 : b = a
    · subst e4
      rw [hup_s]
      exact ⟨fun _ => (fun z => nomatch z), fun _ => ha⟩
    · rw [hup_n _ _ e4]
      exact h1 b
  · by_cases e4 : b = a
    · subst e4
      exact hg b (by rw [hX]; exact fun z => by cases z)
    · rw [hup_n _ _ e4] at hb
      exact hg b hb
theorem x_cpyQ (hF : CallFix p m c cc nL s args lw_all own) (hls : ls.size = nL) (hC : HC K X0 s) (hP : hI K X0 s.heap.size X H) (hS : va_S (hA X0 s.heap.size) s.heap H locs) (hlink : (Cond.methodLink own index arraycopyName) ∈ lw_all) {a0 : Nat} {sp dp n : Int32} {P : hX → Prop} (hw : cpyQ X a0 sp a dp n P) (hfr : 1 ≤ R0.frames) (hlo : (rest.map fun v => v.category).sum + (nativeFrameWords "java/lang/System" "arraycopy" 5 + 11) ≤ R0.locals) (hdg : decode cc pc = .ok (.invokestatic index, 3))
    (kk : ∀ (X1 : hX) (H1 : Heap) (locs1 : List Loc), P X1 → hI K X0 s.heap.size X1 H1 → va_S (hA X0 s.heap.size) s.heap H1 locs1 → W p l e R0 s m args below meth c H1 locs1 cells slots Q (F0 m (pc + 3) ls rest)) : W p l e R0 s m args below meth c H locs cells slots Q (F0 m pc ls (.int n :: .int dp :: .ref a :: .int sp :: .ref a0 :: rest)) := by
  obtain ⟨hx, hb, hml, hown, hts⟩ := hF
  obtain ⟨n0, f, n1, g, h1, h2, ⟨w1, w2, w3, w4, w5⟩, w6, hp⟩ := hw
  obtain ⟨ws, k0, k, g1, g2, g3, g4, g5⟩ := hP.cell2 h1 h2
  exact va_copyM hx hb (by rw [hml, hls]) hown (hts _ hlink) (hts _ q486) (hts _ q485) (hts _ q91) hC.2.2.2 g3 g4 hS k0 k 4 4 g1 g2 rfl rfl w1 w2 w3 w4 w5 (fun i hi y hy => by obtain ⟨ci, fs, z1, z2⟩ := w6 i hi y hy; exact hC.any hP z1 z2) hfr hlo hdg
    (fun H1 locs1 j1 j2 j3 => kk _ H1 locs1 hp (g5 (.inl (4, n1, .inr (.inr (.inr (.inr (va_cpy f g sp.toNatClampNeg dp.toNatClampNeg n.toNatClampNeg)))))) H1 (hC.hi j3) j1 j2) j3)
theorem x_cpyB (hF : CallFix p m c cc nL s args lw_all own) (hls : ls.size = nL) (hC : HC K X0 s) (hP : hI K X0 s.heap.size X H) (hS : va_S (hA X0 s.heap.size) s.heap H locs) (hlink : (Cond.methodLink own index arraycopyName) ∈ lw_all) {a0 : Nat} {sp dp n : Int32} {P : hX → Prop} (hw : cpyB X a0 sp a dp n P) (hfr : 1 ≤ R0.frames) (hlo : (rest.map fun v => v.category).sum + (nativeFrameWords "java/lang/System" "arraycopy" 5 + 11) ≤ R0.locals) (hdg : decode cc pc = .ok (.invokestatic index, 3))
    (kk : ∀ (X1 : hX) (H1 : Heap) (locs1 : List Loc), P X1 → hI K X0 s.heap.size X1 H1 → va_S (hA X0 s.heap.size) s.heap H1 locs1 → W p l e R0 s m args below meth c H1 locs1 cells slots Q (F0 m (pc + 3) ls rest)) : W p l e R0 s m args below meth c H locs cells slots Q (F0 m pc ls (.int n :: .int dp :: .ref a :: .int sp :: .ref a0 :: rest)) := by
  obtain ⟨hx, hb, hml, hown, hts⟩ := hF
  obtain ⟨n0, f, n1, g, h1, h2, ⟨w1, w2, w3, w4, w5⟩, w6, hp⟩ := hw
  obtain ⟨ws, k0, k, g1, g2, g3, g4, g5⟩ := hP.cell2 h1 h2
  exact va_copyi hx hb (by rw [hml, hls]) hown (hts _ hlink) (hts _ q486) (hts _ q485) (hts _ q91) hC.2.2.2 g3 g4 hS k0 k 2 2 (ty := .byte) g1 g2 rfl rfl rfl w1 w2 w3 w4 w5 w6 hfr hlo hdg
    (fun H1 locs1 j1 j2 j3 => kk _ H1 locs1 hp (g5 (.inl (2, n1, .inl (va_cpy f g sp.toNatClampNeg dp.toNatClampNeg n.toNatClampNeg))) H1 (hC.hi j3) j1 j2) j3)
/-! statics -/
theorem x_gsE (hF : CallFix p m c cc nL s args lw_all own) (hC : HC K X0 s) (hS : va_S (hA X0 s.heap.size) s.heap H locs) (hlink : (Cond.fieldLink own index "java/util/ArrayList" "DEFAULTCAPACITY_EMPTY_ELEMENTDATA" "[Ljava/lang/Object;") ∈ lw_all) (hdg : decode cc pc = .ok (.getstatic index, 3)) (kk : W p l e R0 s m args below meth c H locs cells slots Q (F0 m (pc + 3) ls (.ref (K.2.2 0) :: rest))) : W p l e R0 s m args below meth c H locs cells slots Q (F0 m pc ls rest) := by
  obtain ⟨hx, hb, hml, hown, hts⟩ := hF
  exact va_gets hx hb hC.2.2.1.1.1 (hC.sN hS) hown (hts _ hlink) (fun _ z => z) hdg kk
theorem x_gsC (hF : CallFix p m c cc nL s args lw_all own) (hC : HC K X0 s) (hS : va_S (hA X0 s.heap.size) s.heap H locs) (hlink : (Cond.fieldLink own index "java/lang/String" "COMPACT_STRINGS" "Z") ∈ lw_all) (hdg : decode cc pc = .ok (.getstatic index, 3)) (kk : W p l e R0 s m args below meth c H locs cells slots Q (F0 m (pc + 3) ls (.int 1 :: rest))) : W p l e R0 s m args below meth c H locs cells slots Q (F0 m pc ls rest) := by
  obtain ⟨hx, hb, hml, hown, hts⟩ := hF
  exact va_gets hx hb hC.2.2.1.1.2.2.1 (hC.sN hS) hown (hts _ hlink) (fun _ z => z) hdg kk
theorem x_gsF (hF : CallFix p m c cc nL s args lw_all own) (hC : HC K X0 s) (hS : va_S (hA X0 s.heap.size) s.heap H locs) (hlink : (Cond.fieldLink own index "jdk/internal/util/Preconditions" "SIOOBE_FORMATTER" "Ljava/util/function/BiFunction;") ∈ lw_all) (hdg : decode cc pc = .ok (.getstatic index, 3)) (kk : ∀ r : Option Nat, W p l e R0 s m args below meth c H locs cells slots Q (F0 m (pc + 3) ls (va_rf r :: rest))) : W p l e R0 s m args below meth c H locs cells slots Q (F0 m pc ls rest) := by
  obtain ⟨hx, hb, hml, hown, hts⟩ := hF
  rcases hC.2.2.1.1.2.2.2.1 with h | ⟨t, h⟩
  · exact va_gets hx hb h (hC.sN hS) hown (hts _ hlink) (fun _ z => z) hdg (kk none)
  · exact va_gets hx hb h (hC.sN hS) hown (hts _ hlink) (fun _ z => z) hdg (kk (some t))
/-- a cast to the object's own class -/
theorem x_cast (hF : CallFix p m c cc nL s args lw_all own) (hC : HC K X0 s) (hP : hI K X0 s.heap.size X H) {C : String} {T : u_T} {N ci : Nat} (hc : vcl[ci]? = some (C, T, N)) (hlink : (Cond.classLink own index C) ∈ lw_all) (hX : ∃ fs, X a = some (.inr (ci, fs))) (hdg : decode cc pc = .ok (.checkcast index, 3)) (kk : W p l e R0 s m args below meth c H locs cells slots Q (F0 m (pc + 3) ls (.ref a :: rest))) : W p l e R0 s m args below meth c H locs cells slots Q (F0 m pc ls (.ref a :: rest)) := by
  obtain ⟨hx, hb, hml, hown, hts⟩ := hF
  obtain ⟨fs, hX⟩ := hX
  exact va_castS hx hb hown (hts _ hlink) (hC.2.2.2.1 ci _ hc).2 (hP.recv hC.2.2.2 hX hc) hdg kk
/-! nullable references -/
theorem lv_aloadQ (hexec : p.tables.exec = Jvm.exec) (hb : c.code = cc) {i : Nat} {x : Option Nat} (hdg : decode cc pc = .ok (.aload i, 2)) (hl : ls[i]? = some (.val (va_rf x)))
    (k : W p l e R0 s m args below meth c H locs cells slots Q (F0 m (pc + 2) ls (va_rf x :: rest))) : W p l e R0 s m args below meth c H locs cells slots Q (F0 m pc ls (rest)) := by
  cases x with
  | some y => exact lv_aload hexec hb hdg hl k
  | none =>
    intro T hT X
    obtain ⟨t, a, b⟩ := k T hT X
    refine ⟨t, ?_, b⟩
    have hl : ls[i]? = some (.val .null) := hl
    jvm_step X.here [X.here.top, hexec, hb, hdg, hl, Value.isRef]
    exact a
theorem lv_aloadQ_n (hexec : p.tables.exec = Jvm.exec) (hb : c.code = cc) {k : Fin 4} {i : Nat} {x : Option Nat} (hdg : decode cc pc = .ok (.aload_n k, 1)) (hi : (k : Nat) = i) (hl : ls[i]? = some (.val (va_rf x)))
    (kk : W p l e R0 s m args below meth c H locs cells slots Q (F0 m (pc + 1) ls (va_rf x :: rest))) : W p l e R0 s m args below meth c H locs cells slots Q (F0 m pc ls (rest)) := by
  subst hi
  cases x with
  | some y => exact lv_aload_n hexec hb hdg rfl hl kk
  | none =>
    intro T hT X
    obtain ⟨t, a, b⟩ := kk T hT X
    refine ⟨t, ?_, b⟩
    have hl : ls[(k : Nat)]? = some (.val .null) := hl
    jvm_step X.here [X.here.top, hexec, hb, hdg, hl, Value.isRef]
    exact a
theorem lv_astoreQ (hexec : p.tables.exec = Jvm.exec) (hb : c.code = cc) {i nL : Nat} {x : Option Nat} {lv lv' : List (Nat × Value)} (hdg : decode cc pc = .ok (.astore i, 2)) (h : lv_has ls nL lv) (hn : i < nL) (hl : (i, va_rf x) :: lv.filter (fun q => !(q.1 == i) && !(q.1 + 1 == i && q.2.category == 2)) = lv')
    (kk : ∀ ls' : Array Slot, lv_has ls' nL lv' → W p l e R0 s m args below meth c H locs cells slots Q (F0 m (pc + 2) ls' rest)) : W p l e R0 s m args below meth c H locs cells slots Q (F0 m pc ls (va_rf x :: rest)) := by
  cases x with
  | some y => exact lv_astore hexec hb hdg h hn hl kk
  | none =>
    obtain ⟨ls', e', h'⟩ := lv_store1 (v := .null) h hn rfl
    intro T hT X
    obtain ⟨t, a, b⟩ := kk ls' (hl ▸ h') T hT X
    refine ⟨t, ?_, b⟩
    show Steps p.tables e below (T.setTop (F0 m pc ls (.null :: rest))) t
    jvm_step X.here [X.here.top, ↓top_set X.here.top, hexec, hb, hdg, e', Value.isRef]
    exact a
theorem lv_astoreQ_n (hexec : p.tables.exec = Jvm.exec) (hb : c.code = cc) {k : Fin 4} {i nL : Nat} {x : Option Nat} {lv lv' : List (Nat × Value)} (hdg : decode cc pc = .ok (.astore_n k, 1)) (hi : (k : Nat) = i) (h : lv_has ls nL lv) (hn : i < nL) (hl : (i, va_rf x) :: lv.filter (fun q => !(q.1 == i) && !(q.1 + 1 == i && q.2.category == 2)) = lv')
    (kk : ∀ ls' : Array Slot, lv_has ls' nL lv' → W p l e R0 s m args below meth c H locs cells slots Q (F0 m (pc + 1) ls' rest)) : W p l e R0 s m args below meth c H locs cells slots Q (F0 m pc ls (va_rf x :: rest)) := by
  cases x with
  | some y => exact lv_astore_n hexec hb hdg hi h hn hl kk
  | none =>
    subst hi
    obtain ⟨ls', e', h'⟩ := lv_store1 (v := .null) h hn rfl
    intro T hT X
    obtain ⟨t, a, b⟩ := kk ls' (hl ▸ h') T hT X
    refine ⟨t, ?_, b⟩
    show Steps p.tables e below (T.setTop (F0 m pc ls (.null :: rest))) t
    jvm_step X.here [X.here.top, ↓top_set X.here.top, hexec, hb, hdg, e', Value.isRef]
    exact a
theorem lv_ifnullQ (hexec : p.tables.exec = Jvm.exec) (hb : c.code = cc) {x : Option Nat} {off : Int} {tgt : Nat} (hdg : decode cc pc = .ok (.ifnull off, 3)) (ht : (pc : Int) + off = (tgt : Int)) (kt : x = none → W p l e R0 s m args below meth c H locs cells slots Q (F0 m tgt ls rest)) (kf : ∀ y, x = some y → W p l e R0 s m args below meth c H locs cells slots Q (F0 m (pc + 3) ls rest)) : W p l e R0 s m args below meth c H locs cells slots Q (F0 m pc ls (va_rf x :: rest)) := by
  cases x with
  | none => exact lv_ifnullN hexec hb hdg ht (kt rfl)
  | some y => exact lv_ifnull hexec hb hdg (kf y rfl)
theorem lv_ifnonnullQ (hexec : p.tables.exec = Jvm.exec) (hb : c.code = cc) {x : Option Nat} {off : Int} {tgt : Nat} (hdg : decode cc pc = .ok (.ifnonnull off, 3)) (ht : (pc : Int) + off = (tgt : Int)) (kt : ∀ y, x = some y → W p l e R0 s m args below meth c H locs cells slots Q (F0 m tgt ls rest)) (kf : x = none → W p l e R0 s m args below meth c H locs cells slots Q (F0 m (pc + 3) ls rest)) : W p l e R0 s m args below meth c H locs cells slots Q (F0 m pc ls (va_rf x :: rest)) := by
  cases x with
  | none => exact lv_ifnonnullN hexec hb hdg (kf rfl)
  | some y => exact lv_ifnonnull hexec hb hdg ht (kt y rfl)
theorem lv_acmpA_eq (hexec : p.tables.exec = Jvm.exec) (hb : c.code = cc) {x y : Nat} {off : Int} {tgt : Nat} (hdg : decode cc pc = .ok (.if_acmp .eq off, 3)) (ht : (pc : Int) + off = (tgt : Int)) (kt : x = y → W p l e R0 s m args below meth c H locs cells slots Q (F0 m tgt ls rest)) (kf : ¬ x = y → W p l e R0 s m args below meth c H locs cells slots Q (F0 m (pc + 3) ls rest)) : W p l e R0 s m args below meth c H locs cells slots Q (F0 m pc ls (.ref y :: .ref x :: rest)) :=
  lv_acmp_eq (rx := some x) (ry := some y) hexec hb hdg ht (fun z => kt (Option.some.inj z)) (fun z => kf (fun w => z (congrArg some w)))
theorem lv_acmpA_ne (hexec : p.tables.exec = Jvm.exec) (hb : c.code = cc) {x y : Nat} {off : Int} {tgt : Nat} (hdg : decode cc pc = .ok (.if_acmp .ne off, 3)) (ht : (pc : Int) + off = (tgt : Int)) (kt : ¬ x = y → W p l e R0 s m args below meth c H locs cells slots Q (F0 m tgt ls rest)) (kf : x = y → W p l e R0 s m args below meth c H locs cells slots Q (F0 m (pc + 3) ls rest)) : W p l e R0 s m args below meth c H locs cells slots Q (F0 m pc ls (.ref y :: .ref x :: rest)) :=
  lv_acmp_ne (rx := some x) (ry := some y) hexec hb hdg ht (fun z => kt (fun w => z (congrArg some w))) (fun z => kf (Option.some.inj z))
end XROWS3

/-! EXCEPTIONS made: new X(text) -/
set_option maxRecDepth 100000
abbrev nmRE : List String := ["java/lang/RuntimeException", "java/lang/Exception"]
theorem atRE_12 : (vx_atS "ClockworkOrreries" 138 "java/lang/IllegalArgumentException" nmRE).all (fun w => decide (w ∈ lw_tbl) && (goodWord w || nwOK w)) = true := by decide +kernel
theorem atGD_12 : (Cond.classLink "ClockworkOrreries" 134 "java/lang/IllegalArgumentException" :: Cond.initialized "java/lang/IllegalArgumentException" :: (vx_atS "ClockworkOrreries" 138 "java/lang/IllegalArgumentException" nmRE)).all (fun w => vx_ot w) = true := by decide +kernel
theorem atRE_13 : (vx_atS "ClockworkOrreries" 145 "java/lang/IllegalStateException" nmRE).all (fun w => decide (w ∈ lw_tbl) && (goodWord w || nwOK w)) = true := by decide +kernel
theorem atGD_13 : (Cond.classLink "ClockworkOrreries" 141 "java/lang/IllegalStateException" :: Cond.initialized "java/lang/IllegalStateException" :: (vx_atS "ClockworkOrreries" 145 "java/lang/IllegalStateException" nmRE)).all (fun w => vx_ot w) = true := by decide +kernel
theorem at_use {K : HK} {X0 : hX} {s : State} {args : Array Value} (hC : HC K X0 s) (hts : ∀ w ∈ lw_all, w.before args s = true) {L : List Cond} (h : L.all (fun w => decide (w ∈ lw_tbl) && (goodWord w || nwOK w)) = true) : ∀ w ∈ L, w.before args s = true := by
  intro w hw
  have h1 := List.all_eq_true.mp h w hw
  simp only [Bool.and_eq_true, Bool.or_eq_true, decide_eq_true_eq] at h1
  obtain ⟨h2, h3 | h3⟩ := h1
  · exact hts w (List.mem_filter.mpr ⟨h2, h3⟩)
  · exact va_Nw.use (A := args) (nw_ot h3) (hC.2.2.1.2.2.2.2.2.1 w h2 h3)
abbrev va_E_r (ci : Nat) : va_E := .inr (ci, [])
section XMK
variable {p : Program} {l : Launch} {e : Env} {R0 : Room} {s : State} {m : MethodId} {args : Array Value} {below : List Frame} {meth : Method} {c : Code} {H : Heap} {locs : List Loc} {cells slots : Nat} {Q : State → Prop}
variable {pc nL mc ms : Nat} {ls : Array Slot} {rest : List Value} {cc : ByteArray} {K : HK} {X0 X : hX}
theorem x_mk12 (hF : CallFix p m c cc nL s args lw_all RX1) (hls : ls.size = nL) (hlt : l.stackTraces = false) (hC : HC K X0 s) (hP : hI K X0 s.heap.size X H) (hS : va_S (hA X0 s.heap.size) s.heap H locs) {P : Nat → hX → Prop} (hw : newO X 12 [] 6 cells slots mc ms P) (hR : R0.cells = mc ∧ R0.slots = ms) (hfr : 6 ≤ R0.frames) (hlo : (rest.map fun v => v.category).sum + 82 ≤ R0.locals) (d0 : decode cc pc = .ok (.new 134, 3)) (d3 : decode cc (pc + 3) = .ok (.dup, 1)) (d4 : decode cc (pc + 4) = .ok (.ldc 136, 2)) (d6 : decode cc (pc + 6) = .ok (.invokespecial 138, 3))
    (kk : ∀ (q : Nat) (X1 : hX) (H1 : Heap), cells + 1 ≤ mc → slots + 6 ≤ ms → P q X1 → hCell H1 s "java/lang/IllegalArgumentException" q → hI K X0 s.heap.size X1 H1 → va_S (hA X0 s.heap.size) s.heap H1 locs → W p l e R0 s m args below meth c H1 locs (cells + 1) (slots + 6) Q (F0 m (pc + 9) ls (.ref q :: rest))) : W p l e R0 s m args below meth c H locs cells slots Q (F0 m pc ls rest) := by
  obtain ⟨hx, hb, hml, hown, hts⟩ := hF
  obtain ⟨w1, w2, w3⟩ := hw
  obtain ⟨ws, h2, h3, -, h4⟩ := hP.all hC.1 hC.2.1
  refine vx_makeS (own := RX1) (cls := "java/lang/IllegalArgumentException") (names := nmRE) (ci := 12) (A := hA X0 s.heap.size) hx hb hlt hown (by decide +kernel) (by decide +kernel) (hts _ q1051) (hts _ q102) hC.2.2.1.2.1.1 (at_use hC hts atRE_12) (List.all_eq_true.mp atGD_12) (hC.2.2.1.1.2.2.2.2.1.narrow hC.old) (hC.2.2.1.1.2.2.2.2.2.narrow hC.old) hS (by rw [hml, hls]) d0 d3 d4 d6 hC.2.2.2 h2 h3 (fun q hq => Or.inr hq) rfl (Nat.lt_of_lt_of_le (by decide) hfr) hlo (by rw [hR.1]; exact w1) (by rw [hR.2]; exact w2) (fun q H1 g1 g2 g3 => ?_)
  obtain ⟨k1, k2⟩ := h4 q (.inr (12, [])) H1 (hC.hi g3) g1 g2
  have hlast : (ws ++ [(q, va_E_r 12)])[ws.length]? = some (q, va_E_r 12) := by simp
  obtain ⟨r, e1, ce, e2, e3, e4, -⟩ := g1 ws.length _ hlast
  cases e1
  exact kk q _ H1 w1 w2 (w3 q k1) ⟨ce, e2, e4, by rw [e3]; exact (hC.2.2.2.1 12 _ rfl).2.1⟩ k2 g3
theorem x_mk13 (hF : CallFix p m c cc nL s args lw_all RX1) (hls : ls.size = nL) (hlt : l.stackTraces = false) (hC : HC K X0 s) (hP : hI K X0 s.heap.size X H) (hS : va_S (hA X0 s.heap.size) s.heap H locs) {P : Nat → hX → Prop} (hw : newO X 13 [] 6 cells slots mc ms P) (hR : R0.cells = mc ∧ R0.slots = ms) (hfr : 6 ≤ R0.frames) (hlo : (rest.map fun v => v.category).sum + 82 ≤ R0.locals) (d0 : decode cc pc = .ok (.new 141, 3)) (d3 : decode cc (pc + 3) = .ok (.dup, 1)) (d4 : decode cc (pc + 4) = .ok (.ldc 143, 2)) (d6 : decode cc (pc + 6) = .ok (.invokespecial 145, 3))
    (kk : ∀ (q : Nat) (X1 : hX) (H1 : Heap), cells + 1 ≤ mc → slots + 6 ≤ ms → P q X1 → hCell H1 s "java/lang/IllegalStateException" q → hI K X0 s.heap.size X1 H1 → va_S (hA X0 s.heap.size) s.heap H1 locs → W p l e R0 s m args below meth c H1 locs (cells + 1) (slots + 6) Q (F0 m (pc + 9) ls (.ref q :: rest))) : W p l e R0 s m args below meth c H locs cells slots Q (F0 m pc ls rest) := by
  obtain ⟨hx, hb, hml, hown, hts⟩ := hF
  obtain ⟨w1, w2, w3⟩ := hw
  obtain ⟨ws, h2, h3, -, h4⟩ := hP.all hC.1 hC.2.1
  refine vx_makeS (own := RX1) (cls := "java/lang/IllegalStateException") (names := nmRE) (ci := 13) (A := hA X0 s.heap.size) hx hb hlt hown (by decide +kernel) (by decide +kernel) (hts _ q1054) (hts _ q100) hC.2.2.1.2.1.2.1 (at_use hC hts atRE_13) (List.all_eq_true.mp atGD_13) (hC.2.2.1.1.2.2.2.2.1.narrow hC.old) (hC.2.2.1.1.2.2.2.2.2.narrow hC.old) hS (by rw [hml, hls]) d0 d3 d4 d6 hC.2.2.2 h2 h3 (fun q hq => Or.inr hq) rfl (Nat.lt_of_lt_of_le (by decide) hfr) hlo (by rw [hR.1]; exact w1) (by rw [hR.2]; exact w2) (fun q H1 g1 g2 g3 => ?_)
  obtain ⟨k1, k2⟩ := h4 q (.inr (13, [])) H1 (hC.hi g3) g1 g2
  have hlast : (ws ++ [(q, va_E_r 13)])[ws.length]? = some (q, va_E_r 13) := by simp
  obtain ⟨r, e1, ce, e2, e3, e4, -⟩ := g1 ws.length _ hlast
  cases e1
  exact kk q _ H1 w1 w2 (w3 q k1) ⟨ce, e2, e4, by rw [e3]; exact (hC.2.2.2.1 13 _ rfl).2.1⟩ k2 g3
end XMK

/-! Constructors of exceptions that call their class's own: Refused, NoSuchElementException; made in 'need', 'needSuch' -/
set_option maxRecDepth 100000
theorem in_X4r : ∀ w ∈ u_ws RX4 TX4r 1, w ∈ lw_all := lw_in (u_ws RX4 TX4r 1) [835] (by decide +kernel) (by decide +kernel)
theorem tyX4r_ok : ∀ k, k < 1 → parseFieldDescriptor (TX4r k).2.2.1 = some ((fun _ => FieldType.int) k) := by decide +kernel
theorem nmX4r : ∀ a, a < 1 → ∀ b, b < 1 → a ≠ b → (TX4r a).2.1 ≠ (TX4r b).2.1 := fun a ha b hb h => absurd (show a = b by omega) h
def xkAt (U : State) (O : String) (a : Nat) : Prop := ∃ (cX : ClassId) (kX : Class), U.vm.findClass O = some cX ∧ U.vm.classes[cX]? = some kX ∧ U.heap[a]? = some (freshCell cX kX)
def xkPre (K : HK) (sz : Nat) (O : String) (a : Nat) (U : State) : Prop := U.heap.size = sz ∧ K.2.1 ≤ sz ∧ K.2.1 ≤ a ∧ EV K U U.heap ∧ KN K.1 U ∧ xkAt U O a
abbrev xkA (a sz : Nat) : Nat → Prop := fun q => q = a ∨ sz ≤ q
theorem xkPre.blind {K : HK} {sz : Nat} {O : String} {a : Nat} {As : List Value} : FrameBlind (va_Pc As (xkPre K sz O a)) := fun _ U g mk q => ⟨q.1, q.2.1, q.2.2.1, q.2.2.2.1, EV.same (u := U) rfl q.2.2.2.2.1, KN.moved (u := U) (Vm.Alike.refl U.vm) q.2.2.2.2.2.1, q.2.2.2.2.2.2⟩
theorem xkAt.moved {u U : State} {O : String} {a : Nat} (hvm : u.vm.Alike U.vm) (hh : U.heap = u.heap) (h : xkAt u O a) : xkAt U O a := by
  obtain ⟨c, k, h1, h2, h3⟩ := h
  obtain ⟨k', hk', he⟩ := hvm.2.2 _ _ h2
  refine ⟨c, k', by rw [hvm.findClass]; exact h1, hk', ?_⟩
  rw [hh, h3, he]
theorem up_use {s : State} {args : Array Value} (hNW : NW s) (hts : ∀ w ∈ lw_all, w.before args s = true) {L : List Cond} (h : L.all (fun w => decide (w ∈ lw_tbl) && (goodWord w || nwOK w)) = true) : ∀ w ∈ L, w.before args s = true := by
  intro w hw
  have h1 := List.all_eq_true.mp h w hw
  simp only [Bool.and_eq_true, Bool.or_eq_true, decide_eq_true_eq] at h1
  obtain ⟨h2, h3 | h3⟩ := h1
  · exact hts w (List.mem_filter.mpr ⟨h2, h3⟩)
  · exact va_Nw.use (A := args) (nw_ot h3) (hNW w h2 h3)
theorem atUP_14 : ((upAtoms "java/util/NoSuchElementException" 13 "java/lang/RuntimeException" ["java/lang/Exception"] "java/util/NoSuchElementException" 6).filter vx_no).all (fun w => decide (w ∈ lw_tbl) && (goodWord w || nwOK w)) = true := by decide +kernel
theorem atUP_11 : ((upAtoms "ClockworkOrreries$Refused" 3 "java/lang/Exception" [] "ClockworkOrreries$Refused" 7).filter vx_no).all (fun w => decide (w ∈ lw_tbl) && (goodWord w || nwOK w)) = true := by decide +kernel
abbrev wsJ17_init_2 : List Cond := ws_ yJ17_init_2 cJ17_init_2 2 none
abbrev wsX4_init : List Cond := ws_ yX4_init cX4_init 2 none
theorem metJ17_init_2R (l : Launch) (hlt : l.stackTraces = false) (K : HK) (sz a q : Nat) : Met l yJ17_init_2 wsJ17_init_2 (rmh 5 68 0 0) (va_Pc [.ref a, .ref q] (xkPre K sz RJ17 a)) (va_Qv (S := Unit) (fun _ => True) (fun _ t => t_OB a (K.1.1.1 14) 0 (K.1.1.2 14) t.heap (vp_V [])) (xkA a sz)) 0 0 (xkA a sz) := by
  refine Met.ofW (cc := cJ17_init_2) (maxL := 2) (ret := none) (by decide) rfl ?_
  intro p e s m args below meth c s₁ B hml hv
  obtain ⟨rfl, hsz, hK0, hKa, hE, hKN, ⟨cX, kX, hfX, hkX, hcell⟩⟩ := hv
  subst hsz
  have hr := B.returns
  have hts := atoms_spec (ws := wsJ17_init_2) B.pre
  have hts : ∀ w ∈ lw_all, w.before _ s = true := fun w h => hts w (List.mem_cons_of_mem _ h)
  have hF : CallFix p m c cJ17_init_2 2 s ([.ref a, .ref q] : List Value).toArray lw_all RJ17 := ⟨B.exec, B.bytes, hml, findClass_of_methodNamed B.named, hts⟩
  have hlocks := B.notSynchronized
  have hl := lv_entry ([.ref a, .ref q]) (n := 2) (Nat.le_of_ble_eq_true rfl)
  rw [lg_entry_eq]
  generalize (lg_sl ([.ref a, .ref q]) ++ List.replicate (2 - (lg_sl ([.ref a, .ref q])).length) Slot.unset).toArray = ls at hl ⊢
  have hl : lv_has ls 2 [(0, .ref a), (1, .ref q)] := hl
  have hAN : ∀ z, xkA a s.heap.size z → aN K z := fun z hz => hz.elim (fun y => by rw [y]; exact hKa) (fun y => Nat.le_trans hK0 y)
  refine lv_aload_n hF.1 hF.2.1 dJ17_init_2_0 rfl (lv_at hl 0 rfl) ?_
  refine lv_aload_n hF.1 hF.2.1 dJ17_init_2_1 rfl (lv_at hl 1 rfl) ?_
  refine vx_up (own := RJ17) (cls := "java/lang/RuntimeException") (O := RJ17) (names := ["java/lang/Exception"]) (ic := 13) (nO := 6) (A := xkA a s.heap.size) hF.1 hF.2.1 hlt hF.2.2.2.1 (by decide +kernel) (by decide +kernel) (up_use hE.2.2.2.2.2.1 hts atUP_14) (hE.1.2.2.2.2.1.narrow hAN) (hE.1.2.2.2.2.2.narrow hAN) (by rw [hF.2.2.1]; exact hl.1) hfX hkX hcell (Or.inl rfl) rfl dJ17_init_2_2 (by decide) (by decide) (fun ce H1 locs1 g1 g2 g3 g4 g5 hS => ?_)
  have e1 : cX = K.1.1.1 14 := Option.some.inj (hfX.symm.trans (hKN.1 14 _ rfl).2.1)
  exact W.vret hF.1 hF.2.1 hr (fun t ht _ => ⟨⟨(), rfl, trivial, ⟨ce, by rw [ht]; exact g1, by rw [g2, e1], g3, fun k hk => absurd hk (Nat.not_lt_zero k)⟩⟩, hS.F ht⟩) hS.2.2 dJ17_init_2_5 hlocks
theorem metX4_initR (l : Launch) (hlt : l.stackTraces = false) (K : HK) (sz a : Nat) (k : Int32) : Met l yX4_init wsX4_init (rmh 4 55 0 0) (va_Pc [.ref a, .int k] (xkPre K sz RX4 a)) (va_Qv (S := Unit) (fun _ => True) (fun _ t => t_OB a (K.1.1.1 11) 1 (K.1.1.2 11) t.heap (vp_V [.int k])) (xkA a sz)) 0 0 (xkA a sz) := by
  refine Met.ofW (cc := cX4_init) (maxL := 2) (ret := none) (by decide) rfl ?_
  intro p e s m args below meth c s₁ B hml hv
  obtain ⟨rfl, hsz, hK0, hKa, hE, hKN, ⟨cX, kX, hfX, hkX, hcell⟩⟩ := hv
  subst hsz
  have hr := B.returns
  have hts := atoms_spec (ws := wsX4_init) B.pre
  have hts : ∀ w ∈ lw_all, w.before _ s = true := fun w h => hts w (List.mem_cons_of_mem _ h)
  have hF : CallFix p m c cX4_init 2 s ([.ref a, .int k] : List Value).toArray lw_all RX4 := ⟨B.exec, B.bytes, hml, findClass_of_methodNamed B.named, hts⟩
  have hlocks := B.notSynchronized
  have hin : meth.name = "<init>" := (name_of_methodNamed B.named B.method).1
  have hl := lv_entry ([.ref a, .int k]) (n := 2) (Nat.le_of_ble_eq_true rfl)
  rw [lg_entry_eq]
  generalize (lg_sl ([.ref a, .int k]) ++ List.replicate (2 - (lg_sl ([.ref a, .int k])).length) Slot.unset).toArray = ls at hl ⊢
  have hl : lv_has ls 2 [(0, .ref a), (1, .int k)] := hl
  have hAN : ∀ z, xkA a s.heap.size z → aN K z := fun z hz => hz.elim (fun y => by rw [y]; exact hKa) (fun y => Nat.le_trans hK0 y)
  refine lv_aload_n hF.1 hF.2.1 dX4_init_0 rfl (lv_at hl 0 rfl) ?_
  refine va_ldcS hF.1 hF.2.1 hF.2.2.2.1 hE.2.1.2.2.2.1 dX4_init_1 ?_
  refine vx_up (own := RX4) (cls := "java/lang/Exception") (O := RX4) (names := []) (ic := 3) (nO := 7) (A := xkA a s.heap.size) hF.1 hF.2.1 hlt hF.2.2.2.1 (by decide +kernel) (by decide +kernel) (up_use hE.2.2.2.2.2.1 hts atUP_11) (hE.1.2.2.2.2.1.narrow hAN) (hE.1.2.2.2.2.2.narrow hAN) (by rw [hF.2.2.1]; exact hl.1) hfX hkX hcell (Or.inl rfl) rfl dX4_init_3 (by decide) (by decide) (fun ce H1 locs1 g1 g2 g3 g4 g5 hS => ?_)
  have e1 : cX = K.1.1.1 11 := Option.some.inj (hfX.symm.trans (hKN.1 11 _ rfl).2.1)
  subst e1
  obtain ⟨cell0, z1, -, -, z4⟩ := u_born (fun _ => FieldType.int) hts in_X4r (hKN.1 11 _ rfl) hkX hcell tyX4r_ok
  rw [hcell] at z1
  cases z1
  have z5 := (Array.getElem?_eq_some_iff.mp (z4 0 (by decide))).1
  have z6 : (K.1.1.2 11 0) < ce.slots.size := by rw [g4]; simpa using z5
  have hP1 : va_P K.1.1 vcl [(a, .inr (11, [ce.slots[K.1.1.2 11 0]]))] H1 := fun k0 x hx => by
    have hz : k0 < 1 := (List.getElem?_eq_some_iff.mp hx).1
    rw [show k0 = 0 by omega] at hx
    cases hx
    refine ⟨_, rfl, ce, g1, g2, g3, fun k1 hk1 => ?_⟩
    have hk1 : k1 < 1 := hk1
    rw [show k1 = 0 by omega]
    exact Array.getElem?_eq_getElem z6
  have hD1 : va_D (xkA a s.heap.size) [(a, .inr (11, [ce.slots[K.1.1.2 11 0]]))] := by
    refine ⟨fun i j x y hi hj _ => ?_, fun k0 x hx => ?_⟩
    · have h1 : i < 1 := (List.getElem?_eq_some_iff.mp hi).1
      have h2 : j < 1 := (List.getElem?_eq_some_iff.mp hj).1
      omega
    · have hz : k0 < 1 := (List.getElem?_eq_some_iff.mp hx).1
      rw [show k0 = 0 by omega] at hx
      cases hx
      exact Or.inl rfl
  refine lv_aload_n hF.1 hF.2.1 dX4_init_6 rfl (lv_at hl 0 rfl) ?_
  refine lv_iload_n hF.1 hF.2.1 dX4_init_7 rfl (lv_at hl 1 rfl) ?_
  refine va_putF (T := TX4r) (C := RX4) (N := 1) (ci := 11) hF.1 hF.2.1 hts in_X4r (fun _ => .int) tyX4r_ok nmX4r hF.2.2.2.1 hKN hP1 hD1 hS 0 rfl rfl 0 (by decide) (hts _ q832) (fun _ z => z) rfl hin rfl (tyX4r_ok 0 (by decide)) rfl rfl (by show 0 < 1; decide) dX4_init_8 (fun H2 locs2 j1 j2 j3 => ?_)
  obtain ⟨r, y1, y2⟩ := j1 0 _ rfl
  cases y1
  exact W.vret hF.1 hF.2.1 hr (fun t ht _ => ⟨⟨(), rfl, trivial, by show t_OB a (K.1.1.1 11) 1 (K.1.1.2 11) t.heap (vp_V [.int k]); rw [ht]; exact y2⟩, j3.F ht⟩) j3.2.2 dX4_init_11 hlocks
section XMK2
variable {p : Program} {l : Launch} {e : Env} {R0 : Room} {s : State} {m : MethodId} {args : Array Value} {below : List Frame} {meth : Method} {c : Code} {H : Heap} {locs : List Loc} {cells slots : Nat} {Q : State → Prop}
variable {pc nL mc ms : Nat} {ls : Array Slot} {rest : List Value} {cc : ByteArray} {K : HK} {X0 X : hX}
theorem x_mk14 (hF : CallFix p m c cc nL s args lw_all RX1) (hls : ls.size = nL) (hlt : l.stackTraces = false) (hC : HC K X0 s) (hP : hI K X0 s.heap.size X H) (hS : va_S (hA X0 s.heap.size) s.heap H locs) {P : Nat → hX → Prop} (hw : newO X 14 [] 6 cells slots mc ms P) (hR : R0.cells = mc ∧ R0.slots = ms) (hfr : 6 ≤ R0.frames) (hlo : 89 ≤ R0.locals) (hrest : (rest.map fun v => v.category).sum ≤ 4) (d0 : decode cc pc = .ok (.new 150, 3)) (d3 : decode cc (pc + 3) = .ok (.dup, 1)) (d4 : decode cc (pc + 4) = .ok (.ldc 152, 2)) (d6 : decode cc (pc + 6) = .ok (.invokespecial 154, 3))
    (kk : ∀ (q : Nat) (X1 : hX) (H1 : Heap) (locs1 : List Loc), cells + 1 ≤ mc → slots + 6 ≤ ms → P q X1 → hCell H1 s "java/util/NoSuchElementException" q → hI K X0 s.heap.size X1 H1 → va_S (hA X0 s.heap.size) s.heap H1 locs1 → W p l e R0 s m args below meth c H1 locs1 (cells + 1) (slots + 6) Q (F0 m (pc + 9) ls (.ref q :: rest))) : W p l e R0 s m args below meth c H locs cells slots Q (F0 m pc ls rest) := by
  have hF' := hF
  obtain ⟨hx, hb, hml, hown, hts⟩ := hF
  obtain ⟨w1, w2, w3⟩ := hw
  obtain ⟨ws, h2, h3, -, h4⟩ := hP.all hC.1 hC.2.1
  have hKn := hC.2.2.2.1 14 _ rfl
  refine W.newcK hx hb hown (hts _ q1183) (hts _ q1031) (hts _ q101) rfl d0 (by rw [hR.1]; exact w1) (by rw [hR.2]; exact w2) hKn.2.1 rfl fun H1 kC hkC e1 z1 o1 => ?_
  refine W.eq (g2 := F0 m (pc + 3) ls (.ref H.size :: rest)) rfl ?_
  have hS1 : va_S (hA X0 s.heap.size) s.heap H1 locs := ⟨Nat.le_trans hS.1 (by omega), fun x g1 g2 => (o1 x (Nat.lt_of_lt_of_le g1 hS.1)).trans (hS.2.1 x g1 g2), hS.2.2⟩
  refine lv_dup hx hb d3 rfl ?_
  refine va_ldcS hx hb hown hC.2.2.1.2.1.2.2.1 d4 ?_
  refine va_callv (S := Unit) (A1 := xkA H.size H1.size) (pc := pc + 6) (rest := .ref H.size :: rest) (va_runI (As := [.ref (K.2.2 3)]) (b := H.size) (rest := .ref H.size :: rest) (H := H1) hF' (metJ17_init_2R l hlt K H1.size H.size (K.2.2 3)) (cwI 1 hts (lw_meth q1187) rfl rfl rfl (hts _ q101) (hts _ q1185) (hts _ q1186) rfl (by decide +kernel) ⟨hfr, hlo⟩)
    ⟨xkPre.blind, fun U hU hW => ⟨rfl, by rw [hU], Nat.le_trans hC.1 hS1.1, Nat.le_trans hC.1 hS.1, by rw [hU]; exact (hC.ev hS1).warm hW, KN.moved hW.alike hC.2.2.2, ?_⟩⟩ rfl rfl hls rfl (by show 2 * 0 + (1 + (rest.map fun v => v.category).sum) ≤ 8; omega) d6 ⟨by rw [hR.1]; exact w1, by rw [hR.2]; exact w2⟩) hS1 (fun q _ hq => Or.inr (hq.elim (fun y => by rw [y]; exact hS.1) (fun y => Nat.le_trans hS1.1 y))) (fun q hq => Or.inr (hq.elim (fun y => by rw [y]; exact hS.1) (fun y => Nat.le_trans hS1.1 y))) (fun u t H2 locs2 ht _ _ hB hz hk hS2 => ?_)
  · obtain ⟨k', hk', he⟩ := hW.alike.2.2 _ _ hkC
    refine ⟨_, k', by rw [hW.alike.findClass]; exact hKn.2.1, hk', ?_⟩
    rw [hU, e1, he]
    rfl
  · have hk9 : ∀ (k : Nat) (x : Nat × va_E), ws[k]? = some x → H2[x.1]? = H[x.1]? := fun k x hx => by
      have hlt := (h2 k x hx).lt
      rw [hk x.1 (by omega) (fun y => y.elim (fun z => by omega) (fun z => by omega)), o1 x.1 hlt]
    rw [ht] at hB
    obtain ⟨k1, k2⟩ := h4 H.size (.inr (14, [])) H2 (Nat.le_trans (hP.1.1) (by omega)) ((h2.kept hk9).app (fun k x hx => by
      have hz : k < 1 := (List.getElem?_eq_some_iff.mp hx).1
      rw [show k = 0 by omega] at hx
      cases hx
      exact ⟨_, rfl, hB⟩)) (h3.push h2 rfl (Or.inr hS.1))
    obtain ⟨ce, y1, y2, y3, -⟩ := hB
    exact kk H.size _ H2 locs2 w1 w2 (w3 H.size k1) ⟨ce, y1, y3, by rw [y2]; exact hKn.2.1⟩ k2 hS2
theorem x_mkR (hF : CallFix p m c cc nL s args lw_all RX1) (hls : ls.size = nL) (hlt : l.stackTraces = false) (hC : HC K X0 s) (hP : hI K X0 s.heap.size X H) (hS : va_S (hA X0 s.heap.size) s.heap H locs) {P : Nat → hX → Prop} {k : Int32} (hw : newO X 11 [.int k] 7 cells slots mc ms P) (hR : R0.cells = mc ∧ R0.slots = ms) (hfr : 5 ≤ R0.frames) (hlo : 76 ≤ R0.locals) (hrest : (rest.map fun v => v.category).sum ≤ 4) (hk : ls[1]? = some (.val (.int k))) (d0 : decode cc pc = .ok (.new 42, 3)) (d3 : decode cc (pc + 3) = .ok (.dup, 1)) (d4 : decode cc (pc + 4) = .ok (.iload_n 1, 1)) (d6 : decode cc (pc + 5) = .ok (.invokespecial 44, 3))
    (kk : ∀ (q : Nat) (X1 : hX) (H1 : Heap) (locs1 : List Loc), cells + 1 ≤ mc → slots + 7 ≤ ms → P q X1 → hCell H1 s "ClockworkOrreries$Refused" q → hI K X0 s.heap.size X1 H1 → va_S (hA X0 s.heap.size) s.heap H1 locs1 → W p l e R0 s m args below meth c H1 locs1 (cells + 1) (slots + 7) Q (F0 m (pc + 8) ls (.ref q :: rest))) : W p l e R0 s m args below meth c H locs cells slots Q (F0 m pc ls rest) := by
  have hF' := hF
  obtain ⟨hx, hb, hml, hown, hts⟩ := hF
  obtain ⟨w1, w2, w3⟩ := hw
  obtain ⟨ws, h2, h3, -, h4⟩ := hP.all hC.1 hC.2.1
  have hKn := hC.2.2.2.1 11 _ rfl
  refine W.newcK hx hb hown (hts _ q748) (hts _ q819) (hts _ q94) rfl d0 (by rw [hR.1]; exact w1) (by rw [hR.2]; exact w2) hKn.2.1 rfl fun H1 kC hkC e1 z1 o1 => ?_
  refine W.eq (g2 := F0 m (pc + 3) ls (.ref H.size :: rest)) rfl ?_
  have hS1 : va_S (hA X0 s.heap.size) s.heap H1 locs := ⟨Nat.le_trans hS.1 (by omega), fun x g1 g2 => (o1 x (Nat.lt_of_lt_of_le g1 hS.1)).trans (hS.2.1 x g1 g2), hS.2.2⟩
  refine lv_dup hx hb d3 rfl ?_
  refine lv_iload_n hx hb d4 rfl hk ?_
  refine va_callv (S := Unit) (A1 := xkA H.size H1.size) (pc := pc + 5) (rest := .ref H.size :: rest) (va_runI (As := [.int k]) (b := H.size) (rest := .ref H.size :: rest) (H := H1) hF' (metX4_initR l hlt K H1.size H.size k) (cwI 1 hts (lw_meth q829) rfl rfl rfl (hts _ q94) (hts _ q827) (hts _ q828) rfl (by decide +kernel) ⟨hfr, hlo⟩)
    ⟨xkPre.blind, fun U hU hW => ⟨rfl, by rw [hU], Nat.le_trans hC.1 hS1.1, Nat.le_trans hC.1 hS.1, by rw [hU]; exact (hC.ev hS1).warm hW, KN.moved hW.alike hC.2.2.2, ?_⟩⟩ rfl rfl hls rfl (by show 2 * 0 + (1 + (rest.map fun v => v.category).sum) ≤ 8; omega) d6 ⟨by rw [hR.1]; exact w1, by rw [hR.2]; exact w2⟩) hS1 (fun q _ hq => Or.inr (hq.elim (fun y => by rw [y]; exact hS.1) (fun y => Nat.le_trans hS1.1 y))) (fun q hq => Or.inr (hq.elim (fun y => by rw [y]; exact hS.1) (fun y => Nat.le_trans hS1.1 y))) (fun u t H2 locs2 ht _ _ hB hz hk hS2 => ?_)
  · obtain ⟨k', hk', he⟩ := hW.alike.2.2 _ _ hkC
    refine ⟨_, k', by rw [hW.alike.findClass]; exact hKn.2.1, hk', ?_⟩
    rw [hU, e1, he]
    rfl
  · have hk9 : ∀ (k : Nat) (x : Nat × va_E), ws[k]? = some x → H2[x.1]? = H[x.1]? := fun k x hx => by
      have hlt := (h2 k x hx).lt
      rw [hk x.1 (by omega) (fun y => y.elim (fun z => by omega) (fun z => by omega)), o1 x.1 hlt]
    rw [ht] at hB
    obtain ⟨k1, k2⟩ := h4 H.size (.inr (11, [.int k])) H2 (Nat.le_trans (hP.1.1) (by omega)) ((h2.kept hk9).app (fun k0 x hx => by
      have hz : k0 < 1 := (List.getElem?_eq_some_iff.mp hx).1
      rw [show k0 = 0 by omega] at hx
      cases hx
      exact ⟨_, rfl, hB⟩)) (h3.push h2 rfl (Or.inr hS.1))
    obtain ⟨ce, y1, y2, y3, -⟩ := hB
    exact kk H.size _ H2 locs2 w1 w2 (w3 H.size k1) ⟨ce, y1, y3, by rw [y2]; exact hKn.2.1⟩ k2 hS2
end XMK2

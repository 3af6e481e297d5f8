/-! the needs; Works: what may refuse, walked by program -/
set_option maxRecDepth 100000
def wpX1_need (post : hX → Prop) (xpost : String → Nat → hX → Prop) (E : Nat) (mc ms : Nat) (X : hX) (p0 : Int32) (p1 : Int32) : Prop := ((p0 = 0 → newO X 11 [.int p1] 7 0 0 mc ms (fun q_2 X_3 => xpost "ClockworkOrreries$Refused" q_2 X_3)) ∧ (¬ p0 = 0 → post X))
abbrev wsX1_need : List Cond := ws_ yX1_need cX1_need 2 none
set_option maxHeartbeats 8000000 in
theorem metX1_need (l : Launch) (hlt : l.stackTraces = false) (K : HK) (mc ms : Nat) (sz : Nat) (post : hX → Prop) (xpost : String → Nat → hX → Prop) (X0 : hX) (p0 : Int32) (p1 : Int32) : vx_Met l yX1_need wsX1_need (rmh 6 95 mc ms) (hPc K X0 sz [.int p0, .int p1] (wpX1_need post xpost (K.2.2 0) mc ms X0 p0 p1)) (hQv post K X0 sz) (hXC xpost K X0 sz) mc ms (hA X0 sz) := by
  refine vx_ofW (cc := cX1_need) (maxL := 2) (ret := none) (by decide) rfl ?_
  intro p e s m args below meth c s₁ B hml hno hv
  obtain ⟨rfl, hv⟩ := hv
  obtain ⟨hC, hP, hw⟩ := HC.of hv
  have hsz : s.heap.size = sz := hv.1
  subst hsz
  clear hv
  have hout : ∀ {pc : Nat}, ∀ x ∈ c.exceptionTable.toList, covers x pc = false := fun x hx => (hno x hx).elim
  have hr := B.returns
  have hts := atoms_spec (ws := wsX1_need) B.pre
  have hts : ∀ w ∈ lw_all, w.before _ s = true := fun w h => hts w (List.mem_cons_of_mem _ h)
  have hF : CallFix p m c cX1_need 2 s ([.int p0, .int p1] : List Value).toArray lw_all RX1 := ⟨B.exec, B.bytes, hml, findClass_of_methodNamed B.named, hts⟩
  have hlocks := B.notSynchronized
  have hl := lv_entry ([.int p0, .int p1]) (n := 2) (Nat.le_of_ble_eq_true rfl)
  rw [lg_entry_eq]
  generalize (lg_sl ([.int p0, .int p1]) ++ List.replicate (2 - (lg_sl ([.int p0, .int p1])).length) Slot.unset).toArray = ls at hl ⊢
  have hl : lv_has ls 2 [(0, .int p0), (1, .int p1)] := hl
  have hS : va_S (hA X0 s.heap.size) s.heap s.heap [] := va_S.rf
  unfold wpX1_need at hw
  show W p l e (rmh 6 95 mc ms) s m _ below meth c _ _ _ _ _ _
  refine lv_iload_n hF.1 hF.2.1 dX1_need_0 rfl (lv_at hl 0 rfl) ?_
  refine lv_if_ne (tgt := 13) hF.1 hF.2.1 dX1_need_1 (by decide) (fun c_1 => ?_) (fun c_1 => ?_)
  · have hw := hw.2 c_1
    exact vx_ret (h_vret hF hr hlocks hP hS ⟨Nat.zero_le _, Nat.zero_le _⟩ dX1_need_13 hw)
  · have hw := hw.1 c_1
    refine x_mkR hF hl.1 hlt hC hP hS hw ⟨rfl, rfl⟩ (Nat.le_of_ble_eq_true rfl) (Nat.le_of_ble_eq_true rfl) (Nat.le_of_ble_eq_true rfl) (lv_at hl 1 rfl) dX1_need_4 dX1_need_7 dX1_need_8 dX1_need_9 (fun q_2 X_3 H locs pk_4c pk_4s hw hcl hP hS => ?_)
    refine vx_athrow hF.1 hF.2.1 dX1_need_12 ?_
    exact h_out hout hlocks hcl hP hS ⟨pk_4c, pk_4s⟩ hw
def wpX1_needArgument (post : hX → Prop) (xpost : String → Nat → hX → Prop) (E : Nat) (mc ms : Nat) (X : hX) (p0 : Int32) : Prop := ((p0 = 0 → newO X 12 [] 6 0 0 mc ms (fun q_2 X_3 => xpost "java/lang/IllegalArgumentException" q_2 X_3)) ∧ (¬ p0 = 0 → post X))
abbrev wsX1_needArgument : List Cond := ws_ yX1_needArgument cX1_needArgument 1 none
set_option maxHeartbeats 8000000 in
theorem metX1_needArgument (l : Launch) (hlt : l.stackTraces = false) (K : HK) (mc ms : Nat) (sz : Nat) (post : hX → Prop) (xpost : String → Nat → hX → Prop) (X0 : hX) (p0 : Int32) : vx_Met l yX1_needArgument wsX1_needArgument (rmh 6 95 mc ms) (hPc K X0 sz [.int p0] (wpX1_needArgument post xpost (K.2.2 0) mc ms X0 p0)) (hQv post K X0 sz) (hXC xpost K X0 sz) mc ms (hA X0 sz) := by
  refine vx_ofW (cc := cX1_needArgument) (maxL := 1) (ret := none) (by decide) rfl ?_
  intro p e s m args below meth c s₁ B hml hno hv
  obtain ⟨rfl, hv⟩ := hv
  obtain ⟨hC, hP, hw⟩ := HC.of hv
  have hsz : s.heap.size = sz := hv.1
  subst hsz
  clear hv
  have hout : ∀ {pc : Nat}, ∀ x ∈ c.exceptionTable.toList, covers x pc = false := fun x hx => (hno x hx).elim
  have hr := B.returns
  have hts := atoms_spec (ws := wsX1_needArgument) B.pre
  have hts : ∀ w ∈ lw_all, w.before _ s = true := fun w h => hts w (List.mem_cons_of_mem _ h)
  have hF : CallFix p m c cX1_needArgument 1 s ([.int p0] : List Value).toArray lw_all RX1 := ⟨B.exec, B.bytes, hml, findClass_of_methodNamed B.named, hts⟩
  have hlocks := B.notSynchronized
  have hl := lv_entry ([.int p0]) (n := 1) (Nat.le_of_ble_eq_true rfl)
  rw [lg_entry_eq]
  generalize (lg_sl ([.int p0]) ++ List.replicate (1 - (lg_sl ([.int p0])).length) Slot.unset).toArray = ls at hl ⊢
  have hl : lv_has ls 1 [(0, .int p0)] := hl
  have hS : va_S (hA X0 s.heap.size) s.heap s.heap [] := va_S.rf
  unfold wpX1_needArgument at hw
  show W p l e (rmh 6 95 mc ms) s m _ below meth c _ _ _ _ _ _
  refine lv_iload_n hF.1 hF.2.1 dX1_needArgument_0 rfl (lv_at hl 0 rfl) ?_
  refine lv_if_ne (tgt := 14) hF.1 hF.2.1 dX1_needArgument_1 (by decide) (fun c_1 => ?_) (fun c_1 => ?_)
  · have hw := hw.2 c_1
    exact vx_ret (h_vret hF hr hlocks hP hS ⟨Nat.zero_le _, Nat.zero_le _⟩ dX1_needArgument_14 hw)
  · have hw := hw.1 c_1
    refine x_mk12 hF hl.1 hlt hC hP hS hw ⟨rfl, rfl⟩ (Nat.le_of_ble_eq_true rfl) (Nat.le_of_ble_eq_true rfl) dX1_needArgument_4 dX1_needArgument_7 dX1_needArgument_8 dX1_needArgument_10 (fun q_2 X_3 H pk_4c pk_4s hw hcl hP hS => ?_)
    refine vx_athrow hF.1 hF.2.1 dX1_needArgument_13 ?_
    exact h_out hout hlocks hcl hP hS ⟨pk_4c, pk_4s⟩ hw
def wpX1_needSuch (post : hX → Prop) (xpost : String → Nat → hX → Prop) (E : Nat) (mc ms : Nat) (X : hX) (p0 : Int32) : Prop := ((p0 = 0 → newO X 14 [] 6 0 0 mc ms (fun q_2 X_3 => xpost "java/util/NoSuchElementException" q_2 X_3)) ∧ (¬ p0 = 0 → post X))
abbrev wsX1_needSuch : List Cond := ws_ yX1_needSuch cX1_needSuch 1 none
set_option maxHeartbeats 8000000 in
theorem metX1_needSuch (l : Launch) (hlt : l.stackTraces = false) (K : HK) (mc ms : Nat) (sz : Nat) (post : hX → Prop) (xpost : String → Nat → hX → Prop) (X0 : hX) (p0 : Int32) : vx_Met l yX1_needSuch wsX1_needSuch (rmh 6 95 mc ms) (hPc K X0 sz [.int p0] (wpX1_needSuch post xpost (K.2.2 0) mc ms X0 p0)) (hQv post K X0 sz) (hXC xpost K X0 sz) mc ms (hA X0 sz) := by
  refine vx_ofW (cc := cX1_needSuch) (maxL := 1) (ret := none) (by decide) rfl ?_
  intro p e s m args below meth c s₁ B hml hno hv
  obtain ⟨rfl, hv⟩ := hv
  obtain ⟨hC, hP, hw⟩ := HC.of hv
  have hsz : s.heap.size = sz := hv.1
  subst hsz
  clear hv
  have hout : ∀ {pc : Nat}, ∀ x ∈ c.exceptionTable.toList, covers x pc = false := fun x hx => (hno x hx).elim
  have hr := B.returns
  have hts := atoms_spec (ws := wsX1_needSuch) B.pre
  have hts : ∀ w ∈ lw_all, w.before _ s = true := fun w h => hts w (List.mem_cons_of_mem _ h)
  have hF : CallFix p m c cX1_needSuch 1 s ([.int p0] : List Value).toArray lw_all RX1 := ⟨B.exec, B.bytes, hml, findClass_of_methodNamed B.named, hts⟩
  have hlocks := B.notSynchronized
  have hl := lv_entry ([.int p0]) (n := 1) (Nat.le_of_ble_eq_true rfl)
  rw [lg_entry_eq]
  generalize (lg_sl ([.int p0]) ++ List.replicate (1 - (lg_sl ([.int p0])).length) Slot.unset).toArray = ls at hl ⊢
  have hl : lv_has ls 1 [(0, .int p0)] := hl
  have hS : va_S (hA X0 s.heap.size) s.heap s.heap [] := va_S.rf
  unfold wpX1_needSuch at hw
  show W p l e (rmh 6 95 mc ms) s m _ below meth c _ _ _ _ _ _
  refine lv_iload_n hF.1 hF.2.1 dX1_needSuch_0 rfl (lv_at hl 0 rfl) ?_
  refine lv_if_ne (tgt := 14) hF.1 hF.2.1 dX1_needSuch_1 (by decide) (fun c_1 => ?_) (fun c_1 => ?_)
  · have hw := hw.2 c_1
    exact vx_ret (h_vret hF hr hlocks hP hS ⟨Nat.zero_le _, Nat.zero_le _⟩ dX1_needSuch_14 hw)
  · have hw := hw.1 c_1
    refine x_mk14 hF hl.1 hlt hC hP hS hw ⟨rfl, rfl⟩ (Nat.le_of_ble_eq_true rfl) (Nat.le_of_ble_eq_true rfl) (Nat.le_of_ble_eq_true rfl) dX1_needSuch_4 dX1_needSuch_7 dX1_needSuch_8 dX1_needSuch_10 (fun q_2 X_3 H locs pk_4c pk_4s hw hcl hP hS => ?_)
    refine vx_athrow hF.1 hF.2.1 dX1_needSuch_13 ?_
    exact h_out hout hlocks hcl hP hS ⟨pk_4c, pk_4s⟩ hw
def wpX1_needState (post : hX → Prop) (xpost : String → Nat → hX → Prop) (E : Nat) (mc ms : Nat) (X : hX) (p0 : Int32) : Prop := ((p0 = 0 → newO X 13 [] 6 0 0 mc ms (fun q_2 X_3 => xpost "java/lang/IllegalStateException" q_2 X_3)) ∧ (¬ p0 = 0 → post X))
abbrev wsX1_needState : List Cond := ws_ yX1_needState cX1_needState 1 none
set_option maxHeartbeats 8000000 in
theorem metX1_needState (l : Launch) (hlt : l.stackTraces = false) (K : HK) (mc ms : Nat) (sz : Nat) (post : hX → Prop) (xpost : String → Nat → hX → Prop) (X0 : hX) (p0 : Int32) : vx_Met l yX1_needState wsX1_needState (rmh 6 95 mc ms) (hPc K X0 sz [.int p0] (wpX1_needState post xpost (K.2.2 0) mc ms X0 p0)) (hQv post K X0 sz) (hXC xpost K X0 sz) mc ms (hA X0 sz) := by
  refine vx_ofW (cc := cX1_needState) (maxL := 1) (ret := none) (by decide) rfl ?_
  intro p e s m args below meth c s₁ B hml hno hv
  obtain ⟨rfl, hv⟩ := hv
  obtain ⟨hC, hP, hw⟩ := HC.of hv
  have hsz : s.heap.size = sz := hv.1
  subst hsz
  clear hv
  have hout : ∀ {pc : Nat}, ∀ x ∈ c.exceptionTable.toList, covers x pc = false := fun x hx => (hno x hx).elim
  have hr := B.returns
  have hts := atoms_spec (ws := wsX1_needState) B.pre
  have hts : ∀ w ∈ lw_all, w.before _ s = true := fun w h => hts w (List.mem_cons_of_mem _ h)
  have hF : CallFix p m c cX1_needState 1 s ([.int p0] : List Value).toArray lw_all RX1 := ⟨B.exec, B.bytes, hml, findClass_of_methodNamed B.named, hts⟩
  have hlocks := B.notSynchronized
  have hl := lv_entry ([.int p0]) (n := 1) (Nat.le_of_ble_eq_true rfl)
  rw [lg_entry_eq]
  generalize (lg_sl ([.int p0]) ++ List.replicate (1 - (lg_sl ([.int p0])).length) Slot.unset).toArray = ls at hl ⊢
  have hl : lv_has ls 1 [(0, .int p0)] := hl
  have hS : va_S (hA X0 s.heap.size) s.heap s.heap [] := va_S.rf
  unfold wpX1_needState at hw
  show W p l e (rmh 6 95 mc ms) s m _ below meth c _ _ _ _ _ _
  refine lv_iload_n hF.1 hF.2.1 dX1_needState_0 rfl (lv_at hl 0 rfl) ?_
  refine lv_if_ne (tgt := 14) hF.1 hF.2.1 dX1_needState_1 (by decide) (fun c_1 => ?_) (fun c_1 => ?_)
  · have hw := hw.2 c_1
    exact vx_ret (h_vret hF hr hlocks hP hS ⟨Nat.zero_le _, Nat.zero_le _⟩ dX1_needState_14 hw)
  · have hw := hw.1 c_1
    refine x_mk13 hF hl.1 hlt hC hP hS hw ⟨rfl, rfl⟩ (Nat.le_of_ble_eq_true rfl) (Nat.le_of_ble_eq_true rfl) dX1_needState_4 dX1_needState_7 dX1_needState_8 dX1_needState_10 (fun q_2 X_3 H pk_4c pk_4s hw hcl hP hS => ?_)
    refine vx_athrow hF.1 hF.2.1 dX1_needState_13 ?_
    exact h_out hout hlocks hcl hP hS ⟨pk_4c, pk_4s⟩ hw
def wpX2_getsAxle_14 (post : Int32 → hX → Prop) (xpost : String → Nat → hX → Prop) (E : Nat) (mc ms : Nat) (x0 : Nat) (z0 : Int32) (X : hX) (kc ks : Nat) : Prop := (∃ mc_2 ms_3 : Nat, kc + mc_2 ≤ mc ∧ ks + ms_3 ≤ ms ∧ wpX1_need (fun X_1 => gfI X_1 x0 2 5 (fun v_7 => pfV X_1 x0 2 5 (.int (v_7 + 1)) (fun X_13 => gfI X_13 x0 2 5 (fun v_15 => post (v_15 - 1) X_13)))) xpost E mc_2 ms_3 X z0 2)
def wpX2_getsAxle (post : Int32 → hX → Prop) (xpost : String → Nat → hX → Prop) (E : Nat) (mc ms : Nat) (X : hX) (p0 : Nat) : Prop := gfI X p0 2 5 (fun v_19 => ((12 ≤ v_19 → wpX2_getsAxle_14 post xpost E mc ms p0 0 X 0 0) ∧ (¬ 12 ≤ v_19 → wpX2_getsAxle_14 post xpost E mc ms p0 1 X 0 0)))
abbrev wsX2_getsAxle : List Cond := ws_ yX2_getsAxle cX2_getsAxle 1 (some .int)
set_option maxHeartbeats 8000000 in
theorem metX2_getsAxle (l : Launch) (hlt : l.stackTraces = false) (K : HK) (mc ms : Nat) (sz : Nat) (post : Int32 → hX → Prop) (xpost : String → Nat → hX → Prop) (X0 : hX) (p0 : Nat) : vx_Met l yX2_getsAxle wsX2_getsAxle (rmh 7 116 mc ms) (hPc K X0 sz [.ref p0] (wpX2_getsAxle post xpost (K.2.2 0) mc ms X0 p0)) (hQi post K X0 sz) (hXC xpost K X0 sz) mc ms (hA X0 sz) := by
  refine vx_ofW (cc := cX2_getsAxle) (maxL := 1) (ret := (some .int)) (by decide) rfl ?_
  intro p e s m args below meth c s₁ B hml hno hv
  obtain ⟨rfl, hv⟩ := hv
  obtain ⟨hC, hP, hw⟩ := HC.of hv
  have hsz : s.heap.size = sz := hv.1
  subst hsz
  clear hv
  have hout : ∀ {pc : Nat}, ∀ x ∈ c.exceptionTable.toList, covers x pc = false := fun x hx => (hno x hx).elim
  have hr := B.returns
  have hts := atoms_spec (ws := wsX2_getsAxle) B.pre
  have hts : ∀ w ∈ lw_all, w.before _ s = true := fun w h => hts w (List.mem_cons_of_mem _ h)
  have hF : CallFix p m c cX2_getsAxle 1 s ([.ref p0] : List Value).toArray lw_all RX2 := ⟨B.exec, B.bytes, hml, findClass_of_methodNamed B.named, hts⟩
  have hlocks := B.notSynchronized
  have hl := lv_entry ([.ref p0]) (n := 1) (Nat.le_of_ble_eq_true rfl)
  rw [lg_entry_eq]
  generalize (lg_sl ([.ref p0]) ++ List.replicate (1 - (lg_sl ([.ref p0])).length) Slot.unset).toArray = ls at hl ⊢
  have hl : lv_has ls 1 [(0, .ref p0)] := hl
  have hS : va_S (hA X0 s.heap.size) s.heap s.heap [] := va_S.rf
  have T14 : ∀ (x0 : Nat) (z0 : Int32) (X : hX) (kc ks : Nat) (H : Heap) (locs : List Loc) (ls : Array Slot), hI K X0 s.heap.size X H → va_S (hA X0 s.heap.size) s.heap H locs → kc ≤ mc ∧ ks ≤ ms → lv_has ls 1 [(0, .ref x0)] → wpX2_getsAxle_14 post xpost (K.2.2 0) mc ms x0 z0 X kc ks → W p l e (rmh 7 116 mc ms) s m ([.ref p0] : List Value).toArray below meth c H locs kc ks (vx_MQ below (hQi post K X0 s.heap.size) (hXC xpost K X0 s.heap.size) ([.ref p0] : List Value).toArray s mc ms (hA X0 s.heap.size)) (F0 m 14 ls [.int z0]) := by
    intro x0 z0 X kc ks H locs ls hP hS hk hl hw
    unfold wpX2_getsAxle_14 at hw
    refine lv_iconst (v := 2) hF.1 hF.2.1 dX2_getsAxle_14 (by decide) ?_
    obtain ⟨mc_2, ms_3, hc_4, hs_5, hw⟩ := hw
    refine hkx_v (hrx_SN (As := [.int z0, .int 2]) (rest := []) hF hl.1 hC hP hS (metX1_need l hlt K mc_2 ms_3 _ _ _ X z0 2) (va_cnB 2 hF.2.2.2.2 (lw_meth q818) rfl rfl rfl (hC.2.2.1.2.2.2.2.2.1 _ q816 rfl) (hF.2.2.2.2 _ q75) (by decide +kernel) ⟨Nat.le_of_ble_eq_true rfl, Nat.le_of_ble_eq_true rfl⟩) q817 hw rfl rfl (Nat.le_of_ble_eq_true rfl) dX2_getsAxle_15 ⟨hc_4, hs_5⟩) hP hS (fun E9 q9 X9 H locs hw hcl hP hS => ?_) (fun X_1 H locs hw hP hS => ?_)
    · exact h_out hout hlocks hcl hP hS ⟨hc_4, hs_5⟩ hw
    refine lv_aload_n hF.1 hF.2.1 dX2_getsAxle_18 rfl (lv_at hl 0 rfl) ?_
    refine lv_dup hF.1 hF.2.1 dX2_getsAxle_19 rfl ?_
    obtain ⟨fs_6, v_7, hx_8, hv_9, hw⟩ := hw
    refine x_get hF hC hP in_X2 rfl 5 (by decide) q163 (fun _ z => z) hx_8 hv_9 dX2_getsAxle_20 ?_
    refine lv_iconst (v := 1) hF.1 hF.2.1 dX2_getsAxle_23 (by decide) ?_
    refine lv_iadd hF.1 hF.2.1 dX2_getsAxle_24 ?_
    obtain ⟨fs_10, hx_11, hl_12, hw⟩ := hw
    refine x_put hF hC hP hS in_X2 rfl tyX2 tyX2_ok nmX2 5 (by decide) q163 (fun _ z => z) rfl rfl rfl hx_11 hl_12 dX2_getsAxle_25 (fun H locs hP hS => ?_)
    generalize hup X_1 x0 (.inr (2, fs_10.set 5 (.int (v_7 + 1)))) = X_13 at hP hw
    refine lv_aload_n hF.1 hF.2.1 dX2_getsAxle_28 rfl (lv_at hl 0 rfl) ?_
    obtain ⟨fs_14, v_15, hx_16, hv_17, hw⟩ := hw
    refine x_get hF hC hP in_X2 rfl 5 (by decide) q163 (fun _ z => z) hx_16 hv_17 dX2_getsAxle_29 ?_
    refine lv_iconst (v := 1) hF.1 hF.2.1 dX2_getsAxle_32 (by decide) ?_
    refine lv_isub hF.1 hF.2.1 dX2_getsAxle_33 ?_
    exact vx_ret (h_iret hF hr hlocks hP hS ⟨hc_4, hs_5⟩ dX2_getsAxle_34 hw)
  unfold wpX2_getsAxle at hw
  show W p l e (rmh 7 116 mc ms) s m _ below meth c _ _ _ _ _ _
  refine lv_aload_n hF.1 hF.2.1 dX2_getsAxle_0 rfl (lv_at hl 0 rfl) ?_
  obtain ⟨fs_18, v_19, hx_20, hv_21, hw⟩ := hw
  refine x_get hF hC hP in_X2 rfl 5 (by decide) q163 (fun _ z => z) hx_20 hv_21 dX2_getsAxle_1 ?_
  refine lv_bipush (v := 12) hF.1 hF.2.1 dX2_getsAxle_4 (by decide) ?_
  refine lv_icmp_ge (tgt := 13) hF.1 hF.2.1 dX2_getsAxle_6 (by decide) (fun c_22 => ?_) (fun c_22 => ?_)
  · have hw := hw.1 c_22
    refine lv_iconst (v := 0) hF.1 hF.2.1 dX2_getsAxle_13 (by decide) ?_
    exact T14 p0 0 X0 0 0 _ _ ls hP hS ⟨Nat.zero_le _, Nat.zero_le _⟩ (lv_sub hl [0] rfl) hw
  · have hw := hw.2 c_22
    refine lv_iconst (v := 1) hF.1 hF.2.1 dX2_getsAxle_9 (by decide) ?_
    refine lv_goto (tgt := 14) hF.1 hF.2.1 dX2_getsAxle_10 (by decide) ?_
    exact T14 p0 1 X0 0 0 _ _ ls hP hS ⟨Nat.zero_le _, Nat.zero_le _⟩ (lv_sub hl [0] rfl) hw
def wpX2_getsWheel_48 (post : Int32 → hX → Prop) (xpost : String → Nat → hX → Prop) (E : Nat) (mc ms : Nat) (x0 : Nat) (x1 : Int32) (x2 : Int32) (z0 : Int32) (X : hX) (kc ks : Nat) : Prop := (∃ mc_2 ms_3 : Nat, kc + mc_2 ≤ mc ∧ ks + ms_3 ≤ ms ∧ wpX1_need (fun X_1 => gfA X_1 x0 2 0 (fun v_7 => newO X_1 5 [.int 0, .int 0] 2 (kc + mc_2) (ks + ms_3) mc ms (fun a_10 X_11 => wpX5_init (fun X_13 => isO X_13 v_7 8 ((∃ mc_17 ms_18 : Nat, ((kc + mc_2) + 1) + mc_17 ≤ mc ∧ ((ks + ms_3) + 2) + ms_18 ≤ ms ∧ wpJ2_add (fun r_14 X_15 => gfA X_15 x0 2 0 (fun v_22 => isO X_15 v_22 8 (wpJ2_size (fun r_25 X_26 => post (r_25 - 1) X_26) E X_15 v_22))) E mc_17 ms_18 X_13 v_7 a_10))) E X_11 a_10 x1 x2))) xpost E mc_2 ms_3 X z0 2)
def wpX2_getsWheel_27 (post : Int32 → hX → Prop) (xpost : String → Nat → hX → Prop) (E : Nat) (mc ms : Nat) (x0 : Nat) (x1 : Int32) (x2 : Int32) (z0 : Int32) (X : hX) (kc ks : Nat) : Prop := (∃ mc_29 ms_30 : Nat, kc + mc_29 ≤ mc ∧ ks + ms_30 ≤ ms ∧ wpX1_need (fun X_28 => gfA X_28 x0 2 0 (fun v_34 => isO X_28 v_34 8 (wpJ2_size (fun r_37 X_38 => ((24 ≤ r_37 → wpX2_getsWheel_48 post xpost E mc ms x0 x1 x2 0 X_38 (kc + mc_29) (ks + ms_30)) ∧ (¬ 24 ≤ r_37 → wpX2_getsWheel_48 post xpost E mc ms x0 x1 x2 1 X_38 (kc + mc_29) (ks + ms_30)))) E X_28 v_34))) xpost E mc_29 ms_30 X z0 1)
def wpX2_getsWheel_26 (post : Int32 → hX → Prop) (xpost : String → Nat → hX → Prop) (E : Nat) (mc ms : Nat) (x0 : Nat) (x1 : Int32) (x2 : Int32) (X : hX) (kc ks : Nat) : Prop := wpX2_getsWheel_27 post xpost E mc ms x0 x1 x2 0 X kc ks
def wpX2_getsWheel (post : Int32 → hX → Prop) (xpost : String → Nat → hX → Prop) (E : Nat) (mc ms : Nat) (X : hX) (p0 : Nat) (p1 : Int32) (p2 : Int32) : Prop := isO X p0 2 (wpX2_isAxle (fun r_41 X_42 => ((r_41 = 0 → wpX2_getsWheel_26 post xpost E mc ms p0 p1 p2 X_42 0 0) ∧ (¬ r_41 = 0 → wpX1_isBetween (fun r_45 => ((r_45 = 0 → wpX2_getsWheel_26 post xpost E mc ms p0 p1 p2 X_42 0 0) ∧ (¬ r_45 = 0 → wpX2_getsWheel_27 post xpost E mc ms p0 p1 p2 1 X_42 0 0))) (Int32.toInt64 p2) 8 120))) E X p0 p1)
abbrev wsX2_getsWheel : List Cond := ws_ yX2_getsWheel cX2_getsWheel 3 (some .int)
set_option maxHeartbeats 8000000 in
theorem metX2_getsWheel (l : Launch) (hlt : l.stackTraces = false) (K : HK) (mc ms : Nat) (sz : Nat) (post : Int32 → hX → Prop) (xpost : String → Nat → hX → Prop) (X0 : hX) (p0 : Nat) (p1 : Int32) (p2 : Int32) : vx_Met l yX2_getsWheel wsX2_getsWheel (rmh 7 191 mc ms) (hPc K X0 sz [.ref p0, .int p1, .int p2] (wpX2_getsWheel post xpost (K.2.2 0) mc ms X0 p0 p1 p2)) (hQi post K X0 sz) (hXC xpost K X0 sz) mc ms (hA X0 sz) := by
  refine vx_ofW (cc := cX2_getsWheel) (maxL := 3) (ret := (some .int)) (by decide) rfl ?_
  intro p e s m args below meth c s₁ B hml hno hv
  obtain ⟨rfl, hv⟩ := hv
  obtain ⟨hC, hP, hw⟩ := HC.of hv
  have hsz : s.heap.size = sz := hv.1
  subst hsz
  clear hv
  have hout : ∀ {pc : Nat}, ∀ x ∈ c.exceptionTable.toList, covers x pc = false := fun x hx => (hno x hx).elim
  have hr := B.returns
  have hts := atoms_spec (ws := wsX2_getsWheel) B.pre
  have hts : ∀ w ∈ lw_all, w.before _ s = true := fun w h => hts w (List.mem_cons_of_mem _ h)
  have hF : CallFix p m c cX2_getsWheel 3 s ([.ref p0, .int p1, .int p2] : List Value).toArray lw_all RX2 := ⟨B.exec, B.bytes, hml, findClass_of_methodNamed B.named, hts⟩
  have hlocks := B.notSynchronized
  have hl := lv_entry ([.ref p0, .int p1, .int p2]) (n := 3) (Nat.le_of_ble_eq_true rfl)
  rw [lg_entry_eq]
  generalize (lg_sl ([.ref p0, .int p1, .int p2]) ++ List.replicate (3 - (lg_sl ([.ref p0, .int p1, .int p2])).length) Slot.unset).toArray = ls at hl ⊢
  have hl : lv_has ls 3 [(0, .ref p0), (1, .int p1), (2, .int p2)] := hl
  have hS : va_S (hA X0 s.heap.size) s.heap s.heap [] := va_S.rf
  have T48 : ∀ (x0 : Nat) (x1 : Int32) (x2 : Int32) (z0 : Int32) (X : hX) (kc ks : Nat) (H : Heap) (locs : List Loc) (ls : Array Slot), hI K X0 s.heap.size X H → va_S (hA X0 s.heap.size) s.heap H locs → kc ≤ mc ∧ ks ≤ ms → lv_has ls 3 [(0, .ref x0), (1, .int x1), (2, .int x2)] → wpX2_getsWheel_48 post xpost (K.2.2 0) mc ms x0 x1 x2 z0 X kc ks → W p l e (rmh 7 191 mc ms) s m ([.ref p0, .int p1, .int p2] : List Value).toArray below meth c H locs kc ks (vx_MQ below (hQi post K X0 s.heap.size) (hXC xpost K X0 s.heap.size) ([.ref p0, .int p1, .int p2] : List Value).toArray s mc ms (hA X0 s.heap.size)) (F0 m 48 ls [.int z0]) := by
    intro x0 x1 x2 z0 X kc ks H locs ls hP hS hk hl hw
    unfold wpX2_getsWheel_48 at hw
    refine lv_iconst (v := 2) hF.1 hF.2.1 dX2_getsWheel_48 (by decide) ?_
    obtain ⟨mc_2, ms_3, hc_4, hs_5, hw⟩ := hw
    refine hkx_v (hrx_SN (As := [.int z0, .int 2]) (rest := []) hF hl.1 hC hP hS (metX1_need l hlt K mc_2 ms_3 _ _ _ X z0 2) (va_cnB 2 hF.2.2.2.2 (lw_meth q818) rfl rfl rfl (hC.2.2.1.2.2.2.2.2.1 _ q816 rfl) (hF.2.2.2.2 _ q75) (by decide +kernel) ⟨Nat.le_of_ble_eq_true rfl, Nat.le_of_ble_eq_true rfl⟩) q817 hw rfl rfl (Nat.le_of_ble_eq_true rfl) dX2_getsWheel_49 ⟨hc_4, hs_5⟩) hP hS (fun E9 q9 X9 H locs hw hcl hP hS => ?_) (fun X_1 H locs hw hP hS => ?_)
    · exact h_out hout hlocks hcl hP hS ⟨hc_4, hs_5⟩ hw
    refine lv_aload_n hF.1 hF.2.1 dX2_getsWheel_52 rfl (lv_at hl 0 rfl) ?_
    obtain ⟨fs_6, v_7, hx_8, hv_9, hw⟩ := hw
    refine x_get hF hC hP in_X2 rfl 0 (by decide) q150 (fun _ z => z) hx_8 hv_9 dX2_getsWheel_53 ?_
    refine x_new hF hC hP hS in_X5 rfl tyX5 tyX5_ok q759 q852 q95 (nfsX5) hw ⟨rfl, rfl⟩ dX2_getsWheel_56 (fun a_10 X_11 H pk_12c pk_12s hw hP hS => ?_)
    refine lv_dup hF.1 hF.2.1 dX2_getsWheel_59 rfl ?_
    refine lv_iload_n hF.1 hF.2.1 dX2_getsWheel_60 rfl (lv_at hl 1 rfl) ?_
    refine lv_iload_n hF.1 hF.2.1 dX2_getsWheel_61 rfl (lv_at hl 2 rfl) ?_
    refine hk_v (hr_I (As := [.int x1, .int x2]) (rest := [.ref a_10, .ref v_7]) hF hl.1 hC hP hS (metX5_init l K _ _ X_11 a_10 x1 x2) (cwI 2 hF.2.2.2.2 (lw_meth q855) rfl rfl rfl (hF.2.2.2.2 _ q95) (hF.2.2.2.2 _ q853) (hF.2.2.2.2 _ q854) rfl (by decide +kernel) ⟨Nat.le_of_ble_eq_true rfl, Nat.le_of_ble_eq_true rfl⟩) hw rfl rfl (Nat.le_of_ble_eq_true rfl) dX2_getsWheel_62 ⟨pk_12c, pk_12s⟩) hP hS (fun X_13 H locs hw hP hS => ?_)
    obtain ⟨ho_16, hw⟩ := hw
    obtain ⟨mc_17, ms_18, hc_19, hs_20, hw⟩ := hw
    refine hk_i (hr_V (As := [.ref a_10]) (rest := []) (T := TJ2) (N := 3) (ci := 8) hF hl.1 hC hP hS (metJ2_add l K mc_17 ms_18 _ _ X_13 v_7 a_10) rfl (cwV 1 hF.2.2.2.2 (lw_V q760 q761 q762 q79 q763) rfl rfl rfl (by decide +kernel) ⟨Nat.le_of_ble_eq_true rfl, Nat.le_of_ble_eq_true rfl⟩) ho_16 hw rfl rfl (Nat.le_of_ble_eq_true rfl) dX2_getsWheel_65 ⟨hc_19, hs_20⟩) hP hS (fun r_14 X_15 H locs hw hP hS => ?_)
    refine lv_pop hF.1 hF.2.1 dX2_getsWheel_68 rfl ?_
    refine lv_aload_n hF.1 hF.2.1 dX2_getsWheel_69 rfl (lv_at hl 0 rfl) ?_
    obtain ⟨fs_21, v_22, hx_23, hv_24, hw⟩ := hw
    refine x_get hF hC hP in_X2 rfl 0 (by decide) q150 (fun _ z => z) hx_23 hv_24 dX2_getsWheel_70 ?_
    obtain ⟨ho_27, hw⟩ := hw
    refine hk_i (hr_V (As := []) (rest := []) (T := TJ2) (N := 3) (ci := 8) hF hl.1 hC hP hS (metJ2_size l K _ _ X_15 v_22) rfl (cwV 0 hF.2.2.2.2 (lw_V q757 q267 q268 q79 q269) rfl rfl rfl (by decide +kernel) ⟨Nat.le_of_ble_eq_true rfl, Nat.le_of_ble_eq_true rfl⟩) ho_27 hw rfl rfl (Nat.le_of_ble_eq_true rfl) dX2_getsWheel_73 ⟨hc_19, hs_20⟩) hP hS (fun r_25 X_26 H locs hw hP hS => ?_)
    refine lv_iconst (v := 1) hF.1 hF.2.1 dX2_getsWheel_76 (by decide) ?_
    refine lv_isub hF.1 hF.2.1 dX2_getsWheel_77 ?_
    exact vx_ret (h_iret hF hr hlocks hP hS ⟨hc_19, hs_20⟩ dX2_getsWheel_78 hw)
  have T27 : ∀ (x0 : Nat) (x1 : Int32) (x2 : Int32) (z0 : Int32) (X : hX) (kc ks : Nat) (H : Heap) (locs : List Loc) (ls : Array Slot), hI K X0 s.heap.size X H → va_S (hA X0 s.heap.size) s.heap H locs → kc ≤ mc ∧ ks ≤ ms → lv_has ls 3 [(0, .ref x0), (1, .int x1), (2, .int x2)] → wpX2_getsWheel_27 post xpost (K.2.2 0) mc ms x0 x1 x2 z0 X kc ks → W p l e (rmh 7 191 mc ms) s m ([.ref p0, .int p1, .int p2] : List Value).toArray below meth c H locs kc ks (vx_MQ below (hQi post K X0 s.heap.size) (hXC xpost K X0 s.heap.size) ([.ref p0, .int p1, .int p2] : List Value).toArray s mc ms (hA X0 s.heap.size)) (F0 m 27 ls [.int z0]) := by
    intro x0 x1 x2 z0 X kc ks H locs ls hP hS hk hl hw
    unfold wpX2_getsWheel_27 at hw
    refine lv_iconst (v := 1) hF.1 hF.2.1 dX2_getsWheel_27 (by decide) ?_
    obtain ⟨mc_29, ms_30, hc_31, hs_32, hw⟩ := hw
    refine hkx_v (hrx_SN (As := [.int z0, .int 1]) (rest := []) hF hl.1 hC hP hS (metX1_need l hlt K mc_29 ms_30 _ _ _ X z0 1) (va_cnB 2 hF.2.2.2.2 (lw_meth q818) rfl rfl rfl (hC.2.2.1.2.2.2.2.2.1 _ q816 rfl) (hF.2.2.2.2 _ q75) (by decide +kernel) ⟨Nat.le_of_ble_eq_true rfl, Nat.le_of_ble_eq_true rfl⟩) q817 hw rfl rfl (Nat.le_of_ble_eq_true rfl) dX2_getsWheel_28 ⟨hc_31, hs_32⟩) hP hS (fun E9 q9 X9 H locs hw hcl hP hS => ?_) (fun X_28 H locs hw hP hS => ?_)
    · exact h_out hout hlocks hcl hP hS ⟨hc_31, hs_32⟩ hw
    refine lv_aload_n hF.1 hF.2.1 dX2_getsWheel_31 rfl (lv_at hl 0 rfl) ?_
    obtain ⟨fs_33, v_34, hx_35, hv_36, hw⟩ := hw
    refine x_get hF hC hP in_X2 rfl 0 (by decide) q150 (fun _ z => z) hx_35 hv_36 dX2_getsWheel_32 ?_
    obtain ⟨ho_39, hw⟩ := hw
    refine hk_i (hr_V (As := []) (rest := []) (T := TJ2) (N := 3) (ci := 8) hF hl.1 hC hP hS (metJ2_size l K _ _ X_28 v_34) rfl (cwV 0 hF.2.2.2.2 (lw_V q757 q267 q268 q79 q269) rfl rfl rfl (by decide +kernel) ⟨Nat.le_of_ble_eq_true rfl, Nat.le_of_ble_eq_true rfl⟩) ho_39 hw rfl rfl (Nat.le_of_ble_eq_true rfl) dX2_getsWheel_35 ⟨hc_31, hs_32⟩) hP hS (fun r_37 X_38 H locs hw hP hS => ?_)
    refine lv_bipush (v := 24) hF.1 hF.2.1 dX2_getsWheel_38 (by decide) ?_
    refine lv_icmp_ge (tgt := 47) hF.1 hF.2.1 dX2_getsWheel_40 (by decide) (fun c_40 => ?_) (fun c_40 => ?_)
    · have hw := hw.1 c_40
      refine lv_iconst (v := 0) hF.1 hF.2.1 dX2_getsWheel_47 (by decide) ?_
      exact T48 x0 x1 x2 0 X_38 (kc + mc_29) (ks + ms_30) _ _ ls hP hS ⟨hc_31, hs_32⟩ (lv_sub hl [0, 1, 2] rfl) hw
    · have hw := hw.2 c_40
      refine lv_iconst (v := 1) hF.1 hF.2.1 dX2_getsWheel_43 (by decide) ?_
      refine lv_goto (tgt := 48) hF.1 hF.2.1 dX2_getsWheel_44 (by decide) ?_
      exact T48 x0 x1 x2 1 X_38 (kc + mc_29) (ks + ms_30) _ _ ls hP hS ⟨hc_31, hs_32⟩ (lv_sub hl [0, 1, 2] rfl) hw
  have T26 : ∀ (x0 : Nat) (x1 : Int32) (x2 : Int32) (X : hX) (kc ks : Nat) (H : Heap) (locs : List Loc) (ls : Array Slot), hI K X0 s.heap.size X H → va_S (hA X0 s.heap.size) s.heap H locs → kc ≤ mc ∧ ks ≤ ms → lv_has ls 3 [(0, .ref x0), (1, .int x1), (2, .int x2)] → wpX2_getsWheel_26 post xpost (K.2.2 0) mc ms x0 x1 x2 X kc ks → W p l e (rmh 7 191 mc ms) s m ([.ref p0, .int p1, .int p2] : List Value).toArray below meth c H locs kc ks (vx_MQ below (hQi post K X0 s.heap.size) (hXC xpost K X0 s.heap.size) ([.ref p0, .int p1, .int p2] : List Value).toArray s mc ms (hA X0 s.heap.size)) (F0 m 26 ls []) := by
    intro x0 x1 x2 X kc ks H locs ls hP hS hk hl hw
    unfold wpX2_getsWheel_26 at hw
    refine lv_iconst (v := 0) hF.1 hF.2.1 dX2_getsWheel_26 (by decide) ?_
    exact T27 x0 x1 x2 0 X kc ks _ _ ls hP hS hk (lv_sub hl [0, 1, 2] rfl) hw
  unfold wpX2_getsWheel at hw
  show W p l e (rmh 7 191 mc ms) s m _ below meth c _ _ _ _ _ _
  refine lv_aload_n hF.1 hF.2.1 dX2_getsWheel_0 rfl (lv_at hl 0 rfl) ?_
  refine lv_iload_n hF.1 hF.2.1 dX2_getsWheel_1 rfl (lv_at hl 1 rfl) ?_
  obtain ⟨ho_43, hw⟩ := hw
  refine hk_i (hr_V (As := [.int p1]) (rest := []) (T := TX2) (N := 9) (ci := 2) hF hl.1 hC hP hS (metX2_isAxle l K _ _ X0 p0 p1) rfl (cwV 1 hF.2.2.2.2 (lw_V q843 q844 q845 q76 q846) rfl rfl rfl (by decide +kernel) ⟨Nat.le_of_ble_eq_true rfl, Nat.le_of_ble_eq_true rfl⟩) ho_43 hw rfl rfl (Nat.le_of_ble_eq_true rfl) dX2_getsWheel_2 ⟨Nat.zero_le _, Nat.zero_le _⟩) hP hS (fun r_41 X_42 H locs hw hP hS => ?_)
  refine lv_if_eq (tgt := 26) hF.1 hF.2.1 dX2_getsWheel_5 (by decide) (fun c_44 => ?_) (fun c_44 => ?_)
  · have hw := hw.1 c_44
    exact T26 p0 p1 p2 X_42 0 0 _ _ ls hP hS ⟨Nat.zero_le _, Nat.zero_le _⟩ (lv_sub hl [0, 1, 2] rfl) hw
  · have hw := hw.2 c_44
    refine lv_iload_n hF.1 hF.2.1 dX2_getsWheel_8 rfl (lv_at hl 2 rfl) ?_
    refine lv_i2l hF.1 hF.2.1 dX2_getsWheel_9 rfl ?_
    refine lv_ldc2 hF.1 hF.2.1 hF.2.2.2.1 (hF.2.2.2.2 _ q850) dX2_getsWheel_10 ?_
    refine lv_ldc2 hF.1 hF.2.1 hF.2.2.2.1 (hF.2.2.2.2 _ q851) dX2_getsWheel_13 ?_
    refine hp_i (hrp_SN (As := [.long (Int32.toInt64 p2), .long 8, .long 120]) (rest := []) hF hl.1 (metX1_isBetween l _ (Int32.toInt64 p2) 8 120) (va_cnB 3 hF.2.2.2.2 (lw_meth q849) rfl rfl rfl (hC.2.2.1.2.2.2.2.2.1 _ q847 rfl) (hF.2.2.2.2 _ q75) (by decide +kernel) ⟨Nat.le_of_ble_eq_true rfl, Nat.le_of_ble_eq_true rfl⟩) q848 hw rfl rfl (Nat.le_of_ble_eq_true rfl) dX2_getsWheel_16 ⟨Nat.zero_le _, Nat.zero_le _⟩) (fun r_45 hw => ?_)
    refine lv_if_eq (tgt := 26) hF.1 hF.2.1 dX2_getsWheel_19 (by decide) (fun c_46 => ?_) (fun c_46 => ?_)
    · have hw := hw.1 c_46
      exact T26 p0 p1 p2 X_42 0 0 _ _ ls hP hS ⟨Nat.zero_le _, Nat.zero_le _⟩ (lv_sub hl [0, 1, 2] rfl) hw
    · have hw := hw.2 c_46
      refine lv_iconst (v := 1) hF.1 hF.2.1 dX2_getsWheel_22 (by decide) ?_
      refine lv_goto (tgt := 27) hF.1 hF.2.1 dX2_getsWheel_23 (by decide) ?_
      exact T27 p0 p1 p2 1 X_42 0 0 _ _ ls hP hS ⟨Nat.zero_le _, Nat.zero_le _⟩ (lv_sub hl [0, 1, 2] rfl) hw
def wpX2_joins_24 (post : Int32 → hX → Prop) (xpost : String → Nat → hX → Prop) (E : Nat) (mc ms : Nat) (x0 : Nat) (x1 : Int32) (x2 : Int32) (z0 : Int32) (X : hX) (kc ks : Nat) : Prop := (∃ mc_2 ms_3 : Nat, kc + mc_2 ≤ mc ∧ ks + ms_3 ≤ ms ∧ wpX1_need (fun X_1 => isO X_1 x0 2 (wpX2_addsPair (fun X_6 => isO X_6 x0 2 ((∃ mc_11 ms_12 : Nat, (kc + mc_2) + mc_11 ≤ mc ∧ (ks + ms_3) + ms_12 ≤ ms ∧ wpX2_drive (fun r_8 X_9 => (∃ a_15 : Nat, r_8 = some a_15 ∧ gfI X_9 a_15 3 6 (fun v_18 => post v_18 X_9))) E mc_11 ms_12 X_6 x0))) E X_1 x0 x1 x2)) xpost E mc_2 ms_3 X z0 2)
def wpX2_joins (post : Int32 → hX → Prop) (xpost : String → Nat → hX → Prop) (E : Nat) (mc ms : Nat) (X : hX) (p0 : Nat) (p1 : Int32) (p2 : Int32) : Prop := isO X p0 2 (wpX2_areTwo (fun r_21 X_22 => (∃ mc_25 ms_26 : Nat, 0 + mc_25 ≤ mc ∧ 0 + ms_26 ≤ ms ∧ wpX1_need (fun X_24 => isO X_24 p0 2 ((∃ mc_32 ms_33 : Nat, (0 + mc_25) + mc_32 ≤ mc ∧ (0 + ms_26) + ms_33 ≤ ms ∧ wpX2_whyMesh (fun r_29 X_30 => ((r_29 = 0 → wpX2_joins_24 post xpost E mc ms p0 p1 p2 1 X_30 ((0 + mc_25) + mc_32) ((0 + ms_26) + ms_33)) ∧ (¬ r_29 = 0 → wpX2_joins_24 post xpost E mc ms p0 p1 p2 0 X_30 ((0 + mc_25) + mc_32) ((0 + ms_26) + ms_33)))) E mc_32 ms_33 X_24 p0 p1 p2))) xpost E mc_25 ms_26 X_22 r_21 1)) E X p0 p1 p2)
abbrev wsX2_joins : List Cond := ws_ yX2_joins cX2_joins 3 (some .int)
set_option maxHeartbeats 8000000 in
theorem metX2_joins (l : Launch) (hlt : l.stackTraces = false) (K : HK) (mc ms : Nat) (sz : Nat) (post : Int32 → hX → Prop) (xpost : String → Nat → hX → Prop) (X0 : hX) (p0 : Nat) (p1 : Int32) (p2 : Int32) : vx_Met l yX2_joins wsX2_joins (rmh 9 237 mc ms) (hPc K X0 sz [.ref p0, .int p1, .int p2] (wpX2_joins post xpost (K.2.2 0) mc ms X0 p0 p1 p2)) (hQi post K X0 sz) (hXC xpost K X0 sz) mc ms (hA X0 sz) := by
  refine vx_ofW (cc := cX2_joins) (maxL := 3) (ret := (some .int)) (by decide) rfl ?_
  intro p e s m args below meth c s₁ B hml hno hv
  obtain ⟨rfl, hv⟩ := hv
  obtain ⟨hC, hP, hw⟩ := HC.of hv
  have hsz : s.heap.size = sz := hv.1
  subst hsz
  clear hv
  have hout : ∀ {pc : Nat}, ∀ x ∈ c.exceptionTable.toList, covers x pc = false := fun x hx => (hno x hx).elim
  have hr := B.returns
  have hts := atoms_spec (ws := wsX2_joins) B.pre
  have hts : ∀ w ∈ lw_all, w.before _ s = true := fun w h => hts w (List.mem_cons_of_mem _ h)
  have hF : CallFix p m c cX2_joins 3 s ([.ref p0, .int p1, .int p2] : List Value).toArray lw_all RX2 := ⟨B.exec, B.bytes, hml, findClass_of_methodNamed B.named, hts⟩
  have hlocks := B.notSynchronized
  have hl := lv_entry ([.ref p0, .int p1, .int p2]) (n := 3) (Nat.le_of_ble_eq_true rfl)
  rw [lg_entry_eq]
  generalize (lg_sl ([.ref p0, .int p1, .int p2]) ++ List.replicate (3 - (lg_sl ([.ref p0, .int p1, .int p2])).length) Slot.unset).toArray = ls at hl ⊢
  have hl : lv_has ls 3 [(0, .ref p0), (1, .int p1), (2, .int p2)] := hl
  have hS : va_S (hA X0 s.heap.size) s.heap s.heap [] := va_S.rf
  have T24 : ∀ (x0 : Nat) (x1 : Int32) (x2 : Int32) (z0 : Int32) (X : hX) (kc ks : Nat) (H : Heap) (locs : List Loc) (ls : Array Slot), hI K X0 s.heap.size X H → va_S (hA X0 s.heap.size) s.heap H locs → kc ≤ mc ∧ ks ≤ ms → lv_has ls 3 [(0, .ref x0), (1, .int x1), (2, .int x2)] → wpX2_joins_24 post xpost (K.2.2 0) mc ms x0 x1 x2 z0 X kc ks → W p l e (rmh 9 237 mc ms) s m ([.ref p0, .int p1, .int p2] : List Value).toArray below meth c H locs kc ks (vx_MQ below (hQi post K X0 s.heap.size) (hXC xpost K X0 s.heap.size) ([.ref p0, .int p1, .int p2] : List Value).toArray s mc ms (hA X0 s.heap.size)) (F0 m 24 ls [.int z0]) := by
    intro x0 x1 x2 z0 X kc ks H locs ls hP hS hk hl hw
    unfold wpX2_joins_24 at hw
    refine lv_iconst (v := 2) hF.1 hF.2.1 dX2_joins_24 (by decide) ?_
    obtain ⟨mc_2, ms_3, hc_4, hs_5, hw⟩ := hw
    refine hkx_v (hrx_SN (As := [.int z0, .int 2]) (rest := []) hF hl.1 hC hP hS (metX1_need l hlt K mc_2 ms_3 _ _ _ X z0 2) (va_cnB 2 hF.2.2.2.2 (lw_meth q818) rfl rfl rfl (hC.2.2.1.2.2.2.2.2.1 _ q816 rfl) (hF.2.2.2.2 _ q75) (by decide +kernel) ⟨Nat.le_of_ble_eq_true rfl, Nat.le_of_ble_eq_true rfl⟩) q817 hw rfl rfl (Nat.le_of_ble_eq_true rfl) dX2_joins_25 ⟨hc_4, hs_5⟩) hP hS (fun E9 q9 X9 H locs hw hcl hP hS => ?_) (fun X_1 H locs hw hP hS => ?_)
    · exact h_out hout hlocks hcl hP hS ⟨hc_4, hs_5⟩ hw
    refine lv_aload_n hF.1 hF.2.1 dX2_joins_28 rfl (lv_at hl 0 rfl) ?_
    refine lv_iload_n hF.1 hF.2.1 dX2_joins_29 rfl (lv_at hl 1 rfl) ?_
    refine lv_iload_n hF.1 hF.2.1 dX2_joins_30 rfl (lv_at hl 2 rfl) ?_
    obtain ⟨ho_7, hw⟩ := hw
    refine hk_v (hr_V (As := [.int x1, .int x2]) (rest := []) (T := TX2) (N := 9) (ci := 2) hF hl.1 hC hP hS (metX2_addsPair l K _ _ X_1 x0 x1 x2) rfl (cwV 2 hF.2.2.2.2 (lw_V q892 q894 qs7 q76 q895) rfl rfl rfl (by decide +kernel) ⟨Nat.le_of_ble_eq_true rfl, Nat.le_of_ble_eq_true rfl⟩) ho_7 hw rfl rfl (Nat.le_of_ble_eq_true rfl) dX2_joins_31 ⟨hc_4, hs_5⟩) hP hS (fun X_6 H locs hw hP hS => ?_)
    refine lv_aload_n hF.1 hF.2.1 dX2_joins_34 rfl (lv_at hl 0 rfl) ?_
    obtain ⟨ho_10, hw⟩ := hw
    obtain ⟨mc_11, ms_12, hc_13, hs_14, hw⟩ := hw
    refine hk_q (hr_V (As := []) (rest := []) (T := TX2) (N := 9) (ci := 2) hF hl.1 hC hP hS (metX2_drive l K mc_11 ms_12 _ _ X_6 x0) rfl (cwV 0 hF.2.2.2.2 (lw_V q896 q337 q338 q76 q339) rfl rfl rfl (by decide +kernel) ⟨Nat.le_of_ble_eq_true rfl, Nat.le_of_ble_eq_true rfl⟩) ho_10 hw rfl rfl (Nat.le_of_ble_eq_true rfl) dX2_joins_35 ⟨hc_13, hs_14⟩) hP hS (fun r_8 X_9 H locs hw hP hS => ?_)
    obtain ⟨a_15, e_16, hw⟩ := hw
    subst e_16
    rw [va_rf_some]
    obtain ⟨fs_17, v_18, hx_19, hv_20, hw⟩ := hw
    refine x_getN hF hC hP in_X6 rfl 6 (by decide) q389 (fun _ z => z) hx_19 hv_20 dX2_joins_38 ?_
    exact vx_ret (h_iret hF hr hlocks hP hS ⟨hc_13, hs_14⟩ dX2_joins_41 hw)
  unfold wpX2_joins at hw
  show W p l e (rmh 9 237 mc ms) s m _ below meth c _ _ _ _ _ _
  refine lv_aload_n hF.1 hF.2.1 dX2_joins_0 rfl (lv_at hl 0 rfl) ?_
  refine lv_iload_n hF.1 hF.2.1 dX2_joins_1 rfl (lv_at hl 1 rfl) ?_
  refine lv_iload_n hF.1 hF.2.1 dX2_joins_2 rfl (lv_at hl 2 rfl) ?_
  obtain ⟨ho_23, hw⟩ := hw
  refine hk_i (hr_V (As := [.int p1, .int p2]) (rest := []) (T := TX2) (N := 9) (ci := 2) hF hl.1 hC hP hS (metX2_areTwo l K _ _ X0 p0 p1 p2) rfl (cwV 2 hF.2.2.2.2 (lw_V q874 q875 q876 q76 q877) rfl rfl rfl (by decide +kernel) ⟨Nat.le_of_ble_eq_true rfl, Nat.le_of_ble_eq_true rfl⟩) ho_23 hw rfl rfl (Nat.le_of_ble_eq_true rfl) dX2_joins_3 ⟨Nat.zero_le _, Nat.zero_le _⟩) hP hS (fun r_21 X_22 H locs hw hP hS => ?_)
  refine lv_iconst (v := 1) hF.1 hF.2.1 dX2_joins_6 (by decide) ?_
  obtain ⟨mc_25, ms_26, hc_27, hs_28, hw⟩ := hw
  refine hkx_v (hrx_SN (As := [.int r_21, .int 1]) (rest := []) hF hl.1 hC hP hS (metX1_need l hlt K mc_25 ms_26 _ _ _ X_22 r_21 1) (va_cnB 2 hF.2.2.2.2 (lw_meth q818) rfl rfl rfl (hC.2.2.1.2.2.2.2.2.1 _ q816 rfl) (hF.2.2.2.2 _ q75) (by decide +kernel) ⟨Nat.le_of_ble_eq_true rfl, Nat.le_of_ble_eq_true rfl⟩) q817 hw rfl rfl (Nat.le_of_ble_eq_true rfl) dX2_joins_7 ⟨hc_27, hs_28⟩) hP hS (fun E9 q9 X9 H locs hw hcl hP hS => ?_) (fun X_24 H locs hw hP hS => ?_)
  · exact h_out hout hlocks hcl hP hS ⟨hc_27, hs_28⟩ hw
  refine lv_aload_n hF.1 hF.2.1 dX2_joins_10 rfl (lv_at hl 0 rfl) ?_
  refine lv_iload_n hF.1 hF.2.1 dX2_joins_11 rfl (lv_at hl 1 rfl) ?_
  refine lv_iload_n hF.1 hF.2.1 dX2_joins_12 rfl (lv_at hl 2 rfl) ?_
  obtain ⟨ho_31, hw⟩ := hw
  obtain ⟨mc_32, ms_33, hc_34, hs_35, hw⟩ := hw
  refine hk_i (hr_V (As := [.int p1, .int p2]) (rest := []) (T := TX2) (N := 9) (ci := 2) hF hl.1 hC hP hS (metX2_whyMesh l K mc_32 ms_33 _ _ X_24 p0 p1 p2) rfl (cwV 2 hF.2.2.2.2 (lw_V q882 q883 q884 q76 q885) rfl rfl rfl (by decide +kernel) ⟨Nat.le_of_ble_eq_true rfl, Nat.le_of_ble_eq_true rfl⟩) ho_31 hw rfl rfl (Nat.le_of_ble_eq_true rfl) dX2_joins_13 ⟨hc_34, hs_35⟩) hP hS (fun r_29 X_30 H locs hw hP hS => ?_)
  refine lv_if_ne (tgt := 23) hF.1 hF.2.1 dX2_joins_16 (by decide) (fun c_36 => ?_) (fun c_36 => ?_)
  · have hw := hw.2 c_36
    refine lv_iconst (v := 0) hF.1 hF.2.1 dX2_joins_23 (by decide) ?_
    exact T24 p0 p1 p2 0 X_30 ((0 + mc_25) + mc_32) ((0 + ms_26) + ms_33) _ _ ls hP hS ⟨hc_34, hs_35⟩ (lv_sub hl [0, 1, 2] rfl) hw
  · have hw := hw.1 c_36
    refine lv_iconst (v := 1) hF.1 hF.2.1 dX2_joins_19 (by decide) ?_
    refine lv_goto (tgt := 24) hF.1 hF.2.1 dX2_joins_20 (by decide) ?_
    exact T24 p0 p1 p2 1 X_30 ((0 + mc_25) + mc_32) ((0 + ms_26) + ms_33) _ _ ls hP hS ⟨hc_34, hs_35⟩ (lv_sub hl [0, 1, 2] rfl) hw
def wpX2_parts_88 (post : Int32 → hX → Prop) (xpost : String → Nat → hX → Prop) (E : Nat) (mc ms : Nat) (x2 : Nat) (z0 : Int32) (X : hX) (kc ks : Nat) : Prop := (∃ mc_2 ms_3 : Nat, kc + mc_2 ≤ mc ∧ ks + ms_3 ≤ ms ∧ wpX1_need (fun X_1 => gfI X_1 x2 3 6 (fun v_7 => post v_7 X_1)) xpost E mc_2 ms_3 X z0 2)
def wpX2_parts_29 (post : Int32 → hX → Prop) (xpost : String → Nat → hX → Prop) (E : Nat) (mc ms : Nat) : Nat → Nat → Int32 → hX → Nat → Nat → Prop
  | 0 => fun _ _ _ _ _ => False
  | n + 1 => fun x0 x2 X kc ks => gfI X x0 2 6 (fun v_11 => ((v_11 ≤ x2 → isO X x0 2 ((∃ mc_18 ms_19 : Nat, kc + mc_18 ≤ mc ∧ ks + ms_19 ≤ ms ∧ wpX2_drive (fun r_15 X_16 => (∃ a_22 : Nat, r_15 = some a_22 ∧ gfI X_16 a_22 3 8 (fun v_25 => ((v_25 = 0 → wpX2_parts_88 post xpost E mc ms a_22 1 X_16 (kc + mc_18) (ks + ms_19)) ∧ (¬ v_25 = 0 → wpX2_parts_88 post xpost E mc ms a_22 0 X_16 (kc + mc_18) (ks + ms_19)))))) E mc_18 ms_19 X x0))) ∧ (¬ v_11 ≤ x2 → gfA X x0 2 3 (fun v_30 => gfA X x0 2 3 (fun v_34 => alI X 0 v_34 (x2 + 1) (fun v_41 => asI X v_30 x2 v_41 (fun X_46 => gfA X_46 x0 2 4 (fun v_48 => gfA X_46 x0 2 4 (fun v_52 => alI X_46 0 v_52 (x2 + 1) (fun v_59 => asI X_46 v_48 x2 v_59 (fun X_64 => (∀ x2_65 : Int32, x2_65 = x2 + 1 → wpX2_parts_29 post xpost E mc ms n x0 x2_65 X_64 kc ks))))))))))))
def wpX2_parts (post : Int32 → hX → Prop) (xpost : String → Nat → hX → Prop) (E : Nat) (mc ms : Nat) (X : hX) (p0 : Nat) (p1 : Int32) : Prop := gfI X p0 2 6 (fun v_67 => wpX1_isBetween (fun r_70 => (∃ mc_72 ms_73 : Nat, 0 + mc_72 ≤ mc ∧ 0 + ms_73 ≤ ms ∧ wpX1_need (fun X_71 => gfI X_71 p0 2 6 (fun v_77 => pfV X_71 p0 2 6 (.int (v_77 - 1)) (fun X_83 => ∃ fu : Nat, wpX2_parts_29 post xpost E mc ms fu p0 p1 X_83 (0 + mc_72) (0 + ms_73)))) xpost E mc_72 ms_73 X r_70 1)) (Int32.toInt64 p1) 0 (Int32.toInt64 (v_67 - 1)))
abbrev wsX2_parts : List Cond := ws_ yX2_parts cX2_parts 3 (some .int)
set_option maxHeartbeats 8000000 in
theorem metX2_parts (l : Launch) (hlt : l.stackTraces = false) (K : HK) (mc ms : Nat) (sz : Nat) (post : Int32 → hX → Prop) (xpost : String → Nat → hX → Prop) (X0 : hX) (p0 : Nat) (p1 : Int32) : vx_Met l yX2_parts wsX2_parts (rmh 7 123 mc ms) (hPc K X0 sz [.ref p0, .int p1] (wpX2_parts post xpost (K.2.2 0) mc ms X0 p0 p1)) (hQi post K X0 sz) (hXC xpost K X0 sz) mc ms (hA X0 sz) := by
  refine vx_ofW (cc := cX2_parts) (maxL := 3) (ret := (some .int)) (by decide) rfl ?_
  intro p e s m args below meth c s₁ B hml hno hv
  obtain ⟨rfl, hv⟩ := hv
  obtain ⟨hC, hP, hw⟩ := HC.of hv
  have hsz : s.heap.size = sz := hv.1
  subst hsz
  clear hv
  have hout : ∀ {pc : Nat}, ∀ x ∈ c.exceptionTable.toList, covers x pc = false := fun x hx => (hno x hx).elim
  have hr := B.returns
  have hts := atoms_spec (ws := wsX2_parts) B.pre
  have hts : ∀ w ∈ lw_all, w.before _ s = true := fun w h => hts w (List.mem_cons_of_mem _ h)
  have hF : CallFix p m c cX2_parts 3 s ([.ref p0, .int p1] : List Value).toArray lw_all RX2 := ⟨B.exec, B.bytes, hml, findClass_of_methodNamed B.named, hts⟩
  have hlocks := B.notSynchronized
  have hl := lv_entry ([.ref p0, .int p1]) (n := 3) (Nat.le_of_ble_eq_true rfl)
  rw [lg_entry_eq]
  generalize (lg_sl ([.ref p0, .int p1]) ++ List.replicate (3 - (lg_sl ([.ref p0, .int p1])).length) Slot.unset).toArray = ls at hl ⊢
  have hl : lv_has ls 3 [(0, .ref p0), (1, .int p1)] := hl
  have hS : va_S (hA X0 s.heap.size) s.heap s.heap [] := va_S.rf
  have T88 : ∀ (x2 : Nat) (z0 : Int32) (X : hX) (kc ks : Nat) (H : Heap) (locs : List Loc) (ls : Array Slot), hI K X0 s.heap.size X H → va_S (hA X0 s.heap.size) s.heap H locs → kc ≤ mc ∧ ks ≤ ms → lv_has ls 3 [(2, .ref x2)] → wpX2_parts_88 post xpost (K.2.2 0) mc ms x2 z0 X kc ks → W p l e (rmh 7 123 mc ms) s m ([.ref p0, .int p1] : List Value).toArray below meth c H locs kc ks (vx_MQ below (hQi post K X0 s.heap.size) (hXC xpost K X0 s.heap.size) ([.ref p0, .int p1] : List Value).toArray s mc ms (hA X0 s.heap.size)) (F0 m 88 ls [.int z0]) := by
    intro x2 z0 X kc ks H locs ls hP hS hk hl hw
    unfold wpX2_parts_88 at hw
    refine lv_iconst (v := 2) hF.1 hF.2.1 dX2_parts_88 (by decide) ?_
    obtain ⟨mc_2, ms_3, hc_4, hs_5, hw⟩ := hw
    refine hkx_v (hrx_SN (As := [.int z0, .int 2]) (rest := []) hF hl.1 hC hP hS (metX1_need l hlt K mc_2 ms_3 _ _ _ X z0 2) (va_cnB 2 hF.2.2.2.2 (lw_meth q818) rfl rfl rfl (hC.2.2.1.2.2.2.2.2.1 _ q816 rfl) (hF.2.2.2.2 _ q75) (by decide +kernel) ⟨Nat.le_of_ble_eq_true rfl, Nat.le_of_ble_eq_true rfl⟩) q817 hw rfl rfl (Nat.le_of_ble_eq_true rfl) dX2_parts_89 ⟨hc_4, hs_5⟩) hP hS (fun E9 q9 X9 H locs hw hcl hP hS => ?_) (fun X_1 H locs hw hP hS => ?_)
    · exact h_out hout hlocks hcl hP hS ⟨hc_4, hs_5⟩ hw
    refine lv_aload_n hF.1 hF.2.1 dX2_parts_92 rfl (lv_at hl 0 rfl) ?_
    obtain ⟨fs_6, v_7, hx_8, hv_9, hw⟩ := hw
    refine x_getN hF hC hP in_X6 rfl 6 (by decide) q389 (fun _ z => z) hx_8 hv_9 dX2_parts_93 ?_
    exact vx_ret (h_iret hF hr hlocks hP hS ⟨hc_4, hs_5⟩ dX2_parts_96 hw)
  have T29 : ∀ (n : Nat), ∀ (x0 : Nat) (x2 : Int32) (X : hX) (kc ks : Nat) (H : Heap) (locs : List Loc) (ls : Array Slot), hI K X0 s.heap.size X H → va_S (hA X0 s.heap.size) s.heap H locs → kc ≤ mc ∧ ks ≤ ms → lv_has ls 3 [(0, .ref x0), (2, .int x2)] → wpX2_parts_29 post xpost (K.2.2 0) mc ms n x0 x2 X kc ks → W p l e (rmh 7 123 mc ms) s m ([.ref p0, .int p1] : List Value).toArray below meth c H locs kc ks (vx_MQ below (hQi post K X0 s.heap.size) (hXC xpost K X0 s.heap.size) ([.ref p0, .int p1] : List Value).toArray s mc ms (hA X0 s.heap.size)) (F0 m 29 ls []) := by
    intro n
    induction n with
    | zero =>
      intro x0 x2 X kc ks H locs ls hP hS hk hl hw
      exact False.elim hw
    | succ n ih =>
      intro x0 x2 X kc ks H locs ls hP hS hk hl hw
      unfold wpX2_parts_29 at hw
      refine lv_iload_n hF.1 hF.2.1 dX2_parts_29 rfl (lv_at hl 1 rfl) ?_
      refine lv_aload_n hF.1 hF.2.1 dX2_parts_30 rfl (lv_at hl 0 rfl) ?_
      obtain ⟨fs_10, v_11, hx_12, hv_13, hw⟩ := hw
      refine x_get hF hC hP in_X2 rfl 6 (by decide) q166 (fun _ z => z) hx_12 hv_13 dX2_parts_31 ?_
      refine lv_icmp_ge (tgt := 71) hF.1 hF.2.1 dX2_parts_34 (by decide) (fun c_14 => ?_) (fun c_14 => ?_)
      · have hw := hw.1 c_14
        refine lv_aload_n hF.1 hF.2.1 dX2_parts_71 rfl (lv_at hl 0 rfl) ?_
        obtain ⟨ho_17, hw⟩ := hw
        obtain ⟨mc_18, ms_19, hc_20, hs_21, hw⟩ := hw
        refine hk_q (hr_V (As := []) (rest := []) (T := TX2) (N := 9) (ci := 2) hF hl.1 hC hP hS (metX2_drive l K mc_18 ms_19 _ _ X x0) rfl (cwV 0 hF.2.2.2.2 (lw_V q896 q337 q338 q76 q339) rfl rfl rfl (by decide +kernel) ⟨Nat.le_of_ble_eq_true rfl, Nat.le_of_ble_eq_true rfl⟩) ho_17 hw rfl rfl (Nat.le_of_ble_eq_true rfl) dX2_parts_72 ⟨hc_20, hs_21⟩) hP hS (fun r_15 X_16 H locs hw hP hS => ?_)
        obtain ⟨a_22, e_23, hw⟩ := hw
        subst e_23
        rw [va_rf_some]
        refine lv_astore_n (lv' := [(2, .ref a_22), (0, .ref x0)]) hF.1 hF.2.1 dX2_parts_75 rfl hl (by decide) rfl (fun ls hl => ?_)
        refine lv_aload_n hF.1 hF.2.1 dX2_parts_76 rfl (lv_at hl 0 rfl) ?_
        obtain ⟨fs_24, v_25, hx_26, hv_27, hw⟩ := hw
        refine x_getN hF hC hP in_X6 rfl 8 (by decide) q394 (fun _ z => z) hx_26 hv_27 dX2_parts_77 ?_
        refine lv_if_ne (tgt := 87) hF.1 hF.2.1 dX2_parts_80 (by decide) (fun c_28 => ?_) (fun c_28 => ?_)
        · have hw := hw.2 c_28
          refine lv_iconst (v := 0) hF.1 hF.2.1 dX2_parts_87 (by decide) ?_
          exact T88 a_22 0 X_16 (kc + mc_18) (ks + ms_19) _ _ ls hP hS ⟨hc_20, hs_21⟩ (lv_sub hl [0] rfl) hw
        · have hw := hw.1 c_28
          refine lv_iconst (v := 1) hF.1 hF.2.1 dX2_parts_83 (by decide) ?_
          refine lv_goto (tgt := 88) hF.1 hF.2.1 dX2_parts_84 (by decide) ?_
          exact T88 a_22 1 X_16 (kc + mc_18) (ks + ms_19) _ _ ls hP hS ⟨hc_20, hs_21⟩ (lv_sub hl [0] rfl) hw
      · have hw := hw.2 c_14
        refine lv_aload_n hF.1 hF.2.1 dX2_parts_37 rfl (lv_at hl 0 rfl) ?_
        obtain ⟨fs_29, v_30, hx_31, hv_32, hw⟩ := hw
        refine x_get hF hC hP in_X2 rfl 3 (by decide) q157 (fun _ z => z) hx_31 hv_32 dX2_parts_38 ?_
        refine lv_iload_n hF.1 hF.2.1 dX2_parts_41 rfl (lv_at hl 1 rfl) ?_
        refine lv_aload_n hF.1 hF.2.1 dX2_parts_42 rfl (lv_at hl 0 rfl) ?_
        obtain ⟨fs_33, v_34, hx_35, hv_36, hw⟩ := hw
        refine x_get hF hC hP in_X2 rfl 3 (by decide) q157 (fun _ z => z) hx_35 hv_36 dX2_parts_43 ?_
        refine lv_iload_n hF.1 hF.2.1 dX2_parts_46 rfl (lv_at hl 1 rfl) ?_
        refine lv_iconst (v := 1) hF.1 hF.2.1 dX2_parts_47 (by decide) ?_
        refine lv_iadd hF.1 hF.2.1 dX2_parts_48 ?_
        obtain ⟨n_37, f_38, hx_39, hi_40, hw⟩ := hw
        refine x_iald hF hC hP hx_39 hi_40 dX2_parts_49 ?_
        generalize f_38 (Int32.toNatClampNeg (x2 + 1)) = v_41 at hw ⊢
        obtain ⟨n_42, f_43, hx_44, hi_45, hw⟩ := hw
        refine x_iast hF hC hP hS hx_44 hi_45 dX2_parts_50 (fun H locs hP hS => ?_)
        generalize hup X v_30 (.inl (0, n_42, .inl (upd f_43 (Int32.toNatClampNeg x2) v_41))) = X_46 at hP hw
        refine lv_aload_n hF.1 hF.2.1 dX2_parts_51 rfl (lv_at hl 0 rfl) ?_
        obtain ⟨fs_47, v_48, hx_49, hv_50, hw⟩ := hw
        refine x_get hF hC hP in_X2 rfl 4 (by decide) q160 (fun _ z => z) hx_49 hv_50 dX2_parts_52 ?_
        refine lv_iload_n hF.1 hF.2.1 dX2_parts_55 rfl (lv_at hl 1 rfl) ?_
        refine lv_aload_n hF.1 hF.2.1 dX2_parts_56 rfl (lv_at hl 0 rfl) ?_
        obtain ⟨fs_51, v_52, hx_53, hv_54, hw⟩ := hw
        refine x_get hF hC hP in_X2 rfl 4 (by decide) q160 (fun _ z => z) hx_53 hv_54 dX2_parts_57 ?_
        refine lv_iload_n hF.1 hF.2.1 dX2_parts_60 rfl (lv_at hl 1 rfl) ?_
        refine lv_iconst (v := 1) hF.1 hF.2.1 dX2_parts_61 (by decide) ?_
        refine lv_iadd hF.1 hF.2.1 dX2_parts_62 ?_
        obtain ⟨n_55, f_56, hx_57, hi_58, hw⟩ := hw
        refine x_iald hF hC hP hx_57 hi_58 dX2_parts_63 ?_
        generalize f_56 (Int32.toNatClampNeg (x2 + 1)) = v_59 at hw ⊢
        obtain ⟨n_60, f_61, hx_62, hi_63, hw⟩ := hw
        refine x_iast hF hC hP hS hx_62 hi_63 dX2_parts_64 (fun H locs hP hS => ?_)
        generalize hup X_46 v_48 (.inl (0, n_60, .inl (upd f_61 (Int32.toNatClampNeg x2) v_59))) = X_64 at hP hw
        obtain ⟨x2_65, ex2_65⟩ : ∃ y : Int32, y = x2 + 1 := ⟨_, rfl⟩
        have hw := hw x2_65 ex2_65
        refine lv_iinc (v := x2_65) (lv' := [(2, .int x2_65), (0, .ref x0)]) hF.1 hF.2.1 dX2_parts_65 hl (k := 1) rfl (by rw [ex2_65]; rfl) (by decide) rfl (fun ls hl => ?_)
        refine lv_goto (tgt := 29) hF.1 hF.2.1 dX2_parts_68 (by decide) ?_
        exact ih x0 x2_65 X_64 kc ks _ _ ls hP hS hk (lv_sub hl [1, 0] rfl) hw
  unfold wpX2_parts at hw
  show W p l e (rmh 7 123 mc ms) s m _ below meth c _ _ _ _ _ _
  refine lv_iload_n hF.1 hF.2.1 dX2_parts_0 rfl (lv_at hl 1 rfl) ?_
  refine lv_i2l hF.1 hF.2.1 dX2_parts_1 rfl ?_
  refine lv_lconst (v := 0) hF.1 hF.2.1 dX2_parts_2 (by decide) ?_
  refine lv_aload_n hF.1 hF.2.1 dX2_parts_3 rfl (lv_at hl 0 rfl) ?_
  obtain ⟨fs_66, v_67, hx_68, hv_69, hw⟩ := hw
  refine x_get hF hC hP in_X2 rfl 6 (by decide) q166 (fun _ z => z) hx_68 hv_69 dX2_parts_4 ?_
  refine lv_iconst (v := 1) hF.1 hF.2.1 dX2_parts_7 (by decide) ?_
  refine lv_isub hF.1 hF.2.1 dX2_parts_8 ?_
  refine lv_i2l hF.1 hF.2.1 dX2_parts_9 rfl ?_
  refine hp_i (hrp_SN (As := [.long (Int32.toInt64 p1), .long 0, .long (Int32.toInt64 (v_67 - 1))]) (rest := []) hF hl.1 (metX1_isBetween l _ (Int32.toInt64 p1) 0 (Int32.toInt64 (v_67 - 1))) (va_cnB 3 hF.2.2.2.2 (lw_meth q849) rfl rfl rfl (hC.2.2.1.2.2.2.2.2.1 _ q847 rfl) (hF.2.2.2.2 _ q75) (by decide +kernel) ⟨Nat.le_of_ble_eq_true rfl, Nat.le_of_ble_eq_true rfl⟩) q848 hw rfl rfl (Nat.le_of_ble_eq_true rfl) dX2_parts_10 ⟨Nat.zero_le _, Nat.zero_le _⟩) (fun r_70 hw => ?_)
  refine lv_iconst (v := 1) hF.1 hF.2.1 dX2_parts_13 (by decide) ?_
  obtain ⟨mc_72, ms_73, hc_74, hs_75, hw⟩ := hw
  refine hkx_v (hrx_SN (As := [.int r_70, .int 1]) (rest := []) hF hl.1 hC hP hS (metX1_need l hlt K mc_72 ms_73 _ _ _ X0 r_70 1) (va_cnB 2 hF.2.2.2.2 (lw_meth q818) rfl rfl rfl (hC.2.2.1.2.2.2.2.2.1 _ q816 rfl) (hF.2.2.2.2 _ q75) (by decide +kernel) ⟨Nat.le_of_ble_eq_true rfl, Nat.le_of_ble_eq_true rfl⟩) q817 hw rfl rfl (Nat.le_of_ble_eq_true rfl) dX2_parts_14 ⟨hc_74, hs_75⟩) hP hS (fun E9 q9 X9 H locs hw hcl hP hS => ?_) (fun X_71 H locs hw hP hS => ?_)
  · exact h_out hout hlocks hcl hP hS ⟨hc_74, hs_75⟩ hw
  refine lv_aload_n hF.1 hF.2.1 dX2_parts_17 rfl (lv_at hl 0 rfl) ?_
  refine lv_dup hF.1 hF.2.1 dX2_parts_18 rfl ?_
  obtain ⟨fs_76, v_77, hx_78, hv_79, hw⟩ := hw
  refine x_get hF hC hP in_X2 rfl 6 (by decide) q166 (fun _ z => z) hx_78 hv_79 dX2_parts_19 ?_
  refine lv_iconst (v := 1) hF.1 hF.2.1 dX2_parts_22 (by decide) ?_
  refine lv_isub hF.1 hF.2.1 dX2_parts_23 ?_
  obtain ⟨fs_80, hx_81, hl_82, hw⟩ := hw
  refine x_put hF hC hP hS in_X2 rfl tyX2 tyX2_ok nmX2 6 (by decide) q166 (fun _ z => z) rfl rfl rfl hx_81 hl_82 dX2_parts_24 (fun H locs hP hS => ?_)
  generalize hup X_71 p0 (.inr (2, fs_80.set 6 (.int (v_77 - 1)))) = X_83 at hP hw
  refine lv_iload_n hF.1 hF.2.1 dX2_parts_27 rfl (lv_at hl 1 rfl) ?_
  refine lv_istore_n (lv' := [(2, .int p1), (0, .ref p0), (1, .int p1)]) hF.1 hF.2.1 dX2_parts_28 rfl hl (by decide) rfl (fun ls hl => ?_)
  obtain ⟨fu, hw⟩ := hw
  exact T29 fu p0 p1 X_83 (0 + mc_72) (0 + ms_73) _ _ ls hP hS ⟨hc_74, hs_75⟩ (lv_sub hl [1, 0] rfl) hw
def wpX2_cuts_80 (post : Int32 → hX → Prop) (xpost : String → Nat → hX → Prop) (E : Nat) (mc ms : Nat) (x3 : Nat) (z0 : Int32) (X : hX) (kc ks : Nat) : Prop := (∃ mc_2 ms_3 : Nat, kc + mc_2 ≤ mc ∧ ks + ms_3 ≤ ms ∧ wpX1_need (fun X_1 => gfI X_1 x3 5 1 (fun v_7 => post v_7 X_1)) xpost E mc_2 ms_3 X z0 2)
def wpX2_cuts_27 (post : Int32 → hX → Prop) (xpost : String → Nat → hX → Prop) (E : Nat) (mc ms : Nat) (x0 : Nat) (x1 : Int32) (x2 : Int32) (z0 : Int32) (X : hX) (kc ks : Nat) : Prop := (∃ mc_11 ms_12 : Nat, kc + mc_11 ≤ mc ∧ ks + ms_12 ≤ ms ∧ wpX1_need (fun X_10 => gfA X_10 x0 2 0 (fun v_16 => newO X_10 5 [.int 0, .int 0] 2 (kc + mc_11) (ks + ms_12) mc ms (fun a_19 X_20 => gfA X_20 x0 2 0 (fun v_23 => isO X_20 v_23 8 (wpJ2_get (fun r_26 X_27 => (∃ a_29 : Nat, r_26 = some a_29 ∧ ((∃ fs, X_27 a_29 = some (.inr (5, fs))) ∧ gfI X_27 a_29 5 0 (fun v_33 => wpX5_init (fun X_36 => isO X_36 v_16 8 (wpJ2_set (fun r_37 X_38 => (∃ a_40 : Nat, r_37 = some a_40 ∧ ((∃ fs, X_38 a_40 = some (.inr (5, fs))) ∧ isO X_38 x0 2 ((∃ mc_46 ms_47 : Nat, ((kc + mc_11) + 1) + mc_46 ≤ mc ∧ ((ks + ms_12) + 2) + ms_47 ≤ ms ∧ wpX2_drive (fun r_43 X_44 => (∃ a_50 : Nat, r_43 = some a_50 ∧ gfI X_44 a_50 3 7 (fun v_53 => ((v_53 = 0 → wpX2_cuts_80 post xpost E mc ms a_40 1 X_44 (((kc + mc_11) + 1) + mc_46) (((ks + ms_12) + 2) + ms_47)) ∧ (¬ v_53 = 0 → wpX2_cuts_80 post xpost E mc ms a_40 0 X_44 (((kc + mc_11) + 1) + mc_46) (((ks + ms_12) + 2) + ms_47)))))) E mc_46 ms_47 X_38 x0))))) E X_36 v_16 x1 a_19)) E X_27 a_19 v_33 x2)))) E X_20 v_23 x1))))) xpost E mc_11 ms_12 X z0 1)
def wpX2_cuts_26 (post : Int32 → hX → Prop) (xpost : String → Nat → hX → Prop) (E : Nat) (mc ms : Nat) (x0 : Nat) (x1 : Int32) (x2 : Int32) (X : hX) (kc ks : Nat) : Prop := wpX2_cuts_27 post xpost E mc ms x0 x1 x2 0 X kc ks
def wpX2_cuts (post : Int32 → hX → Prop) (xpost : String → Nat → hX → Prop) (E : Nat) (mc ms : Nat) (X : hX) (p0 : Nat) (p1 : Int32) (p2 : Int32) : Prop := isO X p0 2 (wpX2_isWheel (fun r_57 X_58 => ((r_57 = 0 → wpX2_cuts_26 post xpost E mc ms p0 p1 p2 X_58 0 0) ∧ (¬ r_57 = 0 → wpX1_isBetween (fun r_61 => ((r_61 = 0 → wpX2_cuts_26 post xpost E mc ms p0 p1 p2 X_58 0 0) ∧ (¬ r_61 = 0 → wpX2_cuts_27 post xpost E mc ms p0 p1 p2 1 X_58 0 0))) (Int32.toInt64 p2) 8 120))) E X p0 p1)
abbrev wsX2_cuts : List Cond := ws_ yX2_cuts cX2_cuts 4 (some .int)
set_option maxHeartbeats 8000000 in
theorem metX2_cuts (l : Launch) (hlt : l.stackTraces = false) (K : HK) (mc ms : Nat) (sz : Nat) (post : Int32 → hX → Prop) (xpost : String → Nat → hX → Prop) (X0 : hX) (p0 : Nat) (p1 : Int32) (p2 : Int32) : vx_Met l yX2_cuts wsX2_cuts (rmh 7 123 mc ms) (hPc K X0 sz [.ref p0, .int p1, .int p2] (wpX2_cuts post xpost (K.2.2 0) mc ms X0 p0 p1 p2)) (hQi post K X0 sz) (hXC xpost K X0 sz) mc ms (hA X0 sz) := by
  refine vx_ofW (cc := cX2_cuts) (maxL := 4) (ret := (some .int)) (by decide) rfl ?_
  intro p e s m args below meth c s₁ B hml hno hv
  obtain ⟨rfl, hv⟩ := hv
  obtain ⟨hC, hP, hw⟩ := HC.of hv
  have hsz : s.heap.size = sz := hv.1
  subst hsz
  clear hv
  have hout : ∀ {pc : Nat}, ∀ x ∈ c.exceptionTable.toList, covers x pc = false := fun x hx => (hno x hx).elim
  have hr := B.returns
  have hts := atoms_spec (ws := wsX2_cuts) B.pre
  have hts : ∀ w ∈ lw_all, w.before _ s = true := fun w h => hts w (List.mem_cons_of_mem _ h)
  have hF : CallFix p m c cX2_cuts 4 s ([.ref p0, .int p1, .int p2] : List Value).toArray lw_all RX2 := ⟨B.exec, B.bytes, hml, findClass_of_methodNamed B.named, hts⟩
  have hlocks := B.notSynchronized
  have hl := lv_entry ([.ref p0, .int p1, .int p2]) (n := 4) (Nat.le_of_ble_eq_true rfl)
  rw [lg_entry_eq]
  generalize (lg_sl ([.ref p0, .int p1, .int p2]) ++ List.replicate (4 - (lg_sl ([.ref p0, .int p1, .int p2])).length) Slot.unset).toArray = ls at hl ⊢
  have hl : lv_has ls 4 [(0, .ref p0), (1, .int p1), (2, .int p2)] := hl
  have hS : va_S (hA X0 s.heap.size) s.heap s.heap [] := va_S.rf
  have T80 : ∀ (x3 : Nat) (z0 : Int32) (X : hX) (kc ks : Nat) (H : Heap) (locs : List Loc) (ls : Array Slot), hI K X0 s.heap.size X H → va_S (hA X0 s.heap.size) s.heap H locs → kc ≤ mc ∧ ks ≤ ms → lv_has ls 4 [(3, .ref x3)] → wpX2_cuts_80 post xpost (K.2.2 0) mc ms x3 z0 X kc ks → W p l e (rmh 7 123 mc ms) s m ([.ref p0, .int p1, .int p2] : List Value).toArray below meth c H locs kc ks (vx_MQ below (hQi post K X0 s.heap.size) (hXC xpost K X0 s.heap.size) ([.ref p0, .int p1, .int p2] : List Value).toArray s mc ms (hA X0 s.heap.size)) (F0 m 80 ls [.int z0]) := by
    intro x3 z0 X kc ks H locs ls hP hS hk hl hw
    unfold wpX2_cuts_80 at hw
    refine lv_iconst (v := 2) hF.1 hF.2.1 dX2_cuts_80 (by decide) ?_
    obtain ⟨mc_2, ms_3, hc_4, hs_5, hw⟩ := hw
    refine hkx_v (hrx_SN (As := [.int z0, .int 2]) (rest := []) hF hl.1 hC hP hS (metX1_need l hlt K mc_2 ms_3 _ _ _ X z0 2) (va_cnB 2 hF.2.2.2.2 (lw_meth q818) rfl rfl rfl (hC.2.2.1.2.2.2.2.2.1 _ q816 rfl) (hF.2.2.2.2 _ q75) (by decide +kernel) ⟨Nat.le_of_ble_eq_true rfl, Nat.le_of_ble_eq_true rfl⟩) q817 hw rfl rfl (Nat.le_of_ble_eq_true rfl) dX2_cuts_81 ⟨hc_4, hs_5⟩) hP hS (fun E9 q9 X9 H locs hw hcl hP hS => ?_) (fun X_1 H locs hw hP hS => ?_)
    · exact h_out hout hlocks hcl hP hS ⟨hc_4, hs_5⟩ hw
    refine lv_aload_n hF.1 hF.2.1 dX2_cuts_84 rfl (lv_at hl 0 rfl) ?_
    obtain ⟨fs_6, v_7, hx_8, hv_9, hw⟩ := hw
    refine x_getN hF hC hP in_X5 rfl 1 (by decide) q863 (fun _ z => z) hx_8 hv_9 dX2_cuts_85 ?_
    exact vx_ret (h_iret hF hr hlocks hP hS ⟨hc_4, hs_5⟩ dX2_cuts_88 hw)
  have T27 : ∀ (x0 : Nat) (x1 : Int32) (x2 : Int32) (z0 : Int32) (X : hX) (kc ks : Nat) (H : Heap) (locs : List Loc) (ls : Array Slot), hI K X0 s.heap.size X H → va_S (hA X0 s.heap.size) s.heap H locs → kc ≤ mc ∧ ks ≤ ms → lv_has ls 4 [(0, .ref x0), (1, .int x1), (2, .int x2)] → wpX2_cuts_27 post xpost (K.2.2 0) mc ms x0 x1 x2 z0 X kc ks → W p l e (rmh 7 123 mc ms) s m ([.ref p0, .int p1, .int p2] : List Value).toArray below meth c H locs kc ks (vx_MQ below (hQi post K X0 s.heap.size) (hXC xpost K X0 s.heap.size) ([.ref p0, .int p1, .int p2] : List Value).toArray s mc ms (hA X0 s.heap.size)) (F0 m 27 ls [.int z0]) := by
    intro x0 x1 x2 z0 X kc ks H locs ls hP hS hk hl hw
    unfold wpX2_cuts_27 at hw
    refine lv_iconst (v := 1) hF.1 hF.2.1 dX2_cuts_27 (by decide) ?_
    obtain ⟨mc_11, ms_12, hc_13, hs_14, hw⟩ := hw
    refine hkx_v (hrx_SN (As := [.int z0, .int 1]) (rest := []) hF hl.1 hC hP hS (metX1_need l hlt K mc_11 ms_12 _ _ _ X z0 1) (va_cnB 2 hF.2.2.2.2 (lw_meth q818) rfl rfl rfl (hC.2.2.1.2.2.2.2.2.1 _ q816 rfl) (hF.2.2.2.2 _ q75) (by decide +kernel) ⟨Nat.le_of_ble_eq_true rfl, Nat.le_of_ble_eq_true rfl⟩) q817 hw rfl rfl (Nat.le_of_ble_eq_true rfl) dX2_cuts_28 ⟨hc_13, hs_14⟩) hP hS (fun E9 q9 X9 H locs hw hcl hP hS => ?_) (fun X_10 H locs hw hP hS => ?_)
    · exact h_out hout hlocks hcl hP hS ⟨hc_13, hs_14⟩ hw
    refine lv_aload_n hF.1 hF.2.1 dX2_cuts_31 rfl (lv_at hl 0 rfl) ?_
    obtain ⟨fs_15, v_16, hx_17, hv_18, hw⟩ := hw
    refine x_get hF hC hP in_X2 rfl 0 (by decide) q150 (fun _ z => z) hx_17 hv_18 dX2_cuts_32 ?_
    refine lv_iload_n hF.1 hF.2.1 dX2_cuts_35 rfl (lv_at hl 1 rfl) ?_
    refine x_new hF hC hP hS in_X5 rfl tyX5 tyX5_ok q759 q852 q95 (nfsX5) hw ⟨rfl, rfl⟩ dX2_cuts_36 (fun a_19 X_20 H pk_21c pk_21s hw hP hS => ?_)
    refine lv_dup hF.1 hF.2.1 dX2_cuts_39 rfl ?_
    refine lv_aload_n hF.1 hF.2.1 dX2_cuts_40 rfl (lv_at hl 0 rfl) ?_
    obtain ⟨fs_22, v_23, hx_24, hv_25, hw⟩ := hw
    refine x_get hF hC hP in_X2 rfl 0 (by decide) q150 (fun _ z => z) hx_24 hv_25 dX2_cuts_41 ?_
    refine lv_iload_n hF.1 hF.2.1 dX2_cuts_44 rfl (lv_at hl 1 rfl) ?_
    obtain ⟨ho_28, hw⟩ := hw
    refine hk_q (hr_V (As := [.int x1]) (rest := [.ref a_19, .ref a_19, .int x1, .ref v_16]) (T := TJ2) (N := 3) (ci := 8) hF hl.1 hC hP hS (metJ2_get l K _ _ X_20 v_23 x1) rfl (cwV 1 hF.2.2.2.2 (lw_V q758 q347 q348 q79 q349) rfl rfl rfl (by decide +kernel) ⟨Nat.le_of_ble_eq_true rfl, Nat.le_of_ble_eq_true rfl⟩) ho_28 hw rfl rfl (Nat.le_of_ble_eq_true rfl) dX2_cuts_45 ⟨pk_21c, pk_21s⟩) hP hS (fun r_26 X_27 H locs hw hP hS => ?_)
    obtain ⟨a_29, e_30, hw⟩ := hw
    subst e_30
    rw [va_rf_some]
    obtain ⟨h_31, hw⟩ := hw
    refine x_cast (T := TX5) (N := 2) (ci := 5) hF hC hP rfl q759 h_31 dX2_cuts_48 ?_
    obtain ⟨fs_32, v_33, hx_34, hv_35, hw⟩ := hw
    refine x_getN hF hC hP in_X5 rfl 0 (by decide) q859 (fun _ z => z) hx_34 hv_35 dX2_cuts_51 ?_
    refine lv_iload_n hF.1 hF.2.1 dX2_cuts_54 rfl (lv_at hl 2 rfl) ?_
    refine hk_v (hr_I (As := [.int v_33, .int x2]) (rest := [.ref a_19, .int x1, .ref v_16]) hF hl.1 hC hP hS (metX5_init l K _ _ X_27 a_19 v_33 x2) (cwI 2 hF.2.2.2.2 (lw_meth q855) rfl rfl rfl (hF.2.2.2.2 _ q95) (hF.2.2.2.2 _ q853) (hF.2.2.2.2 _ q854) rfl (by decide +kernel) ⟨Nat.le_of_ble_eq_true rfl, Nat.le_of_ble_eq_true rfl⟩) hw rfl rfl (Nat.le_of_ble_eq_true rfl) dX2_cuts_55 ⟨pk_21c, pk_21s⟩) hP hS (fun X_36 H locs hw hP hS => ?_)
    obtain ⟨ho_39, hw⟩ := hw
    refine hk_q (hr_V (As := [.int x1, .ref a_19]) (rest := []) (T := TJ2) (N := 3) (ci := 8) hF hl.1 hC hP hS (metJ2_set l K _ _ X_36 v_16 x1 a_19) rfl (cwV 2 hF.2.2.2.2 (lw_V q905 q906 q907 q79 q908) rfl rfl rfl (by decide +kernel) ⟨Nat.le_of_ble_eq_true rfl, Nat.le_of_ble_eq_true rfl⟩) ho_39 hw rfl rfl (Nat.le_of_ble_eq_true rfl) dX2_cuts_58 ⟨pk_21c, pk_21s⟩) hP hS (fun r_37 X_38 H locs hw hP hS => ?_)
    obtain ⟨a_40, e_41, hw⟩ := hw
    subst e_41
    rw [va_rf_some]
    obtain ⟨h_42, hw⟩ := hw
    refine x_cast (T := TX5) (N := 2) (ci := 5) hF hC hP rfl q759 h_42 dX2_cuts_61 ?_
    refine lv_astore_n (lv' := [(3, .ref a_40), (0, .ref x0), (1, .int x1), (2, .int x2)]) hF.1 hF.2.1 dX2_cuts_64 rfl hl (by decide) rfl (fun ls hl => ?_)
    refine lv_aload_n hF.1 hF.2.1 dX2_cuts_65 rfl (lv_at hl 1 rfl) ?_
    obtain ⟨ho_45, hw⟩ := hw
    obtain ⟨mc_46, ms_47, hc_48, hs_49, hw⟩ := hw
    refine hk_q (hr_V (As := []) (rest := []) (T := TX2) (N := 9) (ci := 2) hF hl.1 hC hP hS (metX2_drive l K mc_46 ms_47 _ _ X_38 x0) rfl (cwV 0 hF.2.2.2.2 (lw_V q896 q337 q338 q76 q339) rfl rfl rfl (by decide +kernel) ⟨Nat.le_of_ble_eq_true rfl, Nat.le_of_ble_eq_true rfl⟩) ho_45 hw rfl rfl (Nat.le_of_ble_eq_true rfl) dX2_cuts_66 ⟨hc_48, hs_49⟩) hP hS (fun r_43 X_44 H locs hw hP hS => ?_)
    obtain ⟨a_50, e_51, hw⟩ := hw
    subst e_51
    rw [va_rf_some]
    obtain ⟨fs_52, v_53, hx_54, hv_55, hw⟩ := hw
    refine x_getN hF hC hP in_X6 rfl 7 (by decide) q392 (fun _ z => z) hx_54 hv_55 dX2_cuts_69 ?_
    refine lv_if_ne (tgt := 79) hF.1 hF.2.1 dX2_cuts_72 (by decide) (fun c_56 => ?_) (fun c_56 => ?_)
    · have hw := hw.2 c_56
      refine lv_iconst (v := 0) hF.1 hF.2.1 dX2_cuts_79 (by decide) ?_
      exact T80 a_40 0 X_44 (((kc + mc_11) + 1) + mc_46) (((ks + ms_12) + 2) + ms_47) _ _ ls hP hS ⟨hc_48, hs_49⟩ (lv_sub hl [0] rfl) hw
    · have hw := hw.1 c_56
      refine lv_iconst (v := 1) hF.1 hF.2.1 dX2_cuts_75 (by decide) ?_
      refine lv_goto (tgt := 80) hF.1 hF.2.1 dX2_cuts_76 (by decide) ?_
      exact T80 a_40 1 X_44 (((kc + mc_11) + 1) + mc_46) (((ks + ms_12) + 2) + ms_47) _ _ ls hP hS ⟨hc_48, hs_49⟩ (lv_sub hl [0] rfl) hw
  have T26 : ∀ (x0 : Nat) (x1 : Int32) (x2 : Int32) (X : hX) (kc ks : Nat) (H : Heap) (locs : List Loc) (ls : Array Slot), hI K X0 s.heap.size X H → va_S (hA X0 s.heap.size) s.heap H locs → kc ≤ mc ∧ ks ≤ ms → lv_has ls 4 [(0, .ref x0), (1, .int x1), (2, .int x2)] → wpX2_cuts_26 post xpost (K.2.2 0) mc ms x0 x1 x2 X kc ks → W p l e (rmh 7 123 mc ms) s m ([.ref p0, .int p1, .int p2] : List Value).toArray below meth c H locs kc ks (vx_MQ below (hQi post K X0 s.heap.size) (hXC xpost K X0 s.heap.size) ([.ref p0, .int p1, .int p2] : List Value).toArray s mc ms (hA X0 s.heap.size)) (F0 m 26 ls []) := by
    intro x0 x1 x2 X kc ks H locs ls hP hS hk hl hw
    unfold wpX2_cuts_26 at hw
    refine lv_iconst (v := 0) hF.1 hF.2.1 dX2_cuts_26 (by decide) ?_
    exact T27 x0 x1 x2 0 X kc ks _ _ ls hP hS hk (lv_sub hl [0, 1, 2] rfl) hw
  unfold wpX2_cuts at hw
  show W p l e (rmh 7 123 mc ms) s m _ below meth c _ _ _ _ _ _
  refine lv_aload_n hF.1 hF.2.1 dX2_cuts_0 rfl (lv_at hl 0 rfl) ?_
  refine lv_iload_n hF.1 hF.2.1 dX2_cuts_1 rfl (lv_at hl 1 rfl) ?_
  obtain ⟨ho_59, hw⟩ := hw
  refine hk_i (hr_V (As := [.int p1]) (rest := []) (T := TX2) (N := 9) (ci := 2) hF hl.1 hC hP hS (metX2_isWheel l K _ _ X0 p0 p1) rfl (cwV 1 hF.2.2.2.2 (lw_V q878 q879 q880 q76 q881) rfl rfl rfl (by decide +kernel) ⟨Nat.le_of_ble_eq_true rfl, Nat.le_of_ble_eq_true rfl⟩) ho_59 hw rfl rfl (Nat.le_of_ble_eq_true rfl) dX2_cuts_2 ⟨Nat.zero_le _, Nat.zero_le _⟩) hP hS (fun r_57 X_58 H locs hw hP hS => ?_)
  refine lv_if_eq (tgt := 26) hF.1 hF.2.1 dX2_cuts_5 (by decide) (fun c_60 => ?_) (fun c_60 => ?_)
  · have hw := hw.1 c_60
    exact T26 p0 p1 p2 X_58 0 0 _ _ ls hP hS ⟨Nat.zero_le _, Nat.zero_le _⟩ (lv_sub hl [0, 1, 2] rfl) hw
  · have hw := hw.2 c_60
    refine lv_iload_n hF.1 hF.2.1 dX2_cuts_8 rfl (lv_at hl 2 rfl) ?_
    refine lv_i2l hF.1 hF.2.1 dX2_cuts_9 rfl ?_
    refine lv_ldc2 hF.1 hF.2.1 hF.2.2.2.1 (hF.2.2.2.2 _ q850) dX2_cuts_10 ?_
    refine lv_ldc2 hF.1 hF.2.1 hF.2.2.2.1 (hF.2.2.2.2 _ q851) dX2_cuts_13 ?_
    refine hp_i (hrp_SN (As := [.long (Int32.toInt64 p2), .long 8, .long 120]) (rest := []) hF hl.1 (metX1_isBetween l _ (Int32.toInt64 p2) 8 120) (va_cnB 3 hF.2.2.2.2 (lw_meth q849) rfl rfl rfl (hC.2.2.1.2.2.2.2.2.1 _ q847 rfl) (hF.2.2.2.2 _ q75) (by decide +kernel) ⟨Nat.le_of_ble_eq_true rfl, Nat.le_of_ble_eq_true rfl⟩) q848 hw rfl rfl (Nat.le_of_ble_eq_true rfl) dX2_cuts_16 ⟨Nat.zero_le _, Nat.zero_le _⟩) (fun r_61 hw => ?_)
    refine lv_if_eq (tgt := 26) hF.1 hF.2.1 dX2_cuts_19 (by decide) (fun c_62 => ?_) (fun c_62 => ?_)
    · have hw := hw.1 c_62
      exact T26 p0 p1 p2 X_58 0 0 _ _ ls hP hS ⟨Nat.zero_le _, Nat.zero_le _⟩ (lv_sub hl [0, 1, 2] rfl) hw
    · have hw := hw.2 c_62
      refine lv_iconst (v := 1) hF.1 hF.2.1 dX2_cuts_22 (by decide) ?_
      refine lv_goto (tgt := 27) hF.1 hF.2.1 dX2_cuts_23 (by decide) ?_
      exact T27 p0 p1 p2 1 X_58 0 0 _ _ ls hP hS ⟨Nat.zero_le _, Nat.zero_le _⟩ (lv_sub hl [0, 1, 2] rfl) hw
def wpX2_getsArm_48 (post : Int32 → hX → Prop) (xpost : String → Nat → hX → Prop) (E : Nat) (mc ms : Nat) (x0 : Nat) (x1 : Int32) (x2 : Int32) (z0 : Int32) (X : hX) (kc ks : Nat) : Prop := (∃ mc_2 ms_3 : Nat, kc + mc_2 ≤ mc ∧ ks + ms_3 ≤ ms ∧ wpX1_need (fun X_1 => gfA X_1 x0 2 1 (fun v_7 => newO X_1 6 [.int 0, .int 0, .int 0] 3 (kc + mc_2) (ks + ms_3) mc ms (fun a_10 X_11 => wpX7_init (fun X_13 => isO X_13 v_7 8 ((∃ mc_17 ms_18 : Nat, ((kc + mc_2) + 1) + mc_17 ≤ mc ∧ ((ks + ms_3) + 3) + ms_18 ≤ ms ∧ wpJ2_add (fun r_14 X_15 => gfA X_15 x0 2 1 (fun v_22 => isO X_15 v_22 8 (wpJ2_size (fun r_25 X_26 => post (r_25 - 1) X_26) E X_15 v_22))) E mc_17 ms_18 X_13 v_7 a_10))) E X_11 a_10 x1 x2 0))) xpost E mc_2 ms_3 X z0 2)
def wpX2_getsArm_27 (post : Int32 → hX → Prop) (xpost : String → Nat → hX → Prop) (E : Nat) (mc ms : Nat) (x0 : Nat) (x1 : Int32) (x2 : Int32) (z0 : Int32) (X : hX) (kc ks : Nat) : Prop := (∃ mc_29 ms_30 : Nat, kc + mc_29 ≤ mc ∧ ks + ms_30 ≤ ms ∧ wpX1_need (fun X_28 => gfA X_28 x0 2 1 (fun v_34 => isO X_28 v_34 8 (wpJ2_size (fun r_37 X_38 => ((6 ≤ r_37 → wpX2_getsArm_48 post xpost E mc ms x0 x1 x2 0 X_38 (kc + mc_29) (ks + ms_30)) ∧ (¬ 6 ≤ r_37 → wpX2_getsArm_48 post xpost E mc ms x0 x1 x2 1 X_38 (kc + mc_29) (ks + ms_30)))) E X_28 v_34))) xpost E mc_29 ms_30 X z0 1)
def wpX2_getsArm_26 (post : Int32 → hX → Prop) (xpost : String → Nat → hX → Prop) (E : Nat) (mc ms : Nat) (x0 : Nat) (x1 : Int32) (x2 : Int32) (X : hX) (kc ks : Nat) : Prop := wpX2_getsArm_27 post xpost E mc ms x0 x1 x2 0 X kc ks
def wpX2_getsArm (post : Int32 → hX → Prop) (xpost : String → Nat → hX → Prop) (E : Nat) (mc ms : Nat) (X : hX) (p0 : Nat) (p1 : Int32) (p2 : Int32) : Prop := isO X p0 2 (wpX2_isAxle (fun r_41 X_42 => ((r_41 = 0 → wpX2_getsArm_26 post xpost E mc ms p0 p1 p2 X_42 0 0) ∧ (¬ r_41 = 0 → wpX1_isBetween (fun r_45 => ((r_45 = 0 → wpX2_getsArm_26 post xpost E mc ms p0 p1 p2 X_42 0 0) ∧ (¬ r_45 = 0 → wpX2_getsArm_27 post xpost E mc ms p0 p1 p2 1 X_42 0 0))) (Int32.toInt64 p2) (-180) 180))) E X p0 p1)
abbrev wsX2_getsArm : List Cond := ws_ yX2_getsArm cX2_getsArm 3 (some .int)
set_option maxHeartbeats 8000000 in
theorem metX2_getsArm (l : Launch) (hlt : l.stackTraces = false) (K : HK) (mc ms : Nat) (sz : Nat) (post : Int32 → hX → Prop) (xpost : String → Nat → hX → Prop) (X0 : hX) (p0 : Nat) (p1 : Int32) (p2 : Int32) : vx_Met l yX2_getsArm wsX2_getsArm (rmh 7 191 mc ms) (hPc K X0 sz [.ref p0, .int p1, .int p2] (wpX2_getsArm post xpost (K.2.2 0) mc ms X0 p0 p1 p2)) (hQi post K X0 sz) (hXC xpost K X0 sz) mc ms (hA X0 sz) := by
  refine vx_ofW (cc := cX2_getsArm) (maxL := 3) (ret := (some .int)) (by decide) rfl ?_
  intro p e s m args below meth c s₁ B hml hno hv
  obtain ⟨rfl, hv⟩ := hv
  obtain ⟨hC, hP, hw⟩ := HC.of hv
  have hsz : s.heap.size = sz := hv.1
  subst hsz
  clear hv
  have hout : ∀ {pc : Nat}, ∀ x ∈ c.exceptionTable.toList, covers x pc = false := fun x hx => (hno x hx).elim
  have hr := B.returns
  have hts := atoms_spec (ws := wsX2_getsArm) B.pre
  have hts : ∀ w ∈ lw_all, w.before _ s = true := fun w h => hts w (List.mem_cons_of_mem _ h)
  have hF : CallFix p m c cX2_getsArm 3 s ([.ref p0, .int p1, .int p2] : List Value).toArray lw_all RX2 := ⟨B.exec, B.bytes, hml, findClass_of_methodNamed B.named, hts⟩
  have hlocks := B.notSynchronized
  have hl := lv_entry ([.ref p0, .int p1, .int p2]) (n := 3) (Nat.le_of_ble_eq_true rfl)
  rw [lg_entry_eq]
  generalize (lg_sl ([.ref p0, .int p1, .int p2]) ++ List.replicate (3 - (lg_sl ([.ref p0, .int p1, .int p2])).length) Slot.unset).toArray = ls at hl ⊢
  have hl : lv_has ls 3 [(0, .ref p0), (1, .int p1), (2, .int p2)] := hl
  have hS : va_S (hA X0 s.heap.size) s.heap s.heap [] := va_S.rf
  have T48 : ∀ (x0 : Nat) (x1 : Int32) (x2 : Int32) (z0 : Int32) (X : hX) (kc ks : Nat) (H : Heap) (locs : List Loc) (ls : Array Slot), hI K X0 s.heap.size X H → va_S (hA X0 s.heap.size) s.heap H locs → kc ≤ mc ∧ ks ≤ ms → lv_has ls 3 [(0, .ref x0), (1, .int x1), (2, .int x2)] → wpX2_getsArm_48 post xpost (K.2.2 0) mc ms x0 x1 x2 z0 X kc ks → W p l e (rmh 7 191 mc ms) s m ([.ref p0, .int p1, .int p2] : List Value).toArray below meth c H locs kc ks (vx_MQ below (hQi post K X0 s.heap.size) (hXC xpost K X0 s.heap.size) ([.ref p0, .int p1, .int p2] : List Value).toArray s mc ms (hA X0 s.heap.size)) (F0 m 48 ls [.int z0]) := by
    intro x0 x1 x2 z0 X kc ks H locs ls hP hS hk hl hw
    unfold wpX2_getsArm_48 at hw
    refine lv_iconst (v := 2) hF.1 hF.2.1 dX2_getsArm_48 (by decide) ?_
    obtain ⟨mc_2, ms_3, hc_4, hs_5, hw⟩ := hw
    refine hkx_v (hrx_SN (As := [.int z0, .int 2]) (rest := []) hF hl.1 hC hP hS (metX1_need l hlt K mc_2 ms_3 _ _ _ X z0 2) (va_cnB 2 hF.2.2.2.2 (lw_meth q818) rfl rfl rfl (hC.2.2.1.2.2.2.2.2.1 _ q816 rfl) (hF.2.2.2.2 _ q75) (by decide +kernel) ⟨Nat.le_of_ble_eq_true rfl, Nat.le_of_ble_eq_true rfl⟩) q817 hw rfl rfl (Nat.le_of_ble_eq_true rfl) dX2_getsArm_49 ⟨hc_4, hs_5⟩) hP hS (fun E9 q9 X9 H locs hw hcl hP hS => ?_) (fun X_1 H locs hw hP hS => ?_)
    · exact h_out hout hlocks hcl hP hS ⟨hc_4, hs_5⟩ hw
    refine lv_aload_n hF.1 hF.2.1 dX2_getsArm_52 rfl (lv_at hl 0 rfl) ?_
    obtain ⟨fs_6, v_7, hx_8, hv_9, hw⟩ := hw
    refine x_get hF hC hP in_X2 rfl 1 (by decide) q153 (fun _ z => z) hx_8 hv_9 dX2_getsArm_53 ?_
    refine x_new hF hC hP hS in_X7 rfl tyX7 tyX7_ok q807 q915 q97 (nfsX7) hw ⟨rfl, rfl⟩ dX2_getsArm_56 (fun a_10 X_11 H pk_12c pk_12s hw hP hS => ?_)
    refine lv_dup hF.1 hF.2.1 dX2_getsArm_59 rfl ?_
    refine lv_iload_n hF.1 hF.2.1 dX2_getsArm_60 rfl (lv_at hl 1 rfl) ?_
    refine lv_iload_n hF.1 hF.2.1 dX2_getsArm_61 rfl (lv_at hl 2 rfl) ?_
    refine lv_iconst (v := 0) hF.1 hF.2.1 dX2_getsArm_62 (by decide) ?_
    refine hk_v (hr_I (As := [.int x1, .int x2, .int 0]) (rest := [.ref a_10, .ref v_7]) hF hl.1 hC hP hS (metX7_init l K _ _ X_11 a_10 x1 x2 0) (cwI 3 hF.2.2.2.2 (lw_meth q918) rfl rfl rfl (hF.2.2.2.2 _ q97) (hF.2.2.2.2 _ q916) (hF.2.2.2.2 _ q917) rfl (by decide +kernel) ⟨Nat.le_of_ble_eq_true rfl, Nat.le_of_ble_eq_true rfl⟩) hw rfl rfl (Nat.le_of_ble_eq_true rfl) dX2_getsArm_63 ⟨pk_12c, pk_12s⟩) hP hS (fun X_13 H locs hw hP hS => ?_)
    obtain ⟨ho_16, hw⟩ := hw
    obtain ⟨mc_17, ms_18, hc_19, hs_20, hw⟩ := hw
    refine hk_i (hr_V (As := [.ref a_10]) (rest := []) (T := TJ2) (N := 3) (ci := 8) hF hl.1 hC hP hS (metJ2_add l K mc_17 ms_18 _ _ X_13 v_7 a_10) rfl (cwV 1 hF.2.2.2.2 (lw_V q760 q761 q762 q79 q763) rfl rfl rfl (by decide +kernel) ⟨Nat.le_of_ble_eq_true rfl, Nat.le_of_ble_eq_true rfl⟩) ho_16 hw rfl rfl (Nat.le_of_ble_eq_true rfl) dX2_getsArm_66 ⟨hc_19, hs_20⟩) hP hS (fun r_14 X_15 H locs hw hP hS => ?_)
    refine lv_pop hF.1 hF.2.1 dX2_getsArm_69 rfl ?_
    refine lv_aload_n hF.1 hF.2.1 dX2_getsArm_70 rfl (lv_at hl 0 rfl) ?_
    obtain ⟨fs_21, v_22, hx_23, hv_24, hw⟩ := hw
    refine x_get hF hC hP in_X2 rfl 1 (by decide) q153 (fun _ z => z) hx_23 hv_24 dX2_getsArm_71 ?_
    obtain ⟨ho_27, hw⟩ := hw
    refine hk_i (hr_V (As := []) (rest := []) (T := TJ2) (N := 3) (ci := 8) hF hl.1 hC hP hS (metJ2_size l K _ _ X_15 v_22) rfl (cwV 0 hF.2.2.2.2 (lw_V q757 q267 q268 q79 q269) rfl rfl rfl (by decide +kernel) ⟨Nat.le_of_ble_eq_true rfl, Nat.le_of_ble_eq_true rfl⟩) ho_27 hw rfl rfl (Nat.le_of_ble_eq_true rfl) dX2_getsArm_74 ⟨hc_19, hs_20⟩) hP hS (fun r_25 X_26 H locs hw hP hS => ?_)
    refine lv_iconst (v := 1) hF.1 hF.2.1 dX2_getsArm_77 (by decide) ?_
    refine lv_isub hF.1 hF.2.1 dX2_getsArm_78 ?_
    exact vx_ret (h_iret hF hr hlocks hP hS ⟨hc_19, hs_20⟩ dX2_getsArm_79 hw)
  have T27 : ∀ (x0 : Nat) (x1 : Int32) (x2 : Int32) (z0 : Int32) (X : hX) (kc ks : Nat) (H : Heap) (locs : List Loc) (ls : Array Slot), hI K X0 s.heap.size X H → va_S (hA X0 s.heap.size) s.heap H locs → kc ≤ mc ∧ ks ≤ ms → lv_has ls 3 [(0, .ref x0), (1, .int x1), (2, .int x2)] → wpX2_getsArm_27 post xpost (K.2.2 0) mc ms x0 x1 x2 z0 X kc ks → W p l e (rmh 7 191 mc ms) s m ([.ref p0, .int p1, .int p2] : List Value).toArray below meth c H locs kc ks (vx_MQ below (hQi post K X0 s.heap.size) (hXC xpost K X0 s.heap.size) ([.ref p0, .int p1, .int p2] : List Value).toArray s mc ms (hA X0 s.heap.size)) (F0 m 27 ls [.int z0]) := by
    intro x0 x1 x2 z0 X kc ks H locs ls hP hS hk hl hw
    unfold wpX2_getsArm_27 at hw
    refine lv_iconst (v := 1) hF.1 hF.2.1 dX2_getsArm_27 (by decide) ?_
    obtain ⟨mc_29, ms_30, hc_31, hs_32, hw⟩ := hw
    refine hkx_v (hrx_SN (As := [.int z0, .int 1]) (rest := []) hF hl.1 hC hP hS (metX1_need l hlt K mc_29 ms_30 _ _ _ X z0 1) (va_cnB 2 hF.2.2.2.2 (lw_meth q818) rfl rfl rfl (hC.2.2.1.2.2.2.2.2.1 _ q816 rfl) (hF.2.2.2.2 _ q75) (by decide +kernel) ⟨Nat.le_of_ble_eq_true rfl, Nat.le_of_ble_eq_true rfl⟩) q817 hw rfl rfl (Nat.le_of_ble_eq_true rfl) dX2_getsArm_28 ⟨hc_31, hs_32⟩) hP hS (fun E9 q9 X9 H locs hw hcl hP hS => ?_) (fun X_28 H locs hw hP hS => ?_)
    · exact h_out hout hlocks hcl hP hS ⟨hc_31, hs_32⟩ hw
    refine lv_aload_n hF.1 hF.2.1 dX2_getsArm_31 rfl (lv_at hl 0 rfl) ?_
    obtain ⟨fs_33, v_34, hx_35, hv_36, hw⟩ := hw
    refine x_get hF hC hP in_X2 rfl 1 (by decide) q153 (fun _ z => z) hx_35 hv_36 dX2_getsArm_32 ?_
    obtain ⟨ho_39, hw⟩ := hw
    refine hk_i (hr_V (As := []) (rest := []) (T := TJ2) (N := 3) (ci := 8) hF hl.1 hC hP hS (metJ2_size l K _ _ X_28 v_34) rfl (cwV 0 hF.2.2.2.2 (lw_V q757 q267 q268 q79 q269) rfl rfl rfl (by decide +kernel) ⟨Nat.le_of_ble_eq_true rfl, Nat.le_of_ble_eq_true rfl⟩) ho_39 hw rfl rfl (Nat.le_of_ble_eq_true rfl) dX2_getsArm_35 ⟨hc_31, hs_32⟩) hP hS (fun r_37 X_38 H locs hw hP hS => ?_)
    refine lv_bipush (v := 6) hF.1 hF.2.1 dX2_getsArm_38 (by decide) ?_
    refine lv_icmp_ge (tgt := 47) hF.1 hF.2.1 dX2_getsArm_40 (by decide) (fun c_40 => ?_) (fun c_40 => ?_)
    · have hw := hw.1 c_40
      refine lv_iconst (v := 0) hF.1 hF.2.1 dX2_getsArm_47 (by decide) ?_
      exact T48 x0 x1 x2 0 X_38 (kc + mc_29) (ks + ms_30) _ _ ls hP hS ⟨hc_31, hs_32⟩ (lv_sub hl [0, 1, 2] rfl) hw
    · have hw := hw.2 c_40
      refine lv_iconst (v := 1) hF.1 hF.2.1 dX2_getsArm_43 (by decide) ?_
      refine lv_goto (tgt := 48) hF.1 hF.2.1 dX2_getsArm_44 (by decide) ?_
      exact T48 x0 x1 x2 1 X_38 (kc + mc_29) (ks + ms_30) _ _ ls hP hS ⟨hc_31, hs_32⟩ (lv_sub hl [0, 1, 2] rfl) hw
  have T26 : ∀ (x0 : Nat) (x1 : Int32) (x2 : Int32) (X : hX) (kc ks : Nat) (H : Heap) (locs : List Loc) (ls : Array Slot), hI K X0 s.heap.size X H → va_S (hA X0 s.heap.size) s.heap H locs → kc ≤ mc ∧ ks ≤ ms → lv_has ls 3 [(0, .ref x0), (1, .int x1), (2, .int x2)] → wpX2_getsArm_26 post xpost (K.2.2 0) mc ms x0 x1 x2 X kc ks → W p l e (rmh 7 191 mc ms) s m ([.ref p0, .int p1, .int p2] : List Value).toArray below meth c H locs kc ks (vx_MQ below (hQi post K X0 s.heap.size) (hXC xpost K X0 s.heap.size) ([.ref p0, .int p1, .int p2] : List Value).toArray s mc ms (hA X0 s.heap.size)) (F0 m 26 ls []) := by
    intro x0 x1 x2 X kc ks H locs ls hP hS hk hl hw
    unfold wpX2_getsArm_26 at hw
    refine lv_iconst (v := 0) hF.1 hF.2.1 dX2_getsArm_26 (by decide) ?_
    exact T27 x0 x1 x2 0 X kc ks _ _ ls hP hS hk (lv_sub hl [0, 1, 2] rfl) hw
  unfold wpX2_getsArm at hw
  show W p l e (rmh 7 191 mc ms) s m _ below meth c _ _ _ _ _ _
  refine lv_aload_n hF.1 hF.2.1 dX2_getsArm_0 rfl (lv_at hl 0 rfl) ?_
  refine lv_iload_n hF.1 hF.2.1 dX2_getsArm_1 rfl (lv_at hl 1 rfl) ?_
  obtain ⟨ho_43, hw⟩ := hw
  refine hk_i (hr_V (As := [.int p1]) (rest := []) (T := TX2) (N := 9) (ci := 2) hF hl.1 hC hP hS (metX2_isAxle l K _ _ X0 p0 p1) rfl (cwV 1 hF.2.2.2.2 (lw_V q843 q844 q845 q76 q846) rfl rfl rfl (by decide +kernel) ⟨Nat.le_of_ble_eq_true rfl, Nat.le_of_ble_eq_true rfl⟩) ho_43 hw rfl rfl (Nat.le_of_ble_eq_true rfl) dX2_getsArm_2 ⟨Nat.zero_le _, Nat.zero_le _⟩) hP hS (fun r_41 X_42 H locs hw hP hS => ?_)
  refine lv_if_eq (tgt := 26) hF.1 hF.2.1 dX2_getsArm_5 (by decide) (fun c_44 => ?_) (fun c_44 => ?_)
  · have hw := hw.1 c_44
    exact T26 p0 p1 p2 X_42 0 0 _ _ ls hP hS ⟨Nat.zero_le _, Nat.zero_le _⟩ (lv_sub hl [0, 1, 2] rfl) hw
  · have hw := hw.2 c_44
    refine lv_iload_n hF.1 hF.2.1 dX2_getsArm_8 rfl (lv_at hl 2 rfl) ?_
    refine lv_i2l hF.1 hF.2.1 dX2_getsArm_9 rfl ?_
    refine lv_ldc2 hF.1 hF.2.1 hF.2.2.2.1 (hF.2.2.2.2 _ q913) dX2_getsArm_10 ?_
    refine lv_ldc2 hF.1 hF.2.1 hF.2.2.2.1 (hF.2.2.2.2 _ q914) dX2_getsArm_13 ?_
    refine hp_i (hrp_SN (As := [.long (Int32.toInt64 p2), .long (-180), .long 180]) (rest := []) hF hl.1 (metX1_isBetween l _ (Int32.toInt64 p2) (-180) 180) (va_cnB 3 hF.2.2.2.2 (lw_meth q849) rfl rfl rfl (hC.2.2.1.2.2.2.2.2.1 _ q847 rfl) (hF.2.2.2.2 _ q75) (by decide +kernel) ⟨Nat.le_of_ble_eq_true rfl, Nat.le_of_ble_eq_true rfl⟩) q848 hw rfl rfl (Nat.le_of_ble_eq_true rfl) dX2_getsArm_16 ⟨Nat.zero_le _, Nat.zero_le _⟩) (fun r_45 hw => ?_)
    refine lv_if_eq (tgt := 26) hF.1 hF.2.1 dX2_getsArm_19 (by decide) (fun c_46 => ?_) (fun c_46 => ?_)
    · have hw := hw.1 c_46
      exact T26 p0 p1 p2 X_42 0 0 _ _ ls hP hS ⟨Nat.zero_le _, Nat.zero_le _⟩ (lv_sub hl [0, 1, 2] rfl) hw
    · have hw := hw.2 c_46
      refine lv_iconst (v := 1) hF.1 hF.2.1 dX2_getsArm_22 (by decide) ?_
      refine lv_goto (tgt := 27) hF.1 hF.2.1 dX2_getsArm_23 (by decide) ?_
      exact T27 p0 p1 p2 1 X_42 0 0 _ _ ls hP hS ⟨Nat.zero_le _, Nat.zero_le _⟩ (lv_sub hl [0, 1, 2] rfl) hw
def wpX2_bends_27 (post : Int32 → hX → Prop) (xpost : String → Nat → hX → Prop) (E : Nat) (mc ms : Nat) (x0 : Nat) (x1 : Int32) (x2 : Int32) (z0 : Int32) (X : hX) (kc ks : Nat) : Prop := (∃ mc_2 ms_3 : Nat, kc + mc_2 ≤ mc ∧ ks + ms_3 ≤ ms ∧ wpX1_need (fun X_1 => gfA X_1 x0 2 1 (fun v_7 => isO X_1 v_7 8 (wpJ2_get (fun r_10 X_11 => (∃ a_13 : Nat, r_10 = some a_13 ∧ ((∃ fs, X_11 a_13 = some (.inr (6, fs))) ∧ gfA X_11 x0 2 1 (fun v_17 => newO X_11 6 [.int 0, .int 0, .int 0] 3 (kc + mc_2) (ks + ms_3) mc ms (fun a_20 X_21 => gfI X_21 a_13 6 0 (fun v_24 => gfI X_21 a_13 6 2 (fun v_28 => wpX7_init (fun X_31 => isO X_31 v_17 8 (wpJ2_set (fun r_32 X_33 => (∃ a_35 : Nat, r_32 = some a_35 ∧ ((∃ fs, X_33 a_35 = some (.inr (6, fs))) ∧ gfI X_33 a_35 6 1 (fun v_39 => post v_39 X_33)))) E X_31 v_17 x1 a_20)) E X_21 a_20 v_24 x2 v_28))))))) E X_1 v_7 x1))) xpost E mc_2 ms_3 X z0 1)
def wpX2_bends_26 (post : Int32 → hX → Prop) (xpost : String → Nat → hX → Prop) (E : Nat) (mc ms : Nat) (x0 : Nat) (x1 : Int32) (x2 : Int32) (X : hX) (kc ks : Nat) : Prop := wpX2_bends_27 post xpost E mc ms x0 x1 x2 0 X kc ks
def wpX2_bends (post : Int32 → hX → Prop) (xpost : String → Nat → hX → Prop) (E : Nat) (mc ms : Nat) (X : hX) (p0 : Nat) (p1 : Int32) (p2 : Int32) : Prop := isO X p0 2 (wpX2_isArm (fun r_42 X_43 => ((r_42 = 0 → wpX2_bends_26 post xpost E mc ms p0 p1 p2 X_43 0 0) ∧ (¬ r_42 = 0 → wpX1_isBetween (fun r_46 => ((r_46 = 0 → wpX2_bends_26 post xpost E mc ms p0 p1 p2 X_43 0 0) ∧ (¬ r_46 = 0 → wpX2_bends_27 post xpost E mc ms p0 p1 p2 1 X_43 0 0))) (Int32.toInt64 p2) (-180) 180))) E X p0 p1)
abbrev wsX2_bends : List Cond := ws_ yX2_bends cX2_bends 5 (some .int)
set_option maxHeartbeats 8000000 in
theorem metX2_bends (l : Launch) (hlt : l.stackTraces = false) (K : HK) (mc ms : Nat) (sz : Nat) (post : Int32 → hX → Prop) (xpost : String → Nat → hX → Prop) (X0 : hX) (p0 : Nat) (p1 : Int32) (p2 : Int32) : vx_Met l yX2_bends wsX2_bends (rmh 7 116 mc ms) (hPc K X0 sz [.ref p0, .int p1, .int p2] (wpX2_bends post xpost (K.2.2 0) mc ms X0 p0 p1 p2)) (hQi post K X0 sz) (hXC xpost K X0 sz) mc ms (hA X0 sz) := by
  refine vx_ofW (cc := cX2_bends) (maxL := 5) (ret := (some .int)) (by decide) rfl ?_
  intro p e s m args below meth c s₁ B hml hno hv
  obtain ⟨rfl, hv⟩ := hv
  obtain ⟨hC, hP, hw⟩ := HC.of hv
  have hsz : s.heap.size = sz := hv.1
  subst hsz
  clear hv
  have hout : ∀ {pc : Nat}, ∀ x ∈ c.exceptionTable.toList, covers x pc = false := fun x hx => (hno x hx).elim
  have hr := B.returns
  have hts := atoms_spec (ws := wsX2_bends) B.pre
  have hts : ∀ w ∈ lw_all, w.before _ s = true := fun w h => hts w (List.mem_cons_of_mem _ h)
  have hF : CallFix p m c cX2_bends 5 s ([.ref p0, .int p1, .int p2] : List Value).toArray lw_all RX2 := ⟨B.exec, B.bytes, hml, findClass_of_methodNamed B.named, hts⟩
  have hlocks := B.notSynchronized
  have hl := lv_entry ([.ref p0, .int p1, .int p2]) (n := 5) (Nat.le_of_ble_eq_true rfl)
  rw [lg_entry_eq]
  generalize (lg_sl ([.ref p0, .int p1, .int p2]) ++ List.replicate (5 - (lg_sl ([.ref p0, .int p1, .int p2])).length) Slot.unset).toArray = ls at hl ⊢
  have hl : lv_has ls 5 [(0, .ref p0), (1, .int p1), (2, .int p2)] := hl
  have hS : va_S (hA X0 s.heap.size) s.heap s.heap [] := va_S.rf
  have T27 : ∀ (x0 : Nat) (x1 : Int32) (x2 : Int32) (z0 : Int32) (X : hX) (kc ks : Nat) (H : Heap) (locs : List Loc) (ls : Array Slot), hI K X0 s.heap.size X H → va_S (hA X0 s.heap.size) s.heap H locs → kc ≤ mc ∧ ks ≤ ms → lv_has ls 5 [(0, .ref x0), (1, .int x1), (2, .int x2)] → wpX2_bends_27 post xpost (K.2.2 0) mc ms x0 x1 x2 z0 X kc ks → W p l e (rmh 7 116 mc ms) s m ([.ref p0, .int p1, .int p2] : List Value).toArray below meth c H locs kc ks (vx_MQ below (hQi post K X0 s.heap.size) (hXC xpost K X0 s.heap.size) ([.ref p0, .int p1, .int p2] : List Value).toArray s mc ms (hA X0 s.heap.size)) (F0 m 27 ls [.int z0]) := by
    intro x0 x1 x2 z0 X kc ks H locs ls hP hS hk hl hw
    unfold wpX2_bends_27 at hw
    refine lv_iconst (v := 1) hF.1 hF.2.1 dX2_bends_27 (by decide) ?_
    obtain ⟨mc_2, ms_3, hc_4, hs_5, hw⟩ := hw
    refine hkx_v (hrx_SN (As := [.int z0, .int 1]) (rest := []) hF hl.1 hC hP hS (metX1_need l hlt K mc_2 ms_3 _ _ _ X z0 1) (va_cnB 2 hF.2.2.2.2 (lw_meth q818) rfl rfl rfl (hC.2.2.1.2.2.2.2.2.1 _ q816 rfl) (hF.2.2.2.2 _ q75) (by decide +kernel) ⟨Nat.le_of_ble_eq_true rfl, Nat.le_of_ble_eq_true rfl⟩) q817 hw rfl rfl (Nat.le_of_ble_eq_true rfl) dX2_bends_28 ⟨hc_4, hs_5⟩) hP hS (fun E9 q9 X9 H locs hw hcl hP hS => ?_) (fun X_1 H locs hw hP hS => ?_)
    · exact h_out hout hlocks hcl hP hS ⟨hc_4, hs_5⟩ hw
    refine lv_aload_n hF.1 hF.2.1 dX2_bends_31 rfl (lv_at hl 0 rfl) ?_
    obtain ⟨fs_6, v_7, hx_8, hv_9, hw⟩ := hw
    refine x_get hF hC hP in_X2 rfl 1 (by decide) q153 (fun _ z => z) hx_8 hv_9 dX2_bends_32 ?_
    refine lv_iload_n hF.1 hF.2.1 dX2_bends_35 rfl (lv_at hl 1 rfl) ?_
    obtain ⟨ho_12, hw⟩ := hw
    refine hk_q (hr_V (As := [.int x1]) (rest := []) (T := TJ2) (N := 3) (ci := 8) hF hl.1 hC hP hS (metJ2_get l K _ _ X_1 v_7 x1) rfl (cwV 1 hF.2.2.2.2 (lw_V q758 q347 q348 q79 q349) rfl rfl rfl (by decide +kernel) ⟨Nat.le_of_ble_eq_true rfl, Nat.le_of_ble_eq_true rfl⟩) ho_12 hw rfl rfl (Nat.le_of_ble_eq_true rfl) dX2_bends_36 ⟨hc_4, hs_5⟩) hP hS (fun r_10 X_11 H locs hw hP hS => ?_)
    obtain ⟨a_13, e_14, hw⟩ := hw
    subst e_14
    rw [va_rf_some]
    obtain ⟨h_15, hw⟩ := hw
    refine x_cast (T := TX7) (N := 3) (ci := 6) hF hC hP rfl q807 h_15 dX2_bends_39 ?_
    refine lv_astore_n (lv' := [(3, .ref a_13), (0, .ref x0), (1, .int x1), (2, .int x2)]) hF.1 hF.2.1 dX2_bends_42 rfl hl (by decide) rfl (fun ls hl => ?_)
    refine lv_aload_n hF.1 hF.2.1 dX2_bends_43 rfl (lv_at hl 1 rfl) ?_
    obtain ⟨fs_16, v_17, hx_18, hv_19, hw⟩ := hw
    refine x_get hF hC hP in_X2 rfl 1 (by decide) q153 (fun _ z => z) hx_18 hv_19 dX2_bends_44 ?_
    refine lv_iload_n hF.1 hF.2.1 dX2_bends_47 rfl (lv_at hl 2 rfl) ?_
    refine x_new hF hC hP hS in_X7 rfl tyX7 tyX7_ok q807 q915 q97 (nfsX7) hw ⟨rfl, rfl⟩ dX2_bends_48 (fun a_20 X_21 H pk_22c pk_22s hw hP hS => ?_)
    refine lv_dup hF.1 hF.2.1 dX2_bends_51 rfl ?_
    refine lv_aload_n hF.1 hF.2.1 dX2_bends_52 rfl (lv_at hl 0 rfl) ?_
    obtain ⟨fs_23, v_24, hx_25, hv_26, hw⟩ := hw
    refine x_getN hF hC hP in_X7 rfl 0 (by decide) q921 (fun _ z => z) hx_25 hv_26 dX2_bends_53 ?_
    refine lv_iload_n hF.1 hF.2.1 dX2_bends_56 rfl (lv_at hl 3 rfl) ?_
    refine lv_aload_n hF.1 hF.2.1 dX2_bends_57 rfl (lv_at hl 0 rfl) ?_
    obtain ⟨fs_27, v_28, hx_29, hv_30, hw⟩ := hw
    refine x_getN hF hC hP in_X7 rfl 2 (by decide) q927 (fun _ z => z) hx_29 hv_30 dX2_bends_58 ?_
    refine hk_v (hr_I (As := [.int v_24, .int x2, .int v_28]) (rest := [.ref a_20, .int x1, .ref v_17]) hF hl.1 hC hP hS (metX7_init l K _ _ X_21 a_20 v_24 x2 v_28) (cwI 3 hF.2.2.2.2 (lw_meth q918) rfl rfl rfl (hF.2.2.2.2 _ q97) (hF.2.2.2.2 _ q916) (hF.2.2.2.2 _ q917) rfl (by decide +kernel) ⟨Nat.le_of_ble_eq_true rfl, Nat.le_of_ble_eq_true rfl⟩) hw rfl rfl (Nat.le_of_ble_eq_true rfl) dX2_bends_61 ⟨pk_22c, pk_22s⟩) hP hS (fun X_31 H locs hw hP hS => ?_)
    obtain ⟨ho_34, hw⟩ := hw
    refine hk_q (hr_V (As := [.int x1, .ref a_20]) (rest := []) (T := TJ2) (N := 3) (ci := 8) hF hl.1 hC hP hS (metJ2_set l K _ _ X_31 v_17 x1 a_20) rfl (cwV 2 hF.2.2.2.2 (lw_V q905 q906 q907 q79 q908) rfl rfl rfl (by decide +kernel) ⟨Nat.le_of_ble_eq_true rfl, Nat.le_of_ble_eq_true rfl⟩) ho_34 hw rfl rfl (Nat.le_of_ble_eq_true rfl) dX2_bends_64 ⟨pk_22c, pk_22s⟩) hP hS (fun r_32 X_33 H locs hw hP hS => ?_)
    obtain ⟨a_35, e_36, hw⟩ := hw
    subst e_36
    rw [va_rf_some]
    obtain ⟨h_37, hw⟩ := hw
    refine x_cast (T := TX7) (N := 3) (ci := 6) hF hC hP rfl q807 h_37 dX2_bends_67 ?_
    refine lv_astore (lv' := [(4, .ref a_35), (3, .ref a_13), (0, .ref x0), (1, .int x1), (2, .int x2)]) hF.1 hF.2.1 dX2_bends_70 hl (by decide) rfl (fun ls hl => ?_)
    refine lv_aload hF.1 hF.2.1 dX2_bends_72 (lv_at hl 0 rfl) ?_
    obtain ⟨fs_38, v_39, hx_40, hv_41, hw⟩ := hw
    refine x_getN hF hC hP in_X7 rfl 1 (by decide) q924 (fun _ z => z) hx_40 hv_41 dX2_bends_74 ?_
    exact vx_ret (h_iret hF hr hlocks hP hS ⟨pk_22c, pk_22s⟩ dX2_bends_77 hw)
  have T26 : ∀ (x0 : Nat) (x1 : Int32) (x2 : Int32) (X : hX) (kc ks : Nat) (H : Heap) (locs : List Loc) (ls : Array Slot), hI K X0 s.heap.size X H → va_S (hA X0 s.heap.size) s.heap H locs → kc ≤ mc ∧ ks ≤ ms → lv_has ls 5 [(0, .ref x0), (1, .int x1), (2, .int x2)] → wpX2_bends_26 post xpost (K.2.2 0) mc ms x0 x1 x2 X kc ks → W p l e (rmh 7 116 mc ms) s m ([.ref p0, .int p1, .int p2] : List Value).toArray below meth c H locs kc ks (vx_MQ below (hQi post K X0 s.heap.size) (hXC xpost K X0 s.heap.size) ([.ref p0, .int p1, .int p2] : List Value).toArray s mc ms (hA X0 s.heap.size)) (F0 m 26 ls []) := by
    intro x0 x1 x2 X kc ks H locs ls hP hS hk hl hw
    unfold wpX2_bends_26 at hw
    refine lv_iconst (v := 0) hF.1 hF.2.1 dX2_bends_26 (by decide) ?_
    exact T27 x0 x1 x2 0 X kc ks _ _ ls hP hS hk (lv_sub hl [0, 1, 2] rfl) hw
  unfold wpX2_bends at hw
  show W p l e (rmh 7 116 mc ms) s m _ below meth c _ _ _ _ _ _
  refine lv_aload_n hF.1 hF.2.1 dX2_bends_0 rfl (lv_at hl 0 rfl) ?_
  refine lv_iload_n hF.1 hF.2.1 dX2_bends_1 rfl (lv_at hl 1 rfl) ?_
  obtain ⟨ho_44, hw⟩ := hw
  refine hk_i (hr_V (As := [.int p1]) (rest := []) (T := TX2) (N := 9) (ci := 2) hF hl.1 hC hP hS (metX2_isArm l K _ _ X0 p0 p1) rfl (cwV 1 hF.2.2.2.2 (lw_V q940 q941 q942 q76 q943) rfl rfl rfl (by decide +kernel) ⟨Nat.le_of_ble_eq_true rfl, Nat.le_of_ble_eq_true rfl⟩) ho_44 hw rfl rfl (Nat.le_of_ble_eq_true rfl) dX2_bends_2 ⟨Nat.zero_le _, Nat.zero_le _⟩) hP hS (fun r_42 X_43 H locs hw hP hS => ?_)
  refine lv_if_eq (tgt := 26) hF.1 hF.2.1 dX2_bends_5 (by decide) (fun c_45 => ?_) (fun c_45 => ?_)
  · have hw := hw.1 c_45
    exact T26 p0 p1 p2 X_43 0 0 _ _ ls hP hS ⟨Nat.zero_le _, Nat.zero_le _⟩ (lv_sub hl [0, 1, 2] rfl) hw
  · have hw := hw.2 c_45
    refine lv_iload_n hF.1 hF.2.1 dX2_bends_8 rfl (lv_at hl 2 rfl) ?_
    refine lv_i2l hF.1 hF.2.1 dX2_bends_9 rfl ?_
    refine lv_ldc2 hF.1 hF.2.1 hF.2.2.2.1 (hF.2.2.2.2 _ q913) dX2_bends_10 ?_
    refine lv_ldc2 hF.1 hF.2.1 hF.2.2.2.1 (hF.2.2.2.2 _ q914) dX2_bends_13 ?_
    refine hp_i (hrp_SN (As := [.long (Int32.toInt64 p2), .long (-180), .long 180]) (rest := []) hF hl.1 (metX1_isBetween l _ (Int32.toInt64 p2) (-180) 180) (va_cnB 3 hF.2.2.2.2 (lw_meth q849) rfl rfl rfl (hC.2.2.1.2.2.2.2.2.1 _ q847 rfl) (hF.2.2.2.2 _ q75) (by decide +kernel) ⟨Nat.le_of_ble_eq_true rfl, Nat.le_of_ble_eq_true rfl⟩) q848 hw rfl rfl (Nat.le_of_ble_eq_true rfl) dX2_bends_16 ⟨Nat.zero_le _, Nat.zero_le _⟩) (fun r_46 hw => ?_)
    refine lv_if_eq (tgt := 26) hF.1 hF.2.1 dX2_bends_19 (by decide) (fun c_47 => ?_) (fun c_47 => ?_)
    · have hw := hw.1 c_47
      exact T26 p0 p1 p2 X_43 0 0 _ _ ls hP hS ⟨Nat.zero_le _, Nat.zero_le _⟩ (lv_sub hl [0, 1, 2] rfl) hw
    · have hw := hw.2 c_47
      refine lv_iconst (v := 1) hF.1 hF.2.1 dX2_bends_22 (by decide) ?_
      refine lv_goto (tgt := 27) hF.1 hF.2.1 dX2_bends_23 (by decide) ?_
      exact T27 p0 p1 p2 1 X_43 0 0 _ _ ls hP hS ⟨Nat.zero_le _, Nat.zero_le _⟩ (lv_sub hl [0, 1, 2] rfl) hw
def wpX2_getsMoon_41 (post : Int32 → hX → Prop) (xpost : String → Nat → hX → Prop) (E : Nat) (mc ms : Nat) (x0 : Nat) (x1 : Int32) (x2 : Int32) (z0 : Int32) (X : hX) (kc ks : Nat) : Prop := (∃ mc_2 ms_3 : Nat, kc + mc_2 ≤ mc ∧ ks + ms_3 ≤ ms ∧ wpX1_need (fun X_1 => gfA X_1 x0 2 2 (fun v_7 => newO X_1 7 [.int 0, .int 0] 2 (kc + mc_2) (ks + ms_3) mc ms (fun a_10 X_11 => wpX8_init (fun X_13 => isO X_13 v_7 8 ((∃ mc_17 ms_18 : Nat, ((kc + mc_2) + 1) + mc_17 ≤ mc ∧ ((ks + ms_3) + 2) + ms_18 ≤ ms ∧ wpJ2_add (fun r_14 X_15 => gfA X_15 x0 2 2 (fun v_22 => isO X_15 v_22 8 (wpJ2_size (fun r_25 X_26 => post (r_25 - 1) X_26) E X_15 v_22))) E mc_17 ms_18 X_13 v_7 a_10))) E X_11 a_10 x1 x2))) xpost E mc_2 ms_3 X z0 2)
def wpX2_getsMoon_21 (post : Int32 → hX → Prop) (xpost : String → Nat → hX → Prop) (E : Nat) (mc ms : Nat) (x0 : Nat) (x1 : Int32) (x2 : Int32) (z0 : Int32) (X : hX) (kc ks : Nat) : Prop := (∃ mc_29 ms_30 : Nat, kc + mc_29 ≤ mc ∧ ks + ms_30 ≤ ms ∧ wpX1_need (fun X_28 => gfA X_28 x0 2 2 (fun v_34 => isO X_28 v_34 8 (wpJ2_size (fun r_37 X_38 => ((4 ≤ r_37 → wpX2_getsMoon_41 post xpost E mc ms x0 x1 x2 0 X_38 (kc + mc_29) (ks + ms_30)) ∧ (¬ 4 ≤ r_37 → wpX2_getsMoon_41 post xpost E mc ms x0 x1 x2 1 X_38 (kc + mc_29) (ks + ms_30)))) E X_28 v_34))) xpost E mc_29 ms_30 X z0 1)
def wpX2_getsMoon_20 (post : Int32 → hX → Prop) (xpost : String → Nat → hX → Prop) (E : Nat) (mc ms : Nat) (x0 : Nat) (x1 : Int32) (x2 : Int32) (X : hX) (kc ks : Nat) : Prop := wpX2_getsMoon_21 post xpost E mc ms x0 x1 x2 0 X kc ks
def wpX2_getsMoon (post : Int32 → hX → Prop) (xpost : String → Nat → hX → Prop) (E : Nat) (mc ms : Nat) (X : hX) (p0 : Nat) (p1 : Int32) (p2 : Int32) : Prop := isO X p0 2 (wpX2_isArm (fun r_41 X_42 => ((r_41 = 0 → wpX2_getsMoon_20 post xpost E mc ms p0 p1 p2 X_42 0 0) ∧ (¬ r_41 = 0 → isO X_42 p0 2 (wpX2_isAxle (fun r_45 X_46 => ((r_45 = 0 → wpX2_getsMoon_20 post xpost E mc ms p0 p1 p2 X_46 0 0) ∧ (¬ r_45 = 0 → wpX2_getsMoon_21 post xpost E mc ms p0 p1 p2 1 X_46 0 0))) E X_42 p0 p2)))) E X p0 p1)
abbrev wsX2_getsMoon : List Cond := ws_ yX2_getsMoon cX2_getsMoon 3 (some .int)
set_option maxHeartbeats 8000000 in
theorem metX2_getsMoon (l : Launch) (hlt : l.stackTraces = false) (K : HK) (mc ms : Nat) (sz : Nat) (post : Int32 → hX → Prop) (xpost : String → Nat → hX → Prop) (X0 : hX) (p0 : Nat) (p1 : Int32) (p2 : Int32) : vx_Met l yX2_getsMoon wsX2_getsMoon (rmh 7 191 mc ms) (hPc K X0 sz [.ref p0, .int p1, .int p2] (wpX2_getsMoon post xpost (K.2.2 0) mc ms X0 p0 p1 p2)) (hQi post K X0 sz) (hXC xpost K X0 sz) mc ms (hA X0 sz) := by
  refine vx_ofW (cc := cX2_getsMoon) (maxL := 3) (ret := (some .int)) (by decide) rfl ?_
  intro p e s m args below meth c s₁ B hml hno hv
  obtain ⟨rfl, hv⟩ := hv
  obtain ⟨hC, hP, hw⟩ := HC.of hv
  have hsz : s.heap.size = sz := hv.1
  subst hsz
  clear hv
  have hout : ∀ {pc : Nat}, ∀ x ∈ c.exceptionTable.toList, covers x pc = false := fun x hx => (hno x hx).elim
  have hr := B.returns
  have hts := atoms_spec (ws := wsX2_getsMoon) B.pre
  have hts : ∀ w ∈ lw_all, w.before _ s = true := fun w h => hts w (List.mem_cons_of_mem _ h)
  have hF : CallFix p m c cX2_getsMoon 3 s ([.ref p0, .int p1, .int p2] : List Value).toArray lw_all RX2 := ⟨B.exec, B.bytes, hml, findClass_of_methodNamed B.named, hts⟩
  have hlocks := B.notSynchronized
  have hl := lv_entry ([.ref p0, .int p1, .int p2]) (n := 3) (Nat.le_of_ble_eq_true rfl)
  rw [lg_entry_eq]
  generalize (lg_sl ([.ref p0, .int p1, .int p2]) ++ List.replicate (3 - (lg_sl ([.ref p0, .int p1, .int p2])).length) Slot.unset).toArray = ls at hl ⊢
  have hl : lv_has ls 3 [(0, .ref p0), (1, .int p1), (2, .int p2)] := hl
  have hS : va_S (hA X0 s.heap.size) s.heap s.heap [] := va_S.rf
  have T41 : ∀ (x0 : Nat) (x1 : Int32) (x2 : Int32) (z0 : Int32) (X : hX) (kc ks : Nat) (H : Heap) (locs : List Loc) (ls : Array Slot), hI K X0 s.heap.size X H → va_S (hA X0 s.heap.size) s.heap H locs → kc ≤ mc ∧ ks ≤ ms → lv_has ls 3 [(0, .ref x0), (1, .int x1), (2, .int x2)] → wpX2_getsMoon_41 post xpost (K.2.2 0) mc ms x0 x1 x2 z0 X kc ks → W p l e (rmh 7 191 mc ms) s m ([.ref p0, .int p1, .int p2] : List Value).toArray below meth c H locs kc ks (vx_MQ below (hQi post K X0 s.heap.size) (hXC xpost K X0 s.heap.size) ([.ref p0, .int p1, .int p2] : List Value).toArray s mc ms (hA X0 s.heap.size)) (F0 m 41 ls [.int z0]) := by
    intro x0 x1 x2 z0 X kc ks H locs ls hP hS hk hl hw
    unfold wpX2_getsMoon_41 at hw
    refine lv_iconst (v := 2) hF.1 hF.2.1 dX2_getsMoon_41 (by decide) ?_
    obtain ⟨mc_2, ms_3, hc_4, hs_5, hw⟩ := hw
    refine hkx_v (hrx_SN (As := [.int z0, .int 2]) (rest := []) hF hl.1 hC hP hS (metX1_need l hlt K mc_2 ms_3 _ _ _ X z0 2) (va_cnB 2 hF.2.2.2.2 (lw_meth q818) rfl rfl rfl (hC.2.2.1.2.2.2.2.2.1 _ q816 rfl) (hF.2.2.2.2 _ q75) (by decide +kernel) ⟨Nat.le_of_ble_eq_true rfl, Nat.le_of_ble_eq_true rfl⟩) q817 hw rfl rfl (Nat.le_of_ble_eq_true rfl) dX2_getsMoon_42 ⟨hc_4, hs_5⟩) hP hS (fun E9 q9 X9 H locs hw hcl hP hS => ?_) (fun X_1 H locs hw hP hS => ?_)
    · exact h_out hout hlocks hcl hP hS ⟨hc_4, hs_5⟩ hw
    refine lv_aload_n hF.1 hF.2.1 dX2_getsMoon_45 rfl (lv_at hl 0 rfl) ?_
    obtain ⟨fs_6, v_7, hx_8, hv_9, hw⟩ := hw
    refine x_get hF hC hP in_X2 rfl 2 (by decide) q155 (fun _ z => z) hx_8 hv_9 dX2_getsMoon_46 ?_
    refine x_new hF hC hP hS in_X8 rfl tyX8 tyX8_ok q808 q948 q98 (nfsX8) hw ⟨rfl, rfl⟩ dX2_getsMoon_49 (fun a_10 X_11 H pk_12c pk_12s hw hP hS => ?_)
    refine lv_dup hF.1 hF.2.1 dX2_getsMoon_52 rfl ?_
    refine lv_iload_n hF.1 hF.2.1 dX2_getsMoon_53 rfl (lv_at hl 1 rfl) ?_
    refine lv_iload_n hF.1 hF.2.1 dX2_getsMoon_54 rfl (lv_at hl 2 rfl) ?_
    refine hk_v (hr_I (As := [.int x1, .int x2]) (rest := [.ref a_10, .ref v_7]) hF hl.1 hC hP hS (metX8_init l K _ _ X_11 a_10 x1 x2) (cwI 2 hF.2.2.2.2 (lw_meth q951) rfl rfl rfl (hF.2.2.2.2 _ q98) (hF.2.2.2.2 _ q949) (hF.2.2.2.2 _ q950) rfl (by decide +kernel) ⟨Nat.le_of_ble_eq_true rfl, Nat.le_of_ble_eq_true rfl⟩) hw rfl rfl (Nat.le_of_ble_eq_true rfl) dX2_getsMoon_55 ⟨pk_12c, pk_12s⟩) hP hS (fun X_13 H locs hw hP hS => ?_)
    obtain ⟨ho_16, hw⟩ := hw
    obtain ⟨mc_17, ms_18, hc_19, hs_20, hw⟩ := hw
    refine hk_i (hr_V (As := [.ref a_10]) (rest := []) (T := TJ2) (N := 3) (ci := 8) hF hl.1 hC hP hS (metJ2_add l K mc_17 ms_18 _ _ X_13 v_7 a_10) rfl (cwV 1 hF.2.2.2.2 (lw_V q760 q761 q762 q79 q763) rfl rfl rfl (by decide +kernel) ⟨Nat.le_of_ble_eq_true rfl, Nat.le_of_ble_eq_true rfl⟩) ho_16 hw rfl rfl (Nat.le_of_ble_eq_true rfl) dX2_getsMoon_58 ⟨hc_19, hs_20⟩) hP hS (fun r_14 X_15 H locs hw hP hS => ?_)
    refine lv_pop hF.1 hF.2.1 dX2_getsMoon_61 rfl ?_
    refine lv_aload_n hF.1 hF.2.1 dX2_getsMoon_62 rfl (lv_at hl 0 rfl) ?_
    obtain ⟨fs_21, v_22, hx_23, hv_24, hw⟩ := hw
    refine x_get hF hC hP in_X2 rfl 2 (by decide) q155 (fun _ z => z) hx_23 hv_24 dX2_getsMoon_63 ?_
    obtain ⟨ho_27, hw⟩ := hw
    refine hk_i (hr_V (As := []) (rest := []) (T := TJ2) (N := 3) (ci := 8) hF hl.1 hC hP hS (metJ2_size l K _ _ X_15 v_22) rfl (cwV 0 hF.2.2.2.2 (lw_V q757 q267 q268 q79 q269) rfl rfl rfl (by decide +kernel) ⟨Nat.le_of_ble_eq_true rfl, Nat.le_of_ble_eq_true rfl⟩) ho_27 hw rfl rfl (Nat.le_of_ble_eq_true rfl) dX2_getsMoon_66 ⟨hc_19, hs_20⟩) hP hS (fun r_25 X_26 H locs hw hP hS => ?_)
    refine lv_iconst (v := 1) hF.1 hF.2.1 dX2_getsMoon_69 (by decide) ?_
    refine lv_isub hF.1 hF.2.1 dX2_getsMoon_70 ?_
    exact vx_ret (h_iret hF hr hlocks hP hS ⟨hc_19, hs_20⟩ dX2_getsMoon_71 hw)
  have T21 : ∀ (x0 : Nat) (x1 : Int32) (x2 : Int32) (z0 : Int32) (X : hX) (kc ks : Nat) (H : Heap) (locs : List Loc) (ls : Array Slot), hI K X0 s.heap.size X H → va_S (hA X0 s.heap.size) s.heap H locs → kc ≤ mc ∧ ks ≤ ms → lv_has ls 3 [(0, .ref x0), (1, .int x1), (2, .int x2)] → wpX2_getsMoon_21 post xpost (K.2.2 0) mc ms x0 x1 x2 z0 X kc ks → W p l e (rmh 7 191 mc ms) s m ([.ref p0, .int p1, .int p2] : List Value).toArray below meth c H locs kc ks (vx_MQ below (hQi post K X0 s.heap.size) (hXC xpost K X0 s.heap.size) ([.ref p0, .int p1, .int p2] : List Value).toArray s mc ms (hA X0 s.heap.size)) (F0 m 21 ls [.int z0]) := by
    intro x0 x1 x2 z0 X kc ks H locs ls hP hS hk hl hw
    unfold wpX2_getsMoon_21 at hw
    refine lv_iconst (v := 1) hF.1 hF.2.1 dX2_getsMoon_21 (by decide) ?_
    obtain ⟨mc_29, ms_30, hc_31, hs_32, hw⟩ := hw
    refine hkx_v (hrx_SN (As := [.int z0, .int 1]) (rest := []) hF hl.1 hC hP hS (metX1_need l hlt K mc_29 ms_30 _ _ _ X z0 1) (va_cnB 2 hF.2.2.2.2 (lw_meth q818) rfl rfl rfl (hC.2.2.1.2.2.2.2.2.1 _ q816 rfl) (hF.2.2.2.2 _ q75) (by decide +kernel) ⟨Nat.le_of_ble_eq_true rfl, Nat.le_of_ble_eq_true rfl⟩) q817 hw rfl rfl (Nat.le_of_ble_eq_true rfl) dX2_getsMoon_22 ⟨hc_31, hs_32⟩) hP hS (fun E9 q9 X9 H locs hw hcl hP hS => ?_) (fun X_28 H locs hw hP hS => ?_)
    · exact h_out hout hlocks hcl hP hS ⟨hc_31, hs_32⟩ hw
    refine lv_aload_n hF.1 hF.2.1 dX2_getsMoon_25 rfl (lv_at hl 0 rfl) ?_
    obtain ⟨fs_33, v_34, hx_35, hv_36, hw⟩ := hw
    refine x_get hF hC hP in_X2 rfl 2 (by decide) q155 (fun _ z => z) hx_35 hv_36 dX2_getsMoon_26 ?_
    obtain ⟨ho_39, hw⟩ := hw
    refine hk_i (hr_V (As := []) (rest := []) (T := TJ2) (N := 3) (ci := 8) hF hl.1 hC hP hS (metJ2_size l K _ _ X_28 v_34) rfl (cwV 0 hF.2.2.2.2 (lw_V q757 q267 q268 q79 q269) rfl rfl rfl (by decide +kernel) ⟨Nat.le_of_ble_eq_true rfl, Nat.le_of_ble_eq_true rfl⟩) ho_39 hw rfl rfl (Nat.le_of_ble_eq_true rfl) dX2_getsMoon_29 ⟨hc_31, hs_32⟩) hP hS (fun r_37 X_38 H locs hw hP hS => ?_)
    refine lv_iconst (v := 4) hF.1 hF.2.1 dX2_getsMoon_32 (by decide) ?_
    refine lv_icmp_ge (tgt := 40) hF.1 hF.2.1 dX2_getsMoon_33 (by decide) (fun c_40 => ?_) (fun c_40 => ?_)
    · have hw := hw.1 c_40
      refine lv_iconst (v := 0) hF.1 hF.2.1 dX2_getsMoon_40 (by decide) ?_
      exact T41 x0 x1 x2 0 X_38 (kc + mc_29) (ks + ms_30) _ _ ls hP hS ⟨hc_31, hs_32⟩ (lv_sub hl [0, 1, 2] rfl) hw
    · have hw := hw.2 c_40
      refine lv_iconst (v := 1) hF.1 hF.2.1 dX2_getsMoon_36 (by decide) ?_
      refine lv_goto (tgt := 41) hF.1 hF.2.1 dX2_getsMoon_37 (by decide) ?_
      exact T41 x0 x1 x2 1 X_38 (kc + mc_29) (ks + ms_30) _ _ ls hP hS ⟨hc_31, hs_32⟩ (lv_sub hl [0, 1, 2] rfl) hw
  have T20 : ∀ (x0 : Nat) (x1 : Int32) (x2 : Int32) (X : hX) (kc ks : Nat) (H : Heap) (locs : List Loc) (ls : Array Slot), hI K X0 s.heap.size X H → va_S (hA X0 s.heap.size) s.heap H locs → kc ≤ mc ∧ ks ≤ ms → lv_has ls 3 [(0, .ref x0), (1, .int x1), (2, .int x2)] → wpX2_getsMoon_20 post xpost (K.2.2 0) mc ms x0 x1 x2 X kc ks → W p l e (rmh 7 191 mc ms) s m ([.ref p0, .int p1, .int p2] : List Value).toArray below meth c H locs kc ks (vx_MQ below (hQi post K X0 s.heap.size) (hXC xpost K X0 s.heap.size) ([.ref p0, .int p1, .int p2] : List Value).toArray s mc ms (hA X0 s.heap.size)) (F0 m 20 ls []) := by
    intro x0 x1 x2 X kc ks H locs ls hP hS hk hl hw
    unfold wpX2_getsMoon_20 at hw
    refine lv_iconst (v := 0) hF.1 hF.2.1 dX2_getsMoon_20 (by decide) ?_
    exact T21 x0 x1 x2 0 X kc ks _ _ ls hP hS hk (lv_sub hl [0, 1, 2] rfl) hw
  unfold wpX2_getsMoon at hw
  show W p l e (rmh 7 191 mc ms) s m _ below meth c _ _ _ _ _ _
  refine lv_aload_n hF.1 hF.2.1 dX2_getsMoon_0 rfl (lv_at hl 0 rfl) ?_
  refine lv_iload_n hF.1 hF.2.1 dX2_getsMoon_1 rfl (lv_at hl 1 rfl) ?_
  obtain ⟨ho_43, hw⟩ := hw
  refine hk_i (hr_V (As := [.int p1]) (rest := []) (T := TX2) (N := 9) (ci := 2) hF hl.1 hC hP hS (metX2_isArm l K _ _ X0 p0 p1) rfl (cwV 1 hF.2.2.2.2 (lw_V q940 q941 q942 q76 q943) rfl rfl rfl (by decide +kernel) ⟨Nat.le_of_ble_eq_true rfl, Nat.le_of_ble_eq_true rfl⟩) ho_43 hw rfl rfl (Nat.le_of_ble_eq_true rfl) dX2_getsMoon_2 ⟨Nat.zero_le _, Nat.zero_le _⟩) hP hS (fun r_41 X_42 H locs hw hP hS => ?_)
  refine lv_if_eq (tgt := 20) hF.1 hF.2.1 dX2_getsMoon_5 (by decide) (fun c_44 => ?_) (fun c_44 => ?_)
  · have hw := hw.1 c_44
    exact T20 p0 p1 p2 X_42 0 0 _ _ ls hP hS ⟨Nat.zero_le _, Nat.zero_le _⟩ (lv_sub hl [0, 1, 2] rfl) hw
  · have hw := hw.2 c_44
    refine lv_aload_n hF.1 hF.2.1 dX2_getsMoon_8 rfl (lv_at hl 0 rfl) ?_
    refine lv_iload_n hF.1 hF.2.1 dX2_getsMoon_9 rfl (lv_at hl 2 rfl) ?_
    obtain ⟨ho_47, hw⟩ := hw
    refine hk_i (hr_V (As := [.int p2]) (rest := []) (T := TX2) (N := 9) (ci := 2) hF hl.1 hC hP hS (metX2_isAxle l K _ _ X_42 p0 p2) rfl (cwV 1 hF.2.2.2.2 (lw_V q843 q844 q845 q76 q846) rfl rfl rfl (by decide +kernel) ⟨Nat.le_of_ble_eq_true rfl, Nat.le_of_ble_eq_true rfl⟩) ho_47 hw rfl rfl (Nat.le_of_ble_eq_true rfl) dX2_getsMoon_10 ⟨Nat.zero_le _, Nat.zero_le _⟩) hP hS (fun r_45 X_46 H locs hw hP hS => ?_)
    refine lv_if_eq (tgt := 20) hF.1 hF.2.1 dX2_getsMoon_13 (by decide) (fun c_48 => ?_) (fun c_48 => ?_)
    · have hw := hw.1 c_48
      exact T20 p0 p1 p2 X_46 0 0 _ _ ls hP hS ⟨Nat.zero_le _, Nat.zero_le _⟩ (lv_sub hl [0, 1, 2] rfl) hw
    · have hw := hw.2 c_48
      refine lv_iconst (v := 1) hF.1 hF.2.1 dX2_getsMoon_16 (by decide) ?_
      refine lv_goto (tgt := 21) hF.1 hF.2.1 dX2_getsMoon_17 (by decide) ?_
      exact T21 p0 p1 p2 1 X_46 0 0 _ _ ls hP hS ⟨Nat.zero_le _, Nat.zero_le _⟩ (lv_sub hl [0, 1, 2] rfl) hw
def wpX2_tells_25 (post : Int32 → hX → Prop) (xpost : String → Nat → hX → Prop) (E : Nat) (mc ms : Nat) (x0 : Nat) (x1 : Int32) (x2 : Int32) (z0 : Int32) (X : hX) (kc ks : Nat) : Prop := (∃ mc_2 ms_3 : Nat, kc + mc_2 ≤ mc ∧ ks + ms_3 ≤ ms ∧ wpX1_need (fun X_1 => gfA X_1 x0 2 1 (fun v_7 => isO X_1 v_7 8 (wpJ2_get (fun r_10 X_11 => (∃ a_13 : Nat, r_10 = some a_13 ∧ ((∃ fs, X_11 a_13 = some (.inr (6, fs))) ∧ gfA X_11 x0 2 1 (fun v_17 => newO X_11 6 [.int 0, .int 0, .int 0] 3 (kc + mc_2) (ks + ms_3) mc ms (fun a_20 X_21 => gfI X_21 a_13 6 0 (fun v_24 => gfI X_21 a_13 6 1 (fun v_28 => wpX7_init (fun X_31 => isO X_31 v_17 8 (wpJ2_set (fun r_32 X_33 => (∃ a_35 : Nat, r_32 = some a_35 ∧ ((∃ fs, X_33 a_35 = some (.inr (6, fs))) ∧ gfI X_33 a_35 6 2 (fun v_39 => post v_39 X_33)))) E X_31 v_17 x1 a_20)) E X_21 a_20 v_24 v_28 x2))))))) E X_1 v_7 x1))) xpost E mc_2 ms_3 X z0 1)
def wpX2_tells_24 (post : Int32 → hX → Prop) (xpost : String → Nat → hX → Prop) (E : Nat) (mc ms : Nat) (x0 : Nat) (x1 : Int32) (x2 : Int32) (X : hX) (kc ks : Nat) : Prop := wpX2_tells_25 post xpost E mc ms x0 x1 x2 0 X kc ks
def wpX2_tells (post : Int32 → hX → Prop) (xpost : String → Nat → hX → Prop) (E : Nat) (mc ms : Nat) (X : hX) (p0 : Nat) (p1 : Int32) (p2 : Int32) : Prop := isO X p0 2 (wpX2_isArm (fun r_42 X_43 => ((r_42 = 0 → wpX2_tells_24 post xpost E mc ms p0 p1 p2 X_43 0 0) ∧ (¬ r_42 = 0 → wpX1_isBetween (fun r_46 => ((r_46 = 0 → wpX2_tells_24 post xpost E mc ms p0 p1 p2 X_43 0 0) ∧ (¬ r_46 = 0 → wpX2_tells_25 post xpost E mc ms p0 p1 p2 1 X_43 0 0))) (Int32.toInt64 p2) 0 100000000))) E X p0 p1)
abbrev wsX2_tells : List Cond := ws_ yX2_tells cX2_tells 5 (some .int)
set_option maxHeartbeats 8000000 in
theorem metX2_tells (l : Launch) (hlt : l.stackTraces = false) (K : HK) (mc ms : Nat) (sz : Nat) (post : Int32 → hX → Prop) (xpost : String → Nat → hX → Prop) (X0 : hX) (p0 : Nat) (p1 : Int32) (p2 : Int32) : vx_Met l yX2_tells wsX2_tells (rmh 7 116 mc ms) (hPc K X0 sz [.ref p0, .int p1, .int p2] (wpX2_tells post xpost (K.2.2 0) mc ms X0 p0 p1 p2)) (hQi post K X0 sz) (hXC xpost K X0 sz) mc ms (hA X0 sz) := by
  refine vx_ofW (cc := cX2_tells) (maxL := 5) (ret := (some .int)) (by decide) rfl ?_
  intro p e s m args below meth c s₁ B hml hno hv
  obtain ⟨rfl, hv⟩ := hv
  obtain ⟨hC, hP, hw⟩ := HC.of hv
  have hsz : s.heap.size = sz := hv.1
  subst hsz
  clear hv
  have hout : ∀ {pc : Nat}, ∀ x ∈ c.exceptionTable.toList, covers x pc = false := fun x hx => (hno x hx).elim
  have hr := B.returns
  have hts := atoms_spec (ws := wsX2_tells) B.pre
  have hts : ∀ w ∈ lw_all, w.before _ s = true := fun w h => hts w (List.mem_cons_of_mem _ h)
  have hF : CallFix p m c cX2_tells 5 s ([.ref p0, .int p1, .int p2] : List Value).toArray lw_all RX2 := ⟨B.exec, B.bytes, hml, findClass_of_methodNamed B.named, hts⟩
  have hlocks := B.notSynchronized
  have hl := lv_entry ([.ref p0, .int p1, .int p2]) (n := 5) (Nat.le_of_ble_eq_true rfl)
  rw [lg_entry_eq]
  generalize (lg_sl ([.ref p0, .int p1, .int p2]) ++ List.replicate (5 - (lg_sl ([.ref p0, .int p1, .int p2])).length) Slot.unset).toArray = ls at hl ⊢
  have hl : lv_has ls 5 [(0, .ref p0), (1, .int p1), (2, .int p2)] := hl
  have hS : va_S (hA X0 s.heap.size) s.heap s.heap [] := va_S.rf
  have T25 : ∀ (x0 : Nat) (x1 : Int32) (x2 : Int32) (z0 : Int32) (X : hX) (kc ks : Nat) (H : Heap) (locs : List Loc) (ls : Array Slot), hI K X0 s.heap.size X H → va_S (hA X0 s.heap.size) s.heap H locs → kc ≤ mc ∧ ks ≤ ms → lv_has ls 5 [(0, .ref x0), (1, .int x1), (2, .int x2)] → wpX2_tells_25 post xpost (K.2.2 0) mc ms x0 x1 x2 z0 X kc ks → W p l e (rmh 7 116 mc ms) s m ([.ref p0, .int p1, .int p2] : List Value).toArray below meth c H locs kc ks (vx_MQ below (hQi post K X0 s.heap.size) (hXC xpost K X0 s.heap.size) ([.ref p0, .int p1, .int p2] : List Value).toArray s mc ms (hA X0 s.heap.size)) (F0 m 25 ls [.int z0]) := by
    intro x0 x1 x2 z0 X kc ks H locs ls hP hS hk hl hw
    unfold wpX2_tells_25 at hw
    refine lv_iconst (v := 1) hF.1 hF.2.1 dX2_tells_25 (by decide) ?_
    obtain ⟨mc_2, ms_3, hc_4, hs_5, hw⟩ := hw
    refine hkx_v (hrx_SN (As := [.int z0, .int 1]) (rest := []) hF hl.1 hC hP hS (metX1_need l hlt K mc_2 ms_3 _ _ _ X z0 1) (va_cnB 2 hF.2.2.2.2 (lw_meth q818) rfl rfl rfl (hC.2.2.1.2.2.2.2.2.1 _ q816 rfl) (hF.2.2.2.2 _ q75) (by decide +kernel) ⟨Nat.le_of_ble_eq_true rfl, Nat.le_of_ble_eq_true rfl⟩) q817 hw rfl rfl (Nat.le_of_ble_eq_true rfl) dX2_tells_26 ⟨hc_4, hs_5⟩) hP hS (fun E9 q9 X9 H locs hw hcl hP hS => ?_) (fun X_1 H locs hw hP hS => ?_)
    · exact h_out hout hlocks hcl hP hS ⟨hc_4, hs_5⟩ hw
    refine lv_aload_n hF.1 hF.2.1 dX2_tells_29 rfl (lv_at hl 0 rfl) ?_
    obtain ⟨fs_6, v_7, hx_8, hv_9, hw⟩ := hw
    refine x_get hF hC hP in_X2 rfl 1 (by decide) q153 (fun _ z => z) hx_8 hv_9 dX2_tells_30 ?_
    refine lv_iload_n hF.1 hF.2.1 dX2_tells_33 rfl (lv_at hl 1 rfl) ?_
    obtain ⟨ho_12, hw⟩ := hw
    refine hk_q (hr_V (As := [.int x1]) (rest := []) (T := TJ2) (N := 3) (ci := 8) hF hl.1 hC hP hS (metJ2_get l K _ _ X_1 v_7 x1) rfl (cwV 1 hF.2.2.2.2 (lw_V q758 q347 q348 q79 q349) rfl rfl rfl (by decide +kernel) ⟨Nat.le_of_ble_eq_true rfl, Nat.le_of_ble_eq_true rfl⟩) ho_12 hw rfl rfl (Nat.le_of_ble_eq_true rfl) dX2_tells_34 ⟨hc_4, hs_5⟩) hP hS (fun r_10 X_11 H locs hw hP hS => ?_)
    obtain ⟨a_13, e_14, hw⟩ := hw
    subst e_14
    rw [va_rf_some]
    obtain ⟨h_15, hw⟩ := hw
    refine x_cast (T := TX7) (N := 3) (ci := 6) hF hC hP rfl q807 h_15 dX2_tells_37 ?_
    refine lv_astore_n (lv' := [(3, .ref a_13), (0, .ref x0), (1, .int x1), (2, .int x2)]) hF.1 hF.2.1 dX2_tells_40 rfl hl (by decide) rfl (fun ls hl => ?_)
    refine lv_aload_n hF.1 hF.2.1 dX2_tells_41 rfl (lv_at hl 1 rfl) ?_
    obtain ⟨fs_16, v_17, hx_18, hv_19, hw⟩ := hw
    refine x_get hF hC hP in_X2 rfl 1 (by decide) q153 (fun _ z => z) hx_18 hv_19 dX2_tells_42 ?_
    refine lv_iload_n hF.1 hF.2.1 dX2_tells_45 rfl (lv_at hl 2 rfl) ?_
    refine x_new hF hC hP hS in_X7 rfl tyX7 tyX7_ok q807 q915 q97 (nfsX7) hw ⟨rfl, rfl⟩ dX2_tells_46 (fun a_20 X_21 H pk_22c pk_22s hw hP hS => ?_)
    refine lv_dup hF.1 hF.2.1 dX2_tells_49 rfl ?_
    refine lv_aload_n hF.1 hF.2.1 dX2_tells_50 rfl (lv_at hl 0 rfl) ?_
    obtain ⟨fs_23, v_24, hx_25, hv_26, hw⟩ := hw
    refine x_getN hF hC hP in_X7 rfl 0 (by decide) q921 (fun _ z => z) hx_25 hv_26 dX2_tells_51 ?_
    refine lv_aload_n hF.1 hF.2.1 dX2_tells_54 rfl (lv_at hl 0 rfl) ?_
    obtain ⟨fs_27, v_28, hx_29, hv_30, hw⟩ := hw
    refine x_getN hF hC hP in_X7 rfl 1 (by decide) q924 (fun _ z => z) hx_29 hv_30 dX2_tells_55 ?_
    refine lv_iload_n hF.1 hF.2.1 dX2_tells_58 rfl (lv_at hl 3 rfl) ?_
    refine hk_v (hr_I (As := [.int v_24, .int v_28, .int x2]) (rest := [.ref a_20, .int x1, .ref v_17]) hF hl.1 hC hP hS (metX7_init l K _ _ X_21 a_20 v_24 v_28 x2) (cwI 3 hF.2.2.2.2 (lw_meth q918) rfl rfl rfl (hF.2.2.2.2 _ q97) (hF.2.2.2.2 _ q916) (hF.2.2.2.2 _ q917) rfl (by decide +kernel) ⟨Nat.le_of_ble_eq_true rfl, Nat.le_of_ble_eq_true rfl⟩) hw rfl rfl (Nat.le_of_ble_eq_true rfl) dX2_tells_59 ⟨pk_22c, pk_22s⟩) hP hS (fun X_31 H locs hw hP hS => ?_)
    obtain ⟨ho_34, hw⟩ := hw
    refine hk_q (hr_V (As := [.int x1, .ref a_20]) (rest := []) (T := TJ2) (N := 3) (ci := 8) hF hl.1 hC hP hS (metJ2_set l K _ _ X_31 v_17 x1 a_20) rfl (cwV 2 hF.2.2.2.2 (lw_V q905 q906 q907 q79 q908) rfl rfl rfl (by decide +kernel) ⟨Nat.le_of_ble_eq_true rfl, Nat.le_of_ble_eq_true rfl⟩) ho_34 hw rfl rfl (Nat.le_of_ble_eq_true rfl) dX2_tells_62 ⟨pk_22c, pk_22s⟩) hP hS (fun r_32 X_33 H locs hw hP hS => ?_)
    obtain ⟨a_35, e_36, hw⟩ := hw
    subst e_36
    rw [va_rf_some]
    obtain ⟨h_37, hw⟩ := hw
    refine x_cast (T := TX7) (N := 3) (ci := 6) hF hC hP rfl q807 h_37 dX2_tells_65 ?_
    refine lv_astore (lv' := [(4, .ref a_35), (3, .ref a_13), (0, .ref x0), (1, .int x1), (2, .int x2)]) hF.1 hF.2.1 dX2_tells_68 hl (by decide) rfl (fun ls hl => ?_)
    refine lv_aload hF.1 hF.2.1 dX2_tells_70 (lv_at hl 0 rfl) ?_
    obtain ⟨fs_38, v_39, hx_40, hv_41, hw⟩ := hw
    refine x_getN hF hC hP in_X7 rfl 2 (by decide) q927 (fun _ z => z) hx_40 hv_41 dX2_tells_72 ?_
    exact vx_ret (h_iret hF hr hlocks hP hS ⟨pk_22c, pk_22s⟩ dX2_tells_75 hw)
  have T24 : ∀ (x0 : Nat) (x1 : Int32) (x2 : Int32) (X : hX) (kc ks : Nat) (H : Heap) (locs : List Loc) (ls : Array Slot), hI K X0 s.heap.size X H → va_S (hA X0 s.heap.size) s.heap H locs → kc ≤ mc ∧ ks ≤ ms → lv_has ls 5 [(0, .ref x0), (1, .int x1), (2, .int x2)] → wpX2_tells_24 post xpost (K.2.2 0) mc ms x0 x1 x2 X kc ks → W p l e (rmh 7 116 mc ms) s m ([.ref p0, .int p1, .int p2] : List Value).toArray below meth c H locs kc ks (vx_MQ below (hQi post K X0 s.heap.size) (hXC xpost K X0 s.heap.size) ([.ref p0, .int p1, .int p2] : List Value).toArray s mc ms (hA X0 s.heap.size)) (F0 m 24 ls []) := by
    intro x0 x1 x2 X kc ks H locs ls hP hS hk hl hw
    unfold wpX2_tells_24 at hw
    refine lv_iconst (v := 0) hF.1 hF.2.1 dX2_tells_24 (by decide) ?_
    exact T25 x0 x1 x2 0 X kc ks _ _ ls hP hS hk (lv_sub hl [0, 1, 2] rfl) hw
  unfold wpX2_tells at hw
  show W p l e (rmh 7 116 mc ms) s m _ below meth c _ _ _ _ _ _
  refine lv_aload_n hF.1 hF.2.1 dX2_tells_0 rfl (lv_at hl 0 rfl) ?_
  refine lv_iload_n hF.1 hF.2.1 dX2_tells_1 rfl (lv_at hl 1 rfl) ?_
  obtain ⟨ho_44, hw⟩ := hw
  refine hk_i (hr_V (As := [.int p1]) (rest := []) (T := TX2) (N := 9) (ci := 2) hF hl.1 hC hP hS (metX2_isArm l K _ _ X0 p0 p1) rfl (cwV 1 hF.2.2.2.2 (lw_V q940 q941 q942 q76 q943) rfl rfl rfl (by decide +kernel) ⟨Nat.le_of_ble_eq_true rfl, Nat.le_of_ble_eq_true rfl⟩) ho_44 hw rfl rfl (Nat.le_of_ble_eq_true rfl) dX2_tells_2 ⟨Nat.zero_le _, Nat.zero_le _⟩) hP hS (fun r_42 X_43 H locs hw hP hS => ?_)
  refine lv_if_eq (tgt := 24) hF.1 hF.2.1 dX2_tells_5 (by decide) (fun c_45 => ?_) (fun c_45 => ?_)
  · have hw := hw.1 c_45
    exact T24 p0 p1 p2 X_43 0 0 _ _ ls hP hS ⟨Nat.zero_le _, Nat.zero_le _⟩ (lv_sub hl [0, 1, 2] rfl) hw
  · have hw := hw.2 c_45
    refine lv_iload_n hF.1 hF.2.1 dX2_tells_8 rfl (lv_at hl 2 rfl) ?_
    refine lv_i2l hF.1 hF.2.1 dX2_tells_9 rfl ?_
    refine lv_lconst (v := 0) hF.1 hF.2.1 dX2_tells_10 (by decide) ?_
    refine lv_ldc2 hF.1 hF.2.1 hF.2.2.2.1 (hF.2.2.2.2 _ q968) dX2_tells_11 ?_
    refine hp_i (hrp_SN (As := [.long (Int32.toInt64 p2), .long 0, .long 100000000]) (rest := []) hF hl.1 (metX1_isBetween l _ (Int32.toInt64 p2) 0 100000000) (va_cnB 3 hF.2.2.2.2 (lw_meth q849) rfl rfl rfl (hC.2.2.1.2.2.2.2.2.1 _ q847 rfl) (hF.2.2.2.2 _ q75) (by decide +kernel) ⟨Nat.le_of_ble_eq_true rfl, Nat.le_of_ble_eq_true rfl⟩) q848 hw rfl rfl (Nat.le_of_ble_eq_true rfl) dX2_tells_14 ⟨Nat.zero_le _, Nat.zero_le _⟩) (fun r_46 hw => ?_)
    refine lv_if_eq (tgt := 24) hF.1 hF.2.1 dX2_tells_17 (by decide) (fun c_47 => ?_) (fun c_47 => ?_)
    · have hw := hw.1 c_47
      exact T24 p0 p1 p2 X_43 0 0 _ _ ls hP hS ⟨Nat.zero_le _, Nat.zero_le _⟩ (lv_sub hl [0, 1, 2] rfl) hw
    · have hw := hw.2 c_47
      refine lv_iconst (v := 1) hF.1 hF.2.1 dX2_tells_20 (by decide) ?_
      refine lv_goto (tgt := 25) hF.1 hF.2.1 dX2_tells_21 (by decide) ?_
      exact T25 p0 p1 p2 1 X_43 0 0 _ _ ls hP hS ⟨Nat.zero_le _, Nat.zero_le _⟩ (lv_sub hl [0, 1, 2] rfl) hw
def wpX2_goesOn_29 (post : Int32 → hX → Prop) (xpost : String → Nat → hX → Prop) (E : Nat) (mc ms : Nat) (x0 : Nat) (x1 : Int32) (z0 : Int32) (X : hX) (kc ks : Nat) : Prop := (∃ mc_2 ms_3 : Nat, kc + mc_2 ≤ mc ∧ ks + ms_3 ≤ ms ∧ wpX1_need (fun X_1 => gfI X_1 x0 2 7 (fun v_7 => pfV X_1 x0 2 7 (.int (v_7 + x1)) (fun X_13 => gfI X_13 x0 2 8 (fun v_15 => pfV X_13 x0 2 8 (.int (v_15 + x1)) (fun X_21 => gfI X_21 x0 2 7 (fun v_23 => post v_23 X_21)))))) xpost E mc_2 ms_3 X z0 2)
def wpX2_goesOn (post : Int32 → hX → Prop) (xpost : String → Nat → hX → Prop) (E : Nat) (mc ms : Nat) (X : hX) (p0 : Nat) (p1 : Int32) : Prop := wpX1_isBetween (fun r_26 => (∃ mc_28 ms_29 : Nat, 0 + mc_28 ≤ mc ∧ 0 + ms_29 ≤ ms ∧ wpX1_need (fun X_27 => gfI X_27 p0 2 7 (fun v_33 => ((1000000 < (v_33 + p1) → wpX2_goesOn_29 post xpost E mc ms p0 p1 0 X_27 (0 + mc_28) (0 + ms_29)) ∧ (¬ 1000000 < (v_33 + p1) → wpX2_goesOn_29 post xpost E mc ms p0 p1 1 X_27 (0 + mc_28) (0 + ms_29))))) xpost E mc_28 ms_29 X r_26 1)) (Int32.toInt64 p1) 1 9999
abbrev wsX2_goesOn : List Cond := ws_ yX2_goesOn cX2_goesOn 2 (some .int)
set_option maxHeartbeats 8000000 in
theorem metX2_goesOn (l : Launch) (hlt : l.stackTraces = false) (K : HK) (mc ms : Nat) (sz : Nat) (post : Int32 → hX → Prop) (xpost : String → Nat → hX → Prop) (X0 : hX) (p0 : Nat) (p1 : Int32) : vx_Met l yX2_goesOn wsX2_goesOn (rmh 7 116 mc ms) (hPc K X0 sz [.ref p0, .int p1] (wpX2_goesOn post xpost (K.2.2 0) mc ms X0 p0 p1)) (hQi post K X0 sz) (hXC xpost K X0 sz) mc ms (hA X0 sz) := by
  refine vx_ofW (cc := cX2_goesOn) (maxL := 2) (ret := (some .int)) (by decide) rfl ?_
  intro p e s m args below meth c s₁ B hml hno hv
  obtain ⟨rfl, hv⟩ := hv
  obtain ⟨hC, hP, hw⟩ := HC.of hv
  have hsz : s.heap.size = sz := hv.1
  subst hsz
  clear hv
  have hout : ∀ {pc : Nat}, ∀ x ∈ c.exceptionTable.toList, covers x pc = false := fun x hx => (hno x hx).elim
  have hr := B.returns
  have hts := atoms_spec (ws := wsX2_goesOn) B.pre
  have hts : ∀ w ∈ lw_all, w.before _ s = true := fun w h => hts w (List.mem_cons_of_mem _ h)
  have hF : CallFix p m c cX2_goesOn 2 s ([.ref p0, .int p1] : List Value).toArray lw_all RX2 := ⟨B.exec, B.bytes, hml, findClass_of_methodNamed B.named, hts⟩
  have hlocks := B.notSynchronized
  have hl := lv_entry ([.ref p0, .int p1]) (n := 2) (Nat.le_of_ble_eq_true rfl)
  rw [lg_entry_eq]
  generalize (lg_sl ([.ref p0, .int p1]) ++ List.replicate (2 - (lg_sl ([.ref p0, .int p1])).length) Slot.unset).toArray = ls at hl ⊢
  have hl : lv_has ls 2 [(0, .ref p0), (1, .int p1)] := hl
  have hS : va_S (hA X0 s.heap.size) s.heap s.heap [] := va_S.rf
  have T29 : ∀ (x0 : Nat) (x1 : Int32) (z0 : Int32) (X : hX) (kc ks : Nat) (H : Heap) (locs : List Loc) (ls : Array Slot), hI K X0 s.heap.size X H → va_S (hA X0 s.heap.size) s.heap H locs → kc ≤ mc ∧ ks ≤ ms → lv_has ls 2 [(0, .ref x0), (1, .int x1)] → wpX2_goesOn_29 post xpost (K.2.2 0) mc ms x0 x1 z0 X kc ks → W p l e (rmh 7 116 mc ms) s m ([.ref p0, .int p1] : List Value).toArray below meth c H locs kc ks (vx_MQ below (hQi post K X0 s.heap.size) (hXC xpost K X0 s.heap.size) ([.ref p0, .int p1] : List Value).toArray s mc ms (hA X0 s.heap.size)) (F0 m 29 ls [.int z0]) := by
    intro x0 x1 z0 X kc ks H locs ls hP hS hk hl hw
    unfold wpX2_goesOn_29 at hw
    refine lv_iconst (v := 2) hF.1 hF.2.1 dX2_goesOn_29 (by decide) ?_
    obtain ⟨mc_2, ms_3, hc_4, hs_5, hw⟩ := hw
    refine hkx_v (hrx_SN (As := [.int z0, .int 2]) (rest := []) hF hl.1 hC hP hS (metX1_need l hlt K mc_2 ms_3 _ _ _ X z0 2) (va_cnB 2 hF.2.2.2.2 (lw_meth q818) rfl rfl rfl (hC.2.2.1.2.2.2.2.2.1 _ q816 rfl) (hF.2.2.2.2 _ q75) (by decide +kernel) ⟨Nat.le_of_ble_eq_true rfl, Nat.le_of_ble_eq_true rfl⟩) q817 hw rfl rfl (Nat.le_of_ble_eq_true rfl) dX2_goesOn_30 ⟨hc_4, hs_5⟩) hP hS (fun E9 q9 X9 H locs hw hcl hP hS => ?_) (fun X_1 H locs hw hP hS => ?_)
    · exact h_out hout hlocks hcl hP hS ⟨hc_4, hs_5⟩ hw
    refine lv_aload_n hF.1 hF.2.1 dX2_goesOn_33 rfl (lv_at hl 0 rfl) ?_
    refine lv_dup hF.1 hF.2.1 dX2_goesOn_34 rfl ?_
    obtain ⟨fs_6, v_7, hx_8, hv_9, hw⟩ := hw
    refine x_get hF hC hP in_X2 rfl 7 (by decide) q168 (fun _ z => z) hx_8 hv_9 dX2_goesOn_35 ?_
    refine lv_iload_n hF.1 hF.2.1 dX2_goesOn_38 rfl (lv_at hl 1 rfl) ?_
    refine lv_iadd hF.1 hF.2.1 dX2_goesOn_39 ?_
    obtain ⟨fs_10, hx_11, hl_12, hw⟩ := hw
    refine x_put hF hC hP hS in_X2 rfl tyX2 tyX2_ok nmX2 7 (by decide) q168 (fun _ z => z) rfl rfl rfl hx_11 hl_12 dX2_goesOn_40 (fun H locs hP hS => ?_)
    generalize hup X_1 x0 (.inr (2, fs_10.set 7 (.int (v_7 + x1)))) = X_13 at hP hw
    refine lv_aload_n hF.1 hF.2.1 dX2_goesOn_43 rfl (lv_at hl 0 rfl) ?_
    refine lv_dup hF.1 hF.2.1 dX2_goesOn_44 rfl ?_
    obtain ⟨fs_14, v_15, hx_16, hv_17, hw⟩ := hw
    refine x_get hF hC hP in_X2 rfl 8 (by decide) q170 (fun _ z => z) hx_16 hv_17 dX2_goesOn_45 ?_
    refine lv_iload_n hF.1 hF.2.1 dX2_goesOn_48 rfl (lv_at hl 1 rfl) ?_
    refine lv_iadd hF.1 hF.2.1 dX2_goesOn_49 ?_
    obtain ⟨fs_18, hx_19, hl_20, hw⟩ := hw
    refine x_put hF hC hP hS in_X2 rfl tyX2 tyX2_ok nmX2 8 (by decide) q170 (fun _ z => z) rfl rfl rfl hx_19 hl_20 dX2_goesOn_50 (fun H locs hP hS => ?_)
    generalize hup X_13 x0 (.inr (2, fs_18.set 8 (.int (v_15 + x1)))) = X_21 at hP hw
    refine lv_aload_n hF.1 hF.2.1 dX2_goesOn_53 rfl (lv_at hl 0 rfl) ?_
    obtain ⟨fs_22, v_23, hx_24, hv_25, hw⟩ := hw
    refine x_get hF hC hP in_X2 rfl 7 (by decide) q168 (fun _ z => z) hx_24 hv_25 dX2_goesOn_54 ?_
    exact vx_ret (h_iret hF hr hlocks hP hS ⟨hc_4, hs_5⟩ dX2_goesOn_57 hw)
  unfold wpX2_goesOn at hw
  show W p l e (rmh 7 116 mc ms) s m _ below meth c _ _ _ _ _ _
  refine lv_iload_n hF.1 hF.2.1 dX2_goesOn_0 rfl (lv_at hl 1 rfl) ?_
  refine lv_i2l hF.1 hF.2.1 dX2_goesOn_1 rfl ?_
  refine lv_lconst (v := 1) hF.1 hF.2.1 dX2_goesOn_2 (by decide) ?_
  refine lv_ldc2 hF.1 hF.2.1 hF.2.2.2.1 (hF.2.2.2.2 _ q973) dX2_goesOn_3 ?_
  refine hp_i (hrp_SN (As := [.long (Int32.toInt64 p1), .long 1, .long 9999]) (rest := []) hF hl.1 (metX1_isBetween l _ (Int32.toInt64 p1) 1 9999) (va_cnB 3 hF.2.2.2.2 (lw_meth q849) rfl rfl rfl (hC.2.2.1.2.2.2.2.2.1 _ q847 rfl) (hF.2.2.2.2 _ q75) (by decide +kernel) ⟨Nat.le_of_ble_eq_true rfl, Nat.le_of_ble_eq_true rfl⟩) q848 hw rfl rfl (Nat.le_of_ble_eq_true rfl) dX2_goesOn_6 ⟨Nat.zero_le _, Nat.zero_le _⟩) (fun r_26 hw => ?_)
  refine lv_iconst (v := 1) hF.1 hF.2.1 dX2_goesOn_9 (by decide) ?_
  obtain ⟨mc_28, ms_29, hc_30, hs_31, hw⟩ := hw
  refine hkx_v (hrx_SN (As := [.int r_26, .int 1]) (rest := []) hF hl.1 hC hP hS (metX1_need l hlt K mc_28 ms_29 _ _ _ X0 r_26 1) (va_cnB 2 hF.2.2.2.2 (lw_meth q818) rfl rfl rfl (hC.2.2.1.2.2.2.2.2.1 _ q816 rfl) (hF.2.2.2.2 _ q75) (by decide +kernel) ⟨Nat.le_of_ble_eq_true rfl, Nat.le_of_ble_eq_true rfl⟩) q817 hw rfl rfl (Nat.le_of_ble_eq_true rfl) dX2_goesOn_10 ⟨hc_30, hs_31⟩) hP hS (fun E9 q9 X9 H locs hw hcl hP hS => ?_) (fun X_27 H locs hw hP hS => ?_)
  · exact h_out hout hlocks hcl hP hS ⟨hc_30, hs_31⟩ hw
  refine lv_aload_n hF.1 hF.2.1 dX2_goesOn_13 rfl (lv_at hl 0 rfl) ?_
  obtain ⟨fs_32, v_33, hx_34, hv_35, hw⟩ := hw
  refine x_get hF hC hP in_X2 rfl 7 (by decide) q168 (fun _ z => z) hx_34 hv_35 dX2_goesOn_14 ?_
  refine lv_iload_n hF.1 hF.2.1 dX2_goesOn_17 rfl (lv_at hl 1 rfl) ?_
  refine lv_iadd hF.1 hF.2.1 dX2_goesOn_18 ?_
  refine lv_ldc hF.1 hF.2.1 hF.2.2.2.1 (hF.2.2.2.2 _ q974) dX2_goesOn_19 ?_
  refine lv_icmp_gt (tgt := 28) hF.1 hF.2.1 dX2_goesOn_21 (by decide) (fun c_36 => ?_) (fun c_36 => ?_)
  · have hw := hw.1 c_36
    refine lv_iconst (v := 0) hF.1 hF.2.1 dX2_goesOn_28 (by decide) ?_
    exact T29 p0 p1 0 X_27 (0 + mc_28) (0 + ms_29) _ _ ls hP hS ⟨hc_30, hs_31⟩ (lv_sub hl [0, 1] rfl) hw
  · have hw := hw.2 c_36
    refine lv_iconst (v := 1) hF.1 hF.2.1 dX2_goesOn_24 (by decide) ?_
    refine lv_goto (tgt := 29) hF.1 hF.2.1 dX2_goesOn_25 (by decide) ?_
    exact T29 p0 p1 1 X_27 (0 + mc_28) (0 + ms_29) _ _ ls hP hS ⟨hc_30, hs_31⟩ (lv_sub hl [0, 1] rfl) hw
def wpX2_setsDay (post : Int32 → hX → Prop) (xpost : String → Nat → hX → Prop) (E : Nat) (mc ms : Nat) (X : hX) (p0 : Nat) (p1 : Int32) : Prop := wpX1_isBetween (fun r_1 => (∃ mc_3 ms_4 : Nat, 0 + mc_3 ≤ mc ∧ 0 + ms_4 ≤ ms ∧ wpX1_need (fun X_2 => gfI X_2 p0 2 7 (fun v_8 => pfV X_2 p0 2 7 (.int p1) (fun X_14 => post v_8 X_14))) xpost E mc_3 ms_4 X r_1 1)) (Int32.toInt64 p1) 0 1000000
abbrev wsX2_setsDay : List Cond := ws_ yX2_setsDay cX2_setsDay 3 (some .int)
set_option maxHeartbeats 8000000 in
theorem metX2_setsDay (l : Launch) (hlt : l.stackTraces = false) (K : HK) (mc ms : Nat) (sz : Nat) (post : Int32 → hX → Prop) (xpost : String → Nat → hX → Prop) (X0 : hX) (p0 : Nat) (p1 : Int32) : vx_Met l yX2_setsDay wsX2_setsDay (rmh 7 116 mc ms) (hPc K X0 sz [.ref p0, .int p1] (wpX2_setsDay post xpost (K.2.2 0) mc ms X0 p0 p1)) (hQi post K X0 sz) (hXC xpost K X0 sz) mc ms (hA X0 sz) := by
  refine vx_ofW (cc := cX2_setsDay) (maxL := 3) (ret := (some .int)) (by decide) rfl ?_
  intro p e s m args below meth c s₁ B hml hno hv
  obtain ⟨rfl, hv⟩ := hv
  obtain ⟨hC, hP, hw⟩ := HC.of hv
  have hsz : s.heap.size = sz := hv.1
  subst hsz
  clear hv
  have hout : ∀ {pc : Nat}, ∀ x ∈ c.exceptionTable.toList, covers x pc = false := fun x hx => (hno x hx).elim
  have hr := B.returns
  have hts := atoms_spec (ws := wsX2_setsDay) B.pre
  have hts : ∀ w ∈ lw_all, w.before _ s = true := fun w h => hts w (List.mem_cons_of_mem _ h)
  have hF : CallFix p m c cX2_setsDay 3 s ([.ref p0, .int p1] : List Value).toArray lw_all RX2 := ⟨B.exec, B.bytes, hml, findClass_of_methodNamed B.named, hts⟩
  have hlocks := B.notSynchronized
  have hl := lv_entry ([.ref p0, .int p1]) (n := 3) (Nat.le_of_ble_eq_true rfl)
  rw [lg_entry_eq]
  generalize (lg_sl ([.ref p0, .int p1]) ++ List.replicate (3 - (lg_sl ([.ref p0, .int p1])).length) Slot.unset).toArray = ls at hl ⊢
  have hl : lv_has ls 3 [(0, .ref p0), (1, .int p1)] := hl
  have hS : va_S (hA X0 s.heap.size) s.heap s.heap [] := va_S.rf
  unfold wpX2_setsDay at hw
  show W p l e (rmh 7 116 mc ms) s m _ below meth c _ _ _ _ _ _
  refine lv_iload_n hF.1 hF.2.1 dX2_setsDay_0 rfl (lv_at hl 1 rfl) ?_
  refine lv_i2l hF.1 hF.2.1 dX2_setsDay_1 rfl ?_
  refine lv_lconst (v := 0) hF.1 hF.2.1 dX2_setsDay_2 (by decide) ?_
  refine lv_ldc2 hF.1 hF.2.1 hF.2.2.2.1 (hF.2.2.2.2 _ q979) dX2_setsDay_3 ?_
  refine hp_i (hrp_SN (As := [.long (Int32.toInt64 p1), .long 0, .long 1000000]) (rest := []) hF hl.1 (metX1_isBetween l _ (Int32.toInt64 p1) 0 1000000) (va_cnB 3 hF.2.2.2.2 (lw_meth q849) rfl rfl rfl (hC.2.2.1.2.2.2.2.2.1 _ q847 rfl) (hF.2.2.2.2 _ q75) (by decide +kernel) ⟨Nat.le_of_ble_eq_true rfl, Nat.le_of_ble_eq_true rfl⟩) q848 hw rfl rfl (Nat.le_of_ble_eq_true rfl) dX2_setsDay_6 ⟨Nat.zero_le _, Nat.zero_le _⟩) (fun r_1 hw => ?_)
  refine lv_iconst (v := 1) hF.1 hF.2.1 dX2_setsDay_9 (by decide) ?_
  obtain ⟨mc_3, ms_4, hc_5, hs_6, hw⟩ := hw
  refine hkx_v (hrx_SN (As := [.int r_1, .int 1]) (rest := []) hF hl.1 hC hP hS (metX1_need l hlt K mc_3 ms_4 _ _ _ X0 r_1 1) (va_cnB 2 hF.2.2.2.2 (lw_meth q818) rfl rfl rfl (hC.2.2.1.2.2.2.2.2.1 _ q816 rfl) (hF.2.2.2.2 _ q75) (by decide +kernel) ⟨Nat.le_of_ble_eq_true rfl, Nat.le_of_ble_eq_true rfl⟩) q817 hw rfl rfl (Nat.le_of_ble_eq_true rfl) dX2_setsDay_10 ⟨hc_5, hs_6⟩) hP hS (fun E9 q9 X9 H locs hw hcl hP hS => ?_) (fun X_2 H locs hw hP hS => ?_)
  · exact h_out hout hlocks hcl hP hS ⟨hc_5, hs_6⟩ hw
  refine lv_aload_n hF.1 hF.2.1 dX2_setsDay_13 rfl (lv_at hl 0 rfl) ?_
  obtain ⟨fs_7, v_8, hx_9, hv_10, hw⟩ := hw
  refine x_get hF hC hP in_X2 rfl 7 (by decide) q168 (fun _ z => z) hx_9 hv_10 dX2_setsDay_14 ?_
  refine lv_istore_n (lv' := [(2, .int v_8), (0, .ref p0), (1, .int p1)]) hF.1 hF.2.1 dX2_setsDay_17 rfl hl (by decide) rfl (fun ls hl => ?_)
  refine lv_aload_n hF.1 hF.2.1 dX2_setsDay_18 rfl (lv_at hl 1 rfl) ?_
  refine lv_iload_n hF.1 hF.2.1 dX2_setsDay_19 rfl (lv_at hl 2 rfl) ?_
  obtain ⟨fs_11, hx_12, hl_13, hw⟩ := hw
  refine x_put hF hC hP hS in_X2 rfl tyX2 tyX2_ok nmX2 7 (by decide) q168 (fun _ z => z) rfl rfl rfl hx_12 hl_13 dX2_setsDay_20 (fun H locs hP hS => ?_)
  generalize hup X_2 p0 (.inr (2, fs_11.set 7 (.int p1))) = X_14 at hP hw
  refine lv_iload_n hF.1 hF.2.1 dX2_setsDay_23 rfl (lv_at hl 0 rfl) ?_
  exact vx_ret (h_iret hF hr hlocks hP hS ⟨hc_5, hs_6⟩ dX2_setsDay_24 hw)

/-! the law's wrappers, walked by program -/
set_option maxRecDepth 100000
def wpX0_addAxle (post : Int32 → hX → Prop) (xpost : String → Nat → hX → Prop) (E : Nat) (mc ms : Nat) (X : hX) (p0 : Nat) (p1 : Nat) : Prop := isO X p0 1 ((∃ mc_4 ms_5 : Nat, 0 + mc_4 ≤ mc ∧ 0 + ms_5 ≤ ms ∧ wpX1_addAxle (fun r_1 X_2 => asJ X_2 p1 0 (Int32.toInt64 r_1) (fun X_12 => post 0 X_12)) (fun E9 q9 X9 => (E9 = "java/lang/IllegalStateException" ∧ post 1 X9)) E mc_4 ms_5 X p0))
abbrev wsX0_addAxle : List Cond := wsW_ yX0_addAxle cX0_addAxle 3 (some .int) [(0, 8, 11, 13)]
set_option maxHeartbeats 8000000 in
theorem metX0_addAxle (l : Launch) (hlt : l.stackTraces = false) (K : HK) (mc ms : Nat) (sz : Nat) (post : Int32 → hX → Prop) (xpost : String → Nat → hX → Prop) (X0 : hX) (p0 : Nat) (p1 : Nat) : vx_Met l yX0_addAxle wsX0_addAxle (rmh 13 325 mc ms) (hPc K X0 sz [.ref p0, .ref p1] (wpX0_addAxle post xpost (K.2.2 0) mc ms X0 p0 p1)) (hQi post K X0 sz) (hXC xpost K X0 sz) mc ms (hA X0 sz) := by
  refine vx_ofWH (cc := cX0_addAxle) (maxL := 3) (ret := (some .int)) (by decide) rfl ?_
  intro p e s m args below meth c s₁ B hml hv
  obtain ⟨rfl, hv⟩ := hv
  obtain ⟨hC, hP, hw⟩ := HC.of hv
  have hsz : s.heap.size = sz := hv.1
  subst hsz
  clear hv
  have hr := B.returns
  have hts := atoms_spec (ws := wsX0_addAxle) B.pre
  have htab : c.exceptionTable.toList = tableOf [(0, 8, 11, 13)] := vx_table (x := yX0_addAxle) B (hts _ List.mem_cons_self)
  have hout : ∀ pc : Nat, (tableOf [(0, 8, 11, 13)]).all (fun x => !covers x pc) = true → ∀ x ∈ c.exceptionTable.toList, covers x pc = false := fun pc h x hx => by rw [htab] at hx; have h1 := List.all_eq_true.mp h x hx; exact (Bool.not_eq_true' _).mp h1
  have hts : ∀ w ∈ lw_all, w.before _ s = true := fun w h => hts w (List.mem_cons_of_mem _ h)
  have hF : CallFix p m c cX0_addAxle 3 s ([.ref p0, .ref p1] : List Value).toArray lw_all RX0 := ⟨B.exec, B.bytes, hml, findClass_of_methodNamed B.named, hts⟩
  have hlocks := B.notSynchronized
  have hl := lv_entry ([.ref p0, .ref p1]) (n := 3) (Nat.le_of_ble_eq_true rfl)
  rw [lg_entry_eq]
  generalize (lg_sl ([.ref p0, .ref p1]) ++ List.replicate (3 - (lg_sl ([.ref p0, .ref p1])).length) Slot.unset).toArray = ls at hl ⊢
  have hl : lv_has ls 3 [(0, .ref p0), (1, .ref p1)] := hl
  have hS : va_S (hA X0 s.heap.size) s.heap s.heap [] := va_S.rf
  unfold wpX0_addAxle at hw
  show W p l e (rmh 13 325 mc ms) s m _ below meth c _ _ _ _ _ _
  refine lv_aload_n hF.1 hF.2.1 dX0_addAxle_0 rfl (lv_at hl 1 rfl) ?_
  refine lv_iconst (v := 0) hF.1 hF.2.1 dX0_addAxle_1 (by decide) ?_
  refine lv_aload_n hF.1 hF.2.1 dX0_addAxle_2 rfl (lv_at hl 0 rfl) ?_
  obtain ⟨ho_3, hw⟩ := hw
  obtain ⟨mc_4, ms_5, hc_6, hs_7, hw⟩ := hw
  refine hkx_i (hrx_V (As := []) (rest := [.int 0, .ref p1]) (T := TX1) (N := 4) (ci := 1) hF hl.1 hC hP hS (metX1_addAxle l hlt K mc_4 ms_5 _ _ _ X0 p0) rfl (cwV 0 hF.2.2.2.2 (lw_V q740 q741 q742 q75 q743) rfl rfl rfl (by decide +kernel) ⟨Nat.le_of_ble_eq_true rfl, Nat.le_of_ble_eq_true rfl⟩) ho_3 hw rfl rfl (Nat.le_of_ble_eq_true rfl) dX0_addAxle_3 ⟨hc_6, hs_7⟩) hP hS (fun E9 q9 X9 H locs hw hcl hP hS => ?_) (fun r_1 X_2 H locs hw hP hS => ?_)
  · obtain ⟨rfl, hw⟩ := hw
    obtain ⟨ce9, g91, g92, g93⟩ := hcl
    refine vx_catch (own := RX0) (name := "java/lang/IllegalStateException") hF.2.2.2.1 (tableOf []) ⟨0, 8, 11, 13⟩ (tableOf []) htab (fun z hz => nomatch hz) rfl (by decide) (hF.2.2.2.2 _ q739) (va_Nw.use rfl (hC.2.2.1.2.2.2.2.2.1 _ q1002 rfl)) g91 g92 g93 ?_
    refine lv_astore_n (lv' := [(2, .ref q9), (0, .ref p0), (1, .ref p1)]) hF.1 hF.2.1 dX0_addAxle_11 rfl hl (by decide) rfl (fun ls hl => ?_)
    refine lv_iconst (v := 1) hF.1 hF.2.1 dX0_addAxle_12 (by decide) ?_
    exact vx_ret (h_iret hF hr hlocks hP hS ⟨hc_6, hs_7⟩ dX0_addAxle_13 hw)
  refine lv_i2l hF.1 hF.2.1 dX0_addAxle_6 rfl ?_
  obtain ⟨n_8, f_9, hx_10, hi_11, hw⟩ := hw
  refine x_last hF hC hP hS hx_10 hi_11 dX0_addAxle_7 (fun H locs hP hS => ?_)
  generalize hup X_2 p1 (.inl (1, n_8, .inr (.inl (vp_updL f_9 (Int32.toNatClampNeg 0) (Int32.toInt64 r_1))))) = X_12 at hP hw
  refine lv_goto (tgt := 14) hF.1 hF.2.1 dX0_addAxle_8 (by decide) ?_
  refine lv_iconst (v := 0) hF.1 hF.2.1 dX0_addAxle_14 (by decide) ?_
  exact vx_ret (h_iret hF hr hlocks hP hS ⟨hc_6, hs_7⟩ dX0_addAxle_15 hw)
def wpX0_addWheel (post : Int32 → hX → Prop) (xpost : String → Nat → hX → Prop) (E : Nat) (mc ms : Nat) (X : hX) (p0 : Nat) (p1 : Int32) (p2 : Int32) (p3 : Nat) : Prop := isO X p0 1 ((∃ mc_4 ms_5 : Nat, 0 + mc_4 ≤ mc ∧ 0 + ms_5 ≤ ms ∧ wpX1_addWheel (fun r_1 X_2 => asJ X_2 p3 0 (Int32.toInt64 r_1) (fun X_12 => post 0 X_12)) (fun E9 q9 X9 => (E9 = "java/lang/IllegalArgumentException" ∧ post 1 X9) ∨ (E9 = "java/lang/IllegalStateException" ∧ post 2 X9)) E mc_4 ms_5 X p0 p1 p2))
abbrev wsX0_addWheel : List Cond := wsW_ yX0_addWheel cX0_addWheel 5 (some .int) [(0, 10, 13, 19), (0, 10, 17, 13)]
set_option maxHeartbeats 8000000 in
theorem metX0_addWheel (l : Launch) (hlt : l.stackTraces = false) (K : HK) (mc ms : Nat) (sz : Nat) (post : Int32 → hX → Prop) (xpost : String → Nat → hX → Prop) (X0 : hX) (p0 : Nat) (p1 : Int32) (p2 : Int32) (p3 : Nat) : vx_Met l yX0_addWheel wsX0_addWheel (rmh 13 327 mc ms) (hPc K X0 sz [.ref p0, .int p1, .int p2, .ref p3] (wpX0_addWheel post xpost (K.2.2 0) mc ms X0 p0 p1 p2 p3)) (hQi post K X0 sz) (hXC xpost K X0 sz) mc ms (hA X0 sz) := by
  refine vx_ofWH (cc := cX0_addWheel) (maxL := 5) (ret := (some .int)) (by decide) rfl ?_
  intro p e s m args below meth c s₁ B hml hv
  obtain ⟨rfl, hv⟩ := hv
  obtain ⟨hC, hP, hw⟩ := HC.of hv
  have hsz : s.heap.size = sz := hv.1
  subst hsz
  clear hv
  have hr := B.returns
  have hts := atoms_spec (ws := wsX0_addWheel) B.pre
  have htab : c.exceptionTable.toList = tableOf [(0, 10, 13, 19), (0, 10, 17, 13)] := vx_table (x := yX0_addWheel) B (hts _ List.mem_cons_self)
  have hout : ∀ pc : Nat, (tableOf [(0, 10, 13, 19), (0, 10, 17, 13)]).all (fun x => !covers x pc) = true → ∀ x ∈ c.exceptionTable.toList, covers x pc = false := fun pc h x hx => by rw [htab] at hx; have h1 := List.all_eq_true.mp h x hx; exact (Bool.not_eq_true' _).mp h1
  have hts : ∀ w ∈ lw_all, w.before _ s = true := fun w h => hts w (List.mem_cons_of_mem _ h)
  have hF : CallFix p m c cX0_addWheel 5 s ([.ref p0, .int p1, .int p2, .ref p3] : List Value).toArray lw_all RX0 := ⟨B.exec, B.bytes, hml, findClass_of_methodNamed B.named, hts⟩
  have hlocks := B.notSynchronized
  have hl := lv_entry ([.ref p0, .int p1, .int p2, .ref p3]) (n := 5) (Nat.le_of_ble_eq_true rfl)
  rw [lg_entry_eq]
  generalize (lg_sl ([.ref p0, .int p1, .int p2, .ref p3]) ++ List.replicate (5 - (lg_sl ([.ref p0, .int p1, .int p2, .ref p3])).length) Slot.unset).toArray = ls at hl ⊢
  have hl : lv_has ls 5 [(0, .ref p0), (1, .int p1), (2, .int p2), (3, .ref p3)] := hl
  have hS : va_S (hA X0 s.heap.size) s.heap s.heap [] := va_S.rf
  unfold wpX0_addWheel at hw
  show W p l e (rmh 13 327 mc ms) s m _ below meth c _ _ _ _ _ _
  refine lv_aload_n hF.1 hF.2.1 dX0_addWheel_0 rfl (lv_at hl 3 rfl) ?_
  refine lv_iconst (v := 0) hF.1 hF.2.1 dX0_addWheel_1 (by decide) ?_
  refine lv_aload_n hF.1 hF.2.1 dX0_addWheel_2 rfl (lv_at hl 0 rfl) ?_
  refine lv_iload_n hF.1 hF.2.1 dX0_addWheel_3 rfl (lv_at hl 1 rfl) ?_
  refine lv_iload_n hF.1 hF.2.1 dX0_addWheel_4 rfl (lv_at hl 2 rfl) ?_
  obtain ⟨ho_3, hw⟩ := hw
  obtain ⟨mc_4, ms_5, hc_6, hs_7, hw⟩ := hw
  refine hkx_i (hrx_V (As := [.int p1, .int p2]) (rest := [.int 0, .ref p3]) (T := TX1) (N := 4) (ci := 1) hF hl.1 hC hP hS (metX1_addWheel l hlt K mc_4 ms_5 _ _ _ X0 p0 p1 p2) rfl (cwV 2 hF.2.2.2.2 (lw_V q1061 q1062 q1063 q75 q1064) rfl rfl rfl (by decide +kernel) ⟨Nat.le_of_ble_eq_true rfl, Nat.le_of_ble_eq_true rfl⟩) ho_3 hw rfl rfl (Nat.le_of_ble_eq_true rfl) dX0_addWheel_5 ⟨hc_6, hs_7⟩) hP hS (fun E9 q9 X9 H locs hw hcl hP hS => ?_) (fun r_1 X_2 H locs hw hP hS => ?_)
  · rcases hw with ⟨rfl, hw⟩ | ⟨rfl, hw⟩
    · obtain ⟨ce9, g91, g92, g93⟩ := hcl
      refine vx_catch (own := RX0) (name := "java/lang/IllegalArgumentException") hF.2.2.2.1 (tableOf []) ⟨0, 10, 13, 19⟩ (tableOf [(0, 10, 17, 13)]) htab (fun z hz => nomatch hz) rfl (by decide) (hF.2.2.2.2 _ q1060) (va_Nw.use rfl (hC.2.2.1.2.2.2.2.2.1 _ q503 rfl)) g91 g92 g93 ?_
      refine lv_astore (lv' := [(4, .ref q9), (0, .ref p0), (1, .int p1), (2, .int p2), (3, .ref p3)]) hF.1 hF.2.1 dX0_addWheel_13 hl (by decide) rfl (fun ls hl => ?_)
      refine lv_iconst (v := 1) hF.1 hF.2.1 dX0_addWheel_15 (by decide) ?_
      exact vx_ret (h_iret hF hr hlocks hP hS ⟨hc_6, hs_7⟩ dX0_addWheel_16 hw)
    · obtain ⟨ce9, g91, g92, g93⟩ := hcl
      refine vx_catch (own := RX0) (name := "java/lang/IllegalStateException") hF.2.2.2.1 (tableOf [(0, 10, 13, 19)]) ⟨0, 10, 17, 13⟩ (tableOf []) htab (List.forall_mem_cons.mpr ⟨Or.inr ⟨by decide, _, hF.2.2.2.2 _ q1060, hC.2.2.1.2.2.2.2.2.2.1 ("java/lang/IllegalStateException", "java/lang/IllegalArgumentException") (by decide)⟩, fun _ hz => nomatch hz⟩) rfl (by decide) (hF.2.2.2.2 _ q739) (va_Nw.use rfl (hC.2.2.1.2.2.2.2.2.1 _ q1002 rfl)) g91 g92 g93 ?_
      refine lv_astore (lv' := [(4, .ref q9), (0, .ref p0), (1, .int p1), (2, .int p2), (3, .ref p3)]) hF.1 hF.2.1 dX0_addWheel_17 hl (by decide) rfl (fun ls hl => ?_)
      refine lv_iconst (v := 2) hF.1 hF.2.1 dX0_addWheel_19 (by decide) ?_
      exact vx_ret (h_iret hF hr hlocks hP hS ⟨hc_6, hs_7⟩ dX0_addWheel_20 hw)
  refine lv_i2l hF.1 hF.2.1 dX0_addWheel_8 rfl ?_
  obtain ⟨n_8, f_9, hx_10, hi_11, hw⟩ := hw
  refine x_last hF hC hP hS hx_10 hi_11 dX0_addWheel_9 (fun H locs hP hS => ?_)
  generalize hup X_2 p3 (.inl (1, n_8, .inr (.inl (vp_updL f_9 (Int32.toNatClampNeg 0) (Int32.toInt64 r_1))))) = X_12 at hP hw
  refine lv_goto (tgt := 21) hF.1 hF.2.1 dX0_addWheel_10 (by decide) ?_
  refine lv_iconst (v := 0) hF.1 hF.2.1 dX0_addWheel_21 (by decide) ?_
  exact vx_ret (h_iret hF hr hlocks hP hS ⟨hc_6, hs_7⟩ dX0_addWheel_22 hw)
def wpX0_mesh (post : Int32 → hX → Prop) (xpost : String → Nat → hX → Prop) (E : Nat) (mc ms : Nat) (X : hX) (p0 : Nat) (p1 : Int32) (p2 : Int32) (p3 : Nat) : Prop := isO X p0 1 ((∃ mc_4 ms_5 : Nat, 0 + mc_4 ≤ mc ∧ 0 + ms_5 ≤ ms ∧ wpX1_mesh (fun r_1 X_2 => asJ X_2 p3 0 (Int32.toInt64 r_1) (fun X_12 => post 0 X_12)) (fun E9 q9 X9 => (E9 = "java/lang/IllegalArgumentException" ∧ post 1 X9) ∨ (E9 = "java/lang/IllegalStateException" ∧ post 2 X9)) E mc_4 ms_5 X p0 p1 p2))
abbrev wsX0_mesh : List Cond := wsW_ yX0_mesh cX0_mesh 5 (some .int) [(0, 10, 13, 19), (0, 10, 17, 13)]
set_option maxHeartbeats 8000000 in
theorem metX0_mesh (l : Launch) (hlt : l.stackTraces = false) (K : HK) (mc ms : Nat) (sz : Nat) (post : Int32 → hX → Prop) (xpost : String → Nat → hX → Prop) (X0 : hX) (p0 : Nat) (p1 : Int32) (p2 : Int32) (p3 : Nat) : vx_Met l yX0_mesh wsX0_mesh (rmh 13 327 mc ms) (hPc K X0 sz [.ref p0, .int p1, .int p2, .ref p3] (wpX0_mesh post xpost (K.2.2 0) mc ms X0 p0 p1 p2 p3)) (hQi post K X0 sz) (hXC xpost K X0 sz) mc ms (hA X0 sz) := by
  refine vx_ofWH (cc := cX0_mesh) (maxL := 5) (ret := (some .int)) (by decide) rfl ?_
  intro p e s m args below meth c s₁ B hml hv
  obtain ⟨rfl, hv⟩ := hv
  obtain ⟨hC, hP, hw⟩ := HC.of hv
  have hsz : s.heap.size = sz := hv.1
  subst hsz
  clear hv
  have hr := B.returns
  have hts := atoms_spec (ws := wsX0_mesh) B.pre
  have htab : c.exceptionTable.toList = tableOf [(0, 10, 13, 19), (0, 10, 17, 13)] := vx_table (x := yX0_mesh) B (hts _ List.mem_cons_self)
  have hout : ∀ pc : Nat, (tableOf [(0, 10, 13, 19), (0, 10, 17, 13)]).all (fun x => !covers x pc) = true → ∀ x ∈ c.exceptionTable.toList, covers x pc = false := fun pc h x hx => by rw [htab] at hx; have h1 := List.all_eq_true.mp h x hx; exact (Bool.not_eq_true' _).mp h1
  have hts : ∀ w ∈ lw_all, w.before _ s = true := fun w h => hts w (List.mem_cons_of_mem _ h)
  have hF : CallFix p m c cX0_mesh 5 s ([.ref p0, .int p1, .int p2, .ref p3] : List Value).toArray lw_all RX0 := ⟨B.exec, B.bytes, hml, findClass_of_methodNamed B.named, hts⟩
  have hlocks := B.notSynchronized
  have hl := lv_entry ([.ref p0, .int p1, .int p2, .ref p3]) (n := 5) (Nat.le_of_ble_eq_true rfl)
  rw [lg_entry_eq]
  generalize (lg_sl ([.ref p0, .int p1, .int p2, .ref p3]) ++ List.replicate (5 - (lg_sl ([.ref p0, .int p1, .int p2, .ref p3])).length) Slot.unset).toArray = ls at hl ⊢
  have hl : lv_has ls 5 [(0, .ref p0), (1, .int p1), (2, .int p2), (3, .ref p3)] := hl
  have hS : va_S (hA X0 s.heap.size) s.heap s.heap [] := va_S.rf
  unfold wpX0_mesh at hw
  show W p l e (rmh 13 327 mc ms) s m _ below meth c _ _ _ _ _ _
  refine lv_aload_n hF.1 hF.2.1 dX0_mesh_0 rfl (lv_at hl 3 rfl) ?_
  refine lv_iconst (v := 0) hF.1 hF.2.1 dX0_mesh_1 (by decide) ?_
  refine lv_aload_n hF.1 hF.2.1 dX0_mesh_2 rfl (lv_at hl 0 rfl) ?_
  refine lv_iload_n hF.1 hF.2.1 dX0_mesh_3 rfl (lv_at hl 1 rfl) ?_
  refine lv_iload_n hF.1 hF.2.1 dX0_mesh_4 rfl (lv_at hl 2 rfl) ?_
  obtain ⟨ho_3, hw⟩ := hw
  obtain ⟨mc_4, ms_5, hc_6, hs_7, hw⟩ := hw
  refine hkx_i (hrx_V (As := [.int p1, .int p2]) (rest := [.int 0, .ref p3]) (T := TX1) (N := 4) (ci := 1) hF hl.1 hC hP hS (metX1_mesh l hlt K mc_4 ms_5 _ _ _ X0 p0 p1 p2) rfl (cwV 2 hF.2.2.2.2 (lw_V q1068 q1069 q1070 q75 q1071) rfl rfl rfl (by decide +kernel) ⟨Nat.le_of_ble_eq_true rfl, Nat.le_of_ble_eq_true rfl⟩) ho_3 hw rfl rfl (Nat.le_of_ble_eq_true rfl) dX0_mesh_5 ⟨hc_6, hs_7⟩) hP hS (fun E9 q9 X9 H locs hw hcl hP hS => ?_) (fun r_1 X_2 H locs hw hP hS => ?_)
  · rcases hw with ⟨rfl, hw⟩ | ⟨rfl, hw⟩
    · obtain ⟨ce9, g91, g92, g93⟩ := hcl
      refine vx_catch (own := RX0) (name := "java/lang/IllegalArgumentException") hF.2.2.2.1 (tableOf []) ⟨0, 10, 13, 19⟩ (tableOf [(0, 10, 17, 13)]) htab (fun z hz => nomatch hz) rfl (by decide) (hF.2.2.2.2 _ q1060) (va_Nw.use rfl (hC.2.2.1.2.2.2.2.2.1 _ q503 rfl)) g91 g92 g93 ?_
      refine lv_astore (lv' := [(4, .ref q9), (0, .ref p0), (1, .int p1), (2, .int p2), (3, .ref p3)]) hF.1 hF.2.1 dX0_mesh_13 hl (by decide) rfl (fun ls hl => ?_)
      refine lv_iconst (v := 1) hF.1 hF.2.1 dX0_mesh_15 (by decide) ?_
      exact vx_ret (h_iret hF hr hlocks hP hS ⟨hc_6, hs_7⟩ dX0_mesh_16 hw)
    · obtain ⟨ce9, g91, g92, g93⟩ := hcl
      refine vx_catch (own := RX0) (name := "java/lang/IllegalStateException") hF.2.2.2.1 (tableOf [(0, 10, 13, 19)]) ⟨0, 10, 17, 13⟩ (tableOf []) htab (List.forall_mem_cons.mpr ⟨Or.inr ⟨by decide, _, hF.2.2.2.2 _ q1060, hC.2.2.1.2.2.2.2.2.2.1 ("java/lang/IllegalStateException", "java/lang/IllegalArgumentException") (by decide)⟩, fun _ hz => nomatch hz⟩) rfl (by decide) (hF.2.2.2.2 _ q739) (va_Nw.use rfl (hC.2.2.1.2.2.2.2.2.1 _ q1002 rfl)) g91 g92 g93 ?_
      refine lv_astore (lv' := [(4, .ref q9), (0, .ref p0), (1, .int p1), (2, .int p2), (3, .ref p3)]) hF.1 hF.2.1 dX0_mesh_17 hl (by decide) rfl (fun ls hl => ?_)
      refine lv_iconst (v := 2) hF.1 hF.2.1 dX0_mesh_19 (by decide) ?_
      exact vx_ret (h_iret hF hr hlocks hP hS ⟨hc_6, hs_7⟩ dX0_mesh_20 hw)
  refine lv_i2l hF.1 hF.2.1 dX0_mesh_8 rfl ?_
  obtain ⟨n_8, f_9, hx_10, hi_11, hw⟩ := hw
  refine x_last hF hC hP hS hx_10 hi_11 dX0_mesh_9 (fun H locs hP hS => ?_)
  generalize hup X_2 p3 (.inl (1, n_8, .inr (.inl (vp_updL f_9 (Int32.toNatClampNeg 0) (Int32.toInt64 r_1))))) = X_12 at hP hw
  refine lv_goto (tgt := 21) hF.1 hF.2.1 dX0_mesh_10 (by decide) ?_
  refine lv_iconst (v := 0) hF.1 hF.2.1 dX0_mesh_21 (by decide) ?_
  exact vx_ret (h_iret hF hr hlocks hP hS ⟨hc_6, hs_7⟩ dX0_mesh_22 hw)
def wpX0_unmesh (post : Int32 → hX → Prop) (xpost : String → Nat → hX → Prop) (E : Nat) (mc ms : Nat) (X : hX) (p0 : Nat) (p1 : Int32) (p2 : Nat) : Prop := isO X p0 1 ((∃ mc_4 ms_5 : Nat, 0 + mc_4 ≤ mc ∧ 0 + ms_5 ≤ ms ∧ wpX1_unmesh (fun r_1 X_2 => asJ X_2 p2 0 (Int32.toInt64 r_1) (fun X_12 => post 0 X_12)) (fun E9 q9 X9 => (E9 = "java/lang/IllegalArgumentException" ∧ post 1 X9) ∨ (E9 = "java/lang/IllegalStateException" ∧ post 2 X9)) E mc_4 ms_5 X p0 p1))
abbrev wsX0_unmesh : List Cond := wsW_ yX0_unmesh cX0_unmesh 4 (some .int) [(0, 9, 12, 19), (0, 9, 15, 13)]
set_option maxHeartbeats 8000000 in
theorem metX0_unmesh (l : Launch) (hlt : l.stackTraces = false) (K : HK) (mc ms : Nat) (sz : Nat) (post : Int32 → hX → Prop) (xpost : String → Nat → hX → Prop) (X0 : hX) (p0 : Nat) (p1 : Int32) (p2 : Nat) : vx_Met l yX0_unmesh wsX0_unmesh (rmh 13 326 mc ms) (hPc K X0 sz [.ref p0, .int p1, .ref p2] (wpX0_unmesh post xpost (K.2.2 0) mc ms X0 p0 p1 p2)) (hQi post K X0 sz) (hXC xpost K X0 sz) mc ms (hA X0 sz) := by
  refine vx_ofWH (cc := cX0_unmesh) (maxL := 4) (ret := (some .int)) (by decide) rfl ?_
  intro p e s m args below meth c s₁ B hml hv
  obtain ⟨rfl, hv⟩ := hv
  obtain ⟨hC, hP, hw⟩ := HC.of hv
  have hsz : s.heap.size = sz := hv.1
  subst hsz
  clear hv
  have hr := B.returns
  have hts := atoms_spec (ws := wsX0_unmesh) B.pre
  have htab : c.exceptionTable.toList = tableOf [(0, 9, 12, 19), (0, 9, 15, 13)] := vx_table (x := yX0_unmesh) B (hts _ List.mem_cons_self)
  have hout : ∀ pc : Nat, (tableOf [(0, 9, 12, 19), (0, 9, 15, 13)]).all (fun x => !covers x pc) = true → ∀ x ∈ c.exceptionTable.toList, covers x pc = false := fun pc h x hx => by rw [htab] at hx; have h1 := List.all_eq_true.mp h x hx; exact (Bool.not_eq_true' _).mp h1
  have hts : ∀ w ∈ lw_all, w.before _ s = true := fun w h => hts w (List.mem_cons_of_mem _ h)
  have hF : CallFix p m c cX0_unmesh 4 s ([.ref p0, .int p1, .ref p2] : List Value).toArray lw_all RX0 := ⟨B.exec, B.bytes, hml, findClass_of_methodNamed B.named, hts⟩
  have hlocks := B.notSynchronized
  have hl := lv_entry ([.ref p0, .int p1, .ref p2]) (n := 4) (Nat.le_of_ble_eq_true rfl)
  rw [lg_entry_eq]
  generalize (lg_sl ([.ref p0, .int p1, .ref p2]) ++ List.replicate (4 - (lg_sl ([.ref p0, .int p1, .ref p2])).length) Slot.unset).toArray = ls at hl ⊢
  have hl : lv_has ls 4 [(0, .ref p0), (1, .int p1), (2, .ref p2)] := hl
  have hS : va_S (hA X0 s.heap.size) s.heap s.heap [] := va_S.rf
  unfold wpX0_unmesh at hw
  show W p l e (rmh 13 326 mc ms) s m _ below meth c _ _ _ _ _ _
  refine lv_aload_n hF.1 hF.2.1 dX0_unmesh_0 rfl (lv_at hl 2 rfl) ?_
  refine lv_iconst (v := 0) hF.1 hF.2.1 dX0_unmesh_1 (by decide) ?_
  refine lv_aload_n hF.1 hF.2.1 dX0_unmesh_2 rfl (lv_at hl 0 rfl) ?_
  refine lv_iload_n hF.1 hF.2.1 dX0_unmesh_3 rfl (lv_at hl 1 rfl) ?_
  obtain ⟨ho_3, hw⟩ := hw
  obtain ⟨mc_4, ms_5, hc_6, hs_7, hw⟩ := hw
  refine hkx_i (hrx_V (As := [.int p1]) (rest := [.int 0, .ref p2]) (T := TX1) (N := 4) (ci := 1) hF hl.1 hC hP hS (metX1_unmesh l hlt K mc_4 ms_5 _ _ _ X0 p0 p1) rfl (cwV 1 hF.2.2.2.2 (lw_V q1075 q1076 q1077 q75 q1078) rfl rfl rfl (by decide +kernel) ⟨Nat.le_of_ble_eq_true rfl, Nat.le_of_ble_eq_true rfl⟩) ho_3 hw rfl rfl (Nat.le_of_ble_eq_true rfl) dX0_unmesh_4 ⟨hc_6, hs_7⟩) hP hS (fun E9 q9 X9 H locs hw hcl hP hS => ?_) (fun r_1 X_2 H locs hw hP hS => ?_)
  · rcases hw with ⟨rfl, hw⟩ | ⟨rfl, hw⟩
    · obtain ⟨ce9, g91, g92, g93⟩ := hcl
      refine vx_catch (own := RX0) (name := "java/lang/IllegalArgumentException") hF.2.2.2.1 (tableOf []) ⟨0, 9, 12, 19⟩ (tableOf [(0, 9, 15, 13)]) htab (fun z hz => nomatch hz) rfl (by decide) (hF.2.2.2.2 _ q1060) (va_Nw.use rfl (hC.2.2.1.2.2.2.2.2.1 _ q503 rfl)) g91 g92 g93 ?_
      refine lv_astore_n (lv' := [(3, .ref q9), (0, .ref p0), (1, .int p1), (2, .ref p2)]) hF.1 hF.2.1 dX0_unmesh_12 rfl hl (by decide) rfl (fun ls hl => ?_)
      refine lv_iconst (v := 1) hF.1 hF.2.1 dX0_unmesh_13 (by decide) ?_
      exact vx_ret (h_iret hF hr hlocks hP hS ⟨hc_6, hs_7⟩ dX0_unmesh_14 hw)
    · obtain ⟨ce9, g91, g92, g93⟩ := hcl
      refine vx_catch (own := RX0) (name := "java/lang/IllegalStateException") hF.2.2.2.1 (tableOf [(0, 9, 12, 19)]) ⟨0, 9, 15, 13⟩ (tableOf []) htab (List.forall_mem_cons.mpr ⟨Or.inr ⟨by decide, _, hF.2.2.2.2 _ q1060, hC.2.2.1.2.2.2.2.2.2.1 ("java/lang/IllegalStateException", "java/lang/IllegalArgumentException") (by decide)⟩, fun _ hz => nomatch hz⟩) rfl (by decide) (hF.2.2.2.2 _ q739) (va_Nw.use rfl (hC.2.2.1.2.2.2.2.2.1 _ q1002 rfl)) g91 g92 g93 ?_
      refine lv_astore_n (lv' := [(3, .ref q9), (0, .ref p0), (1, .int p1), (2, .ref p2)]) hF.1 hF.2.1 dX0_unmesh_15 rfl hl (by decide) rfl (fun ls hl => ?_)
      refine lv_iconst (v := 2) hF.1 hF.2.1 dX0_unmesh_16 (by decide) ?_
      exact vx_ret (h_iret hF hr hlocks hP hS ⟨hc_6, hs_7⟩ dX0_unmesh_17 hw)
  refine lv_i2l hF.1 hF.2.1 dX0_unmesh_7 rfl ?_
  obtain ⟨n_8, f_9, hx_10, hi_11, hw⟩ := hw
  refine x_last hF hC hP hS hx_10 hi_11 dX0_unmesh_8 (fun H locs hP hS => ?_)
  generalize hup X_2 p2 (.inl (1, n_8, .inr (.inl (vp_updL f_9 (Int32.toNatClampNeg 0) (Int32.toInt64 r_1))))) = X_12 at hP hw
  refine lv_goto (tgt := 18) hF.1 hF.2.1 dX0_unmesh_9 (by decide) ?_
  refine lv_iconst (v := 0) hF.1 hF.2.1 dX0_unmesh_18 (by decide) ?_
  exact vx_ret (h_iret hF hr hlocks hP hS ⟨hc_6, hs_7⟩ dX0_unmesh_19 hw)
def wpX0_setTeeth (post : Int32 → hX → Prop) (xpost : String → Nat → hX → Prop) (E : Nat) (mc ms : Nat) (X : hX) (p0 : Nat) (p1 : Int32) (p2 : Int32) (p3 : Nat) : Prop := isO X p0 1 ((∃ mc_4 ms_5 : Nat, 0 + mc_4 ≤ mc ∧ 0 + ms_5 ≤ ms ∧ wpX1_setTeeth (fun r_1 X_2 => asJ X_2 p3 0 (Int32.toInt64 r_1) (fun X_12 => post 0 X_12)) (fun E9 q9 X9 => (E9 = "java/lang/IllegalArgumentException" ∧ post 1 X9) ∨ (E9 = "java/lang/IllegalStateException" ∧ post 2 X9)) E mc_4 ms_5 X p0 p1 p2))
abbrev wsX0_setTeeth : List Cond := wsW_ yX0_setTeeth cX0_setTeeth 5 (some .int) [(0, 10, 13, 19), (0, 10, 17, 13)]
set_option maxHeartbeats 8000000 in
theorem metX0_setTeeth (l : Launch) (hlt : l.stackTraces = false) (K : HK) (mc ms : Nat) (sz : Nat) (post : Int32 → hX → Prop) (xpost : String → Nat → hX → Prop) (X0 : hX) (p0 : Nat) (p1 : Int32) (p2 : Int32) (p3 : Nat) : vx_Met l yX0_setTeeth wsX0_setTeeth (rmh 13 327 mc ms) (hPc K X0 sz [.ref p0, .int p1, .int p2, .ref p3] (wpX0_setTeeth post xpost (K.2.2 0) mc ms X0 p0 p1 p2 p3)) (hQi post K X0 sz) (hXC xpost K X0 sz) mc ms (hA X0 sz) := by
  refine vx_ofWH (cc := cX0_setTeeth) (maxL := 5) (ret := (some .int)) (by decide) rfl ?_
  intro p e s m args below meth c s₁ B hml hv
  obtain ⟨rfl, hv⟩ := hv
  obtain ⟨hC, hP, hw⟩ := HC.of hv
  have hsz : s.heap.size = sz := hv.1
  subst hsz
  clear hv
  have hr := B.returns
  have hts := atoms_spec (ws := wsX0_setTeeth) B.pre
  have htab : c.exceptionTable.toList = tableOf [(0, 10, 13, 19), (0, 10, 17, 13)] := vx_table (x := yX0_setTeeth) B (hts _ List.mem_cons_self)
  have hout : ∀ pc : Nat, (tableOf [(0, 10, 13, 19), (0, 10, 17, 13)]).all (fun x => !covers x pc) = true → ∀ x ∈ c.exceptionTable.toList, covers x pc = false := fun pc h x hx => by rw [htab] at hx; have h1 := List.all_eq_true.mp h x hx; exact (Bool.not_eq_true' _).mp h1
  have hts : ∀ w ∈ lw_all, w.before _ s = true := fun w h => hts w (List.mem_cons_of_mem _ h)
  have hF : CallFix p m c cX0_setTeeth 5 s ([.ref p0, .int p1, .int p2, .ref p3] : List Value).toArray lw_all RX0 := ⟨B.exec, B.bytes, hml, findClass_of_methodNamed B.named, hts⟩
  have hlocks := B.notSynchronized
  have hl := lv_entry ([.ref p0, .int p1, .int p2, .ref p3]) (n := 5) (Nat.le_of_ble_eq_true rfl)
  rw [lg_entry_eq]
  generalize (lg_sl ([.ref p0, .int p1, .int p2, .ref p3]) ++ List.replicate (5 - (lg_sl ([.ref p0, .int p1, .int p2, .ref p3])).length) Slot.unset).toArray = ls at hl ⊢
  have hl : lv_has ls 5 [(0, .ref p0), (1, .int p1), (2, .int p2), (3, .ref p3)] := hl
  have hS : va_S (hA X0 s.heap.size) s.heap s.heap [] := va_S.rf
  unfold wpX0_setTeeth at hw
  show W p l e (rmh 13 327 mc ms) s m _ below meth c _ _ _ _ _ _
  refine lv_aload_n hF.1 hF.2.1 dX0_setTeeth_0 rfl (lv_at hl 3 rfl) ?_
  refine lv_iconst (v := 0) hF.1 hF.2.1 dX0_setTeeth_1 (by decide) ?_
  refine lv_aload_n hF.1 hF.2.1 dX0_setTeeth_2 rfl (lv_at hl 0 rfl) ?_
  refine lv_iload_n hF.1 hF.2.1 dX0_setTeeth_3 rfl (lv_at hl 1 rfl) ?_
  refine lv_iload_n hF.1 hF.2.1 dX0_setTeeth_4 rfl (lv_at hl 2 rfl) ?_
  obtain ⟨ho_3, hw⟩ := hw
  obtain ⟨mc_4, ms_5, hc_6, hs_7, hw⟩ := hw
  refine hkx_i (hrx_V (As := [.int p1, .int p2]) (rest := [.int 0, .ref p3]) (T := TX1) (N := 4) (ci := 1) hF hl.1 hC hP hS (metX1_setTeeth l hlt K mc_4 ms_5 _ _ _ X0 p0 p1 p2) rfl (cwV 2 hF.2.2.2.2 (lw_V q1082 q1083 q1084 q75 q1085) rfl rfl rfl (by decide +kernel) ⟨Nat.le_of_ble_eq_true rfl, Nat.le_of_ble_eq_true rfl⟩) ho_3 hw rfl rfl (Nat.le_of_ble_eq_true rfl) dX0_setTeeth_5 ⟨hc_6, hs_7⟩) hP hS (fun E9 q9 X9 H locs hw hcl hP hS => ?_) (fun r_1 X_2 H locs hw hP hS => ?_)
  · rcases hw with ⟨rfl, hw⟩ | ⟨rfl, hw⟩
    · obtain ⟨ce9, g91, g92, g93⟩ := hcl
      refine vx_catch (own := RX0) (name := "java/lang/IllegalArgumentException") hF.2.2.2.1 (tableOf []) ⟨0, 10, 13, 19⟩ (tableOf [(0, 10, 17, 13)]) htab (fun z hz => nomatch hz) rfl (by decide) (hF.2.2.2.2 _ q1060) (va_Nw.use rfl (hC.2.2.1.2.2.2.2.2.1 _ q503 rfl)) g91 g92 g93 ?_
      refine lv_astore (lv' := [(4, .ref q9), (0, .ref p0), (1, .int p1), (2, .int p2), (3, .ref p3)]) hF.1 hF.2.1 dX0_setTeeth_13 hl (by decide) rfl (fun ls hl => ?_)
      refine lv_iconst (v := 1) hF.1 hF.2.1 dX0_setTeeth_15 (by decide) ?_
      exact vx_ret (h_iret hF hr hlocks hP hS ⟨hc_6, hs_7⟩ dX0_setTeeth_16 hw)
    · obtain ⟨ce9, g91, g92, g93⟩ := hcl
      refine vx_catch (own := RX0) (name := "java/lang/IllegalStateException") hF.2.2.2.1 (tableOf [(0, 10, 13, 19)]) ⟨0, 10, 17, 13⟩ (tableOf []) htab (List.forall_mem_cons.mpr ⟨Or.inr ⟨by decide, _, hF.2.2.2.2 _ q1060, hC.2.2.1.2.2.2.2.2.2.1 ("java/lang/IllegalStateException", "java/lang/IllegalArgumentException") (by decide)⟩, fun _ hz => nomatch hz⟩) rfl (by decide) (hF.2.2.2.2 _ q739) (va_Nw.use rfl (hC.2.2.1.2.2.2.2.2.1 _ q1002 rfl)) g91 g92 g93 ?_
      refine lv_astore (lv' := [(4, .ref q9), (0, .ref p0), (1, .int p1), (2, .int p2), (3, .ref p3)]) hF.1 hF.2.1 dX0_setTeeth_17 hl (by decide) rfl (fun ls hl => ?_)
      refine lv_iconst (v := 2) hF.1 hF.2.1 dX0_setTeeth_19 (by decide) ?_
      exact vx_ret (h_iret hF hr hlocks hP hS ⟨hc_6, hs_7⟩ dX0_setTeeth_20 hw)
  refine lv_i2l hF.1 hF.2.1 dX0_setTeeth_8 rfl ?_
  obtain ⟨n_8, f_9, hx_10, hi_11, hw⟩ := hw
  refine x_last hF hC hP hS hx_10 hi_11 dX0_setTeeth_9 (fun H locs hP hS => ?_)
  generalize hup X_2 p3 (.inl (1, n_8, .inr (.inl (vp_updL f_9 (Int32.toNatClampNeg 0) (Int32.toInt64 r_1))))) = X_12 at hP hw
  refine lv_goto (tgt := 21) hF.1 hF.2.1 dX0_setTeeth_10 (by decide) ?_
  refine lv_iconst (v := 0) hF.1 hF.2.1 dX0_setTeeth_21 (by decide) ?_
  exact vx_ret (h_iret hF hr hlocks hP hS ⟨hc_6, hs_7⟩ dX0_setTeeth_22 hw)
def wpX0_addArm (post : Int32 → hX → Prop) (xpost : String → Nat → hX → Prop) (E : Nat) (mc ms : Nat) (X : hX) (p0 : Nat) (p1 : Int32) (p2 : Int32) (p3 : Nat) : Prop := isO X p0 1 ((∃ mc_4 ms_5 : Nat, 0 + mc_4 ≤ mc ∧ 0 + ms_5 ≤ ms ∧ wpX1_addArm (fun r_1 X_2 => asJ X_2 p3 0 (Int32.toInt64 r_1) (fun X_12 => post 0 X_12)) (fun E9 q9 X9 => (E9 = "java/lang/IllegalArgumentException" ∧ post 1 X9) ∨ (E9 = "java/lang/IllegalStateException" ∧ post 2 X9)) E mc_4 ms_5 X p0 p1 p2))
abbrev wsX0_addArm : List Cond := wsW_ yX0_addArm cX0_addArm 5 (some .int) [(0, 10, 13, 19), (0, 10, 17, 13)]
set_option maxHeartbeats 8000000 in
theorem metX0_addArm (l : Launch) (hlt : l.stackTraces = false) (K : HK) (mc ms : Nat) (sz : Nat) (post : Int32 → hX → Prop) (xpost : String → Nat → hX → Prop) (X0 : hX) (p0 : Nat) (p1 : Int32) (p2 : Int32) (p3 : Nat) : vx_Met l yX0_addArm wsX0_addArm (rmh 13 327 mc ms) (hPc K X0 sz [.ref p0, .int p1, .int p2, .ref p3] (wpX0_addArm post xpost (K.2.2 0) mc ms X0 p0 p1 p2 p3)) (hQi post K X0 sz) (hXC xpost K X0 sz) mc ms (hA X0 sz) := by
  refine vx_ofWH (cc := cX0_addArm) (maxL := 5) (ret := (some .int)) (by decide) rfl ?_
  intro p e s m args below meth c s₁ B hml hv
  obtain ⟨rfl, hv⟩ := hv
  obtain ⟨hC, hP, hw⟩ := HC.of hv
  have hsz : s.heap.size = sz := hv.1
  subst hsz
  clear hv
  have hr := B.returns
  have hts := atoms_spec (ws := wsX0_addArm) B.pre
  have htab : c.exceptionTable.toList = tableOf [(0, 10, 13, 19), (0, 10, 17, 13)] := vx_table (x := yX0_addArm) B (hts _ List.mem_cons_self)
  have hout : ∀ pc : Nat, (tableOf [(0, 10, 13, 19), (0, 10, 17, 13)]).all (fun x => !covers x pc) = true → ∀ x ∈ c.exceptionTable.toList, covers x pc = false := fun pc h x hx => by rw [htab] at hx; have h1 := List.all_eq_true.mp h x hx; exact (Bool.not_eq_true' _).mp h1
  have hts : ∀ w ∈ lw_all, w.before _ s = true := fun w h => hts w (List.mem_cons_of_mem _ h)
  have hF : CallFix p m c cX0_addArm 5 s ([.ref p0, .int p1, .int p2, .ref p3] : List Value).toArray lw_all RX0 := ⟨B.exec, B.bytes, hml, findClass_of_methodNamed B.named, hts⟩
  have hlocks := B.notSynchronized
  have hl := lv_entry ([.ref p0, .int p1, .int p2, .ref p3]) (n := 5) (Nat.le_of_ble_eq_true rfl)
  rw [lg_entry_eq]
  generalize (lg_sl ([.ref p0, .int p1, .int p2, .ref p3]) ++ List.replicate (5 - (lg_sl ([.ref p0, .int p1, .int p2, .ref p3])).length) Slot.unset).toArray = ls at hl ⊢
  have hl : lv_has ls 5 [(0, .ref p0), (1, .int p1), (2, .int p2), (3, .ref p3)] := hl
  have hS : va_S (hA X0 s.heap.size) s.heap s.heap [] := va_S.rf
  unfold wpX0_addArm at hw
  show W p l e (rmh 13 327 mc ms) s m _ below meth c _ _ _ _ _ _
  refine lv_aload_n hF.1 hF.2.1 dX0_addArm_0 rfl (lv_at hl 3 rfl) ?_
  refine lv_iconst (v := 0) hF.1 hF.2.1 dX0_addArm_1 (by decide) ?_
  refine lv_aload_n hF.1 hF.2.1 dX0_addArm_2 rfl (lv_at hl 0 rfl) ?_
  refine lv_iload_n hF.1 hF.2.1 dX0_addArm_3 rfl (lv_at hl 1 rfl) ?_
  refine lv_iload_n hF.1 hF.2.1 dX0_addArm_4 rfl (lv_at hl 2 rfl) ?_
  obtain ⟨ho_3, hw⟩ := hw
  obtain ⟨mc_4, ms_5, hc_6, hs_7, hw⟩ := hw
  refine hkx_i (hrx_V (As := [.int p1, .int p2]) (rest := [.int 0, .ref p3]) (T := TX1) (N := 4) (ci := 1) hF hl.1 hC hP hS (metX1_addArm l hlt K mc_4 ms_5 _ _ _ X0 p0 p1 p2) rfl (cwV 2 hF.2.2.2.2 (lw_V q1089 q1090 q1091 q75 q1092) rfl rfl rfl (by decide +kernel) ⟨Nat.le_of_ble_eq_true rfl, Nat.le_of_ble_eq_true rfl⟩) ho_3 hw rfl rfl (Nat.le_of_ble_eq_true rfl) dX0_addArm_5 ⟨hc_6, hs_7⟩) hP hS (fun E9 q9 X9 H locs hw hcl hP hS => ?_) (fun r_1 X_2 H locs hw hP hS => ?_)
  · rcases hw with ⟨rfl, hw⟩ | ⟨rfl, hw⟩
    · obtain ⟨ce9, g91, g92, g93⟩ := hcl
      refine vx_catch (own := RX0) (name := "java/lang/IllegalArgumentException") hF.2.2.2.1 (tableOf []) ⟨0, 10, 13, 19⟩ (tableOf [(0, 10, 17, 13)]) htab (fun z hz => nomatch hz) rfl (by decide) (hF.2.2.2.2 _ q1060) (va_Nw.use rfl (hC.2.2.1.2.2.2.2.2.1 _ q503 rfl)) g91 g92 g93 ?_
      refine lv_astore (lv' := [(4, .ref q9), (0, .ref p0), (1, .int p1), (2, .int p2), (3, .ref p3)]) hF.1 hF.2.1 dX0_addArm_13 hl (by decide) rfl (fun ls hl => ?_)
      refine lv_iconst (v := 1) hF.1 hF.2.1 dX0_addArm_15 (by decide) ?_
      exact vx_ret (h_iret hF hr hlocks hP hS ⟨hc_6, hs_7⟩ dX0_addArm_16 hw)
    · obtain ⟨ce9, g91, g92, g93⟩ := hcl
      refine vx_catch (own := RX0) (name := "java/lang/IllegalStateException") hF.2.2.2.1 (tableOf [(0, 10, 13, 19)]) ⟨0, 10, 17, 13⟩ (tableOf []) htab (List.forall_mem_cons.mpr ⟨Or.inr ⟨by decide, _, hF.2.2.2.2 _ q1060, hC.2.2.1.2.2.2.2.2.2.1 ("java/lang/IllegalStateException", "java/lang/IllegalArgumentException") (by decide)⟩, fun _ hz => nomatch hz⟩) rfl (by decide) (hF.2.2.2.2 _ q739) (va_Nw.use rfl (hC.2.2.1.2.2.2.2.2.1 _ q1002 rfl)) g91 g92 g93 ?_
      refine lv_astore (lv' := [(4, .ref q9), (0, .ref p0), (1, .int p1), (2, .int p2), (3, .ref p3)]) hF.1 hF.2.1 dX0_addArm_17 hl (by decide) rfl (fun ls hl => ?_)
      refine lv_iconst (v := 2) hF.1 hF.2.1 dX0_addArm_19 (by decide) ?_
      exact vx_ret (h_iret hF hr hlocks hP hS ⟨hc_6, hs_7⟩ dX0_addArm_20 hw)
  refine lv_i2l hF.1 hF.2.1 dX0_addArm_8 rfl ?_
  obtain ⟨n_8, f_9, hx_10, hi_11, hw⟩ := hw
  refine x_last hF hC hP hS hx_10 hi_11 dX0_addArm_9 (fun H locs hP hS => ?_)
  generalize hup X_2 p3 (.inl (1, n_8, .inr (.inl (vp_updL f_9 (Int32.toNatClampNeg 0) (Int32.toInt64 r_1))))) = X_12 at hP hw
  refine lv_goto (tgt := 21) hF.1 hF.2.1 dX0_addArm_10 (by decide) ?_
  refine lv_iconst (v := 0) hF.1 hF.2.1 dX0_addArm_21 (by decide) ?_
  exact vx_ret (h_iret hF hr hlocks hP hS ⟨hc_6, hs_7⟩ dX0_addArm_22 hw)
def wpX0_setBend (post : Int32 → hX → Prop) (xpost : String → Nat → hX → Prop) (E : Nat) (mc ms : Nat) (X : hX) (p0 : Nat) (p1 : Int32) (p2 : Int32) (p3 : Nat) : Prop := isO X p0 1 ((∃ mc_4 ms_5 : Nat, 0 + mc_4 ≤ mc ∧ 0 + ms_5 ≤ ms ∧ wpX1_setBend (fun r_1 X_2 => asJ X_2 p3 0 (Int32.toInt64 r_1) (fun X_12 => post 0 X_12)) (fun E9 q9 X9 => (E9 = "java/lang/IllegalArgumentException" ∧ post 1 X9)) E mc_4 ms_5 X p0 p1 p2))
abbrev wsX0_setBend : List Cond := wsW_ yX0_setBend cX0_setBend 5 (some .int) [(0, 10, 13, 19)]
set_option maxHeartbeats 8000000 in
theorem metX0_setBend (l : Launch) (hlt : l.stackTraces = false) (K : HK) (mc ms : Nat) (sz : Nat) (post : Int32 → hX → Prop) (xpost : String → Nat → hX → Prop) (X0 : hX) (p0 : Nat) (p1 : Int32) (p2 : Int32) (p3 : Nat) : vx_Met l yX0_setBend wsX0_setBend (rmh 13 327 mc ms) (hPc K X0 sz [.ref p0, .int p1, .int p2, .ref p3] (wpX0_setBend post xpost (K.2.2 0) mc ms X0 p0 p1 p2 p3)) (hQi post K X0 sz) (hXC xpost K X0 sz) mc ms (hA X0 sz) := by
  refine vx_ofWH (cc := cX0_setBend) (maxL := 5) (ret := (some .int)) (by decide) rfl ?_
  intro p e s m args below meth c s₁ B hml hv
  obtain ⟨rfl, hv⟩ := hv
  obtain ⟨hC, hP, hw⟩ := HC.of hv
  have hsz : s.heap.size = sz := hv.1
  subst hsz
  clear hv
  have hr := B.returns
  have hts := atoms_spec (ws := wsX0_setBend) B.pre
  have htab : c.exceptionTable.toList = tableOf [(0, 10, 13, 19)] := vx_table (x := yX0_setBend) B (hts _ List.mem_cons_self)
  have hout : ∀ pc : Nat, (tableOf [(0, 10, 13, 19)]).all (fun x => !covers x pc) = true → ∀ x ∈ c.exceptionTable.toList, covers x pc = false := fun pc h x hx => by rw [htab] at hx; have h1 := List.all_eq_true.mp h x hx; exact (Bool.not_eq_true' _).mp h1
  have hts : ∀ w ∈ lw_all, w.before _ s = true := fun w h => hts w (List.mem_cons_of_mem _ h)
  have hF : CallFix p m c cX0_setBend 5 s ([.ref p0, .int p1, .int p2, .ref p3] : List Value).toArray lw_all RX0 := ⟨B.exec, B.bytes, hml, findClass_of_methodNamed B.named, hts⟩
  have hlocks := B.notSynchronized
  have hl := lv_entry ([.ref p0, .int p1, .int p2, .ref p3]) (n := 5) (Nat.le_of_ble_eq_true rfl)
  rw [lg_entry_eq]
  generalize (lg_sl ([.ref p0, .int p1, .int p2, .ref p3]) ++ List.replicate (5 - (lg_sl ([.ref p0, .int p1, .int p2, .ref p3])).length) Slot.unset).toArray = ls at hl ⊢
  have hl : lv_has ls 5 [(0, .ref p0), (1, .int p1), (2, .int p2), (3, .ref p3)] := hl
  have hS : va_S (hA X0 s.heap.size) s.heap s.heap [] := va_S.rf
  unfold wpX0_setBend at hw
  show W p l e (rmh 13 327 mc ms) s m _ below meth c _ _ _ _ _ _
  refine lv_aload_n hF.1 hF.2.1 dX0_setBend_0 rfl (lv_at hl 3 rfl) ?_
  refine lv_iconst (v := 0) hF.1 hF.2.1 dX0_setBend_1 (by decide) ?_
  refine lv_aload_n hF.1 hF.2.1 dX0_setBend_2 rfl (lv_at hl 0 rfl) ?_
  refine lv_iload_n hF.1 hF.2.1 dX0_setBend_3 rfl (lv_at hl 1 rfl) ?_
  refine lv_iload_n hF.1 hF.2.1 dX0_setBend_4 rfl (lv_at hl 2 rfl) ?_
  obtain ⟨ho_3, hw⟩ := hw
  obtain ⟨mc_4, ms_5, hc_6, hs_7, hw⟩ := hw
  refine hkx_i (hrx_V (As := [.int p1, .int p2]) (rest := [.int 0, .ref p3]) (T := TX1) (N := 4) (ci := 1) hF hl.1 hC hP hS (metX1_setBend l hlt K mc_4 ms_5 _ _ _ X0 p0 p1 p2) rfl (cwV 2 hF.2.2.2.2 (lw_V q1096 q1097 q1098 q75 q1099) rfl rfl rfl (by decide +kernel) ⟨Nat.le_of_ble_eq_true rfl, Nat.le_of_ble_eq_true rfl⟩) ho_3 hw rfl rfl (Nat.le_of_ble_eq_true rfl) dX0_setBend_5 ⟨hc_6, hs_7⟩) hP hS (fun E9 q9 X9 H locs hw hcl hP hS => ?_) (fun r_1 X_2 H locs hw hP hS => ?_)
  · obtain ⟨rfl, hw⟩ := hw
    obtain ⟨ce9, g91, g92, g93⟩ := hcl
    refine vx_catch (own := RX0) (name := "java/lang/IllegalArgumentException") hF.2.2.2.1 (tableOf []) ⟨0, 10, 13, 19⟩ (tableOf []) htab (fun z hz => nomatch hz) rfl (by decide) (hF.2.2.2.2 _ q1060) (va_Nw.use rfl (hC.2.2.1.2.2.2.2.2.1 _ q503 rfl)) g91 g92 g93 ?_
    refine lv_astore (lv' := [(4, .ref q9), (0, .ref p0), (1, .int p1), (2, .int p2), (3, .ref p3)]) hF.1 hF.2.1 dX0_setBend_13 hl (by decide) rfl (fun ls hl => ?_)
    refine lv_iconst (v := 1) hF.1 hF.2.1 dX0_setBend_15 (by decide) ?_
    exact vx_ret (h_iret hF hr hlocks hP hS ⟨hc_6, hs_7⟩ dX0_setBend_16 hw)
  refine lv_i2l hF.1 hF.2.1 dX0_setBend_8 rfl ?_
  obtain ⟨n_8, f_9, hx_10, hi_11, hw⟩ := hw
  refine x_last hF hC hP hS hx_10 hi_11 dX0_setBend_9 (fun H locs hP hS => ?_)
  generalize hup X_2 p3 (.inl (1, n_8, .inr (.inl (vp_updL f_9 (Int32.toNatClampNeg 0) (Int32.toInt64 r_1))))) = X_12 at hP hw
  refine lv_goto (tgt := 17) hF.1 hF.2.1 dX0_setBend_10 (by decide) ?_
  refine lv_iconst (v := 0) hF.1 hF.2.1 dX0_setBend_17 (by decide) ?_
  exact vx_ret (h_iret hF hr hlocks hP hS ⟨hc_6, hs_7⟩ dX0_setBend_18 hw)
def wpX0_addMoon (post : Int32 → hX → Prop) (xpost : String → Nat → hX → Prop) (E : Nat) (mc ms : Nat) (X : hX) (p0 : Nat) (p1 : Int32) (p2 : Int32) (p3 : Nat) : Prop := isO X p0 1 ((∃ mc_4 ms_5 : Nat, 0 + mc_4 ≤ mc ∧ 0 + ms_5 ≤ ms ∧ wpX1_addMoon (fun r_1 X_2 => asJ X_2 p3 0 (Int32.toInt64 r_1) (fun X_12 => post 0 X_12)) (fun E9 q9 X9 => (E9 = "java/lang/IllegalArgumentException" ∧ post 1 X9) ∨ (E9 = "java/lang/IllegalStateException" ∧ post 2 X9)) E mc_4 ms_5 X p0 p1 p2))
abbrev wsX0_addMoon : List Cond := wsW_ yX0_addMoon cX0_addMoon 5 (some .int) [(0, 10, 13, 19), (0, 10, 17, 13)]
set_option maxHeartbeats 8000000 in
theorem metX0_addMoon (l : Launch) (hlt : l.stackTraces = false) (K : HK) (mc ms : Nat) (sz : Nat) (post : Int32 → hX → Prop) (xpost : String → Nat → hX → Prop) (X0 : hX) (p0 : Nat) (p1 : Int32) (p2 : Int32) (p3 : Nat) : vx_Met l yX0_addMoon wsX0_addMoon (rmh 13 327 mc ms) (hPc K X0 sz [.ref p0, .int p1, .int p2, .ref p3] (wpX0_addMoon post xpost (K.2.2 0) mc ms X0 p0 p1 p2 p3)) (hQi post K X0 sz) (hXC xpost K X0 sz) mc ms (hA X0 sz) := by
  refine vx_ofWH (cc := cX0_addMoon) (maxL := 5) (ret := (some .int)) (by decide) rfl ?_
  intro p e s m args below meth c s₁ B hml hv
  obtain ⟨rfl, hv⟩ := hv
  obtain ⟨hC, hP, hw⟩ := HC.of hv
  have hsz : s.heap.size = sz := hv.1
  subst hsz
  clear hv
  have hr := B.returns
  have hts := atoms_spec (ws := wsX0_addMoon) B.pre
  have htab : c.exceptionTable.toList = tableOf [(0, 10, 13, 19), (0, 10, 17, 13)] := vx_table (x := yX0_addMoon) B (hts _ List.mem_cons_self)
  have hout : ∀ pc : Nat, (tableOf [(0, 10, 13, 19), (0, 10, 17, 13)]).all (fun x => !covers x pc) = true → ∀ x ∈ c.exceptionTable.toList, covers x pc = false := fun pc h x hx => by rw [htab] at hx; have h1 := List.all_eq_true.mp h x hx; exact (Bool.not_eq_true' _).mp h1
  have hts : ∀ w ∈ lw_all, w.before _ s = true := fun w h => hts w (List.mem_cons_of_mem _ h)
  have hF : CallFix p m c cX0_addMoon 5 s ([.ref p0, .int p1, .int p2, .ref p3] : List Value).toArray lw_all RX0 := ⟨B.exec, B.bytes, hml, findClass_of_methodNamed B.named, hts⟩
  have hlocks := B.notSynchronized
  have hl := lv_entry ([.ref p0, .int p1, .int p2, .ref p3]) (n := 5) (Nat.le_of_ble_eq_true rfl)
  rw [lg_entry_eq]
  generalize (lg_sl ([.ref p0, .int p1, .int p2, .ref p3]) ++ List.replicate (5 - (lg_sl ([.ref p0, .int p1, .int p2, .ref p3])).length) Slot.unset).toArray = ls at hl ⊢
  have hl : lv_has ls 5 [(0, .ref p0), (1, .int p1), (2, .int p2), (3, .ref p3)] := hl
  have hS : va_S (hA X0 s.heap.size) s.heap s.heap [] := va_S.rf
  unfold wpX0_addMoon at hw
  show W p l e (rmh 13 327 mc ms) s m _ below meth c _ _ _ _ _ _
  refine lv_aload_n hF.1 hF.2.1 dX0_addMoon_0 rfl (lv_at hl 3 rfl) ?_
  refine lv_iconst (v := 0) hF.1 hF.2.1 dX0_addMoon_1 (by decide) ?_
  refine lv_aload_n hF.1 hF.2.1 dX0_addMoon_2 rfl (lv_at hl 0 rfl) ?_
  refine lv_iload_n hF.1 hF.2.1 dX0_addMoon_3 rfl (lv_at hl 1 rfl) ?_
  refine lv_iload_n hF.1 hF.2.1 dX0_addMoon_4 rfl (lv_at hl 2 rfl) ?_
  obtain ⟨ho_3, hw⟩ := hw
  obtain ⟨mc_4, ms_5, hc_6, hs_7, hw⟩ := hw
  refine hkx_i (hrx_V (As := [.int p1, .int p2]) (rest := [.int 0, .ref p3]) (T := TX1) (N := 4) (ci := 1) hF hl.1 hC hP hS (metX1_addMoon l hlt K mc_4 ms_5 _ _ _ X0 p0 p1 p2) rfl (cwV 2 hF.2.2.2.2 (lw_V q1103 q1104 q1105 q75 q1106) rfl rfl rfl (by decide +kernel) ⟨Nat.le_of_ble_eq_true rfl, Nat.le_of_ble_eq_true rfl⟩) ho_3 hw rfl rfl (Nat.le_of_ble_eq_true rfl) dX0_addMoon_5 ⟨hc_6, hs_7⟩) hP hS (fun E9 q9 X9 H locs hw hcl hP hS => ?_) (fun r_1 X_2 H locs hw hP hS => ?_)
  · rcases hw with ⟨rfl, hw⟩ | ⟨rfl, hw⟩
    · obtain ⟨ce9, g91, g92, g93⟩ := hcl
      refine vx_catch (own := RX0) (name := "java/lang/IllegalArgumentException") hF.2.2.2.1 (tableOf []) ⟨0, 10, 13, 19⟩ (tableOf [(0, 10, 17, 13)]) htab (fun z hz => nomatch hz) rfl (by decide) (hF.2.2.2.2 _ q1060) (va_Nw.use rfl (hC.2.2.1.2.2.2.2.2.1 _ q503 rfl)) g91 g92 g93 ?_
      refine lv_astore (lv' := [(4, .ref q9), (0, .ref p0), (1, .int p1), (2, .int p2), (3, .ref p3)]) hF.1 hF.2.1 dX0_addMoon_13 hl (by decide) rfl (fun ls hl => ?_)
      refine lv_iconst (v := 1) hF.1 hF.2.1 dX0_addMoon_15 (by decide) ?_
      exact vx_ret (h_iret hF hr hlocks hP hS ⟨hc_6, hs_7⟩ dX0_addMoon_16 hw)
    · obtain ⟨ce9, g91, g92, g93⟩ := hcl
      refine vx_catch (own := RX0) (name := "java/lang/IllegalStateException") hF.2.2.2.1 (tableOf [(0, 10, 13, 19)]) ⟨0, 10, 17, 13⟩ (tableOf []) htab (List.forall_mem_cons.mpr ⟨Or.inr ⟨by decide, _, hF.2.2.2.2 _ q1060, hC.2.2.1.2.2.2.2.2.2.1 ("java/lang/IllegalStateException", "java/lang/IllegalArgumentException") (by decide)⟩, fun _ hz => nomatch hz⟩) rfl (by decide) (hF.2.2.2.2 _ q739) (va_Nw.use rfl (hC.2.2.1.2.2.2.2.2.1 _ q1002 rfl)) g91 g92 g93 ?_
      refine lv_astore (lv' := [(4, .ref q9), (0, .ref p0), (1, .int p1), (2, .int p2), (3, .ref p3)]) hF.1 hF.2.1 dX0_addMoon_17 hl (by decide) rfl (fun ls hl => ?_)
      refine lv_iconst (v := 2) hF.1 hF.2.1 dX0_addMoon_19 (by decide) ?_
      exact vx_ret (h_iret hF hr hlocks hP hS ⟨hc_6, hs_7⟩ dX0_addMoon_20 hw)
  refine lv_i2l hF.1 hF.2.1 dX0_addMoon_8 rfl ?_
  obtain ⟨n_8, f_9, hx_10, hi_11, hw⟩ := hw
  refine x_last hF hC hP hS hx_10 hi_11 dX0_addMoon_9 (fun H locs hP hS => ?_)
  generalize hup X_2 p3 (.inl (1, n_8, .inr (.inl (vp_updL f_9 (Int32.toNatClampNeg 0) (Int32.toInt64 r_1))))) = X_12 at hP hw
  refine lv_goto (tgt := 21) hF.1 hF.2.1 dX0_addMoon_10 (by decide) ?_
  refine lv_iconst (v := 0) hF.1 hF.2.1 dX0_addMoon_21 (by decide) ?_
  exact vx_ret (h_iret hF hr hlocks hP hS ⟨hc_6, hs_7⟩ dX0_addMoon_22 hw)
def wpX0_setPeriod (post : Int32 → hX → Prop) (xpost : String → Nat → hX → Prop) (E : Nat) (mc ms : Nat) (X : hX) (p0 : Nat) (p1 : Int32) (p2 : Int32) (p3 : Nat) : Prop := isO X p0 1 ((∃ mc_4 ms_5 : Nat, 0 + mc_4 ≤ mc ∧ 0 + ms_5 ≤ ms ∧ wpX1_setPeriod (fun r_1 X_2 => asJ X_2 p3 0 (Int32.toInt64 r_1) (fun X_12 => post 0 X_12)) (fun E9 q9 X9 => (E9 = "java/lang/IllegalArgumentException" ∧ post 1 X9)) E mc_4 ms_5 X p0 p1 p2))
abbrev wsX0_setPeriod : List Cond := wsW_ yX0_setPeriod cX0_setPeriod 5 (some .int) [(0, 10, 13, 19)]
set_option maxHeartbeats 8000000 in
theorem metX0_setPeriod (l : Launch) (hlt : l.stackTraces = false) (K : HK) (mc ms : Nat) (sz : Nat) (post : Int32 → hX → Prop) (xpost : String → Nat → hX → Prop) (X0 : hX) (p0 : Nat) (p1 : Int32) (p2 : Int32) (p3 : Nat) : vx_Met l yX0_setPeriod wsX0_setPeriod (rmh 13 327 mc ms) (hPc K X0 sz [.ref p0, .int p1, .int p2, .ref p3] (wpX0_setPeriod post xpost (K.2.2 0) mc ms X0 p0 p1 p2 p3)) (hQi post K X0 sz) (hXC xpost K X0 sz) mc ms (hA X0 sz) := by
  refine vx_ofWH (cc := cX0_setPeriod) (maxL := 5) (ret := (some .int)) (by decide) rfl ?_
  intro p e s m args below meth c s₁ B hml hv
  obtain ⟨rfl, hv⟩ := hv
  obtain ⟨hC, hP, hw⟩ := HC.of hv
  have hsz : s.heap.size = sz := hv.1
  subst hsz
  clear hv
  have hr := B.returns
  have hts := atoms_spec (ws := wsX0_setPeriod) B.pre
  have htab : c.exceptionTable.toList = tableOf [(0, 10, 13, 19)] := vx_table (x := yX0_setPeriod) B (hts _ List.mem_cons_self)
  have hout : ∀ pc : Nat, (tableOf [(0, 10, 13, 19)]).all (fun x => !covers x pc) = true → ∀ x ∈ c.exceptionTable.toList, covers x pc = false := fun pc h x hx => by rw [htab] at hx; have h1 := List.all_eq_true.mp h x hx; exact (Bool.not_eq_true' _).mp h1
  have hts : ∀ w ∈ lw_all, w.before _ s = true := fun w h => hts w (List.mem_cons_of_mem _ h)
  have hF : CallFix p m c cX0_setPeriod 5 s ([.ref p0, .int p1, .int p2, .ref p3] : List Value).toArray lw_all RX0 := ⟨B.exec, B.bytes, hml, findClass_of_methodNamed B.named, hts⟩
  have hlocks := B.notSynchronized
  have hl := lv_entry ([.ref p0, .int p1, .int p2, .ref p3]) (n := 5) (Nat.le_of_ble_eq_true rfl)
  rw [lg_entry_eq]
  generalize (lg_sl ([.ref p0, .int p1, .int p2, .ref p3]) ++ List.replicate (5 - (lg_sl ([.ref p0, .int p1, .int p2, .ref p3])).length) Slot.unset).toArray = ls at hl ⊢
  have hl : lv_has ls 5 [(0, .ref p0), (1, .int p1), (2, .int p2), (3, .ref p3)] := hl
  have hS : va_S (hA X0 s.heap.size) s.heap s.heap [] := va_S.rf
  unfold wpX0_setPeriod at hw
  show W p l e (rmh 13 327 mc ms) s m _ below meth c _ _ _ _ _ _
  refine lv_aload_n hF.1 hF.2.1 dX0_setPeriod_0 rfl (lv_at hl 3 rfl) ?_
  refine lv_iconst (v := 0) hF.1 hF.2.1 dX0_setPeriod_1 (by decide) ?_
  refine lv_aload_n hF.1 hF.2.1 dX0_setPeriod_2 rfl (lv_at hl 0 rfl) ?_
  refine lv_iload_n hF.1 hF.2.1 dX0_setPeriod_3 rfl (lv_at hl 1 rfl) ?_
  refine lv_iload_n hF.1 hF.2.1 dX0_setPeriod_4 rfl (lv_at hl 2 rfl) ?_
  obtain ⟨ho_3, hw⟩ := hw
  obtain ⟨mc_4, ms_5, hc_6, hs_7, hw⟩ := hw
  refine hkx_i (hrx_V (As := [.int p1, .int p2]) (rest := [.int 0, .ref p3]) (T := TX1) (N := 4) (ci := 1) hF hl.1 hC hP hS (metX1_setPeriod l hlt K mc_4 ms_5 _ _ _ X0 p0 p1 p2) rfl (cwV 2 hF.2.2.2.2 (lw_V q1110 q1111 q1112 q75 q1113) rfl rfl rfl (by decide +kernel) ⟨Nat.le_of_ble_eq_true rfl, Nat.le_of_ble_eq_true rfl⟩) ho_3 hw rfl rfl (Nat.le_of_ble_eq_true rfl) dX0_setPeriod_5 ⟨hc_6, hs_7⟩) hP hS (fun E9 q9 X9 H locs hw hcl hP hS => ?_) (fun r_1 X_2 H locs hw hP hS => ?_)
  · obtain ⟨rfl, hw⟩ := hw
    obtain ⟨ce9, g91, g92, g93⟩ := hcl
    refine vx_catch (own := RX0) (name := "java/lang/IllegalArgumentException") hF.2.2.2.1 (tableOf []) ⟨0, 10, 13, 19⟩ (tableOf []) htab (fun z hz => nomatch hz) rfl (by decide) (hF.2.2.2.2 _ q1060) (va_Nw.use rfl (hC.2.2.1.2.2.2.2.2.1 _ q503 rfl)) g91 g92 g93 ?_
    refine lv_astore (lv' := [(4, .ref q9), (0, .ref p0), (1, .int p1), (2, .int p2), (3, .ref p3)]) hF.1 hF.2.1 dX0_setPeriod_13 hl (by decide) rfl (fun ls hl => ?_)
    refine lv_iconst (v := 1) hF.1 hF.2.1 dX0_setPeriod_15 (by decide) ?_
    exact vx_ret (h_iret hF hr hlocks hP hS ⟨hc_6, hs_7⟩ dX0_setPeriod_16 hw)
  refine lv_i2l hF.1 hF.2.1 dX0_setPeriod_8 rfl ?_
  obtain ⟨n_8, f_9, hx_10, hi_11, hw⟩ := hw
  refine x_last hF hC hP hS hx_10 hi_11 dX0_setPeriod_9 (fun H locs hP hS => ?_)
  generalize hup X_2 p3 (.inl (1, n_8, .inr (.inl (vp_updL f_9 (Int32.toNatClampNeg 0) (Int32.toInt64 r_1))))) = X_12 at hP hw
  refine lv_goto (tgt := 17) hF.1 hF.2.1 dX0_setPeriod_10 (by decide) ?_
  refine lv_iconst (v := 0) hF.1 hF.2.1 dX0_setPeriod_17 (by decide) ?_
  exact vx_ret (h_iret hF hr hlocks hP hS ⟨hc_6, hs_7⟩ dX0_setPeriod_18 hw)
def wpX0_pass (post : Int32 → hX → Prop) (xpost : String → Nat → hX → Prop) (E : Nat) (mc ms : Nat) (X : hX) (p0 : Nat) (p1 : Int32) (p2 : Nat) : Prop := isO X p0 1 ((∃ mc_4 ms_5 : Nat, 0 + mc_4 ≤ mc ∧ 0 + ms_5 ≤ ms ∧ wpX1_pass (fun r_1 X_2 => asJ X_2 p2 0 (Int32.toInt64 r_1) (fun X_12 => post 0 X_12)) (fun E9 q9 X9 => (E9 = "java/lang/IllegalArgumentException" ∧ post 1 X9) ∨ (E9 = "java/lang/IllegalStateException" ∧ post 2 X9)) E mc_4 ms_5 X p0 p1))
abbrev wsX0_pass : List Cond := wsW_ yX0_pass cX0_pass 4 (some .int) [(0, 9, 12, 19), (0, 9, 15, 13)]
set_option maxHeartbeats 8000000 in
theorem metX0_pass (l : Launch) (hlt : l.stackTraces = false) (K : HK) (mc ms : Nat) (sz : Nat) (post : Int32 → hX → Prop) (xpost : String → Nat → hX → Prop) (X0 : hX) (p0 : Nat) (p1 : Int32) (p2 : Nat) : vx_Met l yX0_pass wsX0_pass (rmh 13 326 mc ms) (hPc K X0 sz [.ref p0, .int p1, .ref p2] (wpX0_pass post xpost (K.2.2 0) mc ms X0 p0 p1 p2)) (hQi post K X0 sz) (hXC xpost K X0 sz) mc ms (hA X0 sz) := by
  refine vx_ofWH (cc := cX0_pass) (maxL := 4) (ret := (some .int)) (by decide) rfl ?_
  intro p e s m args below meth c s₁ B hml hv
  obtain ⟨rfl, hv⟩ := hv
  obtain ⟨hC, hP, hw⟩ := HC.of hv
  have hsz : s.heap.size = sz := hv.1
  subst hsz
  clear hv
  have hr := B.returns
  have hts := atoms_spec (ws := wsX0_pass) B.pre
  have htab : c.exceptionTable.toList = tableOf [(0, 9, 12, 19), (0, 9, 15, 13)] := vx_table (x := yX0_pass) B (hts _ List.mem_cons_self)
  have hout : ∀ pc : Nat, (tableOf [(0, 9, 12, 19), (0, 9, 15, 13)]).all (fun x => !covers x pc) = true → ∀ x ∈ c.exceptionTable.toList, covers x pc = false := fun pc h x hx => by rw [htab] at hx; have h1 := List.all_eq_true.mp h x hx; exact (Bool.not_eq_true' _).mp h1
  have hts : ∀ w ∈ lw_all, w.before _ s = true := fun w h => hts w (List.mem_cons_of_mem _ h)
  have hF : CallFix p m c cX0_pass 4 s ([.ref p0, .int p1, .ref p2] : List Value).toArray lw_all RX0 := ⟨B.exec, B.bytes, hml, findClass_of_methodNamed B.named, hts⟩
  have hlocks := B.notSynchronized
  have hl := lv_entry ([.ref p0, .int p1, .ref p2]) (n := 4) (Nat.le_of_ble_eq_true rfl)
  rw [lg_entry_eq]
  generalize (lg_sl ([.ref p0, .int p1, .ref p2]) ++ List.replicate (4 - (lg_sl ([.ref p0, .int p1, .ref p2])).length) Slot.unset).toArray = ls at hl ⊢
  have hl : lv_has ls 4 [(0, .ref p0), (1, .int p1), (2, .ref p2)] := hl
  have hS : va_S (hA X0 s.heap.size) s.heap s.heap [] := va_S.rf
  unfold wpX0_pass at hw
  show W p l e (rmh 13 326 mc ms) s m _ below meth c _ _ _ _ _ _
  refine lv_aload_n hF.1 hF.2.1 dX0_pass_0 rfl (lv_at hl 2 rfl) ?_
  refine lv_iconst (v := 0) hF.1 hF.2.1 dX0_pass_1 (by decide) ?_
  refine lv_aload_n hF.1 hF.2.1 dX0_pass_2 rfl (lv_at hl 0 rfl) ?_
  refine lv_iload_n hF.1 hF.2.1 dX0_pass_3 rfl (lv_at hl 1 rfl) ?_
  obtain ⟨ho_3, hw⟩ := hw
  obtain ⟨mc_4, ms_5, hc_6, hs_7, hw⟩ := hw
  refine hkx_i (hrx_V (As := [.int p1]) (rest := [.int 0, .ref p2]) (T := TX1) (N := 4) (ci := 1) hF hl.1 hC hP hS (metX1_pass l hlt K mc_4 ms_5 _ _ _ X0 p0 p1) rfl (cwV 1 hF.2.2.2.2 (lw_V q1117 q1118 q1119 q75 q1120) rfl rfl rfl (by decide +kernel) ⟨Nat.le_of_ble_eq_true rfl, Nat.le_of_ble_eq_true rfl⟩) ho_3 hw rfl rfl (Nat.le_of_ble_eq_true rfl) dX0_pass_4 ⟨hc_6, hs_7⟩) hP hS (fun E9 q9 X9 H locs hw hcl hP hS => ?_) (fun r_1 X_2 H locs hw hP hS => ?_)
  · rcases hw with ⟨rfl, hw⟩ | ⟨rfl, hw⟩
    · obtain ⟨ce9, g91, g92, g93⟩ := hcl
      refine vx_catch (own := RX0) (name := "java/lang/IllegalArgumentException") hF.2.2.2.1 (tableOf []) ⟨0, 9, 12, 19⟩ (tableOf [(0, 9, 15, 13)]) htab (fun z hz => nomatch hz) rfl (by decide) (hF.2.2.2.2 _ q1060) (va_Nw.use rfl (hC.2.2.1.2.2.2.2.2.1 _ q503 rfl)) g91 g92 g93 ?_
      refine lv_astore_n (lv' := [(3, .ref q9), (0, .ref p0), (1, .int p1), (2, .ref p2)]) hF.1 hF.2.1 dX0_pass_12 rfl hl (by decide) rfl (fun ls hl => ?_)
      refine lv_iconst (v := 1) hF.1 hF.2.1 dX0_pass_13 (by decide) ?_
      exact vx_ret (h_iret hF hr hlocks hP hS ⟨hc_6, hs_7⟩ dX0_pass_14 hw)
    · obtain ⟨ce9, g91, g92, g93⟩ := hcl
      refine vx_catch (own := RX0) (name := "java/lang/IllegalStateException") hF.2.2.2.1 (tableOf [(0, 9, 12, 19)]) ⟨0, 9, 15, 13⟩ (tableOf []) htab (List.forall_mem_cons.mpr ⟨Or.inr ⟨by decide, _, hF.2.2.2.2 _ q1060, hC.2.2.1.2.2.2.2.2.2.1 ("java/lang/IllegalStateException", "java/lang/IllegalArgumentException") (by decide)⟩, fun _ hz => nomatch hz⟩) rfl (by decide) (hF.2.2.2.2 _ q739) (va_Nw.use rfl (hC.2.2.1.2.2.2.2.2.1 _ q1002 rfl)) g91 g92 g93 ?_
      refine lv_astore_n (lv' := [(3, .ref q9), (0, .ref p0), (1, .int p1), (2, .ref p2)]) hF.1 hF.2.1 dX0_pass_15 rfl hl (by decide) rfl (fun ls hl => ?_)
      refine lv_iconst (v := 2) hF.1 hF.2.1 dX0_pass_16 (by decide) ?_
      exact vx_ret (h_iret hF hr hlocks hP hS ⟨hc_6, hs_7⟩ dX0_pass_17 hw)
  refine lv_i2l hF.1 hF.2.1 dX0_pass_7 rfl ?_
  obtain ⟨n_8, f_9, hx_10, hi_11, hw⟩ := hw
  refine x_last hF hC hP hS hx_10 hi_11 dX0_pass_8 (fun H locs hP hS => ?_)
  generalize hup X_2 p2 (.inl (1, n_8, .inr (.inl (vp_updL f_9 (Int32.toNatClampNeg 0) (Int32.toInt64 r_1))))) = X_12 at hP hw
  refine lv_goto (tgt := 18) hF.1 hF.2.1 dX0_pass_9 (by decide) ?_
  refine lv_iconst (v := 0) hF.1 hF.2.1 dX0_pass_18 (by decide) ?_
  exact vx_ret (h_iret hF hr hlocks hP hS ⟨hc_6, hs_7⟩ dX0_pass_19 hw)
def wpX0_setDay (post : Int32 → hX → Prop) (xpost : String → Nat → hX → Prop) (E : Nat) (mc ms : Nat) (X : hX) (p0 : Nat) (p1 : Int32) (p2 : Nat) : Prop := isO X p0 1 ((∃ mc_4 ms_5 : Nat, 0 + mc_4 ≤ mc ∧ 0 + ms_5 ≤ ms ∧ wpX1_setDay (fun r_1 X_2 => asJ X_2 p2 0 (Int32.toInt64 r_1) (fun X_12 => post 0 X_12)) (fun E9 q9 X9 => (E9 = "java/lang/IllegalArgumentException" ∧ post 1 X9)) E mc_4 ms_5 X p0 p1))
abbrev wsX0_setDay : List Cond := wsW_ yX0_setDay cX0_setDay 4 (some .int) [(0, 9, 12, 19)]
set_option maxHeartbeats 8000000 in
theorem metX0_setDay (l : Launch) (hlt : l.stackTraces = false) (K : HK) (mc ms : Nat) (sz : Nat) (post : Int32 → hX → Prop) (xpost : String → Nat → hX → Prop) (X0 : hX) (p0 : Nat) (p1 : Int32) (p2 : Nat) : vx_Met l yX0_setDay wsX0_setDay (rmh 13 326 mc ms) (hPc K X0 sz [.ref p0, .int p1, .ref p2] (wpX0_setDay post xpost (K.2.2 0) mc ms X0 p0 p1 p2)) (hQi post K X0 sz) (hXC xpost K X0 sz) mc ms (hA X0 sz) := by
  refine vx_ofWH (cc := cX0_setDay) (maxL := 4) (ret := (some .int)) (by decide) rfl ?_
  intro p e s m args below meth c s₁ B hml hv
  obtain ⟨rfl, hv⟩ := hv
  obtain ⟨hC, hP, hw⟩ := HC.of hv
  have hsz : s.heap.size = sz := hv.1
  subst hsz
  clear hv
  have hr := B.returns
  have hts := atoms_spec (ws := wsX0_setDay) B.pre
  have htab : c.exceptionTable.toList = tableOf [(0, 9, 12, 19)] := vx_table (x := yX0_setDay) B (hts _ List.mem_cons_self)
  have hout : ∀ pc : Nat, (tableOf [(0, 9, 12, 19)]).all (fun x => !covers x pc) = true → ∀ x ∈ c.exceptionTable.toList, covers x pc = false := fun pc h x hx => by rw [htab] at hx; have h1 := List.all_eq_true.mp h x hx; exact (Bool.not_eq_true' _).mp h1
  have hts : ∀ w ∈ lw_all, w.before _ s = true := fun w h => hts w (List.mem_cons_of_mem _ h)
  have hF : CallFix p m c cX0_setDay 4 s ([.ref p0, .int p1, .ref p2] : List Value).toArray lw_all RX0 := ⟨B.exec, B.bytes, hml, findClass_of_methodNamed B.named, hts⟩
  have hlocks := B.notSynchronized
  have hl := lv_entry ([.ref p0, .int p1, .ref p2]) (n := 4) (Nat.le_of_ble_eq_true rfl)
  rw [lg_entry_eq]
  generalize (lg_sl ([.ref p0, .int p1, .ref p2]) ++ List.replicate (4 - (lg_sl ([.ref p0, .int p1, .ref p2])).length) Slot.unset).toArray = ls at hl ⊢
  have hl : lv_has ls 4 [(0, .ref p0), (1, .int p1), (2, .ref p2)] := hl
  have hS : va_S (hA X0 s.heap.size) s.heap s.heap [] := va_S.rf
  unfold wpX0_setDay at hw
  show W p l e (rmh 13 326 mc ms) s m _ below meth c _ _ _ _ _ _
  refine lv_aload_n hF.1 hF.2.1 dX0_setDay_0 rfl (lv_at hl 2 rfl) ?_
  refine lv_iconst (v := 0) hF.1 hF.2.1 dX0_setDay_1 (by decide) ?_
  refine lv_aload_n hF.1 hF.2.1 dX0_setDay_2 rfl (lv_at hl 0 rfl) ?_
  refine lv_iload_n hF.1 hF.2.1 dX0_setDay_3 rfl (lv_at hl 1 rfl) ?_
  obtain ⟨ho_3, hw⟩ := hw
  obtain ⟨mc_4, ms_5, hc_6, hs_7, hw⟩ := hw
  refine hkx_i (hrx_V (As := [.int p1]) (rest := [.int 0, .ref p2]) (T := TX1) (N := 4) (ci := 1) hF hl.1 hC hP hS (metX1_setDay l hlt K mc_4 ms_5 _ _ _ X0 p0 p1) rfl (cwV 1 hF.2.2.2.2 (lw_V q1124 q1125 q1126 q75 q1127) rfl rfl rfl (by decide +kernel) ⟨Nat.le_of_ble_eq_true rfl, Nat.le_of_ble_eq_true rfl⟩) ho_3 hw rfl rfl (Nat.le_of_ble_eq_true rfl) dX0_setDay_4 ⟨hc_6, hs_7⟩) hP hS (fun E9 q9 X9 H locs hw hcl hP hS => ?_) (fun r_1 X_2 H locs hw hP hS => ?_)
  · obtain ⟨rfl, hw⟩ := hw
    obtain ⟨ce9, g91, g92, g93⟩ := hcl
    refine vx_catch (own := RX0) (name := "java/lang/IllegalArgumentException") hF.2.2.2.1 (tableOf []) ⟨0, 9, 12, 19⟩ (tableOf []) htab (fun z hz => nomatch hz) rfl (by decide) (hF.2.2.2.2 _ q1060) (va_Nw.use rfl (hC.2.2.1.2.2.2.2.2.1 _ q503 rfl)) g91 g92 g93 ?_
    refine lv_astore_n (lv' := [(3, .ref q9), (0, .ref p0), (1, .int p1), (2, .ref p2)]) hF.1 hF.2.1 dX0_setDay_12 rfl hl (by decide) rfl (fun ls hl => ?_)
    refine lv_iconst (v := 1) hF.1 hF.2.1 dX0_setDay_13 (by decide) ?_
    exact vx_ret (h_iret hF hr hlocks hP hS ⟨hc_6, hs_7⟩ dX0_setDay_14 hw)
  refine lv_i2l hF.1 hF.2.1 dX0_setDay_7 rfl ?_
  obtain ⟨n_8, f_9, hx_10, hi_11, hw⟩ := hw
  refine x_last hF hC hP hS hx_10 hi_11 dX0_setDay_8 (fun H locs hP hS => ?_)
  generalize hup X_2 p2 (.inl (1, n_8, .inr (.inl (vp_updL f_9 (Int32.toNatClampNeg 0) (Int32.toInt64 r_1))))) = X_12 at hP hw
  refine lv_goto (tgt := 15) hF.1 hF.2.1 dX0_setDay_9 (by decide) ?_
  refine lv_iconst (v := 0) hF.1 hF.2.1 dX0_setDay_15 (by decide) ?_
  exact vx_ret (h_iret hF hr hlocks hP hS ⟨hc_6, hs_7⟩ dX0_setDay_16 hw)
def wpX0_teethOf (post : Int32 → hX → Prop) (xpost : String → Nat → hX → Prop) (E : Nat) (mc ms : Nat) (X : hX) (p0 : Nat) (p1 : Int32) (p2 : Nat) : Prop := isO X p0 1 ((∃ mc_4 ms_5 : Nat, 0 + mc_4 ≤ mc ∧ 0 + ms_5 ≤ ms ∧ wpX1_teethOf (fun r_1 X_2 => asJ X_2 p2 0 (Int32.toInt64 r_1) (fun X_12 => post 0 X_12)) (fun E9 q9 X9 => (E9 = "java/lang/IllegalArgumentException" ∧ post 1 X9)) E mc_4 ms_5 X p0 p1))
abbrev wsX0_teethOf : List Cond := wsW_ yX0_teethOf cX0_teethOf 4 (some .int) [(0, 9, 12, 19)]
set_option maxHeartbeats 8000000 in
theorem metX0_teethOf (l : Launch) (hlt : l.stackTraces = false) (K : HK) (mc ms : Nat) (sz : Nat) (post : Int32 → hX → Prop) (xpost : String → Nat → hX → Prop) (X0 : hX) (p0 : Nat) (p1 : Int32) (p2 : Nat) : vx_Met l yX0_teethOf wsX0_teethOf (rmh 9 157 mc ms) (hPc K X0 sz [.ref p0, .int p1, .ref p2] (wpX0_teethOf post xpost (K.2.2 0) mc ms X0 p0 p1 p2)) (hQi post K X0 sz) (hXC xpost K X0 sz) mc ms (hA X0 sz) := by
  refine vx_ofWH (cc := cX0_teethOf) (maxL := 4) (ret := (some .int)) (by decide) rfl ?_
  intro p e s m args below meth c s₁ B hml hv
  obtain ⟨rfl, hv⟩ := hv
  obtain ⟨hC, hP, hw⟩ := HC.of hv
  have hsz : s.heap.size = sz := hv.1
  subst hsz
  clear hv
  have hr := B.returns
  have hts := atoms_spec (ws := wsX0_teethOf) B.pre
  have htab : c.exceptionTable.toList = tableOf [(0, 9, 12, 19)] := vx_table (x := yX0_teethOf) B (hts _ List.mem_cons_self)
  have hout : ∀ pc : Nat, (tableOf [(0, 9, 12, 19)]).all (fun x => !covers x pc) = true → ∀ x ∈ c.exceptionTable.toList, covers x pc = false := fun pc h x hx => by rw [htab] at hx; have h1 := List.all_eq_true.mp h x hx; exact (Bool.not_eq_true' _).mp h1
  have hts : ∀ w ∈ lw_all, w.before _ s = true := fun w h => hts w (List.mem_cons_of_mem _ h)
  have hF : CallFix p m c cX0_teethOf 4 s ([.ref p0, .int p1, .ref p2] : List Value).toArray lw_all RX0 := ⟨B.exec, B.bytes, hml, findClass_of_methodNamed B.named, hts⟩
  have hlocks := B.notSynchronized
  have hl := lv_entry ([.ref p0, .int p1, .ref p2]) (n := 4) (Nat.le_of_ble_eq_true rfl)
  rw [lg_entry_eq]
  generalize (lg_sl ([.ref p0, .int p1, .ref p2]) ++ List.replicate (4 - (lg_sl ([.ref p0, .int p1, .ref p2])).length) Slot.unset).toArray = ls at hl ⊢
  have hl : lv_has ls 4 [(0, .ref p0), (1, .int p1), (2, .ref p2)] := hl
  have hS : va_S (hA X0 s.heap.size) s.heap s.heap [] := va_S.rf
  unfold wpX0_teethOf at hw
  show W p l e (rmh 9 157 mc ms) s m _ below meth c _ _ _ _ _ _
  refine lv_aload_n hF.1 hF.2.1 dX0_teethOf_0 rfl (lv_at hl 2 rfl) ?_
  refine lv_iconst (v := 0) hF.1 hF.2.1 dX0_teethOf_1 (by decide) ?_
  refine lv_aload_n hF.1 hF.2.1 dX0_teethOf_2 rfl (lv_at hl 0 rfl) ?_
  refine lv_iload_n hF.1 hF.2.1 dX0_teethOf_3 rfl (lv_at hl 1 rfl) ?_
  obtain ⟨ho_3, hw⟩ := hw
  obtain ⟨mc_4, ms_5, hc_6, hs_7, hw⟩ := hw
  refine hkx_i (hrx_V (As := [.int p1]) (rest := [.int 0, .ref p2]) (T := TX1) (N := 4) (ci := 1) hF hl.1 hC hP hS (metX1_teethOf l hlt K mc_4 ms_5 _ _ _ X0 p0 p1) rfl (cwV 1 hF.2.2.2.2 (lw_V q1131 q1132 q1133 q75 q1134) rfl rfl rfl (by decide +kernel) ⟨Nat.le_of_ble_eq_true rfl, Nat.le_of_ble_eq_true rfl⟩) ho_3 hw rfl rfl (Nat.le_of_ble_eq_true rfl) dX0_teethOf_4 ⟨hc_6, hs_7⟩) hP hS (fun E9 q9 X9 H locs hw hcl hP hS => ?_) (fun r_1 X_2 H locs hw hP hS => ?_)
  · obtain ⟨rfl, hw⟩ := hw
    obtain ⟨ce9, g91, g92, g93⟩ := hcl
    refine vx_catch (own := RX0) (name := "java/lang/IllegalArgumentException") hF.2.2.2.1 (tableOf []) ⟨0, 9, 12, 19⟩ (tableOf []) htab (fun z hz => nomatch hz) rfl (by decide) (hF.2.2.2.2 _ q1060) (va_Nw.use rfl (hC.2.2.1.2.2.2.2.2.1 _ q503 rfl)) g91 g92 g93 ?_
    refine lv_astore_n (lv' := [(3, .ref q9), (0, .ref p0), (1, .int p1), (2, .ref p2)]) hF.1 hF.2.1 dX0_teethOf_12 rfl hl (by decide) rfl (fun ls hl => ?_)
    refine lv_iconst (v := 1) hF.1 hF.2.1 dX0_teethOf_13 (by decide) ?_
    exact vx_ret (h_iret hF hr hlocks hP hS ⟨hc_6, hs_7⟩ dX0_teethOf_14 hw)
  refine lv_i2l hF.1 hF.2.1 dX0_teethOf_7 rfl ?_
  obtain ⟨n_8, f_9, hx_10, hi_11, hw⟩ := hw
  refine x_last hF hC hP hS hx_10 hi_11 dX0_teethOf_8 (fun H locs hP hS => ?_)
  generalize hup X_2 p2 (.inl (1, n_8, .inr (.inl (vp_updL f_9 (Int32.toNatClampNeg 0) (Int32.toInt64 r_1))))) = X_12 at hP hw
  refine lv_goto (tgt := 15) hF.1 hF.2.1 dX0_teethOf_9 (by decide) ?_
  refine lv_iconst (v := 0) hF.1 hF.2.1 dX0_teethOf_15 (by decide) ?_
  exact vx_ret (h_iret hF hr hlocks hP hS ⟨hc_6, hs_7⟩ dX0_teethOf_16 hw)
def wpX0_axleOf (post : Int32 → hX → Prop) (xpost : String → Nat → hX → Prop) (E : Nat) (mc ms : Nat) (X : hX) (p0 : Nat) (p1 : Int32) (p2 : Nat) : Prop := isO X p0 1 ((∃ mc_4 ms_5 : Nat, 0 + mc_4 ≤ mc ∧ 0 + ms_5 ≤ ms ∧ wpX1_axleOf (fun r_1 X_2 => asJ X_2 p2 0 (Int32.toInt64 r_1) (fun X_12 => post 0 X_12)) (fun E9 q9 X9 => (E9 = "java/lang/IllegalArgumentException" ∧ post 1 X9)) E mc_4 ms_5 X p0 p1))
abbrev wsX0_axleOf : List Cond := wsW_ yX0_axleOf cX0_axleOf 4 (some .int) [(0, 9, 12, 19)]
set_option maxHeartbeats 8000000 in
theorem metX0_axleOf (l : Launch) (hlt : l.stackTraces = false) (K : HK) (mc ms : Nat) (sz : Nat) (post : Int32 → hX → Prop) (xpost : String → Nat → hX → Prop) (X0 : hX) (p0 : Nat) (p1 : Int32) (p2 : Nat) : vx_Met l yX0_axleOf wsX0_axleOf (rmh 9 157 mc ms) (hPc K X0 sz [.ref p0, .int p1, .ref p2] (wpX0_axleOf post xpost (K.2.2 0) mc ms X0 p0 p1 p2)) (hQi post K X0 sz) (hXC xpost K X0 sz) mc ms (hA X0 sz) := by
  refine vx_ofWH (cc := cX0_axleOf) (maxL := 4) (ret := (some .int)) (by decide) rfl ?_
  intro p e s m args below meth c s₁ B hml hv
  obtain ⟨rfl, hv⟩ := hv
  obtain ⟨hC, hP, hw⟩ := HC.of hv
  have hsz : s.heap.size = sz := hv.1
  subst hsz
  clear hv
  have hr := B.returns
  have hts := atoms_spec (ws := wsX0_axleOf) B.pre
  have htab : c.exceptionTable.toList = tableOf [(0, 9, 12, 19)] := vx_table (x := yX0_axleOf) B (hts _ List.mem_cons_self)
  have hout : ∀ pc : Nat, (tableOf [(0, 9, 12, 19)]).all (fun x => !covers x pc) = true → ∀ x ∈ c.exceptionTable.toList, covers x pc = false := fun pc h x hx => by rw [htab] at hx; have h1 := List.all_eq_true.mp h x hx; exact (Bool.not_eq_true' _).mp h1
  have hts : ∀ w ∈ lw_all, w.before _ s = true := fun w h => hts w (List.mem_cons_of_mem _ h)
  have hF : CallFix p m c cX0_axleOf 4 s ([.ref p0, .int p1, .ref p2] : List Value).toArray lw_all RX0 := ⟨B.exec, B.bytes, hml, findClass_of_methodNamed B.named, hts⟩
  have hlocks := B.notSynchronized
  have hl := lv_entry ([.ref p0, .int p1, .ref p2]) (n := 4) (Nat.le_of_ble_eq_true rfl)
  rw [lg_entry_eq]
  generalize (lg_sl ([.ref p0, .int p1, .ref p2]) ++ List.replicate (4 - (lg_sl ([.ref p0, .int p1, .ref p2])).length) Slot.unset).toArray = ls at hl ⊢
  have hl : lv_has ls 4 [(0, .ref p0), (1, .int p1), (2, .ref p2)] := hl
  have hS : va_S (hA X0 s.heap.size) s.heap s.heap [] := va_S.rf
  unfold wpX0_axleOf at hw
  show W p l e (rmh 9 157 mc ms) s m _ below meth c _ _ _ _ _ _
  refine lv_aload_n hF.1 hF.2.1 dX0_axleOf_0 rfl (lv_at hl 2 rfl) ?_
  refine lv_iconst (v := 0) hF.1 hF.2.1 dX0_axleOf_1 (by decide) ?_
  refine lv_aload_n hF.1 hF.2.1 dX0_axleOf_2 rfl (lv_at hl 0 rfl) ?_
  refine lv_iload_n hF.1 hF.2.1 dX0_axleOf_3 rfl (lv_at hl 1 rfl) ?_
  obtain ⟨ho_3, hw⟩ := hw
  obtain ⟨mc_4, ms_5, hc_6, hs_7, hw⟩ := hw
  refine hkx_i (hrx_V (As := [.int p1]) (rest := [.int 0, .ref p2]) (T := TX1) (N := 4) (ci := 1) hF hl.1 hC hP hS (metX1_axleOf l hlt K mc_4 ms_5 _ _ _ X0 p0 p1) rfl (cwV 1 hF.2.2.2.2 (lw_V q1146 q1147 q1148 q75 q1149) rfl rfl rfl (by decide +kernel) ⟨Nat.le_of_ble_eq_true rfl, Nat.le_of_ble_eq_true rfl⟩) ho_3 hw rfl rfl (Nat.le_of_ble_eq_true rfl) dX0_axleOf_4 ⟨hc_6, hs_7⟩) hP hS (fun E9 q9 X9 H locs hw hcl hP hS => ?_) (fun r_1 X_2 H locs hw hP hS => ?_)
  · obtain ⟨rfl, hw⟩ := hw
    obtain ⟨ce9, g91, g92, g93⟩ := hcl
    refine vx_catch (own := RX0) (name := "java/lang/IllegalArgumentException") hF.2.2.2.1 (tableOf []) ⟨0, 9, 12, 19⟩ (tableOf []) htab (fun z hz => nomatch hz) rfl (by decide) (hF.2.2.2.2 _ q1060) (va_Nw.use rfl (hC.2.2.1.2.2.2.2.2.1 _ q503 rfl)) g91 g92 g93 ?_
    refine lv_astore_n (lv' := [(3, .ref q9), (0, .ref p0), (1, .int p1), (2, .ref p2)]) hF.1 hF.2.1 dX0_axleOf_12 rfl hl (by decide) rfl (fun ls hl => ?_)
    refine lv_iconst (v := 1) hF.1 hF.2.1 dX0_axleOf_13 (by decide) ?_
    exact vx_ret (h_iret hF hr hlocks hP hS ⟨hc_6, hs_7⟩ dX0_axleOf_14 hw)
  refine lv_i2l hF.1 hF.2.1 dX0_axleOf_7 rfl ?_
  obtain ⟨n_8, f_9, hx_10, hi_11, hw⟩ := hw
  refine x_last hF hC hP hS hx_10 hi_11 dX0_axleOf_8 (fun H locs hP hS => ?_)
  generalize hup X_2 p2 (.inl (1, n_8, .inr (.inl (vp_updL f_9 (Int32.toNatClampNeg 0) (Int32.toInt64 r_1))))) = X_12 at hP hw
  refine lv_goto (tgt := 15) hF.1 hF.2.1 dX0_axleOf_9 (by decide) ?_
  refine lv_iconst (v := 0) hF.1 hF.2.1 dX0_axleOf_15 (by decide) ?_
  exact vx_ret (h_iret hF hr hlocks hP hS ⟨hc_6, hs_7⟩ dX0_axleOf_16 hw)
def wpX0_whyNotMesh (post : Int32 → hX → Prop) (xpost : String → Nat → hX → Prop) (E : Nat) (mc ms : Nat) (X : hX) (p0 : Nat) (p1 : Int32) (p2 : Int32) (p3 : Nat) : Prop := isO X p0 1 ((∃ mc_4 ms_5 : Nat, 0 + mc_4 ≤ mc ∧ 0 + ms_5 ≤ ms ∧ wpX1_whyNotMesh (fun r_1 X_2 => asJ X_2 p3 0 (Int32.toInt64 r_1) (fun X_12 => post 0 X_12)) (fun E9 q9 X9 => (E9 = "java/lang/IllegalArgumentException" ∧ post 1 X9)) E mc_4 ms_5 X p0 p1 p2))
abbrev wsX0_whyNotMesh : List Cond := wsW_ yX0_whyNotMesh cX0_whyNotMesh 5 (some .int) [(0, 10, 13, 19)]
set_option maxHeartbeats 8000000 in
theorem metX0_whyNotMesh (l : Launch) (hlt : l.stackTraces = false) (K : HK) (mc ms : Nat) (sz : Nat) (post : Int32 → hX → Prop) (xpost : String → Nat → hX → Prop) (X0 : hX) (p0 : Nat) (p1 : Int32) (p2 : Int32) (p3 : Nat) : vx_Met l yX0_whyNotMesh wsX0_whyNotMesh (rmh 10 259 mc ms) (hPc K X0 sz [.ref p0, .int p1, .int p2, .ref p3] (wpX0_whyNotMesh post xpost (K.2.2 0) mc ms X0 p0 p1 p2 p3)) (hQi post K X0 sz) (hXC xpost K X0 sz) mc ms (hA X0 sz) := by
  refine vx_ofWH (cc := cX0_whyNotMesh) (maxL := 5) (ret := (some .int)) (by decide) rfl ?_
  intro p e s m args below meth c s₁ B hml hv
  obtain ⟨rfl, hv⟩ := hv
  obtain ⟨hC, hP, hw⟩ := HC.of hv
  have hsz : s.heap.size = sz := hv.1
  subst hsz
  clear hv
  have hr := B.returns
  have hts := atoms_spec (ws := wsX0_whyNotMesh) B.pre
  have htab : c.exceptionTable.toList = tableOf [(0, 10, 13, 19)] := vx_table (x := yX0_whyNotMesh) B (hts _ List.mem_cons_self)
  have hout : ∀ pc : Nat, (tableOf [(0, 10, 13, 19)]).all (fun x => !covers x pc) = true → ∀ x ∈ c.exceptionTable.toList, covers x pc = false := fun pc h x hx => by rw [htab] at hx; have h1 := List.all_eq_true.mp h x hx; exact (Bool.not_eq_true' _).mp h1
  have hts : ∀ w ∈ lw_all, w.before _ s = true := fun w h => hts w (List.mem_cons_of_mem _ h)
  have hF : CallFix p m c cX0_whyNotMesh 5 s ([.ref p0, .int p1, .int p2, .ref p3] : List Value).toArray lw_all RX0 := ⟨B.exec, B.bytes, hml, findClass_of_methodNamed B.named, hts⟩
  have hlocks := B.notSynchronized
  have hl := lv_entry ([.ref p0, .int p1, .int p2, .ref p3]) (n := 5) (Nat.le_of_ble_eq_true rfl)
  rw [lg_entry_eq]
  generalize (lg_sl ([.ref p0, .int p1, .int p2, .ref p3]) ++ List.replicate (5 - (lg_sl ([.ref p0, .int p1, .int p2, .ref p3])).length) Slot.unset).toArray = ls at hl ⊢
  have hl : lv_has ls 5 [(0, .ref p0), (1, .int p1), (2, .int p2), (3, .ref p3)] := hl
  have hS : va_S (hA X0 s.heap.size) s.heap s.heap [] := va_S.rf
  unfold wpX0_whyNotMesh at hw
  show W p l e (rmh 10 259 mc ms) s m _ below meth c _ _ _ _ _ _
  refine lv_aload_n hF.1 hF.2.1 dX0_whyNotMesh_0 rfl (lv_at hl 3 rfl) ?_
  refine lv_iconst (v := 0) hF.1 hF.2.1 dX0_whyNotMesh_1 (by decide) ?_
  refine lv_aload_n hF.1 hF.2.1 dX0_whyNotMesh_2 rfl (lv_at hl 0 rfl) ?_
  refine lv_iload_n hF.1 hF.2.1 dX0_whyNotMesh_3 rfl (lv_at hl 1 rfl) ?_
  refine lv_iload_n hF.1 hF.2.1 dX0_whyNotMesh_4 rfl (lv_at hl 2 rfl) ?_
  obtain ⟨ho_3, hw⟩ := hw
  obtain ⟨mc_4, ms_5, hc_6, hs_7, hw⟩ := hw
  refine hkx_i (hrx_V (As := [.int p1, .int p2]) (rest := [.int 0, .ref p3]) (T := TX1) (N := 4) (ci := 1) hF hl.1 hC hP hS (metX1_whyNotMesh l hlt K mc_4 ms_5 _ _ _ X0 p0 p1 p2) rfl (cwV 2 hF.2.2.2.2 (lw_V q1153 q1154 q1155 q75 q1156) rfl rfl rfl (by decide +kernel) ⟨Nat.le_of_ble_eq_true rfl, Nat.le_of_ble_eq_true rfl⟩) ho_3 hw rfl rfl (Nat.le_of_ble_eq_true rfl) dX0_whyNotMesh_5 ⟨hc_6, hs_7⟩) hP hS (fun E9 q9 X9 H locs hw hcl hP hS => ?_) (fun r_1 X_2 H locs hw hP hS => ?_)
  · obtain ⟨rfl, hw⟩ := hw
    obtain ⟨ce9, g91, g92, g93⟩ := hcl
    refine vx_catch (own := RX0) (name := "java/lang/IllegalArgumentException") hF.2.2.2.1 (tableOf []) ⟨0, 10, 13, 19⟩ (tableOf []) htab (fun z hz => nomatch hz) rfl (by decide) (hF.2.2.2.2 _ q1060) (va_Nw.use rfl (hC.2.2.1.2.2.2.2.2.1 _ q503 rfl)) g91 g92 g93 ?_
    refine lv_astore (lv' := [(4, .ref q9), (0, .ref p0), (1, .int p1), (2, .int p2), (3, .ref p3)]) hF.1 hF.2.1 dX0_whyNotMesh_13 hl (by decide) rfl (fun ls hl => ?_)
    refine lv_iconst (v := 1) hF.1 hF.2.1 dX0_whyNotMesh_15 (by decide) ?_
    exact vx_ret (h_iret hF hr hlocks hP hS ⟨hc_6, hs_7⟩ dX0_whyNotMesh_16 hw)
  refine lv_i2l hF.1 hF.2.1 dX0_whyNotMesh_8 rfl ?_
  obtain ⟨n_8, f_9, hx_10, hi_11, hw⟩ := hw
  refine x_last hF hC hP hS hx_10 hi_11 dX0_whyNotMesh_9 (fun H locs hP hS => ?_)
  generalize hup X_2 p3 (.inl (1, n_8, .inr (.inl (vp_updL f_9 (Int32.toNatClampNeg 0) (Int32.toInt64 r_1))))) = X_12 at hP hw
  refine lv_goto (tgt := 17) hF.1 hF.2.1 dX0_whyNotMesh_10 (by decide) ?_
  refine lv_iconst (v := 0) hF.1 hF.2.1 dX0_whyNotMesh_17 (by decide) ?_
  exact vx_ret (h_iret hF hr hlocks hP hS ⟨hc_6, hs_7⟩ dX0_whyNotMesh_18 hw)
def wpX0_isDriven (post : Int32 → hX → Prop) (xpost : String → Nat → hX → Prop) (E : Nat) (mc ms : Nat) (X : hX) (p0 : Nat) (p1 : Int32) (p2 : Nat) : Prop := isO X p0 1 ((∃ mc_4 ms_5 : Nat, 0 + mc_4 ≤ mc ∧ 0 + ms_5 ≤ ms ∧ wpX1_isDriven (fun r_1 X_2 => ((r_1 = 0 → asJ X_2 p2 0 0 (fun X_13 => post 0 X_13)) ∧ (¬ r_1 = 0 → asJ X_2 p2 0 1 (fun X_18 => post 0 X_18)))) (fun E9 q9 X9 => (E9 = "java/lang/IllegalArgumentException" ∧ post 1 X9)) E mc_4 ms_5 X p0 p1))
abbrev wsX0_isDriven : List Cond := wsW_ yX0_isDriven cX0_isDriven 4 (some .int) [(0, 16, 19, 19)]
set_option maxHeartbeats 8000000 in
theorem metX0_isDriven (l : Launch) (hlt : l.stackTraces = false) (K : HK) (mc ms : Nat) (sz : Nat) (post : Int32 → hX → Prop) (xpost : String → Nat → hX → Prop) (X0 : hX) (p0 : Nat) (p1 : Int32) (p2 : Nat) : vx_Met l yX0_isDriven wsX0_isDriven (rmh 8 144 mc ms) (hPc K X0 sz [.ref p0, .int p1, .ref p2] (wpX0_isDriven post xpost (K.2.2 0) mc ms X0 p0 p1 p2)) (hQi post K X0 sz) (hXC xpost K X0 sz) mc ms (hA X0 sz) := by
  refine vx_ofWH (cc := cX0_isDriven) (maxL := 4) (ret := (some .int)) (by decide) rfl ?_
  intro p e s m args below meth c s₁ B hml hv
  obtain ⟨rfl, hv⟩ := hv
  obtain ⟨hC, hP, hw⟩ := HC.of hv
  have hsz : s.heap.size = sz := hv.1
  subst hsz
  clear hv
  have hr := B.returns
  have hts := atoms_spec (ws := wsX0_isDriven) B.pre
  have htab : c.exceptionTable.toList = tableOf [(0, 16, 19, 19)] := vx_table (x := yX0_isDriven) B (hts _ List.mem_cons_self)
  have hout : ∀ pc : Nat, (tableOf [(0, 16, 19, 19)]).all (fun x => !covers x pc) = true → ∀ x ∈ c.exceptionTable.toList, covers x pc = false := fun pc h x hx => by rw [htab] at hx; have h1 := List.all_eq_true.mp h x hx; exact (Bool.not_eq_true' _).mp h1
  have hts : ∀ w ∈ lw_all, w.before _ s = true := fun w h => hts w (List.mem_cons_of_mem _ h)
  have hF : CallFix p m c cX0_isDriven 4 s ([.ref p0, .int p1, .ref p2] : List Value).toArray lw_all RX0 := ⟨B.exec, B.bytes, hml, findClass_of_methodNamed B.named, hts⟩
  have hlocks := B.notSynchronized
  have hl := lv_entry ([.ref p0, .int p1, .ref p2]) (n := 4) (Nat.le_of_ble_eq_true rfl)
  rw [lg_entry_eq]
  generalize (lg_sl ([.ref p0, .int p1, .ref p2]) ++ List.replicate (4 - (lg_sl ([.ref p0, .int p1, .ref p2])).length) Slot.unset).toArray = ls at hl ⊢
  have hl : lv_has ls 4 [(0, .ref p0), (1, .int p1), (2, .ref p2)] := hl
  have hS : va_S (hA X0 s.heap.size) s.heap s.heap [] := va_S.rf
  unfold wpX0_isDriven at hw
  show W p l e (rmh 8 144 mc ms) s m _ below meth c _ _ _ _ _ _
  refine lv_aload_n hF.1 hF.2.1 dX0_isDriven_0 rfl (lv_at hl 2 rfl) ?_
  refine lv_iconst (v := 0) hF.1 hF.2.1 dX0_isDriven_1 (by decide) ?_
  refine lv_aload_n hF.1 hF.2.1 dX0_isDriven_2 rfl (lv_at hl 0 rfl) ?_
  refine lv_iload_n hF.1 hF.2.1 dX0_isDriven_3 rfl (lv_at hl 1 rfl) ?_
  obtain ⟨ho_3, hw⟩ := hw
  obtain ⟨mc_4, ms_5, hc_6, hs_7, hw⟩ := hw
  refine hkx_i (hrx_V (As := [.int p1]) (rest := [.int 0, .ref p2]) (T := TX1) (N := 4) (ci := 1) hF hl.1 hC hP hS (metX1_isDriven l hlt K mc_4 ms_5 _ _ _ X0 p0 p1) rfl (cwV 1 hF.2.2.2.2 (lw_V q1162 q1163 q1164 q75 q1165) rfl rfl rfl (by decide +kernel) ⟨Nat.le_of_ble_eq_true rfl, Nat.le_of_ble_eq_true rfl⟩) ho_3 hw rfl rfl (Nat.le_of_ble_eq_true rfl) dX0_isDriven_4 ⟨hc_6, hs_7⟩) hP hS (fun E9 q9 X9 H locs hw hcl hP hS => ?_) (fun r_1 X_2 H locs hw hP hS => ?_)
  · obtain ⟨rfl, hw⟩ := hw
    obtain ⟨ce9, g91, g92, g93⟩ := hcl
    refine vx_catch (own := RX0) (name := "java/lang/IllegalArgumentException") hF.2.2.2.1 (tableOf []) ⟨0, 16, 19, 19⟩ (tableOf []) htab (fun z hz => nomatch hz) rfl (by decide) (hF.2.2.2.2 _ q1060) (va_Nw.use rfl (hC.2.2.1.2.2.2.2.2.1 _ q503 rfl)) g91 g92 g93 ?_
    refine lv_astore_n (lv' := [(3, .ref q9), (0, .ref p0), (1, .int p1), (2, .ref p2)]) hF.1 hF.2.1 dX0_isDriven_19 rfl hl (by decide) rfl (fun ls hl => ?_)
    refine lv_iconst (v := 1) hF.1 hF.2.1 dX0_isDriven_20 (by decide) ?_
    exact vx_ret (h_iret hF hr hlocks hP hS ⟨hc_6, hs_7⟩ dX0_isDriven_21 hw)
  refine lv_if_eq (tgt := 14) hF.1 hF.2.1 dX0_isDriven_7 (by decide) (fun c_8 => ?_) (fun c_8 => ?_)
  · have hw := hw.1 c_8
    refine lv_lconst (v := 0) hF.1 hF.2.1 dX0_isDriven_14 (by decide) ?_
    obtain ⟨n_9, f_10, hx_11, hi_12, hw⟩ := hw
    refine x_last hF hC hP hS hx_11 hi_12 dX0_isDriven_15 (fun H locs hP hS => ?_)
    generalize hup X_2 p2 (.inl (1, n_9, .inr (.inl (vp_updL f_10 (Int32.toNatClampNeg 0) 0)))) = X_13 at hP hw
    refine lv_goto (tgt := 22) hF.1 hF.2.1 dX0_isDriven_16 (by decide) ?_
    refine lv_iconst (v := 0) hF.1 hF.2.1 dX0_isDriven_22 (by decide) ?_
    exact vx_ret (h_iret hF hr hlocks hP hS ⟨hc_6, hs_7⟩ dX0_isDriven_23 hw)
  · have hw := hw.2 c_8
    refine lv_lconst (v := 1) hF.1 hF.2.1 dX0_isDriven_10 (by decide) ?_
    refine lv_goto (tgt := 15) hF.1 hF.2.1 dX0_isDriven_11 (by decide) ?_
    obtain ⟨n_14, f_15, hx_16, hi_17, hw⟩ := hw
    refine x_last hF hC hP hS hx_16 hi_17 dX0_isDriven_15 (fun H locs hP hS => ?_)
    generalize hup X_2 p2 (.inl (1, n_14, .inr (.inl (vp_updL f_15 (Int32.toNatClampNeg 0) 1)))) = X_18 at hP hw
    refine lv_goto (tgt := 22) hF.1 hF.2.1 dX0_isDriven_16 (by decide) ?_
    refine lv_iconst (v := 0) hF.1 hF.2.1 dX0_isDriven_22 (by decide) ?_
    exact vx_ret (h_iret hF hr hlocks hP hS ⟨hc_6, hs_7⟩ dX0_isDriven_23 hw)
def wpX0_wayTo (post : Int32 → hX → Prop) (xpost : String → Nat → hX → Prop) (E : Nat) (mc ms : Nat) (X : hX) (p0 : Nat) (p1 : Int32) (p2 : Nat) : Prop := isO X p0 1 ((∃ mc_4 ms_5 : Nat, 0 + mc_4 ≤ mc ∧ 0 + ms_5 ≤ ms ∧ wpX1_wayTo (fun r_1 X_2 => asJ X_2 p2 0 (Int32.toInt64 r_1) (fun X_12 => post 0 X_12)) (fun E9 q9 X9 => (E9 = "java/lang/IllegalArgumentException" ∧ post 1 X9) ∨ (E9 = "java/util/NoSuchElementException" ∧ post 2 X9)) E mc_4 ms_5 X p0 p1))
abbrev wsX0_wayTo : List Cond := wsW_ yX0_wayTo cX0_wayTo 4 (some .int) [(0, 9, 12, 19), (0, 9, 15, 65)]
set_option maxHeartbeats 8000000 in
theorem metX0_wayTo (l : Launch) (hlt : l.stackTraces = false) (K : HK) (mc ms : Nat) (sz : Nat) (post : Int32 → hX → Prop) (xpost : String → Nat → hX → Prop) (X0 : hX) (p0 : Nat) (p1 : Int32) (p2 : Nat) : vx_Met l yX0_wayTo wsX0_wayTo (rmh 9 166 mc ms) (hPc K X0 sz [.ref p0, .int p1, .ref p2] (wpX0_wayTo post xpost (K.2.2 0) mc ms X0 p0 p1 p2)) (hQi post K X0 sz) (hXC xpost K X0 sz) mc ms (hA X0 sz) := by
  refine vx_ofWH (cc := cX0_wayTo) (maxL := 4) (ret := (some .int)) (by decide) rfl ?_
  intro p e s m args below meth c s₁ B hml hv
  obtain ⟨rfl, hv⟩ := hv
  obtain ⟨hC, hP, hw⟩ := HC.of hv
  have hsz : s.heap.size = sz := hv.1
  subst hsz
  clear hv
  have hr := B.returns
  have hts := atoms_spec (ws := wsX0_wayTo) B.pre
  have htab : c.exceptionTable.toList = tableOf [(0, 9, 12, 19), (0, 9, 15, 65)] := vx_table (x := yX0_wayTo) B (hts _ List.mem_cons_self)
  have hout : ∀ pc : Nat, (tableOf [(0, 9, 12, 19), (0, 9, 15, 65)]).all (fun x => !covers x pc) = true → ∀ x ∈ c.exceptionTable.toList, covers x pc = false := fun pc h x hx => by rw [htab] at hx; have h1 := List.all_eq_true.mp h x hx; exact (Bool.not_eq_true' _).mp h1
  have hts : ∀ w ∈ lw_all, w.before _ s = true := fun w h => hts w (List.mem_cons_of_mem _ h)
  have hF : CallFix p m c cX0_wayTo 4 s ([.ref p0, .int p1, .ref p2] : List Value).toArray lw_all RX0 := ⟨B.exec, B.bytes, hml, findClass_of_methodNamed B.named, hts⟩
  have hlocks := B.notSynchronized
  have hl := lv_entry ([.ref p0, .int p1, .ref p2]) (n := 4) (Nat.le_of_ble_eq_true rfl)
  rw [lg_entry_eq]
  generalize (lg_sl ([.ref p0, .int p1, .ref p2]) ++ List.replicate (4 - (lg_sl ([.ref p0, .int p1, .ref p2])).length) Slot.unset).toArray = ls at hl ⊢
  have hl : lv_has ls 4 [(0, .ref p0), (1, .int p1), (2, .ref p2)] := hl
  have hS : va_S (hA X0 s.heap.size) s.heap s.heap [] := va_S.rf
  unfold wpX0_wayTo at hw
  show W p l e (rmh 9 166 mc ms) s m _ below meth c _ _ _ _ _ _
  refine lv_aload_n hF.1 hF.2.1 dX0_wayTo_0 rfl (lv_at hl 2 rfl) ?_
  refine lv_iconst (v := 0) hF.1 hF.2.1 dX0_wayTo_1 (by decide) ?_
  refine lv_aload_n hF.1 hF.2.1 dX0_wayTo_2 rfl (lv_at hl 0 rfl) ?_
  refine lv_iload_n hF.1 hF.2.1 dX0_wayTo_3 rfl (lv_at hl 1 rfl) ?_
  obtain ⟨ho_3, hw⟩ := hw
  obtain ⟨mc_4, ms_5, hc_6, hs_7, hw⟩ := hw
  refine hkx_i (hrx_V (As := [.int p1]) (rest := [.int 0, .ref p2]) (T := TX1) (N := 4) (ci := 1) hF hl.1 hC hP hS (metX1_wayTo l hlt K mc_4 ms_5 _ _ _ X0 p0 p1) rfl (cwV 1 hF.2.2.2.2 (lw_V q1172 q1173 q1174 q75 q1175) rfl rfl rfl (by decide +kernel) ⟨Nat.le_of_ble_eq_true rfl, Nat.le_of_ble_eq_true rfl⟩) ho_3 hw rfl rfl (Nat.le_of_ble_eq_true rfl) dX0_wayTo_4 ⟨hc_6, hs_7⟩) hP hS (fun E9 q9 X9 H locs hw hcl hP hS => ?_) (fun r_1 X_2 H locs hw hP hS => ?_)
  · rcases hw with ⟨rfl, hw⟩ | ⟨rfl, hw⟩
    · obtain ⟨ce9, g91, g92, g93⟩ := hcl
      refine vx_catch (own := RX0) (name := "java/lang/IllegalArgumentException") hF.2.2.2.1 (tableOf []) ⟨0, 9, 12, 19⟩ (tableOf [(0, 9, 15, 65)]) htab (fun z hz => nomatch hz) rfl (by decide) (hF.2.2.2.2 _ q1060) (va_Nw.use rfl (hC.2.2.1.2.2.2.2.2.1 _ q503 rfl)) g91 g92 g93 ?_
      refine lv_astore_n (lv' := [(3, .ref q9), (0, .ref p0), (1, .int p1), (2, .ref p2)]) hF.1 hF.2.1 dX0_wayTo_12 rfl hl (by decide) rfl (fun ls hl => ?_)
      refine lv_iconst (v := 1) hF.1 hF.2.1 dX0_wayTo_13 (by decide) ?_
      exact vx_ret (h_iret hF hr hlocks hP hS ⟨hc_6, hs_7⟩ dX0_wayTo_14 hw)
    · obtain ⟨ce9, g91, g92, g93⟩ := hcl
      refine vx_catch (own := RX0) (name := "java/util/NoSuchElementException") hF.2.2.2.1 (tableOf [(0, 9, 12, 19)]) ⟨0, 9, 15, 65⟩ (tableOf []) htab (List.forall_mem_cons.mpr ⟨Or.inr ⟨by decide, _, hF.2.2.2.2 _ q1060, hC.2.2.1.2.2.2.2.2.2.1 ("java/util/NoSuchElementException", "java/lang/IllegalArgumentException") (by decide)⟩, fun _ hz => nomatch hz⟩) rfl (by decide) (hF.2.2.2.2 _ q1171) (va_Nw.use rfl (hC.2.2.1.2.2.2.2.2.1 _ q1032 rfl)) g91 g92 g93 ?_
      refine lv_astore_n (lv' := [(3, .ref q9), (0, .ref p0), (1, .int p1), (2, .ref p2)]) hF.1 hF.2.1 dX0_wayTo_15 rfl hl (by decide) rfl (fun ls hl => ?_)
      refine lv_iconst (v := 2) hF.1 hF.2.1 dX0_wayTo_16 (by decide) ?_
      exact vx_ret (h_iret hF hr hlocks hP hS ⟨hc_6, hs_7⟩ dX0_wayTo_17 hw)
  refine lv_i2l hF.1 hF.2.1 dX0_wayTo_7 rfl ?_
  obtain ⟨n_8, f_9, hx_10, hi_11, hw⟩ := hw
  refine x_last hF hC hP hS hx_10 hi_11 dX0_wayTo_8 (fun H locs hP hS => ?_)
  generalize hup X_2 p2 (.inl (1, n_8, .inr (.inl (vp_updL f_9 (Int32.toNatClampNeg 0) (Int32.toInt64 r_1))))) = X_12 at hP hw
  refine lv_goto (tgt := 18) hF.1 hF.2.1 dX0_wayTo_9 (by decide) ?_
  refine lv_iconst (v := 0) hF.1 hF.2.1 dX0_wayTo_18 (by decide) ?_
  exact vx_ret (h_iret hF hr hlocks hP hS ⟨hc_6, hs_7⟩ dX0_wayTo_19 hw)
def wpX0_ratioAbove (post : Int32 → hX → Prop) (xpost : String → Nat → hX → Prop) (E : Nat) (mc ms : Nat) (X : hX) (p0 : Nat) (p1 : Int32) (p2 : Nat) : Prop := isO X p0 1 ((∃ mc_4 ms_5 : Nat, 0 + mc_4 ≤ mc ∧ 0 + ms_5 ≤ ms ∧ wpX1_ratioAbove (fun r_1 X_2 => asJ X_2 p2 0 r_1 (fun X_12 => post 0 X_12)) (fun E9 q9 X9 => (E9 = "java/lang/IllegalArgumentException" ∧ post 1 X9) ∨ (E9 = "java/util/NoSuchElementException" ∧ post 2 X9)) E mc_4 ms_5 X p0 p1))
abbrev wsX0_ratioAbove : List Cond := wsW_ yX0_ratioAbove cX0_ratioAbove 4 (some .int) [(0, 8, 11, 19), (0, 8, 14, 65)]
set_option maxHeartbeats 8000000 in
theorem metX0_ratioAbove (l : Launch) (hlt : l.stackTraces = false) (K : HK) (mc ms : Nat) (sz : Nat) (post : Int32 → hX → Prop) (xpost : String → Nat → hX → Prop) (X0 : hX) (p0 : Nat) (p1 : Int32) (p2 : Nat) : vx_Met l yX0_ratioAbove wsX0_ratioAbove (rmh 9 166 mc ms) (hPc K X0 sz [.ref p0, .int p1, .ref p2] (wpX0_ratioAbove post xpost (K.2.2 0) mc ms X0 p0 p1 p2)) (hQi post K X0 sz) (hXC xpost K X0 sz) mc ms (hA X0 sz) := by
  refine vx_ofWH (cc := cX0_ratioAbove) (maxL := 4) (ret := (some .int)) (by decide) rfl ?_
  intro p e s m args below meth c s₁ B hml hv
  obtain ⟨rfl, hv⟩ := hv
  obtain ⟨hC, hP, hw⟩ := HC.of hv
  have hsz : s.heap.size = sz := hv.1
  subst hsz
  clear hv
  have hr := B.returns
  have hts := atoms_spec (ws := wsX0_ratioAbove) B.pre
  have htab : c.exceptionTable.toList = tableOf [(0, 8, 11, 19), (0, 8, 14, 65)] := vx_table (x := yX0_ratioAbove) B (hts _ List.mem_cons_self)
  have hout : ∀ pc : Nat, (tableOf [(0, 8, 11, 19), (0, 8, 14, 65)]).all (fun x => !covers x pc) = true → ∀ x ∈ c.exceptionTable.toList, covers x pc = false := fun pc h x hx => by rw [htab] at hx; have h1 := List.all_eq_true.mp h x hx; exact (Bool.not_eq_true' _).mp h1
  have hts : ∀ w ∈ lw_all, w.before _ s = true := fun w h => hts w (List.mem_cons_of_mem _ h)
  have hF : CallFix p m c cX0_ratioAbove 4 s ([.ref p0, .int p1, .ref p2] : List Value).toArray lw_all RX0 := ⟨B.exec, B.bytes, hml, findClass_of_methodNamed B.named, hts⟩
  have hlocks := B.notSynchronized
  have hl := lv_entry ([.ref p0, .int p1, .ref p2]) (n := 4) (Nat.le_of_ble_eq_true rfl)
  rw [lg_entry_eq]
  generalize (lg_sl ([.ref p0, .int p1, .ref p2]) ++ List.replicate (4 - (lg_sl ([.ref p0, .int p1, .ref p2])).length) Slot.unset).toArray = ls at hl ⊢
  have hl : lv_has ls 4 [(0, .ref p0), (1, .int p1), (2, .ref p2)] := hl
  have hS : va_S (hA X0 s.heap.size) s.heap s.heap [] := va_S.rf
  unfold wpX0_ratioAbove at hw
  show W p l e (rmh 9 166 mc ms) s m _ below meth c _ _ _ _ _ _
  refine lv_aload_n hF.1 hF.2.1 dX0_ratioAbove_0 rfl (lv_at hl 2 rfl) ?_
  refine lv_iconst (v := 0) hF.1 hF.2.1 dX0_ratioAbove_1 (by decide) ?_
  refine lv_aload_n hF.1 hF.2.1 dX0_ratioAbove_2 rfl (lv_at hl 0 rfl) ?_
  refine lv_iload_n hF.1 hF.2.1 dX0_ratioAbove_3 rfl (lv_at hl 1 rfl) ?_
  obtain ⟨ho_3, hw⟩ := hw
  obtain ⟨mc_4, ms_5, hc_6, hs_7, hw⟩ := hw
  refine hkx_l (hrx_V (As := [.int p1]) (rest := [.int 0, .ref p2]) (T := TX1) (N := 4) (ci := 1) hF hl.1 hC hP hS (metX1_ratioAbove l hlt K mc_4 ms_5 _ _ _ X0 p0 p1) rfl (cwV 1 hF.2.2.2.2 (lw_V q1192 q1193 q1194 q75 q1195) rfl rfl rfl (by decide +kernel) ⟨Nat.le_of_ble_eq_true rfl, Nat.le_of_ble_eq_true rfl⟩) ho_3 hw rfl rfl (Nat.le_of_ble_eq_true rfl) dX0_ratioAbove_4 ⟨hc_6, hs_7⟩) hP hS (fun E9 q9 X9 H locs hw hcl hP hS => ?_) (fun r_1 X_2 H locs hw hP hS => ?_)
  · rcases hw with ⟨rfl, hw⟩ | ⟨rfl, hw⟩
    · obtain ⟨ce9, g91, g92, g93⟩ := hcl
      refine vx_catch (own := RX0) (name := "java/lang/IllegalArgumentException") hF.2.2.2.1 (tableOf []) ⟨0, 8, 11, 19⟩ (tableOf [(0, 8, 14, 65)]) htab (fun z hz => nomatch hz) rfl (by decide) (hF.2.2.2.2 _ q1060) (va_Nw.use rfl (hC.2.2.1.2.2.2.2.2.1 _ q503 rfl)) g91 g92 g93 ?_
      refine lv_astore_n (lv' := [(3, .ref q9), (0, .ref p0), (1, .int p1), (2, .ref p2)]) hF.1 hF.2.1 dX0_ratioAbove_11 rfl hl (by decide) rfl (fun ls hl => ?_)
      refine lv_iconst (v := 1) hF.1 hF.2.1 dX0_ratioAbove_12 (by decide) ?_
      exact vx_ret (h_iret hF hr hlocks hP hS ⟨hc_6, hs_7⟩ dX0_ratioAbove_13 hw)
    · obtain ⟨ce9, g91, g92, g93⟩ := hcl
      refine vx_catch (own := RX0) (name := "java/util/NoSuchElementException") hF.2.2.2.1 (tableOf [(0, 8, 11, 19)]) ⟨0, 8, 14, 65⟩ (tableOf []) htab (List.forall_mem_cons.mpr ⟨Or.inr ⟨by decide, _, hF.2.2.2.2 _ q1060, hC.2.2.1.2.2.2.2.2.2.1 ("java/util/NoSuchElementException", "java/lang/IllegalArgumentException") (by decide)⟩, fun _ hz => nomatch hz⟩) rfl (by decide) (hF.2.2.2.2 _ q1171) (va_Nw.use rfl (hC.2.2.1.2.2.2.2.2.1 _ q1032 rfl)) g91 g92 g93 ?_
      refine lv_astore_n (lv' := [(3, .ref q9), (0, .ref p0), (1, .int p1), (2, .ref p2)]) hF.1 hF.2.1 dX0_ratioAbove_14 rfl hl (by decide) rfl (fun ls hl => ?_)
      refine lv_iconst (v := 2) hF.1 hF.2.1 dX0_ratioAbove_15 (by decide) ?_
      exact vx_ret (h_iret hF hr hlocks hP hS ⟨hc_6, hs_7⟩ dX0_ratioAbove_16 hw)
  obtain ⟨n_8, f_9, hx_10, hi_11, hw⟩ := hw
  refine x_last hF hC hP hS hx_10 hi_11 dX0_ratioAbove_7 (fun H locs hP hS => ?_)
  generalize hup X_2 p2 (.inl (1, n_8, .inr (.inl (vp_updL f_9 (Int32.toNatClampNeg 0) r_1)))) = X_12 at hP hw
  refine lv_goto (tgt := 17) hF.1 hF.2.1 dX0_ratioAbove_8 (by decide) ?_
  refine lv_iconst (v := 0) hF.1 hF.2.1 dX0_ratioAbove_17 (by decide) ?_
  exact vx_ret (h_iret hF hr hlocks hP hS ⟨hc_6, hs_7⟩ dX0_ratioAbove_18 hw)
def wpX0_ratioBelow (post : Int32 → hX → Prop) (xpost : String → Nat → hX → Prop) (E : Nat) (mc ms : Nat) (X : hX) (p0 : Nat) (p1 : Int32) (p2 : Nat) : Prop := isO X p0 1 ((∃ mc_4 ms_5 : Nat, 0 + mc_4 ≤ mc ∧ 0 + ms_5 ≤ ms ∧ wpX1_ratioBelow (fun r_1 X_2 => asJ X_2 p2 0 r_1 (fun X_12 => post 0 X_12)) (fun E9 q9 X9 => (E9 = "java/lang/IllegalArgumentException" ∧ post 1 X9) ∨ (E9 = "java/util/NoSuchElementException" ∧ post 2 X9)) E mc_4 ms_5 X p0 p1))
abbrev wsX0_ratioBelow : List Cond := wsW_ yX0_ratioBelow cX0_ratioBelow 4 (some .int) [(0, 8, 11, 19), (0, 8, 14, 65)]
set_option maxHeartbeats 8000000 in
theorem metX0_ratioBelow (l : Launch) (hlt : l.stackTraces = false) (K : HK) (mc ms : Nat) (sz : Nat) (post : Int32 → hX → Prop) (xpost : String → Nat → hX → Prop) (X0 : hX) (p0 : Nat) (p1 : Int32) (p2 : Nat) : vx_Met l yX0_ratioBelow wsX0_ratioBelow (rmh 9 166 mc ms) (hPc K X0 sz [.ref p0, .int p1, .ref p2] (wpX0_ratioBelow post xpost (K.2.2 0) mc ms X0 p0 p1 p2)) (hQi post K X0 sz) (hXC xpost K X0 sz) mc ms (hA X0 sz) := by
  refine vx_ofWH (cc := cX0_ratioBelow) (maxL := 4) (ret := (some .int)) (by decide) rfl ?_
  intro p e s m args below meth c s₁ B hml hv
  obtain ⟨rfl, hv⟩ := hv
  obtain ⟨hC, hP, hw⟩ := HC.of hv
  have hsz : s.heap.size = sz := hv.1
  subst hsz
  clear hv
  have hr := B.returns
  have hts := atoms_spec (ws := wsX0_ratioBelow) B.pre
  have htab : c.exceptionTable.toList = tableOf [(0, 8, 11, 19), (0, 8, 14, 65)] := vx_table (x := yX0_ratioBelow) B (hts _ List.mem_cons_self)
  have hout : ∀ pc : Nat, (tableOf [(0, 8, 11, 19), (0, 8, 14, 65)]).all (fun x => !covers x pc) = true → ∀ x ∈ c.exceptionTable.toList, covers x pc = false := fun pc h x hx => by rw [htab] at hx; have h1 := List.all_eq_true.mp h x hx; exact (Bool.not_eq_true' _).mp h1
  have hts : ∀ w ∈ lw_all, w.before _ s = true := fun w h => hts w (List.mem_cons_of_mem _ h)
  have hF : CallFix p m c cX0_ratioBelow 4 s ([.ref p0, .int p1, .ref p2] : List Value).toArray lw_all RX0 := ⟨B.exec, B.bytes, hml, findClass_of_methodNamed B.named, hts⟩
  have hlocks := B.notSynchronized
  have hl := lv_entry ([.ref p0, .int p1, .ref p2]) (n := 4) (Nat.le_of_ble_eq_true rfl)
  rw [lg_entry_eq]
  generalize (lg_sl ([.ref p0, .int p1, .ref p2]) ++ List.replicate (4 - (lg_sl ([.ref p0, .int p1, .ref p2])).length) Slot.unset).toArray = ls at hl ⊢
  have hl : lv_has ls 4 [(0, .ref p0), (1, .int p1), (2, .ref p2)] := hl
  have hS : va_S (hA X0 s.heap.size) s.heap s.heap [] := va_S.rf
  unfold wpX0_ratioBelow at hw
  show W p l e (rmh 9 166 mc ms) s m _ below meth c _ _ _ _ _ _
  refine lv_aload_n hF.1 hF.2.1 dX0_ratioBelow_0 rfl (lv_at hl 2 rfl) ?_
  refine lv_iconst (v := 0) hF.1 hF.2.1 dX0_ratioBelow_1 (by decide) ?_
  refine lv_aload_n hF.1 hF.2.1 dX0_ratioBelow_2 rfl (lv_at hl 0 rfl) ?_
  refine lv_iload_n hF.1 hF.2.1 dX0_ratioBelow_3 rfl (lv_at hl 1 rfl) ?_
  obtain ⟨ho_3, hw⟩ := hw
  obtain ⟨mc_4, ms_5, hc_6, hs_7, hw⟩ := hw
  refine hkx_l (hrx_V (As := [.int p1]) (rest := [.int 0, .ref p2]) (T := TX1) (N := 4) (ci := 1) hF hl.1 hC hP hS (metX1_ratioBelow l hlt K mc_4 ms_5 _ _ _ X0 p0 p1) rfl (cwV 1 hF.2.2.2.2 (lw_V q1199 q1200 q1201 q75 q1202) rfl rfl rfl (by decide +kernel) ⟨Nat.le_of_ble_eq_true rfl, Nat.le_of_ble_eq_true rfl⟩) ho_3 hw rfl rfl (Nat.le_of_ble_eq_true rfl) dX0_ratioBelow_4 ⟨hc_6, hs_7⟩) hP hS (fun E9 q9 X9 H locs hw hcl hP hS => ?_) (fun r_1 X_2 H locs hw hP hS => ?_)
  · rcases hw with ⟨rfl, hw⟩ | ⟨rfl, hw⟩
    · obtain ⟨ce9, g91, g92, g93⟩ := hcl
      refine vx_catch (own := RX0) (name := "java/lang/IllegalArgumentException") hF.2.2.2.1 (tableOf []) ⟨0, 8, 11, 19⟩ (tableOf [(0, 8, 14, 65)]) htab (fun z hz => nomatch hz) rfl (by decide) (hF.2.2.2.2 _ q1060) (va_Nw.use rfl (hC.2.2.1.2.2.2.2.2.1 _ q503 rfl)) g91 g92 g93 ?_
      refine lv_astore_n (lv' := [(3, .ref q9), (0, .ref p0), (1, .int p1), (2, .ref p2)]) hF.1 hF.2.1 dX0_ratioBelow_11 rfl hl (by decide) rfl (fun ls hl => ?_)
      refine lv_iconst (v := 1) hF.1 hF.2.1 dX0_ratioBelow_12 (by decide) ?_
      exact vx_ret (h_iret hF hr hlocks hP hS ⟨hc_6, hs_7⟩ dX0_ratioBelow_13 hw)
    · obtain ⟨ce9, g91, g92, g93⟩ := hcl
      refine vx_catch (own := RX0) (name := "java/util/NoSuchElementException") hF.2.2.2.1 (tableOf [(0, 8, 11, 19)]) ⟨0, 8, 14, 65⟩ (tableOf []) htab (List.forall_mem_cons.mpr ⟨Or.inr ⟨by decide, _, hF.2.2.2.2 _ q1060, hC.2.2.1.2.2.2.2.2.2.1 ("java/util/NoSuchElementException", "java/lang/IllegalArgumentException") (by decide)⟩, fun _ hz => nomatch hz⟩) rfl (by decide) (hF.2.2.2.2 _ q1171) (va_Nw.use rfl (hC.2.2.1.2.2.2.2.2.1 _ q1032 rfl)) g91 g92 g93 ?_
      refine lv_astore_n (lv' := [(3, .ref q9), (0, .ref p0), (1, .int p1), (2, .ref p2)]) hF.1 hF.2.1 dX0_ratioBelow_14 rfl hl (by decide) rfl (fun ls hl => ?_)
      refine lv_iconst (v := 2) hF.1 hF.2.1 dX0_ratioBelow_15 (by decide) ?_
      exact vx_ret (h_iret hF hr hlocks hP hS ⟨hc_6, hs_7⟩ dX0_ratioBelow_16 hw)
  obtain ⟨n_8, f_9, hx_10, hi_11, hw⟩ := hw
  refine x_last hF hC hP hS hx_10 hi_11 dX0_ratioBelow_7 (fun H locs hP hS => ?_)
  generalize hup X_2 p2 (.inl (1, n_8, .inr (.inl (vp_updL f_9 (Int32.toNatClampNeg 0) r_1)))) = X_12 at hP hw
  refine lv_goto (tgt := 17) hF.1 hF.2.1 dX0_ratioBelow_8 (by decide) ?_
  refine lv_iconst (v := 0) hF.1 hF.2.1 dX0_ratioBelow_17 (by decide) ?_
  exact vx_ret (h_iret hF hr hlocks hP hS ⟨hc_6, hs_7⟩ dX0_ratioBelow_18 hw)
def wpX0_isRatioByTeeth (post : Int32 → hX → Prop) (xpost : String → Nat → hX → Prop) (E : Nat) (mc ms : Nat) (X : hX) (p0 : Nat) (p1 : Int32) (p2 : Nat) : Prop := isO X p0 1 ((∃ mc_4 ms_5 : Nat, 0 + mc_4 ≤ mc ∧ 0 + ms_5 ≤ ms ∧ wpX1_isRatioByTeeth (fun r_1 X_2 => ((r_1 = 0 → asJ X_2 p2 0 0 (fun X_13 => post 0 X_13)) ∧ (¬ r_1 = 0 → asJ X_2 p2 0 1 (fun X_18 => post 0 X_18)))) (fun E9 q9 X9 => (E9 = "java/lang/IllegalArgumentException" ∧ post 1 X9) ∨ (E9 = "java/util/NoSuchElementException" ∧ post 2 X9)) E mc_4 ms_5 X p0 p1))
abbrev wsX0_isRatioByTeeth : List Cond := wsW_ yX0_isRatioByTeeth cX0_isRatioByTeeth 4 (some .int) [(0, 16, 19, 19), (0, 16, 22, 65)]
set_option maxHeartbeats 8000000 in
theorem metX0_isRatioByTeeth (l : Launch) (hlt : l.stackTraces = false) (K : HK) (mc ms : Nat) (sz : Nat) (post : Int32 → hX → Prop) (xpost : String → Nat → hX → Prop) (X0 : hX) (p0 : Nat) (p1 : Int32) (p2 : Nat) : vx_Met l yX0_isRatioByTeeth wsX0_isRatioByTeeth (rmh 9 166 mc ms) (hPc K X0 sz [.ref p0, .int p1, .ref p2] (wpX0_isRatioByTeeth post xpost (K.2.2 0) mc ms X0 p0 p1 p2)) (hQi post K X0 sz) (hXC xpost K X0 sz) mc ms (hA X0 sz) := by
  refine vx_ofWH (cc := cX0_isRatioByTeeth) (maxL := 4) (ret := (some .int)) (by decide) rfl ?_
  intro p e s m args below meth c s₁ B hml hv
  obtain ⟨rfl, hv⟩ := hv
  obtain ⟨hC, hP, hw⟩ := HC.of hv
  have hsz : s.heap.size = sz := hv.1
  subst hsz
  clear hv
  have hr := B.returns
  have hts := atoms_spec (ws := wsX0_isRatioByTeeth) B.pre
  have htab : c.exceptionTable.toList = tableOf [(0, 16, 19, 19), (0, 16, 22, 65)] := vx_table (x := yX0_isRatioByTeeth) B (hts _ List.mem_cons_self)
  have hout : ∀ pc : Nat, (tableOf [(0, 16, 19, 19), (0, 16, 22, 65)]).all (fun x => !covers x pc) = true → ∀ x ∈ c.exceptionTable.toList, covers x pc = false := fun pc h x hx => by rw [htab] at hx; have h1 := List.all_eq_true.mp h x hx; exact (Bool.not_eq_true' _).mp h1
  have hts : ∀ w ∈ lw_all, w.before _ s = true := fun w h => hts w (List.mem_cons_of_mem _ h)
  have hF : CallFix p m c cX0_isRatioByTeeth 4 s ([.ref p0, .int p1, .ref p2] : List Value).toArray lw_all RX0 := ⟨B.exec, B.bytes, hml, findClass_of_methodNamed B.named, hts⟩
  have hlocks := B.notSynchronized
  have hl := lv_entry ([.ref p0, .int p1, .ref p2]) (n := 4) (Nat.le_of_ble_eq_true rfl)
  rw [lg_entry_eq]
  generalize (lg_sl ([.ref p0, .int p1, .ref p2]) ++ List.replicate (4 - (lg_sl ([.ref p0, .int p1, .ref p2])).length) Slot.unset).toArray = ls at hl ⊢
  have hl : lv_has ls 4 [(0, .ref p0), (1, .int p1), (2, .ref p2)] := hl
  have hS : va_S (hA X0 s.heap.size) s.heap s.heap [] := va_S.rf
  unfold wpX0_isRatioByTeeth at hw
  show W p l e (rmh 9 166 mc ms) s m _ below meth c _ _ _ _ _ _
  refine lv_aload_n hF.1 hF.2.1 dX0_isRatioByTeeth_0 rfl (lv_at hl 2 rfl) ?_
  refine lv_iconst (v := 0) hF.1 hF.2.1 dX0_isRatioByTeeth_1 (by decide) ?_
  refine lv_aload_n hF.1 hF.2.1 dX0_isRatioByTeeth_2 rfl (lv_at hl 0 rfl) ?_
  refine lv_iload_n hF.1 hF.2.1 dX0_isRatioByTeeth_3 rfl (lv_at hl 1 rfl) ?_
  obtain ⟨ho_3, hw⟩ := hw
  obtain ⟨mc_4, ms_5, hc_6, hs_7, hw⟩ := hw
  refine hkx_i (hrx_V (As := [.int p1]) (rest := [.int 0, .ref p2]) (T := TX1) (N := 4) (ci := 1) hF hl.1 hC hP hS (metX1_isRatioByTeeth l hlt K mc_4 ms_5 _ _ _ X0 p0 p1) rfl (cwV 1 hF.2.2.2.2 (lw_V q1206 q1207 q1208 q75 q1209) rfl rfl rfl (by decide +kernel) ⟨Nat.le_of_ble_eq_true rfl, Nat.le_of_ble_eq_true rfl⟩) ho_3 hw rfl rfl (Nat.le_of_ble_eq_true rfl) dX0_isRatioByTeeth_4 ⟨hc_6, hs_7⟩) hP hS (fun E9 q9 X9 H locs hw hcl hP hS => ?_) (fun r_1 X_2 H locs hw hP hS => ?_)
  · rcases hw with ⟨rfl, hw⟩ | ⟨rfl, hw⟩
    · obtain ⟨ce9, g91, g92, g93⟩ := hcl
      refine vx_catch (own := RX0) (name := "java/lang/IllegalArgumentException") hF.2.2.2.1 (tableOf []) ⟨0, 16, 19, 19⟩ (tableOf [(0, 16, 22, 65)]) htab (fun z hz => nomatch hz) rfl (by decide) (hF.2.2.2.2 _ q1060) (va_Nw.use rfl (hC.2.2.1.2.2.2.2.2.1 _ q503 rfl)) g91 g92 g93 ?_
      refine lv_astore_n (lv' := [(3, .ref q9), (0, .ref p0), (1, .int p1), (2, .ref p2)]) hF.1 hF.2.1 dX0_isRatioByTeeth_19 rfl hl (by decide) rfl (fun ls hl => ?_)
      refine lv_iconst (v := 1) hF.1 hF.2.1 dX0_isRatioByTeeth_20 (by decide) ?_
      exact vx_ret (h_iret hF hr hlocks hP hS ⟨hc_6, hs_7⟩ dX0_isRatioByTeeth_21 hw)
    · obtain ⟨ce9, g91, g92, g93⟩ := hcl
      refine vx_catch (own := RX0) (name := "java/util/NoSuchElementException") hF.2.2.2.1 (tableOf [(0, 16, 19, 19)]) ⟨0, 16, 22, 65⟩ (tableOf []) htab (List.forall_mem_cons.mpr ⟨Or.inr ⟨by decide, _, hF.2.2.2.2 _ q1060, hC.2.2.1.2.2.2.2.2.2.1 ("java/util/NoSuchElementException", "java/lang/IllegalArgumentException") (by decide)⟩, fun _ hz => nomatch hz⟩) rfl (by decide) (hF.2.2.2.2 _ q1171) (va_Nw.use rfl (hC.2.2.1.2.2.2.2.2.1 _ q1032 rfl)) g91 g92 g93 ?_
      refine lv_astore_n (lv' := [(3, .ref q9), (0, .ref p0), (1, .int p1), (2, .ref p2)]) hF.1 hF.2.1 dX0_isRatioByTeeth_22 rfl hl (by decide) rfl (fun ls hl => ?_)
      refine lv_iconst (v := 2) hF.1 hF.2.1 dX0_isRatioByTeeth_23 (by decide) ?_
      exact vx_ret (h_iret hF hr hlocks hP hS ⟨hc_6, hs_7⟩ dX0_isRatioByTeeth_24 hw)
  refine lv_if_eq (tgt := 14) hF.1 hF.2.1 dX0_isRatioByTeeth_7 (by decide) (fun c_8 => ?_) (fun c_8 => ?_)
  · have hw := hw.1 c_8
    refine lv_lconst (v := 0) hF.1 hF.2.1 dX0_isRatioByTeeth_14 (by decide) ?_
    obtain ⟨n_9, f_10, hx_11, hi_12, hw⟩ := hw
    refine x_last hF hC hP hS hx_11 hi_12 dX0_isRatioByTeeth_15 (fun H locs hP hS => ?_)
    generalize hup X_2 p2 (.inl (1, n_9, .inr (.inl (vp_updL f_10 (Int32.toNatClampNeg 0) 0)))) = X_13 at hP hw
    refine lv_goto (tgt := 25) hF.1 hF.2.1 dX0_isRatioByTeeth_16 (by decide) ?_
    refine lv_iconst (v := 0) hF.1 hF.2.1 dX0_isRatioByTeeth_25 (by decide) ?_
    exact vx_ret (h_iret hF hr hlocks hP hS ⟨hc_6, hs_7⟩ dX0_isRatioByTeeth_26 hw)
  · have hw := hw.2 c_8
    refine lv_lconst (v := 1) hF.1 hF.2.1 dX0_isRatioByTeeth_10 (by decide) ?_
    refine lv_goto (tgt := 15) hF.1 hF.2.1 dX0_isRatioByTeeth_11 (by decide) ?_
    obtain ⟨n_14, f_15, hx_16, hi_17, hw⟩ := hw
    refine x_last hF hC hP hS hx_16 hi_17 dX0_isRatioByTeeth_15 (fun H locs hP hS => ?_)
    generalize hup X_2 p2 (.inl (1, n_14, .inr (.inl (vp_updL f_15 (Int32.toNatClampNeg 0) 1)))) = X_18 at hP hw
    refine lv_goto (tgt := 25) hF.1 hF.2.1 dX0_isRatioByTeeth_16 (by decide) ?_
    refine lv_iconst (v := 0) hF.1 hF.2.1 dX0_isRatioByTeeth_25 (by decide) ?_
    exact vx_ret (h_iret hF hr hlocks hP hS ⟨hc_6, hs_7⟩ dX0_isRatioByTeeth_26 hw)
def wpX0_turnsOf (post : Int32 → hX → Prop) (xpost : String → Nat → hX → Prop) (E : Nat) (mc ms : Nat) (X : hX) (p0 : Nat) (p1 : Int32) (p2 : Nat) : Prop := isO X p0 1 ((∃ mc_4 ms_5 : Nat, 0 + mc_4 ≤ mc ∧ 0 + ms_5 ≤ ms ∧ wpX1_turnsOf (fun r_1 X_2 => asJ X_2 p2 0 r_1 (fun X_12 => post 0 X_12)) (fun E9 q9 X9 => (E9 = "java/lang/IllegalArgumentException" ∧ post 1 X9) ∨ (E9 = "java/util/NoSuchElementException" ∧ post 2 X9)) E mc_4 ms_5 X p0 p1))
abbrev wsX0_turnsOf : List Cond := wsW_ yX0_turnsOf cX0_turnsOf 4 (some .int) [(0, 8, 11, 19), (0, 8, 14, 65)]
set_option maxHeartbeats 8000000 in
theorem metX0_turnsOf (l : Launch) (hlt : l.stackTraces = false) (K : HK) (mc ms : Nat) (sz : Nat) (post : Int32 → hX → Prop) (xpost : String → Nat → hX → Prop) (X0 : hX) (p0 : Nat) (p1 : Int32) (p2 : Nat) : vx_Met l yX0_turnsOf wsX0_turnsOf (rmh 9 167 mc ms) (hPc K X0 sz [.ref p0, .int p1, .ref p2] (wpX0_turnsOf post xpost (K.2.2 0) mc ms X0 p0 p1 p2)) (hQi post K X0 sz) (hXC xpost K X0 sz) mc ms (hA X0 sz) := by
  refine vx_ofWH (cc := cX0_turnsOf) (maxL := 4) (ret := (some .int)) (by decide) rfl ?_
  intro p e s m args below meth c s₁ B hml hv
  obtain ⟨rfl, hv⟩ := hv
  obtain ⟨hC, hP, hw⟩ := HC.of hv
  have hsz : s.heap.size = sz := hv.1
  subst hsz
  clear hv
  have hr := B.returns
  have hts := atoms_spec (ws := wsX0_turnsOf) B.pre
  have htab : c.exceptionTable.toList = tableOf [(0, 8, 11, 19), (0, 8, 14, 65)] := vx_table (x := yX0_turnsOf) B (hts _ List.mem_cons_self)
  have hout : ∀ pc : Nat, (tableOf [(0, 8, 11, 19), (0, 8, 14, 65)]).all (fun x => !covers x pc) = true → ∀ x ∈ c.exceptionTable.toList, covers x pc = false := fun pc h x hx => by rw [htab] at hx; have h1 := List.all_eq_true.mp h x hx; exact (Bool.not_eq_true' _).mp h1
  have hts : ∀ w ∈ lw_all, w.before _ s = true := fun w h => hts w (List.mem_cons_of_mem _ h)
  have hF : CallFix p m c cX0_turnsOf 4 s ([.ref p0, .int p1, .ref p2] : List Value).toArray lw_all RX0 := ⟨B.exec, B.bytes, hml, findClass_of_methodNamed B.named, hts⟩
  have hlocks := B.notSynchronized
  have hl := lv_entry ([.ref p0, .int p1, .ref p2]) (n := 4) (Nat.le_of_ble_eq_true rfl)
  rw [lg_entry_eq]
  generalize (lg_sl ([.ref p0, .int p1, .ref p2]) ++ List.replicate (4 - (lg_sl ([.ref p0, .int p1, .ref p2])).length) Slot.unset).toArray = ls at hl ⊢
  have hl : lv_has ls 4 [(0, .ref p0), (1, .int p1), (2, .ref p2)] := hl
  have hS : va_S (hA X0 s.heap.size) s.heap s.heap [] := va_S.rf
  unfold wpX0_turnsOf at hw
  show W p l e (rmh 9 167 mc ms) s m _ below meth c _ _ _ _ _ _
  refine lv_aload_n hF.1 hF.2.1 dX0_turnsOf_0 rfl (lv_at hl 2 rfl) ?_
  refine lv_iconst (v := 0) hF.1 hF.2.1 dX0_turnsOf_1 (by decide) ?_
  refine lv_aload_n hF.1 hF.2.1 dX0_turnsOf_2 rfl (lv_at hl 0 rfl) ?_
  refine lv_iload_n hF.1 hF.2.1 dX0_turnsOf_3 rfl (lv_at hl 1 rfl) ?_
  obtain ⟨ho_3, hw⟩ := hw
  obtain ⟨mc_4, ms_5, hc_6, hs_7, hw⟩ := hw
  refine hkx_l (hrx_V (As := [.int p1]) (rest := [.int 0, .ref p2]) (T := TX1) (N := 4) (ci := 1) hF hl.1 hC hP hS (metX1_turnsOf l hlt K mc_4 ms_5 _ _ _ X0 p0 p1) rfl (cwV 1 hF.2.2.2.2 (lw_V q1217 q1218 q1219 q75 q1220) rfl rfl rfl (by decide +kernel) ⟨Nat.le_of_ble_eq_true rfl, Nat.le_of_ble_eq_true rfl⟩) ho_3 hw rfl rfl (Nat.le_of_ble_eq_true rfl) dX0_turnsOf_4 ⟨hc_6, hs_7⟩) hP hS (fun E9 q9 X9 H locs hw hcl hP hS => ?_) (fun r_1 X_2 H locs hw hP hS => ?_)
  · rcases hw with ⟨rfl, hw⟩ | ⟨rfl, hw⟩
    · obtain ⟨ce9, g91, g92, g93⟩ := hcl
      refine vx_catch (own := RX0) (name := "java/lang/IllegalArgumentException") hF.2.2.2.1 (tableOf []) ⟨0, 8, 11, 19⟩ (tableOf [(0, 8, 14, 65)]) htab (fun z hz => nomatch hz) rfl (by decide) (hF.2.2.2.2 _ q1060) (va_Nw.use rfl (hC.2.2.1.2.2.2.2.2.1 _ q503 rfl)) g91 g92 g93 ?_
      refine lv_astore_n (lv' := [(3, .ref q9), (0, .ref p0), (1, .int p1), (2, .ref p2)]) hF.1 hF.2.1 dX0_turnsOf_11 rfl hl (by decide) rfl (fun ls hl => ?_)
      refine lv_iconst (v := 1) hF.1 hF.2.1 dX0_turnsOf_12 (by decide) ?_
      exact vx_ret (h_iret hF hr hlocks hP hS ⟨hc_6, hs_7⟩ dX0_turnsOf_13 hw)
    · obtain ⟨ce9, g91, g92, g93⟩ := hcl
      refine vx_catch (own := RX0) (name := "java/util/NoSuchElementException") hF.2.2.2.1 (tableOf [(0, 8, 11, 19)]) ⟨0, 8, 14, 65⟩ (tableOf []) htab (List.forall_mem_cons.mpr ⟨Or.inr ⟨by decide, _, hF.2.2.2.2 _ q1060, hC.2.2.1.2.2.2.2.2.2.1 ("java/util/NoSuchElementException", "java/lang/IllegalArgumentException") (by decide)⟩, fun _ hz => nomatch hz⟩) rfl (by decide) (hF.2.2.2.2 _ q1171) (va_Nw.use rfl (hC.2.2.1.2.2.2.2.2.1 _ q1032 rfl)) g91 g92 g93 ?_
      refine lv_astore_n (lv' := [(3, .ref q9), (0, .ref p0), (1, .int p1), (2, .ref p2)]) hF.1 hF.2.1 dX0_turnsOf_14 rfl hl (by decide) rfl (fun ls hl => ?_)
      refine lv_iconst (v := 2) hF.1 hF.2.1 dX0_turnsOf_15 (by decide) ?_
      exact vx_ret (h_iret hF hr hlocks hP hS ⟨hc_6, hs_7⟩ dX0_turnsOf_16 hw)
  obtain ⟨n_8, f_9, hx_10, hi_11, hw⟩ := hw
  refine x_last hF hC hP hS hx_10 hi_11 dX0_turnsOf_7 (fun H locs hP hS => ?_)
  generalize hup X_2 p2 (.inl (1, n_8, .inr (.inl (vp_updL f_9 (Int32.toNatClampNeg 0) r_1)))) = X_12 at hP hw
  refine lv_goto (tgt := 17) hF.1 hF.2.1 dX0_turnsOf_8 (by decide) ?_
  refine lv_iconst (v := 0) hF.1 hF.2.1 dX0_turnsOf_17 (by decide) ?_
  exact vx_ret (h_iret hF hr hlocks hP hS ⟨hc_6, hs_7⟩ dX0_turnsOf_18 hw)
def wpX0_wheelOf (post : Int32 → hX → Prop) (xpost : String → Nat → hX → Prop) (E : Nat) (mc ms : Nat) (X : hX) (p0 : Nat) (p1 : Int32) (p2 : Int32) (p3 : Nat) : Prop := isO X p0 1 ((∃ mc_4 ms_5 : Nat, 0 + mc_4 ≤ mc ∧ 0 + ms_5 ≤ ms ∧ wpX1_wheelOf (fun r_1 X_2 => asJ X_2 p3 0 (Int32.toInt64 r_1) (fun X_12 => post 0 X_12)) (fun E9 q9 X9 => (E9 = "java/lang/IllegalArgumentException" ∧ post 1 X9)) E mc_4 ms_5 X p0 p1 p2))
abbrev wsX0_wheelOf : List Cond := wsW_ yX0_wheelOf cX0_wheelOf 5 (some .int) [(0, 10, 13, 19)]
set_option maxHeartbeats 8000000 in
theorem metX0_wheelOf (l : Launch) (hlt : l.stackTraces = false) (K : HK) (mc ms : Nat) (sz : Nat) (post : Int32 → hX → Prop) (xpost : String → Nat → hX → Prop) (X0 : hX) (p0 : Nat) (p1 : Int32) (p2 : Int32) (p3 : Nat) : vx_Met l yX0_wheelOf wsX0_wheelOf (rmh 8 137 mc ms) (hPc K X0 sz [.ref p0, .int p1, .int p2, .ref p3] (wpX0_wheelOf post xpost (K.2.2 0) mc ms X0 p0 p1 p2 p3)) (hQi post K X0 sz) (hXC xpost K X0 sz) mc ms (hA X0 sz) := by
  refine vx_ofWH (cc := cX0_wheelOf) (maxL := 5) (ret := (some .int)) (by decide) rfl ?_
  intro p e s m args below meth c s₁ B hml hv
  obtain ⟨rfl, hv⟩ := hv
  obtain ⟨hC, hP, hw⟩ := HC.of hv
  have hsz : s.heap.size = sz := hv.1
  subst hsz
  clear hv
  have hr := B.returns
  have hts := atoms_spec (ws := wsX0_wheelOf) B.pre
  have htab : c.exceptionTable.toList = tableOf [(0, 10, 13, 19)] := vx_table (x := yX0_wheelOf) B (hts _ List.mem_cons_self)
  have hout : ∀ pc : Nat, (tableOf [(0, 10, 13, 19)]).all (fun x => !covers x pc) = true → ∀ x ∈ c.exceptionTable.toList, covers x pc = false := fun pc h x hx => by rw [htab] at hx; have h1 := List.all_eq_true.mp h x hx; exact (Bool.not_eq_true' _).mp h1
  have hts : ∀ w ∈ lw_all, w.before _ s = true := fun w h => hts w (List.mem_cons_of_mem _ h)
  have hF : CallFix p m c cX0_wheelOf 5 s ([.ref p0, .int p1, .int p2, .ref p3] : List Value).toArray lw_all RX0 := ⟨B.exec, B.bytes, hml, findClass_of_methodNamed B.named, hts⟩
  have hlocks := B.notSynchronized
  have hl := lv_entry ([.ref p0, .int p1, .int p2, .ref p3]) (n := 5) (Nat.le_of_ble_eq_true rfl)
  rw [lg_entry_eq]
  generalize (lg_sl ([.ref p0, .int p1, .int p2, .ref p3]) ++ List.replicate (5 - (lg_sl ([.ref p0, .int p1, .int p2, .ref p3])).length) Slot.unset).toArray = ls at hl ⊢
  have hl : lv_has ls 5 [(0, .ref p0), (1, .int p1), (2, .int p2), (3, .ref p3)] := hl
  have hS : va_S (hA X0 s.heap.size) s.heap s.heap [] := va_S.rf
  unfold wpX0_wheelOf at hw
  show W p l e (rmh 8 137 mc ms) s m _ below meth c _ _ _ _ _ _
  refine lv_aload_n hF.1 hF.2.1 dX0_wheelOf_0 rfl (lv_at hl 3 rfl) ?_
  refine lv_iconst (v := 0) hF.1 hF.2.1 dX0_wheelOf_1 (by decide) ?_
  refine lv_aload_n hF.1 hF.2.1 dX0_wheelOf_2 rfl (lv_at hl 0 rfl) ?_
  refine lv_iload_n hF.1 hF.2.1 dX0_wheelOf_3 rfl (lv_at hl 1 rfl) ?_
  refine lv_iload_n hF.1 hF.2.1 dX0_wheelOf_4 rfl (lv_at hl 2 rfl) ?_
  obtain ⟨ho_3, hw⟩ := hw
  obtain ⟨mc_4, ms_5, hc_6, hs_7, hw⟩ := hw
  refine hkx_i (hrx_V (As := [.int p1, .int p2]) (rest := [.int 0, .ref p3]) (T := TX1) (N := 4) (ci := 1) hF hl.1 hC hP hS (metX1_wheelOf l hlt K mc_4 ms_5 _ _ _ X0 p0 p1 p2) rfl (cwV 2 hF.2.2.2.2 (lw_V q1224 q1225 q1226 q75 q1227) rfl rfl rfl (by decide +kernel) ⟨Nat.le_of_ble_eq_true rfl, Nat.le_of_ble_eq_true rfl⟩) ho_3 hw rfl rfl (Nat.le_of_ble_eq_true rfl) dX0_wheelOf_5 ⟨hc_6, hs_7⟩) hP hS (fun E9 q9 X9 H locs hw hcl hP hS => ?_) (fun r_1 X_2 H locs hw hP hS => ?_)
  · obtain ⟨rfl, hw⟩ := hw
    obtain ⟨ce9, g91, g92, g93⟩ := hcl
    refine vx_catch (own := RX0) (name := "java/lang/IllegalArgumentException") hF.2.2.2.1 (tableOf []) ⟨0, 10, 13, 19⟩ (tableOf []) htab (fun z hz => nomatch hz) rfl (by decide) (hF.2.2.2.2 _ q1060) (va_Nw.use rfl (hC.2.2.1.2.2.2.2.2.1 _ q503 rfl)) g91 g92 g93 ?_
    refine lv_astore (lv' := [(4, .ref q9), (0, .ref p0), (1, .int p1), (2, .int p2), (3, .ref p3)]) hF.1 hF.2.1 dX0_wheelOf_13 hl (by decide) rfl (fun ls hl => ?_)
    refine lv_iconst (v := 1) hF.1 hF.2.1 dX0_wheelOf_15 (by decide) ?_
    exact vx_ret (h_iret hF hr hlocks hP hS ⟨hc_6, hs_7⟩ dX0_wheelOf_16 hw)
  refine lv_i2l hF.1 hF.2.1 dX0_wheelOf_8 rfl ?_
  obtain ⟨n_8, f_9, hx_10, hi_11, hw⟩ := hw
  refine x_last hF hC hP hS hx_10 hi_11 dX0_wheelOf_9 (fun H locs hP hS => ?_)
  generalize hup X_2 p3 (.inl (1, n_8, .inr (.inl (vp_updL f_9 (Int32.toNatClampNeg 0) (Int32.toInt64 r_1))))) = X_12 at hP hw
  refine lv_goto (tgt := 17) hF.1 hF.2.1 dX0_wheelOf_10 (by decide) ?_
  refine lv_iconst (v := 0) hF.1 hF.2.1 dX0_wheelOf_17 (by decide) ?_
  exact vx_ret (h_iret hF hr hlocks hP hS ⟨hc_6, hs_7⟩ dX0_wheelOf_18 hw)
def wpX0_sameTeethIn (post : Int32 → hX → Prop) (xpost : String → Nat → hX → Prop) (E : Nat) (mc ms : Nat) (X : hX) (p0 : Nat) (p1 : Int32) (p2 : Nat) : Prop := isO X p0 1 ((∃ mc_4 ms_5 : Nat, 0 + mc_4 ≤ mc ∧ 0 + ms_5 ≤ ms ∧ wpX1_sameTeethIn (fun r_1 X_2 => asJ X_2 p2 0 (Int32.toInt64 r_1) (fun X_12 => post 0 X_12)) (fun E9 q9 X9 => (E9 = "java/lang/IllegalArgumentException" ∧ post 1 X9)) E mc_4 ms_5 X p0 p1))
abbrev wsX0_sameTeethIn : List Cond := wsW_ yX0_sameTeethIn cX0_sameTeethIn 4 (some .int) [(0, 9, 12, 19)]
set_option maxHeartbeats 8000000 in
theorem metX0_sameTeethIn (l : Launch) (hlt : l.stackTraces = false) (K : HK) (mc ms : Nat) (sz : Nat) (post : Int32 → hX → Prop) (xpost : String → Nat → hX → Prop) (X0 : hX) (p0 : Nat) (p1 : Int32) (p2 : Nat) : vx_Met l yX0_sameTeethIn wsX0_sameTeethIn (rmh 9 160 mc ms) (hPc K X0 sz [.ref p0, .int p1, .ref p2] (wpX0_sameTeethIn post xpost (K.2.2 0) mc ms X0 p0 p1 p2)) (hQi post K X0 sz) (hXC xpost K X0 sz) mc ms (hA X0 sz) := by
  refine vx_ofWH (cc := cX0_sameTeethIn) (maxL := 4) (ret := (some .int)) (by decide) rfl ?_
  intro p e s m args below meth c s₁ B hml hv
  obtain ⟨rfl, hv⟩ := hv
  obtain ⟨hC, hP, hw⟩ := HC.of hv
  have hsz : s.heap.size = sz := hv.1
  subst hsz
  clear hv
  have hr := B.returns
  have hts := atoms_spec (ws := wsX0_sameTeethIn) B.pre
  have htab : c.exceptionTable.toList = tableOf [(0, 9, 12, 19)] := vx_table (x := yX0_sameTeethIn) B (hts _ List.mem_cons_self)
  have hout : ∀ pc : Nat, (tableOf [(0, 9, 12, 19)]).all (fun x => !covers x pc) = true → ∀ x ∈ c.exceptionTable.toList, covers x pc = false := fun pc h x hx => by rw [htab] at hx; have h1 := List.all_eq_true.mp h x hx; exact (Bool.not_eq_true' _).mp h1
  have hts : ∀ w ∈ lw_all, w.before _ s = true := fun w h => hts w (List.mem_cons_of_mem _ h)
  have hF : CallFix p m c cX0_sameTeethIn 4 s ([.ref p0, .int p1, .ref p2] : List Value).toArray lw_all RX0 := ⟨B.exec, B.bytes, hml, findClass_of_methodNamed B.named, hts⟩
  have hlocks := B.notSynchronized
  have hl := lv_entry ([.ref p0, .int p1, .ref p2]) (n := 4) (Nat.le_of_ble_eq_true rfl)
  rw [lg_entry_eq]
  generalize (lg_sl ([.ref p0, .int p1, .ref p2]) ++ List.replicate (4 - (lg_sl ([.ref p0, .int p1, .ref p2])).length) Slot.unset).toArray = ls at hl ⊢
  have hl : lv_has ls 4 [(0, .ref p0), (1, .int p1), (2, .ref p2)] := hl
  have hS : va_S (hA X0 s.heap.size) s.heap s.heap [] := va_S.rf
  unfold wpX0_sameTeethIn at hw
  show W p l e (rmh 9 160 mc ms) s m _ below meth c _ _ _ _ _ _
  refine lv_aload_n hF.1 hF.2.1 dX0_sameTeethIn_0 rfl (lv_at hl 2 rfl) ?_
  refine lv_iconst (v := 0) hF.1 hF.2.1 dX0_sameTeethIn_1 (by decide) ?_
  refine lv_aload_n hF.1 hF.2.1 dX0_sameTeethIn_2 rfl (lv_at hl 0 rfl) ?_
  refine lv_iload_n hF.1 hF.2.1 dX0_sameTeethIn_3 rfl (lv_at hl 1 rfl) ?_
  obtain ⟨ho_3, hw⟩ := hw
  obtain ⟨mc_4, ms_5, hc_6, hs_7, hw⟩ := hw
  refine hkx_i (hrx_V (As := [.int p1]) (rest := [.int 0, .ref p2]) (T := TX1) (N := 4) (ci := 1) hF hl.1 hC hP hS (metX1_sameTeethIn l hlt K mc_4 ms_5 _ _ _ X0 p0 p1) rfl (cwV 1 hF.2.2.2.2 (lw_V q1232 q1233 q1234 q75 q1235) rfl rfl rfl (by decide +kernel) ⟨Nat.le_of_ble_eq_true rfl, Nat.le_of_ble_eq_true rfl⟩) ho_3 hw rfl rfl (Nat.le_of_ble_eq_true rfl) dX0_sameTeethIn_4 ⟨hc_6, hs_7⟩) hP hS (fun E9 q9 X9 H locs hw hcl hP hS => ?_) (fun r_1 X_2 H locs hw hP hS => ?_)
  · obtain ⟨rfl, hw⟩ := hw
    obtain ⟨ce9, g91, g92, g93⟩ := hcl
    refine vx_catch (own := RX0) (name := "java/lang/IllegalArgumentException") hF.2.2.2.1 (tableOf []) ⟨0, 9, 12, 19⟩ (tableOf []) htab (fun z hz => nomatch hz) rfl (by decide) (hF.2.2.2.2 _ q1060) (va_Nw.use rfl (hC.2.2.1.2.2.2.2.2.1 _ q503 rfl)) g91 g92 g93 ?_
    refine lv_astore_n (lv' := [(3, .ref q9), (0, .ref p0), (1, .int p1), (2, .ref p2)]) hF.1 hF.2.1 dX0_sameTeethIn_12 rfl hl (by decide) rfl (fun ls hl => ?_)
    refine lv_iconst (v := 1) hF.1 hF.2.1 dX0_sameTeethIn_13 (by decide) ?_
    exact vx_ret (h_iret hF hr hlocks hP hS ⟨hc_6, hs_7⟩ dX0_sameTeethIn_14 hw)
  refine lv_i2l hF.1 hF.2.1 dX0_sameTeethIn_7 rfl ?_
  obtain ⟨n_8, f_9, hx_10, hi_11, hw⟩ := hw
  refine x_last hF hC hP hS hx_10 hi_11 dX0_sameTeethIn_8 (fun H locs hP hS => ?_)
  generalize hup X_2 p2 (.inl (1, n_8, .inr (.inl (vp_updL f_9 (Int32.toNatClampNeg 0) (Int32.toInt64 r_1))))) = X_12 at hP hw
  refine lv_goto (tgt := 15) hF.1 hF.2.1 dX0_sameTeethIn_9 (by decide) ?_
  refine lv_iconst (v := 0) hF.1 hF.2.1 dX0_sameTeethIn_15 (by decide) ?_
  exact vx_ret (h_iret hF hr hlocks hP hS ⟨hc_6, hs_7⟩ dX0_sameTeethIn_16 hw)
def wpX0_sameTeethByGoing (post : Int32 → hX → Prop) (xpost : String → Nat → hX → Prop) (E : Nat) (mc ms : Nat) (X : hX) (p0 : Nat) (p1 : Int32) (p2 : Nat) : Prop := isO X p0 1 ((∃ mc_4 ms_5 : Nat, 0 + mc_4 ≤ mc ∧ 0 + ms_5 ≤ ms ∧ wpX1_sameTeethByGoing (fun r_1 X_2 => asJ X_2 p2 0 (Int32.toInt64 r_1) (fun X_12 => post 0 X_12)) (fun E9 q9 X9 => (E9 = "java/lang/IllegalArgumentException" ∧ post 1 X9)) E mc_4 ms_5 X p0 p1))
abbrev wsX0_sameTeethByGoing : List Cond := wsW_ yX0_sameTeethByGoing cX0_sameTeethByGoing 4 (some .int) [(0, 9, 12, 19)]
set_option maxHeartbeats 8000000 in
theorem metX0_sameTeethByGoing (l : Launch) (hlt : l.stackTraces = false) (K : HK) (mc ms : Nat) (sz : Nat) (post : Int32 → hX → Prop) (xpost : String → Nat → hX → Prop) (X0 : hX) (p0 : Nat) (p1 : Int32) (p2 : Nat) : vx_Met l yX0_sameTeethByGoing wsX0_sameTeethByGoing (rmh 9 163 mc ms) (hPc K X0 sz [.ref p0, .int p1, .ref p2] (wpX0_sameTeethByGoing post xpost (K.2.2 0) mc ms X0 p0 p1 p2)) (hQi post K X0 sz) (hXC xpost K X0 sz) mc ms (hA X0 sz) := by
  refine vx_ofWH (cc := cX0_sameTeethByGoing) (maxL := 4) (ret := (some .int)) (by decide) rfl ?_
  intro p e s m args below meth c s₁ B hml hv
  obtain ⟨rfl, hv⟩ := hv
  obtain ⟨hC, hP, hw⟩ := HC.of hv
  have hsz : s.heap.size = sz := hv.1
  subst hsz
  clear hv
  have hr := B.returns
  have hts := atoms_spec (ws := wsX0_sameTeethByGoing) B.pre
  have htab : c.exceptionTable.toList = tableOf [(0, 9, 12, 19)] := vx_table (x := yX0_sameTeethByGoing) B (hts _ List.mem_cons_self)
  have hout : ∀ pc : Nat, (tableOf [(0, 9, 12, 19)]).all (fun x => !covers x pc) = true → ∀ x ∈ c.exceptionTable.toList, covers x pc = false := fun pc h x hx => by rw [htab] at hx; have h1 := List.all_eq_true.mp h x hx; exact (Bool.not_eq_true' _).mp h1
  have hts : ∀ w ∈ lw_all, w.before _ s = true := fun w h => hts w (List.mem_cons_of_mem _ h)
  have hF : CallFix p m c cX0_sameTeethByGoing 4 s ([.ref p0, .int p1, .ref p2] : List Value).toArray lw_all RX0 := ⟨B.exec, B.bytes, hml, findClass_of_methodNamed B.named, hts⟩
  have hlocks := B.notSynchronized
  have hl := lv_entry ([.ref p0, .int p1, .ref p2]) (n := 4) (Nat.le_of_ble_eq_true rfl)
  rw [lg_entry_eq]
  generalize (lg_sl ([.ref p0, .int p1, .ref p2]) ++ List.replicate (4 - (lg_sl ([.ref p0, .int p1, .ref p2])).length) Slot.unset).toArray = ls at hl ⊢
  have hl : lv_has ls 4 [(0, .ref p0), (1, .int p1), (2, .ref p2)] := hl
  have hS : va_S (hA X0 s.heap.size) s.heap s.heap [] := va_S.rf
  unfold wpX0_sameTeethByGoing at hw
  show W p l e (rmh 9 163 mc ms) s m _ below meth c _ _ _ _ _ _
  refine lv_aload_n hF.1 hF.2.1 dX0_sameTeethByGoing_0 rfl (lv_at hl 2 rfl) ?_
  refine lv_iconst (v := 0) hF.1 hF.2.1 dX0_sameTeethByGoing_1 (by decide) ?_
  refine lv_aload_n hF.1 hF.2.1 dX0_sameTeethByGoing_2 rfl (lv_at hl 0 rfl) ?_
  refine lv_iload_n hF.1 hF.2.1 dX0_sameTeethByGoing_3 rfl (lv_at hl 1 rfl) ?_
  obtain ⟨ho_3, hw⟩ := hw
  obtain ⟨mc_4, ms_5, hc_6, hs_7, hw⟩ := hw
  refine hkx_i (hrx_V (As := [.int p1]) (rest := [.int 0, .ref p2]) (T := TX1) (N := 4) (ci := 1) hF hl.1 hC hP hS (metX1_sameTeethByGoing l hlt K mc_4 ms_5 _ _ _ X0 p0 p1) rfl (cwV 1 hF.2.2.2.2 (lw_V q1244 q1245 q1246 q75 q1247) rfl rfl rfl (by decide +kernel) ⟨Nat.le_of_ble_eq_true rfl, Nat.le_of_ble_eq_true rfl⟩) ho_3 hw rfl rfl (Nat.le_of_ble_eq_true rfl) dX0_sameTeethByGoing_4 ⟨hc_6, hs_7⟩) hP hS (fun E9 q9 X9 H locs hw hcl hP hS => ?_) (fun r_1 X_2 H locs hw hP hS => ?_)
  · obtain ⟨rfl, hw⟩ := hw
    obtain ⟨ce9, g91, g92, g93⟩ := hcl
    refine vx_catch (own := RX0) (name := "java/lang/IllegalArgumentException") hF.2.2.2.1 (tableOf []) ⟨0, 9, 12, 19⟩ (tableOf []) htab (fun z hz => nomatch hz) rfl (by decide) (hF.2.2.2.2 _ q1060) (va_Nw.use rfl (hC.2.2.1.2.2.2.2.2.1 _ q503 rfl)) g91 g92 g93 ?_
    refine lv_astore_n (lv' := [(3, .ref q9), (0, .ref p0), (1, .int p1), (2, .ref p2)]) hF.1 hF.2.1 dX0_sameTeethByGoing_12 rfl hl (by decide) rfl (fun ls hl => ?_)
    refine lv_iconst (v := 1) hF.1 hF.2.1 dX0_sameTeethByGoing_13 (by decide) ?_
    exact vx_ret (h_iret hF hr hlocks hP hS ⟨hc_6, hs_7⟩ dX0_sameTeethByGoing_14 hw)
  refine lv_i2l hF.1 hF.2.1 dX0_sameTeethByGoing_7 rfl ?_
  obtain ⟨n_8, f_9, hx_10, hi_11, hw⟩ := hw
  refine x_last hF hC hP hS hx_10 hi_11 dX0_sameTeethByGoing_8 (fun H locs hP hS => ?_)
  generalize hup X_2 p2 (.inl (1, n_8, .inr (.inl (vp_updL f_9 (Int32.toNatClampNeg 0) (Int32.toInt64 r_1))))) = X_12 at hP hw
  refine lv_goto (tgt := 15) hF.1 hF.2.1 dX0_sameTeethByGoing_9 (by decide) ?_
  refine lv_iconst (v := 0) hF.1 hF.2.1 dX0_sameTeethByGoing_15 (by decide) ?_
  exact vx_ret (h_iret hF hr hlocks hP hS ⟨hc_6, hs_7⟩ dX0_sameTeethByGoing_16 hw)
def wpX0_isEven (post : Int32 → hX → Prop) (xpost : String → Nat → hX → Prop) (E : Nat) (mc ms : Nat) (X : hX) (p0 : Nat) (p1 : Int32) (p2 : Nat) : Prop := isO X p0 1 ((∃ mc_4 ms_5 : Nat, 0 + mc_4 ≤ mc ∧ 0 + ms_5 ≤ ms ∧ wpX1_isEven (fun r_1 X_2 => ((r_1 = 0 → asJ X_2 p2 0 0 (fun X_13 => post 0 X_13)) ∧ (¬ r_1 = 0 → asJ X_2 p2 0 1 (fun X_18 => post 0 X_18)))) (fun E9 q9 X9 => (E9 = "java/lang/IllegalArgumentException" ∧ post 1 X9)) E mc_4 ms_5 X p0 p1))
abbrev wsX0_isEven : List Cond := wsW_ yX0_isEven cX0_isEven 4 (some .int) [(0, 16, 19, 19)]
set_option maxHeartbeats 8000000 in
theorem metX0_isEven (l : Launch) (hlt : l.stackTraces = false) (K : HK) (mc ms : Nat) (sz : Nat) (post : Int32 → hX → Prop) (xpost : String → Nat → hX → Prop) (X0 : hX) (p0 : Nat) (p1 : Int32) (p2 : Nat) : vx_Met l yX0_isEven wsX0_isEven (rmh 9 158 mc ms) (hPc K X0 sz [.ref p0, .int p1, .ref p2] (wpX0_isEven post xpost (K.2.2 0) mc ms X0 p0 p1 p2)) (hQi post K X0 sz) (hXC xpost K X0 sz) mc ms (hA X0 sz) := by
  refine vx_ofWH (cc := cX0_isEven) (maxL := 4) (ret := (some .int)) (by decide) rfl ?_
  intro p e s m args below meth c s₁ B hml hv
  obtain ⟨rfl, hv⟩ := hv
  obtain ⟨hC, hP, hw⟩ := HC.of hv
  have hsz : s.heap.size = sz := hv.1
  subst hsz
  clear hv
  have hr := B.returns
  have hts := atoms_spec (ws := wsX0_isEven) B.pre
  have htab : c.exceptionTable.toList = tableOf [(0, 16, 19, 19)] := vx_table (x := yX0_isEven) B (hts _ List.mem_cons_self)
  have hout : ∀ pc : Nat, (tableOf [(0, 16, 19, 19)]).all (fun x => !covers x pc) = true → ∀ x ∈ c.exceptionTable.toList, covers x pc = false := fun pc h x hx => by rw [htab] at hx; have h1 := List.all_eq_true.mp h x hx; exact (Bool.not_eq_true' _).mp h1
  have hts : ∀ w ∈ lw_all, w.before _ s = true := fun w h => hts w (List.mem_cons_of_mem _ h)
  have hF : CallFix p m c cX0_isEven 4 s ([.ref p0, .int p1, .ref p2] : List Value).toArray lw_all RX0 := ⟨B.exec, B.bytes, hml, findClass_of_methodNamed B.named, hts⟩
  have hlocks := B.notSynchronized
  have hl := lv_entry ([.ref p0, .int p1, .ref p2]) (n := 4) (Nat.le_of_ble_eq_true rfl)
  rw [lg_entry_eq]
  generalize (lg_sl ([.ref p0, .int p1, .ref p2]) ++ List.replicate (4 - (lg_sl ([.ref p0, .int p1, .ref p2])).length) Slot.unset).toArray = ls at hl ⊢
  have hl : lv_has ls 4 [(0, .ref p0), (1, .int p1), (2, .ref p2)] := hl
  have hS : va_S (hA X0 s.heap.size) s.heap s.heap [] := va_S.rf
  unfold wpX0_isEven at hw
  show W p l e (rmh 9 158 mc ms) s m _ below meth c _ _ _ _ _ _
  refine lv_aload_n hF.1 hF.2.1 dX0_isEven_0 rfl (lv_at hl 2 rfl) ?_
  refine lv_iconst (v := 0) hF.1 hF.2.1 dX0_isEven_1 (by decide) ?_
  refine lv_aload_n hF.1 hF.2.1 dX0_isEven_2 rfl (lv_at hl 0 rfl) ?_
  refine lv_iload_n hF.1 hF.2.1 dX0_isEven_3 rfl (lv_at hl 1 rfl) ?_
  obtain ⟨ho_3, hw⟩ := hw
  obtain ⟨mc_4, ms_5, hc_6, hs_7, hw⟩ := hw
  refine hkx_i (hrx_V (As := [.int p1]) (rest := [.int 0, .ref p2]) (T := TX1) (N := 4) (ci := 1) hF hl.1 hC hP hS (metX1_isEven l hlt K mc_4 ms_5 _ _ _ X0 p0 p1) rfl (cwV 1 hF.2.2.2.2 (lw_V q1251 q1252 q1253 q75 q1254) rfl rfl rfl (by decide +kernel) ⟨Nat.le_of_ble_eq_true rfl, Nat.le_of_ble_eq_true rfl⟩) ho_3 hw rfl rfl (Nat.le_of_ble_eq_true rfl) dX0_isEven_4 ⟨hc_6, hs_7⟩) hP hS (fun E9 q9 X9 H locs hw hcl hP hS => ?_) (fun r_1 X_2 H locs hw hP hS => ?_)
  · obtain ⟨rfl, hw⟩ := hw
    obtain ⟨ce9, g91, g92, g93⟩ := hcl
    refine vx_catch (own := RX0) (name := "java/lang/IllegalArgumentException") hF.2.2.2.1 (tableOf []) ⟨0, 16, 19, 19⟩ (tableOf []) htab (fun z hz => nomatch hz) rfl (by decide) (hF.2.2.2.2 _ q1060) (va_Nw.use rfl (hC.2.2.1.2.2.2.2.2.1 _ q503 rfl)) g91 g92 g93 ?_
    refine lv_astore_n (lv' := [(3, .ref q9), (0, .ref p0), (1, .int p1), (2, .ref p2)]) hF.1 hF.2.1 dX0_isEven_19 rfl hl (by decide) rfl (fun ls hl => ?_)
    refine lv_iconst (v := 1) hF.1 hF.2.1 dX0_isEven_20 (by decide) ?_
    exact vx_ret (h_iret hF hr hlocks hP hS ⟨hc_6, hs_7⟩ dX0_isEven_21 hw)
  refine lv_if_eq (tgt := 14) hF.1 hF.2.1 dX0_isEven_7 (by decide) (fun c_8 => ?_) (fun c_8 => ?_)
  · have hw := hw.1 c_8
    refine lv_lconst (v := 0) hF.1 hF.2.1 dX0_isEven_14 (by decide) ?_
    obtain ⟨n_9, f_10, hx_11, hi_12, hw⟩ := hw
    refine x_last hF hC hP hS hx_11 hi_12 dX0_isEven_15 (fun H locs hP hS => ?_)
    generalize hup X_2 p2 (.inl (1, n_9, .inr (.inl (vp_updL f_10 (Int32.toNatClampNeg 0) 0)))) = X_13 at hP hw
    refine lv_goto (tgt := 22) hF.1 hF.2.1 dX0_isEven_16 (by decide) ?_
    refine lv_iconst (v := 0) hF.1 hF.2.1 dX0_isEven_22 (by decide) ?_
    exact vx_ret (h_iret hF hr hlocks hP hS ⟨hc_6, hs_7⟩ dX0_isEven_23 hw)
  · have hw := hw.2 c_8
    refine lv_lconst (v := 1) hF.1 hF.2.1 dX0_isEven_10 (by decide) ?_
    refine lv_goto (tgt := 15) hF.1 hF.2.1 dX0_isEven_11 (by decide) ?_
    obtain ⟨n_14, f_15, hx_16, hi_17, hw⟩ := hw
    refine x_last hF hC hP hS hx_16 hi_17 dX0_isEven_15 (fun H locs hP hS => ?_)
    generalize hup X_2 p2 (.inl (1, n_14, .inr (.inl (vp_updL f_15 (Int32.toNatClampNeg 0) 1)))) = X_18 at hP hw
    refine lv_goto (tgt := 22) hF.1 hF.2.1 dX0_isEven_16 (by decide) ?_
    refine lv_iconst (v := 0) hF.1 hF.2.1 dX0_isEven_22 (by decide) ?_
    exact vx_ret (h_iret hF hr hlocks hP hS ⟨hc_6, hs_7⟩ dX0_isEven_23 hw)
def wpX0_teethGone (post : Int32 → hX → Prop) (xpost : String → Nat → hX → Prop) (E : Nat) (mc ms : Nat) (X : hX) (p0 : Nat) (p1 : Int32) (p2 : Nat) : Prop := isO X p0 1 ((∃ mc_4 ms_5 : Nat, 0 + mc_4 ≤ mc ∧ 0 + ms_5 ≤ ms ∧ wpX1_teethGone (fun r_1 X_2 => asJ X_2 p2 0 r_1 (fun X_12 => post 0 X_12)) (fun E9 q9 X9 => (E9 = "java/lang/IllegalArgumentException" ∧ post 1 X9) ∨ (E9 = "java/util/NoSuchElementException" ∧ post 2 X9)) E mc_4 ms_5 X p0 p1))
abbrev wsX0_teethGone : List Cond := wsW_ yX0_teethGone cX0_teethGone 4 (some .int) [(0, 8, 11, 19), (0, 8, 14, 65)]
set_option maxHeartbeats 8000000 in
theorem metX0_teethGone (l : Launch) (hlt : l.stackTraces = false) (K : HK) (mc ms : Nat) (sz : Nat) (post : Int32 → hX → Prop) (xpost : String → Nat → hX → Prop) (X0 : hX) (p0 : Nat) (p1 : Int32) (p2 : Nat) : vx_Met l yX0_teethGone wsX0_teethGone (rmh 9 168 mc ms) (hPc K X0 sz [.ref p0, .int p1, .ref p2] (wpX0_teethGone post xpost (K.2.2 0) mc ms X0 p0 p1 p2)) (hQi post K X0 sz) (hXC xpost K X0 sz) mc ms (hA X0 sz) := by
  refine vx_ofWH (cc := cX0_teethGone) (maxL := 4) (ret := (some .int)) (by decide) rfl ?_
  intro p e s m args below meth c s₁ B hml hv
  obtain ⟨rfl, hv⟩ := hv
  obtain ⟨hC, hP, hw⟩ := HC.of hv
  have hsz : s.heap.size = sz := hv.1
  subst hsz
  clear hv
  have hr := B.returns
  have hts := atoms_spec (ws := wsX0_teethGone) B.pre
  have htab : c.exceptionTable.toList = tableOf [(0, 8, 11, 19), (0, 8, 14, 65)] := vx_table (x := yX0_teethGone) B (hts _ List.mem_cons_self)
  have hout : ∀ pc : Nat, (tableOf [(0, 8, 11, 19), (0, 8, 14, 65)]).all (fun x => !covers x pc) = true → ∀ x ∈ c.exceptionTable.toList, covers x pc = false := fun pc h x hx => by rw [htab] at hx; have h1 := List.all_eq_true.mp h x hx; exact (Bool.not_eq_true' _).mp h1
  have hts : ∀ w ∈ lw_all, w.before _ s = true := fun w h => hts w (List.mem_cons_of_mem _ h)
  have hF : CallFix p m c cX0_teethGone 4 s ([.ref p0, .int p1, .ref p2] : List Value).toArray lw_all RX0 := ⟨B.exec, B.bytes, hml, findClass_of_methodNamed B.named, hts⟩
  have hlocks := B.notSynchronized
  have hl := lv_entry ([.ref p0, .int p1, .ref p2]) (n := 4) (Nat.le_of_ble_eq_true rfl)
  rw [lg_entry_eq]
  generalize (lg_sl ([.ref p0, .int p1, .ref p2]) ++ List.replicate (4 - (lg_sl ([.ref p0, .int p1, .ref p2])).length) Slot.unset).toArray = ls at hl ⊢
  have hl : lv_has ls 4 [(0, .ref p0), (1, .int p1), (2, .ref p2)] := hl
  have hS : va_S (hA X0 s.heap.size) s.heap s.heap [] := va_S.rf
  unfold wpX0_teethGone at hw
  show W p l e (rmh 9 168 mc ms) s m _ below meth c _ _ _ _ _ _
  refine lv_aload_n hF.1 hF.2.1 dX0_teethGone_0 rfl (lv_at hl 2 rfl) ?_
  refine lv_iconst (v := 0) hF.1 hF.2.1 dX0_teethGone_1 (by decide) ?_
  refine lv_aload_n hF.1 hF.2.1 dX0_teethGone_2 rfl (lv_at hl 0 rfl) ?_
  refine lv_iload_n hF.1 hF.2.1 dX0_teethGone_3 rfl (lv_at hl 1 rfl) ?_
  obtain ⟨ho_3, hw⟩ := hw
  obtain ⟨mc_4, ms_5, hc_6, hs_7, hw⟩ := hw
  refine hkx_l (hrx_V (As := [.int p1]) (rest := [.int 0, .ref p2]) (T := TX1) (N := 4) (ci := 1) hF hl.1 hC hP hS (metX1_teethGone l hlt K mc_4 ms_5 _ _ _ X0 p0 p1) rfl (cwV 1 hF.2.2.2.2 (lw_V q1258 q1259 q1260 q75 q1261) rfl rfl rfl (by decide +kernel) ⟨Nat.le_of_ble_eq_true rfl, Nat.le_of_ble_eq_true rfl⟩) ho_3 hw rfl rfl (Nat.le_of_ble_eq_true rfl) dX0_teethGone_4 ⟨hc_6, hs_7⟩) hP hS (fun E9 q9 X9 H locs hw hcl hP hS => ?_) (fun r_1 X_2 H locs hw hP hS => ?_)
  · rcases hw with ⟨rfl, hw⟩ | ⟨rfl, hw⟩
    · obtain ⟨ce9, g91, g92, g93⟩ := hcl
      refine vx_catch (own := RX0) (name := "java/lang/IllegalArgumentException") hF.2.2.2.1 (tableOf []) ⟨0, 8, 11, 19⟩ (tableOf [(0, 8, 14, 65)]) htab (fun z hz => nomatch hz) rfl (by decide) (hF.2.2.2.2 _ q1060) (va_Nw.use rfl (hC.2.2.1.2.2.2.2.2.1 _ q503 rfl)) g91 g92 g93 ?_
      refine lv_astore_n (lv' := [(3, .ref q9), (0, .ref p0), (1, .int p1), (2, .ref p2)]) hF.1 hF.2.1 dX0_teethGone_11 rfl hl (by decide) rfl (fun ls hl => ?_)
      refine lv_iconst (v := 1) hF.1 hF.2.1 dX0_teethGone_12 (by decide) ?_
      exact vx_ret (h_iret hF hr hlocks hP hS ⟨hc_6, hs_7⟩ dX0_teethGone_13 hw)
    · obtain ⟨ce9, g91, g92, g93⟩ := hcl
      refine vx_catch (own := RX0) (name := "java/util/NoSuchElementException") hF.2.2.2.1 (tableOf [(0, 8, 11, 19)]) ⟨0, 8, 14, 65⟩ (tableOf []) htab (List.forall_mem_cons.mpr ⟨Or.inr ⟨by decide, _, hF.2.2.2.2 _ q1060, hC.2.2.1.2.2.2.2.2.2.1 ("java/util/NoSuchElementException", "java/lang/IllegalArgumentException") (by decide)⟩, fun _ hz => nomatch hz⟩) rfl (by decide) (hF.2.2.2.2 _ q1171) (va_Nw.use rfl (hC.2.2.1.2.2.2.2.2.1 _ q1032 rfl)) g91 g92 g93 ?_
      refine lv_astore_n (lv' := [(3, .ref q9), (0, .ref p0), (1, .int p1), (2, .ref p2)]) hF.1 hF.2.1 dX0_teethGone_14 rfl hl (by decide) rfl (fun ls hl => ?_)
      refine lv_iconst (v := 2) hF.1 hF.2.1 dX0_teethGone_15 (by decide) ?_
      exact vx_ret (h_iret hF hr hlocks hP hS ⟨hc_6, hs_7⟩ dX0_teethGone_16 hw)
  obtain ⟨n_8, f_9, hx_10, hi_11, hw⟩ := hw
  refine x_last hF hC hP hS hx_10 hi_11 dX0_teethGone_7 (fun H locs hP hS => ?_)
  generalize hup X_2 p2 (.inl (1, n_8, .inr (.inl (vp_updL f_9 (Int32.toNatClampNeg 0) r_1)))) = X_12 at hP hw
  refine lv_goto (tgt := 17) hF.1 hF.2.1 dX0_teethGone_8 (by decide) ?_
  refine lv_iconst (v := 0) hF.1 hF.2.1 dX0_teethGone_17 (by decide) ?_
  exact vx_ret (h_iret hF hr hlocks hP hS ⟨hc_6, hs_7⟩ dX0_teethGone_18 hw)
def wpX0_bendOf (post : Int32 → hX → Prop) (xpost : String → Nat → hX → Prop) (E : Nat) (mc ms : Nat) (X : hX) (p0 : Nat) (p1 : Int32) (p2 : Nat) : Prop := isO X p0 1 ((∃ mc_4 ms_5 : Nat, 0 + mc_4 ≤ mc ∧ 0 + ms_5 ≤ ms ∧ wpX1_bendOf (fun r_1 X_2 => asJ X_2 p2 0 (Int32.toInt64 r_1) (fun X_12 => post 0 X_12)) (fun E9 q9 X9 => (E9 = "java/lang/IllegalArgumentException" ∧ post 1 X9)) E mc_4 ms_5 X p0 p1))
abbrev wsX0_bendOf : List Cond := wsW_ yX0_bendOf cX0_bendOf 4 (some .int) [(0, 9, 12, 19)]
set_option maxHeartbeats 8000000 in
theorem metX0_bendOf (l : Launch) (hlt : l.stackTraces = false) (K : HK) (mc ms : Nat) (sz : Nat) (post : Int32 → hX → Prop) (xpost : String → Nat → hX → Prop) (X0 : hX) (p0 : Nat) (p1 : Int32) (p2 : Nat) : vx_Met l yX0_bendOf wsX0_bendOf (rmh 9 157 mc ms) (hPc K X0 sz [.ref p0, .int p1, .ref p2] (wpX0_bendOf post xpost (K.2.2 0) mc ms X0 p0 p1 p2)) (hQi post K X0 sz) (hXC xpost K X0 sz) mc ms (hA X0 sz) := by
  refine vx_ofWH (cc := cX0_bendOf) (maxL := 4) (ret := (some .int)) (by decide) rfl ?_
  intro p e s m args below meth c s₁ B hml hv
  obtain ⟨rfl, hv⟩ := hv
  obtain ⟨hC, hP, hw⟩ := HC.of hv
  have hsz : s.heap.size = sz := hv.1
  subst hsz
  clear hv
  have hr := B.returns
  have hts := atoms_spec (ws := wsX0_bendOf) B.pre
  have htab : c.exceptionTable.toList = tableOf [(0, 9, 12, 19)] := vx_table (x := yX0_bendOf) B (hts _ List.mem_cons_self)
  have hout : ∀ pc : Nat, (tableOf [(0, 9, 12, 19)]).all (fun x => !covers x pc) = true → ∀ x ∈ c.exceptionTable.toList, covers x pc = false := fun pc h x hx => by rw [htab] at hx; have h1 := List.all_eq_true.mp h x hx; exact (Bool.not_eq_true' _).mp h1
  have hts : ∀ w ∈ lw_all, w.before _ s = true := fun w h => hts w (List.mem_cons_of_mem _ h)
  have hF : CallFix p m c cX0_bendOf 4 s ([.ref p0, .int p1, .ref p2] : List Value).toArray lw_all RX0 := ⟨B.exec, B.bytes, hml, findClass_of_methodNamed B.named, hts⟩
  have hlocks := B.notSynchronized
  have hl := lv_entry ([.ref p0, .int p1, .ref p2]) (n := 4) (Nat.le_of_ble_eq_true rfl)
  rw [lg_entry_eq]
  generalize (lg_sl ([.ref p0, .int p1, .ref p2]) ++ List.replicate (4 - (lg_sl ([.ref p0, .int p1, .ref p2])).length) Slot.unset).toArray = ls at hl ⊢
  have hl : lv_has ls 4 [(0, .ref p0), (1, .int p1), (2, .ref p2)] := hl
  have hS : va_S (hA X0 s.heap.size) s.heap s.heap [] := va_S.rf
  unfold wpX0_bendOf at hw
  show W p l e (rmh 9 157 mc ms) s m _ below meth c _ _ _ _ _ _
  refine lv_aload_n hF.1 hF.2.1 dX0_bendOf_0 rfl (lv_at hl 2 rfl) ?_
  refine lv_iconst (v := 0) hF.1 hF.2.1 dX0_bendOf_1 (by decide) ?_
  refine lv_aload_n hF.1 hF.2.1 dX0_bendOf_2 rfl (lv_at hl 0 rfl) ?_
  refine lv_iload_n hF.1 hF.2.1 dX0_bendOf_3 rfl (lv_at hl 1 rfl) ?_
  obtain ⟨ho_3, hw⟩ := hw
  obtain ⟨mc_4, ms_5, hc_6, hs_7, hw⟩ := hw
  refine hkx_i (hrx_V (As := [.int p1]) (rest := [.int 0, .ref p2]) (T := TX1) (N := 4) (ci := 1) hF hl.1 hC hP hS (metX1_bendOf l hlt K mc_4 ms_5 _ _ _ X0 p0 p1) rfl (cwV 1 hF.2.2.2.2 (lw_V q1265 q1266 q1267 q75 q1268) rfl rfl rfl (by decide +kernel) ⟨Nat.le_of_ble_eq_true rfl, Nat.le_of_ble_eq_true rfl⟩) ho_3 hw rfl rfl (Nat.le_of_ble_eq_true rfl) dX0_bendOf_4 ⟨hc_6, hs_7⟩) hP hS (fun E9 q9 X9 H locs hw hcl hP hS => ?_) (fun r_1 X_2 H locs hw hP hS => ?_)
  · obtain ⟨rfl, hw⟩ := hw
    obtain ⟨ce9, g91, g92, g93⟩ := hcl
    refine vx_catch (own := RX0) (name := "java/lang/IllegalArgumentException") hF.2.2.2.1 (tableOf []) ⟨0, 9, 12, 19⟩ (tableOf []) htab (fun z hz => nomatch hz) rfl (by decide) (hF.2.2.2.2 _ q1060) (va_Nw.use rfl (hC.2.2.1.2.2.2.2.2.1 _ q503 rfl)) g91 g92 g93 ?_
    refine lv_astore_n (lv' := [(3, .ref q9), (0, .ref p0), (1, .int p1), (2, .ref p2)]) hF.1 hF.2.1 dX0_bendOf_12 rfl hl (by decide) rfl (fun ls hl => ?_)
    refine lv_iconst (v := 1) hF.1 hF.2.1 dX0_bendOf_13 (by decide) ?_
    exact vx_ret (h_iret hF hr hlocks hP hS ⟨hc_6, hs_7⟩ dX0_bendOf_14 hw)
  refine lv_i2l hF.1 hF.2.1 dX0_bendOf_7 rfl ?_
  obtain ⟨n_8, f_9, hx_10, hi_11, hw⟩ := hw
  refine x_last hF hC hP hS hx_10 hi_11 dX0_bendOf_8 (fun H locs hP hS => ?_)
  generalize hup X_2 p2 (.inl (1, n_8, .inr (.inl (vp_updL f_9 (Int32.toNatClampNeg 0) (Int32.toInt64 r_1))))) = X_12 at hP hw
  refine lv_goto (tgt := 15) hF.1 hF.2.1 dX0_bendOf_9 (by decide) ?_
  refine lv_iconst (v := 0) hF.1 hF.2.1 dX0_bendOf_15 (by decide) ?_
  exact vx_ret (h_iret hF hr hlocks hP hS ⟨hc_6, hs_7⟩ dX0_bendOf_16 hw)
def wpX0_angleOf (post : Int32 → hX → Prop) (xpost : String → Nat → hX → Prop) (E : Nat) (mc ms : Nat) (X : hX) (p0 : Nat) (p1 : Int32) (p2 : Nat) : Prop := isO X p0 1 ((∃ mc_4 ms_5 : Nat, 0 + mc_4 ≤ mc ∧ 0 + ms_5 ≤ ms ∧ wpX1_angleOf (fun r_1 X_2 => asJ X_2 p2 0 (Int32.toInt64 r_1) (fun X_12 => post 0 X_12)) (fun E9 q9 X9 => (E9 = "java/lang/IllegalArgumentException" ∧ post 1 X9) ∨ (E9 = "java/util/NoSuchElementException" ∧ post 2 X9)) E mc_4 ms_5 X p0 p1))
abbrev wsX0_angleOf : List Cond := wsW_ yX0_angleOf cX0_angleOf 4 (some .int) [(0, 9, 12, 19), (0, 9, 15, 65)]
set_option maxHeartbeats 8000000 in
theorem metX0_angleOf (l : Launch) (hlt : l.stackTraces = false) (K : HK) (mc ms : Nat) (sz : Nat) (post : Int32 → hX → Prop) (xpost : String → Nat → hX → Prop) (X0 : hX) (p0 : Nat) (p1 : Int32) (p2 : Nat) : vx_Met l yX0_angleOf wsX0_angleOf (rmh 9 166 mc ms) (hPc K X0 sz [.ref p0, .int p1, .ref p2] (wpX0_angleOf post xpost (K.2.2 0) mc ms X0 p0 p1 p2)) (hQi post K X0 sz) (hXC xpost K X0 sz) mc ms (hA X0 sz) := by
  refine vx_ofWH (cc := cX0_angleOf) (maxL := 4) (ret := (some .int)) (by decide) rfl ?_
  intro p e s m args below meth c s₁ B hml hv
  obtain ⟨rfl, hv⟩ := hv
  obtain ⟨hC, hP, hw⟩ := HC.of hv
  have hsz : s.heap.size = sz := hv.1
  subst hsz
  clear hv
  have hr := B.returns
  have hts := atoms_spec (ws := wsX0_angleOf) B.pre
  have htab : c.exceptionTable.toList = tableOf [(0, 9, 12, 19), (0, 9, 15, 65)] := vx_table (x := yX0_angleOf) B (hts _ List.mem_cons_self)
  have hout : ∀ pc : Nat, (tableOf [(0, 9, 12, 19), (0, 9, 15, 65)]).all (fun x => !covers x pc) = true → ∀ x ∈ c.exceptionTable.toList, covers x pc = false := fun pc h x hx => by rw [htab] at hx; have h1 := List.all_eq_true.mp h x hx; exact (Bool.not_eq_true' _).mp h1
  have hts : ∀ w ∈ lw_all, w.before _ s = true := fun w h => hts w (List.mem_cons_of_mem _ h)
  have hF : CallFix p m c cX0_angleOf 4 s ([.ref p0, .int p1, .ref p2] : List Value).toArray lw_all RX0 := ⟨B.exec, B.bytes, hml, findClass_of_methodNamed B.named, hts⟩
  have hlocks := B.notSynchronized
  have hl := lv_entry ([.ref p0, .int p1, .ref p2]) (n := 4) (Nat.le_of_ble_eq_true rfl)
  rw [lg_entry_eq]
  generalize (lg_sl ([.ref p0, .int p1, .ref p2]) ++ List.replicate (4 - (lg_sl ([.ref p0, .int p1, .ref p2])).length) Slot.unset).toArray = ls at hl ⊢
  have hl : lv_has ls 4 [(0, .ref p0), (1, .int p1), (2, .ref p2)] := hl
  have hS : va_S (hA X0 s.heap.size) s.heap s.heap [] := va_S.rf
  unfold wpX0_angleOf at hw
  show W p l e (rmh 9 166 mc ms) s m _ below meth c _ _ _ _ _ _
  refine lv_aload_n hF.1 hF.2.1 dX0_angleOf_0 rfl (lv_at hl 2 rfl) ?_
  refine lv_iconst (v := 0) hF.1 hF.2.1 dX0_angleOf_1 (by decide) ?_
  refine lv_aload_n hF.1 hF.2.1 dX0_angleOf_2 rfl (lv_at hl 0 rfl) ?_
  refine lv_iload_n hF.1 hF.2.1 dX0_angleOf_3 rfl (lv_at hl 1 rfl) ?_
  obtain ⟨ho_3, hw⟩ := hw
  obtain ⟨mc_4, ms_5, hc_6, hs_7, hw⟩ := hw
  refine hkx_i (hrx_V (As := [.int p1]) (rest := [.int 0, .ref p2]) (T := TX1) (N := 4) (ci := 1) hF hl.1 hC hP hS (metX1_angleOf l hlt K mc_4 ms_5 _ _ _ X0 p0 p1) rfl (cwV 1 hF.2.2.2.2 (lw_V q1278 q1279 q1280 q75 q1281) rfl rfl rfl (by decide +kernel) ⟨Nat.le_of_ble_eq_true rfl, Nat.le_of_ble_eq_true rfl⟩) ho_3 hw rfl rfl (Nat.le_of_ble_eq_true rfl) dX0_angleOf_4 ⟨hc_6, hs_7⟩) hP hS (fun E9 q9 X9 H locs hw hcl hP hS => ?_) (fun r_1 X_2 H locs hw hP hS => ?_)
  · rcases hw with ⟨rfl, hw⟩ | ⟨rfl, hw⟩
    · obtain ⟨ce9, g91, g92, g93⟩ := hcl
      refine vx_catch (own := RX0) (name := "java/lang/IllegalArgumentException") hF.2.2.2.1 (tableOf []) ⟨0, 9, 12, 19⟩ (tableOf [(0, 9, 15, 65)]) htab (fun z hz => nomatch hz) rfl (by decide) (hF.2.2.2.2 _ q1060) (va_Nw.use rfl (hC.2.2.1.2.2.2.2.2.1 _ q503 rfl)) g91 g92 g93 ?_
      refine lv_astore_n (lv' := [(3, .ref q9), (0, .ref p0), (1, .int p1), (2, .ref p2)]) hF.1 hF.2.1 dX0_angleOf_12 rfl hl (by decide) rfl (fun ls hl => ?_)
      refine lv_iconst (v := 1) hF.1 hF.2.1 dX0_angleOf_13 (by decide) ?_
      exact vx_ret (h_iret hF hr hlocks hP hS ⟨hc_6, hs_7⟩ dX0_angleOf_14 hw)
    · obtain ⟨ce9, g91, g92, g93⟩ := hcl
      refine vx_catch (own := RX0) (name := "java/util/NoSuchElementException") hF.2.2.2.1 (tableOf [(0, 9, 12, 19)]) ⟨0, 9, 15, 65⟩ (tableOf []) htab (List.forall_mem_cons.mpr ⟨Or.inr ⟨by decide, _, hF.2.2.2.2 _ q1060, hC.2.2.1.2.2.2.2.2.2.1 ("java/util/NoSuchElementException", "java/lang/IllegalArgumentException") (by decide)⟩, fun _ hz => nomatch hz⟩) rfl (by decide) (hF.2.2.2.2 _ q1171) (va_Nw.use rfl (hC.2.2.1.2.2.2.2.2.1 _ q1032 rfl)) g91 g92 g93 ?_
      refine lv_astore_n (lv' := [(3, .ref q9), (0, .ref p0), (1, .int p1), (2, .ref p2)]) hF.1 hF.2.1 dX0_angleOf_15 rfl hl (by decide) rfl (fun ls hl => ?_)
      refine lv_iconst (v := 2) hF.1 hF.2.1 dX0_angleOf_16 (by decide) ?_
      exact vx_ret (h_iret hF hr hlocks hP hS ⟨hc_6, hs_7⟩ dX0_angleOf_17 hw)
  refine lv_i2l hF.1 hF.2.1 dX0_angleOf_7 rfl ?_
  obtain ⟨n_8, f_9, hx_10, hi_11, hw⟩ := hw
  refine x_last hF hC hP hS hx_10 hi_11 dX0_angleOf_8 (fun H locs hP hS => ?_)
  generalize hup X_2 p2 (.inl (1, n_8, .inr (.inl (vp_updL f_9 (Int32.toNatClampNeg 0) (Int32.toInt64 r_1))))) = X_12 at hP hw
  refine lv_goto (tgt := 18) hF.1 hF.2.1 dX0_angleOf_9 (by decide) ?_
  refine lv_iconst (v := 0) hF.1 hF.2.1 dX0_angleOf_18 (by decide) ?_
  exact vx_ret (h_iret hF hr hlocks hP hS ⟨hc_6, hs_7⟩ dX0_angleOf_19 hw)
def wpX0_angleByTeeth (post : Int32 → hX → Prop) (xpost : String → Nat → hX → Prop) (E : Nat) (mc ms : Nat) (X : hX) (p0 : Nat) (p1 : Int32) (p2 : Nat) : Prop := isO X p0 1 ((∃ mc_4 ms_5 : Nat, 0 + mc_4 ≤ mc ∧ 0 + ms_5 ≤ ms ∧ wpX1_angleByTeeth (fun r_1 X_2 => asJ X_2 p2 0 (Int32.toInt64 r_1) (fun X_12 => post 0 X_12)) (fun E9 q9 X9 => (E9 = "java/lang/IllegalArgumentException" ∧ post 1 X9) ∨ (E9 = "java/util/NoSuchElementException" ∧ post 2 X9)) E mc_4 ms_5 X p0 p1))
abbrev wsX0_angleByTeeth : List Cond := wsW_ yX0_angleByTeeth cX0_angleByTeeth 4 (some .int) [(0, 9, 12, 19), (0, 9, 15, 65)]
set_option maxHeartbeats 8000000 in
theorem metX0_angleByTeeth (l : Launch) (hlt : l.stackTraces = false) (K : HK) (mc ms : Nat) (sz : Nat) (post : Int32 → hX → Prop) (xpost : String → Nat → hX → Prop) (X0 : hX) (p0 : Nat) (p1 : Int32) (p2 : Nat) : vx_Met l yX0_angleByTeeth wsX0_angleByTeeth (rmh 9 166 mc ms) (hPc K X0 sz [.ref p0, .int p1, .ref p2] (wpX0_angleByTeeth post xpost (K.2.2 0) mc ms X0 p0 p1 p2)) (hQi post K X0 sz) (hXC xpost K X0 sz) mc ms (hA X0 sz) := by
  refine vx_ofWH (cc := cX0_angleByTeeth) (maxL := 4) (ret := (some .int)) (by decide) rfl ?_
  intro p e s m args below meth c s₁ B hml hv
  obtain ⟨rfl, hv⟩ := hv
  obtain ⟨hC, hP, hw⟩ := HC.of hv
  have hsz : s.heap.size = sz := hv.1
  subst hsz
  clear hv
  have hr := B.returns
  have hts := atoms_spec (ws := wsX0_angleByTeeth) B.pre
  have htab : c.exceptionTable.toList = tableOf [(0, 9, 12, 19), (0, 9, 15, 65)] := vx_table (x := yX0_angleByTeeth) B (hts _ List.mem_cons_self)
  have hout : ∀ pc : Nat, (tableOf [(0, 9, 12, 19), (0, 9, 15, 65)]).all (fun x => !covers x pc) = true → ∀ x ∈ c.exceptionTable.toList, covers x pc = false := fun pc h x hx => by rw [htab] at hx; have h1 := List.all_eq_true.mp h x hx; exact (Bool.not_eq_true' _).mp h1
  have hts : ∀ w ∈ lw_all, w.before _ s = true := fun w h => hts w (List.mem_cons_of_mem _ h)
  have hF : CallFix p m c cX0_angleByTeeth 4 s ([.ref p0, .int p1, .ref p2] : List Value).toArray lw_all RX0 := ⟨B.exec, B.bytes, hml, findClass_of_methodNamed B.named, hts⟩
  have hlocks := B.notSynchronized
  have hl := lv_entry ([.ref p0, .int p1, .ref p2]) (n := 4) (Nat.le_of_ble_eq_true rfl)
  rw [lg_entry_eq]
  generalize (lg_sl ([.ref p0, .int p1, .ref p2]) ++ List.replicate (4 - (lg_sl ([.ref p0, .int p1, .ref p2])).length) Slot.unset).toArray = ls at hl ⊢
  have hl : lv_has ls 4 [(0, .ref p0), (1, .int p1), (2, .ref p2)] := hl
  have hS : va_S (hA X0 s.heap.size) s.heap s.heap [] := va_S.rf
  unfold wpX0_angleByTeeth at hw
  show W p l e (rmh 9 166 mc ms) s m _ below meth c _ _ _ _ _ _
  refine lv_aload_n hF.1 hF.2.1 dX0_angleByTeeth_0 rfl (lv_at hl 2 rfl) ?_
  refine lv_iconst (v := 0) hF.1 hF.2.1 dX0_angleByTeeth_1 (by decide) ?_
  refine lv_aload_n hF.1 hF.2.1 dX0_angleByTeeth_2 rfl (lv_at hl 0 rfl) ?_
  refine lv_iload_n hF.1 hF.2.1 dX0_angleByTeeth_3 rfl (lv_at hl 1 rfl) ?_
  obtain ⟨ho_3, hw⟩ := hw
  obtain ⟨mc_4, ms_5, hc_6, hs_7, hw⟩ := hw
  refine hkx_i (hrx_V (As := [.int p1]) (rest := [.int 0, .ref p2]) (T := TX1) (N := 4) (ci := 1) hF hl.1 hC hP hS (metX1_angleByTeeth l hlt K mc_4 ms_5 _ _ _ X0 p0 p1) rfl (cwV 1 hF.2.2.2.2 (lw_V q1300 q1301 q1302 q75 q1303) rfl rfl rfl (by decide +kernel) ⟨Nat.le_of_ble_eq_true rfl, Nat.le_of_ble_eq_true rfl⟩) ho_3 hw rfl rfl (Nat.le_of_ble_eq_true rfl) dX0_angleByTeeth_4 ⟨hc_6, hs_7⟩) hP hS (fun E9 q9 X9 H locs hw hcl hP hS => ?_) (fun r_1 X_2 H locs hw hP hS => ?_)
  · rcases hw with ⟨rfl, hw⟩ | ⟨rfl, hw⟩
    · obtain ⟨ce9, g91, g92, g93⟩ := hcl
      refine vx_catch (own := RX0) (name := "java/lang/IllegalArgumentException") hF.2.2.2.1 (tableOf []) ⟨0, 9, 12, 19⟩ (tableOf [(0, 9, 15, 65)]) htab (fun z hz => nomatch hz) rfl (by decide) (hF.2.2.2.2 _ q1060) (va_Nw.use rfl (hC.2.2.1.2.2.2.2.2.1 _ q503 rfl)) g91 g92 g93 ?_
      refine lv_astore_n (lv' := [(3, .ref q9), (0, .ref p0), (1, .int p1), (2, .ref p2)]) hF.1 hF.2.1 dX0_angleByTeeth_12 rfl hl (by decide) rfl (fun ls hl => ?_)
      refine lv_iconst (v := 1) hF.1 hF.2.1 dX0_angleByTeeth_13 (by decide) ?_
      exact vx_ret (h_iret hF hr hlocks hP hS ⟨hc_6, hs_7⟩ dX0_angleByTeeth_14 hw)
    · obtain ⟨ce9, g91, g92, g93⟩ := hcl
      refine vx_catch (own := RX0) (name := "java/util/NoSuchElementException") hF.2.2.2.1 (tableOf [(0, 9, 12, 19)]) ⟨0, 9, 15, 65⟩ (tableOf []) htab (List.forall_mem_cons.mpr ⟨Or.inr ⟨by decide, _, hF.2.2.2.2 _ q1060, hC.2.2.1.2.2.2.2.2.2.1 ("java/util/NoSuchElementException", "java/lang/IllegalArgumentException") (by decide)⟩, fun _ hz => nomatch hz⟩) rfl (by decide) (hF.2.2.2.2 _ q1171) (va_Nw.use rfl (hC.2.2.1.2.2.2.2.2.1 _ q1032 rfl)) g91 g92 g93 ?_
      refine lv_astore_n (lv' := [(3, .ref q9), (0, .ref p0), (1, .int p1), (2, .ref p2)]) hF.1 hF.2.1 dX0_angleByTeeth_15 rfl hl (by decide) rfl (fun ls hl => ?_)
      refine lv_iconst (v := 2) hF.1 hF.2.1 dX0_angleByTeeth_16 (by decide) ?_
      exact vx_ret (h_iret hF hr hlocks hP hS ⟨hc_6, hs_7⟩ dX0_angleByTeeth_17 hw)
  refine lv_i2l hF.1 hF.2.1 dX0_angleByTeeth_7 rfl ?_
  obtain ⟨n_8, f_9, hx_10, hi_11, hw⟩ := hw
  refine x_last hF hC hP hS hx_10 hi_11 dX0_angleByTeeth_8 (fun H locs hP hS => ?_)
  generalize hup X_2 p2 (.inl (1, n_8, .inr (.inl (vp_updL f_9 (Int32.toNatClampNeg 0) (Int32.toInt64 r_1))))) = X_12 at hP hw
  refine lv_goto (tgt := 18) hF.1 hF.2.1 dX0_angleByTeeth_9 (by decide) ?_
  refine lv_iconst (v := 0) hF.1 hF.2.1 dX0_angleByTeeth_18 (by decide) ?_
  exact vx_ret (h_iret hF hr hlocks hP hS ⟨hc_6, hs_7⟩ dX0_angleByTeeth_19 hw)
def wpX0_moonAngle (post : Int32 → hX → Prop) (xpost : String → Nat → hX → Prop) (E : Nat) (mc ms : Nat) (X : hX) (p0 : Nat) (p1 : Int32) (p2 : Nat) : Prop := isO X p0 1 ((∃ mc_4 ms_5 : Nat, 0 + mc_4 ≤ mc ∧ 0 + ms_5 ≤ ms ∧ wpX1_moonAngle (fun r_1 X_2 => asJ X_2 p2 0 (Int32.toInt64 r_1) (fun X_12 => post 0 X_12)) (fun E9 q9 X9 => (E9 = "java/lang/IllegalArgumentException" ∧ post 1 X9) ∨ (E9 = "java/util/NoSuchElementException" ∧ post 2 X9)) E mc_4 ms_5 X p0 p1))
abbrev wsX0_moonAngle : List Cond := wsW_ yX0_moonAngle cX0_moonAngle 4 (some .int) [(0, 9, 12, 19), (0, 9, 15, 65)]
set_option maxHeartbeats 8000000 in
theorem metX0_moonAngle (l : Launch) (hlt : l.stackTraces = false) (K : HK) (mc ms : Nat) (sz : Nat) (post : Int32 → hX → Prop) (xpost : String → Nat → hX → Prop) (X0 : hX) (p0 : Nat) (p1 : Int32) (p2 : Nat) : vx_Met l yX0_moonAngle wsX0_moonAngle (rmh 9 167 mc ms) (hPc K X0 sz [.ref p0, .int p1, .ref p2] (wpX0_moonAngle post xpost (K.2.2 0) mc ms X0 p0 p1 p2)) (hQi post K X0 sz) (hXC xpost K X0 sz) mc ms (hA X0 sz) := by
  refine vx_ofWH (cc := cX0_moonAngle) (maxL := 4) (ret := (some .int)) (by decide) rfl ?_
  intro p e s m args below meth c s₁ B hml hv
  obtain ⟨rfl, hv⟩ := hv
  obtain ⟨hC, hP, hw⟩ := HC.of hv
  have hsz : s.heap.size = sz := hv.1
  subst hsz
  clear hv
  have hr := B.returns
  have hts := atoms_spec (ws := wsX0_moonAngle) B.pre
  have htab : c.exceptionTable.toList = tableOf [(0, 9, 12, 19), (0, 9, 15, 65)] := vx_table (x := yX0_moonAngle) B (hts _ List.mem_cons_self)
  have hout : ∀ pc : Nat, (tableOf [(0, 9, 12, 19), (0, 9, 15, 65)]).all (fun x => !covers x pc) = true → ∀ x ∈ c.exceptionTable.toList, covers x pc = false := fun pc h x hx => by rw [htab] at hx; have h1 := List.all_eq_true.mp h x hx; exact (Bool.not_eq_true' _).mp h1
  have hts : ∀ w ∈ lw_all, w.before _ s = true := fun w h => hts w (List.mem_cons_of_mem _ h)
  have hF : CallFix p m c cX0_moonAngle 4 s ([.ref p0, .int p1, .ref p2] : List Value).toArray lw_all RX0 := ⟨B.exec, B.bytes, hml, findClass_of_methodNamed B.named, hts⟩
  have hlocks := B.notSynchronized
  have hl := lv_entry ([.ref p0, .int p1, .ref p2]) (n := 4) (Nat.le_of_ble_eq_true rfl)
  rw [lg_entry_eq]
  generalize (lg_sl ([.ref p0, .int p1, .ref p2]) ++ List.replicate (4 - (lg_sl ([.ref p0, .int p1, .ref p2])).length) Slot.unset).toArray = ls at hl ⊢
  have hl : lv_has ls 4 [(0, .ref p0), (1, .int p1), (2, .ref p2)] := hl
  have hS : va_S (hA X0 s.heap.size) s.heap s.heap [] := va_S.rf
  unfold wpX0_moonAngle at hw
  show W p l e (rmh 9 167 mc ms) s m _ below meth c _ _ _ _ _ _
  refine lv_aload_n hF.1 hF.2.1 dX0_moonAngle_0 rfl (lv_at hl 2 rfl) ?_
  refine lv_iconst (v := 0) hF.1 hF.2.1 dX0_moonAngle_1 (by decide) ?_
  refine lv_aload_n hF.1 hF.2.1 dX0_moonAngle_2 rfl (lv_at hl 0 rfl) ?_
  refine lv_iload_n hF.1 hF.2.1 dX0_moonAngle_3 rfl (lv_at hl 1 rfl) ?_
  obtain ⟨ho_3, hw⟩ := hw
  obtain ⟨mc_4, ms_5, hc_6, hs_7, hw⟩ := hw
  refine hkx_i (hrx_V (As := [.int p1]) (rest := [.int 0, .ref p2]) (T := TX1) (N := 4) (ci := 1) hF hl.1 hC hP hS (metX1_moonAngle l hlt K mc_4 ms_5 _ _ _ X0 p0 p1) rfl (cwV 1 hF.2.2.2.2 (lw_V q1311 q1312 q1313 q75 q1314) rfl rfl rfl (by decide +kernel) ⟨Nat.le_of_ble_eq_true rfl, Nat.le_of_ble_eq_true rfl⟩) ho_3 hw rfl rfl (Nat.le_of_ble_eq_true rfl) dX0_moonAngle_4 ⟨hc_6, hs_7⟩) hP hS (fun E9 q9 X9 H locs hw hcl hP hS => ?_) (fun r_1 X_2 H locs hw hP hS => ?_)
  · rcases hw with ⟨rfl, hw⟩ | ⟨rfl, hw⟩
    · obtain ⟨ce9, g91, g92, g93⟩ := hcl
      refine vx_catch (own := RX0) (name := "java/lang/IllegalArgumentException") hF.2.2.2.1 (tableOf []) ⟨0, 9, 12, 19⟩ (tableOf [(0, 9, 15, 65)]) htab (fun z hz => nomatch hz) rfl (by decide) (hF.2.2.2.2 _ q1060) (va_Nw.use rfl (hC.2.2.1.2.2.2.2.2.1 _ q503 rfl)) g91 g92 g93 ?_
      refine lv_astore_n (lv' := [(3, .ref q9), (0, .ref p0), (1, .int p1), (2, .ref p2)]) hF.1 hF.2.1 dX0_moonAngle_12 rfl hl (by decide) rfl (fun ls hl => ?_)
      refine lv_iconst (v := 1) hF.1 hF.2.1 dX0_moonAngle_13 (by decide) ?_
      exact vx_ret (h_iret hF hr hlocks hP hS ⟨hc_6, hs_7⟩ dX0_moonAngle_14 hw)
    · obtain ⟨ce9, g91, g92, g93⟩ := hcl
      refine vx_catch (own := RX0) (name := "java/util/NoSuchElementException") hF.2.2.2.1 (tableOf [(0, 9, 12, 19)]) ⟨0, 9, 15, 65⟩ (tableOf []) htab (List.forall_mem_cons.mpr ⟨Or.inr ⟨by decide, _, hF.2.2.2.2 _ q1060, hC.2.2.1.2.2.2.2.2.2.1 ("java/util/NoSuchElementException", "java/lang/IllegalArgumentException") (by decide)⟩, fun _ hz => nomatch hz⟩) rfl (by decide) (hF.2.2.2.2 _ q1171) (va_Nw.use rfl (hC.2.2.1.2.2.2.2.2.1 _ q1032 rfl)) g91 g92 g93 ?_
      refine lv_astore_n (lv' := [(3, .ref q9), (0, .ref p0), (1, .int p1), (2, .ref p2)]) hF.1 hF.2.1 dX0_moonAngle_15 rfl hl (by decide) rfl (fun ls hl => ?_)
      refine lv_iconst (v := 2) hF.1 hF.2.1 dX0_moonAngle_16 (by decide) ?_
      exact vx_ret (h_iret hF hr hlocks hP hS ⟨hc_6, hs_7⟩ dX0_moonAngle_17 hw)
  refine lv_i2l hF.1 hF.2.1 dX0_moonAngle_7 rfl ?_
  obtain ⟨n_8, f_9, hx_10, hi_11, hw⟩ := hw
  refine x_last hF hC hP hS hx_10 hi_11 dX0_moonAngle_8 (fun H locs hP hS => ?_)
  generalize hup X_2 p2 (.inl (1, n_8, .inr (.inl (vp_updL f_9 (Int32.toNatClampNeg 0) (Int32.toInt64 r_1))))) = X_12 at hP hw
  refine lv_goto (tgt := 18) hF.1 hF.2.1 dX0_moonAngle_9 (by decide) ?_
  refine lv_iconst (v := 0) hF.1 hF.2.1 dX0_moonAngle_18 (by decide) ?_
  exact vx_ret (h_iret hF hr hlocks hP hS ⟨hc_6, hs_7⟩ dX0_moonAngle_19 hw)
def wpX0_isSlow (post : Int32 → hX → Prop) (xpost : String → Nat → hX → Prop) (E : Nat) (mc ms : Nat) (X : hX) (p0 : Nat) (p1 : Int32) (p2 : Nat) : Prop := isO X p0 1 ((∃ mc_4 ms_5 : Nat, 0 + mc_4 ≤ mc ∧ 0 + ms_5 ≤ ms ∧ wpX1_isSlow (fun r_1 X_2 => ((r_1 = 0 → asJ X_2 p2 0 0 (fun X_13 => post 0 X_13)) ∧ (¬ r_1 = 0 → asJ X_2 p2 0 1 (fun X_18 => post 0 X_18)))) (fun E9 q9 X9 => (E9 = "java/lang/IllegalArgumentException" ∧ post 1 X9) ∨ (E9 = "java/util/NoSuchElementException" ∧ post 2 X9)) E mc_4 ms_5 X p0 p1))
abbrev wsX0_isSlow : List Cond := wsW_ yX0_isSlow cX0_isSlow 4 (some .int) [(0, 16, 19, 19), (0, 16, 22, 65)]
set_option maxHeartbeats 8000000 in
theorem metX0_isSlow (l : Launch) (hlt : l.stackTraces = false) (K : HK) (mc ms : Nat) (sz : Nat) (post : Int32 → hX → Prop) (xpost : String → Nat → hX → Prop) (X0 : hX) (p0 : Nat) (p1 : Int32) (p2 : Nat) : vx_Met l yX0_isSlow wsX0_isSlow (rmh 9 167 mc ms) (hPc K X0 sz [.ref p0, .int p1, .ref p2] (wpX0_isSlow post xpost (K.2.2 0) mc ms X0 p0 p1 p2)) (hQi post K X0 sz) (hXC xpost K X0 sz) mc ms (hA X0 sz) := by
  refine vx_ofWH (cc := cX0_isSlow) (maxL := 4) (ret := (some .int)) (by decide) rfl ?_
  intro p e s m args below meth c s₁ B hml hv
  obtain ⟨rfl, hv⟩ := hv
  obtain ⟨hC, hP, hw⟩ := HC.of hv
  have hsz : s.heap.size = sz := hv.1
  subst hsz
  clear hv
  have hr := B.returns
  have hts := atoms_spec (ws := wsX0_isSlow) B.pre
  have htab : c.exceptionTable.toList = tableOf [(0, 16, 19, 19), (0, 16, 22, 65)] := vx_table (x := yX0_isSlow) B (hts _ List.mem_cons_self)
  have hout : ∀ pc : Nat, (tableOf [(0, 16, 19, 19), (0, 16, 22, 65)]).all (fun x => !covers x pc) = true → ∀ x ∈ c.exceptionTable.toList, covers x pc = false := fun pc h x hx => by rw [htab] at hx; have h1 := List.all_eq_true.mp h x hx; exact (Bool.not_eq_true' _).mp h1
  have hts : ∀ w ∈ lw_all, w.before _ s = true := fun w h => hts w (List.mem_cons_of_mem _ h)
  have hF : CallFix p m c cX0_isSlow 4 s ([.ref p0, .int p1, .ref p2] : List Value).toArray lw_all RX0 := ⟨B.exec, B.bytes, hml, findClass_of_methodNamed B.named, hts⟩
  have hlocks := B.notSynchronized
  have hl := lv_entry ([.ref p0, .int p1, .ref p2]) (n := 4) (Nat.le_of_ble_eq_true rfl)
  rw [lg_entry_eq]
  generalize (lg_sl ([.ref p0, .int p1, .ref p2]) ++ List.replicate (4 - (lg_sl ([.ref p0, .int p1, .ref p2])).length) Slot.unset).toArray = ls at hl ⊢
  have hl : lv_has ls 4 [(0, .ref p0), (1, .int p1), (2, .ref p2)] := hl
  have hS : va_S (hA X0 s.heap.size) s.heap s.heap [] := va_S.rf
  unfold wpX0_isSlow at hw
  show W p l e (rmh 9 167 mc ms) s m _ below meth c _ _ _ _ _ _
  refine lv_aload_n hF.1 hF.2.1 dX0_isSlow_0 rfl (lv_at hl 2 rfl) ?_
  refine lv_iconst (v := 0) hF.1 hF.2.1 dX0_isSlow_1 (by decide) ?_
  refine lv_aload_n hF.1 hF.2.1 dX0_isSlow_2 rfl (lv_at hl 0 rfl) ?_
  refine lv_iload_n hF.1 hF.2.1 dX0_isSlow_3 rfl (lv_at hl 1 rfl) ?_
  obtain ⟨ho_3, hw⟩ := hw
  obtain ⟨mc_4, ms_5, hc_6, hs_7, hw⟩ := hw
  refine hkx_i (hrx_V (As := [.int p1]) (rest := [.int 0, .ref p2]) (T := TX1) (N := 4) (ci := 1) hF hl.1 hC hP hS (metX1_isSlow l hlt K mc_4 ms_5 _ _ _ X0 p0 p1) rfl (cwV 1 hF.2.2.2.2 (lw_V q1327 q1328 q1329 q75 q1330) rfl rfl rfl (by decide +kernel) ⟨Nat.le_of_ble_eq_true rfl, Nat.le_of_ble_eq_true rfl⟩) ho_3 hw rfl rfl (Nat.le_of_ble_eq_true rfl) dX0_isSlow_4 ⟨hc_6, hs_7⟩) hP hS (fun E9 q9 X9 H locs hw hcl hP hS => ?_) (fun r_1 X_2 H locs hw hP hS => ?_)
  · rcases hw with ⟨rfl, hw⟩ | ⟨rfl, hw⟩
    · obtain ⟨ce9, g91, g92, g93⟩ := hcl
      refine vx_catch (own := RX0) (name := "java/lang/IllegalArgumentException") hF.2.2.2.1 (tableOf []) ⟨0, 16, 19, 19⟩ (tableOf [(0, 16, 22, 65)]) htab (fun z hz => nomatch hz) rfl (by decide) (hF.2.2.2.2 _ q1060) (va_Nw.use rfl (hC.2.2.1.2.2.2.2.2.1 _ q503 rfl)) g91 g92 g93 ?_
      refine lv_astore_n (lv' := [(3, .ref q9), (0, .ref p0), (1, .int p1), (2, .ref p2)]) hF.1 hF.2.1 dX0_isSlow_19 rfl hl (by decide) rfl (fun ls hl => ?_)
      refine lv_iconst (v := 1) hF.1 hF.2.1 dX0_isSlow_20 (by decide) ?_
      exact vx_ret (h_iret hF hr hlocks hP hS ⟨hc_6, hs_7⟩ dX0_isSlow_21 hw)
    · obtain ⟨ce9, g91, g92, g93⟩ := hcl
      refine vx_catch (own := RX0) (name := "java/util/NoSuchElementException") hF.2.2.2.1 (tableOf [(0, 16, 19, 19)]) ⟨0, 16, 22, 65⟩ (tableOf []) htab (List.forall_mem_cons.mpr ⟨Or.inr ⟨by decide, _, hF.2.2.2.2 _ q1060, hC.2.2.1.2.2.2.2.2.2.1 ("java/util/NoSuchElementException", "java/lang/IllegalArgumentException") (by decide)⟩, fun _ hz => nomatch hz⟩) rfl (by decide) (hF.2.2.2.2 _ q1171) (va_Nw.use rfl (hC.2.2.1.2.2.2.2.2.1 _ q1032 rfl)) g91 g92 g93 ?_
      refine lv_astore_n (lv' := [(3, .ref q9), (0, .ref p0), (1, .int p1), (2, .ref p2)]) hF.1 hF.2.1 dX0_isSlow_22 rfl hl (by decide) rfl (fun ls hl => ?_)
      refine lv_iconst (v := 2) hF.1 hF.2.1 dX0_isSlow_23 (by decide) ?_
      exact vx_ret (h_iret hF hr hlocks hP hS ⟨hc_6, hs_7⟩ dX0_isSlow_24 hw)
  refine lv_if_eq (tgt := 14) hF.1 hF.2.1 dX0_isSlow_7 (by decide) (fun c_8 => ?_) (fun c_8 => ?_)
  · have hw := hw.1 c_8
    refine lv_lconst (v := 0) hF.1 hF.2.1 dX0_isSlow_14 (by decide) ?_
    obtain ⟨n_9, f_10, hx_11, hi_12, hw⟩ := hw
    refine x_last hF hC hP hS hx_11 hi_12 dX0_isSlow_15 (fun H locs hP hS => ?_)
    generalize hup X_2 p2 (.inl (1, n_9, .inr (.inl (vp_updL f_10 (Int32.toNatClampNeg 0) 0)))) = X_13 at hP hw
    refine lv_goto (tgt := 25) hF.1 hF.2.1 dX0_isSlow_16 (by decide) ?_
    refine lv_iconst (v := 0) hF.1 hF.2.1 dX0_isSlow_25 (by decide) ?_
    exact vx_ret (h_iret hF hr hlocks hP hS ⟨hc_6, hs_7⟩ dX0_isSlow_26 hw)
  · have hw := hw.2 c_8
    refine lv_lconst (v := 1) hF.1 hF.2.1 dX0_isSlow_10 (by decide) ?_
    refine lv_goto (tgt := 15) hF.1 hF.2.1 dX0_isSlow_11 (by decide) ?_
    obtain ⟨n_14, f_15, hx_16, hi_17, hw⟩ := hw
    refine x_last hF hC hP hS hx_16 hi_17 dX0_isSlow_15 (fun H locs hP hS => ?_)
    generalize hup X_2 p2 (.inl (1, n_14, .inr (.inl (vp_updL f_15 (Int32.toNatClampNeg 0) 1)))) = X_18 at hP hw
    refine lv_goto (tgt := 25) hF.1 hF.2.1 dX0_isSlow_16 (by decide) ?_
    refine lv_iconst (v := 0) hF.1 hF.2.1 dX0_isSlow_25 (by decide) ?_
    exact vx_ret (h_iret hF hr hlocks hP hS ⟨hc_6, hs_7⟩ dX0_isSlow_26 hw)
def wpX0_meetIn (post : Int32 → hX → Prop) (xpost : String → Nat → hX → Prop) (E : Nat) (mc ms : Nat) (X : hX) (p0 : Nat) (p1 : Int32) (p2 : Int32) (p3 : Int32) (p4 : Nat) : Prop := isO X p0 1 ((∃ mc_4 ms_5 : Nat, 0 + mc_4 ≤ mc ∧ 0 + ms_5 ≤ ms ∧ wpX1_meetIn (fun r_1 X_2 => asJ X_2 p4 0 (Int32.toInt64 r_1) (fun X_12 => post 0 X_12)) (fun E9 q9 X9 => (E9 = "java/lang/IllegalArgumentException" ∧ post 1 X9) ∨ (E9 = "java/util/NoSuchElementException" ∧ post 2 X9)) E mc_4 ms_5 X p0 p1 p2 p3))
abbrev wsX0_meetIn : List Cond := wsW_ yX0_meetIn cX0_meetIn 6 (some .int) [(0, 12, 15, 19), (0, 12, 19, 65)]
set_option maxHeartbeats 8000000 in
theorem metX0_meetIn (l : Launch) (hlt : l.stackTraces = false) (K : HK) (mc ms : Nat) (sz : Nat) (post : Int32 → hX → Prop) (xpost : String → Nat → hX → Prop) (X0 : hX) (p0 : Nat) (p1 : Int32) (p2 : Int32) (p3 : Int32) (p4 : Nat) : vx_Met l yX0_meetIn wsX0_meetIn (rmh 9 172 mc ms) (hPc K X0 sz [.ref p0, .int p1, .int p2, .int p3, .ref p4] (wpX0_meetIn post xpost (K.2.2 0) mc ms X0 p0 p1 p2 p3 p4)) (hQi post K X0 sz) (hXC xpost K X0 sz) mc ms (hA X0 sz) := by
  refine vx_ofWH (cc := cX0_meetIn) (maxL := 6) (ret := (some .int)) (by decide) rfl ?_
  intro p e s m args below meth c s₁ B hml hv
  obtain ⟨rfl, hv⟩ := hv
  obtain ⟨hC, hP, hw⟩ := HC.of hv
  have hsz : s.heap.size = sz := hv.1
  subst hsz
  clear hv
  have hr := B.returns
  have hts := atoms_spec (ws := wsX0_meetIn) B.pre
  have htab : c.exceptionTable.toList = tableOf [(0, 12, 15, 19), (0, 12, 19, 65)] := vx_table (x := yX0_meetIn) B (hts _ List.mem_cons_self)
  have hout : ∀ pc : Nat, (tableOf [(0, 12, 15, 19), (0, 12, 19, 65)]).all (fun x => !covers x pc) = true → ∀ x ∈ c.exceptionTable.toList, covers x pc = false := fun pc h x hx => by rw [htab] at hx; have h1 := List.all_eq_true.mp h x hx; exact (Bool.not_eq_true' _).mp h1
  have hts : ∀ w ∈ lw_all, w.before _ s = true := fun w h => hts w (List.mem_cons_of_mem _ h)
  have hF : CallFix p m c cX0_meetIn 6 s ([.ref p0, .int p1, .int p2, .int p3, .ref p4] : List Value).toArray lw_all RX0 := ⟨B.exec, B.bytes, hml, findClass_of_methodNamed B.named, hts⟩
  have hlocks := B.notSynchronized
  have hl := lv_entry ([.ref p0, .int p1, .int p2, .int p3, .ref p4]) (n := 6) (Nat.le_of_ble_eq_true rfl)
  rw [lg_entry_eq]
  generalize (lg_sl ([.ref p0, .int p1, .int p2, .int p3, .ref p4]) ++ List.replicate (6 - (lg_sl ([.ref p0, .int p1, .int p2, .int p3, .ref p4])).length) Slot.unset).toArray = ls at hl ⊢
  have hl : lv_has ls 6 [(0, .ref p0), (1, .int p1), (2, .int p2), (3, .int p3), (4, .ref p4)] := hl
  have hS : va_S (hA X0 s.heap.size) s.heap s.heap [] := va_S.rf
  unfold wpX0_meetIn at hw
  show W p l e (rmh 9 172 mc ms) s m _ below meth c _ _ _ _ _ _
  refine lv_aload hF.1 hF.2.1 dX0_meetIn_0 (lv_at hl 4 rfl) ?_
  refine lv_iconst (v := 0) hF.1 hF.2.1 dX0_meetIn_2 (by decide) ?_
  refine lv_aload_n hF.1 hF.2.1 dX0_meetIn_3 rfl (lv_at hl 0 rfl) ?_
  refine lv_iload_n hF.1 hF.2.1 dX0_meetIn_4 rfl (lv_at hl 1 rfl) ?_
  refine lv_iload_n hF.1 hF.2.1 dX0_meetIn_5 rfl (lv_at hl 2 rfl) ?_
  refine lv_iload_n hF.1 hF.2.1 dX0_meetIn_6 rfl (lv_at hl 3 rfl) ?_
  obtain ⟨ho_3, hw⟩ := hw
  obtain ⟨mc_4, ms_5, hc_6, hs_7, hw⟩ := hw
  refine hkx_i (hrx_V (As := [.int p1, .int p2, .int p3]) (rest := [.int 0, .ref p4]) (T := TX1) (N := 4) (ci := 1) hF hl.1 hC hP hS (metX1_meetIn l hlt K mc_4 ms_5 _ _ _ X0 p0 p1 p2 p3) rfl (cwV 3 hF.2.2.2.2 (lw_V q1339 q1340 q1341 q75 q1342) rfl rfl rfl (by decide +kernel) ⟨Nat.le_of_ble_eq_true rfl, Nat.le_of_ble_eq_true rfl⟩) ho_3 hw rfl rfl (Nat.le_of_ble_eq_true rfl) dX0_meetIn_7 ⟨hc_6, hs_7⟩) hP hS (fun E9 q9 X9 H locs hw hcl hP hS => ?_) (fun r_1 X_2 H locs hw hP hS => ?_)
  · rcases hw with ⟨rfl, hw⟩ | ⟨rfl, hw⟩
    · obtain ⟨ce9, g91, g92, g93⟩ := hcl
      refine vx_catch (own := RX0) (name := "java/lang/IllegalArgumentException") hF.2.2.2.1 (tableOf []) ⟨0, 12, 15, 19⟩ (tableOf [(0, 12, 19, 65)]) htab (fun z hz => nomatch hz) rfl (by decide) (hF.2.2.2.2 _ q1060) (va_Nw.use rfl (hC.2.2.1.2.2.2.2.2.1 _ q503 rfl)) g91 g92 g93 ?_
      refine lv_astore (lv' := [(5, .ref q9), (0, .ref p0), (1, .int p1), (2, .int p2), (3, .int p3), (4, .ref p4)]) hF.1 hF.2.1 dX0_meetIn_15 hl (by decide) rfl (fun ls hl => ?_)
      refine lv_iconst (v := 1) hF.1 hF.2.1 dX0_meetIn_17 (by decide) ?_
      exact vx_ret (h_iret hF hr hlocks hP hS ⟨hc_6, hs_7⟩ dX0_meetIn_18 hw)
    · obtain ⟨ce9, g91, g92, g93⟩ := hcl
      refine vx_catch (own := RX0) (name := "java/util/NoSuchElementException") hF.2.2.2.1 (tableOf [(0, 12, 15, 19)]) ⟨0, 12, 19, 65⟩ (tableOf []) htab (List.forall_mem_cons.mpr ⟨Or.inr ⟨by decide, _, hF.2.2.2.2 _ q1060, hC.2.2.1.2.2.2.2.2.2.1 ("java/util/NoSuchElementException", "java/lang/IllegalArgumentException") (by decide)⟩, fun _ hz => nomatch hz⟩) rfl (by decide) (hF.2.2.2.2 _ q1171) (va_Nw.use rfl (hC.2.2.1.2.2.2.2.2.1 _ q1032 rfl)) g91 g92 g93 ?_
      refine lv_astore (lv' := [(5, .ref q9), (0, .ref p0), (1, .int p1), (2, .int p2), (3, .int p3), (4, .ref p4)]) hF.1 hF.2.1 dX0_meetIn_19 hl (by decide) rfl (fun ls hl => ?_)
      refine lv_iconst (v := 2) hF.1 hF.2.1 dX0_meetIn_21 (by decide) ?_
      exact vx_ret (h_iret hF hr hlocks hP hS ⟨hc_6, hs_7⟩ dX0_meetIn_22 hw)
  refine lv_i2l hF.1 hF.2.1 dX0_meetIn_10 rfl ?_
  obtain ⟨n_8, f_9, hx_10, hi_11, hw⟩ := hw
  refine x_last hF hC hP hS hx_10 hi_11 dX0_meetIn_11 (fun H locs hP hS => ?_)
  generalize hup X_2 p4 (.inl (1, n_8, .inr (.inl (vp_updL f_9 (Int32.toNatClampNeg 0) (Int32.toInt64 r_1))))) = X_12 at hP hw
  refine lv_goto (tgt := 23) hF.1 hF.2.1 dX0_meetIn_12 (by decide) ?_
  refine lv_iconst (v := 0) hF.1 hF.2.1 dX0_meetIn_23 (by decide) ?_
  exact vx_ret (h_iret hF hr hlocks hP hS ⟨hc_6, hs_7⟩ dX0_meetIn_24 hw)
def wpX0_meetings (post : Int32 → hX → Prop) (xpost : String → Nat → hX → Prop) (E : Nat) (mc ms : Nat) (X : hX) (p0 : Nat) (p1 : Int32) (p2 : Int32) (p3 : Int32) (p4 : Nat) : Prop := isO X p0 1 ((∃ mc_4 ms_5 : Nat, 0 + mc_4 ≤ mc ∧ 0 + ms_5 ≤ ms ∧ wpX1_meetings (fun r_1 X_2 => asJ X_2 p4 0 (Int32.toInt64 r_1) (fun X_12 => post 0 X_12)) (fun E9 q9 X9 => (E9 = "java/lang/IllegalArgumentException" ∧ post 1 X9) ∨ (E9 = "java/util/NoSuchElementException" ∧ post 2 X9)) E mc_4 ms_5 X p0 p1 p2 p3))
abbrev wsX0_meetings : List Cond := wsW_ yX0_meetings cX0_meetings 6 (some .int) [(0, 12, 15, 19), (0, 12, 19, 65)]
set_option maxHeartbeats 8000000 in
theorem metX0_meetings (l : Launch) (hlt : l.stackTraces = false) (K : HK) (mc ms : Nat) (sz : Nat) (post : Int32 → hX → Prop) (xpost : String → Nat → hX → Prop) (X0 : hX) (p0 : Nat) (p1 : Int32) (p2 : Int32) (p3 : Int32) (p4 : Nat) : vx_Met l yX0_meetings wsX0_meetings (rmh 9 172 mc ms) (hPc K X0 sz [.ref p0, .int p1, .int p2, .int p3, .ref p4] (wpX0_meetings post xpost (K.2.2 0) mc ms X0 p0 p1 p2 p3 p4)) (hQi post K X0 sz) (hXC xpost K X0 sz) mc ms (hA X0 sz) := by
  refine vx_ofWH (cc := cX0_meetings) (maxL := 6) (ret := (some .int)) (by decide) rfl ?_
  intro p e s m args below meth c s₁ B hml hv
  obtain ⟨rfl, hv⟩ := hv
  obtain ⟨hC, hP, hw⟩ := HC.of hv
  have hsz : s.heap.size = sz := hv.1
  subst hsz
  clear hv
  have hr := B.returns
  have hts := atoms_spec (ws := wsX0_meetings) B.pre
  have htab : c.exceptionTable.toList = tableOf [(0, 12, 15, 19), (0, 12, 19, 65)] := vx_table (x := yX0_meetings) B (hts _ List.mem_cons_self)
  have hout : ∀ pc : Nat, (tableOf [(0, 12, 15, 19), (0, 12, 19, 65)]).all (fun x => !covers x pc) = true → ∀ x ∈ c.exceptionTable.toList, covers x pc = false := fun pc h x hx => by rw [htab] at hx; have h1 := List.all_eq_true.mp h x hx; exact (Bool.not_eq_true' _).mp h1
  have hts : ∀ w ∈ lw_all, w.before _ s = true := fun w h => hts w (List.mem_cons_of_mem _ h)
  have hF : CallFix p m c cX0_meetings 6 s ([.ref p0, .int p1, .int p2, .int p3, .ref p4] : List Value).toArray lw_all RX0 := ⟨B.exec, B.bytes, hml, findClass_of_methodNamed B.named, hts⟩
  have hlocks := B.notSynchronized
  have hl := lv_entry ([.ref p0, .int p1, .int p2, .int p3, .ref p4]) (n := 6) (Nat.le_of_ble_eq_true rfl)
  rw [lg_entry_eq]
  generalize (lg_sl ([.ref p0, .int p1, .int p2, .int p3, .ref p4]) ++ List.replicate (6 - (lg_sl ([.ref p0, .int p1, .int p2, .int p3, .ref p4])).length) Slot.unset).toArray = ls at hl ⊢
  have hl : lv_has ls 6 [(0, .ref p0), (1, .int p1), (2, .int p2), (3, .int p3), (4, .ref p4)] := hl
  have hS : va_S (hA X0 s.heap.size) s.heap s.heap [] := va_S.rf
  unfold wpX0_meetings at hw
  show W p l e (rmh 9 172 mc ms) s m _ below meth c _ _ _ _ _ _
  refine lv_aload hF.1 hF.2.1 dX0_meetings_0 (lv_at hl 4 rfl) ?_
  refine lv_iconst (v := 0) hF.1 hF.2.1 dX0_meetings_2 (by decide) ?_
  refine lv_aload_n hF.1 hF.2.1 dX0_meetings_3 rfl (lv_at hl 0 rfl) ?_
  refine lv_iload_n hF.1 hF.2.1 dX0_meetings_4 rfl (lv_at hl 1 rfl) ?_
  refine lv_iload_n hF.1 hF.2.1 dX0_meetings_5 rfl (lv_at hl 2 rfl) ?_
  refine lv_iload_n hF.1 hF.2.1 dX0_meetings_6 rfl (lv_at hl 3 rfl) ?_
  obtain ⟨ho_3, hw⟩ := hw
  obtain ⟨mc_4, ms_5, hc_6, hs_7, hw⟩ := hw
  refine hkx_i (hrx_V (As := [.int p1, .int p2, .int p3]) (rest := [.int 0, .ref p4]) (T := TX1) (N := 4) (ci := 1) hF hl.1 hC hP hS (metX1_meetings l hlt K mc_4 ms_5 _ _ _ X0 p0 p1 p2 p3) rfl (cwV 3 hF.2.2.2.2 (lw_V q1362 q1363 q1364 q75 q1365) rfl rfl rfl (by decide +kernel) ⟨Nat.le_of_ble_eq_true rfl, Nat.le_of_ble_eq_true rfl⟩) ho_3 hw rfl rfl (Nat.le_of_ble_eq_true rfl) dX0_meetings_7 ⟨hc_6, hs_7⟩) hP hS (fun E9 q9 X9 H locs hw hcl hP hS => ?_) (fun r_1 X_2 H locs hw hP hS => ?_)
  · rcases hw with ⟨rfl, hw⟩ | ⟨rfl, hw⟩
    · obtain ⟨ce9, g91, g92, g93⟩ := hcl
      refine vx_catch (own := RX0) (name := "java/lang/IllegalArgumentException") hF.2.2.2.1 (tableOf []) ⟨0, 12, 15, 19⟩ (tableOf [(0, 12, 19, 65)]) htab (fun z hz => nomatch hz) rfl (by decide) (hF.2.2.2.2 _ q1060) (va_Nw.use rfl (hC.2.2.1.2.2.2.2.2.1 _ q503 rfl)) g91 g92 g93 ?_
      refine lv_astore (lv' := [(5, .ref q9), (0, .ref p0), (1, .int p1), (2, .int p2), (3, .int p3), (4, .ref p4)]) hF.1 hF.2.1 dX0_meetings_15 hl (by decide) rfl (fun ls hl => ?_)
      refine lv_iconst (v := 1) hF.1 hF.2.1 dX0_meetings_17 (by decide) ?_
      exact vx_ret (h_iret hF hr hlocks hP hS ⟨hc_6, hs_7⟩ dX0_meetings_18 hw)
    · obtain ⟨ce9, g91, g92, g93⟩ := hcl
      refine vx_catch (own := RX0) (name := "java/util/NoSuchElementException") hF.2.2.2.1 (tableOf [(0, 12, 15, 19)]) ⟨0, 12, 19, 65⟩ (tableOf []) htab (List.forall_mem_cons.mpr ⟨Or.inr ⟨by decide, _, hF.2.2.2.2 _ q1060, hC.2.2.1.2.2.2.2.2.2.1 ("java/util/NoSuchElementException", "java/lang/IllegalArgumentException") (by decide)⟩, fun _ hz => nomatch hz⟩) rfl (by decide) (hF.2.2.2.2 _ q1171) (va_Nw.use rfl (hC.2.2.1.2.2.2.2.2.1 _ q1032 rfl)) g91 g92 g93 ?_
      refine lv_astore (lv' := [(5, .ref q9), (0, .ref p0), (1, .int p1), (2, .int p2), (3, .int p3), (4, .ref p4)]) hF.1 hF.2.1 dX0_meetings_19 hl (by decide) rfl (fun ls hl => ?_)
      refine lv_iconst (v := 2) hF.1 hF.2.1 dX0_meetings_21 (by decide) ?_
      exact vx_ret (h_iret hF hr hlocks hP hS ⟨hc_6, hs_7⟩ dX0_meetings_22 hw)
  refine lv_i2l hF.1 hF.2.1 dX0_meetings_10 rfl ?_
  obtain ⟨n_8, f_9, hx_10, hi_11, hw⟩ := hw
  refine x_last hF hC hP hS hx_10 hi_11 dX0_meetings_11 (fun H locs hP hS => ?_)
  generalize hup X_2 p4 (.inl (1, n_8, .inr (.inl (vp_updL f_9 (Int32.toNatClampNeg 0) (Int32.toInt64 r_1))))) = X_12 at hP hw
  refine lv_goto (tgt := 23) hF.1 hF.2.1 dX0_meetings_12 (by decide) ?_
  refine lv_iconst (v := 0) hF.1 hF.2.1 dX0_meetings_23 (by decide) ?_
  exact vx_ret (h_iret hF hr hlocks hP hS ⟨hc_6, hs_7⟩ dX0_meetings_24 hw)
def wpX0_differenceAbove (post : Int32 → hX → Prop) (xpost : String → Nat → hX → Prop) (E : Nat) (mc ms : Nat) (X : hX) (p0 : Nat) (p1 : Int32) (p2 : Int32) (p3 : Nat) : Prop := isO X p0 1 ((∃ mc_4 ms_5 : Nat, 0 + mc_4 ≤ mc ∧ 0 + ms_5 ≤ ms ∧ wpX1_differenceAbove (fun r_1 X_2 => asJ X_2 p3 0 r_1 (fun X_12 => post 0 X_12)) (fun E9 q9 X9 => (E9 = "java/lang/IllegalArgumentException" ∧ post 1 X9) ∨ (E9 = "java/util/NoSuchElementException" ∧ post 2 X9)) E mc_4 ms_5 X p0 p1 p2))
abbrev wsX0_differenceAbove : List Cond := wsW_ yX0_differenceAbove cX0_differenceAbove 5 (some .int) [(0, 9, 12, 19), (0, 9, 16, 65)]
set_option maxHeartbeats 8000000 in
theorem metX0_differenceAbove (l : Launch) (hlt : l.stackTraces = false) (K : HK) (mc ms : Nat) (sz : Nat) (post : Int32 → hX → Prop) (xpost : String → Nat → hX → Prop) (X0 : hX) (p0 : Nat) (p1 : Int32) (p2 : Int32) (p3 : Nat) : vx_Met l yX0_differenceAbove wsX0_differenceAbove (rmh 10 202 mc ms) (hPc K X0 sz [.ref p0, .int p1, .int p2, .ref p3] (wpX0_differenceAbove post xpost (K.2.2 0) mc ms X0 p0 p1 p2 p3)) (hQi post K X0 sz) (hXC xpost K X0 sz) mc ms (hA X0 sz) := by
  refine vx_ofWH (cc := cX0_differenceAbove) (maxL := 5) (ret := (some .int)) (by decide) rfl ?_
  intro p e s m args below meth c s₁ B hml hv
  obtain ⟨rfl, hv⟩ := hv
  obtain ⟨hC, hP, hw⟩ := HC.of hv
  have hsz : s.heap.size = sz := hv.1
  subst hsz
  clear hv
  have hr := B.returns
  have hts := atoms_spec (ws := wsX0_differenceAbove) B.pre
  have htab : c.exceptionTable.toList = tableOf [(0, 9, 12, 19), (0, 9, 16, 65)] := vx_table (x := yX0_differenceAbove) B (hts _ List.mem_cons_self)
  have hout : ∀ pc : Nat, (tableOf [(0, 9, 12, 19), (0, 9, 16, 65)]).all (fun x => !covers x pc) = true → ∀ x ∈ c.exceptionTable.toList, covers x pc = false := fun pc h x hx => by rw [htab] at hx; have h1 := List.all_eq_true.mp h x hx; exact (Bool.not_eq_true' _).mp h1
  have hts : ∀ w ∈ lw_all, w.before _ s = true := fun w h => hts w (List.mem_cons_of_mem _ h)
  have hF : CallFix p m c cX0_differenceAbove 5 s ([.ref p0, .int p1, .int p2, .ref p3] : List Value).toArray lw_all RX0 := ⟨B.exec, B.bytes, hml, findClass_of_methodNamed B.named, hts⟩
  have hlocks := B.notSynchronized
  have hl := lv_entry ([.ref p0, .int p1, .int p2, .ref p3]) (n := 5) (Nat.le_of_ble_eq_true rfl)
  rw [lg_entry_eq]
  generalize (lg_sl ([.ref p0, .int p1, .int p2, .ref p3]) ++ List.replicate (5 - (lg_sl ([.ref p0, .int p1, .int p2, .ref p3])).length) Slot.unset).toArray = ls at hl ⊢
  have hl : lv_has ls 5 [(0, .ref p0), (1, .int p1), (2, .int p2), (3, .ref p3)] := hl
  have hS : va_S (hA X0 s.heap.size) s.heap s.heap [] := va_S.rf
  unfold wpX0_differenceAbove at hw
  show W p l e (rmh 10 202 mc ms) s m _ below meth c _ _ _ _ _ _
  refine lv_aload_n hF.1 hF.2.1 dX0_differenceAbove_0 rfl (lv_at hl 3 rfl) ?_
  refine lv_iconst (v := 0) hF.1 hF.2.1 dX0_differenceAbove_1 (by decide) ?_
  refine lv_aload_n hF.1 hF.2.1 dX0_differenceAbove_2 rfl (lv_at hl 0 rfl) ?_
  refine lv_iload_n hF.1 hF.2.1 dX0_differenceAbove_3 rfl (lv_at hl 1 rfl) ?_
  refine lv_iload_n hF.1 hF.2.1 dX0_differenceAbove_4 rfl (lv_at hl 2 rfl) ?_
  obtain ⟨ho_3, hw⟩ := hw
  obtain ⟨mc_4, ms_5, hc_6, hs_7, hw⟩ := hw
  refine hkx_l (hrx_V (As := [.int p1, .int p2]) (rest := [.int 0, .ref p3]) (T := TX1) (N := 4) (ci := 1) hF hl.1 hC hP hS (metX1_differenceAbove l hlt K mc_4 ms_5 _ _ _ X0 p0 p1 p2) rfl (cwV 2 hF.2.2.2.2 (lw_V q1369 q1370 q1371 q75 q1372) rfl rfl rfl (by decide +kernel) ⟨Nat.le_of_ble_eq_true rfl, Nat.le_of_ble_eq_true rfl⟩) ho_3 hw rfl rfl (Nat.le_of_ble_eq_true rfl) dX0_differenceAbove_5 ⟨hc_6, hs_7⟩) hP hS (fun E9 q9 X9 H locs hw hcl hP hS => ?_) (fun r_1 X_2 H locs hw hP hS => ?_)
  · rcases hw with ⟨rfl, hw⟩ | ⟨rfl, hw⟩
    · obtain ⟨ce9, g91, g92, g93⟩ := hcl
      refine vx_catch (own := RX0) (name := "java/lang/IllegalArgumentException") hF.2.2.2.1 (tableOf []) ⟨0, 9, 12, 19⟩ (tableOf [(0, 9, 16, 65)]) htab (fun z hz => nomatch hz) rfl (by decide) (hF.2.2.2.2 _ q1060) (va_Nw.use rfl (hC.2.2.1.2.2.2.2.2.1 _ q503 rfl)) g91 g92 g93 ?_
      refine lv_astore (lv' := [(4, .ref q9), (0, .ref p0), (1, .int p1), (2, .int p2), (3, .ref p3)]) hF.1 hF.2.1 dX0_differenceAbove_12 hl (by decide) rfl (fun ls hl => ?_)
      refine lv_iconst (v := 1) hF.1 hF.2.1 dX0_differenceAbove_14 (by decide) ?_
      exact vx_ret (h_iret hF hr hlocks hP hS ⟨hc_6, hs_7⟩ dX0_differenceAbove_15 hw)
    · obtain ⟨ce9, g91, g92, g93⟩ := hcl
      refine vx_catch (own := RX0) (name := "java/util/NoSuchElementException") hF.2.2.2.1 (tableOf [(0, 9, 12, 19)]) ⟨0, 9, 16, 65⟩ (tableOf []) htab (List.forall_mem_cons.mpr ⟨Or.inr ⟨by decide, _, hF.2.2.2.2 _ q1060, hC.2.2.1.2.2.2.2.2.2.1 ("java/util/NoSuchElementException", "java/lang/IllegalArgumentException") (by decide)⟩, fun _ hz => nomatch hz⟩) rfl (by decide) (hF.2.2.2.2 _ q1171) (va_Nw.use rfl (hC.2.2.1.2.2.2.2.2.1 _ q1032 rfl)) g91 g92 g93 ?_
      refine lv_astore (lv' := [(4, .ref q9), (0, .ref p0), (1, .int p1), (2, .int p2), (3, .ref p3)]) hF.1 hF.2.1 dX0_differenceAbove_16 hl (by decide) rfl (fun ls hl => ?_)
      refine lv_iconst (v := 2) hF.1 hF.2.1 dX0_differenceAbove_18 (by decide) ?_
      exact vx_ret (h_iret hF hr hlocks hP hS ⟨hc_6, hs_7⟩ dX0_differenceAbove_19 hw)
  obtain ⟨n_8, f_9, hx_10, hi_11, hw⟩ := hw
  refine x_last hF hC hP hS hx_10 hi_11 dX0_differenceAbove_8 (fun H locs hP hS => ?_)
  generalize hup X_2 p3 (.inl (1, n_8, .inr (.inl (vp_updL f_9 (Int32.toNatClampNeg 0) r_1)))) = X_12 at hP hw
  refine lv_goto (tgt := 20) hF.1 hF.2.1 dX0_differenceAbove_9 (by decide) ?_
  refine lv_iconst (v := 0) hF.1 hF.2.1 dX0_differenceAbove_20 (by decide) ?_
  exact vx_ret (h_iret hF hr hlocks hP hS ⟨hc_6, hs_7⟩ dX0_differenceAbove_21 hw)
def wpX0_comeBackIn (post : Int32 → hX → Prop) (xpost : String → Nat → hX → Prop) (E : Nat) (mc ms : Nat) (X : hX) (p0 : Nat) (p1 : Int32) (p2 : Int32) (p3 : Nat) : Prop := isO X p0 1 ((∃ mc_4 ms_5 : Nat, 0 + mc_4 ≤ mc ∧ 0 + ms_5 ≤ ms ∧ wpX1_comeBackIn (fun r_1 X_2 => asJ X_2 p3 0 r_1 (fun X_12 => post 0 X_12)) (fun E9 q9 X9 => (E9 = "java/lang/IllegalArgumentException" ∧ post 1 X9) ∨ (E9 = "java/util/NoSuchElementException" ∧ post 2 X9)) E mc_4 ms_5 X p0 p1 p2))
abbrev wsX0_comeBackIn : List Cond := wsW_ yX0_comeBackIn cX0_comeBackIn 5 (some .int) [(0, 9, 12, 19), (0, 9, 16, 65)]
set_option maxHeartbeats 8000000 in
theorem metX0_comeBackIn (l : Launch) (hlt : l.stackTraces = false) (K : HK) (mc ms : Nat) (sz : Nat) (post : Int32 → hX → Prop) (xpost : String → Nat → hX → Prop) (X0 : hX) (p0 : Nat) (p1 : Int32) (p2 : Int32) (p3 : Nat) : vx_Met l yX0_comeBackIn wsX0_comeBackIn (rmh 10 202 mc ms) (hPc K X0 sz [.ref p0, .int p1, .int p2, .ref p3] (wpX0_comeBackIn post xpost (K.2.2 0) mc ms X0 p0 p1 p2 p3)) (hQi post K X0 sz) (hXC xpost K X0 sz) mc ms (hA X0 sz) := by
  refine vx_ofWH (cc := cX0_comeBackIn) (maxL := 5) (ret := (some .int)) (by decide) rfl ?_
  intro p e s m args below meth c s₁ B hml hv
  obtain ⟨rfl, hv⟩ := hv
  obtain ⟨hC, hP, hw⟩ := HC.of hv
  have hsz : s.heap.size = sz := hv.1
  subst hsz
  clear hv
  have hr := B.returns
  have hts := atoms_spec (ws := wsX0_comeBackIn) B.pre
  have htab : c.exceptionTable.toList = tableOf [(0, 9, 12, 19), (0, 9, 16, 65)] := vx_table (x := yX0_comeBackIn) B (hts _ List.mem_cons_self)
  have hout : ∀ pc : Nat, (tableOf [(0, 9, 12, 19), (0, 9, 16, 65)]).all (fun x => !covers x pc) = true → ∀ x ∈ c.exceptionTable.toList, covers x pc = false := fun pc h x hx => by rw [htab] at hx; have h1 := List.all_eq_true.mp h x hx; exact (Bool.not_eq_true' _).mp h1
  have hts : ∀ w ∈ lw_all, w.before _ s = true := fun w h => hts w (List.mem_cons_of_mem _ h)
  have hF : CallFix p m c cX0_comeBackIn 5 s ([.ref p0, .int p1, .int p2, .ref p3] : List Value).toArray lw_all RX0 := ⟨B.exec, B.bytes, hml, findClass_of_methodNamed B.named, hts⟩
  have hlocks := B.notSynchronized
  have hl := lv_entry ([.ref p0, .int p1, .int p2, .ref p3]) (n := 5) (Nat.le_of_ble_eq_true rfl)
  rw [lg_entry_eq]
  generalize (lg_sl ([.ref p0, .int p1, .int p2, .ref p3]) ++ List.replicate (5 - (lg_sl ([.ref p0, .int p1, .int p2, .ref p3])).length) Slot.unset).toArray = ls at hl ⊢
  have hl : lv_has ls 5 [(0, .ref p0), (1, .int p1), (2, .int p2), (3, .ref p3)] := hl
  have hS : va_S (hA X0 s.heap.size) s.heap s.heap [] := va_S.rf
  unfold wpX0_comeBackIn at hw
  show W p l e (rmh 10 202 mc ms) s m _ below meth c _ _ _ _ _ _
  refine lv_aload_n hF.1 hF.2.1 dX0_comeBackIn_0 rfl (lv_at hl 3 rfl) ?_
  refine lv_iconst (v := 0) hF.1 hF.2.1 dX0_comeBackIn_1 (by decide) ?_
  refine lv_aload_n hF.1 hF.2.1 dX0_comeBackIn_2 rfl (lv_at hl 0 rfl) ?_
  refine lv_iload_n hF.1 hF.2.1 dX0_comeBackIn_3 rfl (lv_at hl 1 rfl) ?_
  refine lv_iload_n hF.1 hF.2.1 dX0_comeBackIn_4 rfl (lv_at hl 2 rfl) ?_
  obtain ⟨ho_3, hw⟩ := hw
  obtain ⟨mc_4, ms_5, hc_6, hs_7, hw⟩ := hw
  refine hkx_l (hrx_V (As := [.int p1, .int p2]) (rest := [.int 0, .ref p3]) (T := TX1) (N := 4) (ci := 1) hF hl.1 hC hP hS (metX1_comeBackIn l hlt K mc_4 ms_5 _ _ _ X0 p0 p1 p2) rfl (cwV 2 hF.2.2.2.2 (lw_V q1380 q1381 q1382 q75 q1383) rfl rfl rfl (by decide +kernel) ⟨Nat.le_of_ble_eq_true rfl, Nat.le_of_ble_eq_true rfl⟩) ho_3 hw rfl rfl (Nat.le_of_ble_eq_true rfl) dX0_comeBackIn_5 ⟨hc_6, hs_7⟩) hP hS (fun E9 q9 X9 H locs hw hcl hP hS => ?_) (fun r_1 X_2 H locs hw hP hS => ?_)
  · rcases hw with ⟨rfl, hw⟩ | ⟨rfl, hw⟩
    · obtain ⟨ce9, g91, g92, g93⟩ := hcl
      refine vx_catch (own := RX0) (name := "java/lang/IllegalArgumentException") hF.2.2.2.1 (tableOf []) ⟨0, 9, 12, 19⟩ (tableOf [(0, 9, 16, 65)]) htab (fun z hz => nomatch hz) rfl (by decide) (hF.2.2.2.2 _ q1060) (va_Nw.use rfl (hC.2.2.1.2.2.2.2.2.1 _ q503 rfl)) g91 g92 g93 ?_
      refine lv_astore (lv' := [(4, .ref q9), (0, .ref p0), (1, .int p1), (2, .int p2), (3, .ref p3)]) hF.1 hF.2.1 dX0_comeBackIn_12 hl (by decide) rfl (fun ls hl => ?_)
      refine lv_iconst (v := 1) hF.1 hF.2.1 dX0_comeBackIn_14 (by decide) ?_
      exact vx_ret (h_iret hF hr hlocks hP hS ⟨hc_6, hs_7⟩ dX0_comeBackIn_15 hw)
    · obtain ⟨ce9, g91, g92, g93⟩ := hcl
      refine vx_catch (own := RX0) (name := "java/util/NoSuchElementException") hF.2.2.2.1 (tableOf [(0, 9, 12, 19)]) ⟨0, 9, 16, 65⟩ (tableOf []) htab (List.forall_mem_cons.mpr ⟨Or.inr ⟨by decide, _, hF.2.2.2.2 _ q1060, hC.2.2.1.2.2.2.2.2.2.1 ("java/util/NoSuchElementException", "java/lang/IllegalArgumentException") (by decide)⟩, fun _ hz => nomatch hz⟩) rfl (by decide) (hF.2.2.2.2 _ q1171) (va_Nw.use rfl (hC.2.2.1.2.2.2.2.2.1 _ q1032 rfl)) g91 g92 g93 ?_
      refine lv_astore (lv' := [(4, .ref q9), (0, .ref p0), (1, .int p1), (2, .int p2), (3, .ref p3)]) hF.1 hF.2.1 dX0_comeBackIn_16 hl (by decide) rfl (fun ls hl => ?_)
      refine lv_iconst (v := 2) hF.1 hF.2.1 dX0_comeBackIn_18 (by decide) ?_
      exact vx_ret (h_iret hF hr hlocks hP hS ⟨hc_6, hs_7⟩ dX0_comeBackIn_19 hw)
  obtain ⟨n_8, f_9, hx_10, hi_11, hw⟩ := hw
  refine x_last hF hC hP hS hx_10 hi_11 dX0_comeBackIn_8 (fun H locs hP hS => ?_)
  generalize hup X_2 p3 (.inl (1, n_8, .inr (.inl (vp_updL f_9 (Int32.toNatClampNeg 0) r_1)))) = X_12 at hP hw
  refine lv_goto (tgt := 20) hF.1 hF.2.1 dX0_comeBackIn_9 (by decide) ?_
  refine lv_iconst (v := 0) hF.1 hF.2.1 dX0_comeBackIn_20 (by decide) ?_
  exact vx_ret (h_iret hF hr hlocks hP hS ⟨hc_6, hs_7⟩ dX0_comeBackIn_21 hw)
def wpX0_allMeetIn (post : Int32 → hX → Prop) (xpost : String → Nat → hX → Prop) (E : Nat) (mc ms : Nat) (X : hX) (p0 : Nat) (p1 : Int32) (p2 : Int32) (p3 : Int32) (p4 : Int32) (p5 : Nat) : Prop := isO X p0 1 ((∃ mc_4 ms_5 : Nat, 0 + mc_4 ≤ mc ∧ 0 + ms_5 ≤ ms ∧ wpX1_allMeetIn (fun r_1 X_2 => asJ X_2 p5 0 (Int32.toInt64 r_1) (fun X_12 => post 0 X_12)) (fun E9 q9 X9 => (E9 = "java/lang/IllegalArgumentException" ∧ post 1 X9) ∨ (E9 = "java/util/NoSuchElementException" ∧ post 2 X9)) E mc_4 ms_5 X p0 p1 p2 p3 p4))
abbrev wsX0_allMeetIn : List Cond := wsW_ yX0_allMeetIn cX0_allMeetIn 7 (some .int) [(0, 14, 17, 19), (0, 14, 21, 65)]
set_option maxHeartbeats 8000000 in
theorem metX0_allMeetIn (l : Launch) (hlt : l.stackTraces = false) (K : HK) (mc ms : Nat) (sz : Nat) (post : Int32 → hX → Prop) (xpost : String → Nat → hX → Prop) (X0 : hX) (p0 : Nat) (p1 : Int32) (p2 : Int32) (p3 : Int32) (p4 : Int32) (p5 : Nat) : vx_Met l yX0_allMeetIn wsX0_allMeetIn (rmh 9 175 mc ms) (hPc K X0 sz [.ref p0, .int p1, .int p2, .int p3, .int p4, .ref p5] (wpX0_allMeetIn post xpost (K.2.2 0) mc ms X0 p0 p1 p2 p3 p4 p5)) (hQi post K X0 sz) (hXC xpost K X0 sz) mc ms (hA X0 sz) := by
  refine vx_ofWH (cc := cX0_allMeetIn) (maxL := 7) (ret := (some .int)) (by decide) rfl ?_
  intro p e s m args below meth c s₁ B hml hv
  obtain ⟨rfl, hv⟩ := hv
  obtain ⟨hC, hP, hw⟩ := HC.of hv
  have hsz : s.heap.size = sz := hv.1
  subst hsz
  clear hv
  have hr := B.returns
  have hts := atoms_spec (ws := wsX0_allMeetIn) B.pre
  have htab : c.exceptionTable.toList = tableOf [(0, 14, 17, 19), (0, 14, 21, 65)] := vx_table (x := yX0_allMeetIn) B (hts _ List.mem_cons_self)
  have hout : ∀ pc : Nat, (tableOf [(0, 14, 17, 19), (0, 14, 21, 65)]).all (fun x => !covers x pc) = true → ∀ x ∈ c.exceptionTable.toList, covers x pc = false := fun pc h x hx => by rw [htab] at hx; have h1 := List.all_eq_true.mp h x hx; exact (Bool.not_eq_true' _).mp h1
  have hts : ∀ w ∈ lw_all, w.before _ s = true := fun w h => hts w (List.mem_cons_of_mem _ h)
  have hF : CallFix p m c cX0_allMeetIn 7 s ([.ref p0, .int p1, .int p2, .int p3, .int p4, .ref p5] : List Value).toArray lw_all RX0 := ⟨B.exec, B.bytes, hml, findClass_of_methodNamed B.named, hts⟩
  have hlocks := B.notSynchronized
  have hl := lv_entry ([.ref p0, .int p1, .int p2, .int p3, .int p4, .ref p5]) (n := 7) (Nat.le_of_ble_eq_true rfl)
  rw [lg_entry_eq]
  generalize (lg_sl ([.ref p0, .int p1, .int p2, .int p3, .int p4, .ref p5]) ++ List.replicate (7 - (lg_sl ([.ref p0, .int p1, .int p2, .int p3, .int p4, .ref p5])).length) Slot.unset).toArray = ls at hl ⊢
  have hl : lv_has ls 7 [(0, .ref p0), (1, .int p1), (2, .int p2), (3, .int p3), (4, .int p4), (5, .ref p5)] := hl
  have hS : va_S (hA X0 s.heap.size) s.heap s.heap [] := va_S.rf
  unfold wpX0_allMeetIn at hw
  show W p l e (rmh 9 175 mc ms) s m _ below meth c _ _ _ _ _ _
  refine lv_aload hF.1 hF.2.1 dX0_allMeetIn_0 (lv_at hl 5 rfl) ?_
  refine lv_iconst (v := 0) hF.1 hF.2.1 dX0_allMeetIn_2 (by decide) ?_
  refine lv_aload_n hF.1 hF.2.1 dX0_allMeetIn_3 rfl (lv_at hl 0 rfl) ?_
  refine lv_iload_n hF.1 hF.2.1 dX0_allMeetIn_4 rfl (lv_at hl 1 rfl) ?_
  refine lv_iload_n hF.1 hF.2.1 dX0_allMeetIn_5 rfl (lv_at hl 2 rfl) ?_
  refine lv_iload_n hF.1 hF.2.1 dX0_allMeetIn_6 rfl (lv_at hl 3 rfl) ?_
  refine lv_iload hF.1 hF.2.1 dX0_allMeetIn_7 (lv_at hl 4 rfl) ?_
  obtain ⟨ho_3, hw⟩ := hw
  obtain ⟨mc_4, ms_5, hc_6, hs_7, hw⟩ := hw
  refine hkx_i (hrx_V (As := [.int p1, .int p2, .int p3, .int p4]) (rest := [.int 0, .ref p5]) (T := TX1) (N := 4) (ci := 1) hF hl.1 hC hP hS (metX1_allMeetIn l hlt K mc_4 ms_5 _ _ _ X0 p0 p1 p2 p3 p4) rfl (cwV 4 hF.2.2.2.2 (lw_V q1387 q1388 q1389 q75 q1390) rfl rfl rfl (by decide +kernel) ⟨Nat.le_of_ble_eq_true rfl, Nat.le_of_ble_eq_true rfl⟩) ho_3 hw rfl rfl (Nat.le_of_ble_eq_true rfl) dX0_allMeetIn_9 ⟨hc_6, hs_7⟩) hP hS (fun E9 q9 X9 H locs hw hcl hP hS => ?_) (fun r_1 X_2 H locs hw hP hS => ?_)
  · rcases hw with ⟨rfl, hw⟩ | ⟨rfl, hw⟩
    · obtain ⟨ce9, g91, g92, g93⟩ := hcl
      refine vx_catch (own := RX0) (name := "java/lang/IllegalArgumentException") hF.2.2.2.1 (tableOf []) ⟨0, 14, 17, 19⟩ (tableOf [(0, 14, 21, 65)]) htab (fun z hz => nomatch hz) rfl (by decide) (hF.2.2.2.2 _ q1060) (va_Nw.use rfl (hC.2.2.1.2.2.2.2.2.1 _ q503 rfl)) g91 g92 g93 ?_
      refine lv_astore (lv' := [(6, .ref q9), (0, .ref p0), (1, .int p1), (2, .int p2), (3, .int p3), (4, .int p4), (5, .ref p5)]) hF.1 hF.2.1 dX0_allMeetIn_17 hl (by decide) rfl (fun ls hl => ?_)
      refine lv_iconst (v := 1) hF.1 hF.2.1 dX0_allMeetIn_19 (by decide) ?_
      exact vx_ret (h_iret hF hr hlocks hP hS ⟨hc_6, hs_7⟩ dX0_allMeetIn_20 hw)
    · obtain ⟨ce9, g91, g92, g93⟩ := hcl
      refine vx_catch (own := RX0) (name := "java/util/NoSuchElementException") hF.2.2.2.1 (tableOf [(0, 14, 17, 19)]) ⟨0, 14, 21, 65⟩ (tableOf []) htab (List.forall_mem_cons.mpr ⟨Or.inr ⟨by decide, _, hF.2.2.2.2 _ q1060, hC.2.2.1.2.2.2.2.2.2.1 ("java/util/NoSuchElementException", "java/lang/IllegalArgumentException") (by decide)⟩, fun _ hz => nomatch hz⟩) rfl (by decide) (hF.2.2.2.2 _ q1171) (va_Nw.use rfl (hC.2.2.1.2.2.2.2.2.1 _ q1032 rfl)) g91 g92 g93 ?_
      refine lv_astore (lv' := [(6, .ref q9), (0, .ref p0), (1, .int p1), (2, .int p2), (3, .int p3), (4, .int p4), (5, .ref p5)]) hF.1 hF.2.1 dX0_allMeetIn_21 hl (by decide) rfl (fun ls hl => ?_)
      refine lv_iconst (v := 2) hF.1 hF.2.1 dX0_allMeetIn_23 (by decide) ?_
      exact vx_ret (h_iret hF hr hlocks hP hS ⟨hc_6, hs_7⟩ dX0_allMeetIn_24 hw)
  refine lv_i2l hF.1 hF.2.1 dX0_allMeetIn_12 rfl ?_
  obtain ⟨n_8, f_9, hx_10, hi_11, hw⟩ := hw
  refine x_last hF hC hP hS hx_10 hi_11 dX0_allMeetIn_13 (fun H locs hP hS => ?_)
  generalize hup X_2 p5 (.inl (1, n_8, .inr (.inl (vp_updL f_9 (Int32.toNatClampNeg 0) (Int32.toInt64 r_1))))) = X_12 at hP hw
  refine lv_goto (tgt := 25) hF.1 hF.2.1 dX0_allMeetIn_14 (by decide) ?_
  refine lv_iconst (v := 0) hF.1 hF.2.1 dX0_allMeetIn_25 (by decide) ?_
  exact vx_ret (h_iret hF hr hlocks hP hS ⟨hc_6, hs_7⟩ dX0_allMeetIn_26 hw)
def wpX0_farthestIn (post : Int32 → hX → Prop) (xpost : String → Nat → hX → Prop) (E : Nat) (mc ms : Nat) (X : hX) (p0 : Nat) (p1 : Int32) (p2 : Int32) (p3 : Nat) : Prop := isO X p0 1 ((∃ mc_4 ms_5 : Nat, 0 + mc_4 ≤ mc ∧ 0 + ms_5 ≤ ms ∧ wpX1_farthestIn (fun r_1 X_2 => asJ X_2 p3 0 (Int32.toInt64 r_1) (fun X_12 => post 0 X_12)) (fun E9 q9 X9 => (E9 = "java/lang/IllegalArgumentException" ∧ post 1 X9) ∨ (E9 = "java/util/NoSuchElementException" ∧ post 2 X9)) E mc_4 ms_5 X p0 p1 p2))
abbrev wsX0_farthestIn : List Cond := wsW_ yX0_farthestIn cX0_farthestIn 5 (some .int) [(0, 10, 13, 19), (0, 10, 17, 65)]
set_option maxHeartbeats 8000000 in
theorem metX0_farthestIn (l : Launch) (hlt : l.stackTraces = false) (K : HK) (mc ms : Nat) (sz : Nat) (post : Int32 → hX → Prop) (xpost : String → Nat → hX → Prop) (X0 : hX) (p0 : Nat) (p1 : Int32) (p2 : Int32) (p3 : Nat) : vx_Met l yX0_farthestIn wsX0_farthestIn (rmh 9 173 mc ms) (hPc K X0 sz [.ref p0, .int p1, .int p2, .ref p3] (wpX0_farthestIn post xpost (K.2.2 0) mc ms X0 p0 p1 p2 p3)) (hQi post K X0 sz) (hXC xpost K X0 sz) mc ms (hA X0 sz) := by
  refine vx_ofWH (cc := cX0_farthestIn) (maxL := 5) (ret := (some .int)) (by decide) rfl ?_
  intro p e s m args below meth c s₁ B hml hv
  obtain ⟨rfl, hv⟩ := hv
  obtain ⟨hC, hP, hw⟩ := HC.of hv
  have hsz : s.heap.size = sz := hv.1
  subst hsz
  clear hv
  have hr := B.returns
  have hts := atoms_spec (ws := wsX0_farthestIn) B.pre
  have htab : c.exceptionTable.toList = tableOf [(0, 10, 13, 19), (0, 10, 17, 65)] := vx_table (x := yX0_farthestIn) B (hts _ List.mem_cons_self)
  have hout : ∀ pc : Nat, (tableOf [(0, 10, 13, 19), (0, 10, 17, 65)]).all (fun x => !covers x pc) = true → ∀ x ∈ c.exceptionTable.toList, covers x pc = false := fun pc h x hx => by rw [htab] at hx; have h1 := List.all_eq_true.mp h x hx; exact (Bool.not_eq_true' _).mp h1
  have hts : ∀ w ∈ lw_all, w.before _ s = true := fun w h => hts w (List.mem_cons_of_mem _ h)
  have hF : CallFix p m c cX0_farthestIn 5 s ([.ref p0, .int p1, .int p2, .ref p3] : List Value).toArray lw_all RX0 := ⟨B.exec, B.bytes, hml, findClass_of_methodNamed B.named, hts⟩
  have hlocks := B.notSynchronized
  have hl := lv_entry ([.ref p0, .int p1, .int p2, .ref p3]) (n := 5) (Nat.le_of_ble_eq_true rfl)
  rw [lg_entry_eq]
  generalize (lg_sl ([.ref p0, .int p1, .int p2, .ref p3]) ++ List.replicate (5 - (lg_sl ([.ref p0, .int p1, .int p2, .ref p3])).length) Slot.unset).toArray = ls at hl ⊢
  have hl : lv_has ls 5 [(0, .ref p0), (1, .int p1), (2, .int p2), (3, .ref p3)] := hl
  have hS : va_S (hA X0 s.heap.size) s.heap s.heap [] := va_S.rf
  unfold wpX0_farthestIn at hw
  show W p l e (rmh 9 173 mc ms) s m _ below meth c _ _ _ _ _ _
  refine lv_aload_n hF.1 hF.2.1 dX0_farthestIn_0 rfl (lv_at hl 3 rfl) ?_
  refine lv_iconst (v := 0) hF.1 hF.2.1 dX0_farthestIn_1 (by decide) ?_
  refine lv_aload_n hF.1 hF.2.1 dX0_farthestIn_2 rfl (lv_at hl 0 rfl) ?_
  refine lv_iload_n hF.1 hF.2.1 dX0_farthestIn_3 rfl (lv_at hl 1 rfl) ?_
  refine lv_iload_n hF.1 hF.2.1 dX0_farthestIn_4 rfl (lv_at hl 2 rfl) ?_
  obtain ⟨ho_3, hw⟩ := hw
  obtain ⟨mc_4, ms_5, hc_6, hs_7, hw⟩ := hw
  refine hkx_i (hrx_V (As := [.int p1, .int p2]) (rest := [.int 0, .ref p3]) (T := TX1) (N := 4) (ci := 1) hF hl.1 hC hP hS (metX1_farthestIn l hlt K mc_4 ms_5 _ _ _ X0 p0 p1 p2) rfl (cwV 2 hF.2.2.2.2 (lw_V q1394 q1395 q1396 q75 q1397) rfl rfl rfl (by decide +kernel) ⟨Nat.le_of_ble_eq_true rfl, Nat.le_of_ble_eq_true rfl⟩) ho_3 hw rfl rfl (Nat.le_of_ble_eq_true rfl) dX0_farthestIn_5 ⟨hc_6, hs_7⟩) hP hS (fun E9 q9 X9 H locs hw hcl hP hS => ?_) (fun r_1 X_2 H locs hw hP hS => ?_)
  · rcases hw with ⟨rfl, hw⟩ | ⟨rfl, hw⟩
    · obtain ⟨ce9, g91, g92, g93⟩ := hcl
      refine vx_catch (own := RX0) (name := "java/lang/IllegalArgumentException") hF.2.2.2.1 (tableOf []) ⟨0, 10, 13, 19⟩ (tableOf [(0, 10, 17, 65)]) htab (fun z hz => nomatch hz) rfl (by decide) (hF.2.2.2.2 _ q1060) (va_Nw.use rfl (hC.2.2.1.2.2.2.2.2.1 _ q503 rfl)) g91 g92 g93 ?_
      refine lv_astore (lv' := [(4, .ref q9), (0, .ref p0), (1, .int p1), (2, .int p2), (3, .ref p3)]) hF.1 hF.2.1 dX0_farthestIn_13 hl (by decide) rfl (fun ls hl => ?_)
      refine lv_iconst (v := 1) hF.1 hF.2.1 dX0_farthestIn_15 (by decide) ?_
      exact vx_ret (h_iret hF hr hlocks hP hS ⟨hc_6, hs_7⟩ dX0_farthestIn_16 hw)
    · obtain ⟨ce9, g91, g92, g93⟩ := hcl
      refine vx_catch (own := RX0) (name := "java/util/NoSuchElementException") hF.2.2.2.1 (tableOf [(0, 10, 13, 19)]) ⟨0, 10, 17, 65⟩ (tableOf []) htab (List.forall_mem_cons.mpr ⟨Or.inr ⟨by decide, _, hF.2.2.2.2 _ q1060, hC.2.2.1.2.2.2.2.2.2.1 ("java/util/NoSuchElementException", "java/lang/IllegalArgumentException") (by decide)⟩, fun _ hz => nomatch hz⟩) rfl (by decide) (hF.2.2.2.2 _ q1171) (va_Nw.use rfl (hC.2.2.1.2.2.2.2.2.1 _ q1032 rfl)) g91 g92 g93 ?_
      refine lv_astore (lv' := [(4, .ref q9), (0, .ref p0), (1, .int p1), (2, .int p2), (3, .ref p3)]) hF.1 hF.2.1 dX0_farthestIn_17 hl (by decide) rfl (fun ls hl => ?_)
      refine lv_iconst (v := 2) hF.1 hF.2.1 dX0_farthestIn_19 (by decide) ?_
      exact vx_ret (h_iret hF hr hlocks hP hS ⟨hc_6, hs_7⟩ dX0_farthestIn_20 hw)
  refine lv_i2l hF.1 hF.2.1 dX0_farthestIn_8 rfl ?_
  obtain ⟨n_8, f_9, hx_10, hi_11, hw⟩ := hw
  refine x_last hF hC hP hS hx_10 hi_11 dX0_farthestIn_9 (fun H locs hP hS => ?_)
  generalize hup X_2 p3 (.inl (1, n_8, .inr (.inl (vp_updL f_9 (Int32.toNatClampNeg 0) (Int32.toInt64 r_1))))) = X_12 at hP hw
  refine lv_goto (tgt := 21) hF.1 hF.2.1 dX0_farthestIn_10 (by decide) ?_
  refine lv_iconst (v := 0) hF.1 hF.2.1 dX0_farthestIn_21 (by decide) ?_
  exact vx_ret (h_iret hF hr hlocks hP hS ⟨hc_6, hs_7⟩ dX0_farthestIn_22 hw)
def wpX0_bendFor (post : Int32 → hX → Prop) (xpost : String → Nat → hX → Prop) (E : Nat) (mc ms : Nat) (X : hX) (p0 : Nat) (p1 : Int32) (p2 : Int32) (p3 : Nat) : Prop := isO X p0 1 ((∃ mc_4 ms_5 : Nat, 0 + mc_4 ≤ mc ∧ 0 + ms_5 ≤ ms ∧ wpX1_bendFor (fun r_1 X_2 => asJ X_2 p3 0 (Int32.toInt64 r_1) (fun X_12 => post 0 X_12)) (fun E9 q9 X9 => (E9 = "java/lang/IllegalArgumentException" ∧ post 1 X9) ∨ (E9 = "java/util/NoSuchElementException" ∧ post 2 X9)) E mc_4 ms_5 X p0 p1 p2))
abbrev wsX0_bendFor : List Cond := wsW_ yX0_bendFor cX0_bendFor 5 (some .int) [(0, 10, 13, 19), (0, 10, 17, 65)]
set_option maxHeartbeats 8000000 in
theorem metX0_bendFor (l : Launch) (hlt : l.stackTraces = false) (K : HK) (mc ms : Nat) (sz : Nat) (post : Int32 → hX → Prop) (xpost : String → Nat → hX → Prop) (X0 : hX) (p0 : Nat) (p1 : Int32) (p2 : Int32) (p3 : Nat) : vx_Met l yX0_bendFor wsX0_bendFor (rmh 9 173 mc ms) (hPc K X0 sz [.ref p0, .int p1, .int p2, .ref p3] (wpX0_bendFor post xpost (K.2.2 0) mc ms X0 p0 p1 p2 p3)) (hQi post K X0 sz) (hXC xpost K X0 sz) mc ms (hA X0 sz) := by
  refine vx_ofWH (cc := cX0_bendFor) (maxL := 5) (ret := (some .int)) (by decide) rfl ?_
  intro p e s m args below meth c s₁ B hml hv
  obtain ⟨rfl, hv⟩ := hv
  obtain ⟨hC, hP, hw⟩ := HC.of hv
  have hsz : s.heap.size = sz := hv.1
  subst hsz
  clear hv
  have hr := B.returns
  have hts := atoms_spec (ws := wsX0_bendFor) B.pre
  have htab : c.exceptionTable.toList = tableOf [(0, 10, 13, 19), (0, 10, 17, 65)] := vx_table (x := yX0_bendFor) B (hts _ List.mem_cons_self)
  have hout : ∀ pc : Nat, (tableOf [(0, 10, 13, 19), (0, 10, 17, 65)]).all (fun x => !covers x pc) = true → ∀ x ∈ c.exceptionTable.toList, covers x pc = false := fun pc h x hx => by rw [htab] at hx; have h1 := List.all_eq_true.mp h x hx; exact (Bool.not_eq_true' _).mp h1
  have hts : ∀ w ∈ lw_all, w.before _ s = true := fun w h => hts w (List.mem_cons_of_mem _ h)
  have hF : CallFix p m c cX0_bendFor 5 s ([.ref p0, .int p1, .int p2, .ref p3] : List Value).toArray lw_all RX0 := ⟨B.exec, B.bytes, hml, findClass_of_methodNamed B.named, hts⟩
  have hlocks := B.notSynchronized
  have hl := lv_entry ([.ref p0, .int p1, .int p2, .ref p3]) (n := 5) (Nat.le_of_ble_eq_true rfl)
  rw [lg_entry_eq]
  generalize (lg_sl ([.ref p0, .int p1, .int p2, .ref p3]) ++ List.replicate (5 - (lg_sl ([.ref p0, .int p1, .int p2, .ref p3])).length) Slot.unset).toArray = ls at hl ⊢
  have hl : lv_has ls 5 [(0, .ref p0), (1, .int p1), (2, .int p2), (3, .ref p3)] := hl
  have hS : va_S (hA X0 s.heap.size) s.heap s.heap [] := va_S.rf
  unfold wpX0_bendFor at hw
  show W p l e (rmh 9 173 mc ms) s m _ below meth c _ _ _ _ _ _
  refine lv_aload_n hF.1 hF.2.1 dX0_bendFor_0 rfl (lv_at hl 3 rfl) ?_
  refine lv_iconst (v := 0) hF.1 hF.2.1 dX0_bendFor_1 (by decide) ?_
  refine lv_aload_n hF.1 hF.2.1 dX0_bendFor_2 rfl (lv_at hl 0 rfl) ?_
  refine lv_iload_n hF.1 hF.2.1 dX0_bendFor_3 rfl (lv_at hl 1 rfl) ?_
  refine lv_iload_n hF.1 hF.2.1 dX0_bendFor_4 rfl (lv_at hl 2 rfl) ?_
  obtain ⟨ho_3, hw⟩ := hw
  obtain ⟨mc_4, ms_5, hc_6, hs_7, hw⟩ := hw
  refine hkx_i (hrx_V (As := [.int p1, .int p2]) (rest := [.int 0, .ref p3]) (T := TX1) (N := 4) (ci := 1) hF hl.1 hC hP hS (metX1_bendFor l hlt K mc_4 ms_5 _ _ _ X0 p0 p1 p2) rfl (cwV 2 hF.2.2.2.2 (lw_V q1403 q1404 q1405 q75 q1406) rfl rfl rfl (by decide +kernel) ⟨Nat.le_of_ble_eq_true rfl, Nat.le_of_ble_eq_true rfl⟩) ho_3 hw rfl rfl (Nat.le_of_ble_eq_true rfl) dX0_bendFor_5 ⟨hc_6, hs_7⟩) hP hS (fun E9 q9 X9 H locs hw hcl hP hS => ?_) (fun r_1 X_2 H locs hw hP hS => ?_)
  · rcases hw with ⟨rfl, hw⟩ | ⟨rfl, hw⟩
    · obtain ⟨ce9, g91, g92, g93⟩ := hcl
      refine vx_catch (own := RX0) (name := "java/lang/IllegalArgumentException") hF.2.2.2.1 (tableOf []) ⟨0, 10, 13, 19⟩ (tableOf [(0, 10, 17, 65)]) htab (fun z hz => nomatch hz) rfl (by decide) (hF.2.2.2.2 _ q1060) (va_Nw.use rfl (hC.2.2.1.2.2.2.2.2.1 _ q503 rfl)) g91 g92 g93 ?_
      refine lv_astore (lv' := [(4, .ref q9), (0, .ref p0), (1, .int p1), (2, .int p2), (3, .ref p3)]) hF.1 hF.2.1 dX0_bendFor_13 hl (by decide) rfl (fun ls hl => ?_)
      refine lv_iconst (v := 1) hF.1 hF.2.1 dX0_bendFor_15 (by decide) ?_
      exact vx_ret (h_iret hF hr hlocks hP hS ⟨hc_6, hs_7⟩ dX0_bendFor_16 hw)
    · obtain ⟨ce9, g91, g92, g93⟩ := hcl
      refine vx_catch (own := RX0) (name := "java/util/NoSuchElementException") hF.2.2.2.1 (tableOf [(0, 10, 13, 19)]) ⟨0, 10, 17, 65⟩ (tableOf []) htab (List.forall_mem_cons.mpr ⟨Or.inr ⟨by decide, _, hF.2.2.2.2 _ q1060, hC.2.2.1.2.2.2.2.2.2.1 ("java/util/NoSuchElementException", "java/lang/IllegalArgumentException") (by decide)⟩, fun _ hz => nomatch hz⟩) rfl (by decide) (hF.2.2.2.2 _ q1171) (va_Nw.use rfl (hC.2.2.1.2.2.2.2.2.1 _ q1032 rfl)) g91 g92 g93 ?_
      refine lv_astore (lv' := [(4, .ref q9), (0, .ref p0), (1, .int p1), (2, .int p2), (3, .ref p3)]) hF.1 hF.2.1 dX0_bendFor_17 hl (by decide) rfl (fun ls hl => ?_)
      refine lv_iconst (v := 2) hF.1 hF.2.1 dX0_bendFor_19 (by decide) ?_
      exact vx_ret (h_iret hF hr hlocks hP hS ⟨hc_6, hs_7⟩ dX0_bendFor_20 hw)
  refine lv_i2l hF.1 hF.2.1 dX0_bendFor_8 rfl ?_
  obtain ⟨n_8, f_9, hx_10, hi_11, hw⟩ := hw
  refine x_last hF hC hP hS hx_10 hi_11 dX0_bendFor_9 (fun H locs hP hS => ?_)
  generalize hup X_2 p3 (.inl (1, n_8, .inr (.inl (vp_updL f_9 (Int32.toNatClampNeg 0) (Int32.toInt64 r_1))))) = X_12 at hP hw
  refine lv_goto (tgt := 21) hF.1 hF.2.1 dX0_bendFor_10 (by decide) ?_
  refine lv_iconst (v := 0) hF.1 hF.2.1 dX0_bendFor_21 (by decide) ?_
  exact vx_ret (h_iret hF hr hlocks hP hS ⟨hc_6, hs_7⟩ dX0_bendFor_22 hw)
def wpX0_dayOf (post : Int32 → hX → Prop) (xpost : String → Nat → hX → Prop) (E : Nat) (mc ms : Nat) (X : hX) (p0 : Nat) (p1 : Int32) (p2 : Int32) (p3 : Int32) (p4 : Nat) : Prop := isO X p0 1 ((∃ mc_4 ms_5 : Nat, 0 + mc_4 ≤ mc ∧ 0 + ms_5 ≤ ms ∧ wpX1_dayOf (fun r_1 X_2 => asJ X_2 p4 0 (Int32.toInt64 r_1) (fun X_12 => post 0 X_12)) (fun E9 q9 X9 => (E9 = "java/lang/IllegalArgumentException" ∧ post 1 X9)) E mc_4 ms_5 X p0 p1 p2 p3))
abbrev wsX0_dayOf : List Cond := wsW_ yX0_dayOf cX0_dayOf 6 (some .int) [(0, 12, 15, 19)]
set_option maxHeartbeats 8000000 in
theorem metX0_dayOf (l : Launch) (hlt : l.stackTraces = false) (K : HK) (mc ms : Nat) (sz : Nat) (post : Int32 → hX → Prop) (xpost : String → Nat → hX → Prop) (X0 : hX) (p0 : Nat) (p1 : Int32) (p2 : Int32) (p3 : Int32) (p4 : Nat) : vx_Met l yX0_dayOf wsX0_dayOf (rmh 8 138 mc ms) (hPc K X0 sz [.ref p0, .int p1, .int p2, .int p3, .ref p4] (wpX0_dayOf post xpost (K.2.2 0) mc ms X0 p0 p1 p2 p3 p4)) (hQi post K X0 sz) (hXC xpost K X0 sz) mc ms (hA X0 sz) := by
  refine vx_ofWH (cc := cX0_dayOf) (maxL := 6) (ret := (some .int)) (by decide) rfl ?_
  intro p e s m args below meth c s₁ B hml hv
  obtain ⟨rfl, hv⟩ := hv
  obtain ⟨hC, hP, hw⟩ := HC.of hv
  have hsz : s.heap.size = sz := hv.1
  subst hsz
  clear hv
  have hr := B.returns
  have hts := atoms_spec (ws := wsX0_dayOf) B.pre
  have htab : c.exceptionTable.toList = tableOf [(0, 12, 15, 19)] := vx_table (x := yX0_dayOf) B (hts _ List.mem_cons_self)
  have hout : ∀ pc : Nat, (tableOf [(0, 12, 15, 19)]).all (fun x => !covers x pc) = true → ∀ x ∈ c.exceptionTable.toList, covers x pc = false := fun pc h x hx => by rw [htab] at hx; have h1 := List.all_eq_true.mp h x hx; exact (Bool.not_eq_true' _).mp h1
  have hts : ∀ w ∈ lw_all, w.before _ s = true := fun w h => hts w (List.mem_cons_of_mem _ h)
  have hF : CallFix p m c cX0_dayOf 6 s ([.ref p0, .int p1, .int p2, .int p3, .ref p4] : List Value).toArray lw_all RX0 := ⟨B.exec, B.bytes, hml, findClass_of_methodNamed B.named, hts⟩
  have hlocks := B.notSynchronized
  have hl := lv_entry ([.ref p0, .int p1, .int p2, .int p3, .ref p4]) (n := 6) (Nat.le_of_ble_eq_true rfl)
  rw [lg_entry_eq]
  generalize (lg_sl ([.ref p0, .int p1, .int p2, .int p3, .ref p4]) ++ List.replicate (6 - (lg_sl ([.ref p0, .int p1, .int p2, .int p3, .ref p4])).length) Slot.unset).toArray = ls at hl ⊢
  have hl : lv_has ls 6 [(0, .ref p0), (1, .int p1), (2, .int p2), (3, .int p3), (4, .ref p4)] := hl
  have hS : va_S (hA X0 s.heap.size) s.heap s.heap [] := va_S.rf
  unfold wpX0_dayOf at hw
  show W p l e (rmh 8 138 mc ms) s m _ below meth c _ _ _ _ _ _
  refine lv_aload hF.1 hF.2.1 dX0_dayOf_0 (lv_at hl 4 rfl) ?_
  refine lv_iconst (v := 0) hF.1 hF.2.1 dX0_dayOf_2 (by decide) ?_
  refine lv_aload_n hF.1 hF.2.1 dX0_dayOf_3 rfl (lv_at hl 0 rfl) ?_
  refine lv_iload_n hF.1 hF.2.1 dX0_dayOf_4 rfl (lv_at hl 1 rfl) ?_
  refine lv_iload_n hF.1 hF.2.1 dX0_dayOf_5 rfl (lv_at hl 2 rfl) ?_
  refine lv_iload_n hF.1 hF.2.1 dX0_dayOf_6 rfl (lv_at hl 3 rfl) ?_
  obtain ⟨ho_3, hw⟩ := hw
  obtain ⟨mc_4, ms_5, hc_6, hs_7, hw⟩ := hw
  refine hkx_i (hrx_V (As := [.int p1, .int p2, .int p3]) (rest := [.int 0, .ref p4]) (T := TX1) (N := 4) (ci := 1) hF hl.1 hC hP hS (metX1_dayOf l hlt K mc_4 ms_5 _ _ _ X0 p0 p1 p2 p3) rfl (cwV 3 hF.2.2.2.2 (lw_V q1411 q1412 q1413 q75 q1414) rfl rfl rfl (by decide +kernel) ⟨Nat.le_of_ble_eq_true rfl, Nat.le_of_ble_eq_true rfl⟩) ho_3 hw rfl rfl (Nat.le_of_ble_eq_true rfl) dX0_dayOf_7 ⟨hc_6, hs_7⟩) hP hS (fun E9 q9 X9 H locs hw hcl hP hS => ?_) (fun r_1 X_2 H locs hw hP hS => ?_)
  · obtain ⟨rfl, hw⟩ := hw
    obtain ⟨ce9, g91, g92, g93⟩ := hcl
    refine vx_catch (own := RX0) (name := "java/lang/IllegalArgumentException") hF.2.2.2.1 (tableOf []) ⟨0, 12, 15, 19⟩ (tableOf []) htab (fun z hz => nomatch hz) rfl (by decide) (hF.2.2.2.2 _ q1060) (va_Nw.use rfl (hC.2.2.1.2.2.2.2.2.1 _ q503 rfl)) g91 g92 g93 ?_
    refine lv_astore (lv' := [(5, .ref q9), (0, .ref p0), (1, .int p1), (2, .int p2), (3, .int p3), (4, .ref p4)]) hF.1 hF.2.1 dX0_dayOf_15 hl (by decide) rfl (fun ls hl => ?_)
    refine lv_iconst (v := 1) hF.1 hF.2.1 dX0_dayOf_17 (by decide) ?_
    exact vx_ret (h_iret hF hr hlocks hP hS ⟨hc_6, hs_7⟩ dX0_dayOf_18 hw)
  refine lv_i2l hF.1 hF.2.1 dX0_dayOf_10 rfl ?_
  obtain ⟨n_8, f_9, hx_10, hi_11, hw⟩ := hw
  refine x_last hF hC hP hS hx_10 hi_11 dX0_dayOf_11 (fun H locs hP hS => ?_)
  generalize hup X_2 p4 (.inl (1, n_8, .inr (.inl (vp_updL f_9 (Int32.toNatClampNeg 0) (Int32.toInt64 r_1))))) = X_12 at hP hw
  refine lv_goto (tgt := 19) hF.1 hF.2.1 dX0_dayOf_12 (by decide) ?_
  refine lv_iconst (v := 0) hF.1 hF.2.1 dX0_dayOf_19 (by decide) ?_
  exact vx_ret (h_iret hF hr hlocks hP hS ⟨hc_6, hs_7⟩ dX0_dayOf_20 hw)
def wpX0_daysUntil (post : Int32 → hX → Prop) (xpost : String → Nat → hX → Prop) (E : Nat) (mc ms : Nat) (X : hX) (p0 : Nat) (p1 : Int32) (p2 : Int32) (p3 : Nat) : Prop := isO X p0 1 ((∃ mc_4 ms_5 : Nat, 0 + mc_4 ≤ mc ∧ 0 + ms_5 ≤ ms ∧ wpX1_daysUntil (fun r_1 X_2 => asJ X_2 p3 0 (Int32.toInt64 r_1) (fun X_12 => post 0 X_12)) (fun E9 q9 X9 => (E9 = "java/lang/IllegalArgumentException" ∧ post 1 X9) ∨ (E9 = "java/util/NoSuchElementException" ∧ post 2 X9)) E mc_4 ms_5 X p0 p1 p2))
abbrev wsX0_daysUntil : List Cond := wsW_ yX0_daysUntil cX0_daysUntil 5 (some .int) [(0, 10, 13, 19), (0, 10, 17, 65)]
set_option maxHeartbeats 8000000 in
theorem metX0_daysUntil (l : Launch) (hlt : l.stackTraces = false) (K : HK) (mc ms : Nat) (sz : Nat) (post : Int32 → hX → Prop) (xpost : String → Nat → hX → Prop) (X0 : hX) (p0 : Nat) (p1 : Int32) (p2 : Int32) (p3 : Nat) : vx_Met l yX0_daysUntil wsX0_daysUntil (rmh 8 141 mc ms) (hPc K X0 sz [.ref p0, .int p1, .int p2, .ref p3] (wpX0_daysUntil post xpost (K.2.2 0) mc ms X0 p0 p1 p2 p3)) (hQi post K X0 sz) (hXC xpost K X0 sz) mc ms (hA X0 sz) := by
  refine vx_ofWH (cc := cX0_daysUntil) (maxL := 5) (ret := (some .int)) (by decide) rfl ?_
  intro p e s m args below meth c s₁ B hml hv
  obtain ⟨rfl, hv⟩ := hv
  obtain ⟨hC, hP, hw⟩ := HC.of hv
  have hsz : s.heap.size = sz := hv.1
  subst hsz
  clear hv
  have hr := B.returns
  have hts := atoms_spec (ws := wsX0_daysUntil) B.pre
  have htab : c.exceptionTable.toList = tableOf [(0, 10, 13, 19), (0, 10, 17, 65)] := vx_table (x := yX0_daysUntil) B (hts _ List.mem_cons_self)
  have hout : ∀ pc : Nat, (tableOf [(0, 10, 13, 19), (0, 10, 17, 65)]).all (fun x => !covers x pc) = true → ∀ x ∈ c.exceptionTable.toList, covers x pc = false := fun pc h x hx => by rw [htab] at hx; have h1 := List.all_eq_true.mp h x hx; exact (Bool.not_eq_true' _).mp h1
  have hts : ∀ w ∈ lw_all, w.before _ s = true := fun w h => hts w (List.mem_cons_of_mem _ h)
  have hF : CallFix p m c cX0_daysUntil 5 s ([.ref p0, .int p1, .int p2, .ref p3] : List Value).toArray lw_all RX0 := ⟨B.exec, B.bytes, hml, findClass_of_methodNamed B.named, hts⟩
  have hlocks := B.notSynchronized
  have hl := lv_entry ([.ref p0, .int p1, .int p2, .ref p3]) (n := 5) (Nat.le_of_ble_eq_true rfl)
  rw [lg_entry_eq]
  generalize (lg_sl ([.ref p0, .int p1, .int p2, .ref p3]) ++ List.replicate (5 - (lg_sl ([.ref p0, .int p1, .int p2, .ref p3])).length) Slot.unset).toArray = ls at hl ⊢
  have hl : lv_has ls 5 [(0, .ref p0), (1, .int p1), (2, .int p2), (3, .ref p3)] := hl
  have hS : va_S (hA X0 s.heap.size) s.heap s.heap [] := va_S.rf
  unfold wpX0_daysUntil at hw
  show W p l e (rmh 8 141 mc ms) s m _ below meth c _ _ _ _ _ _
  refine lv_aload_n hF.1 hF.2.1 dX0_daysUntil_0 rfl (lv_at hl 3 rfl) ?_
  refine lv_iconst (v := 0) hF.1 hF.2.1 dX0_daysUntil_1 (by decide) ?_
  refine lv_aload_n hF.1 hF.2.1 dX0_daysUntil_2 rfl (lv_at hl 0 rfl) ?_
  refine lv_iload_n hF.1 hF.2.1 dX0_daysUntil_3 rfl (lv_at hl 1 rfl) ?_
  refine lv_iload_n hF.1 hF.2.1 dX0_daysUntil_4 rfl (lv_at hl 2 rfl) ?_
  obtain ⟨ho_3, hw⟩ := hw
  obtain ⟨mc_4, ms_5, hc_6, hs_7, hw⟩ := hw
  refine hkx_i (hrx_V (As := [.int p1, .int p2]) (rest := [.int 0, .ref p3]) (T := TX1) (N := 4) (ci := 1) hF hl.1 hC hP hS (metX1_daysUntil l hlt K mc_4 ms_5 _ _ _ X0 p0 p1 p2) rfl (cwV 2 hF.2.2.2.2 (lw_V q1420 q1421 q1422 q75 q1423) rfl rfl rfl (by decide +kernel) ⟨Nat.le_of_ble_eq_true rfl, Nat.le_of_ble_eq_true rfl⟩) ho_3 hw rfl rfl (Nat.le_of_ble_eq_true rfl) dX0_daysUntil_5 ⟨hc_6, hs_7⟩) hP hS (fun E9 q9 X9 H locs hw hcl hP hS => ?_) (fun r_1 X_2 H locs hw hP hS => ?_)
  · rcases hw with ⟨rfl, hw⟩ | ⟨rfl, hw⟩
    · obtain ⟨ce9, g91, g92, g93⟩ := hcl
      refine vx_catch (own := RX0) (name := "java/lang/IllegalArgumentException") hF.2.2.2.1 (tableOf []) ⟨0, 10, 13, 19⟩ (tableOf [(0, 10, 17, 65)]) htab (fun z hz => nomatch hz) rfl (by decide) (hF.2.2.2.2 _ q1060) (va_Nw.use rfl (hC.2.2.1.2.2.2.2.2.1 _ q503 rfl)) g91 g92 g93 ?_
      refine lv_astore (lv' := [(4, .ref q9), (0, .ref p0), (1, .int p1), (2, .int p2), (3, .ref p3)]) hF.1 hF.2.1 dX0_daysUntil_13 hl (by decide) rfl (fun ls hl => ?_)
      refine lv_iconst (v := 1) hF.1 hF.2.1 dX0_daysUntil_15 (by decide) ?_
      exact vx_ret (h_iret hF hr hlocks hP hS ⟨hc_6, hs_7⟩ dX0_daysUntil_16 hw)
    · obtain ⟨ce9, g91, g92, g93⟩ := hcl
      refine vx_catch (own := RX0) (name := "java/util/NoSuchElementException") hF.2.2.2.1 (tableOf [(0, 10, 13, 19)]) ⟨0, 10, 17, 65⟩ (tableOf []) htab (List.forall_mem_cons.mpr ⟨Or.inr ⟨by decide, _, hF.2.2.2.2 _ q1060, hC.2.2.1.2.2.2.2.2.2.1 ("java/util/NoSuchElementException", "java/lang/IllegalArgumentException") (by decide)⟩, fun _ hz => nomatch hz⟩) rfl (by decide) (hF.2.2.2.2 _ q1171) (va_Nw.use rfl (hC.2.2.1.2.2.2.2.2.1 _ q1032 rfl)) g91 g92 g93 ?_
      refine lv_astore (lv' := [(4, .ref q9), (0, .ref p0), (1, .int p1), (2, .int p2), (3, .ref p3)]) hF.1 hF.2.1 dX0_daysUntil_17 hl (by decide) rfl (fun ls hl => ?_)
      refine lv_iconst (v := 2) hF.1 hF.2.1 dX0_daysUntil_19 (by decide) ?_
      exact vx_ret (h_iret hF hr hlocks hP hS ⟨hc_6, hs_7⟩ dX0_daysUntil_20 hw)
  refine lv_i2l hF.1 hF.2.1 dX0_daysUntil_8 rfl ?_
  obtain ⟨n_8, f_9, hx_10, hi_11, hw⟩ := hw
  refine x_last hF hC hP hS hx_10 hi_11 dX0_daysUntil_9 (fun H locs hP hS => ?_)
  generalize hup X_2 p3 (.inl (1, n_8, .inr (.inl (vp_updL f_9 (Int32.toNatClampNeg 0) (Int32.toInt64 r_1))))) = X_12 at hP hw
  refine lv_goto (tgt := 21) hF.1 hF.2.1 dX0_daysUntil_10 (by decide) ?_
  refine lv_iconst (v := 0) hF.1 hF.2.1 dX0_daysUntil_21 (by decide) ?_
  exact vx_ret (h_iret hF hr hlocks hP hS ⟨hc_6, hs_7⟩ dX0_daysUntil_22 hw)
def wpX0_periodOf (post : Int32 → hX → Prop) (xpost : String → Nat → hX → Prop) (E : Nat) (mc ms : Nat) (X : hX) (p0 : Nat) (p1 : Int32) (p2 : Nat) : Prop := isO X p0 1 ((∃ mc_4 ms_5 : Nat, 0 + mc_4 ≤ mc ∧ 0 + ms_5 ≤ ms ∧ wpX1_periodOf (fun r_1 X_2 => asJ X_2 p2 0 (Int32.toInt64 r_1) (fun X_12 => post 0 X_12)) (fun E9 q9 X9 => (E9 = "java/lang/IllegalArgumentException" ∧ post 1 X9) ∨ (E9 = "java/util/NoSuchElementException" ∧ post 2 X9)) E mc_4 ms_5 X p0 p1))
abbrev wsX0_periodOf : List Cond := wsW_ yX0_periodOf cX0_periodOf 4 (some .int) [(0, 9, 12, 19), (0, 9, 15, 65)]
set_option maxHeartbeats 8000000 in
theorem metX0_periodOf (l : Launch) (hlt : l.stackTraces = false) (K : HK) (mc ms : Nat) (sz : Nat) (post : Int32 → hX → Prop) (xpost : String → Nat → hX → Prop) (X0 : hX) (p0 : Nat) (p1 : Int32) (p2 : Nat) : vx_Met l yX0_periodOf wsX0_periodOf (rmh 9 158 mc ms) (hPc K X0 sz [.ref p0, .int p1, .ref p2] (wpX0_periodOf post xpost (K.2.2 0) mc ms X0 p0 p1 p2)) (hQi post K X0 sz) (hXC xpost K X0 sz) mc ms (hA X0 sz) := by
  refine vx_ofWH (cc := cX0_periodOf) (maxL := 4) (ret := (some .int)) (by decide) rfl ?_
  intro p e s m args below meth c s₁ B hml hv
  obtain ⟨rfl, hv⟩ := hv
  obtain ⟨hC, hP, hw⟩ := HC.of hv
  have hsz : s.heap.size = sz := hv.1
  subst hsz
  clear hv
  have hr := B.returns
  have hts := atoms_spec (ws := wsX0_periodOf) B.pre
  have htab : c.exceptionTable.toList = tableOf [(0, 9, 12, 19), (0, 9, 15, 65)] := vx_table (x := yX0_periodOf) B (hts _ List.mem_cons_self)
  have hout : ∀ pc : Nat, (tableOf [(0, 9, 12, 19), (0, 9, 15, 65)]).all (fun x => !covers x pc) = true → ∀ x ∈ c.exceptionTable.toList, covers x pc = false := fun pc h x hx => by rw [htab] at hx; have h1 := List.all_eq_true.mp h x hx; exact (Bool.not_eq_true' _).mp h1
  have hts : ∀ w ∈ lw_all, w.before _ s = true := fun w h => hts w (List.mem_cons_of_mem _ h)
  have hF : CallFix p m c cX0_periodOf 4 s ([.ref p0, .int p1, .ref p2] : List Value).toArray lw_all RX0 := ⟨B.exec, B.bytes, hml, findClass_of_methodNamed B.named, hts⟩
  have hlocks := B.notSynchronized
  have hl := lv_entry ([.ref p0, .int p1, .ref p2]) (n := 4) (Nat.le_of_ble_eq_true rfl)
  rw [lg_entry_eq]
  generalize (lg_sl ([.ref p0, .int p1, .ref p2]) ++ List.replicate (4 - (lg_sl ([.ref p0, .int p1, .ref p2])).length) Slot.unset).toArray = ls at hl ⊢
  have hl : lv_has ls 4 [(0, .ref p0), (1, .int p1), (2, .ref p2)] := hl
  have hS : va_S (hA X0 s.heap.size) s.heap s.heap [] := va_S.rf
  unfold wpX0_periodOf at hw
  show W p l e (rmh 9 158 mc ms) s m _ below meth c _ _ _ _ _ _
  refine lv_aload_n hF.1 hF.2.1 dX0_periodOf_0 rfl (lv_at hl 2 rfl) ?_
  refine lv_iconst (v := 0) hF.1 hF.2.1 dX0_periodOf_1 (by decide) ?_
  refine lv_aload_n hF.1 hF.2.1 dX0_periodOf_2 rfl (lv_at hl 0 rfl) ?_
  refine lv_iload_n hF.1 hF.2.1 dX0_periodOf_3 rfl (lv_at hl 1 rfl) ?_
  obtain ⟨ho_3, hw⟩ := hw
  obtain ⟨mc_4, ms_5, hc_6, hs_7, hw⟩ := hw
  refine hkx_i (hrx_V (As := [.int p1]) (rest := [.int 0, .ref p2]) (T := TX1) (N := 4) (ci := 1) hF hl.1 hC hP hS (metX1_periodOf l hlt K mc_4 ms_5 _ _ _ X0 p0 p1) rfl (cwV 1 hF.2.2.2.2 (lw_V q1428 q1429 q1430 q75 q1431) rfl rfl rfl (by decide +kernel) ⟨Nat.le_of_ble_eq_true rfl, Nat.le_of_ble_eq_true rfl⟩) ho_3 hw rfl rfl (Nat.le_of_ble_eq_true rfl) dX0_periodOf_4 ⟨hc_6, hs_7⟩) hP hS (fun E9 q9 X9 H locs hw hcl hP hS => ?_) (fun r_1 X_2 H locs hw hP hS => ?_)
  · rcases hw with ⟨rfl, hw⟩ | ⟨rfl, hw⟩
    · obtain ⟨ce9, g91, g92, g93⟩ := hcl
      refine vx_catch (own := RX0) (name := "java/lang/IllegalArgumentException") hF.2.2.2.1 (tableOf []) ⟨0, 9, 12, 19⟩ (tableOf [(0, 9, 15, 65)]) htab (fun z hz => nomatch hz) rfl (by decide) (hF.2.2.2.2 _ q1060) (va_Nw.use rfl (hC.2.2.1.2.2.2.2.2.1 _ q503 rfl)) g91 g92 g93 ?_
      refine lv_astore_n (lv' := [(3, .ref q9), (0, .ref p0), (1, .int p1), (2, .ref p2)]) hF.1 hF.2.1 dX0_periodOf_12 rfl hl (by decide) rfl (fun ls hl => ?_)
      refine lv_iconst (v := 1) hF.1 hF.2.1 dX0_periodOf_13 (by decide) ?_
      exact vx_ret (h_iret hF hr hlocks hP hS ⟨hc_6, hs_7⟩ dX0_periodOf_14 hw)
    · obtain ⟨ce9, g91, g92, g93⟩ := hcl
      refine vx_catch (own := RX0) (name := "java/util/NoSuchElementException") hF.2.2.2.1 (tableOf [(0, 9, 12, 19)]) ⟨0, 9, 15, 65⟩ (tableOf []) htab (List.forall_mem_cons.mpr ⟨Or.inr ⟨by decide, _, hF.2.2.2.2 _ q1060, hC.2.2.1.2.2.2.2.2.2.1 ("java/util/NoSuchElementException", "java/lang/IllegalArgumentException") (by decide)⟩, fun _ hz => nomatch hz⟩) rfl (by decide) (hF.2.2.2.2 _ q1171) (va_Nw.use rfl (hC.2.2.1.2.2.2.2.2.1 _ q1032 rfl)) g91 g92 g93 ?_
      refine lv_astore_n (lv' := [(3, .ref q9), (0, .ref p0), (1, .int p1), (2, .ref p2)]) hF.1 hF.2.1 dX0_periodOf_15 rfl hl (by decide) rfl (fun ls hl => ?_)
      refine lv_iconst (v := 2) hF.1 hF.2.1 dX0_periodOf_16 (by decide) ?_
      exact vx_ret (h_iret hF hr hlocks hP hS ⟨hc_6, hs_7⟩ dX0_periodOf_17 hw)
  refine lv_i2l hF.1 hF.2.1 dX0_periodOf_7 rfl ?_
  obtain ⟨n_8, f_9, hx_10, hi_11, hw⟩ := hw
  refine x_last hF hC hP hS hx_10 hi_11 dX0_periodOf_8 (fun H locs hP hS => ?_)
  generalize hup X_2 p2 (.inl (1, n_8, .inr (.inl (vp_updL f_9 (Int32.toNatClampNeg 0) (Int32.toInt64 r_1))))) = X_12 at hP hw
  refine lv_goto (tgt := 18) hF.1 hF.2.1 dX0_periodOf_9 (by decide) ?_
  refine lv_iconst (v := 0) hF.1 hF.2.1 dX0_periodOf_18 (by decide) ?_
  exact vx_ret (h_iret hF hr hlocks hP hS ⟨hc_6, hs_7⟩ dX0_periodOf_19 hw)
def wpX0_errorBits (post : Int32 → hX → Prop) (xpost : String → Nat → hX → Prop) (E : Nat) (mc ms : Nat) (X : hX) (p0 : Nat) (p1 : Int32) (p2 : Nat) : Prop := isO X p0 1 ((∃ mc_4 ms_5 : Nat, 0 + mc_4 ≤ mc ∧ 0 + ms_5 ≤ ms ∧ wpX1_errorBits (fun r_1 X_2 => asJ X_2 p2 0 r_1 (fun X_12 => post 0 X_12)) (fun E9 q9 X9 => (E9 = "java/lang/IllegalArgumentException" ∧ post 1 X9) ∨ (E9 = "java/util/NoSuchElementException" ∧ post 2 X9)) E mc_4 ms_5 X p0 p1))
abbrev wsX0_errorBits : List Cond := wsW_ yX0_errorBits cX0_errorBits 4 (some .int) [(0, 8, 11, 19), (0, 8, 14, 65)]
set_option maxHeartbeats 8000000 in
theorem metX0_errorBits (l : Launch) (hlt : l.stackTraces = false) (K : HK) (mc ms : Nat) (sz : Nat) (post : Int32 → hX → Prop) (xpost : String → Nat → hX → Prop) (X0 : hX) (p0 : Nat) (p1 : Int32) (p2 : Nat) : vx_Met l yX0_errorBits wsX0_errorBits (rmh 9 170 mc ms) (hPc K X0 sz [.ref p0, .int p1, .ref p2] (wpX0_errorBits post xpost (K.2.2 0) mc ms X0 p0 p1 p2)) (hQi post K X0 sz) (hXC xpost K X0 sz) mc ms (hA X0 sz) := by
  refine vx_ofWH (cc := cX0_errorBits) (maxL := 4) (ret := (some .int)) (by decide) rfl ?_
  intro p e s m args below meth c s₁ B hml hv
  obtain ⟨rfl, hv⟩ := hv
  obtain ⟨hC, hP, hw⟩ := HC.of hv
  have hsz : s.heap.size = sz := hv.1
  subst hsz
  clear hv
  have hr := B.returns
  have hts := atoms_spec (ws := wsX0_errorBits) B.pre
  have htab : c.exceptionTable.toList = tableOf [(0, 8, 11, 19), (0, 8, 14, 65)] := vx_table (x := yX0_errorBits) B (hts _ List.mem_cons_self)
  have hout : ∀ pc : Nat, (tableOf [(0, 8, 11, 19), (0, 8, 14, 65)]).all (fun x => !covers x pc) = true → ∀ x ∈ c.exceptionTable.toList, covers x pc = false := fun pc h x hx => by rw [htab] at hx; have h1 := List.all_eq_true.mp h x hx; exact (Bool.not_eq_true' _).mp h1
  have hts : ∀ w ∈ lw_all, w.before _ s = true := fun w h => hts w (List.mem_cons_of_mem _ h)
  have hF : CallFix p m c cX0_errorBits 4 s ([.ref p0, .int p1, .ref p2] : List Value).toArray lw_all RX0 := ⟨B.exec, B.bytes, hml, findClass_of_methodNamed B.named, hts⟩
  have hlocks := B.notSynchronized
  have hl := lv_entry ([.ref p0, .int p1, .ref p2]) (n := 4) (Nat.le_of_ble_eq_true rfl)
  rw [lg_entry_eq]
  generalize (lg_sl ([.ref p0, .int p1, .ref p2]) ++ List.replicate (4 - (lg_sl ([.ref p0, .int p1, .ref p2])).length) Slot.unset).toArray = ls at hl ⊢
  have hl : lv_has ls 4 [(0, .ref p0), (1, .int p1), (2, .ref p2)] := hl
  have hS : va_S (hA X0 s.heap.size) s.heap s.heap [] := va_S.rf
  unfold wpX0_errorBits at hw
  show W p l e (rmh 9 170 mc ms) s m _ below meth c _ _ _ _ _ _
  refine lv_aload_n hF.1 hF.2.1 dX0_errorBits_0 rfl (lv_at hl 2 rfl) ?_
  refine lv_iconst (v := 0) hF.1 hF.2.1 dX0_errorBits_1 (by decide) ?_
  refine lv_aload_n hF.1 hF.2.1 dX0_errorBits_2 rfl (lv_at hl 0 rfl) ?_
  refine lv_iload_n hF.1 hF.2.1 dX0_errorBits_3 rfl (lv_at hl 1 rfl) ?_
  obtain ⟨ho_3, hw⟩ := hw
  obtain ⟨mc_4, ms_5, hc_6, hs_7, hw⟩ := hw
  refine hkx_l (hrx_V (As := [.int p1]) (rest := [.int 0, .ref p2]) (T := TX1) (N := 4) (ci := 1) hF hl.1 hC hP hS (metX1_errorBits l hlt K mc_4 ms_5 _ _ _ X0 p0 p1) rfl (cwV 1 hF.2.2.2.2 (lw_V q1435 q1436 q1437 q75 q1438) rfl rfl rfl (by decide +kernel) ⟨Nat.le_of_ble_eq_true rfl, Nat.le_of_ble_eq_true rfl⟩) ho_3 hw rfl rfl (Nat.le_of_ble_eq_true rfl) dX0_errorBits_4 ⟨hc_6, hs_7⟩) hP hS (fun E9 q9 X9 H locs hw hcl hP hS => ?_) (fun r_1 X_2 H locs hw hP hS => ?_)
  · rcases hw with ⟨rfl, hw⟩ | ⟨rfl, hw⟩
    · obtain ⟨ce9, g91, g92, g93⟩ := hcl
      refine vx_catch (own := RX0) (name := "java/lang/IllegalArgumentException") hF.2.2.2.1 (tableOf []) ⟨0, 8, 11, 19⟩ (tableOf [(0, 8, 14, 65)]) htab (fun z hz => nomatch hz) rfl (by decide) (hF.2.2.2.2 _ q1060) (va_Nw.use rfl (hC.2.2.1.2.2.2.2.2.1 _ q503 rfl)) g91 g92 g93 ?_
      refine lv_astore_n (lv' := [(3, .ref q9), (0, .ref p0), (1, .int p1), (2, .ref p2)]) hF.1 hF.2.1 dX0_errorBits_11 rfl hl (by decide) rfl (fun ls hl => ?_)
      refine lv_iconst (v := 1) hF.1 hF.2.1 dX0_errorBits_12 (by decide) ?_
      exact vx_ret (h_iret hF hr hlocks hP hS ⟨hc_6, hs_7⟩ dX0_errorBits_13 hw)
    · obtain ⟨ce9, g91, g92, g93⟩ := hcl
      refine vx_catch (own := RX0) (name := "java/util/NoSuchElementException") hF.2.2.2.1 (tableOf [(0, 8, 11, 19)]) ⟨0, 8, 14, 65⟩ (tableOf []) htab (List.forall_mem_cons.mpr ⟨Or.inr ⟨by decide, _, hF.2.2.2.2 _ q1060, hC.2.2.1.2.2.2.2.2.2.1 ("java/util/NoSuchElementException", "java/lang/IllegalArgumentException") (by decide)⟩, fun _ hz => nomatch hz⟩) rfl (by decide) (hF.2.2.2.2 _ q1171) (va_Nw.use rfl (hC.2.2.1.2.2.2.2.2.1 _ q1032 rfl)) g91 g92 g93 ?_
      refine lv_astore_n (lv' := [(3, .ref q9), (0, .ref p0), (1, .int p1), (2, .ref p2)]) hF.1 hF.2.1 dX0_errorBits_14 rfl hl (by decide) rfl (fun ls hl => ?_)
      refine lv_iconst (v := 2) hF.1 hF.2.1 dX0_errorBits_15 (by decide) ?_
      exact vx_ret (h_iret hF hr hlocks hP hS ⟨hc_6, hs_7⟩ dX0_errorBits_16 hw)
  obtain ⟨n_8, f_9, hx_10, hi_11, hw⟩ := hw
  refine x_last hF hC hP hS hx_10 hi_11 dX0_errorBits_7 (fun H locs hP hS => ?_)
  generalize hup X_2 p2 (.inl (1, n_8, .inr (.inl (vp_updL f_9 (Int32.toNatClampNeg 0) r_1)))) = X_12 at hP hw
  refine lv_goto (tgt := 17) hF.1 hF.2.1 dX0_errorBits_8 (by decide) ?_
  refine lv_iconst (v := 0) hF.1 hF.2.1 dX0_errorBits_17 (by decide) ?_
  exact vx_ret (h_iret hF hr hlocks hP hS ⟨hc_6, hs_7⟩ dX0_errorBits_18 hw)
def wpX0_bestPair (post : Int32 → hX → Prop) (xpost : String → Nat → hX → Prop) (E : Nat) (mc ms : Nat) (X : hX) (p0 : Nat) (p1 : Int32) (p2 : Int32) (p3 : Nat) : Prop := isO X p0 1 ((∃ mc_4 ms_5 : Nat, 0 + mc_4 ≤ mc ∧ 0 + ms_5 ≤ ms ∧ wpX1_bestPair (fun r_1 X_2 => asJ X_2 p3 0 (Int32.toInt64 r_1) (fun X_12 => post 0 X_12)) (fun E9 q9 X9 => (E9 = "java/lang/IllegalArgumentException" ∧ post 1 X9)) E mc_4 ms_5 X p0 p1 p2))
abbrev wsX0_bestPair : List Cond := wsW_ yX0_bestPair cX0_bestPair 5 (some .int) [(0, 10, 13, 19)]
set_option maxHeartbeats 8000000 in
theorem metX0_bestPair (l : Launch) (hlt : l.stackTraces = false) (K : HK) (mc ms : Nat) (sz : Nat) (post : Int32 → hX → Prop) (xpost : String → Nat → hX → Prop) (X0 : hX) (p0 : Nat) (p1 : Int32) (p2 : Int32) (p3 : Nat) : vx_Met l yX0_bestPair wsX0_bestPair (rmh 8 146 mc ms) (hPc K X0 sz [.ref p0, .int p1, .int p2, .ref p3] (wpX0_bestPair post xpost (K.2.2 0) mc ms X0 p0 p1 p2 p3)) (hQi post K X0 sz) (hXC xpost K X0 sz) mc ms (hA X0 sz) := by
  refine vx_ofWH (cc := cX0_bestPair) (maxL := 5) (ret := (some .int)) (by decide) rfl ?_
  intro p e s m args below meth c s₁ B hml hv
  obtain ⟨rfl, hv⟩ := hv
  obtain ⟨hC, hP, hw⟩ := HC.of hv
  have hsz : s.heap.size = sz := hv.1
  subst hsz
  clear hv
  have hr := B.returns
  have hts := atoms_spec (ws := wsX0_bestPair) B.pre
  have htab : c.exceptionTable.toList = tableOf [(0, 10, 13, 19)] := vx_table (x := yX0_bestPair) B (hts _ List.mem_cons_self)
  have hout : ∀ pc : Nat, (tableOf [(0, 10, 13, 19)]).all (fun x => !covers x pc) = true → ∀ x ∈ c.exceptionTable.toList, covers x pc = false := fun pc h x hx => by rw [htab] at hx; have h1 := List.all_eq_true.mp h x hx; exact (Bool.not_eq_true' _).mp h1
  have hts : ∀ w ∈ lw_all, w.before _ s = true := fun w h => hts w (List.mem_cons_of_mem _ h)
  have hF : CallFix p m c cX0_bestPair 5 s ([.ref p0, .int p1, .int p2, .ref p3] : List Value).toArray lw_all RX0 := ⟨B.exec, B.bytes, hml, findClass_of_methodNamed B.named, hts⟩
  have hlocks := B.notSynchronized
  have hl := lv_entry ([.ref p0, .int p1, .int p2, .ref p3]) (n := 5) (Nat.le_of_ble_eq_true rfl)
  rw [lg_entry_eq]
  generalize (lg_sl ([.ref p0, .int p1, .int p2, .ref p3]) ++ List.replicate (5 - (lg_sl ([.ref p0, .int p1, .int p2, .ref p3])).length) Slot.unset).toArray = ls at hl ⊢
  have hl : lv_has ls 5 [(0, .ref p0), (1, .int p1), (2, .int p2), (3, .ref p3)] := hl
  have hS : va_S (hA X0 s.heap.size) s.heap s.heap [] := va_S.rf
  unfold wpX0_bestPair at hw
  show W p l e (rmh 8 146 mc ms) s m _ below meth c _ _ _ _ _ _
  refine lv_aload_n hF.1 hF.2.1 dX0_bestPair_0 rfl (lv_at hl 3 rfl) ?_
  refine lv_iconst (v := 0) hF.1 hF.2.1 dX0_bestPair_1 (by decide) ?_
  refine lv_aload_n hF.1 hF.2.1 dX0_bestPair_2 rfl (lv_at hl 0 rfl) ?_
  refine lv_iload_n hF.1 hF.2.1 dX0_bestPair_3 rfl (lv_at hl 1 rfl) ?_
  refine lv_iload_n hF.1 hF.2.1 dX0_bestPair_4 rfl (lv_at hl 2 rfl) ?_
  obtain ⟨ho_3, hw⟩ := hw
  obtain ⟨mc_4, ms_5, hc_6, hs_7, hw⟩ := hw
  refine hkx_i (hrx_V (As := [.int p1, .int p2]) (rest := [.int 0, .ref p3]) (T := TX1) (N := 4) (ci := 1) hF hl.1 hC hP hS (metX1_bestPair l hlt K mc_4 ms_5 _ _ _ X0 p0 p1 p2) rfl (cwV 2 hF.2.2.2.2 (lw_V q1453 q1454 q1455 q75 q1456) rfl rfl rfl (by decide +kernel) ⟨Nat.le_of_ble_eq_true rfl, Nat.le_of_ble_eq_true rfl⟩) ho_3 hw rfl rfl (Nat.le_of_ble_eq_true rfl) dX0_bestPair_5 ⟨hc_6, hs_7⟩) hP hS (fun E9 q9 X9 H locs hw hcl hP hS => ?_) (fun r_1 X_2 H locs hw hP hS => ?_)
  · obtain ⟨rfl, hw⟩ := hw
    obtain ⟨ce9, g91, g92, g93⟩ := hcl
    refine vx_catch (own := RX0) (name := "java/lang/IllegalArgumentException") hF.2.2.2.1 (tableOf []) ⟨0, 10, 13, 19⟩ (tableOf []) htab (fun z hz => nomatch hz) rfl (by decide) (hF.2.2.2.2 _ q1060) (va_Nw.use rfl (hC.2.2.1.2.2.2.2.2.1 _ q503 rfl)) g91 g92 g93 ?_
    refine lv_astore (lv' := [(4, .ref q9), (0, .ref p0), (1, .int p1), (2, .int p2), (3, .ref p3)]) hF.1 hF.2.1 dX0_bestPair_13 hl (by decide) rfl (fun ls hl => ?_)
    refine lv_iconst (v := 1) hF.1 hF.2.1 dX0_bestPair_15 (by decide) ?_
    exact vx_ret (h_iret hF hr hlocks hP hS ⟨hc_6, hs_7⟩ dX0_bestPair_16 hw)
  refine lv_i2l hF.1 hF.2.1 dX0_bestPair_8 rfl ?_
  obtain ⟨n_8, f_9, hx_10, hi_11, hw⟩ := hw
  refine x_last hF hC hP hS hx_10 hi_11 dX0_bestPair_9 (fun H locs hP hS => ?_)
  generalize hup X_2 p3 (.inl (1, n_8, .inr (.inl (vp_updL f_9 (Int32.toNatClampNeg 0) (Int32.toInt64 r_1))))) = X_12 at hP hw
  refine lv_goto (tgt := 17) hF.1 hF.2.1 dX0_bestPair_10 (by decide) ?_
  refine lv_iconst (v := 0) hF.1 hF.2.1 dX0_bestPair_17 (by decide) ?_
  exact vx_ret (h_iret hF hr hlocks hP hS ⟨hc_6, hs_7⟩ dX0_bestPair_18 hw)
def wpX0_degrees (post : Int32 → hX → Prop) (xpost : String → Nat → hX → Prop) (E : Nat) (mc ms : Nat) (X : hX) (p0 : Nat) (p1 : Int32) (p2 : Nat) : Prop := isO X p0 1 ((∃ mc_4 ms_5 : Nat, 0 + mc_4 ≤ mc ∧ 0 + ms_5 ≤ ms ∧ wpX1_degrees (fun r_1 X_2 => asF X_2 p2 0 r_1 (fun X_12 => post 0 X_12)) (fun E9 q9 X9 => (E9 = "java/lang/IllegalArgumentException" ∧ post 1 X9) ∨ (E9 = "java/util/NoSuchElementException" ∧ post 2 X9)) E mc_4 ms_5 X p0 p1))
abbrev wsX0_degrees : List Cond := wsW_ yX0_degrees cX0_degrees 4 (some .int) [(0, 8, 11, 19), (0, 8, 14, 65)]
set_option maxHeartbeats 8000000 in
theorem metX0_degrees (l : Launch) (hlt : l.stackTraces = false) (K : HK) (mc ms : Nat) (sz : Nat) (post : Int32 → hX → Prop) (xpost : String → Nat → hX → Prop) (X0 : hX) (p0 : Nat) (p1 : Int32) (p2 : Nat) : vx_Met l yX0_degrees wsX0_degrees (rmh 10 187 mc ms) (hPc K X0 sz [.ref p0, .int p1, .ref p2] (wpX0_degrees post xpost (K.2.2 0) mc ms X0 p0 p1 p2)) (hQi post K X0 sz) (hXC xpost K X0 sz) mc ms (hA X0 sz) := by
  refine vx_ofWH (cc := cX0_degrees) (maxL := 4) (ret := (some .int)) (by decide) rfl ?_
  intro p e s m args below meth c s₁ B hml hv
  obtain ⟨rfl, hv⟩ := hv
  obtain ⟨hC, hP, hw⟩ := HC.of hv
  have hsz : s.heap.size = sz := hv.1
  subst hsz
  clear hv
  have hr := B.returns
  have hts := atoms_spec (ws := wsX0_degrees) B.pre
  have htab : c.exceptionTable.toList = tableOf [(0, 8, 11, 19), (0, 8, 14, 65)] := vx_table (x := yX0_degrees) B (hts _ List.mem_cons_self)
  have hout : ∀ pc : Nat, (tableOf [(0, 8, 11, 19), (0, 8, 14, 65)]).all (fun x => !covers x pc) = true → ∀ x ∈ c.exceptionTable.toList, covers x pc = false := fun pc h x hx => by rw [htab] at hx; have h1 := List.all_eq_true.mp h x hx; exact (Bool.not_eq_true' _).mp h1
  have hts : ∀ w ∈ lw_all, w.before _ s = true := fun w h => hts w (List.mem_cons_of_mem _ h)
  have hF : CallFix p m c cX0_degrees 4 s ([.ref p0, .int p1, .ref p2] : List Value).toArray lw_all RX0 := ⟨B.exec, B.bytes, hml, findClass_of_methodNamed B.named, hts⟩
  have hlocks := B.notSynchronized
  have hl := lv_entry ([.ref p0, .int p1, .ref p2]) (n := 4) (Nat.le_of_ble_eq_true rfl)
  rw [lg_entry_eq]
  generalize (lg_sl ([.ref p0, .int p1, .ref p2]) ++ List.replicate (4 - (lg_sl ([.ref p0, .int p1, .ref p2])).length) Slot.unset).toArray = ls at hl ⊢
  have hl : lv_has ls 4 [(0, .ref p0), (1, .int p1), (2, .ref p2)] := hl
  have hS : va_S (hA X0 s.heap.size) s.heap s.heap [] := va_S.rf
  unfold wpX0_degrees at hw
  show W p l e (rmh 10 187 mc ms) s m _ below meth c _ _ _ _ _ _
  refine lv_aload_n hF.1 hF.2.1 dX0_degrees_0 rfl (lv_at hl 2 rfl) ?_
  refine lv_iconst (v := 0) hF.1 hF.2.1 dX0_degrees_1 (by decide) ?_
  refine lv_aload_n hF.1 hF.2.1 dX0_degrees_2 rfl (lv_at hl 0 rfl) ?_
  refine lv_iload_n hF.1 hF.2.1 dX0_degrees_3 rfl (lv_at hl 1 rfl) ?_
  obtain ⟨ho_3, hw⟩ := hw
  obtain ⟨mc_4, ms_5, hc_6, hs_7, hw⟩ := hw
  refine hkx_f (hrx_V (As := [.int p1]) (rest := [.int 0, .ref p2]) (T := TX1) (N := 4) (ci := 1) hF hl.1 hC hP hS (metX1_degrees l hlt K mc_4 ms_5 _ _ _ X0 p0 p1) rfl (cwV 1 hF.2.2.2.2 (lw_V q1461 q1462 q1463 q75 q1464) rfl rfl rfl (by decide +kernel) ⟨Nat.le_of_ble_eq_true rfl, Nat.le_of_ble_eq_true rfl⟩) ho_3 hw rfl rfl (Nat.le_of_ble_eq_true rfl) dX0_degrees_4 ⟨hc_6, hs_7⟩) hP hS (fun E9 q9 X9 H locs hw hcl hP hS => ?_) (fun r_1 X_2 H locs hw hP hS => ?_)
  · rcases hw with ⟨rfl, hw⟩ | ⟨rfl, hw⟩
    · obtain ⟨ce9, g91, g92, g93⟩ := hcl
      refine vx_catch (own := RX0) (name := "java/lang/IllegalArgumentException") hF.2.2.2.1 (tableOf []) ⟨0, 8, 11, 19⟩ (tableOf [(0, 8, 14, 65)]) htab (fun z hz => nomatch hz) rfl (by decide) (hF.2.2.2.2 _ q1060) (va_Nw.use rfl (hC.2.2.1.2.2.2.2.2.1 _ q503 rfl)) g91 g92 g93 ?_
      refine lv_astore_n (lv' := [(3, .ref q9), (0, .ref p0), (1, .int p1), (2, .ref p2)]) hF.1 hF.2.1 dX0_degrees_11 rfl hl (by decide) rfl (fun ls hl => ?_)
      refine lv_iconst (v := 1) hF.1 hF.2.1 dX0_degrees_12 (by decide) ?_
      exact vx_ret (h_iret hF hr hlocks hP hS ⟨hc_6, hs_7⟩ dX0_degrees_13 hw)
    · obtain ⟨ce9, g91, g92, g93⟩ := hcl
      refine vx_catch (own := RX0) (name := "java/util/NoSuchElementException") hF.2.2.2.1 (tableOf [(0, 8, 11, 19)]) ⟨0, 8, 14, 65⟩ (tableOf []) htab (List.forall_mem_cons.mpr ⟨Or.inr ⟨by decide, _, hF.2.2.2.2 _ q1060, hC.2.2.1.2.2.2.2.2.2.1 ("java/util/NoSuchElementException", "java/lang/IllegalArgumentException") (by decide)⟩, fun _ hz => nomatch hz⟩) rfl (by decide) (hF.2.2.2.2 _ q1171) (va_Nw.use rfl (hC.2.2.1.2.2.2.2.2.1 _ q1032 rfl)) g91 g92 g93 ?_
      refine lv_astore_n (lv' := [(3, .ref q9), (0, .ref p0), (1, .int p1), (2, .ref p2)]) hF.1 hF.2.1 dX0_degrees_14 rfl hl (by decide) rfl (fun ls hl => ?_)
      refine lv_iconst (v := 2) hF.1 hF.2.1 dX0_degrees_15 (by decide) ?_
      exact vx_ret (h_iret hF hr hlocks hP hS ⟨hc_6, hs_7⟩ dX0_degrees_16 hw)
  obtain ⟨n_8, f_9, hx_10, hi_11, hw⟩ := hw
  refine x_fast hF hC hP hS hx_10 hi_11 dX0_degrees_7 (fun H locs hP hS => ?_)
  generalize hup X_2 p2 (.inl (3, n_8, .inr (.inr (.inl (vf_upd f_9 (Int32.toNatClampNeg 0) r_1))))) = X_12 at hP hw
  refine lv_goto (tgt := 17) hF.1 hF.2.1 dX0_degrees_8 (by decide) ?_
  refine lv_iconst (v := 0) hF.1 hF.2.1 dX0_degrees_17 (by decide) ?_
  exact vx_ret (h_iret hF hr hlocks hP hS ⟨hc_6, hs_7⟩ dX0_degrees_18 hw)
def wpX0_degreeBits (post : Int32 → hX → Prop) (xpost : String → Nat → hX → Prop) (E : Nat) (mc ms : Nat) (X : hX) (p0 : Nat) (p1 : Int32) (p2 : Nat) : Prop := isO X p0 1 ((∃ mc_4 ms_5 : Nat, 0 + mc_4 ≤ mc ∧ 0 + ms_5 ≤ ms ∧ wpX1_degreeBits (fun r_1 X_2 => asJ X_2 p2 0 (Int32.toInt64 r_1) (fun X_12 => post 0 X_12)) (fun E9 q9 X9 => (E9 = "java/lang/IllegalArgumentException" ∧ post 1 X9) ∨ (E9 = "java/util/NoSuchElementException" ∧ post 2 X9)) E mc_4 ms_5 X p0 p1))
abbrev wsX0_degreeBits : List Cond := wsW_ yX0_degreeBits cX0_degreeBits 4 (some .int) [(0, 9, 12, 19), (0, 9, 15, 65)]
set_option maxHeartbeats 8000000 in
theorem metX0_degreeBits (l : Launch) (hlt : l.stackTraces = false) (K : HK) (mc ms : Nat) (sz : Nat) (post : Int32 → hX → Prop) (xpost : String → Nat → hX → Prop) (X0 : hX) (p0 : Nat) (p1 : Int32) (p2 : Nat) : vx_Met l yX0_degreeBits wsX0_degreeBits (rmh 11 208 mc ms) (hPc K X0 sz [.ref p0, .int p1, .ref p2] (wpX0_degreeBits post xpost (K.2.2 0) mc ms X0 p0 p1 p2)) (hQi post K X0 sz) (hXC xpost K X0 sz) mc ms (hA X0 sz) := by
  refine vx_ofWH (cc := cX0_degreeBits) (maxL := 4) (ret := (some .int)) (by decide) rfl ?_
  intro p e s m args below meth c s₁ B hml hv
  obtain ⟨rfl, hv⟩ := hv
  obtain ⟨hC, hP, hw⟩ := HC.of hv
  have hsz : s.heap.size = sz := hv.1
  subst hsz
  clear hv
  have hr := B.returns
  have hts := atoms_spec (ws := wsX0_degreeBits) B.pre
  have htab : c.exceptionTable.toList = tableOf [(0, 9, 12, 19), (0, 9, 15, 65)] := vx_table (x := yX0_degreeBits) B (hts _ List.mem_cons_self)
  have hout : ∀ pc : Nat, (tableOf [(0, 9, 12, 19), (0, 9, 15, 65)]).all (fun x => !covers x pc) = true → ∀ x ∈ c.exceptionTable.toList, covers x pc = false := fun pc h x hx => by rw [htab] at hx; have h1 := List.all_eq_true.mp h x hx; exact (Bool.not_eq_true' _).mp h1
  have hts : ∀ w ∈ lw_all, w.before _ s = true := fun w h => hts w (List.mem_cons_of_mem _ h)
  have hF : CallFix p m c cX0_degreeBits 4 s ([.ref p0, .int p1, .ref p2] : List Value).toArray lw_all RX0 := ⟨B.exec, B.bytes, hml, findClass_of_methodNamed B.named, hts⟩
  have hlocks := B.notSynchronized
  have hl := lv_entry ([.ref p0, .int p1, .ref p2]) (n := 4) (Nat.le_of_ble_eq_true rfl)
  rw [lg_entry_eq]
  generalize (lg_sl ([.ref p0, .int p1, .ref p2]) ++ List.replicate (4 - (lg_sl ([.ref p0, .int p1, .ref p2])).length) Slot.unset).toArray = ls at hl ⊢
  have hl : lv_has ls 4 [(0, .ref p0), (1, .int p1), (2, .ref p2)] := hl
  have hS : va_S (hA X0 s.heap.size) s.heap s.heap [] := va_S.rf
  unfold wpX0_degreeBits at hw
  show W p l e (rmh 11 208 mc ms) s m _ below meth c _ _ _ _ _ _
  refine lv_aload_n hF.1 hF.2.1 dX0_degreeBits_0 rfl (lv_at hl 2 rfl) ?_
  refine lv_iconst (v := 0) hF.1 hF.2.1 dX0_degreeBits_1 (by decide) ?_
  refine lv_aload_n hF.1 hF.2.1 dX0_degreeBits_2 rfl (lv_at hl 0 rfl) ?_
  refine lv_iload_n hF.1 hF.2.1 dX0_degreeBits_3 rfl (lv_at hl 1 rfl) ?_
  obtain ⟨ho_3, hw⟩ := hw
  obtain ⟨mc_4, ms_5, hc_6, hs_7, hw⟩ := hw
  refine hkx_i (hrx_V (As := [.int p1]) (rest := [.int 0, .ref p2]) (T := TX1) (N := 4) (ci := 1) hF hl.1 hC hP hS (metX1_degreeBits l hlt K mc_4 ms_5 _ _ _ X0 p0 p1) rfl (cwV 1 hF.2.2.2.2 (lw_V q1470 q1471 q1472 q75 q1473) rfl rfl rfl (by decide +kernel) ⟨Nat.le_of_ble_eq_true rfl, Nat.le_of_ble_eq_true rfl⟩) ho_3 hw rfl rfl (Nat.le_of_ble_eq_true rfl) dX0_degreeBits_4 ⟨hc_6, hs_7⟩) hP hS (fun E9 q9 X9 H locs hw hcl hP hS => ?_) (fun r_1 X_2 H locs hw hP hS => ?_)
  · rcases hw with ⟨rfl, hw⟩ | ⟨rfl, hw⟩
    · obtain ⟨ce9, g91, g92, g93⟩ := hcl
      refine vx_catch (own := RX0) (name := "java/lang/IllegalArgumentException") hF.2.2.2.1 (tableOf []) ⟨0, 9, 12, 19⟩ (tableOf [(0, 9, 15, 65)]) htab (fun z hz => nomatch hz) rfl (by decide) (hF.2.2.2.2 _ q1060) (va_Nw.use rfl (hC.2.2.1.2.2.2.2.2.1 _ q503 rfl)) g91 g92 g93 ?_
      refine lv_astore_n (lv' := [(3, .ref q9), (0, .ref p0), (1, .int p1), (2, .ref p2)]) hF.1 hF.2.1 dX0_degreeBits_12 rfl hl (by decide) rfl (fun ls hl => ?_)
      refine lv_iconst (v := 1) hF.1 hF.2.1 dX0_degreeBits_13 (by decide) ?_
      exact vx_ret (h_iret hF hr hlocks hP hS ⟨hc_6, hs_7⟩ dX0_degreeBits_14 hw)
    · obtain ⟨ce9, g91, g92, g93⟩ := hcl
      refine vx_catch (own := RX0) (name := "java/util/NoSuchElementException") hF.2.2.2.1 (tableOf [(0, 9, 12, 19)]) ⟨0, 9, 15, 65⟩ (tableOf []) htab (List.forall_mem_cons.mpr ⟨Or.inr ⟨by decide, _, hF.2.2.2.2 _ q1060, hC.2.2.1.2.2.2.2.2.2.1 ("java/util/NoSuchElementException", "java/lang/IllegalArgumentException") (by decide)⟩, fun _ hz => nomatch hz⟩) rfl (by decide) (hF.2.2.2.2 _ q1171) (va_Nw.use rfl (hC.2.2.1.2.2.2.2.2.1 _ q1032 rfl)) g91 g92 g93 ?_
      refine lv_astore_n (lv' := [(3, .ref q9), (0, .ref p0), (1, .int p1), (2, .ref p2)]) hF.1 hF.2.1 dX0_degreeBits_15 rfl hl (by decide) rfl (fun ls hl => ?_)
      refine lv_iconst (v := 2) hF.1 hF.2.1 dX0_degreeBits_16 (by decide) ?_
      exact vx_ret (h_iret hF hr hlocks hP hS ⟨hc_6, hs_7⟩ dX0_degreeBits_17 hw)
  refine lv_i2l hF.1 hF.2.1 dX0_degreeBits_7 rfl ?_
  obtain ⟨n_8, f_9, hx_10, hi_11, hw⟩ := hw
  refine x_last hF hC hP hS hx_10 hi_11 dX0_degreeBits_8 (fun H locs hP hS => ?_)
  generalize hup X_2 p2 (.inl (1, n_8, .inr (.inl (vp_updL f_9 (Int32.toNatClampNeg 0) (Int32.toInt64 r_1))))) = X_12 at hP hw
  refine lv_goto (tgt := 18) hF.1 hF.2.1 dX0_degreeBits_9 (by decide) ?_
  refine lv_iconst (v := 0) hF.1 hF.2.1 dX0_degreeBits_18 (by decide) ?_
  exact vx_ret (h_iret hF hr hlocks hP hS ⟨hc_6, hs_7⟩ dX0_degreeBits_19 hw)
def wpX0_bestTrain (post : Int32 → hX → Prop) (xpost : String → Nat → hX → Prop) (E : Nat) (mc ms : Nat) (X : hX) (p0 : Nat) (p1 : Int32) (p2 : Nat) : Prop := isO X p0 1 ((∃ mc_4 ms_5 : Nat, 0 + mc_4 ≤ mc ∧ 0 + ms_5 ≤ ms ∧ wpX1_bestTrain (fun r_1 X_2 => asJ X_2 p2 0 (Int32.toInt64 r_1) (fun X_12 => post 0 X_12)) (fun E9 q9 X9 => (E9 = "java/lang/IllegalArgumentException" ∧ post 1 X9) ∨ (E9 = "java/util/NoSuchElementException" ∧ post 2 X9)) E mc_4 ms_5 X p0 p1))
abbrev wsX0_bestTrain : List Cond := wsW_ yX0_bestTrain cX0_bestTrain 4 (some .int) [(0, 9, 12, 19), (0, 9, 15, 65)]
set_option maxHeartbeats 8000000 in
theorem metX0_bestTrain (l : Launch) (hlt : l.stackTraces = false) (K : HK) (mc ms : Nat) (sz : Nat) (post : Int32 → hX → Prop) (xpost : String → Nat → hX → Prop) (X0 : hX) (p0 : Nat) (p1 : Int32) (p2 : Nat) : vx_Met l yX0_bestTrain wsX0_bestTrain (rmh 9 173 mc ms) (hPc K X0 sz [.ref p0, .int p1, .ref p2] (wpX0_bestTrain post xpost (K.2.2 0) mc ms X0 p0 p1 p2)) (hQi post K X0 sz) (hXC xpost K X0 sz) mc ms (hA X0 sz) := by
  refine vx_ofWH (cc := cX0_bestTrain) (maxL := 4) (ret := (some .int)) (by decide) rfl ?_
  intro p e s m args below meth c s₁ B hml hv
  obtain ⟨rfl, hv⟩ := hv
  obtain ⟨hC, hP, hw⟩ := HC.of hv
  have hsz : s.heap.size = sz := hv.1
  subst hsz
  clear hv
  have hr := B.returns
  have hts := atoms_spec (ws := wsX0_bestTrain) B.pre
  have htab : c.exceptionTable.toList = tableOf [(0, 9, 12, 19), (0, 9, 15, 65)] := vx_table (x := yX0_bestTrain) B (hts _ List.mem_cons_self)
  have hout : ∀ pc : Nat, (tableOf [(0, 9, 12, 19), (0, 9, 15, 65)]).all (fun x => !covers x pc) = true → ∀ x ∈ c.exceptionTable.toList, covers x pc = false := fun pc h x hx => by rw [htab] at hx; have h1 := List.all_eq_true.mp h x hx; exact (Bool.not_eq_true' _).mp h1
  have hts : ∀ w ∈ lw_all, w.before _ s = true := fun w h => hts w (List.mem_cons_of_mem _ h)
  have hF : CallFix p m c cX0_bestTrain 4 s ([.ref p0, .int p1, .ref p2] : List Value).toArray lw_all RX0 := ⟨B.exec, B.bytes, hml, findClass_of_methodNamed B.named, hts⟩
  have hlocks := B.notSynchronized
  have hl := lv_entry ([.ref p0, .int p1, .ref p2]) (n := 4) (Nat.le_of_ble_eq_true rfl)
  rw [lg_entry_eq]
  generalize (lg_sl ([.ref p0, .int p1, .ref p2]) ++ List.replicate (4 - (lg_sl ([.ref p0, .int p1, .ref p2])).length) Slot.unset).toArray = ls at hl ⊢
  have hl : lv_has ls 4 [(0, .ref p0), (1, .int p1), (2, .ref p2)] := hl
  have hS : va_S (hA X0 s.heap.size) s.heap s.heap [] := va_S.rf
  unfold wpX0_bestTrain at hw
  show W p l e (rmh 9 173 mc ms) s m _ below meth c _ _ _ _ _ _
  refine lv_aload_n hF.1 hF.2.1 dX0_bestTrain_0 rfl (lv_at hl 2 rfl) ?_
  refine lv_iconst (v := 0) hF.1 hF.2.1 dX0_bestTrain_1 (by decide) ?_
  refine lv_aload_n hF.1 hF.2.1 dX0_bestTrain_2 rfl (lv_at hl 0 rfl) ?_
  refine lv_iload_n hF.1 hF.2.1 dX0_bestTrain_3 rfl (lv_at hl 1 rfl) ?_
  obtain ⟨ho_3, hw⟩ := hw
  obtain ⟨mc_4, ms_5, hc_6, hs_7, hw⟩ := hw
  refine hkx_i (hrx_V (As := [.int p1]) (rest := [.int 0, .ref p2]) (T := TX1) (N := 4) (ci := 1) hF hl.1 hC hP hS (metX1_bestTrain l hlt K mc_4 ms_5 _ _ _ X0 p0 p1) rfl (cwV 1 hF.2.2.2.2 (lw_V q1488 q1489 q1490 q75 q1491) rfl rfl rfl (by decide +kernel) ⟨Nat.le_of_ble_eq_true rfl, Nat.le_of_ble_eq_true rfl⟩) ho_3 hw rfl rfl (Nat.le_of_ble_eq_true rfl) dX0_bestTrain_4 ⟨hc_6, hs_7⟩) hP hS (fun E9 q9 X9 H locs hw hcl hP hS => ?_) (fun r_1 X_2 H locs hw hP hS => ?_)
  · rcases hw with ⟨rfl, hw⟩ | ⟨rfl, hw⟩
    · obtain ⟨ce9, g91, g92, g93⟩ := hcl
      refine vx_catch (own := RX0) (name := "java/lang/IllegalArgumentException") hF.2.2.2.1 (tableOf []) ⟨0, 9, 12, 19⟩ (tableOf [(0, 9, 15, 65)]) htab (fun z hz => nomatch hz) rfl (by decide) (hF.2.2.2.2 _ q1060) (va_Nw.use rfl (hC.2.2.1.2.2.2.2.2.1 _ q503 rfl)) g91 g92 g93 ?_
      refine lv_astore_n (lv' := [(3, .ref q9), (0, .ref p0), (1, .int p1), (2, .ref p2)]) hF.1 hF.2.1 dX0_bestTrain_12 rfl hl (by decide) rfl (fun ls hl => ?_)
      refine lv_iconst (v := 1) hF.1 hF.2.1 dX0_bestTrain_13 (by decide) ?_
      exact vx_ret (h_iret hF hr hlocks hP hS ⟨hc_6, hs_7⟩ dX0_bestTrain_14 hw)
    · obtain ⟨ce9, g91, g92, g93⟩ := hcl
      refine vx_catch (own := RX0) (name := "java/util/NoSuchElementException") hF.2.2.2.1 (tableOf [(0, 9, 12, 19)]) ⟨0, 9, 15, 65⟩ (tableOf []) htab (List.forall_mem_cons.mpr ⟨Or.inr ⟨by decide, _, hF.2.2.2.2 _ q1060, hC.2.2.1.2.2.2.2.2.2.1 ("java/util/NoSuchElementException", "java/lang/IllegalArgumentException") (by decide)⟩, fun _ hz => nomatch hz⟩) rfl (by decide) (hF.2.2.2.2 _ q1171) (va_Nw.use rfl (hC.2.2.1.2.2.2.2.2.1 _ q1032 rfl)) g91 g92 g93 ?_
      refine lv_astore_n (lv' := [(3, .ref q9), (0, .ref p0), (1, .int p1), (2, .ref p2)]) hF.1 hF.2.1 dX0_bestTrain_15 rfl hl (by decide) rfl (fun ls hl => ?_)
      refine lv_iconst (v := 2) hF.1 hF.2.1 dX0_bestTrain_16 (by decide) ?_
      exact vx_ret (h_iret hF hr hlocks hP hS ⟨hc_6, hs_7⟩ dX0_bestTrain_17 hw)
  refine lv_i2l hF.1 hF.2.1 dX0_bestTrain_7 rfl ?_
  obtain ⟨n_8, f_9, hx_10, hi_11, hw⟩ := hw
  refine x_last hF hC hP hS hx_10 hi_11 dX0_bestTrain_8 (fun H locs hP hS => ?_)
  generalize hup X_2 p2 (.inl (1, n_8, .inr (.inl (vp_updL f_9 (Int32.toNatClampNeg 0) (Int32.toInt64 r_1))))) = X_12 at hP hw
  refine lv_goto (tgt := 18) hF.1 hF.2.1 dX0_bestTrain_9 (by decide) ?_
  refine lv_iconst (v := 0) hF.1 hF.2.1 dX0_bestTrain_18 (by decide) ?_
  exact vx_ret (h_iret hF hr hlocks hP hS ⟨hc_6, hs_7⟩ dX0_bestTrain_19 hw)
def wpX0_goBack (post : Int32 → hX → Prop) (xpost : String → Nat → hX → Prop) (E : Nat) (mc ms : Nat) (X : hX) (p0 : Nat) (p1 : Nat) : Prop := isO X p0 1 ((∃ mc_4 ms_5 : Nat, 0 + mc_4 ≤ mc ∧ 0 + ms_5 ≤ ms ∧ wpX1_goBack (fun r_1 X_2 => asJ X_2 p1 0 (Int32.toInt64 r_1) (fun X_12 => post 0 X_12)) (fun E9 q9 X9 => (E9 = "java/lang/IllegalStateException" ∧ post 1 X9)) E mc_4 ms_5 X p0))
abbrev wsX0_goBack : List Cond := wsW_ yX0_goBack cX0_goBack 3 (some .int) [(0, 8, 11, 13)]
set_option maxHeartbeats 8000000 in
theorem metX0_goBack (l : Launch) (hlt : l.stackTraces = false) (K : HK) (mc ms : Nat) (sz : Nat) (post : Int32 → hX → Prop) (xpost : String → Nat → hX → Prop) (X0 : hX) (p0 : Nat) (p1 : Nat) : vx_Met l yX0_goBack wsX0_goBack (rmh 8 135 mc ms) (hPc K X0 sz [.ref p0, .ref p1] (wpX0_goBack post xpost (K.2.2 0) mc ms X0 p0 p1)) (hQi post K X0 sz) (hXC xpost K X0 sz) mc ms (hA X0 sz) := by
  refine vx_ofWH (cc := cX0_goBack) (maxL := 3) (ret := (some .int)) (by decide) rfl ?_
  intro p e s m args below meth c s₁ B hml hv
  obtain ⟨rfl, hv⟩ := hv
  obtain ⟨hC, hP, hw⟩ := HC.of hv
  have hsz : s.heap.size = sz := hv.1
  subst hsz
  clear hv
  have hr := B.returns
  have hts := atoms_spec (ws := wsX0_goBack) B.pre
  have htab : c.exceptionTable.toList = tableOf [(0, 8, 11, 13)] := vx_table (x := yX0_goBack) B (hts _ List.mem_cons_self)
  have hout : ∀ pc : Nat, (tableOf [(0, 8, 11, 13)]).all (fun x => !covers x pc) = true → ∀ x ∈ c.exceptionTable.toList, covers x pc = false := fun pc h x hx => by rw [htab] at hx; have h1 := List.all_eq_true.mp h x hx; exact (Bool.not_eq_true' _).mp h1
  have hts : ∀ w ∈ lw_all, w.before _ s = true := fun w h => hts w (List.mem_cons_of_mem _ h)
  have hF : CallFix p m c cX0_goBack 3 s ([.ref p0, .ref p1] : List Value).toArray lw_all RX0 := ⟨B.exec, B.bytes, hml, findClass_of_methodNamed B.named, hts⟩
  have hlocks := B.notSynchronized
  have hl := lv_entry ([.ref p0, .ref p1]) (n := 3) (Nat.le_of_ble_eq_true rfl)
  rw [lg_entry_eq]
  generalize (lg_sl ([.ref p0, .ref p1]) ++ List.replicate (3 - (lg_sl ([.ref p0, .ref p1])).length) Slot.unset).toArray = ls at hl ⊢
  have hl : lv_has ls 3 [(0, .ref p0), (1, .ref p1)] := hl
  have hS : va_S (hA X0 s.heap.size) s.heap s.heap [] := va_S.rf
  unfold wpX0_goBack at hw
  show W p l e (rmh 8 135 mc ms) s m _ below meth c _ _ _ _ _ _
  refine lv_aload_n hF.1 hF.2.1 dX0_goBack_0 rfl (lv_at hl 1 rfl) ?_
  refine lv_iconst (v := 0) hF.1 hF.2.1 dX0_goBack_1 (by decide) ?_
  refine lv_aload_n hF.1 hF.2.1 dX0_goBack_2 rfl (lv_at hl 0 rfl) ?_
  obtain ⟨ho_3, hw⟩ := hw
  obtain ⟨mc_4, ms_5, hc_6, hs_7, hw⟩ := hw
  refine hkx_i (hrx_V (As := []) (rest := [.int 0, .ref p1]) (T := TX1) (N := 4) (ci := 1) hF hl.1 hC hP hS (metX1_goBack l hlt K mc_4 ms_5 _ _ _ X0 p0) rfl (cwV 0 hF.2.2.2.2 (lw_V q1506 q1507 q1508 q75 q1509) rfl rfl rfl (by decide +kernel) ⟨Nat.le_of_ble_eq_true rfl, Nat.le_of_ble_eq_true rfl⟩) ho_3 hw rfl rfl (Nat.le_of_ble_eq_true rfl) dX0_goBack_3 ⟨hc_6, hs_7⟩) hP hS (fun E9 q9 X9 H locs hw hcl hP hS => ?_) (fun r_1 X_2 H locs hw hP hS => ?_)
  · obtain ⟨rfl, hw⟩ := hw
    obtain ⟨ce9, g91, g92, g93⟩ := hcl
    refine vx_catch (own := RX0) (name := "java/lang/IllegalStateException") hF.2.2.2.1 (tableOf []) ⟨0, 8, 11, 13⟩ (tableOf []) htab (fun z hz => nomatch hz) rfl (by decide) (hF.2.2.2.2 _ q739) (va_Nw.use rfl (hC.2.2.1.2.2.2.2.2.1 _ q1002 rfl)) g91 g92 g93 ?_
    refine lv_astore_n (lv' := [(2, .ref q9), (0, .ref p0), (1, .ref p1)]) hF.1 hF.2.1 dX0_goBack_11 rfl hl (by decide) rfl (fun ls hl => ?_)
    refine lv_iconst (v := 1) hF.1 hF.2.1 dX0_goBack_12 (by decide) ?_
    exact vx_ret (h_iret hF hr hlocks hP hS ⟨hc_6, hs_7⟩ dX0_goBack_13 hw)
  refine lv_i2l hF.1 hF.2.1 dX0_goBack_6 rfl ?_
  obtain ⟨n_8, f_9, hx_10, hi_11, hw⟩ := hw
  refine x_last hF hC hP hS hx_10 hi_11 dX0_goBack_7 (fun H locs hP hS => ?_)
  generalize hup X_2 p1 (.inl (1, n_8, .inr (.inl (vp_updL f_9 (Int32.toNatClampNeg 0) (Int32.toInt64 r_1))))) = X_12 at hP hw
  refine lv_goto (tgt := 14) hF.1 hF.2.1 dX0_goBack_8 (by decide) ?_
  refine lv_iconst (v := 0) hF.1 hF.2.1 dX0_goBack_14 (by decide) ?_
  exact vx_ret (h_iret hF hr hlocks hP hS ⟨hc_6, hs_7⟩ dX0_goBack_15 hw)
def wpX0_undo (post : Int32 → hX → Prop) (xpost : String → Nat → hX → Prop) (E : Nat) (mc ms : Nat) (X : hX) (p0 : Nat) (p1 : Nat) : Prop := isO X p0 1 ((∃ mc_4 ms_5 : Nat, 0 + mc_4 ≤ mc ∧ 0 + ms_5 ≤ ms ∧ wpX1_undo (fun r_1 X_2 => asJ X_2 p1 0 (Int32.toInt64 r_1) (fun X_12 => post 0 X_12)) (fun E9 q9 X9 => (E9 = "java/lang/IllegalStateException" ∧ post 1 X9)) E mc_4 ms_5 X p0))
abbrev wsX0_undo : List Cond := wsW_ yX0_undo cX0_undo 3 (some .int) [(0, 8, 11, 13)]
set_option maxHeartbeats 8000000 in
theorem metX0_undo (l : Launch) (hlt : l.stackTraces = false) (K : HK) (mc ms : Nat) (sz : Nat) (post : Int32 → hX → Prop) (xpost : String → Nat → hX → Prop) (X0 : hX) (p0 : Nat) (p1 : Nat) : vx_Met l yX0_undo wsX0_undo (rmh 8 135 mc ms) (hPc K X0 sz [.ref p0, .ref p1] (wpX0_undo post xpost (K.2.2 0) mc ms X0 p0 p1)) (hQi post K X0 sz) (hXC xpost K X0 sz) mc ms (hA X0 sz) := by
  refine vx_ofWH (cc := cX0_undo) (maxL := 3) (ret := (some .int)) (by decide) rfl ?_
  intro p e s m args below meth c s₁ B hml hv
  obtain ⟨rfl, hv⟩ := hv
  obtain ⟨hC, hP, hw⟩ := HC.of hv
  have hsz : s.heap.size = sz := hv.1
  subst hsz
  clear hv
  have hr := B.returns
  have hts := atoms_spec (ws := wsX0_undo) B.pre
  have htab : c.exceptionTable.toList = tableOf [(0, 8, 11, 13)] := vx_table (x := yX0_undo) B (hts _ List.mem_cons_self)
  have hout : ∀ pc : Nat, (tableOf [(0, 8, 11, 13)]).all (fun x => !covers x pc) = true → ∀ x ∈ c.exceptionTable.toList, covers x pc = false := fun pc h x hx => by rw [htab] at hx; have h1 := List.all_eq_true.mp h x hx; exact (Bool.not_eq_true' _).mp h1
  have hts : ∀ w ∈ lw_all, w.before _ s = true := fun w h => hts w (List.mem_cons_of_mem _ h)
  have hF : CallFix p m c cX0_undo 3 s ([.ref p0, .ref p1] : List Value).toArray lw_all RX0 := ⟨B.exec, B.bytes, hml, findClass_of_methodNamed B.named, hts⟩
  have hlocks := B.notSynchronized
  have hl := lv_entry ([.ref p0, .ref p1]) (n := 3) (Nat.le_of_ble_eq_true rfl)
  rw [lg_entry_eq]
  generalize (lg_sl ([.ref p0, .ref p1]) ++ List.replicate (3 - (lg_sl ([.ref p0, .ref p1])).length) Slot.unset).toArray = ls at hl ⊢
  have hl : lv_has ls 3 [(0, .ref p0), (1, .ref p1)] := hl
  have hS : va_S (hA X0 s.heap.size) s.heap s.heap [] := va_S.rf
  unfold wpX0_undo at hw
  show W p l e (rmh 8 135 mc ms) s m _ below meth c _ _ _ _ _ _
  refine lv_aload_n hF.1 hF.2.1 dX0_undo_0 rfl (lv_at hl 1 rfl) ?_
  refine lv_iconst (v := 0) hF.1 hF.2.1 dX0_undo_1 (by decide) ?_
  refine lv_aload_n hF.1 hF.2.1 dX0_undo_2 rfl (lv_at hl 0 rfl) ?_
  obtain ⟨ho_3, hw⟩ := hw
  obtain ⟨mc_4, ms_5, hc_6, hs_7, hw⟩ := hw
  refine hkx_i (hrx_V (As := []) (rest := [.int 0, .ref p1]) (T := TX1) (N := 4) (ci := 1) hF hl.1 hC hP hS (metX1_undo l hlt K mc_4 ms_5 _ _ _ X0 p0) rfl (cwV 0 hF.2.2.2.2 (lw_V q1516 q1517 q1518 q75 q1519) rfl rfl rfl (by decide +kernel) ⟨Nat.le_of_ble_eq_true rfl, Nat.le_of_ble_eq_true rfl⟩) ho_3 hw rfl rfl (Nat.le_of_ble_eq_true rfl) dX0_undo_3 ⟨hc_6, hs_7⟩) hP hS (fun E9 q9 X9 H locs hw hcl hP hS => ?_) (fun r_1 X_2 H locs hw hP hS => ?_)
  · obtain ⟨rfl, hw⟩ := hw
    obtain ⟨ce9, g91, g92, g93⟩ := hcl
    refine vx_catch (own := RX0) (name := "java/lang/IllegalStateException") hF.2.2.2.1 (tableOf []) ⟨0, 8, 11, 13⟩ (tableOf []) htab (fun z hz => nomatch hz) rfl (by decide) (hF.2.2.2.2 _ q739) (va_Nw.use rfl (hC.2.2.1.2.2.2.2.2.1 _ q1002 rfl)) g91 g92 g93 ?_
    refine lv_astore_n (lv' := [(2, .ref q9), (0, .ref p0), (1, .ref p1)]) hF.1 hF.2.1 dX0_undo_11 rfl hl (by decide) rfl (fun ls hl => ?_)
    refine lv_iconst (v := 1) hF.1 hF.2.1 dX0_undo_12 (by decide) ?_
    exact vx_ret (h_iret hF hr hlocks hP hS ⟨hc_6, hs_7⟩ dX0_undo_13 hw)
  refine lv_i2l hF.1 hF.2.1 dX0_undo_6 rfl ?_
  obtain ⟨n_8, f_9, hx_10, hi_11, hw⟩ := hw
  refine x_last hF hC hP hS hx_10 hi_11 dX0_undo_7 (fun H locs hP hS => ?_)
  generalize hup X_2 p1 (.inl (1, n_8, .inr (.inl (vp_updL f_9 (Int32.toNatClampNeg 0) (Int32.toInt64 r_1))))) = X_12 at hP hw
  refine lv_goto (tgt := 14) hF.1 hF.2.1 dX0_undo_8 (by decide) ?_
  refine lv_iconst (v := 0) hF.1 hF.2.1 dX0_undo_14 (by decide) ?_
  exact vx_ret (h_iret hF hr hlocks hP hS ⟨hc_6, hs_7⟩ dX0_undo_15 hw)
def wpX0_type (post : Int32 → hX → Prop) (xpost : String → Nat → hX → Prop) (E : Nat) (mc ms : Nat) (X : hX) (p0 : Nat) (p1 : Int32) (p2 : Nat) : Prop := isO X p0 1 ((∃ mc_4 ms_5 : Nat, 0 + mc_4 ≤ mc ∧ 0 + ms_5 ≤ ms ∧ wpX1_type (fun r_1 X_2 => asJ X_2 p2 0 (Int32.toInt64 r_1) (fun X_12 => post 0 X_12)) (fun E9 q9 X9 => (E9 = "java/lang/IllegalArgumentException" ∧ post 1 X9) ∨ (E9 = "java/lang/IllegalStateException" ∧ post 2 X9)) E mc_4 ms_5 X p0 p1))
abbrev wsX0_type : List Cond := wsW_ yX0_type cX0_type 4 (some .int) [(0, 9, 12, 19), (0, 9, 15, 13)]
set_option maxHeartbeats 8000000 in
theorem metX0_type (l : Launch) (hlt : l.stackTraces = false) (K : HK) (mc ms : Nat) (sz : Nat) (post : Int32 → hX → Prop) (xpost : String → Nat → hX → Prop) (X0 : hX) (p0 : Nat) (p1 : Int32) (p2 : Nat) : vx_Met l yX0_type wsX0_type (rmh 8 167 mc ms) (hPc K X0 sz [.ref p0, .int p1, .ref p2] (wpX0_type post xpost (K.2.2 0) mc ms X0 p0 p1 p2)) (hQi post K X0 sz) (hXC xpost K X0 sz) mc ms (hA X0 sz) := by
  refine vx_ofWH (cc := cX0_type) (maxL := 4) (ret := (some .int)) (by decide) rfl ?_
  intro p e s m args below meth c s₁ B hml hv
  obtain ⟨rfl, hv⟩ := hv
  obtain ⟨hC, hP, hw⟩ := HC.of hv
  have hsz : s.heap.size = sz := hv.1
  subst hsz
  clear hv
  have hr := B.returns
  have hts := atoms_spec (ws := wsX0_type) B.pre
  have htab : c.exceptionTable.toList = tableOf [(0, 9, 12, 19), (0, 9, 15, 13)] := vx_table (x := yX0_type) B (hts _ List.mem_cons_self)
  have hout : ∀ pc : Nat, (tableOf [(0, 9, 12, 19), (0, 9, 15, 13)]).all (fun x => !covers x pc) = true → ∀ x ∈ c.exceptionTable.toList, covers x pc = false := fun pc h x hx => by rw [htab] at hx; have h1 := List.all_eq_true.mp h x hx; exact (Bool.not_eq_true' _).mp h1
  have hts : ∀ w ∈ lw_all, w.before _ s = true := fun w h => hts w (List.mem_cons_of_mem _ h)
  have hF : CallFix p m c cX0_type 4 s ([.ref p0, .int p1, .ref p2] : List Value).toArray lw_all RX0 := ⟨B.exec, B.bytes, hml, findClass_of_methodNamed B.named, hts⟩
  have hlocks := B.notSynchronized
  have hl := lv_entry ([.ref p0, .int p1, .ref p2]) (n := 4) (Nat.le_of_ble_eq_true rfl)
  rw [lg_entry_eq]
  generalize (lg_sl ([.ref p0, .int p1, .ref p2]) ++ List.replicate (4 - (lg_sl ([.ref p0, .int p1, .ref p2])).length) Slot.unset).toArray = ls at hl ⊢
  have hl : lv_has ls 4 [(0, .ref p0), (1, .int p1), (2, .ref p2)] := hl
  have hS : va_S (hA X0 s.heap.size) s.heap s.heap [] := va_S.rf
  unfold wpX0_type at hw
  show W p l e (rmh 8 167 mc ms) s m _ below meth c _ _ _ _ _ _
  refine lv_aload_n hF.1 hF.2.1 dX0_type_0 rfl (lv_at hl 2 rfl) ?_
  refine lv_iconst (v := 0) hF.1 hF.2.1 dX0_type_1 (by decide) ?_
  refine lv_aload_n hF.1 hF.2.1 dX0_type_2 rfl (lv_at hl 0 rfl) ?_
  refine lv_iload_n hF.1 hF.2.1 dX0_type_3 rfl (lv_at hl 1 rfl) ?_
  obtain ⟨ho_3, hw⟩ := hw
  obtain ⟨mc_4, ms_5, hc_6, hs_7, hw⟩ := hw
  refine hkx_i (hrx_V (As := [.int p1]) (rest := [.int 0, .ref p2]) (T := TX1) (N := 4) (ci := 1) hF hl.1 hC hP hS (metX1_type l hlt K mc_4 ms_5 _ _ _ X0 p0 p1) rfl (cwV 1 hF.2.2.2.2 (lw_V q1538 q1539 q1540 q75 q1541) rfl rfl rfl (by decide +kernel) ⟨Nat.le_of_ble_eq_true rfl, Nat.le_of_ble_eq_true rfl⟩) ho_3 hw rfl rfl (Nat.le_of_ble_eq_true rfl) dX0_type_4 ⟨hc_6, hs_7⟩) hP hS (fun E9 q9 X9 H locs hw hcl hP hS => ?_) (fun r_1 X_2 H locs hw hP hS => ?_)
  · rcases hw with ⟨rfl, hw⟩ | ⟨rfl, hw⟩
    · obtain ⟨ce9, g91, g92, g93⟩ := hcl
      refine vx_catch (own := RX0) (name := "java/lang/IllegalArgumentException") hF.2.2.2.1 (tableOf []) ⟨0, 9, 12, 19⟩ (tableOf [(0, 9, 15, 13)]) htab (fun z hz => nomatch hz) rfl (by decide) (hF.2.2.2.2 _ q1060) (va_Nw.use rfl (hC.2.2.1.2.2.2.2.2.1 _ q503 rfl)) g91 g92 g93 ?_
      refine lv_astore_n (lv' := [(3, .ref q9), (0, .ref p0), (1, .int p1), (2, .ref p2)]) hF.1 hF.2.1 dX0_type_12 rfl hl (by decide) rfl (fun ls hl => ?_)
      refine lv_iconst (v := 1) hF.1 hF.2.1 dX0_type_13 (by decide) ?_
      exact vx_ret (h_iret hF hr hlocks hP hS ⟨hc_6, hs_7⟩ dX0_type_14 hw)
    · obtain ⟨ce9, g91, g92, g93⟩ := hcl
      refine vx_catch (own := RX0) (name := "java/lang/IllegalStateException") hF.2.2.2.1 (tableOf [(0, 9, 12, 19)]) ⟨0, 9, 15, 13⟩ (tableOf []) htab (List.forall_mem_cons.mpr ⟨Or.inr ⟨by decide, _, hF.2.2.2.2 _ q1060, hC.2.2.1.2.2.2.2.2.2.1 ("java/lang/IllegalStateException", "java/lang/IllegalArgumentException") (by decide)⟩, fun _ hz => nomatch hz⟩) rfl (by decide) (hF.2.2.2.2 _ q739) (va_Nw.use rfl (hC.2.2.1.2.2.2.2.2.1 _ q1002 rfl)) g91 g92 g93 ?_
      refine lv_astore_n (lv' := [(3, .ref q9), (0, .ref p0), (1, .int p1), (2, .ref p2)]) hF.1 hF.2.1 dX0_type_15 rfl hl (by decide) rfl (fun ls hl => ?_)
      refine lv_iconst (v := 2) hF.1 hF.2.1 dX0_type_16 (by decide) ?_
      exact vx_ret (h_iret hF hr hlocks hP hS ⟨hc_6, hs_7⟩ dX0_type_17 hw)
  refine lv_i2l hF.1 hF.2.1 dX0_type_7 rfl ?_
  obtain ⟨n_8, f_9, hx_10, hi_11, hw⟩ := hw
  refine x_last hF hC hP hS hx_10 hi_11 dX0_type_8 (fun H locs hP hS => ?_)
  generalize hup X_2 p2 (.inl (1, n_8, .inr (.inl (vp_updL f_9 (Int32.toNatClampNeg 0) (Int32.toInt64 r_1))))) = X_12 at hP hw
  refine lv_goto (tgt := 18) hF.1 hF.2.1 dX0_type_9 (by decide) ?_
  refine lv_iconst (v := 0) hF.1 hF.2.1 dX0_type_18 (by decide) ?_
  exact vx_ret (h_iret hF hr hlocks hP hS ⟨hc_6, hs_7⟩ dX0_type_19 hw)
def wpX0_faultPosition (post : Int32 → hX → Prop) (xpost : String → Nat → hX → Prop) (E : Nat) (mc ms : Nat) (X : hX) (p0 : Nat) (p1 : Nat) : Prop := isO X p0 1 ((∃ mc_4 ms_5 : Nat, 0 + mc_4 ≤ mc ∧ 0 + ms_5 ≤ ms ∧ wpX1_faultPosition (fun r_1 X_2 => asJ X_2 p1 0 (Int32.toInt64 r_1) (fun X_12 => post 0 X_12)) (fun E9 q9 X9 => (E9 = "java/util/NoSuchElementException" ∧ post 1 X9)) E mc_4 ms_5 X p0))
abbrev wsX0_faultPosition : List Cond := wsW_ yX0_faultPosition cX0_faultPosition 3 (some .int) [(0, 8, 11, 65)]
set_option maxHeartbeats 8000000 in
theorem metX0_faultPosition (l : Launch) (hlt : l.stackTraces = false) (K : HK) (mc ms : Nat) (sz : Nat) (post : Int32 → hX → Prop) (xpost : String → Nat → hX → Prop) (X0 : hX) (p0 : Nat) (p1 : Nat) : vx_Met l yX0_faultPosition wsX0_faultPosition (rmh 15 366 mc ms) (hPc K X0 sz [.ref p0, .ref p1] (wpX0_faultPosition post xpost (K.2.2 0) mc ms X0 p0 p1)) (hQi post K X0 sz) (hXC xpost K X0 sz) mc ms (hA X0 sz) := by
  refine vx_ofWH (cc := cX0_faultPosition) (maxL := 3) (ret := (some .int)) (by decide) rfl ?_
  intro p e s m args below meth c s₁ B hml hv
  obtain ⟨rfl, hv⟩ := hv
  obtain ⟨hC, hP, hw⟩ := HC.of hv
  have hsz : s.heap.size = sz := hv.1
  subst hsz
  clear hv
  have hr := B.returns
  have hts := atoms_spec (ws := wsX0_faultPosition) B.pre
  have htab : c.exceptionTable.toList = tableOf [(0, 8, 11, 65)] := vx_table (x := yX0_faultPosition) B (hts _ List.mem_cons_self)
  have hout : ∀ pc : Nat, (tableOf [(0, 8, 11, 65)]).all (fun x => !covers x pc) = true → ∀ x ∈ c.exceptionTable.toList, covers x pc = false := fun pc h x hx => by rw [htab] at hx; have h1 := List.all_eq_true.mp h x hx; exact (Bool.not_eq_true' _).mp h1
  have hts : ∀ w ∈ lw_all, w.before _ s = true := fun w h => hts w (List.mem_cons_of_mem _ h)
  have hF : CallFix p m c cX0_faultPosition 3 s ([.ref p0, .ref p1] : List Value).toArray lw_all RX0 := ⟨B.exec, B.bytes, hml, findClass_of_methodNamed B.named, hts⟩
  have hlocks := B.notSynchronized
  have hl := lv_entry ([.ref p0, .ref p1]) (n := 3) (Nat.le_of_ble_eq_true rfl)
  rw [lg_entry_eq]
  generalize (lg_sl ([.ref p0, .ref p1]) ++ List.replicate (3 - (lg_sl ([.ref p0, .ref p1])).length) Slot.unset).toArray = ls at hl ⊢
  have hl : lv_has ls 3 [(0, .ref p0), (1, .ref p1)] := hl
  have hS : va_S (hA X0 s.heap.size) s.heap s.heap [] := va_S.rf
  unfold wpX0_faultPosition at hw
  show W p l e (rmh 15 366 mc ms) s m _ below meth c _ _ _ _ _ _
  refine lv_aload_n hF.1 hF.2.1 dX0_faultPosition_0 rfl (lv_at hl 1 rfl) ?_
  refine lv_iconst (v := 0) hF.1 hF.2.1 dX0_faultPosition_1 (by decide) ?_
  refine lv_aload_n hF.1 hF.2.1 dX0_faultPosition_2 rfl (lv_at hl 0 rfl) ?_
  obtain ⟨ho_3, hw⟩ := hw
  obtain ⟨mc_4, ms_5, hc_6, hs_7, hw⟩ := hw
  refine hkx_i (hrx_V (As := []) (rest := [.int 0, .ref p1]) (T := TX1) (N := 4) (ci := 1) hF hl.1 hC hP hS (metX1_faultPosition l hlt K mc_4 ms_5 _ _ _ X0 p0) rfl (cwV 0 hF.2.2.2.2 (lw_V q1567 q1568 q1569 q75 q1570) rfl rfl rfl (by decide +kernel) ⟨Nat.le_of_ble_eq_true rfl, Nat.le_of_ble_eq_true rfl⟩) ho_3 hw rfl rfl (Nat.le_of_ble_eq_true rfl) dX0_faultPosition_3 ⟨hc_6, hs_7⟩) hP hS (fun E9 q9 X9 H locs hw hcl hP hS => ?_) (fun r_1 X_2 H locs hw hP hS => ?_)
  · obtain ⟨rfl, hw⟩ := hw
    obtain ⟨ce9, g91, g92, g93⟩ := hcl
    refine vx_catch (own := RX0) (name := "java/util/NoSuchElementException") hF.2.2.2.1 (tableOf []) ⟨0, 8, 11, 65⟩ (tableOf []) htab (fun z hz => nomatch hz) rfl (by decide) (hF.2.2.2.2 _ q1171) (va_Nw.use rfl (hC.2.2.1.2.2.2.2.2.1 _ q1032 rfl)) g91 g92 g93 ?_
    refine lv_astore_n (lv' := [(2, .ref q9), (0, .ref p0), (1, .ref p1)]) hF.1 hF.2.1 dX0_faultPosition_11 rfl hl (by decide) rfl (fun ls hl => ?_)
    refine lv_iconst (v := 1) hF.1 hF.2.1 dX0_faultPosition_12 (by decide) ?_
    exact vx_ret (h_iret hF hr hlocks hP hS ⟨hc_6, hs_7⟩ dX0_faultPosition_13 hw)
  refine lv_i2l hF.1 hF.2.1 dX0_faultPosition_6 rfl ?_
  obtain ⟨n_8, f_9, hx_10, hi_11, hw⟩ := hw
  refine x_last hF hC hP hS hx_10 hi_11 dX0_faultPosition_7 (fun H locs hP hS => ?_)
  generalize hup X_2 p1 (.inl (1, n_8, .inr (.inl (vp_updL f_9 (Int32.toNatClampNeg 0) (Int32.toInt64 r_1))))) = X_12 at hP hw
  refine lv_goto (tgt := 14) hF.1 hF.2.1 dX0_faultPosition_8 (by decide) ?_
  refine lv_iconst (v := 0) hF.1 hF.2.1 dX0_faultPosition_14 (by decide) ?_
  exact vx_ret (h_iret hF hr hlocks hP hS ⟨hc_6, hs_7⟩ dX0_faultPosition_15 hw)
def wpX0_faultReason (post : Int32 → hX → Prop) (xpost : String → Nat → hX → Prop) (E : Nat) (mc ms : Nat) (X : hX) (p0 : Nat) (p1 : Nat) : Prop := isO X p0 1 ((∃ mc_4 ms_5 : Nat, 0 + mc_4 ≤ mc ∧ 0 + ms_5 ≤ ms ∧ wpX1_faultReason (fun r_1 X_2 => asJ X_2 p1 0 (Int32.toInt64 r_1) (fun X_12 => post 0 X_12)) (fun E9 q9 X9 => (E9 = "java/util/NoSuchElementException" ∧ post 1 X9)) E mc_4 ms_5 X p0))
abbrev wsX0_faultReason : List Cond := wsW_ yX0_faultReason cX0_faultReason 3 (some .int) [(0, 8, 11, 65)]
set_option maxHeartbeats 8000000 in
theorem metX0_faultReason (l : Launch) (hlt : l.stackTraces = false) (K : HK) (mc ms : Nat) (sz : Nat) (post : Int32 → hX → Prop) (xpost : String → Nat → hX → Prop) (X0 : hX) (p0 : Nat) (p1 : Nat) : vx_Met l yX0_faultReason wsX0_faultReason (rmh 15 366 mc ms) (hPc K X0 sz [.ref p0, .ref p1] (wpX0_faultReason post xpost (K.2.2 0) mc ms X0 p0 p1)) (hQi post K X0 sz) (hXC xpost K X0 sz) mc ms (hA X0 sz) := by
  refine vx_ofWH (cc := cX0_faultReason) (maxL := 3) (ret := (some .int)) (by decide) rfl ?_
  intro p e s m args below meth c s₁ B hml hv
  obtain ⟨rfl, hv⟩ := hv
  obtain ⟨hC, hP, hw⟩ := HC.of hv
  have hsz : s.heap.size = sz := hv.1
  subst hsz
  clear hv
  have hr := B.returns
  have hts := atoms_spec (ws := wsX0_faultReason) B.pre
  have htab : c.exceptionTable.toList = tableOf [(0, 8, 11, 65)] := vx_table (x := yX0_faultReason) B (hts _ List.mem_cons_self)
  have hout : ∀ pc : Nat, (tableOf [(0, 8, 11, 65)]).all (fun x => !covers x pc) = true → ∀ x ∈ c.exceptionTable.toList, covers x pc = false := fun pc h x hx => by rw [htab] at hx; have h1 := List.all_eq_true.mp h x hx; exact (Bool.not_eq_true' _).mp h1
  have hts : ∀ w ∈ lw_all, w.before _ s = true := fun w h => hts w (List.mem_cons_of_mem _ h)
  have hF : CallFix p m c cX0_faultReason 3 s ([.ref p0, .ref p1] : List Value).toArray lw_all RX0 := ⟨B.exec, B.bytes, hml, findClass_of_methodNamed B.named, hts⟩
  have hlocks := B.notSynchronized
  have hl := lv_entry ([.ref p0, .ref p1]) (n := 3) (Nat.le_of_ble_eq_true rfl)
  rw [lg_entry_eq]
  generalize (lg_sl ([.ref p0, .ref p1]) ++ List.replicate (3 - (lg_sl ([.ref p0, .ref p1])).length) Slot.unset).toArray = ls at hl ⊢
  have hl : lv_has ls 3 [(0, .ref p0), (1, .ref p1)] := hl
  have hS : va_S (hA X0 s.heap.size) s.heap s.heap [] := va_S.rf
  unfold wpX0_faultReason at hw
  show W p l e (rmh 15 366 mc ms) s m _ below meth c _ _ _ _ _ _
  refine lv_aload_n hF.1 hF.2.1 dX0_faultReason_0 rfl (lv_at hl 1 rfl) ?_
  refine lv_iconst (v := 0) hF.1 hF.2.1 dX0_faultReason_1 (by decide) ?_
  refine lv_aload_n hF.1 hF.2.1 dX0_faultReason_2 rfl (lv_at hl 0 rfl) ?_
  obtain ⟨ho_3, hw⟩ := hw
  obtain ⟨mc_4, ms_5, hc_6, hs_7, hw⟩ := hw
  refine hkx_i (hrx_V (As := []) (rest := [.int 0, .ref p1]) (T := TX1) (N := 4) (ci := 1) hF hl.1 hC hP hS (metX1_faultReason l hlt K mc_4 ms_5 _ _ _ X0 p0) rfl (cwV 0 hF.2.2.2.2 (lw_V q1704 q1705 q1706 q75 q1707) rfl rfl rfl (by decide +kernel) ⟨Nat.le_of_ble_eq_true rfl, Nat.le_of_ble_eq_true rfl⟩) ho_3 hw rfl rfl (Nat.le_of_ble_eq_true rfl) dX0_faultReason_3 ⟨hc_6, hs_7⟩) hP hS (fun E9 q9 X9 H locs hw hcl hP hS => ?_) (fun r_1 X_2 H locs hw hP hS => ?_)
  · obtain ⟨rfl, hw⟩ := hw
    obtain ⟨ce9, g91, g92, g93⟩ := hcl
    refine vx_catch (own := RX0) (name := "java/util/NoSuchElementException") hF.2.2.2.1 (tableOf []) ⟨0, 8, 11, 65⟩ (tableOf []) htab (fun z hz => nomatch hz) rfl (by decide) (hF.2.2.2.2 _ q1171) (va_Nw.use rfl (hC.2.2.1.2.2.2.2.2.1 _ q1032 rfl)) g91 g92 g93 ?_
    refine lv_astore_n (lv' := [(2, .ref q9), (0, .ref p0), (1, .ref p1)]) hF.1 hF.2.1 dX0_faultReason_11 rfl hl (by decide) rfl (fun ls hl => ?_)
    refine lv_iconst (v := 1) hF.1 hF.2.1 dX0_faultReason_12 (by decide) ?_
    exact vx_ret (h_iret hF hr hlocks hP hS ⟨hc_6, hs_7⟩ dX0_faultReason_13 hw)
  refine lv_i2l hF.1 hF.2.1 dX0_faultReason_6 rfl ?_
  obtain ⟨n_8, f_9, hx_10, hi_11, hw⟩ := hw
  refine x_last hF hC hP hS hx_10 hi_11 dX0_faultReason_7 (fun H locs hP hS => ?_)
  generalize hup X_2 p1 (.inl (1, n_8, .inr (.inl (vp_updL f_9 (Int32.toNatClampNeg 0) (Int32.toInt64 r_1))))) = X_12 at hP hw
  refine lv_goto (tgt := 14) hF.1 hF.2.1 dX0_faultReason_8 (by decide) ?_
  refine lv_iconst (v := 0) hF.1 hF.2.1 dX0_faultReason_14 (by decide) ?_
  exact vx_ret (h_iret hF hr hlocks hP hS ⟨hc_6, hs_7⟩ dX0_faultReason_15 hw)
def wpX0_faultCause (post : Int32 → hX → Prop) (xpost : String → Nat → hX → Prop) (E : Nat) (mc ms : Nat) (X : hX) (p0 : Nat) (p1 : Nat) : Prop := isO X p0 1 ((∃ mc_4 ms_5 : Nat, 0 + mc_4 ≤ mc ∧ 0 + ms_5 ≤ ms ∧ wpX1_faultCause (fun r_1 X_2 => asJ X_2 p1 0 (Int32.toInt64 r_1) (fun X_12 => post 0 X_12)) (fun E9 q9 X9 => (E9 = "java/util/NoSuchElementException" ∧ post 1 X9)) E mc_4 ms_5 X p0))
abbrev wsX0_faultCause : List Cond := wsW_ yX0_faultCause cX0_faultCause 3 (some .int) [(0, 8, 11, 65)]
set_option maxHeartbeats 8000000 in
theorem metX0_faultCause (l : Launch) (hlt : l.stackTraces = false) (K : HK) (mc ms : Nat) (sz : Nat) (post : Int32 → hX → Prop) (xpost : String → Nat → hX → Prop) (X0 : hX) (p0 : Nat) (p1 : Nat) : vx_Met l yX0_faultCause wsX0_faultCause (rmh 15 366 mc ms) (hPc K X0 sz [.ref p0, .ref p1] (wpX0_faultCause post xpost (K.2.2 0) mc ms X0 p0 p1)) (hQi post K X0 sz) (hXC xpost K X0 sz) mc ms (hA X0 sz) := by
  refine vx_ofWH (cc := cX0_faultCause) (maxL := 3) (ret := (some .int)) (by decide) rfl ?_
  intro p e s m args below meth c s₁ B hml hv
  obtain ⟨rfl, hv⟩ := hv
  obtain ⟨hC, hP, hw⟩ := HC.of hv
  have hsz : s.heap.size = sz := hv.1
  subst hsz
  clear hv
  have hr := B.returns
  have hts := atoms_spec (ws := wsX0_faultCause) B.pre
  have htab : c.exceptionTable.toList = tableOf [(0, 8, 11, 65)] := vx_table (x := yX0_faultCause) B (hts _ List.mem_cons_self)
  have hout : ∀ pc : Nat, (tableOf [(0, 8, 11, 65)]).all (fun x => !covers x pc) = true → ∀ x ∈ c.exceptionTable.toList, covers x pc = false := fun pc h x hx => by rw [htab] at hx; have h1 := List.all_eq_true.mp h x hx; exact (Bool.not_eq_true' _).mp h1
  have hts : ∀ w ∈ lw_all, w.before _ s = true := fun w h => hts w (List.mem_cons_of_mem _ h)
  have hF : CallFix p m c cX0_faultCause 3 s ([.ref p0, .ref p1] : List Value).toArray lw_all RX0 := ⟨B.exec, B.bytes, hml, findClass_of_methodNamed B.named, hts⟩
  have hlocks := B.notSynchronized
  have hl := lv_entry ([.ref p0, .ref p1]) (n := 3) (Nat.le_of_ble_eq_true rfl)
  rw [lg_entry_eq]
  generalize (lg_sl ([.ref p0, .ref p1]) ++ List.replicate (3 - (lg_sl ([.ref p0, .ref p1])).length) Slot.unset).toArray = ls at hl ⊢
  have hl : lv_has ls 3 [(0, .ref p0), (1, .ref p1)] := hl
  have hS : va_S (hA X0 s.heap.size) s.heap s.heap [] := va_S.rf
  unfold wpX0_faultCause at hw
  show W p l e (rmh 15 366 mc ms) s m _ below meth c _ _ _ _ _ _
  refine lv_aload_n hF.1 hF.2.1 dX0_faultCause_0 rfl (lv_at hl 1 rfl) ?_
  refine lv_iconst (v := 0) hF.1 hF.2.1 dX0_faultCause_1 (by decide) ?_
  refine lv_aload_n hF.1 hF.2.1 dX0_faultCause_2 rfl (lv_at hl 0 rfl) ?_
  obtain ⟨ho_3, hw⟩ := hw
  obtain ⟨mc_4, ms_5, hc_6, hs_7, hw⟩ := hw
  refine hkx_i (hrx_V (As := []) (rest := [.int 0, .ref p1]) (T := TX1) (N := 4) (ci := 1) hF hl.1 hC hP hS (metX1_faultCause l hlt K mc_4 ms_5 _ _ _ X0 p0) rfl (cwV 0 hF.2.2.2.2 (lw_V q1711 q1712 q1713 q75 q1714) rfl rfl rfl (by decide +kernel) ⟨Nat.le_of_ble_eq_true rfl, Nat.le_of_ble_eq_true rfl⟩) ho_3 hw rfl rfl (Nat.le_of_ble_eq_true rfl) dX0_faultCause_3 ⟨hc_6, hs_7⟩) hP hS (fun E9 q9 X9 H locs hw hcl hP hS => ?_) (fun r_1 X_2 H locs hw hP hS => ?_)
  · obtain ⟨rfl, hw⟩ := hw
    obtain ⟨ce9, g91, g92, g93⟩ := hcl
    refine vx_catch (own := RX0) (name := "java/util/NoSuchElementException") hF.2.2.2.1 (tableOf []) ⟨0, 8, 11, 65⟩ (tableOf []) htab (fun z hz => nomatch hz) rfl (by decide) (hF.2.2.2.2 _ q1171) (va_Nw.use rfl (hC.2.2.1.2.2.2.2.2.1 _ q1032 rfl)) g91 g92 g93 ?_
    refine lv_astore_n (lv' := [(2, .ref q9), (0, .ref p0), (1, .ref p1)]) hF.1 hF.2.1 dX0_faultCause_11 rfl hl (by decide) rfl (fun ls hl => ?_)
    refine lv_iconst (v := 1) hF.1 hF.2.1 dX0_faultCause_12 (by decide) ?_
    exact vx_ret (h_iret hF hr hlocks hP hS ⟨hc_6, hs_7⟩ dX0_faultCause_13 hw)
  refine lv_i2l hF.1 hF.2.1 dX0_faultCause_6 rfl ?_
  obtain ⟨n_8, f_9, hx_10, hi_11, hw⟩ := hw
  refine x_last hF hC hP hS hx_10 hi_11 dX0_faultCause_7 (fun H locs hP hS => ?_)
  generalize hup X_2 p1 (.inl (1, n_8, .inr (.inl (vp_updL f_9 (Int32.toNatClampNeg 0) (Int32.toInt64 r_1))))) = X_12 at hP hw
  refine lv_goto (tgt := 14) hF.1 hF.2.1 dX0_faultCause_8 (by decide) ?_
  refine lv_iconst (v := 0) hF.1 hF.2.1 dX0_faultCause_14 (by decide) ?_
  exact vx_ret (h_iret hF hr hlocks hP hS ⟨hc_6, hs_7⟩ dX0_faultCause_15 hw)
def wpX0_play (post : Int32 → hX → Prop) (xpost : String → Nat → hX → Prop) (E : Nat) (mc ms : Nat) (X : hX) (p0 : Nat) (p1 : Nat) : Prop := isO X p0 1 ((∃ mc_4 ms_5 : Nat, 0 + mc_4 ≤ mc ∧ 0 + ms_5 ≤ ms ∧ wpX1_play (fun r_1 X_2 => asJ X_2 p1 0 (Int32.toInt64 r_1) (fun X_12 => post 0 X_12)) (fun E9 q9 X9 => (E9 = "java/lang/IllegalStateException" ∧ post 1 X9)) E mc_4 ms_5 X p0))
abbrev wsX0_play : List Cond := wsW_ yX0_play cX0_play 3 (some .int) [(0, 8, 11, 13)]
set_option maxHeartbeats 8000000 in
theorem metX0_play (l : Launch) (hlt : l.stackTraces = false) (K : HK) (mc ms : Nat) (sz : Nat) (post : Int32 → hX → Prop) (xpost : String → Nat → hX → Prop) (X0 : hX) (p0 : Nat) (p1 : Nat) : vx_Met l yX0_play wsX0_play (rmh 14 346 mc ms) (hPc K X0 sz [.ref p0, .ref p1] (wpX0_play post xpost (K.2.2 0) mc ms X0 p0 p1)) (hQi post K X0 sz) (hXC xpost K X0 sz) mc ms (hA X0 sz) := by
  refine vx_ofWH (cc := cX0_play) (maxL := 3) (ret := (some .int)) (by decide) rfl ?_
  intro p e s m args below meth c s₁ B hml hv
  obtain ⟨rfl, hv⟩ := hv
  obtain ⟨hC, hP, hw⟩ := HC.of hv
  have hsz : s.heap.size = sz := hv.1
  subst hsz
  clear hv
  have hr := B.returns
  have hts := atoms_spec (ws := wsX0_play) B.pre
  have htab : c.exceptionTable.toList = tableOf [(0, 8, 11, 13)] := vx_table (x := yX0_play) B (hts _ List.mem_cons_self)
  have hout : ∀ pc : Nat, (tableOf [(0, 8, 11, 13)]).all (fun x => !covers x pc) = true → ∀ x ∈ c.exceptionTable.toList, covers x pc = false := fun pc h x hx => by rw [htab] at hx; have h1 := List.all_eq_true.mp h x hx; exact (Bool.not_eq_true' _).mp h1
  have hts : ∀ w ∈ lw_all, w.before _ s = true := fun w h => hts w (List.mem_cons_of_mem _ h)
  have hF : CallFix p m c cX0_play 3 s ([.ref p0, .ref p1] : List Value).toArray lw_all RX0 := ⟨B.exec, B.bytes, hml, findClass_of_methodNamed B.named, hts⟩
  have hlocks := B.notSynchronized
  have hl := lv_entry ([.ref p0, .ref p1]) (n := 3) (Nat.le_of_ble_eq_true rfl)
  rw [lg_entry_eq]
  generalize (lg_sl ([.ref p0, .ref p1]) ++ List.replicate (3 - (lg_sl ([.ref p0, .ref p1])).length) Slot.unset).toArray = ls at hl ⊢
  have hl : lv_has ls 3 [(0, .ref p0), (1, .ref p1)] := hl
  have hS : va_S (hA X0 s.heap.size) s.heap s.heap [] := va_S.rf
  unfold wpX0_play at hw
  show W p l e (rmh 14 346 mc ms) s m _ below meth c _ _ _ _ _ _
  refine lv_aload_n hF.1 hF.2.1 dX0_play_0 rfl (lv_at hl 1 rfl) ?_
  refine lv_iconst (v := 0) hF.1 hF.2.1 dX0_play_1 (by decide) ?_
  refine lv_aload_n hF.1 hF.2.1 dX0_play_2 rfl (lv_at hl 0 rfl) ?_
  obtain ⟨ho_3, hw⟩ := hw
  obtain ⟨mc_4, ms_5, hc_6, hs_7, hw⟩ := hw
  refine hkx_i (hrx_V (As := []) (rest := [.int 0, .ref p1]) (T := TX1) (N := 4) (ci := 1) hF hl.1 hC hP hS (metX1_play l hlt K mc_4 ms_5 _ _ _ X0 p0) rfl (cwV 0 hF.2.2.2.2 (lw_V q1718 q1719 q1720 q75 q1721) rfl rfl rfl (by decide +kernel) ⟨Nat.le_of_ble_eq_true rfl, Nat.le_of_ble_eq_true rfl⟩) ho_3 hw rfl rfl (Nat.le_of_ble_eq_true rfl) dX0_play_3 ⟨hc_6, hs_7⟩) hP hS (fun E9 q9 X9 H locs hw hcl hP hS => ?_) (fun r_1 X_2 H locs hw hP hS => ?_)
  · obtain ⟨rfl, hw⟩ := hw
    obtain ⟨ce9, g91, g92, g93⟩ := hcl
    refine vx_catch (own := RX0) (name := "java/lang/IllegalStateException") hF.2.2.2.1 (tableOf []) ⟨0, 8, 11, 13⟩ (tableOf []) htab (fun z hz => nomatch hz) rfl (by decide) (hF.2.2.2.2 _ q739) (va_Nw.use rfl (hC.2.2.1.2.2.2.2.2.1 _ q1002 rfl)) g91 g92 g93 ?_
    refine lv_astore_n (lv' := [(2, .ref q9), (0, .ref p0), (1, .ref p1)]) hF.1 hF.2.1 dX0_play_11 rfl hl (by decide) rfl (fun ls hl => ?_)
    refine lv_iconst (v := 1) hF.1 hF.2.1 dX0_play_12 (by decide) ?_
    exact vx_ret (h_iret hF hr hlocks hP hS ⟨hc_6, hs_7⟩ dX0_play_13 hw)
  refine lv_i2l hF.1 hF.2.1 dX0_play_6 rfl ?_
  obtain ⟨n_8, f_9, hx_10, hi_11, hw⟩ := hw
  refine x_last hF hC hP hS hx_10 hi_11 dX0_play_7 (fun H locs hP hS => ?_)
  generalize hup X_2 p1 (.inl (1, n_8, .inr (.inl (vp_updL f_9 (Int32.toNatClampNeg 0) (Int32.toInt64 r_1))))) = X_12 at hP hw
  refine lv_goto (tgt := 14) hF.1 hF.2.1 dX0_play_8 (by decide) ?_
  refine lv_iconst (v := 0) hF.1 hF.2.1 dX0_play_14 (by decide) ?_
  exact vx_ret (h_iret hF hr hlocks hP hS ⟨hc_6, hs_7⟩ dX0_play_15 hw)

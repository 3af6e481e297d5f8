/-! ClockworkOrreries: the changes, walked by program -/
set_option maxRecDepth 100000
def wpX1_init (post : hX → Prop) (E : Nat) (mc ms : Nat) (X : hX) (p0 : Nat) : Prop := newO X 2 [.null, .null, .null, .null, .null, .int 0, .int 0, .int 0, .int 0] 9 0 0 mc ms (fun a_1 X_2 => (∃ mc_5 ms_6 : Nat, (0 + 1) + mc_5 ≤ mc ∧ (0 + 9) + ms_6 ≤ ms ∧ wpX2_init (fun X_4 => pfV X_4 p0 1 0 (.ref a_1) (fun X_12 => newO X_12 9 [.null, .int 0, .int 0] 3 ((0 + 1) + mc_5) ((0 + 9) + ms_6) mc ms (fun a_13 X_14 => (∃ mc_17 ms_18 : Nat, (((0 + 1) + mc_5) + 1) + mc_17 ≤ mc ∧ (((0 + 9) + ms_6) + 3) + ms_18 ≤ ms ∧ wpJ3_init (fun X_16 => pfV X_16 p0 1 2 (.ref a_13) (fun X_24 => newO X_24 10 [.null, .int 0, .int 0, .int 0] 4 ((((0 + 1) + mc_5) + 1) + mc_17) ((((0 + 9) + ms_6) + 3) + ms_18) mc ms (fun a_25 X_26 => (∃ mc_29 ms_30 : Nat, (((((0 + 1) + mc_5) + 1) + mc_17) + 1) + mc_29 ≤ mc ∧ (((((0 + 9) + ms_6) + 3) + ms_18) + 4) + ms_30 ≤ ms ∧ wpJ5_init (fun X_28 => pfV X_28 p0 1 3 (.ref a_25) (fun X_36 => post X_36)) E mc_29 ms_30 X_26 a_25)))) E mc_17 ms_18 X_14 a_13)))) E mc_5 ms_6 X_2 a_1))
abbrev wsX1_init : List Cond := ws_ yX1_init cX1_init 1 none
set_option maxHeartbeats 8000000 in
theorem metX1_init (l : Launch) (K : HK) (mc ms : Nat) (sz : Nat) (post : hX → Prop) (X0 : hX) (p0 : Nat) : Met l yX1_init wsX1_init (rmh 5 100 mc ms) (hPc K X0 sz [.ref p0] (wpX1_init post (K.2.2 0) mc ms X0 p0)) (hQv post K X0 sz) mc ms (hA X0 sz) := by
  refine Met.ofW (cc := cX1_init) (maxL := 1) (ret := none) (by decide) rfl ?_
  intro p e s m args below meth c s₁ B hml hv
  obtain ⟨rfl, hv⟩ := hv
  obtain ⟨hC, hP, hw⟩ := HC.of hv
  have hsz : s.heap.size = sz := hv.1
  subst hsz
  clear hv
  have hr := B.returns
  have hts := atoms_spec (ws := wsX1_init) B.pre
  have hts : ∀ w ∈ lw_all, w.before _ s = true := fun w h => hts w (List.mem_cons_of_mem _ h)
  have hF : CallFix p m c cX1_init 1 s ([.ref p0] : List Value).toArray lw_all RX1 := ⟨B.exec, B.bytes, hml, findClass_of_methodNamed B.named, hts⟩
  have hlocks := B.notSynchronized
  have hin : meth.name = "<init>" := (name_of_methodNamed B.named B.method).1
  have hl := lv_entry ([.ref p0]) (n := 1) (Nat.le_of_ble_eq_true rfl)
  rw [lg_entry_eq]
  generalize (lg_sl ([.ref p0]) ++ List.replicate (1 - (lg_sl ([.ref p0])).length) Slot.unset).toArray = ls at hl ⊢
  have hl : lv_has ls 1 [(0, .ref p0)] := hl
  have hS : va_S (hA X0 s.heap.size) s.heap s.heap [] := va_S.rf
  unfold wpX1_init at hw
  show W p l e (rmh 5 100 mc ms) s m _ below meth c _ _ _ _ _ _
  refine lv_aload_n hF.1 hF.2.1 dX1_init_0 rfl (lv_at hl 0 rfl) ?_
  refine W.objInit hF.1 hF.2.1 hF.2.2.2.1 (hF.2.2.2.2 _ q115) (hF.2.2.2.2 _ q116) (hF.2.2.2.2 _ q117) rfl (by rw [hF.2.2.1]; exact hl.1) rfl dX1_init_1 (Nat.le_of_ble_eq_true rfl) (Nat.le_of_ble_eq_true rfl) ?_
  refine W.eq (g2 := F0 m 4 ls []) rfl ?_
  refine lv_aload_n hF.1 hF.2.1 dX1_init_4 rfl (lv_at hl 0 rfl) ?_
  refine x_new hF hC hP hS in_X2 rfl tyX2 tyX2_ok q118 q119 q76 (nfsX2) hw ⟨rfl, rfl⟩ dX1_init_5 (fun a_1 X_2 H pk_3c pk_3s hw hP hS => ?_)
  refine lv_dup hF.1 hF.2.1 dX1_init_8 rfl ?_
  obtain ⟨mc_5, ms_6, hc_7, hs_8, hw⟩ := hw
  refine hk_v (hr_I (As := []) (rest := [.ref a_1, .ref p0]) hF hl.1 hC hP hS (metX2_init l K mc_5 ms_6 _ _ X_2 a_1) (cwI 0 hF.2.2.2.2 (lw_meth q122) rfl rfl rfl (hF.2.2.2.2 _ q76) (hF.2.2.2.2 _ q120) (hF.2.2.2.2 _ q121) rfl (by decide +kernel) ⟨Nat.le_of_ble_eq_true rfl, Nat.le_of_ble_eq_true rfl⟩) hw rfl rfl (Nat.le_of_ble_eq_true rfl) dX1_init_9 ⟨hc_7, hs_8⟩) hP hS (fun X_4 H locs hw hP hS => ?_)
  obtain ⟨fs_9, hx_10, hl_11, hw⟩ := hw
  refine x_put hF hC hP hS in_X1 rfl tyX1 tyX1_ok nmX1 0 (by decide) q244 (fun _ z => z) rfl rfl rfl hx_10 hl_11 dX1_init_12 (fun H locs hP hS => ?_)
  generalize hup X_4 p0 (.inr (1, fs_9.set 0 (.ref a_1))) = X_12 at hP hw
  refine lv_aload_n hF.1 hF.2.1 dX1_init_15 rfl (lv_at hl 0 rfl) ?_
  refine x_new hF hC hP hS in_J3 rfl tyJ3 tyJ3_ok q192 q193 q80 (nfsJ3) hw ⟨rfl, rfl⟩ dX1_init_16 (fun a_13 X_14 H pk_15c pk_15s hw hP hS => ?_)
  refine lv_dup hF.1 hF.2.1 dX1_init_19 rfl ?_
  obtain ⟨mc_17, ms_18, hc_19, hs_20, hw⟩ := hw
  refine hk_v (hr_I (As := []) (rest := [.ref a_13, .ref p0]) hF hl.1 hC hP hS (metJ3_init l K mc_17 ms_18 _ _ X_14 a_13) (cwI 0 hF.2.2.2.2 (lw_meth q196) rfl rfl rfl (hF.2.2.2.2 _ q80) (hF.2.2.2.2 _ q194) (hF.2.2.2.2 _ q195) rfl (by decide +kernel) ⟨Nat.le_of_ble_eq_true rfl, Nat.le_of_ble_eq_true rfl⟩) hw rfl rfl (Nat.le_of_ble_eq_true rfl) dX1_init_20 ⟨hc_19, hs_20⟩) hP hS (fun X_16 H locs hw hP hS => ?_)
  obtain ⟨fs_21, hx_22, hl_23, hw⟩ := hw
  refine x_putF hF hin hC hP hS in_X1 rfl tyX1 tyX1_ok nmX1 2 (by decide) q246 (fun _ z => z) rfl rfl rfl rfl hx_22 hl_23 dX1_init_23 (fun H locs hP hS => ?_)
  generalize hup X_16 p0 (.inr (1, fs_21.set 2 (.ref a_13))) = X_24 at hP hw
  refine lv_aload_n hF.1 hF.2.1 dX1_init_26 rfl (lv_at hl 0 rfl) ?_
  refine x_new hF hC hP hS in_J5 rfl tyJ5 tyJ5_ok q210 q211 q82 (nfsJ5) hw ⟨rfl, rfl⟩ dX1_init_27 (fun a_25 X_26 H pk_27c pk_27s hw hP hS => ?_)
  refine lv_dup hF.1 hF.2.1 dX1_init_30 rfl ?_
  obtain ⟨mc_29, ms_30, hc_31, hs_32, hw⟩ := hw
  refine hk_v (hr_I (As := []) (rest := [.ref a_25, .ref p0]) hF hl.1 hC hP hS (metJ5_init l K mc_29 ms_30 _ _ X_26 a_25) (cwI 0 hF.2.2.2.2 (lw_meth q214) rfl rfl rfl (hF.2.2.2.2 _ q82) (hF.2.2.2.2 _ q212) (hF.2.2.2.2 _ q213) rfl (by decide +kernel) ⟨Nat.le_of_ble_eq_true rfl, Nat.le_of_ble_eq_true rfl⟩) hw rfl rfl (Nat.le_of_ble_eq_true rfl) dX1_init_31 ⟨hc_31, hs_32⟩) hP hS (fun X_28 H locs hw hP hS => ?_)
  obtain ⟨fs_33, hx_34, hl_35, hw⟩ := hw
  refine x_putF hF hin hC hP hS in_X1 rfl tyX1 tyX1_ok nmX1 3 (by decide) q248 (fun _ z => z) rfl rfl rfl rfl hx_34 hl_35 dX1_init_34 (fun H locs hP hS => ?_)
  generalize hup X_28 p0 (.inr (1, fs_33.set 3 (.ref a_25))) = X_36 at hP hw
  exact h_vret hF hr hlocks hP hS ⟨hc_31, hs_32⟩ dX1_init_37 hw
def wpX1_done (post : Int32 → hX → Prop) (xpost : String → Nat → hX → Prop) (E : Nat) (mc ms : Nat) (X : hX) (p0 : Nat) (p1 : Int32) (p2 : Nat) : Prop := ((p1 = 97 → alI X 0 p2 0 (fun v_6 => alI X 0 p2 1 (fun v_11 => isO X p0 2 ((∃ mc_15 ms_16 : Nat, 0 + mc_15 ≤ mc ∧ 0 + ms_16 ≤ ms ∧ wpX2_getsArm (fun r_12 X_13 => post r_12 X_13) xpost E mc_15 ms_16 X p0 v_6 v_11))))) ∧ (¬ p1 = 97 → ((p1 = 98 → alI X 0 p2 0 (fun v_23 => alI X 0 p2 1 (fun v_28 => isO X p0 2 ((∃ mc_32 ms_33 : Nat, 0 + mc_32 ≤ mc ∧ 0 + ms_33 ≤ ms ∧ wpX2_bends (fun r_29 X_30 => post r_29 X_30) xpost E mc_32 ms_33 X p0 v_23 v_28))))) ∧ (¬ p1 = 98 → ((p1 = 100 → alI X 0 p2 0 (fun v_40 => isO X p0 2 ((∃ mc_44 ms_45 : Nat, 0 + mc_44 ≤ mc ∧ 0 + ms_45 ≤ ms ∧ wpX2_goesOn (fun r_41 X_42 => post r_41 X_42) xpost E mc_44 ms_45 X p0 v_40)))) ∧ (¬ p1 = 100 → ((p1 = 109 → alI X 0 p2 0 (fun v_52 => alI X 0 p2 1 (fun v_57 => isO X p0 2 ((∃ mc_61 ms_62 : Nat, 0 + mc_61 ≤ mc ∧ 0 + ms_62 ≤ ms ∧ wpX2_joins (fun r_58 X_59 => post r_58 X_59) xpost E mc_61 ms_62 X p0 v_52 v_57))))) ∧ (¬ p1 = 109 → ((p1 = 111 → alI X 0 p2 0 (fun v_69 => alI X 0 p2 1 (fun v_74 => isO X p0 2 ((∃ mc_78 ms_79 : Nat, 0 + mc_78 ≤ mc ∧ 0 + ms_79 ≤ ms ∧ wpX2_getsMoon (fun r_75 X_76 => post r_75 X_76) xpost E mc_78 ms_79 X p0 v_69 v_74))))) ∧ (¬ p1 = 111 → ((p1 = 112 → alI X 0 p2 0 (fun v_86 => alI X 0 p2 1 (fun v_91 => isO X p0 2 ((∃ mc_95 ms_96 : Nat, 0 + mc_95 ≤ mc ∧ 0 + ms_96 ≤ ms ∧ wpX2_tells (fun r_92 X_93 => post r_92 X_93) xpost E mc_95 ms_96 X p0 v_86 v_91))))) ∧ (¬ p1 = 112 → ((p1 = 116 → alI X 0 p2 0 (fun v_103 => alI X 0 p2 1 (fun v_108 => isO X p0 2 ((∃ mc_112 ms_113 : Nat, 0 + mc_112 ≤ mc ∧ 0 + ms_113 ≤ ms ∧ wpX2_cuts (fun r_109 X_110 => post r_109 X_110) xpost E mc_112 ms_113 X p0 v_103 v_108))))) ∧ (¬ p1 = 116 → ((p1 = 117 → alI X 0 p2 0 (fun v_120 => isO X p0 2 ((∃ mc_124 ms_125 : Nat, 0 + mc_124 ≤ mc ∧ 0 + ms_125 ≤ ms ∧ wpX2_parts (fun r_121 X_122 => post r_121 X_122) xpost E mc_124 ms_125 X p0 v_120)))) ∧ (¬ p1 = 117 → ((p1 = 119 → alI X 0 p2 0 (fun v_132 => alI X 0 p2 1 (fun v_137 => isO X p0 2 ((∃ mc_141 ms_142 : Nat, 0 + mc_141 ≤ mc ∧ 0 + ms_142 ≤ ms ∧ wpX2_getsWheel (fun r_138 X_139 => post r_138 X_139) xpost E mc_141 ms_142 X p0 v_132 v_137))))) ∧ (¬ p1 = 119 → ((p1 = 120 → isO X p0 2 ((∃ mc_148 ms_149 : Nat, 0 + mc_148 ≤ mc ∧ 0 + ms_149 ≤ ms ∧ wpX2_getsAxle (fun r_145 X_146 => post r_145 X_146) xpost E mc_148 ms_149 X p0))) ∧ (¬ p1 = 120 → ((p1 = 121 → alI X 0 p2 0 (fun v_156 => isO X p0 2 ((∃ mc_160 ms_161 : Nat, 0 + mc_160 ≤ mc ∧ 0 + ms_161 ≤ ms ∧ wpX2_setsDay (fun r_157 X_158 => post r_157 X_158) xpost E mc_160 ms_161 X p0 v_156)))) ∧ (¬ p1 = 121 → False))))))))))))))))))))))
abbrev wsX1_done : List Cond := ws_ yX1_done cX1_done 3 (some .int)
set_option maxHeartbeats 8000000 in
theorem metX1_done (l : Launch) (hlt : l.stackTraces = false) (K : HK) (mc ms : Nat) (sz : Nat) (post : Int32 → hX → Prop) (xpost : String → Nat → hX → Prop) (X0 : hX) (p0 : Nat) (p1 : Int32) (p2 : Nat) : vx_Met l yX1_done wsX1_done (rmh 10 259 mc ms) (hPc K X0 sz [.ref p0, .int p1, .ref p2] (wpX1_done post xpost (K.2.2 0) mc ms X0 p0 p1 p2)) (hQi post K X0 sz) (hXC xpost K X0 sz) mc ms (hA X0 sz) := by
  refine vx_ofW (cc := cX1_done) (maxL := 3) (ret := (some .int)) (by decide) rfl ?_
  intro p e s m args below meth c s₁ B hml hno hv
  obtain ⟨rfl, hv⟩ := hv
  obtain ⟨hC, hP, hw⟩ := HC.of hv
  have hsz : s.heap.size = sz := hv.1
  subst hsz
  clear hv
  have hout : ∀ {pc : Nat}, ∀ x ∈ c.exceptionTable.toList, covers x pc = false := fun x hx => (hno x hx).elim
  have hr := B.returns
  have hts := atoms_spec (ws := wsX1_done) B.pre
  have hts : ∀ w ∈ lw_all, w.before _ s = true := fun w h => hts w (List.mem_cons_of_mem _ h)
  have hF : CallFix p m c cX1_done 3 s ([.ref p0, .int p1, .ref p2] : List Value).toArray lw_all RX1 := ⟨B.exec, B.bytes, hml, findClass_of_methodNamed B.named, hts⟩
  have hlocks := B.notSynchronized
  have hl := lv_entry ([.ref p0, .int p1, .ref p2]) (n := 3) (Nat.le_of_ble_eq_true rfl)
  rw [lg_entry_eq]
  generalize (lg_sl ([.ref p0, .int p1, .ref p2]) ++ List.replicate (3 - (lg_sl ([.ref p0, .int p1, .ref p2])).length) Slot.unset).toArray = ls at hl ⊢
  have hl : lv_has ls 3 [(0, .ref p0), (1, .int p1), (2, .ref p2)] := hl
  have hS : va_S (hA X0 s.heap.size) s.heap s.heap [] := va_S.rf
  unfold wpX1_done at hw
  show W p l e (rmh 10 259 mc ms) s m _ below meth c _ _ _ _ _ _
  refine lv_iload_n hF.1 hF.2.1 dX1_done_0 rfl (lv_at hl 1 rfl) ?_
  by_cases c_1_0 : p1 = 97
  · have hw := hw.1 c_1_0
    refine lv_tableIn (tgt := 158) (off := 157) hF.1 hF.2.1 dX1_done_1 (by rw [c_1_0]; decide) (by rw [c_1_0]; decide) (by rw [c_1_0]; decide) (by decide) ?_
    refine lv_aload_n hF.1 hF.2.1 dX1_done_158 rfl (lv_at hl 0 rfl) ?_
    refine lv_aload_n hF.1 hF.2.1 dX1_done_159 rfl (lv_at hl 2 rfl) ?_
    refine lv_iconst (v := 0) hF.1 hF.2.1 dX1_done_160 (by decide) ?_
    obtain ⟨n_2, f_3, hx_4, hi_5, hw⟩ := hw
    refine x_iald hF hC hP hx_4 hi_5 dX1_done_161 ?_
    generalize f_3 (Int32.toNatClampNeg 0) = v_6 at hw ⊢
    refine lv_aload_n hF.1 hF.2.1 dX1_done_162 rfl (lv_at hl 2 rfl) ?_
    refine lv_iconst (v := 1) hF.1 hF.2.1 dX1_done_163 (by decide) ?_
    obtain ⟨n_7, f_8, hx_9, hi_10, hw⟩ := hw
    refine x_iald hF hC hP hx_9 hi_10 dX1_done_164 ?_
    generalize f_8 (Int32.toNatClampNeg 1) = v_11 at hw ⊢
    obtain ⟨ho_14, hw⟩ := hw
    obtain ⟨mc_15, ms_16, hc_17, hs_18, hw⟩ := hw
    refine hkx_i (hrx_V (As := [.int v_6, .int v_11]) (rest := []) (T := TX2) (N := 9) (ci := 2) hF hl.1 hC hP hS (metX2_getsArm l hlt K mc_15 ms_16 _ _ _ X0 p0 v_6 v_11) rfl (cwV 2 hF.2.2.2.2 (lw_V q909 q910 q911 q76 q912) rfl rfl rfl (by decide +kernel) ⟨Nat.le_of_ble_eq_true rfl, Nat.le_of_ble_eq_true rfl⟩) ho_14 hw rfl rfl (Nat.le_of_ble_eq_true rfl) dX1_done_165 ⟨hc_17, hs_18⟩) hP hS (fun E9 q9 X9 H locs hw hcl hP hS => ?_) (fun r_12 X_13 H locs hw hP hS => ?_)
    · exact h_out hout hlocks hcl hP hS ⟨hc_17, hs_18⟩ hw
    exact vx_ret (h_iret hF hr hlocks hP hS ⟨hc_17, hs_18⟩ dX1_done_168 hw)
  have hw := hw.2 c_1_0
  by_cases c_1_1 : p1 = 98
  · have hw := hw.1 c_1_1
    refine lv_tableIn (tgt := 169) (off := 168) hF.1 hF.2.1 dX1_done_1 (by rw [c_1_1]; decide) (by rw [c_1_1]; decide) (by rw [c_1_1]; decide) (by decide) ?_
    refine lv_aload_n hF.1 hF.2.1 dX1_done_169 rfl (lv_at hl 0 rfl) ?_
    refine lv_aload_n hF.1 hF.2.1 dX1_done_170 rfl (lv_at hl 2 rfl) ?_
    refine lv_iconst (v := 0) hF.1 hF.2.1 dX1_done_171 (by decide) ?_
    obtain ⟨n_19, f_20, hx_21, hi_22, hw⟩ := hw
    refine x_iald hF hC hP hx_21 hi_22 dX1_done_172 ?_
    generalize f_20 (Int32.toNatClampNeg 0) = v_23 at hw ⊢
    refine lv_aload_n hF.1 hF.2.1 dX1_done_173 rfl (lv_at hl 2 rfl) ?_
    refine lv_iconst (v := 1) hF.1 hF.2.1 dX1_done_174 (by decide) ?_
    obtain ⟨n_24, f_25, hx_26, hi_27, hw⟩ := hw
    refine x_iald hF hC hP hx_26 hi_27 dX1_done_175 ?_
    generalize f_25 (Int32.toNatClampNeg 1) = v_28 at hw ⊢
    obtain ⟨ho_31, hw⟩ := hw
    obtain ⟨mc_32, ms_33, hc_34, hs_35, hw⟩ := hw
    refine hkx_i (hrx_V (As := [.int v_23, .int v_28]) (rest := []) (T := TX2) (N := 9) (ci := 2) hF hl.1 hC hP hS (metX2_bends l hlt K mc_32 ms_33 _ _ _ X0 p0 v_23 v_28) rfl (cwV 2 hF.2.2.2.2 (lw_V q936 q937 q938 q76 q939) rfl rfl rfl (by decide +kernel) ⟨Nat.le_of_ble_eq_true rfl, Nat.le_of_ble_eq_true rfl⟩) ho_31 hw rfl rfl (Nat.le_of_ble_eq_true rfl) dX1_done_176 ⟨hc_34, hs_35⟩) hP hS (fun E9 q9 X9 H locs hw hcl hP hS => ?_) (fun r_29 X_30 H locs hw hP hS => ?_)
    · exact h_out hout hlocks hcl hP hS ⟨hc_34, hs_35⟩ hw
    exact vx_ret (h_iret hF hr hlocks hP hS ⟨hc_34, hs_35⟩ dX1_done_179 hw)
  have hw := hw.2 c_1_1
  by_cases c_1_2 : p1 = 100
  · have hw := hw.1 c_1_2
    refine lv_tableIn (tgt := 202) (off := 201) hF.1 hF.2.1 dX1_done_1 (by rw [c_1_2]; decide) (by rw [c_1_2]; decide) (by rw [c_1_2]; decide) (by decide) ?_
    refine lv_aload_n hF.1 hF.2.1 dX1_done_202 rfl (lv_at hl 0 rfl) ?_
    refine lv_aload_n hF.1 hF.2.1 dX1_done_203 rfl (lv_at hl 2 rfl) ?_
    refine lv_iconst (v := 0) hF.1 hF.2.1 dX1_done_204 (by decide) ?_
    obtain ⟨n_36, f_37, hx_38, hi_39, hw⟩ := hw
    refine x_iald hF hC hP hx_38 hi_39 dX1_done_205 ?_
    generalize f_37 (Int32.toNatClampNeg 0) = v_40 at hw ⊢
    obtain ⟨ho_43, hw⟩ := hw
    obtain ⟨mc_44, ms_45, hc_46, hs_47, hw⟩ := hw
    refine hkx_i (hrx_V (As := [.int v_40]) (rest := []) (T := TX2) (N := 9) (ci := 2) hF hl.1 hC hP hS (metX2_goesOn l hlt K mc_44 ms_45 _ _ _ X0 p0 v_40) rfl (cwV 1 hF.2.2.2.2 (lw_V q969 q970 q971 q76 q972) rfl rfl rfl (by decide +kernel) ⟨Nat.le_of_ble_eq_true rfl, Nat.le_of_ble_eq_true rfl⟩) ho_43 hw rfl rfl (Nat.le_of_ble_eq_true rfl) dX1_done_206 ⟨hc_46, hs_47⟩) hP hS (fun E9 q9 X9 H locs hw hcl hP hS => ?_) (fun r_41 X_42 H locs hw hP hS => ?_)
    · exact h_out hout hlocks hcl hP hS ⟨hc_46, hs_47⟩ hw
    exact vx_ret (h_iret hF hr hlocks hP hS ⟨hc_46, hs_47⟩ dX1_done_209 hw)
  have hw := hw.2 c_1_2
  by_cases c_1_3 : p1 = 109
  · have hw := hw.1 c_1_3
    refine lv_tableIn (tgt := 128) (off := 127) hF.1 hF.2.1 dX1_done_1 (by rw [c_1_3]; decide) (by rw [c_1_3]; decide) (by rw [c_1_3]; decide) (by decide) ?_
    refine lv_aload_n hF.1 hF.2.1 dX1_done_128 rfl (lv_at hl 0 rfl) ?_
    refine lv_aload_n hF.1 hF.2.1 dX1_done_129 rfl (lv_at hl 2 rfl) ?_
    refine lv_iconst (v := 0) hF.1 hF.2.1 dX1_done_130 (by decide) ?_
    obtain ⟨n_48, f_49, hx_50, hi_51, hw⟩ := hw
    refine x_iald hF hC hP hx_50 hi_51 dX1_done_131 ?_
    generalize f_49 (Int32.toNatClampNeg 0) = v_52 at hw ⊢
    refine lv_aload_n hF.1 hF.2.1 dX1_done_132 rfl (lv_at hl 2 rfl) ?_
    refine lv_iconst (v := 1) hF.1 hF.2.1 dX1_done_133 (by decide) ?_
    obtain ⟨n_53, f_54, hx_55, hi_56, hw⟩ := hw
    refine x_iald hF hC hP hx_55 hi_56 dX1_done_134 ?_
    generalize f_54 (Int32.toNatClampNeg 1) = v_57 at hw ⊢
    obtain ⟨ho_60, hw⟩ := hw
    obtain ⟨mc_61, ms_62, hc_63, hs_64, hw⟩ := hw
    refine hkx_i (hrx_V (As := [.int v_52, .int v_57]) (rest := []) (T := TX2) (N := 9) (ci := 2) hF hl.1 hC hP hS (metX2_joins l hlt K mc_61 ms_62 _ _ _ X0 p0 v_52 v_57) rfl (cwV 2 hF.2.2.2.2 (lw_V q870 q871 q872 q76 q873) rfl rfl rfl (by decide +kernel) ⟨Nat.le_of_ble_eq_true rfl, Nat.le_of_ble_eq_true rfl⟩) ho_60 hw rfl rfl (Nat.le_of_ble_eq_true rfl) dX1_done_135 ⟨hc_63, hs_64⟩) hP hS (fun E9 q9 X9 H locs hw hcl hP hS => ?_) (fun r_58 X_59 H locs hw hP hS => ?_)
    · exact h_out hout hlocks hcl hP hS ⟨hc_63, hs_64⟩ hw
    exact vx_ret (h_iret hF hr hlocks hP hS ⟨hc_63, hs_64⟩ dX1_done_138 hw)
  have hw := hw.2 c_1_3
  by_cases c_1_4 : p1 = 111
  · have hw := hw.1 c_1_4
    refine lv_tableIn (tgt := 180) (off := 179) hF.1 hF.2.1 dX1_done_1 (by rw [c_1_4]; decide) (by rw [c_1_4]; decide) (by rw [c_1_4]; decide) (by decide) ?_
    refine lv_aload_n hF.1 hF.2.1 dX1_done_180 rfl (lv_at hl 0 rfl) ?_
    refine lv_aload_n hF.1 hF.2.1 dX1_done_181 rfl (lv_at hl 2 rfl) ?_
    refine lv_iconst (v := 0) hF.1 hF.2.1 dX1_done_182 (by decide) ?_
    obtain ⟨n_65, f_66, hx_67, hi_68, hw⟩ := hw
    refine x_iald hF hC hP hx_67 hi_68 dX1_done_183 ?_
    generalize f_66 (Int32.toNatClampNeg 0) = v_69 at hw ⊢
    refine lv_aload_n hF.1 hF.2.1 dX1_done_184 rfl (lv_at hl 2 rfl) ?_
    refine lv_iconst (v := 1) hF.1 hF.2.1 dX1_done_185 (by decide) ?_
    obtain ⟨n_70, f_71, hx_72, hi_73, hw⟩ := hw
    refine x_iald hF hC hP hx_72 hi_73 dX1_done_186 ?_
    generalize f_71 (Int32.toNatClampNeg 1) = v_74 at hw ⊢
    obtain ⟨ho_77, hw⟩ := hw
    obtain ⟨mc_78, ms_79, hc_80, hs_81, hw⟩ := hw
    refine hkx_i (hrx_V (As := [.int v_69, .int v_74]) (rest := []) (T := TX2) (N := 9) (ci := 2) hF hl.1 hC hP hS (metX2_getsMoon l hlt K mc_78 ms_79 _ _ _ X0 p0 v_69 v_74) rfl (cwV 2 hF.2.2.2.2 (lw_V q944 q945 q946 q76 q947) rfl rfl rfl (by decide +kernel) ⟨Nat.le_of_ble_eq_true rfl, Nat.le_of_ble_eq_true rfl⟩) ho_77 hw rfl rfl (Nat.le_of_ble_eq_true rfl) dX1_done_187 ⟨hc_80, hs_81⟩) hP hS (fun E9 q9 X9 H locs hw hcl hP hS => ?_) (fun r_75 X_76 H locs hw hP hS => ?_)
    · exact h_out hout hlocks hcl hP hS ⟨hc_80, hs_81⟩ hw
    exact vx_ret (h_iret hF hr hlocks hP hS ⟨hc_80, hs_81⟩ dX1_done_190 hw)
  have hw := hw.2 c_1_4
  by_cases c_1_5 : p1 = 112
  · have hw := hw.1 c_1_5
    refine lv_tableIn (tgt := 191) (off := 190) hF.1 hF.2.1 dX1_done_1 (by rw [c_1_5]; decide) (by rw [c_1_5]; decide) (by rw [c_1_5]; decide) (by decide) ?_
    refine lv_aload_n hF.1 hF.2.1 dX1_done_191 rfl (lv_at hl 0 rfl) ?_
    refine lv_aload_n hF.1 hF.2.1 dX1_done_192 rfl (lv_at hl 2 rfl) ?_
    refine lv_iconst (v := 0) hF.1 hF.2.1 dX1_done_193 (by decide) ?_
    obtain ⟨n_82, f_83, hx_84, hi_85, hw⟩ := hw
    refine x_iald hF hC hP hx_84 hi_85 dX1_done_194 ?_
    generalize f_83 (Int32.toNatClampNeg 0) = v_86 at hw ⊢
    refine lv_aload_n hF.1 hF.2.1 dX1_done_195 rfl (lv_at hl 2 rfl) ?_
    refine lv_iconst (v := 1) hF.1 hF.2.1 dX1_done_196 (by decide) ?_
    obtain ⟨n_87, f_88, hx_89, hi_90, hw⟩ := hw
    refine x_iald hF hC hP hx_89 hi_90 dX1_done_197 ?_
    generalize f_88 (Int32.toNatClampNeg 1) = v_91 at hw ⊢
    obtain ⟨ho_94, hw⟩ := hw
    obtain ⟨mc_95, ms_96, hc_97, hs_98, hw⟩ := hw
    refine hkx_i (hrx_V (As := [.int v_86, .int v_91]) (rest := []) (T := TX2) (N := 9) (ci := 2) hF hl.1 hC hP hS (metX2_tells l hlt K mc_95 ms_96 _ _ _ X0 p0 v_86 v_91) rfl (cwV 2 hF.2.2.2.2 (lw_V q964 q965 q966 q76 q967) rfl rfl rfl (by decide +kernel) ⟨Nat.le_of_ble_eq_true rfl, Nat.le_of_ble_eq_true rfl⟩) ho_94 hw rfl rfl (Nat.le_of_ble_eq_true rfl) dX1_done_198 ⟨hc_97, hs_98⟩) hP hS (fun E9 q9 X9 H locs hw hcl hP hS => ?_) (fun r_92 X_93 H locs hw hP hS => ?_)
    · exact h_out hout hlocks hcl hP hS ⟨hc_97, hs_98⟩ hw
    exact vx_ret (h_iret hF hr hlocks hP hS ⟨hc_97, hs_98⟩ dX1_done_201 hw)
  have hw := hw.2 c_1_5
  by_cases c_1_6 : p1 = 116
  · have hw := hw.1 c_1_6
    refine lv_tableIn (tgt := 147) (off := 146) hF.1 hF.2.1 dX1_done_1 (by rw [c_1_6]; decide) (by rw [c_1_6]; decide) (by rw [c_1_6]; decide) (by decide) ?_
    refine lv_aload_n hF.1 hF.2.1 dX1_done_147 rfl (lv_at hl 0 rfl) ?_
    refine lv_aload_n hF.1 hF.2.1 dX1_done_148 rfl (lv_at hl 2 rfl) ?_
    refine lv_iconst (v := 0) hF.1 hF.2.1 dX1_done_149 (by decide) ?_
    obtain ⟨n_99, f_100, hx_101, hi_102, hw⟩ := hw
    refine x_iald hF hC hP hx_101 hi_102 dX1_done_150 ?_
    generalize f_100 (Int32.toNatClampNeg 0) = v_103 at hw ⊢
    refine lv_aload_n hF.1 hF.2.1 dX1_done_151 rfl (lv_at hl 2 rfl) ?_
    refine lv_iconst (v := 1) hF.1 hF.2.1 dX1_done_152 (by decide) ?_
    obtain ⟨n_104, f_105, hx_106, hi_107, hw⟩ := hw
    refine x_iald hF hC hP hx_106 hi_107 dX1_done_153 ?_
    generalize f_105 (Int32.toNatClampNeg 1) = v_108 at hw ⊢
    obtain ⟨ho_111, hw⟩ := hw
    obtain ⟨mc_112, ms_113, hc_114, hs_115, hw⟩ := hw
    refine hkx_i (hrx_V (As := [.int v_103, .int v_108]) (rest := []) (T := TX2) (N := 9) (ci := 2) hF hl.1 hC hP hS (metX2_cuts l hlt K mc_112 ms_113 _ _ _ X0 p0 v_103 v_108) rfl (cwV 2 hF.2.2.2.2 (lw_V q901 q902 q903 q76 q904) rfl rfl rfl (by decide +kernel) ⟨Nat.le_of_ble_eq_true rfl, Nat.le_of_ble_eq_true rfl⟩) ho_111 hw rfl rfl (Nat.le_of_ble_eq_true rfl) dX1_done_154 ⟨hc_114, hs_115⟩) hP hS (fun E9 q9 X9 H locs hw hcl hP hS => ?_) (fun r_109 X_110 H locs hw hP hS => ?_)
    · exact h_out hout hlocks hcl hP hS ⟨hc_114, hs_115⟩ hw
    exact vx_ret (h_iret hF hr hlocks hP hS ⟨hc_114, hs_115⟩ dX1_done_157 hw)
  have hw := hw.2 c_1_6
  by_cases c_1_7 : p1 = 117
  · have hw := hw.1 c_1_7
    refine lv_tableIn (tgt := 139) (off := 138) hF.1 hF.2.1 dX1_done_1 (by rw [c_1_7]; decide) (by rw [c_1_7]; decide) (by rw [c_1_7]; decide) (by decide) ?_
    refine lv_aload_n hF.1 hF.2.1 dX1_done_139 rfl (lv_at hl 0 rfl) ?_
    refine lv_aload_n hF.1 hF.2.1 dX1_done_140 rfl (lv_at hl 2 rfl) ?_
    refine lv_iconst (v := 0) hF.1 hF.2.1 dX1_done_141 (by decide) ?_
    obtain ⟨n_116, f_117, hx_118, hi_119, hw⟩ := hw
    refine x_iald hF hC hP hx_118 hi_119 dX1_done_142 ?_
    generalize f_117 (Int32.toNatClampNeg 0) = v_120 at hw ⊢
    obtain ⟨ho_123, hw⟩ := hw
    obtain ⟨mc_124, ms_125, hc_126, hs_127, hw⟩ := hw
    refine hkx_i (hrx_V (As := [.int v_120]) (rest := []) (T := TX2) (N := 9) (ci := 2) hF hl.1 hC hP hS (metX2_parts l hlt K mc_124 ms_125 _ _ _ X0 p0 v_120) rfl (cwV 1 hF.2.2.2.2 (lw_V q897 q898 q899 q76 q900) rfl rfl rfl (by decide +kernel) ⟨Nat.le_of_ble_eq_true rfl, Nat.le_of_ble_eq_true rfl⟩) ho_123 hw rfl rfl (Nat.le_of_ble_eq_true rfl) dX1_done_143 ⟨hc_126, hs_127⟩) hP hS (fun E9 q9 X9 H locs hw hcl hP hS => ?_) (fun r_121 X_122 H locs hw hP hS => ?_)
    · exact h_out hout hlocks hcl hP hS ⟨hc_126, hs_127⟩ hw
    exact vx_ret (h_iret hF hr hlocks hP hS ⟨hc_126, hs_127⟩ dX1_done_146 hw)
  have hw := hw.2 c_1_7
  by_cases c_1_8 : p1 = 119
  · have hw := hw.1 c_1_8
    refine lv_tableIn (tgt := 117) (off := 116) hF.1 hF.2.1 dX1_done_1 (by rw [c_1_8]; decide) (by rw [c_1_8]; decide) (by rw [c_1_8]; decide) (by decide) ?_
    refine lv_aload_n hF.1 hF.2.1 dX1_done_117 rfl (lv_at hl 0 rfl) ?_
    refine lv_aload_n hF.1 hF.2.1 dX1_done_118 rfl (lv_at hl 2 rfl) ?_
    refine lv_iconst (v := 0) hF.1 hF.2.1 dX1_done_119 (by decide) ?_
    obtain ⟨n_128, f_129, hx_130, hi_131, hw⟩ := hw
    refine x_iald hF hC hP hx_130 hi_131 dX1_done_120 ?_
    generalize f_129 (Int32.toNatClampNeg 0) = v_132 at hw ⊢
    refine lv_aload_n hF.1 hF.2.1 dX1_done_121 rfl (lv_at hl 2 rfl) ?_
    refine lv_iconst (v := 1) hF.1 hF.2.1 dX1_done_122 (by decide) ?_
    obtain ⟨n_133, f_134, hx_135, hi_136, hw⟩ := hw
    refine x_iald hF hC hP hx_135 hi_136 dX1_done_123 ?_
    generalize f_134 (Int32.toNatClampNeg 1) = v_137 at hw ⊢
    obtain ⟨ho_140, hw⟩ := hw
    obtain ⟨mc_141, ms_142, hc_143, hs_144, hw⟩ := hw
    refine hkx_i (hrx_V (As := [.int v_132, .int v_137]) (rest := []) (T := TX2) (N := 9) (ci := 2) hF hl.1 hC hP hS (metX2_getsWheel l hlt K mc_141 ms_142 _ _ _ X0 p0 v_132 v_137) rfl (cwV 2 hF.2.2.2.2 (lw_V q839 q840 q841 q76 q842) rfl rfl rfl (by decide +kernel) ⟨Nat.le_of_ble_eq_true rfl, Nat.le_of_ble_eq_true rfl⟩) ho_140 hw rfl rfl (Nat.le_of_ble_eq_true rfl) dX1_done_124 ⟨hc_143, hs_144⟩) hP hS (fun E9 q9 X9 H locs hw hcl hP hS => ?_) (fun r_138 X_139 H locs hw hP hS => ?_)
    · exact h_out hout hlocks hcl hP hS ⟨hc_143, hs_144⟩ hw
    exact vx_ret (h_iret hF hr hlocks hP hS ⟨hc_143, hs_144⟩ dX1_done_127 hw)
  have hw := hw.2 c_1_8
  by_cases c_1_9 : p1 = 120
  · have hw := hw.1 c_1_9
    refine lv_tableIn (tgt := 112) (off := 111) hF.1 hF.2.1 dX1_done_1 (by rw [c_1_9]; decide) (by rw [c_1_9]; decide) (by rw [c_1_9]; decide) (by decide) ?_
    refine lv_aload_n hF.1 hF.2.1 dX1_done_112 rfl (lv_at hl 0 rfl) ?_
    obtain ⟨ho_147, hw⟩ := hw
    obtain ⟨mc_148, ms_149, hc_150, hs_151, hw⟩ := hw
    refine hkx_i (hrx_V (As := []) (rest := []) (T := TX2) (N := 9) (ci := 2) hF hl.1 hC hP hS (metX2_getsAxle l hlt K mc_148 ms_149 _ _ _ X0 p0) rfl (cwV 0 hF.2.2.2.2 (lw_V q812 q813 q814 q76 q815) rfl rfl rfl (by decide +kernel) ⟨Nat.le_of_ble_eq_true rfl, Nat.le_of_ble_eq_true rfl⟩) ho_147 hw rfl rfl (Nat.le_of_ble_eq_true rfl) dX1_done_113 ⟨hc_150, hs_151⟩) hP hS (fun E9 q9 X9 H locs hw hcl hP hS => ?_) (fun r_145 X_146 H locs hw hP hS => ?_)
    · exact h_out hout hlocks hcl hP hS ⟨hc_150, hs_151⟩ hw
    exact vx_ret (h_iret hF hr hlocks hP hS ⟨hc_150, hs_151⟩ dX1_done_116 hw)
  have hw := hw.2 c_1_9
  by_cases c_1_10 : p1 = 121
  · have hw := hw.1 c_1_10
    refine lv_tableOut (tgt := 210) hF.1 hF.2.1 dX1_done_1 (by rw [c_1_10]; decide) (by decide) ?_
    refine lv_aload_n hF.1 hF.2.1 dX1_done_210 rfl (lv_at hl 0 rfl) ?_
    refine lv_aload_n hF.1 hF.2.1 dX1_done_211 rfl (lv_at hl 2 rfl) ?_
    refine lv_iconst (v := 0) hF.1 hF.2.1 dX1_done_212 (by decide) ?_
    obtain ⟨n_152, f_153, hx_154, hi_155, hw⟩ := hw
    refine x_iald hF hC hP hx_154 hi_155 dX1_done_213 ?_
    generalize f_153 (Int32.toNatClampNeg 0) = v_156 at hw ⊢
    obtain ⟨ho_159, hw⟩ := hw
    obtain ⟨mc_160, ms_161, hc_162, hs_163, hw⟩ := hw
    refine hkx_i (hrx_V (As := [.int v_156]) (rest := []) (T := TX2) (N := 9) (ci := 2) hF hl.1 hC hP hS (metX2_setsDay l hlt K mc_160 ms_161 _ _ _ X0 p0 v_156) rfl (cwV 1 hF.2.2.2.2 (lw_V q975 q976 q977 q76 q978) rfl rfl rfl (by decide +kernel) ⟨Nat.le_of_ble_eq_true rfl, Nat.le_of_ble_eq_true rfl⟩) ho_159 hw rfl rfl (Nat.le_of_ble_eq_true rfl) dX1_done_214 ⟨hc_162, hs_163⟩) hP hS (fun E9 q9 X9 H locs hw hcl hP hS => ?_) (fun r_157 X_158 H locs hw hP hS => ?_)
    · exact h_out hout hlocks hcl hP hS ⟨hc_162, hs_163⟩ hw
    exact vx_ret (h_iret hF hr hlocks hP hS ⟨hc_162, hs_163⟩ dX1_done_217 hw)
  have hw := hw.2 c_1_10
  exact False.elim hw
def wpX1_changed_30 (post : Int32 → hX → Prop) (E : Nat) (x0 : Nat) (x1 : Nat) (x2 : Int32) (X : hX) : Prop := pfV X x0 1 0 (.ref x1) (fun X_4 => post x2 X_4)
def wpX1_changed (post : Int32 → hX → Prop) (E : Nat) (X : hX) (p0 : Nat) (p1 : Nat) (p2 : Int32) : Prop := gfA X p0 1 2 (fun v_6 => gfA X p0 1 0 (fun v_10 => isO X v_6 9 (wpJ3_addLast (fun X_13 => gfA X_13 p0 1 2 (fun v_16 => isO X_13 v_16 9 (wpJ3_size (fun r_19 X_20 => ((r_19 ≤ 4 → wpX1_changed_30 post E p0 p1 p2 X_20) ∧ (¬ r_19 ≤ 4 → gfA X_20 p0 1 2 (fun v_24 => isO X_20 v_24 9 (wpJ3_removeFirst (fun r_27 X_28 => (∃ a_30 : Nat, r_27 = some a_30 ∧ wpX1_changed_30 post E p0 p1 p2 X_28)) E X_20 v_24))))) E X_13 v_16))) E X v_6 v_10)))
abbrev wsX1_changed : List Cond := ws_ yX1_changed cX1_changed 3 (some .int)
set_option maxHeartbeats 8000000 in
theorem metX1_changed (l : Launch) (K : HK) (sz : Nat) (post : Int32 → hX → Prop) (X0 : hX) (p0 : Nat) (p1 : Nat) (p2 : Int32) : Met l yX1_changed wsX1_changed (rmh 3 65 0 0) (hPc K X0 sz [.ref p0, .ref p1, .int p2] (wpX1_changed post (K.2.2 0) X0 p0 p1 p2)) (hQi post K X0 sz) 0 0 (hA X0 sz) := by
  refine Met.ofW (cc := cX1_changed) (maxL := 3) (ret := (some .int)) (by decide) rfl ?_
  intro p e s m args below meth c s₁ B hml hv
  obtain ⟨rfl, hv⟩ := hv
  obtain ⟨hC, hP, hw⟩ := HC.of hv
  have hsz : s.heap.size = sz := hv.1
  subst hsz
  clear hv
  have hr := B.returns
  have hts := atoms_spec (ws := wsX1_changed) B.pre
  have hts : ∀ w ∈ lw_all, w.before _ s = true := fun w h => hts w (List.mem_cons_of_mem _ h)
  have hF : CallFix p m c cX1_changed 3 s ([.ref p0, .ref p1, .int p2] : List Value).toArray lw_all RX1 := ⟨B.exec, B.bytes, hml, findClass_of_methodNamed B.named, hts⟩
  have hlocks := B.notSynchronized
  have hl := lv_entry ([.ref p0, .ref p1, .int p2]) (n := 3) (Nat.le_of_ble_eq_true rfl)
  rw [lg_entry_eq]
  generalize (lg_sl ([.ref p0, .ref p1, .int p2]) ++ List.replicate (3 - (lg_sl ([.ref p0, .ref p1, .int p2])).length) Slot.unset).toArray = ls at hl ⊢
  have hl : lv_has ls 3 [(0, .ref p0), (1, .ref p1), (2, .int p2)] := hl
  have hS : va_S (hA X0 s.heap.size) s.heap s.heap [] := va_S.rf
  have T30 : ∀ (x0 : Nat) (x1 : Nat) (x2 : Int32) (X : hX) (H : Heap) (locs : List Loc) (ls : Array Slot), hI K X0 s.heap.size X H → va_S (hA X0 s.heap.size) s.heap H locs → lv_has ls 3 [(0, .ref x0), (1, .ref x1), (2, .int x2)] → wpX1_changed_30 post (K.2.2 0) x0 x1 x2 X → W p l e (rmh 3 65 0 0) s m ([.ref p0, .ref p1, .int p2] : List Value).toArray below meth c H locs 0 0 (MQ below (hQi post K X0 s.heap.size) ([.ref p0, .ref p1, .int p2] : List Value).toArray s 0 0 (hA X0 s.heap.size)) (F0 m 30 ls []) := by
    intro x0 x1 x2 X H locs ls hP hS hl hw
    unfold wpX1_changed_30 at hw
    refine lv_aload_n hF.1 hF.2.1 dX1_changed_30 rfl (lv_at hl 0 rfl) ?_
    refine lv_aload_n hF.1 hF.2.1 dX1_changed_31 rfl (lv_at hl 1 rfl) ?_
    obtain ⟨fs_1, hx_2, hl_3, hw⟩ := hw
    refine x_put hF hC hP hS in_X1 rfl tyX1 tyX1_ok nmX1 0 (by decide) q244 (fun _ z => z) rfl rfl rfl hx_2 hl_3 dX1_changed_32 (fun H locs hP hS => ?_)
    generalize hup X x0 (.inr (1, fs_1.set 0 (.ref x1))) = X_4 at hP hw
    refine lv_iload_n hF.1 hF.2.1 dX1_changed_35 rfl (lv_at hl 2 rfl) ?_
    exact h_iret hF hr hlocks hP hS ⟨Nat.le_refl _, Nat.le_refl _⟩ dX1_changed_36 hw
  unfold wpX1_changed at hw
  show W p l e (rmh 3 65 0 0) s m _ below meth c _ _ _ _ _ _
  refine lv_aload_n hF.1 hF.2.1 dX1_changed_0 rfl (lv_at hl 0 rfl) ?_
  obtain ⟨fs_5, v_6, hx_7, hv_8, hw⟩ := hw
  refine x_get hF hC hP in_X1 rfl 2 (by decide) q246 (fun _ z => z) hx_7 hv_8 dX1_changed_1 ?_
  refine lv_aload_n hF.1 hF.2.1 dX1_changed_4 rfl (lv_at hl 0 rfl) ?_
  obtain ⟨fs_9, v_10, hx_11, hv_12, hw⟩ := hw
  refine x_get hF hC hP in_X1 rfl 0 (by decide) q244 (fun _ z => z) hx_11 hv_12 dX1_changed_5 ?_
  obtain ⟨ho_14, hw⟩ := hw
  refine hk_v (hr_V (As := [.ref v_10]) (rest := []) (T := TJ3) (N := 3) (ci := 9) hF hl.1 hC hP hS (metJ3_addLast l K _ _ X0 v_6 v_10) rfl (cwV 1 hF.2.2.2.2 (lw_V q984 q985 q986 q80 q987) rfl rfl rfl (by decide +kernel) ⟨Nat.le_of_ble_eq_true rfl, Nat.le_of_ble_eq_true rfl⟩) ho_14 hw rfl rfl (Nat.le_of_ble_eq_true rfl) dX1_changed_8 ⟨Nat.le_refl _, Nat.le_refl _⟩) hP hS (fun X_13 H locs hw hP hS => ?_)
  refine lv_aload_n hF.1 hF.2.1 dX1_changed_11 rfl (lv_at hl 0 rfl) ?_
  obtain ⟨fs_15, v_16, hx_17, hv_18, hw⟩ := hw
  refine x_get hF hC hP in_X1 rfl 2 (by decide) q246 (fun _ z => z) hx_17 hv_18 dX1_changed_12 ?_
  obtain ⟨ho_21, hw⟩ := hw
  refine hk_i (hr_V (As := []) (rest := []) (T := TJ3) (N := 3) (ci := 9) hF hl.1 hC hP hS (metJ3_size l K _ _ X_13 v_16) rfl (cwV 0 hF.2.2.2.2 (lw_V q429 q430 q431 q80 q432) rfl rfl rfl (by decide +kernel) ⟨Nat.le_of_ble_eq_true rfl, Nat.le_of_ble_eq_true rfl⟩) ho_21 hw rfl rfl (Nat.le_of_ble_eq_true rfl) dX1_changed_15 ⟨Nat.le_refl _, Nat.le_refl _⟩) hP hS (fun r_19 X_20 H locs hw hP hS => ?_)
  refine lv_iconst (v := 4) hF.1 hF.2.1 dX1_changed_18 (by decide) ?_
  refine lv_icmp_le (tgt := 30) hF.1 hF.2.1 dX1_changed_19 (by decide) (fun c_22 => ?_) (fun c_22 => ?_)
  · have hw := hw.1 c_22
    exact T30 p0 p1 p2 X_20 _ _ ls hP hS (lv_sub hl [0, 1, 2] rfl) hw
  · have hw := hw.2 c_22
    refine lv_aload_n hF.1 hF.2.1 dX1_changed_22 rfl (lv_at hl 0 rfl) ?_
    obtain ⟨fs_23, v_24, hx_25, hv_26, hw⟩ := hw
    refine x_get hF hC hP in_X1 rfl 2 (by decide) q246 (fun _ z => z) hx_25 hv_26 dX1_changed_23 ?_
    obtain ⟨ho_29, hw⟩ := hw
    refine hk_q (hr_V (As := []) (rest := []) (T := TJ3) (N := 3) (ci := 9) hF hl.1 hC hP hS (metJ3_removeFirst l K _ _ X_20 v_24) rfl (cwV 0 hF.2.2.2.2 (lw_V q1019 q1020 q1021 q80 q1022) rfl rfl rfl (by decide +kernel) ⟨Nat.le_of_ble_eq_true rfl, Nat.le_of_ble_eq_true rfl⟩) ho_29 hw rfl rfl (Nat.le_of_ble_eq_true rfl) dX1_changed_26 ⟨Nat.le_refl _, Nat.le_refl _⟩) hP hS (fun r_27 X_28 H locs hw hP hS => ?_)
    obtain ⟨a_30, e_31, hw⟩ := hw
    subst e_31
    rw [va_rf_some]
    refine lv_pop hF.1 hF.2.1 dX1_changed_29 rfl ?_
    exact T30 p0 p1 p2 X_28 _ _ ls hP hS (lv_sub hl [0, 1, 2] rfl) hw
def wpX1_act (post : Int32 → hX → Prop) (xpost : String → Nat → hX → Prop) (E : Nat) (mc ms : Nat) (X : hX) (p0 : Nat) (p1 : Int32) (p2 : Nat) : Prop := newO X 2 [.null, .null, .null, .null, .null, .int 0, .int 0, .int 0, .int 0] 9 0 0 mc ms (fun a_1 X_2 => gfA X_2 p0 1 0 (fun v_5 => (∃ mc_9 ms_10 : Nat, (0 + 1) + mc_9 ≤ mc ∧ (0 + 9) + ms_10 ≤ ms ∧ wpX2_init_2 (fun X_8 => (∃ mc_15 ms_16 : Nat, ((0 + 1) + mc_9) + mc_15 ≤ mc ∧ ((0 + 9) + ms_10) + ms_16 ≤ ms ∧ wpX1_done (fun r_13 X_14 => isO X_14 p0 1 (wpX1_changed (fun r_30 X_31 => post r_30 X_31) E X_14 p0 a_1 r_13)) (fun E9 q9 X9 => (E9 = "ClockworkOrreries$Refused" ∧ gfI X9 q9 11 0 (fun v_20 => ((v_20 = 1 → newO X9 12 [] 6 (((0 + 1) + mc_9) + mc_15) (((0 + 9) + ms_10) + ms_16) mc ms (fun q_27 X_28 => xpost "java/lang/IllegalArgumentException" q_27 X_28)) ∧ (¬ v_20 = 1 → newO X9 13 [] 6 (((0 + 1) + mc_9) + mc_15) (((0 + 9) + ms_10) + ms_16) mc ms (fun q_24 X_25 => xpost "java/lang/IllegalStateException" q_24 X_25)))))) E mc_15 ms_16 X_8 a_1 p1 p2)) E mc_9 ms_10 X_2 a_1 v_5)))
abbrev wsX1_act : List Cond := wsW_ yX1_act cX1_act 5 (some .int) [(12, 23, 24, 42)]
set_option maxHeartbeats 8000000 in
theorem metX1_act (l : Launch) (hlt : l.stackTraces = false) (K : HK) (mc ms : Nat) (sz : Nat) (post : Int32 → hX → Prop) (xpost : String → Nat → hX → Prop) (X0 : hX) (p0 : Nat) (p1 : Int32) (p2 : Nat) : vx_Met l yX1_act wsX1_act (rmh 11 281 mc ms) (hPc K X0 sz [.ref p0, .int p1, .ref p2] (wpX1_act post xpost (K.2.2 0) mc ms X0 p0 p1 p2)) (hQi post K X0 sz) (hXC xpost K X0 sz) mc ms (hA X0 sz) := by
  refine vx_ofWH (cc := cX1_act) (maxL := 5) (ret := (some .int)) (by decide) rfl ?_
  intro p e s m args below meth c s₁ B hml hv
  obtain ⟨rfl, hv⟩ := hv
  obtain ⟨hC, hP, hw⟩ := HC.of hv
  have hsz : s.heap.size = sz := hv.1
  subst hsz
  clear hv
  have hr := B.returns
  have hts := atoms_spec (ws := wsX1_act) B.pre
  have htab : c.exceptionTable.toList = tableOf [(12, 23, 24, 42)] := vx_table (x := yX1_act) B (hts _ List.mem_cons_self)
  have hout : ∀ pc : Nat, (tableOf [(12, 23, 24, 42)]).all (fun x => !covers x pc) = true → ∀ x ∈ c.exceptionTable.toList, covers x pc = false := fun pc h x hx => by rw [htab] at hx; have h1 := List.all_eq_true.mp h x hx; exact (Bool.not_eq_true' _).mp h1
  have hts : ∀ w ∈ lw_all, w.before _ s = true := fun w h => hts w (List.mem_cons_of_mem _ h)
  have hF : CallFix p m c cX1_act 5 s ([.ref p0, .int p1, .ref p2] : List Value).toArray lw_all RX1 := ⟨B.exec, B.bytes, hml, findClass_of_methodNamed B.named, hts⟩
  have hlocks := B.notSynchronized
  have hl := lv_entry ([.ref p0, .int p1, .ref p2]) (n := 5) (Nat.le_of_ble_eq_true rfl)
  rw [lg_entry_eq]
  generalize (lg_sl ([.ref p0, .int p1, .ref p2]) ++ List.replicate (5 - (lg_sl ([.ref p0, .int p1, .ref p2])).length) Slot.unset).toArray = ls at hl ⊢
  have hl : lv_has ls 5 [(0, .ref p0), (1, .int p1), (2, .ref p2)] := hl
  have hS : va_S (hA X0 s.heap.size) s.heap s.heap [] := va_S.rf
  unfold wpX1_act at hw
  show W p l e (rmh 11 281 mc ms) s m _ below meth c _ _ _ _ _ _
  refine x_new hF hC hP hS in_X2 rfl tyX2 tyX2_ok q118 q119 q76 (nfsX2) hw ⟨rfl, rfl⟩ dX1_act_0 (fun a_1 X_2 H pk_3c pk_3s hw hP hS => ?_)
  refine lv_dup hF.1 hF.2.1 dX1_act_3 rfl ?_
  refine lv_aload_n hF.1 hF.2.1 dX1_act_4 rfl (lv_at hl 0 rfl) ?_
  obtain ⟨fs_4, v_5, hx_6, hv_7, hw⟩ := hw
  refine x_get hF hC hP in_X1 rfl 0 (by decide) q244 (fun _ z => z) hx_6 hv_7 dX1_act_5 ?_
  obtain ⟨mc_9, ms_10, hc_11, hs_12, hw⟩ := hw
  refine hk_v (hr_I (As := [.ref v_5]) (rest := [.ref a_1]) hF hl.1 hC hP hS (metX2_init_2 l K mc_9 ms_10 _ _ X_2 a_1 v_5) (cwI 1 hF.2.2.2.2 (lw_meth q751) rfl rfl rfl (hF.2.2.2.2 _ q76) (hF.2.2.2.2 _ q749) (hF.2.2.2.2 _ q750) rfl (by decide +kernel) ⟨Nat.le_of_ble_eq_true rfl, Nat.le_of_ble_eq_true rfl⟩) hw rfl rfl (Nat.le_of_ble_eq_true rfl) dX1_act_8 ⟨hc_11, hs_12⟩) hP hS (fun X_8 H locs hw hP hS => ?_)
  refine lv_astore_n (lv' := [(3, .ref a_1), (0, .ref p0), (1, .int p1), (2, .ref p2)]) hF.1 hF.2.1 dX1_act_11 rfl hl (by decide) rfl (fun ls hl => ?_)
  refine lv_aload_n hF.1 hF.2.1 dX1_act_12 rfl (lv_at hl 1 rfl) ?_
  refine lv_aload_n hF.1 hF.2.1 dX1_act_13 rfl (lv_at hl 0 rfl) ?_
  refine lv_aload_n hF.1 hF.2.1 dX1_act_14 rfl (lv_at hl 0 rfl) ?_
  refine lv_iload_n hF.1 hF.2.1 dX1_act_15 rfl (lv_at hl 2 rfl) ?_
  refine lv_aload_n hF.1 hF.2.1 dX1_act_16 rfl (lv_at hl 3 rfl) ?_
  obtain ⟨mc_15, ms_16, hc_17, hs_18, hw⟩ := hw
  refine hkx_i (hrx_S (As := [.ref a_1, .int p1, .ref p2]) (rest := [.ref a_1, .ref p0]) hF hl.1 hC hP hS (metX1_done l hlt K mc_15 ms_16 _ _ _ X_8 a_1 p1 p2) (va_cwS 3 hF.2.2.2.2 (lw_S q809 q810 q75 q811) rfl rfl rfl (by decide +kernel) ⟨Nat.le_of_ble_eq_true rfl, Nat.le_of_ble_eq_true rfl⟩) hw rfl rfl (Nat.le_of_ble_eq_true rfl) dX1_act_17 ⟨hc_17, hs_18⟩) hP hS (fun E9 q9 X9 H locs hw hcl hP hS => ?_) (fun r_13 X_14 H locs hw hP hS => ?_)
  · obtain ⟨rfl, hw⟩ := hw
    obtain ⟨ce9, g91, g92, g93⟩ := hcl
    refine vx_catch (own := RX1) (name := "ClockworkOrreries$Refused") hF.2.2.2.1 (tableOf []) ⟨12, 23, 24, 42⟩ (tableOf []) htab (fun z hz => nomatch hz) rfl (by decide) (hF.2.2.2.2 _ q748) (va_Nw.use rfl (hC.2.2.1.2.2.2.2.2.1 _ q820 rfl)) g91 g92 g93 ?_
    refine lv_astore (lv' := [(4, .ref q9), (3, .ref a_1), (0, .ref p0), (1, .int p1), (2, .ref p2)]) hF.1 hF.2.1 dX1_act_24 hl (by decide) rfl (fun ls hl => ?_)
    refine lv_aload hF.1 hF.2.1 dX1_act_26 (lv_at hl 0 rfl) ?_
    obtain ⟨fs_19, v_20, hx_21, hv_22, hw⟩ := hw
    refine x_getN hF hC hP in_X4r rfl 0 (by decide) q834 (fun _ z => z) hx_21 hv_22 dX1_act_28 ?_
    refine lv_iconst (v := 1) hF.1 hF.2.1 dX1_act_31 (by decide) ?_
    refine lv_icmp_ne (tgt := 45) hF.1 hF.2.1 dX1_act_32 (by decide) (fun c_23 => ?_) (fun c_23 => ?_)
    · have hw := hw.2 c_23
      refine x_mk13 hF hl.1 hlt hC hP hS hw ⟨rfl, rfl⟩ (Nat.le_of_ble_eq_true rfl) (Nat.le_of_ble_eq_true rfl) dX1_act_45 dX1_act_48 dX1_act_49 dX1_act_51 (fun q_24 X_25 H pk_26c pk_26s hw hcl hP hS => ?_)
      refine vx_athrow hF.1 hF.2.1 dX1_act_54 ?_
      exact h_out (hout 54 (by decide)) hlocks hcl hP hS ⟨pk_26c, pk_26s⟩ hw
    · have hw := hw.1 c_23
      refine x_mk12 hF hl.1 hlt hC hP hS hw ⟨rfl, rfl⟩ (Nat.le_of_ble_eq_true rfl) (Nat.le_of_ble_eq_true rfl) dX1_act_35 dX1_act_38 dX1_act_39 dX1_act_41 (fun q_27 X_28 H pk_29c pk_29s hw hcl hP hS => ?_)
      refine vx_athrow hF.1 hF.2.1 dX1_act_44 ?_
      exact h_out (hout 44 (by decide)) hlocks hcl hP hS ⟨pk_29c, pk_29s⟩ hw
  obtain ⟨ho_32, hw⟩ := hw
  refine hk_i (hr_V (As := [.ref a_1, .int r_13]) (rest := []) (T := TX1) (N := 4) (ci := 1) hF hl.1 hC hP hS (metX1_changed l K _ _ X_14 p0 a_1 r_13) rfl (cwV 2 hF.2.2.2.2 (lw_V q980 q982 qs8 q75 q983) rfl rfl rfl (by decide +kernel) ⟨Nat.le_of_ble_eq_true rfl, Nat.le_of_ble_eq_true rfl⟩) ho_32 hw rfl rfl (Nat.le_of_ble_eq_true rfl) dX1_act_20 ⟨hc_17, hs_18⟩) hP hS (fun r_30 X_31 H locs hw hP hS => ?_)
  exact vx_ret (h_iret hF hr hlocks hP hS ⟨hc_17, hs_18⟩ dX1_act_23 hw)
def wpX1_addAxle (post : Int32 → hX → Prop) (xpost : String → Nat → hX → Prop) (E : Nat) (mc ms : Nat) (X : hX) (p0 : Nat) : Prop := newA X 0 (.inl (fun _ => 0)) 0 4 0 0 mc ms (fun a_1 X_2 => isO X_2 p0 1 ((∃ mc_7 ms_8 : Nat, (0 + 1) + mc_7 ≤ mc ∧ (0 + Int32.toNatClampNeg 0) + ms_8 ≤ ms ∧ wpX1_act (fun r_4 X_5 => post r_4 X_5) xpost E mc_7 ms_8 X_2 p0 120 a_1)))
abbrev wsX1_addAxle : List Cond := ws_ yX1_addAxle cX1_addAxle 1 (some .int)
set_option maxHeartbeats 8000000 in
theorem metX1_addAxle (l : Launch) (hlt : l.stackTraces = false) (K : HK) (mc ms : Nat) (sz : Nat) (post : Int32 → hX → Prop) (xpost : String → Nat → hX → Prop) (X0 : hX) (p0 : Nat) : vx_Met l yX1_addAxle wsX1_addAxle (rmh 12 305 mc ms) (hPc K X0 sz [.ref p0] (wpX1_addAxle post xpost (K.2.2 0) mc ms X0 p0)) (hQi post K X0 sz) (hXC xpost K X0 sz) mc ms (hA X0 sz) := by
  refine vx_ofW (cc := cX1_addAxle) (maxL := 1) (ret := (some .int)) (by decide) rfl ?_
  intro p e s m args below meth c s₁ B hml hno hv
  obtain ⟨rfl, hv⟩ := hv
  obtain ⟨hC, hP, hw⟩ := HC.of hv
  have hsz : s.heap.size = sz := hv.1
  subst hsz
  clear hv
  have hout : ∀ {pc : Nat}, ∀ x ∈ c.exceptionTable.toList, covers x pc = false := fun x hx => (hno x hx).elim
  have hr := B.returns
  have hts := atoms_spec (ws := wsX1_addAxle) B.pre
  have hts : ∀ w ∈ lw_all, w.before _ s = true := fun w h => hts w (List.mem_cons_of_mem _ h)
  have hF : CallFix p m c cX1_addAxle 1 s ([.ref p0] : List Value).toArray lw_all RX1 := ⟨B.exec, B.bytes, hml, findClass_of_methodNamed B.named, hts⟩
  have hlocks := B.notSynchronized
  have hl := lv_entry ([.ref p0]) (n := 1) (Nat.le_of_ble_eq_true rfl)
  rw [lg_entry_eq]
  generalize (lg_sl ([.ref p0]) ++ List.replicate (1 - (lg_sl ([.ref p0])).length) Slot.unset).toArray = ls at hl ⊢
  have hl : lv_has ls 1 [(0, .ref p0)] := hl
  have hS : va_S (hA X0 s.heap.size) s.heap s.heap [] := va_S.rf
  unfold wpX1_addAxle at hw
  show W p l e (rmh 12 305 mc ms) s m _ below meth c _ _ _ _ _ _
  refine lv_aload_n hF.1 hF.2.1 dX1_addAxle_0 rfl (lv_at hl 0 rfl) ?_
  refine lv_bipush (v := 120) hF.1 hF.2.1 dX1_addAxle_1 (by decide) ?_
  refine lv_iconst (v := 0) hF.1 hF.2.1 dX1_addAxle_3 (by decide) ?_
  refine x_newa (atype := .int) (t := 0) hF hC hP hS q191 rfl rfl rfl (Or.inl rfl) (fun _ _ => rfl) hw ⟨rfl, rfl⟩ dX1_addAxle_4 (fun a_1 X_2 H pk_3c pk_3s hw hP hS => ?_)
  obtain ⟨ho_6, hw⟩ := hw
  obtain ⟨mc_7, ms_8, hc_9, hs_10, hw⟩ := hw
  refine hkx_i (hrx_VX (As := [.int 120, .ref a_1]) (rest := []) (T := TX1) (N := 4) (ci := 1) hF hl.1 hC hP hS (metX1_act l hlt K mc_7 ms_8 _ _ _ X_2 p0 120 a_1) rfl (vx_cwVW 2 hF.2.2.2.2 (lw_VW q744 q746 qs2 q75 q747) rfl rfl rfl (by decide +kernel) ⟨Nat.le_of_ble_eq_true rfl, Nat.le_of_ble_eq_true rfl⟩) ho_6 hw rfl rfl (Nat.le_of_ble_eq_true rfl) dX1_addAxle_6 ⟨hc_9, hs_10⟩) hP hS (fun E9 q9 X9 H locs hw hcl hP hS => ?_) (fun r_4 X_5 H locs hw hP hS => ?_)
  · exact h_out hout hlocks hcl hP hS ⟨hc_9, hs_10⟩ hw
  exact vx_ret (h_iret hF hr hlocks hP hS ⟨hc_9, hs_10⟩ dX1_addAxle_9 hw)
def wpX1_addWheel (post : Int32 → hX → Prop) (xpost : String → Nat → hX → Prop) (E : Nat) (mc ms : Nat) (X : hX) (p0 : Nat) (p1 : Int32) (p2 : Int32) : Prop := newA X 0 (.inl (fun _ => 0)) 2 4 0 0 mc ms (fun a_1 X_2 => asI X_2 a_1 0 p1 (fun X_8 => asI X_8 a_1 1 p2 (fun X_13 => isO X_13 p0 1 ((∃ mc_17 ms_18 : Nat, (0 + 1) + mc_17 ≤ mc ∧ (0 + Int32.toNatClampNeg 2) + ms_18 ≤ ms ∧ wpX1_act (fun r_14 X_15 => post r_14 X_15) xpost E mc_17 ms_18 X_13 p0 119 a_1)))))
abbrev wsX1_addWheel : List Cond := ws_ yX1_addWheel cX1_addWheel 3 (some .int)
set_option maxHeartbeats 8000000 in
theorem metX1_addWheel (l : Launch) (hlt : l.stackTraces = false) (K : HK) (mc ms : Nat) (sz : Nat) (post : Int32 → hX → Prop) (xpost : String → Nat → hX → Prop) (X0 : hX) (p0 : Nat) (p1 : Int32) (p2 : Int32) : vx_Met l yX1_addWheel wsX1_addWheel (rmh 12 305 mc ms) (hPc K X0 sz [.ref p0, .int p1, .int p2] (wpX1_addWheel post xpost (K.2.2 0) mc ms X0 p0 p1 p2)) (hQi post K X0 sz) (hXC xpost K X0 sz) mc ms (hA X0 sz) := by
  refine vx_ofW (cc := cX1_addWheel) (maxL := 3) (ret := (some .int)) (by decide) rfl ?_
  intro p e s m args below meth c s₁ B hml hno hv
  obtain ⟨rfl, hv⟩ := hv
  obtain ⟨hC, hP, hw⟩ := HC.of hv
  have hsz : s.heap.size = sz := hv.1
  subst hsz
  clear hv
  have hout : ∀ {pc : Nat}, ∀ x ∈ c.exceptionTable.toList, covers x pc = false := fun x hx => (hno x hx).elim
  have hr := B.returns
  have hts := atoms_spec (ws := wsX1_addWheel) B.pre
  have hts : ∀ w ∈ lw_all, w.before _ s = true := fun w h => hts w (List.mem_cons_of_mem _ h)
  have hF : CallFix p m c cX1_addWheel 3 s ([.ref p0, .int p1, .int p2] : List Value).toArray lw_all RX1 := ⟨B.exec, B.bytes, hml, findClass_of_methodNamed B.named, hts⟩
  have hlocks := B.notSynchronized
  have hl := lv_entry ([.ref p0, .int p1, .int p2]) (n := 3) (Nat.le_of_ble_eq_true rfl)
  rw [lg_entry_eq]
  generalize (lg_sl ([.ref p0, .int p1, .int p2]) ++ List.replicate (3 - (lg_sl ([.ref p0, .int p1, .int p2])).length) Slot.unset).toArray = ls at hl ⊢
  have hl : lv_has ls 3 [(0, .ref p0), (1, .int p1), (2, .int p2)] := hl
  have hS : va_S (hA X0 s.heap.size) s.heap s.heap [] := va_S.rf
  unfold wpX1_addWheel at hw
  show W p l e (rmh 12 305 mc ms) s m _ below meth c _ _ _ _ _ _
  refine lv_aload_n hF.1 hF.2.1 dX1_addWheel_0 rfl (lv_at hl 0 rfl) ?_
  refine lv_bipush (v := 119) hF.1 hF.2.1 dX1_addWheel_1 (by decide) ?_
  refine lv_iconst (v := 2) hF.1 hF.2.1 dX1_addWheel_3 (by decide) ?_
  refine x_newa (atype := .int) (t := 0) hF hC hP hS q191 rfl rfl rfl (Or.inl rfl) (fun _ _ => rfl) hw ⟨rfl, rfl⟩ dX1_addWheel_4 (fun a_1 X_2 H pk_3c pk_3s hw hP hS => ?_)
  refine lv_dup hF.1 hF.2.1 dX1_addWheel_6 rfl ?_
  refine lv_iconst (v := 0) hF.1 hF.2.1 dX1_addWheel_7 (by decide) ?_
  refine lv_iload_n hF.1 hF.2.1 dX1_addWheel_8 rfl (lv_at hl 1 rfl) ?_
  obtain ⟨n_4, f_5, hx_6, hi_7, hw⟩ := hw
  refine x_iast hF hC hP hS hx_6 hi_7 dX1_addWheel_9 (fun H locs hP hS => ?_)
  generalize hup X_2 a_1 (.inl (0, n_4, .inl (upd f_5 (Int32.toNatClampNeg 0) p1))) = X_8 at hP hw
  refine lv_dup hF.1 hF.2.1 dX1_addWheel_10 rfl ?_
  refine lv_iconst (v := 1) hF.1 hF.2.1 dX1_addWheel_11 (by decide) ?_
  refine lv_iload_n hF.1 hF.2.1 dX1_addWheel_12 rfl (lv_at hl 2 rfl) ?_
  obtain ⟨n_9, f_10, hx_11, hi_12, hw⟩ := hw
  refine x_iast hF hC hP hS hx_11 hi_12 dX1_addWheel_13 (fun H locs hP hS => ?_)
  generalize hup X_8 a_1 (.inl (0, n_9, .inl (upd f_10 (Int32.toNatClampNeg 1) p2))) = X_13 at hP hw
  obtain ⟨ho_16, hw⟩ := hw
  obtain ⟨mc_17, ms_18, hc_19, hs_20, hw⟩ := hw
  refine hkx_i (hrx_VX (As := [.int 119, .ref a_1]) (rest := []) (T := TX1) (N := 4) (ci := 1) hF hl.1 hC hP hS (metX1_act l hlt K mc_17 ms_18 _ _ _ X_13 p0 119 a_1) rfl (vx_cwVW 2 hF.2.2.2.2 (lw_VW q744 q746 qs2 q75 q747) rfl rfl rfl (by decide +kernel) ⟨Nat.le_of_ble_eq_true rfl, Nat.le_of_ble_eq_true rfl⟩) ho_16 hw rfl rfl (Nat.le_of_ble_eq_true rfl) dX1_addWheel_14 ⟨hc_19, hs_20⟩) hP hS (fun E9 q9 X9 H locs hw hcl hP hS => ?_) (fun r_14 X_15 H locs hw hP hS => ?_)
  · exact h_out hout hlocks hcl hP hS ⟨hc_19, hs_20⟩ hw
  exact vx_ret (h_iret hF hr hlocks hP hS ⟨hc_19, hs_20⟩ dX1_addWheel_17 hw)
def wpX1_mesh (post : Int32 → hX → Prop) (xpost : String → Nat → hX → Prop) (E : Nat) (mc ms : Nat) (X : hX) (p0 : Nat) (p1 : Int32) (p2 : Int32) : Prop := newA X 0 (.inl (fun _ => 0)) 2 4 0 0 mc ms (fun a_1 X_2 => asI X_2 a_1 0 p1 (fun X_8 => asI X_8 a_1 1 p2 (fun X_13 => isO X_13 p0 1 ((∃ mc_17 ms_18 : Nat, (0 + 1) + mc_17 ≤ mc ∧ (0 + Int32.toNatClampNeg 2) + ms_18 ≤ ms ∧ wpX1_act (fun r_14 X_15 => post r_14 X_15) xpost E mc_17 ms_18 X_13 p0 109 a_1)))))
abbrev wsX1_mesh : List Cond := ws_ yX1_mesh cX1_mesh 3 (some .int)
set_option maxHeartbeats 8000000 in
theorem metX1_mesh (l : Launch) (hlt : l.stackTraces = false) (K : HK) (mc ms : Nat) (sz : Nat) (post : Int32 → hX → Prop) (xpost : String → Nat → hX → Prop) (X0 : hX) (p0 : Nat) (p1 : Int32) (p2 : Int32) : vx_Met l yX1_mesh wsX1_mesh (rmh 12 305 mc ms) (hPc K X0 sz [.ref p0, .int p1, .int p2] (wpX1_mesh post xpost (K.2.2 0) mc ms X0 p0 p1 p2)) (hQi post K X0 sz) (hXC xpost K X0 sz) mc ms (hA X0 sz) := by
  refine vx_ofW (cc := cX1_mesh) (maxL := 3) (ret := (some .int)) (by decide) rfl ?_
  intro p e s m args below meth c s₁ B hml hno hv
  obtain ⟨rfl, hv⟩ := hv
  obtain ⟨hC, hP, hw⟩ := HC.of hv
  have hsz : s.heap.size = sz := hv.1
  subst hsz
  clear hv
  have hout : ∀ {pc : Nat}, ∀ x ∈ c.exceptionTable.toList, covers x pc = false := fun x hx => (hno x hx).elim
  have hr := B.returns
  have hts := atoms_spec (ws := wsX1_mesh) B.pre
  have hts : ∀ w ∈ lw_all, w.before _ s = true := fun w h => hts w (List.mem_cons_of_mem _ h)
  have hF : CallFix p m c cX1_mesh 3 s ([.ref p0, .int p1, .int p2] : List Value).toArray lw_all RX1 := ⟨B.exec, B.bytes, hml, findClass_of_methodNamed B.named, hts⟩
  have hlocks := B.notSynchronized
  have hl := lv_entry ([.ref p0, .int p1, .int p2]) (n := 3) (Nat.le_of_ble_eq_true rfl)
  rw [lg_entry_eq]
  generalize (lg_sl ([.ref p0, .int p1, .int p2]) ++ List.replicate (3 - (lg_sl ([.ref p0, .int p1, .int p2])).length) Slot.unset).toArray = ls at hl ⊢
  have hl : lv_has ls 3 [(0, .ref p0), (1, .int p1), (2, .int p2)] := hl
  have hS : va_S (hA X0 s.heap.size) s.heap s.heap [] := va_S.rf
  unfold wpX1_mesh at hw
  show W p l e (rmh 12 305 mc ms) s m _ below meth c _ _ _ _ _ _
  refine lv_aload_n hF.1 hF.2.1 dX1_mesh_0 rfl (lv_at hl 0 rfl) ?_
  refine lv_bipush (v := 109) hF.1 hF.2.1 dX1_mesh_1 (by decide) ?_
  refine lv_iconst (v := 2) hF.1 hF.2.1 dX1_mesh_3 (by decide) ?_
  refine x_newa (atype := .int) (t := 0) hF hC hP hS q191 rfl rfl rfl (Or.inl rfl) (fun _ _ => rfl) hw ⟨rfl, rfl⟩ dX1_mesh_4 (fun a_1 X_2 H pk_3c pk_3s hw hP hS => ?_)
  refine lv_dup hF.1 hF.2.1 dX1_mesh_6 rfl ?_
  refine lv_iconst (v := 0) hF.1 hF.2.1 dX1_mesh_7 (by decide) ?_
  refine lv_iload_n hF.1 hF.2.1 dX1_mesh_8 rfl (lv_at hl 1 rfl) ?_
  obtain ⟨n_4, f_5, hx_6, hi_7, hw⟩ := hw
  refine x_iast hF hC hP hS hx_6 hi_7 dX1_mesh_9 (fun H locs hP hS => ?_)
  generalize hup X_2 a_1 (.inl (0, n_4, .inl (upd f_5 (Int32.toNatClampNeg 0) p1))) = X_8 at hP hw
  refine lv_dup hF.1 hF.2.1 dX1_mesh_10 rfl ?_
  refine lv_iconst (v := 1) hF.1 hF.2.1 dX1_mesh_11 (by decide) ?_
  refine lv_iload_n hF.1 hF.2.1 dX1_mesh_12 rfl (lv_at hl 2 rfl) ?_
  obtain ⟨n_9, f_10, hx_11, hi_12, hw⟩ := hw
  refine x_iast hF hC hP hS hx_11 hi_12 dX1_mesh_13 (fun H locs hP hS => ?_)
  generalize hup X_8 a_1 (.inl (0, n_9, .inl (upd f_10 (Int32.toNatClampNeg 1) p2))) = X_13 at hP hw
  obtain ⟨ho_16, hw⟩ := hw
  obtain ⟨mc_17, ms_18, hc_19, hs_20, hw⟩ := hw
  refine hkx_i (hrx_VX (As := [.int 109, .ref a_1]) (rest := []) (T := TX1) (N := 4) (ci := 1) hF hl.1 hC hP hS (metX1_act l hlt K mc_17 ms_18 _ _ _ X_13 p0 109 a_1) rfl (vx_cwVW 2 hF.2.2.2.2 (lw_VW q744 q746 qs2 q75 q747) rfl rfl rfl (by decide +kernel) ⟨Nat.le_of_ble_eq_true rfl, Nat.le_of_ble_eq_true rfl⟩) ho_16 hw rfl rfl (Nat.le_of_ble_eq_true rfl) dX1_mesh_14 ⟨hc_19, hs_20⟩) hP hS (fun E9 q9 X9 H locs hw hcl hP hS => ?_) (fun r_14 X_15 H locs hw hP hS => ?_)
  · exact h_out hout hlocks hcl hP hS ⟨hc_19, hs_20⟩ hw
  exact vx_ret (h_iret hF hr hlocks hP hS ⟨hc_19, hs_20⟩ dX1_mesh_17 hw)
def wpX1_unmesh (post : Int32 → hX → Prop) (xpost : String → Nat → hX → Prop) (E : Nat) (mc ms : Nat) (X : hX) (p0 : Nat) (p1 : Int32) : Prop := newA X 0 (.inl (fun _ => 0)) 1 4 0 0 mc ms (fun a_1 X_2 => asI X_2 a_1 0 p1 (fun X_8 => isO X_8 p0 1 ((∃ mc_12 ms_13 : Nat, (0 + 1) + mc_12 ≤ mc ∧ (0 + Int32.toNatClampNeg 1) + ms_13 ≤ ms ∧ wpX1_act (fun r_9 X_10 => post r_9 X_10) xpost E mc_12 ms_13 X_8 p0 117 a_1))))
abbrev wsX1_unmesh : List Cond := ws_ yX1_unmesh cX1_unmesh 2 (some .int)
set_option maxHeartbeats 8000000 in
theorem metX1_unmesh (l : Launch) (hlt : l.stackTraces = false) (K : HK) (mc ms : Nat) (sz : Nat) (post : Int32 → hX → Prop) (xpost : String → Nat → hX → Prop) (X0 : hX) (p0 : Nat) (p1 : Int32) : vx_Met l yX1_unmesh wsX1_unmesh (rmh 12 305 mc ms) (hPc K X0 sz [.ref p0, .int p1] (wpX1_unmesh post xpost (K.2.2 0) mc ms X0 p0 p1)) (hQi post K X0 sz) (hXC xpost K X0 sz) mc ms (hA X0 sz) := by
  refine vx_ofW (cc := cX1_unmesh) (maxL := 2) (ret := (some .int)) (by decide) rfl ?_
  intro p e s m args below meth c s₁ B hml hno hv
  obtain ⟨rfl, hv⟩ := hv
  obtain ⟨hC, hP, hw⟩ := HC.of hv
  have hsz : s.heap.size = sz := hv.1
  subst hsz
  clear hv
  have hout : ∀ {pc : Nat}, ∀ x ∈ c.exceptionTable.toList, covers x pc = false := fun x hx => (hno x hx).elim
  have hr := B.returns
  have hts := atoms_spec (ws := wsX1_unmesh) B.pre
  have hts : ∀ w ∈ lw_all, w.before _ s = true := fun w h => hts w (List.mem_cons_of_mem _ h)
  have hF : CallFix p m c cX1_unmesh 2 s ([.ref p0, .int p1] : List Value).toArray lw_all RX1 := ⟨B.exec, B.bytes, hml, findClass_of_methodNamed B.named, hts⟩
  have hlocks := B.notSynchronized
  have hl := lv_entry ([.ref p0, .int p1]) (n := 2) (Nat.le_of_ble_eq_true rfl)
  rw [lg_entry_eq]
  generalize (lg_sl ([.ref p0, .int p1]) ++ List.replicate (2 - (lg_sl ([.ref p0, .int p1])).length) Slot.unset).toArray = ls at hl ⊢
  have hl : lv_has ls 2 [(0, .ref p0), (1, .int p1)] := hl
  have hS : va_S (hA X0 s.heap.size) s.heap s.heap [] := va_S.rf
  unfold wpX1_unmesh at hw
  show W p l e (rmh 12 305 mc ms) s m _ below meth c _ _ _ _ _ _
  refine lv_aload_n hF.1 hF.2.1 dX1_unmesh_0 rfl (lv_at hl 0 rfl) ?_
  refine lv_bipush (v := 117) hF.1 hF.2.1 dX1_unmesh_1 (by decide) ?_
  refine lv_iconst (v := 1) hF.1 hF.2.1 dX1_unmesh_3 (by decide) ?_
  refine x_newa (atype := .int) (t := 0) hF hC hP hS q191 rfl rfl rfl (Or.inl rfl) (fun _ _ => rfl) hw ⟨rfl, rfl⟩ dX1_unmesh_4 (fun a_1 X_2 H pk_3c pk_3s hw hP hS => ?_)
  refine lv_dup hF.1 hF.2.1 dX1_unmesh_6 rfl ?_
  refine lv_iconst (v := 0) hF.1 hF.2.1 dX1_unmesh_7 (by decide) ?_
  refine lv_iload_n hF.1 hF.2.1 dX1_unmesh_8 rfl (lv_at hl 1 rfl) ?_
  obtain ⟨n_4, f_5, hx_6, hi_7, hw⟩ := hw
  refine x_iast hF hC hP hS hx_6 hi_7 dX1_unmesh_9 (fun H locs hP hS => ?_)
  generalize hup X_2 a_1 (.inl (0, n_4, .inl (upd f_5 (Int32.toNatClampNeg 0) p1))) = X_8 at hP hw
  obtain ⟨ho_11, hw⟩ := hw
  obtain ⟨mc_12, ms_13, hc_14, hs_15, hw⟩ := hw
  refine hkx_i (hrx_VX (As := [.int 117, .ref a_1]) (rest := []) (T := TX1) (N := 4) (ci := 1) hF hl.1 hC hP hS (metX1_act l hlt K mc_12 ms_13 _ _ _ X_8 p0 117 a_1) rfl (vx_cwVW 2 hF.2.2.2.2 (lw_VW q744 q746 qs2 q75 q747) rfl rfl rfl (by decide +kernel) ⟨Nat.le_of_ble_eq_true rfl, Nat.le_of_ble_eq_true rfl⟩) ho_11 hw rfl rfl (Nat.le_of_ble_eq_true rfl) dX1_unmesh_10 ⟨hc_14, hs_15⟩) hP hS (fun E9 q9 X9 H locs hw hcl hP hS => ?_) (fun r_9 X_10 H locs hw hP hS => ?_)
  · exact h_out hout hlocks hcl hP hS ⟨hc_14, hs_15⟩ hw
  exact vx_ret (h_iret hF hr hlocks hP hS ⟨hc_14, hs_15⟩ dX1_unmesh_13 hw)
def wpX1_setTeeth (post : Int32 → hX → Prop) (xpost : String → Nat → hX → Prop) (E : Nat) (mc ms : Nat) (X : hX) (p0 : Nat) (p1 : Int32) (p2 : Int32) : Prop := newA X 0 (.inl (fun _ => 0)) 2 4 0 0 mc ms (fun a_1 X_2 => asI X_2 a_1 0 p1 (fun X_8 => asI X_8 a_1 1 p2 (fun X_13 => isO X_13 p0 1 ((∃ mc_17 ms_18 : Nat, (0 + 1) + mc_17 ≤ mc ∧ (0 + Int32.toNatClampNeg 2) + ms_18 ≤ ms ∧ wpX1_act (fun r_14 X_15 => post r_14 X_15) xpost E mc_17 ms_18 X_13 p0 116 a_1)))))
abbrev wsX1_setTeeth : List Cond := ws_ yX1_setTeeth cX1_setTeeth 3 (some .int)
set_option maxHeartbeats 8000000 in
theorem metX1_setTeeth (l : Launch) (hlt : l.stackTraces = false) (K : HK) (mc ms : Nat) (sz : Nat) (post : Int32 → hX → Prop) (xpost : String → Nat → hX → Prop) (X0 : hX) (p0 : Nat) (p1 : Int32) (p2 : Int32) : vx_Met l yX1_setTeeth wsX1_setTeeth (rmh 12 305 mc ms) (hPc K X0 sz [.ref p0, .int p1, .int p2] (wpX1_setTeeth post xpost (K.2.2 0) mc ms X0 p0 p1 p2)) (hQi post K X0 sz) (hXC xpost K X0 sz) mc ms (hA X0 sz) := by
  refine vx_ofW (cc := cX1_setTeeth) (maxL := 3) (ret := (some .int)) (by decide) rfl ?_
  intro p e s m args below meth c s₁ B hml hno hv
  obtain ⟨rfl, hv⟩ := hv
  obtain ⟨hC, hP, hw⟩ := HC.of hv
  have hsz : s.heap.size = sz := hv.1
  subst hsz
  clear hv
  have hout : ∀ {pc : Nat}, ∀ x ∈ c.exceptionTable.toList, covers x pc = false := fun x hx => (hno x hx).elim
  have hr := B.returns
  have hts := atoms_spec (ws := wsX1_setTeeth) B.pre
  have hts : ∀ w ∈ lw_all, w.before _ s = true := fun w h => hts w (List.mem_cons_of_mem _ h)
  have hF : CallFix p m c cX1_setTeeth 3 s ([.ref p0, .int p1, .int p2] : List Value).toArray lw_all RX1 := ⟨B.exec, B.bytes, hml, findClass_of_methodNamed B.named, hts⟩
  have hlocks := B.notSynchronized
  have hl := lv_entry ([.ref p0, .int p1, .int p2]) (n := 3) (Nat.le_of_ble_eq_true rfl)
  rw [lg_entry_eq]
  generalize (lg_sl ([.ref p0, .int p1, .int p2]) ++ List.replicate (3 - (lg_sl ([.ref p0, .int p1, .int p2])).length) Slot.unset).toArray = ls at hl ⊢
  have hl : lv_has ls 3 [(0, .ref p0), (1, .int p1), (2, .int p2)] := hl
  have hS : va_S (hA X0 s.heap.size) s.heap s.heap [] := va_S.rf
  unfold wpX1_setTeeth at hw
  show W p l e (rmh 12 305 mc ms) s m _ below meth c _ _ _ _ _ _
  refine lv_aload_n hF.1 hF.2.1 dX1_setTeeth_0 rfl (lv_at hl 0 rfl) ?_
  refine lv_bipush (v := 116) hF.1 hF.2.1 dX1_setTeeth_1 (by decide) ?_
  refine lv_iconst (v := 2) hF.1 hF.2.1 dX1_setTeeth_3 (by decide) ?_
  refine x_newa (atype := .int) (t := 0) hF hC hP hS q191 rfl rfl rfl (Or.inl rfl) (fun _ _ => rfl) hw ⟨rfl, rfl⟩ dX1_setTeeth_4 (fun a_1 X_2 H pk_3c pk_3s hw hP hS => ?_)
  refine lv_dup hF.1 hF.2.1 dX1_setTeeth_6 rfl ?_
  refine lv_iconst (v := 0) hF.1 hF.2.1 dX1_setTeeth_7 (by decide) ?_
  refine lv_iload_n hF.1 hF.2.1 dX1_setTeeth_8 rfl (lv_at hl 1 rfl) ?_
  obtain ⟨n_4, f_5, hx_6, hi_7, hw⟩ := hw
  refine x_iast hF hC hP hS hx_6 hi_7 dX1_setTeeth_9 (fun H locs hP hS => ?_)
  generalize hup X_2 a_1 (.inl (0, n_4, .inl (upd f_5 (Int32.toNatClampNeg 0) p1))) = X_8 at hP hw
  refine lv_dup hF.1 hF.2.1 dX1_setTeeth_10 rfl ?_
  refine lv_iconst (v := 1) hF.1 hF.2.1 dX1_setTeeth_11 (by decide) ?_
  refine lv_iload_n hF.1 hF.2.1 dX1_setTeeth_12 rfl (lv_at hl 2 rfl) ?_
  obtain ⟨n_9, f_10, hx_11, hi_12, hw⟩ := hw
  refine x_iast hF hC hP hS hx_11 hi_12 dX1_setTeeth_13 (fun H locs hP hS => ?_)
  generalize hup X_8 a_1 (.inl (0, n_9, .inl (upd f_10 (Int32.toNatClampNeg 1) p2))) = X_13 at hP hw
  obtain ⟨ho_16, hw⟩ := hw
  obtain ⟨mc_17, ms_18, hc_19, hs_20, hw⟩ := hw
  refine hkx_i (hrx_VX (As := [.int 116, .ref a_1]) (rest := []) (T := TX1) (N := 4) (ci := 1) hF hl.1 hC hP hS (metX1_act l hlt K mc_17 ms_18 _ _ _ X_13 p0 116 a_1) rfl (vx_cwVW 2 hF.2.2.2.2 (lw_VW q744 q746 qs2 q75 q747) rfl rfl rfl (by decide +kernel) ⟨Nat.le_of_ble_eq_true rfl, Nat.le_of_ble_eq_true rfl⟩) ho_16 hw rfl rfl (Nat.le_of_ble_eq_true rfl) dX1_setTeeth_14 ⟨hc_19, hs_20⟩) hP hS (fun E9 q9 X9 H locs hw hcl hP hS => ?_) (fun r_14 X_15 H locs hw hP hS => ?_)
  · exact h_out hout hlocks hcl hP hS ⟨hc_19, hs_20⟩ hw
  exact vx_ret (h_iret hF hr hlocks hP hS ⟨hc_19, hs_20⟩ dX1_setTeeth_17 hw)
def wpX1_addArm (post : Int32 → hX → Prop) (xpost : String → Nat → hX → Prop) (E : Nat) (mc ms : Nat) (X : hX) (p0 : Nat) (p1 : Int32) (p2 : Int32) : Prop := newA X 0 (.inl (fun _ => 0)) 2 4 0 0 mc ms (fun a_1 X_2 => asI X_2 a_1 0 p1 (fun X_8 => asI X_8 a_1 1 p2 (fun X_13 => isO X_13 p0 1 ((∃ mc_17 ms_18 : Nat, (0 + 1) + mc_17 ≤ mc ∧ (0 + Int32.toNatClampNeg 2) + ms_18 ≤ ms ∧ wpX1_act (fun r_14 X_15 => post r_14 X_15) xpost E mc_17 ms_18 X_13 p0 97 a_1)))))
abbrev wsX1_addArm : List Cond := ws_ yX1_addArm cX1_addArm 3 (some .int)
set_option maxHeartbeats 8000000 in
theorem metX1_addArm (l : Launch) (hlt : l.stackTraces = false) (K : HK) (mc ms : Nat) (sz : Nat) (post : Int32 → hX → Prop) (xpost : String → Nat → hX → Prop) (X0 : hX) (p0 : Nat) (p1 : Int32) (p2 : Int32) : vx_Met l yX1_addArm wsX1_addArm (rmh 12 305 mc ms) (hPc K X0 sz [.ref p0, .int p1, .int p2] (wpX1_addArm post xpost (K.2.2 0) mc ms X0 p0 p1 p2)) (hQi post K X0 sz) (hXC xpost K X0 sz) mc ms (hA X0 sz) := by
  refine vx_ofW (cc := cX1_addArm) (maxL := 3) (ret := (some .int)) (by decide) rfl ?_
  intro p e s m args below meth c s₁ B hml hno hv
  obtain ⟨rfl, hv⟩ := hv
  obtain ⟨hC, hP, hw⟩ := HC.of hv
  have hsz : s.heap.size = sz := hv.1
  subst hsz
  clear hv
  have hout : ∀ {pc : Nat}, ∀ x ∈ c.exceptionTable.toList, covers x pc = false := fun x hx => (hno x hx).elim
  have hr := B.returns
  have hts := atoms_spec (ws := wsX1_addArm) B.pre
  have hts : ∀ w ∈ lw_all, w.before _ s = true := fun w h => hts w (List.mem_cons_of_mem _ h)
  have hF : CallFix p m c cX1_addArm 3 s ([.ref p0, .int p1, .int p2] : List Value).toArray lw_all RX1 := ⟨B.exec, B.bytes, hml, findClass_of_methodNamed B.named, hts⟩
  have hlocks := B.notSynchronized
  have hl := lv_entry ([.ref p0, .int p1, .int p2]) (n := 3) (Nat.le_of_ble_eq_true rfl)
  rw [lg_entry_eq]
  generalize (lg_sl ([.ref p0, .int p1, .int p2]) ++ List.replicate (3 - (lg_sl ([.ref p0, .int p1, .int p2])).length) Slot.unset).toArray = ls at hl ⊢
  have hl : lv_has ls 3 [(0, .ref p0), (1, .int p1), (2, .int p2)] := hl
  have hS : va_S (hA X0 s.heap.size) s.heap s.heap [] := va_S.rf
  unfold wpX1_addArm at hw
  show W p l e (rmh 12 305 mc ms) s m _ below meth c _ _ _ _ _ _
  refine lv_aload_n hF.1 hF.2.1 dX1_addArm_0 rfl (lv_at hl 0 rfl) ?_
  refine lv_bipush (v := 97) hF.1 hF.2.1 dX1_addArm_1 (by decide) ?_
  refine lv_iconst (v := 2) hF.1 hF.2.1 dX1_addArm_3 (by decide) ?_
  refine x_newa (atype := .int) (t := 0) hF hC hP hS q191 rfl rfl rfl (Or.inl rfl) (fun _ _ => rfl) hw ⟨rfl, rfl⟩ dX1_addArm_4 (fun a_1 X_2 H pk_3c pk_3s hw hP hS => ?_)
  refine lv_dup hF.1 hF.2.1 dX1_addArm_6 rfl ?_
  refine lv_iconst (v := 0) hF.1 hF.2.1 dX1_addArm_7 (by decide) ?_
  refine lv_iload_n hF.1 hF.2.1 dX1_addArm_8 rfl (lv_at hl 1 rfl) ?_
  obtain ⟨n_4, f_5, hx_6, hi_7, hw⟩ := hw
  refine x_iast hF hC hP hS hx_6 hi_7 dX1_addArm_9 (fun H locs hP hS => ?_)
  generalize hup X_2 a_1 (.inl (0, n_4, .inl (upd f_5 (Int32.toNatClampNeg 0) p1))) = X_8 at hP hw
  refine lv_dup hF.1 hF.2.1 dX1_addArm_10 rfl ?_
  refine lv_iconst (v := 1) hF.1 hF.2.1 dX1_addArm_11 (by decide) ?_
  refine lv_iload_n hF.1 hF.2.1 dX1_addArm_12 rfl (lv_at hl 2 rfl) ?_
  obtain ⟨n_9, f_10, hx_11, hi_12, hw⟩ := hw
  refine x_iast hF hC hP hS hx_11 hi_12 dX1_addArm_13 (fun H locs hP hS => ?_)
  generalize hup X_8 a_1 (.inl (0, n_9, .inl (upd f_10 (Int32.toNatClampNeg 1) p2))) = X_13 at hP hw
  obtain ⟨ho_16, hw⟩ := hw
  obtain ⟨mc_17, ms_18, hc_19, hs_20, hw⟩ := hw
  refine hkx_i (hrx_VX (As := [.int 97, .ref a_1]) (rest := []) (T := TX1) (N := 4) (ci := 1) hF hl.1 hC hP hS (metX1_act l hlt K mc_17 ms_18 _ _ _ X_13 p0 97 a_1) rfl (vx_cwVW 2 hF.2.2.2.2 (lw_VW q744 q746 qs2 q75 q747) rfl rfl rfl (by decide +kernel) ⟨Nat.le_of_ble_eq_true rfl, Nat.le_of_ble_eq_true rfl⟩) ho_16 hw rfl rfl (Nat.le_of_ble_eq_true rfl) dX1_addArm_14 ⟨hc_19, hs_20⟩) hP hS (fun E9 q9 X9 H locs hw hcl hP hS => ?_) (fun r_14 X_15 H locs hw hP hS => ?_)
  · exact h_out hout hlocks hcl hP hS ⟨hc_19, hs_20⟩ hw
  exact vx_ret (h_iret hF hr hlocks hP hS ⟨hc_19, hs_20⟩ dX1_addArm_17 hw)
def wpX1_setBend (post : Int32 → hX → Prop) (xpost : String → Nat → hX → Prop) (E : Nat) (mc ms : Nat) (X : hX) (p0 : Nat) (p1 : Int32) (p2 : Int32) : Prop := newA X 0 (.inl (fun _ => 0)) 2 4 0 0 mc ms (fun a_1 X_2 => asI X_2 a_1 0 p1 (fun X_8 => asI X_8 a_1 1 p2 (fun X_13 => isO X_13 p0 1 ((∃ mc_17 ms_18 : Nat, (0 + 1) + mc_17 ≤ mc ∧ (0 + Int32.toNatClampNeg 2) + ms_18 ≤ ms ∧ wpX1_act (fun r_14 X_15 => post r_14 X_15) xpost E mc_17 ms_18 X_13 p0 98 a_1)))))
abbrev wsX1_setBend : List Cond := ws_ yX1_setBend cX1_setBend 3 (some .int)
set_option maxHeartbeats 8000000 in
theorem metX1_setBend (l : Launch) (hlt : l.stackTraces = false) (K : HK) (mc ms : Nat) (sz : Nat) (post : Int32 → hX → Prop) (xpost : String → Nat → hX → Prop) (X0 : hX) (p0 : Nat) (p1 : Int32) (p2 : Int32) : vx_Met l yX1_setBend wsX1_setBend (rmh 12 305 mc ms) (hPc K X0 sz [.ref p0, .int p1, .int p2] (wpX1_setBend post xpost (K.2.2 0) mc ms X0 p0 p1 p2)) (hQi post K X0 sz) (hXC xpost K X0 sz) mc ms (hA X0 sz) := by
  refine vx_ofW (cc := cX1_setBend) (maxL := 3) (ret := (some .int)) (by decide) rfl ?_
  intro p e s m args below meth c s₁ B hml hno hv
  obtain ⟨rfl, hv⟩ := hv
  obtain ⟨hC, hP, hw⟩ := HC.of hv
  have hsz : s.heap.size = sz := hv.1
  subst hsz
  clear hv
  have hout : ∀ {pc : Nat}, ∀ x ∈ c.exceptionTable.toList, covers x pc = false := fun x hx => (hno x hx).elim
  have hr := B.returns
  have hts := atoms_spec (ws := wsX1_setBend) B.pre
  have hts : ∀ w ∈ lw_all, w.before _ s = true := fun w h => hts w (List.mem_cons_of_mem _ h)
  have hF : CallFix p m c cX1_setBend 3 s ([.ref p0, .int p1, .int p2] : List Value).toArray lw_all RX1 := ⟨B.exec, B.bytes, hml, findClass_of_methodNamed B.named, hts⟩
  have hlocks := B.notSynchronized
  have hl := lv_entry ([.ref p0, .int p1, .int p2]) (n := 3) (Nat.le_of_ble_eq_true rfl)
  rw [lg_entry_eq]
  generalize (lg_sl ([.ref p0, .int p1, .int p2]) ++ List.replicate (3 - (lg_sl ([.ref p0, .int p1, .int p2])).length) Slot.unset).toArray = ls at hl ⊢
  have hl : lv_has ls 3 [(0, .ref p0), (1, .int p1), (2, .int p2)] := hl
  have hS : va_S (hA X0 s.heap.size) s.heap s.heap [] := va_S.rf
  unfold wpX1_setBend at hw
  show W p l e (rmh 12 305 mc ms) s m _ below meth c _ _ _ _ _ _
  refine lv_aload_n hF.1 hF.2.1 dX1_setBend_0 rfl (lv_at hl 0 rfl) ?_
  refine lv_bipush (v := 98) hF.1 hF.2.1 dX1_setBend_1 (by decide) ?_
  refine lv_iconst (v := 2) hF.1 hF.2.1 dX1_setBend_3 (by decide) ?_
  refine x_newa (atype := .int) (t := 0) hF hC hP hS q191 rfl rfl rfl (Or.inl rfl) (fun _ _ => rfl) hw ⟨rfl, rfl⟩ dX1_setBend_4 (fun a_1 X_2 H pk_3c pk_3s hw hP hS => ?_)
  refine lv_dup hF.1 hF.2.1 dX1_setBend_6 rfl ?_
  refine lv_iconst (v := 0) hF.1 hF.2.1 dX1_setBend_7 (by decide) ?_
  refine lv_iload_n hF.1 hF.2.1 dX1_setBend_8 rfl (lv_at hl 1 rfl) ?_
  obtain ⟨n_4, f_5, hx_6, hi_7, hw⟩ := hw
  refine x_iast hF hC hP hS hx_6 hi_7 dX1_setBend_9 (fun H locs hP hS => ?_)
  generalize hup X_2 a_1 (.inl (0, n_4, .inl (upd f_5 (Int32.toNatClampNeg 0) p1))) = X_8 at hP hw
  refine lv_dup hF.1 hF.2.1 dX1_setBend_10 rfl ?_
  refine lv_iconst (v := 1) hF.1 hF.2.1 dX1_setBend_11 (by decide) ?_
  refine lv_iload_n hF.1 hF.2.1 dX1_setBend_12 rfl (lv_at hl 2 rfl) ?_
  obtain ⟨n_9, f_10, hx_11, hi_12, hw⟩ := hw
  refine x_iast hF hC hP hS hx_11 hi_12 dX1_setBend_13 (fun H locs hP hS => ?_)
  generalize hup X_8 a_1 (.inl (0, n_9, .inl (upd f_10 (Int32.toNatClampNeg 1) p2))) = X_13 at hP hw
  obtain ⟨ho_16, hw⟩ := hw
  obtain ⟨mc_17, ms_18, hc_19, hs_20, hw⟩ := hw
  refine hkx_i (hrx_VX (As := [.int 98, .ref a_1]) (rest := []) (T := TX1) (N := 4) (ci := 1) hF hl.1 hC hP hS (metX1_act l hlt K mc_17 ms_18 _ _ _ X_13 p0 98 a_1) rfl (vx_cwVW 2 hF.2.2.2.2 (lw_VW q744 q746 qs2 q75 q747) rfl rfl rfl (by decide +kernel) ⟨Nat.le_of_ble_eq_true rfl, Nat.le_of_ble_eq_true rfl⟩) ho_16 hw rfl rfl (Nat.le_of_ble_eq_true rfl) dX1_setBend_14 ⟨hc_19, hs_20⟩) hP hS (fun E9 q9 X9 H locs hw hcl hP hS => ?_) (fun r_14 X_15 H locs hw hP hS => ?_)
  · exact h_out hout hlocks hcl hP hS ⟨hc_19, hs_20⟩ hw
  exact vx_ret (h_iret hF hr hlocks hP hS ⟨hc_19, hs_20⟩ dX1_setBend_17 hw)
def wpX1_addMoon (post : Int32 → hX → Prop) (xpost : String → Nat → hX → Prop) (E : Nat) (mc ms : Nat) (X : hX) (p0 : Nat) (p1 : Int32) (p2 : Int32) : Prop := newA X 0 (.inl (fun _ => 0)) 2 4 0 0 mc ms (fun a_1 X_2 => asI X_2 a_1 0 p1 (fun X_8 => asI X_8 a_1 1 p2 (fun X_13 => isO X_13 p0 1 ((∃ mc_17 ms_18 : Nat, (0 + 1) + mc_17 ≤ mc ∧ (0 + Int32.toNatClampNeg 2) + ms_18 ≤ ms ∧ wpX1_act (fun r_14 X_15 => post r_14 X_15) xpost E mc_17 ms_18 X_13 p0 111 a_1)))))
abbrev wsX1_addMoon : List Cond := ws_ yX1_addMoon cX1_addMoon 3 (some .int)
set_option maxHeartbeats 8000000 in
theorem metX1_addMoon (l : Launch) (hlt : l.stackTraces = false) (K : HK) (mc ms : Nat) (sz : Nat) (post : Int32 → hX → Prop) (xpost : String → Nat → hX → Prop) (X0 : hX) (p0 : Nat) (p1 : Int32) (p2 : Int32) : vx_Met l yX1_addMoon wsX1_addMoon (rmh 12 305 mc ms) (hPc K X0 sz [.ref p0, .int p1, .int p2] (wpX1_addMoon post xpost (K.2.2 0) mc ms X0 p0 p1 p2)) (hQi post K X0 sz) (hXC xpost K X0 sz) mc ms (hA X0 sz) := by
  refine vx_ofW (cc := cX1_addMoon) (maxL := 3) (ret := (some .int)) (by decide) rfl ?_
  intro p e s m args below meth c s₁ B hml hno hv
  obtain ⟨rfl, hv⟩ := hv
  obtain ⟨hC, hP, hw⟩ := HC.of hv
  have hsz : s.heap.size = sz := hv.1
  subst hsz
  clear hv
  have hout : ∀ {pc : Nat}, ∀ x ∈ c.exceptionTable.toList, covers x pc = false := fun x hx => (hno x hx).elim
  have hr := B.returns
  have hts := atoms_spec (ws := wsX1_addMoon) B.pre
  have hts : ∀ w ∈ lw_all, w.before _ s = true := fun w h => hts w (List.mem_cons_of_mem _ h)
  have hF : CallFix p m c cX1_addMoon 3 s ([.ref p0, .int p1, .int p2] : List Value).toArray lw_all RX1 := ⟨B.exec, B.bytes, hml, findClass_of_methodNamed B.named, hts⟩
  have hlocks := B.notSynchronized
  have hl := lv_entry ([.ref p0, .int p1, .int p2]) (n := 3) (Nat.le_of_ble_eq_true rfl)
  rw [lg_entry_eq]
  generalize (lg_sl ([.ref p0, .int p1, .int p2]) ++ List.replicate (3 - (lg_sl ([.ref p0, .int p1, .int p2])).length) Slot.unset).toArray = ls at hl ⊢
  have hl : lv_has ls 3 [(0, .ref p0), (1, .int p1), (2, .int p2)] := hl
  have hS : va_S (hA X0 s.heap.size) s.heap s.heap [] := va_S.rf
  unfold wpX1_addMoon at hw
  show W p l e (rmh 12 305 mc ms) s m _ below meth c _ _ _ _ _ _
  refine lv_aload_n hF.1 hF.2.1 dX1_addMoon_0 rfl (lv_at hl 0 rfl) ?_
  refine lv_bipush (v := 111) hF.1 hF.2.1 dX1_addMoon_1 (by decide) ?_
  refine lv_iconst (v := 2) hF.1 hF.2.1 dX1_addMoon_3 (by decide) ?_
  refine x_newa (atype := .int) (t := 0) hF hC hP hS q191 rfl rfl rfl (Or.inl rfl) (fun _ _ => rfl) hw ⟨rfl, rfl⟩ dX1_addMoon_4 (fun a_1 X_2 H pk_3c pk_3s hw hP hS => ?_)
  refine lv_dup hF.1 hF.2.1 dX1_addMoon_6 rfl ?_
  refine lv_iconst (v := 0) hF.1 hF.2.1 dX1_addMoon_7 (by decide) ?_
  refine lv_iload_n hF.1 hF.2.1 dX1_addMoon_8 rfl (lv_at hl 1 rfl) ?_
  obtain ⟨n_4, f_5, hx_6, hi_7, hw⟩ := hw
  refine x_iast hF hC hP hS hx_6 hi_7 dX1_addMoon_9 (fun H locs hP hS => ?_)
  generalize hup X_2 a_1 (.inl (0, n_4, .inl (upd f_5 (Int32.toNatClampNeg 0) p1))) = X_8 at hP hw
  refine lv_dup hF.1 hF.2.1 dX1_addMoon_10 rfl ?_
  refine lv_iconst (v := 1) hF.1 hF.2.1 dX1_addMoon_11 (by decide) ?_
  refine lv_iload_n hF.1 hF.2.1 dX1_addMoon_12 rfl (lv_at hl 2 rfl) ?_
  obtain ⟨n_9, f_10, hx_11, hi_12, hw⟩ := hw
  refine x_iast hF hC hP hS hx_11 hi_12 dX1_addMoon_13 (fun H locs hP hS => ?_)
  generalize hup X_8 a_1 (.inl (0, n_9, .inl (upd f_10 (Int32.toNatClampNeg 1) p2))) = X_13 at hP hw
  obtain ⟨ho_16, hw⟩ := hw
  obtain ⟨mc_17, ms_18, hc_19, hs_20, hw⟩ := hw
  refine hkx_i (hrx_VX (As := [.int 111, .ref a_1]) (rest := []) (T := TX1) (N := 4) (ci := 1) hF hl.1 hC hP hS (metX1_act l hlt K mc_17 ms_18 _ _ _ X_13 p0 111 a_1) rfl (vx_cwVW 2 hF.2.2.2.2 (lw_VW q744 q746 qs2 q75 q747) rfl rfl rfl (by decide +kernel) ⟨Nat.le_of_ble_eq_true rfl, Nat.le_of_ble_eq_true rfl⟩) ho_16 hw rfl rfl (Nat.le_of_ble_eq_true rfl) dX1_addMoon_14 ⟨hc_19, hs_20⟩) hP hS (fun E9 q9 X9 H locs hw hcl hP hS => ?_) (fun r_14 X_15 H locs hw hP hS => ?_)
  · exact h_out hout hlocks hcl hP hS ⟨hc_19, hs_20⟩ hw
  exact vx_ret (h_iret hF hr hlocks hP hS ⟨hc_19, hs_20⟩ dX1_addMoon_17 hw)
def wpX1_setPeriod (post : Int32 → hX → Prop) (xpost : String → Nat → hX → Prop) (E : Nat) (mc ms : Nat) (X : hX) (p0 : Nat) (p1 : Int32) (p2 : Int32) : Prop := newA X 0 (.inl (fun _ => 0)) 2 4 0 0 mc ms (fun a_1 X_2 => asI X_2 a_1 0 p1 (fun X_8 => asI X_8 a_1 1 p2 (fun X_13 => isO X_13 p0 1 ((∃ mc_17 ms_18 : Nat, (0 + 1) + mc_17 ≤ mc ∧ (0 + Int32.toNatClampNeg 2) + ms_18 ≤ ms ∧ wpX1_act (fun r_14 X_15 => post r_14 X_15) xpost E mc_17 ms_18 X_13 p0 112 a_1)))))
abbrev wsX1_setPeriod : List Cond := ws_ yX1_setPeriod cX1_setPeriod 3 (some .int)
set_option maxHeartbeats 8000000 in
theorem metX1_setPeriod (l : Launch) (hlt : l.stackTraces = false) (K : HK) (mc ms : Nat) (sz : Nat) (post : Int32 → hX → Prop) (xpost : String → Nat → hX → Prop) (X0 : hX) (p0 : Nat) (p1 : Int32) (p2 : Int32) : vx_Met l yX1_setPeriod wsX1_setPeriod (rmh 12 305 mc ms) (hPc K X0 sz [.ref p0, .int p1, .int p2] (wpX1_setPeriod post xpost (K.2.2 0) mc ms X0 p0 p1 p2)) (hQi post K X0 sz) (hXC xpost K X0 sz) mc ms (hA X0 sz) := by
  refine vx_ofW (cc := cX1_setPeriod) (maxL := 3) (ret := (some .int)) (by decide) rfl ?_
  intro p e s m args below meth c s₁ B hml hno hv
  obtain ⟨rfl, hv⟩ := hv
  obtain ⟨hC, hP, hw⟩ := HC.of hv
  have hsz : s.heap.size = sz := hv.1
  subst hsz
  clear hv
  have hout : ∀ {pc : Nat}, ∀ x ∈ c.exceptionTable.toList, covers x pc = false := fun x hx => (hno x hx).elim
  have hr := B.returns
  have hts := atoms_spec (ws := wsX1_setPeriod) B.pre
  have hts : ∀ w ∈ lw_all, w.before _ s = true := fun w h => hts w (List.mem_cons_of_mem _ h)
  have hF : CallFix p m c cX1_setPeriod 3 s ([.ref p0, .int p1, .int p2] : List Value).toArray lw_all RX1 := ⟨B.exec, B.bytes, hml, findClass_of_methodNamed B.named, hts⟩
  have hlocks := B.notSynchronized
  have hl := lv_entry ([.ref p0, .int p1, .int p2]) (n := 3) (Nat.le_of_ble_eq_true rfl)
  rw [lg_entry_eq]
  generalize (lg_sl ([.ref p0, .int p1, .int p2]) ++ List.replicate (3 - (lg_sl ([.ref p0, .int p1, .int p2])).length) Slot.unset).toArray = ls at hl ⊢
  have hl : lv_has ls 3 [(0, .ref p0), (1, .int p1), (2, .int p2)] := hl
  have hS : va_S (hA X0 s.heap.size) s.heap s.heap [] := va_S.rf
  unfold wpX1_setPeriod at hw
  show W p l e (rmh 12 305 mc ms) s m _ below meth c _ _ _ _ _ _
  refine lv_aload_n hF.1 hF.2.1 dX1_setPeriod_0 rfl (lv_at hl 0 rfl) ?_
  refine lv_bipush (v := 112) hF.1 hF.2.1 dX1_setPeriod_1 (by decide) ?_
  refine lv_iconst (v := 2) hF.1 hF.2.1 dX1_setPeriod_3 (by decide) ?_
  refine x_newa (atype := .int) (t := 0) hF hC hP hS q191 rfl rfl rfl (Or.inl rfl) (fun _ _ => rfl) hw ⟨rfl, rfl⟩ dX1_setPeriod_4 (fun a_1 X_2 H pk_3c pk_3s hw hP hS => ?_)
  refine lv_dup hF.1 hF.2.1 dX1_setPeriod_6 rfl ?_
  refine lv_iconst (v := 0) hF.1 hF.2.1 dX1_setPeriod_7 (by decide) ?_
  refine lv_iload_n hF.1 hF.2.1 dX1_setPeriod_8 rfl (lv_at hl 1 rfl) ?_
  obtain ⟨n_4, f_5, hx_6, hi_7, hw⟩ := hw
  refine x_iast hF hC hP hS hx_6 hi_7 dX1_setPeriod_9 (fun H locs hP hS => ?_)
  generalize hup X_2 a_1 (.inl (0, n_4, .inl (upd f_5 (Int32.toNatClampNeg 0) p1))) = X_8 at hP hw
  refine lv_dup hF.1 hF.2.1 dX1_setPeriod_10 rfl ?_
  refine lv_iconst (v := 1) hF.1 hF.2.1 dX1_setPeriod_11 (by decide) ?_
  refine lv_iload_n hF.1 hF.2.1 dX1_setPeriod_12 rfl (lv_at hl 2 rfl) ?_
  obtain ⟨n_9, f_10, hx_11, hi_12, hw⟩ := hw
  refine x_iast hF hC hP hS hx_11 hi_12 dX1_setPeriod_13 (fun H locs hP hS => ?_)
  generalize hup X_8 a_1 (.inl (0, n_9, .inl (upd f_10 (Int32.toNatClampNeg 1) p2))) = X_13 at hP hw
  obtain ⟨ho_16, hw⟩ := hw
  obtain ⟨mc_17, ms_18, hc_19, hs_20, hw⟩ := hw
  refine hkx_i (hrx_VX (As := [.int 112, .ref a_1]) (rest := []) (T := TX1) (N := 4) (ci := 1) hF hl.1 hC hP hS (metX1_act l hlt K mc_17 ms_18 _ _ _ X_13 p0 112 a_1) rfl (vx_cwVW 2 hF.2.2.2.2 (lw_VW q744 q746 qs2 q75 q747) rfl rfl rfl (by decide +kernel) ⟨Nat.le_of_ble_eq_true rfl, Nat.le_of_ble_eq_true rfl⟩) ho_16 hw rfl rfl (Nat.le_of_ble_eq_true rfl) dX1_setPeriod_14 ⟨hc_19, hs_20⟩) hP hS (fun E9 q9 X9 H locs hw hcl hP hS => ?_) (fun r_14 X_15 H locs hw hP hS => ?_)
  · exact h_out hout hlocks hcl hP hS ⟨hc_19, hs_20⟩ hw
  exact vx_ret (h_iret hF hr hlocks hP hS ⟨hc_19, hs_20⟩ dX1_setPeriod_17 hw)
def wpX1_pass (post : Int32 → hX → Prop) (xpost : String → Nat → hX → Prop) (E : Nat) (mc ms : Nat) (X : hX) (p0 : Nat) (p1 : Int32) : Prop := newA X 0 (.inl (fun _ => 0)) 1 4 0 0 mc ms (fun a_1 X_2 => asI X_2 a_1 0 p1 (fun X_8 => isO X_8 p0 1 ((∃ mc_12 ms_13 : Nat, (0 + 1) + mc_12 ≤ mc ∧ (0 + Int32.toNatClampNeg 1) + ms_13 ≤ ms ∧ wpX1_act (fun r_9 X_10 => post r_9 X_10) xpost E mc_12 ms_13 X_8 p0 100 a_1))))
abbrev wsX1_pass : List Cond := ws_ yX1_pass cX1_pass 2 (some .int)
set_option maxHeartbeats 8000000 in
theorem metX1_pass (l : Launch) (hlt : l.stackTraces = false) (K : HK) (mc ms : Nat) (sz : Nat) (post : Int32 → hX → Prop) (xpost : String → Nat → hX → Prop) (X0 : hX) (p0 : Nat) (p1 : Int32) : vx_Met l yX1_pass wsX1_pass (rmh 12 305 mc ms) (hPc K X0 sz [.ref p0, .int p1] (wpX1_pass post xpost (K.2.2 0) mc ms X0 p0 p1)) (hQi post K X0 sz) (hXC xpost K X0 sz) mc ms (hA X0 sz) := by
  refine vx_ofW (cc := cX1_pass) (maxL := 2) (ret := (some .int)) (by decide) rfl ?_
  intro p e s m args below meth c s₁ B hml hno hv
  obtain ⟨rfl, hv⟩ := hv
  obtain ⟨hC, hP, hw⟩ := HC.of hv
  have hsz : s.heap.size = sz := hv.1
  subst hsz
  clear hv
  have hout : ∀ {pc : Nat}, ∀ x ∈ c.exceptionTable.toList, covers x pc = false := fun x hx => (hno x hx).elim
  have hr := B.returns
  have hts := atoms_spec (ws := wsX1_pass) B.pre
  have hts : ∀ w ∈ lw_all, w.before _ s = true := fun w h => hts w (List.mem_cons_of_mem _ h)
  have hF : CallFix p m c cX1_pass 2 s ([.ref p0, .int p1] : List Value).toArray lw_all RX1 := ⟨B.exec, B.bytes, hml, findClass_of_methodNamed B.named, hts⟩
  have hlocks := B.notSynchronized
  have hl := lv_entry ([.ref p0, .int p1]) (n := 2) (Nat.le_of_ble_eq_true rfl)
  rw [lg_entry_eq]
  generalize (lg_sl ([.ref p0, .int p1]) ++ List.replicate (2 - (lg_sl ([.ref p0, .int p1])).length) Slot.unset).toArray = ls at hl ⊢
  have hl : lv_has ls 2 [(0, .ref p0), (1, .int p1)] := hl
  have hS : va_S (hA X0 s.heap.size) s.heap s.heap [] := va_S.rf
  unfold wpX1_pass at hw
  show W p l e (rmh 12 305 mc ms) s m _ below meth c _ _ _ _ _ _
  refine lv_aload_n hF.1 hF.2.1 dX1_pass_0 rfl (lv_at hl 0 rfl) ?_
  refine lv_bipush (v := 100) hF.1 hF.2.1 dX1_pass_1 (by decide) ?_
  refine lv_iconst (v := 1) hF.1 hF.2.1 dX1_pass_3 (by decide) ?_
  refine x_newa (atype := .int) (t := 0) hF hC hP hS q191 rfl rfl rfl (Or.inl rfl) (fun _ _ => rfl) hw ⟨rfl, rfl⟩ dX1_pass_4 (fun a_1 X_2 H pk_3c pk_3s hw hP hS => ?_)
  refine lv_dup hF.1 hF.2.1 dX1_pass_6 rfl ?_
  refine lv_iconst (v := 0) hF.1 hF.2.1 dX1_pass_7 (by decide) ?_
  refine lv_iload_n hF.1 hF.2.1 dX1_pass_8 rfl (lv_at hl 1 rfl) ?_
  obtain ⟨n_4, f_5, hx_6, hi_7, hw⟩ := hw
  refine x_iast hF hC hP hS hx_6 hi_7 dX1_pass_9 (fun H locs hP hS => ?_)
  generalize hup X_2 a_1 (.inl (0, n_4, .inl (upd f_5 (Int32.toNatClampNeg 0) p1))) = X_8 at hP hw
  obtain ⟨ho_11, hw⟩ := hw
  obtain ⟨mc_12, ms_13, hc_14, hs_15, hw⟩ := hw
  refine hkx_i (hrx_VX (As := [.int 100, .ref a_1]) (rest := []) (T := TX1) (N := 4) (ci := 1) hF hl.1 hC hP hS (metX1_act l hlt K mc_12 ms_13 _ _ _ X_8 p0 100 a_1) rfl (vx_cwVW 2 hF.2.2.2.2 (lw_VW q744 q746 qs2 q75 q747) rfl rfl rfl (by decide +kernel) ⟨Nat.le_of_ble_eq_true rfl, Nat.le_of_ble_eq_true rfl⟩) ho_11 hw rfl rfl (Nat.le_of_ble_eq_true rfl) dX1_pass_10 ⟨hc_14, hs_15⟩) hP hS (fun E9 q9 X9 H locs hw hcl hP hS => ?_) (fun r_9 X_10 H locs hw hP hS => ?_)
  · exact h_out hout hlocks hcl hP hS ⟨hc_14, hs_15⟩ hw
  exact vx_ret (h_iret hF hr hlocks hP hS ⟨hc_14, hs_15⟩ dX1_pass_13 hw)
def wpX1_setDay (post : Int32 → hX → Prop) (xpost : String → Nat → hX → Prop) (E : Nat) (mc ms : Nat) (X : hX) (p0 : Nat) (p1 : Int32) : Prop := newA X 0 (.inl (fun _ => 0)) 1 4 0 0 mc ms (fun a_1 X_2 => asI X_2 a_1 0 p1 (fun X_8 => isO X_8 p0 1 ((∃ mc_12 ms_13 : Nat, (0 + 1) + mc_12 ≤ mc ∧ (0 + Int32.toNatClampNeg 1) + ms_13 ≤ ms ∧ wpX1_act (fun r_9 X_10 => post r_9 X_10) xpost E mc_12 ms_13 X_8 p0 121 a_1))))
abbrev wsX1_setDay : List Cond := ws_ yX1_setDay cX1_setDay 2 (some .int)
set_option maxHeartbeats 8000000 in
theorem metX1_setDay (l : Launch) (hlt : l.stackTraces = false) (K : HK) (mc ms : Nat) (sz : Nat) (post : Int32 → hX → Prop) (xpost : String → Nat → hX → Prop) (X0 : hX) (p0 : Nat) (p1 : Int32) : vx_Met l yX1_setDay wsX1_setDay (rmh 12 305 mc ms) (hPc K X0 sz [.ref p0, .int p1] (wpX1_setDay post xpost (K.2.2 0) mc ms X0 p0 p1)) (hQi post K X0 sz) (hXC xpost K X0 sz) mc ms (hA X0 sz) := by
  refine vx_ofW (cc := cX1_setDay) (maxL := 2) (ret := (some .int)) (by decide) rfl ?_
  intro p e s m args below meth c s₁ B hml hno hv
  obtain ⟨rfl, hv⟩ := hv
  obtain ⟨hC, hP, hw⟩ := HC.of hv
  have hsz : s.heap.size = sz := hv.1
  subst hsz
  clear hv
  have hout : ∀ {pc : Nat}, ∀ x ∈ c.exceptionTable.toList, covers x pc = false := fun x hx => (hno x hx).elim
  have hr := B.returns
  have hts := atoms_spec (ws := wsX1_setDay) B.pre
  have hts : ∀ w ∈ lw_all, w.before _ s = true := fun w h => hts w (List.mem_cons_of_mem _ h)
  have hF : CallFix p m c cX1_setDay 2 s ([.ref p0, .int p1] : List Value).toArray lw_all RX1 := ⟨B.exec, B.bytes, hml, findClass_of_methodNamed B.named, hts⟩
  have hlocks := B.notSynchronized
  have hl := lv_entry ([.ref p0, .int p1]) (n := 2) (Nat.le_of_ble_eq_true rfl)
  rw [lg_entry_eq]
  generalize (lg_sl ([.ref p0, .int p1]) ++ List.replicate (2 - (lg_sl ([.ref p0, .int p1])).length) Slot.unset).toArray = ls at hl ⊢
  have hl : lv_has ls 2 [(0, .ref p0), (1, .int p1)] := hl
  have hS : va_S (hA X0 s.heap.size) s.heap s.heap [] := va_S.rf
  unfold wpX1_setDay at hw
  show W p l e (rmh 12 305 mc ms) s m _ below meth c _ _ _ _ _ _
  refine lv_aload_n hF.1 hF.2.1 dX1_setDay_0 rfl (lv_at hl 0 rfl) ?_
  refine lv_bipush (v := 121) hF.1 hF.2.1 dX1_setDay_1 (by decide) ?_
  refine lv_iconst (v := 1) hF.1 hF.2.1 dX1_setDay_3 (by decide) ?_
  refine x_newa (atype := .int) (t := 0) hF hC hP hS q191 rfl rfl rfl (Or.inl rfl) (fun _ _ => rfl) hw ⟨rfl, rfl⟩ dX1_setDay_4 (fun a_1 X_2 H pk_3c pk_3s hw hP hS => ?_)
  refine lv_dup hF.1 hF.2.1 dX1_setDay_6 rfl ?_
  refine lv_iconst (v := 0) hF.1 hF.2.1 dX1_setDay_7 (by decide) ?_
  refine lv_iload_n hF.1 hF.2.1 dX1_setDay_8 rfl (lv_at hl 1 rfl) ?_
  obtain ⟨n_4, f_5, hx_6, hi_7, hw⟩ := hw
  refine x_iast hF hC hP hS hx_6 hi_7 dX1_setDay_9 (fun H locs hP hS => ?_)
  generalize hup X_2 a_1 (.inl (0, n_4, .inl (upd f_5 (Int32.toNatClampNeg 0) p1))) = X_8 at hP hw
  obtain ⟨ho_11, hw⟩ := hw
  obtain ⟨mc_12, ms_13, hc_14, hs_15, hw⟩ := hw
  refine hkx_i (hrx_VX (As := [.int 121, .ref a_1]) (rest := []) (T := TX1) (N := 4) (ci := 1) hF hl.1 hC hP hS (metX1_act l hlt K mc_12 ms_13 _ _ _ X_8 p0 121 a_1) rfl (vx_cwVW 2 hF.2.2.2.2 (lw_VW q744 q746 qs2 q75 q747) rfl rfl rfl (by decide +kernel) ⟨Nat.le_of_ble_eq_true rfl, Nat.le_of_ble_eq_true rfl⟩) ho_11 hw rfl rfl (Nat.le_of_ble_eq_true rfl) dX1_setDay_10 ⟨hc_14, hs_15⟩) hP hS (fun E9 q9 X9 H locs hw hcl hP hS => ?_) (fun r_9 X_10 H locs hw hP hS => ?_)
  · exact h_out hout hlocks hcl hP hS ⟨hc_14, hs_15⟩ hw
  exact vx_ret (h_iret hF hr hlocks hP hS ⟨hc_14, hs_15⟩ dX1_setDay_13 hw)
def wpX1_keep (post : Int32 → hX → Prop) (E : Nat) (X : hX) (p0 : Nat) : Prop := gfA X p0 1 0 (fun v_2 => pfV X p0 1 1 (.ref v_2) (fun X_8 => gfA X_8 p0 1 0 (fun v_10 => gfI X_8 v_10 2 7 (fun v_14 => post v_14 X_8))))
abbrev wsX1_keep : List Cond := ws_ yX1_keep cX1_keep 1 (some .int)
set_option maxHeartbeats 8000000 in
theorem metX1_keep (l : Launch) (K : HK) (sz : Nat) (post : Int32 → hX → Prop) (X0 : hX) (p0 : Nat) : Met l yX1_keep wsX1_keep (rmh 0 0 0 0) (hPc K X0 sz [.ref p0] (wpX1_keep post (K.2.2 0) X0 p0)) (hQi post K X0 sz) 0 0 (hA X0 sz) := by
  refine Met.ofW (cc := cX1_keep) (maxL := 1) (ret := (some .int)) (by decide) rfl ?_
  intro p e s m args below meth c s₁ B hml hv
  obtain ⟨rfl, hv⟩ := hv
  obtain ⟨hC, hP, hw⟩ := HC.of hv
  have hsz : s.heap.size = sz := hv.1
  subst hsz
  clear hv
  have hr := B.returns
  have hts := atoms_spec (ws := wsX1_keep) B.pre
  have hts : ∀ w ∈ lw_all, w.before _ s = true := fun w h => hts w (List.mem_cons_of_mem _ h)
  have hF : CallFix p m c cX1_keep 1 s ([.ref p0] : List Value).toArray lw_all RX1 := ⟨B.exec, B.bytes, hml, findClass_of_methodNamed B.named, hts⟩
  have hlocks := B.notSynchronized
  have hl := lv_entry ([.ref p0]) (n := 1) (Nat.le_of_ble_eq_true rfl)
  rw [lg_entry_eq]
  generalize (lg_sl ([.ref p0]) ++ List.replicate (1 - (lg_sl ([.ref p0])).length) Slot.unset).toArray = ls at hl ⊢
  have hl : lv_has ls 1 [(0, .ref p0)] := hl
  have hS : va_S (hA X0 s.heap.size) s.heap s.heap [] := va_S.rf
  unfold wpX1_keep at hw
  show W p l e (rmh 0 0 0 0) s m _ below meth c _ _ _ _ _ _
  refine lv_aload_n hF.1 hF.2.1 dX1_keep_0 rfl (lv_at hl 0 rfl) ?_
  refine lv_aload_n hF.1 hF.2.1 dX1_keep_1 rfl (lv_at hl 0 rfl) ?_
  obtain ⟨fs_1, v_2, hx_3, hv_4, hw⟩ := hw
  refine x_get hF hC hP in_X1 rfl 0 (by decide) q244 (fun _ z => z) hx_3 hv_4 dX1_keep_2 ?_
  obtain ⟨fs_5, hx_6, hl_7, hw⟩ := hw
  refine x_put hF hC hP hS in_X1 rfl tyX1 tyX1_ok nmX1 1 (by decide) q245 (fun _ z => z) rfl rfl rfl hx_6 hl_7 dX1_keep_5 (fun H locs hP hS => ?_)
  generalize hup X0 p0 (.inr (1, fs_5.set 1 (.ref v_2))) = X_8 at hP hw
  refine lv_aload_n hF.1 hF.2.1 dX1_keep_8 rfl (lv_at hl 0 rfl) ?_
  obtain ⟨fs_9, v_10, hx_11, hv_12, hw⟩ := hw
  refine x_get hF hC hP in_X1 rfl 0 (by decide) q244 (fun _ z => z) hx_11 hv_12 dX1_keep_9 ?_
  obtain ⟨fs_13, v_14, hx_15, hv_16, hw⟩ := hw
  refine x_getN hF hC hP in_X2 rfl 7 (by decide) q169 (fun _ z => z) hx_15 hv_16 dX1_keep_12 ?_
  exact h_iret hF hr hlocks hP hS ⟨Nat.le_refl _, Nat.le_refl _⟩ dX1_keep_15 hw
def wpX1_states (post : Int32 → hX → Prop) (E : Nat) (X : hX) (p0 : Nat) : Prop := gfA X p0 1 2 (fun v_2 => isO X v_2 9 (wpJ3_size (fun r_5 X_6 => post r_5 X_6) E X v_2))
abbrev wsX1_states : List Cond := ws_ yX1_states cX1_states 1 (some .int)
set_option maxHeartbeats 8000000 in
theorem metX1_states (l : Launch) (K : HK) (sz : Nat) (post : Int32 → hX → Prop) (X0 : hX) (p0 : Nat) : Met l yX1_states wsX1_states (rmh 2 42 0 0) (hPc K X0 sz [.ref p0] (wpX1_states post (K.2.2 0) X0 p0)) (hQi post K X0 sz) 0 0 (hA X0 sz) := by
  refine Met.ofW (cc := cX1_states) (maxL := 1) (ret := (some .int)) (by decide) rfl ?_
  intro p e s m args below meth c s₁ B hml hv
  obtain ⟨rfl, hv⟩ := hv
  obtain ⟨hC, hP, hw⟩ := HC.of hv
  have hsz : s.heap.size = sz := hv.1
  subst hsz
  clear hv
  have hr := B.returns
  have hts := atoms_spec (ws := wsX1_states) B.pre
  have hts : ∀ w ∈ lw_all, w.before _ s = true := fun w h => hts w (List.mem_cons_of_mem _ h)
  have hF : CallFix p m c cX1_states 1 s ([.ref p0] : List Value).toArray lw_all RX1 := ⟨B.exec, B.bytes, hml, findClass_of_methodNamed B.named, hts⟩
  have hlocks := B.notSynchronized
  have hl := lv_entry ([.ref p0]) (n := 1) (Nat.le_of_ble_eq_true rfl)
  rw [lg_entry_eq]
  generalize (lg_sl ([.ref p0]) ++ List.replicate (1 - (lg_sl ([.ref p0])).length) Slot.unset).toArray = ls at hl ⊢
  have hl : lv_has ls 1 [(0, .ref p0)] := hl
  have hS : va_S (hA X0 s.heap.size) s.heap s.heap [] := va_S.rf
  unfold wpX1_states at hw
  show W p l e (rmh 2 42 0 0) s m _ below meth c _ _ _ _ _ _
  refine lv_aload_n hF.1 hF.2.1 dX1_states_0 rfl (lv_at hl 0 rfl) ?_
  obtain ⟨fs_1, v_2, hx_3, hv_4, hw⟩ := hw
  refine x_get hF hC hP in_X1 rfl 2 (by decide) q246 (fun _ z => z) hx_3 hv_4 dX1_states_1 ?_
  obtain ⟨ho_7, hw⟩ := hw
  refine hk_i (hr_V (As := []) (rest := []) (T := TJ3) (N := 3) (ci := 9) hF hl.1 hC hP hS (metJ3_size l K _ _ X0 v_2) rfl (cwV 0 hF.2.2.2.2 (lw_V q429 q430 q431 q80 q432) rfl rfl rfl (by decide +kernel) ⟨Nat.le_of_ble_eq_true rfl, Nat.le_of_ble_eq_true rfl⟩) ho_7 hw rfl rfl (Nat.le_of_ble_eq_true rfl) dX1_states_4 ⟨Nat.le_refl _, Nat.le_refl _⟩) hP hS (fun r_5 X_6 H locs hw hP hS => ?_)
  exact h_iret hF hr hlocks hP hS ⟨Nat.le_refl _, Nat.le_refl _⟩ dX1_states_7 hw
def wpX1_clearText (post : Int32 → hX → Prop) (E : Nat) (mc ms : Nat) (X : hX) (p0 : Nat) : Prop := gfA X p0 1 3 (fun v_2 => isO X v_2 10 (wpJ5_length (fun r_5 X_6 => gfA X_6 p0 1 3 (fun v_9 => isO X_6 v_9 10 ((∃ mc_14 ms_15 : Nat, 0 + mc_14 ≤ mc ∧ 0 + ms_15 ≤ ms ∧ wpJ5_setLength (fun X_12 => post r_5 X_12) E mc_14 ms_15 X_6 v_9 0)))) E X v_2))
abbrev wsX1_clearText : List Cond := ws_ yX1_clearText cX1_clearText 2 (some .int)
set_option maxHeartbeats 8000000 in
theorem metX1_clearText (l : Launch) (K : HK) (mc ms : Nat) (sz : Nat) (post : Int32 → hX → Prop) (X0 : hX) (p0 : Nat) : Met l yX1_clearText wsX1_clearText (rmh 6 146 mc ms) (hPc K X0 sz [.ref p0] (wpX1_clearText post (K.2.2 0) mc ms X0 p0)) (hQi post K X0 sz) mc ms (hA X0 sz) := by
  refine Met.ofW (cc := cX1_clearText) (maxL := 2) (ret := (some .int)) (by decide) rfl ?_
  intro p e s m args below meth c s₁ B hml hv
  obtain ⟨rfl, hv⟩ := hv
  obtain ⟨hC, hP, hw⟩ := HC.of hv
  have hsz : s.heap.size = sz := hv.1
  subst hsz
  clear hv
  have hr := B.returns
  have hts := atoms_spec (ws := wsX1_clearText) B.pre
  have hts : ∀ w ∈ lw_all, w.before _ s = true := fun w h => hts w (List.mem_cons_of_mem _ h)
  have hF : CallFix p m c cX1_clearText 2 s ([.ref p0] : List Value).toArray lw_all RX1 := ⟨B.exec, B.bytes, hml, findClass_of_methodNamed B.named, hts⟩
  have hlocks := B.notSynchronized
  have hl := lv_entry ([.ref p0]) (n := 2) (Nat.le_of_ble_eq_true rfl)
  rw [lg_entry_eq]
  generalize (lg_sl ([.ref p0]) ++ List.replicate (2 - (lg_sl ([.ref p0])).length) Slot.unset).toArray = ls at hl ⊢
  have hl : lv_has ls 2 [(0, .ref p0)] := hl
  have hS : va_S (hA X0 s.heap.size) s.heap s.heap [] := va_S.rf
  unfold wpX1_clearText at hw
  show W p l e (rmh 6 146 mc ms) s m _ below meth c _ _ _ _ _ _
  refine lv_aload_n hF.1 hF.2.1 dX1_clearText_0 rfl (lv_at hl 0 rfl) ?_
  obtain ⟨fs_1, v_2, hx_3, hv_4, hw⟩ := hw
  refine x_get hF hC hP in_X1 rfl 3 (by decide) q248 (fun _ z => z) hx_3 hv_4 dX1_clearText_1 ?_
  obtain ⟨ho_7, hw⟩ := hw
  refine hk_i (hr_V (As := []) (rest := []) (T := TJ5) (N := 4) (ci := 10) hF hl.1 hC hP hS (metJ5_length l K _ _ X0 v_2) rfl (cwV 0 hF.2.2.2.2 (lw_V q440 q441 q442 q82 q443) rfl rfl rfl (by decide +kernel) ⟨Nat.le_of_ble_eq_true rfl, Nat.le_of_ble_eq_true rfl⟩) ho_7 hw rfl rfl (Nat.le_of_ble_eq_true rfl) dX1_clearText_4 ⟨Nat.zero_le _, Nat.zero_le _⟩) hP hS (fun r_5 X_6 H locs hw hP hS => ?_)
  refine lv_istore_n (lv' := [(1, .int r_5), (0, .ref p0)]) hF.1 hF.2.1 dX1_clearText_7 rfl hl (by decide) rfl (fun ls hl => ?_)
  refine lv_aload_n hF.1 hF.2.1 dX1_clearText_8 rfl (lv_at hl 1 rfl) ?_
  obtain ⟨fs_8, v_9, hx_10, hv_11, hw⟩ := hw
  refine x_get hF hC hP in_X1 rfl 3 (by decide) q248 (fun _ z => z) hx_10 hv_11 dX1_clearText_9 ?_
  refine lv_iconst (v := 0) hF.1 hF.2.1 dX1_clearText_12 (by decide) ?_
  obtain ⟨ho_13, hw⟩ := hw
  obtain ⟨mc_14, ms_15, hc_16, hs_17, hw⟩ := hw
  refine hk_v (hr_V (As := [.int 0]) (rest := []) (T := TJ5) (N := 4) (ci := 10) hF hl.1 hC hP hS (metJ5_setLength l K mc_14 ms_15 _ _ X_6 v_9 0) rfl (cwV 1 hF.2.2.2.2 (lw_V q447 q448 q449 q82 q450) rfl rfl rfl (by decide +kernel) ⟨Nat.le_of_ble_eq_true rfl, Nat.le_of_ble_eq_true rfl⟩) ho_13 hw rfl rfl (Nat.le_of_ble_eq_true rfl) dX1_clearText_13 ⟨hc_16, hs_17⟩) hP hS (fun X_12 H locs hw hP hS => ?_)
  refine lv_iload_n hF.1 hF.2.1 dX1_clearText_16 rfl (lv_at hl 0 rfl) ?_
  exact h_iret hF hr hlocks hP hS ⟨hc_16, hs_17⟩ dX1_clearText_17 hw
def wpX1_goBack_12 (post : Int32 → hX → Prop) (xpost : String → Nat → hX → Prop) (E : Nat) (mc ms : Nat) (x0 : Nat) (z0 : Int32) (X : hX) (kc ks : Nat) : Prop := (∃ mc_2 ms_3 : Nat, kc + mc_2 ≤ mc ∧ ks + ms_3 ≤ ms ∧ wpX1_needState (fun X_1 => gfQ X_1 x0 1 1 (fun v_7 => gfQ X_1 x0 1 1 (fun v_11 => (∃ a_14 : Nat, v_11 = some a_14 ∧ gfI X_1 a_14 2 7 (fun v_17 => (∃ a_20 : Nat, v_7 = some a_20 ∧ isO X_1 x0 1 (wpX1_changed (fun r_22 X_23 => post r_22 X_23) E X_1 x0 a_20 v_17))))))) xpost E mc_2 ms_3 X z0)
def wpX1_goBack (post : Int32 → hX → Prop) (xpost : String → Nat → hX → Prop) (E : Nat) (mc ms : Nat) (X : hX) (p0 : Nat) : Prop := gfQ X p0 1 1 (fun v_26 => ((∀ a_30 : Nat, v_26 = some a_30 → wpX1_goBack_12 post xpost E mc ms p0 1 X 0 0) ∧ (v_26 = none → wpX1_goBack_12 post xpost E mc ms p0 0 X 0 0)))
abbrev wsX1_goBack : List Cond := ws_ yX1_goBack cX1_goBack 1 (some .int)
set_option maxHeartbeats 8000000 in
theorem metX1_goBack (l : Launch) (hlt : l.stackTraces = false) (K : HK) (mc ms : Nat) (sz : Nat) (post : Int32 → hX → Prop) (xpost : String → Nat → hX → Prop) (X0 : hX) (p0 : Nat) : vx_Met l yX1_goBack wsX1_goBack (rmh 7 115 mc ms) (hPc K X0 sz [.ref p0] (wpX1_goBack post xpost (K.2.2 0) mc ms X0 p0)) (hQi post K X0 sz) (hXC xpost K X0 sz) mc ms (hA X0 sz) := by
  refine vx_ofW (cc := cX1_goBack) (maxL := 1) (ret := (some .int)) (by decide) rfl ?_
  intro p e s m args below meth c s₁ B hml hno hv
  obtain ⟨rfl, hv⟩ := hv
  obtain ⟨hC, hP, hw⟩ := HC.of hv
  have hsz : s.heap.size = sz := hv.1
  subst hsz
  clear hv
  have hout : ∀ {pc : Nat}, ∀ x ∈ c.exceptionTable.toList, covers x pc = false := fun x hx => (hno x hx).elim
  have hr := B.returns
  have hts := atoms_spec (ws := wsX1_goBack) B.pre
  have hts : ∀ w ∈ lw_all, w.before _ s = true := fun w h => hts w (List.mem_cons_of_mem _ h)
  have hF : CallFix p m c cX1_goBack 1 s ([.ref p0] : List Value).toArray lw_all RX1 := ⟨B.exec, B.bytes, hml, findClass_of_methodNamed B.named, hts⟩
  have hlocks := B.notSynchronized
  have hl := lv_entry ([.ref p0]) (n := 1) (Nat.le_of_ble_eq_true rfl)
  rw [lg_entry_eq]
  generalize (lg_sl ([.ref p0]) ++ List.replicate (1 - (lg_sl ([.ref p0])).length) Slot.unset).toArray = ls at hl ⊢
  have hl : lv_has ls 1 [(0, .ref p0)] := hl
  have hS : va_S (hA X0 s.heap.size) s.heap s.heap [] := va_S.rf
  have T12 : ∀ (x0 : Nat) (z0 : Int32) (X : hX) (kc ks : Nat) (H : Heap) (locs : List Loc) (ls : Array Slot), hI K X0 s.heap.size X H → va_S (hA X0 s.heap.size) s.heap H locs → kc ≤ mc ∧ ks ≤ ms → lv_has ls 1 [(0, .ref x0)] → wpX1_goBack_12 post xpost (K.2.2 0) mc ms x0 z0 X kc ks → W p l e (rmh 7 115 mc ms) s m ([.ref p0] : List Value).toArray below meth c H locs kc ks (vx_MQ below (hQi post K X0 s.heap.size) (hXC xpost K X0 s.heap.size) ([.ref p0] : List Value).toArray s mc ms (hA X0 s.heap.size)) (F0 m 12 ls [.int z0]) := by
    intro x0 z0 X kc ks H locs ls hP hS hk hl hw
    unfold wpX1_goBack_12 at hw
    obtain ⟨mc_2, ms_3, hc_4, hs_5, hw⟩ := hw
    refine hkx_v (hrx_S (As := [.int z0]) (rest := []) hF hl.1 hC hP hS (metX1_needState l hlt K mc_2 ms_3 _ _ _ X z0) (va_cwS 1 hF.2.2.2.2 (lw_S q1510 q1511 q75 q1512) rfl rfl rfl (by decide +kernel) ⟨Nat.le_of_ble_eq_true rfl, Nat.le_of_ble_eq_true rfl⟩) hw rfl rfl (Nat.le_of_ble_eq_true rfl) dX1_goBack_12 ⟨hc_4, hs_5⟩) hP hS (fun E9 q9 X9 H locs hw hcl hP hS => ?_) (fun X_1 H locs hw hP hS => ?_)
    · exact h_out hout hlocks hcl hP hS ⟨hc_4, hs_5⟩ hw
    refine lv_aload_n hF.1 hF.2.1 dX1_goBack_15 rfl (lv_at hl 0 rfl) ?_
    refine lv_aload_n hF.1 hF.2.1 dX1_goBack_16 rfl (lv_at hl 0 rfl) ?_
    obtain ⟨fs_6, v_7, hx_8, hv_9, hw⟩ := hw
    refine x_get hF hC hP in_X1 rfl 1 (by decide) q245 (fun _ z => z) hx_8 hv_9 dX1_goBack_17 ?_
    refine lv_aload_n hF.1 hF.2.1 dX1_goBack_20 rfl (lv_at hl 0 rfl) ?_
    obtain ⟨fs_10, v_11, hx_12, hv_13, hw⟩ := hw
    refine x_get hF hC hP in_X1 rfl 1 (by decide) q245 (fun _ z => z) hx_12 hv_13 dX1_goBack_21 ?_
    obtain ⟨a_14, e_15, hw⟩ := hw
    subst e_15
    simp only [va_rf_some] at hl ⊢
    obtain ⟨fs_16, v_17, hx_18, hv_19, hw⟩ := hw
    refine x_getN hF hC hP in_X2 rfl 7 (by decide) q169 (fun _ z => z) hx_18 hv_19 dX1_goBack_24 ?_
    obtain ⟨a_20, e_21, hw⟩ := hw
    subst e_21
    simp only [va_rf_some] at hl ⊢
    obtain ⟨ho_24, hw⟩ := hw
    refine hk_i (hr_V (As := [.ref a_20, .int v_17]) (rest := []) (T := TX1) (N := 4) (ci := 1) hF hl.1 hC hP hS (metX1_changed l K _ _ X_1 x0 a_20 v_17) rfl (cwV 2 hF.2.2.2.2 (lw_V q980 q982 qs8 q75 q983) rfl rfl rfl (by decide +kernel) ⟨Nat.le_of_ble_eq_true rfl, Nat.le_of_ble_eq_true rfl⟩) ho_24 hw rfl rfl (Nat.le_of_ble_eq_true rfl) dX1_goBack_27 ⟨hc_4, hs_5⟩) hP hS (fun r_22 X_23 H locs hw hP hS => ?_)
    exact vx_ret (h_iret hF hr hlocks hP hS ⟨hc_4, hs_5⟩ dX1_goBack_30 hw)
  unfold wpX1_goBack at hw
  show W p l e (rmh 7 115 mc ms) s m _ below meth c _ _ _ _ _ _
  refine lv_aload_n hF.1 hF.2.1 dX1_goBack_0 rfl (lv_at hl 0 rfl) ?_
  obtain ⟨fs_25, v_26, hx_27, hv_28, hw⟩ := hw
  refine x_get hF hC hP in_X1 rfl 1 (by decide) q245 (fun _ z => z) hx_27 hv_28 dX1_goBack_1 ?_
  refine lv_ifnullQ (tgt := 11) hF.1 hF.2.1 dX1_goBack_4 (by decide) (fun c_29 => ?_) (fun a_30 c_29 => ?_)
  · subst c_29
    have hw := hw.2 rfl
    refine lv_iconst (v := 0) hF.1 hF.2.1 dX1_goBack_11 (by decide) ?_
    exact T12 p0 0 X0 0 0 _ _ ls hP hS ⟨Nat.zero_le _, Nat.zero_le _⟩ (lv_sub hl [0] rfl) hw
  · subst c_29
    have hw := hw.1 a_30 rfl
    refine lv_iconst (v := 1) hF.1 hF.2.1 dX1_goBack_7 (by decide) ?_
    refine lv_goto (tgt := 12) hF.1 hF.2.1 dX1_goBack_8 (by decide) ?_
    exact T12 p0 1 X0 0 0 _ _ ls hP hS ⟨Nat.zero_le _, Nat.zero_le _⟩ (lv_sub hl [0] rfl) hw
def wpX1_undo_15 (post : Int32 → hX → Prop) (xpost : String → Nat → hX → Prop) (E : Nat) (mc ms : Nat) (x0 : Nat) (z0 : Int32) (X : hX) (kc ks : Nat) : Prop := (∃ mc_2 ms_3 : Nat, kc + mc_2 ≤ mc ∧ ks + ms_3 ≤ ms ∧ wpX1_needState (fun X_1 => gfA X_1 x0 1 2 (fun v_7 => isO X_1 v_7 9 (wpJ3_removeLast (fun r_10 X_11 => (∃ a_13 : Nat, r_10 = some a_13 ∧ ((∃ fs, X_11 a_13 = some (.inr (2, fs))) ∧ pfV X_11 x0 1 0 (.ref a_13) (fun X_19 => gfA X_19 x0 1 2 (fun v_21 => isO X_19 v_21 9 (wpJ3_size (fun r_24 X_25 => post r_24 X_25) E X_19 v_21)))))) E X_1 v_7))) xpost E mc_2 ms_3 X z0)
def wpX1_undo (post : Int32 → hX → Prop) (xpost : String → Nat → hX → Prop) (E : Nat) (mc ms : Nat) (X : hX) (p0 : Nat) : Prop := gfA X p0 1 2 (fun v_28 => isO X v_28 9 (wpJ3_isEmpty (fun r_31 X_32 => ((r_31 = 0 → wpX1_undo_15 post xpost E mc ms p0 1 X_32 0 0) ∧ (¬ r_31 = 0 → wpX1_undo_15 post xpost E mc ms p0 0 X_32 0 0))) E X v_28))
abbrev wsX1_undo : List Cond := ws_ yX1_undo cX1_undo 1 (some .int)
set_option maxHeartbeats 8000000 in
theorem metX1_undo (l : Launch) (hlt : l.stackTraces = false) (K : HK) (mc ms : Nat) (sz : Nat) (post : Int32 → hX → Prop) (xpost : String → Nat → hX → Prop) (X0 : hX) (p0 : Nat) : vx_Met l yX1_undo wsX1_undo (rmh 7 115 mc ms) (hPc K X0 sz [.ref p0] (wpX1_undo post xpost (K.2.2 0) mc ms X0 p0)) (hQi post K X0 sz) (hXC xpost K X0 sz) mc ms (hA X0 sz) := by
  refine vx_ofW (cc := cX1_undo) (maxL := 1) (ret := (some .int)) (by decide) rfl ?_
  intro p e s m args below meth c s₁ B hml hno hv
  obtain ⟨rfl, hv⟩ := hv
  obtain ⟨hC, hP, hw⟩ := HC.of hv
  have hsz : s.heap.size = sz := hv.1
  subst hsz
  clear hv
  have hout : ∀ {pc : Nat}, ∀ x ∈ c.exceptionTable.toList, covers x pc = false := fun x hx => (hno x hx).elim
  have hr := B.returns
  have hts := atoms_spec (ws := wsX1_undo) B.pre
  have hts : ∀ w ∈ lw_all, w.before _ s = true := fun w h => hts w (List.mem_cons_of_mem _ h)
  have hF : CallFix p m c cX1_undo 1 s ([.ref p0] : List Value).toArray lw_all RX1 := ⟨B.exec, B.bytes, hml, findClass_of_methodNamed B.named, hts⟩
  have hlocks := B.notSynchronized
  have hl := lv_entry ([.ref p0]) (n := 1) (Nat.le_of_ble_eq_true rfl)
  rw [lg_entry_eq]
  generalize (lg_sl ([.ref p0]) ++ List.replicate (1 - (lg_sl ([.ref p0])).length) Slot.unset).toArray = ls at hl ⊢
  have hl : lv_has ls 1 [(0, .ref p0)] := hl
  have hS : va_S (hA X0 s.heap.size) s.heap s.heap [] := va_S.rf
  have T15 : ∀ (x0 : Nat) (z0 : Int32) (X : hX) (kc ks : Nat) (H : Heap) (locs : List Loc) (ls : Array Slot), hI K X0 s.heap.size X H → va_S (hA X0 s.heap.size) s.heap H locs → kc ≤ mc ∧ ks ≤ ms → lv_has ls 1 [(0, .ref x0)] → wpX1_undo_15 post xpost (K.2.2 0) mc ms x0 z0 X kc ks → W p l e (rmh 7 115 mc ms) s m ([.ref p0] : List Value).toArray below meth c H locs kc ks (vx_MQ below (hQi post K X0 s.heap.size) (hXC xpost K X0 s.heap.size) ([.ref p0] : List Value).toArray s mc ms (hA X0 s.heap.size)) (F0 m 15 ls [.int z0]) := by
    intro x0 z0 X kc ks H locs ls hP hS hk hl hw
    unfold wpX1_undo_15 at hw
    obtain ⟨mc_2, ms_3, hc_4, hs_5, hw⟩ := hw
    refine hkx_v (hrx_S (As := [.int z0]) (rest := []) hF hl.1 hC hP hS (metX1_needState l hlt K mc_2 ms_3 _ _ _ X z0) (va_cwS 1 hF.2.2.2.2 (lw_S q1510 q1511 q75 q1512) rfl rfl rfl (by decide +kernel) ⟨Nat.le_of_ble_eq_true rfl, Nat.le_of_ble_eq_true rfl⟩) hw rfl rfl (Nat.le_of_ble_eq_true rfl) dX1_undo_15 ⟨hc_4, hs_5⟩) hP hS (fun E9 q9 X9 H locs hw hcl hP hS => ?_) (fun X_1 H locs hw hP hS => ?_)
    · exact h_out hout hlocks hcl hP hS ⟨hc_4, hs_5⟩ hw
    refine lv_aload_n hF.1 hF.2.1 dX1_undo_18 rfl (lv_at hl 0 rfl) ?_
    refine lv_aload_n hF.1 hF.2.1 dX1_undo_19 rfl (lv_at hl 0 rfl) ?_
    obtain ⟨fs_6, v_7, hx_8, hv_9, hw⟩ := hw
    refine x_get hF hC hP in_X1 rfl 2 (by decide) q246 (fun _ z => z) hx_8 hv_9 dX1_undo_20 ?_
    obtain ⟨ho_12, hw⟩ := hw
    refine hk_q (hr_V (As := []) (rest := [.ref x0]) (T := TJ3) (N := 3) (ci := 9) hF hl.1 hC hP hS (metJ3_removeLast l K _ _ X_1 v_7) rfl (cwV 0 hF.2.2.2.2 (lw_V q1524 q1525 q1526 q80 q1527) rfl rfl rfl (by decide +kernel) ⟨Nat.le_of_ble_eq_true rfl, Nat.le_of_ble_eq_true rfl⟩) ho_12 hw rfl rfl (Nat.le_of_ble_eq_true rfl) dX1_undo_23 ⟨hc_4, hs_5⟩) hP hS (fun r_10 X_11 H locs hw hP hS => ?_)
    obtain ⟨a_13, e_14, hw⟩ := hw
    subst e_14
    rw [va_rf_some]
    obtain ⟨h_15, hw⟩ := hw
    refine x_cast (T := TX2) (N := 9) (ci := 2) hF hC hP rfl q118 h_15 dX1_undo_26 ?_
    obtain ⟨fs_16, hx_17, hl_18, hw⟩ := hw
    refine x_put hF hC hP hS in_X1 rfl tyX1 tyX1_ok nmX1 0 (by decide) q244 (fun _ z => z) rfl rfl rfl hx_17 hl_18 dX1_undo_29 (fun H locs hP hS => ?_)
    generalize hup X_11 x0 (.inr (1, fs_16.set 0 (.ref a_13))) = X_19 at hP hw
    refine lv_aload_n hF.1 hF.2.1 dX1_undo_32 rfl (lv_at hl 0 rfl) ?_
    obtain ⟨fs_20, v_21, hx_22, hv_23, hw⟩ := hw
    refine x_get hF hC hP in_X1 rfl 2 (by decide) q246 (fun _ z => z) hx_22 hv_23 dX1_undo_33 ?_
    obtain ⟨ho_26, hw⟩ := hw
    refine hk_i (hr_V (As := []) (rest := []) (T := TJ3) (N := 3) (ci := 9) hF hl.1 hC hP hS (metJ3_size l K _ _ X_19 v_21) rfl (cwV 0 hF.2.2.2.2 (lw_V q429 q430 q431 q80 q432) rfl rfl rfl (by decide +kernel) ⟨Nat.le_of_ble_eq_true rfl, Nat.le_of_ble_eq_true rfl⟩) ho_26 hw rfl rfl (Nat.le_of_ble_eq_true rfl) dX1_undo_36 ⟨hc_4, hs_5⟩) hP hS (fun r_24 X_25 H locs hw hP hS => ?_)
    exact vx_ret (h_iret hF hr hlocks hP hS ⟨hc_4, hs_5⟩ dX1_undo_39 hw)
  unfold wpX1_undo at hw
  show W p l e (rmh 7 115 mc ms) s m _ below meth c _ _ _ _ _ _
  refine lv_aload_n hF.1 hF.2.1 dX1_undo_0 rfl (lv_at hl 0 rfl) ?_
  obtain ⟨fs_27, v_28, hx_29, hv_30, hw⟩ := hw
  refine x_get hF hC hP in_X1 rfl 2 (by decide) q246 (fun _ z => z) hx_29 hv_30 dX1_undo_1 ?_
  obtain ⟨ho_33, hw⟩ := hw
  refine hk_i (hr_V (As := []) (rest := []) (T := TJ3) (N := 3) (ci := 9) hF hl.1 hC hP hS (metJ3_isEmpty l K _ _ X0 v_28) rfl (cwV 0 hF.2.2.2.2 (lw_V q1520 q1521 q1522 q80 q1523) rfl rfl rfl (by decide +kernel) ⟨Nat.le_of_ble_eq_true rfl, Nat.le_of_ble_eq_true rfl⟩) ho_33 hw rfl rfl (Nat.le_of_ble_eq_true rfl) dX1_undo_4 ⟨Nat.zero_le _, Nat.zero_le _⟩) hP hS (fun r_31 X_32 H locs hw hP hS => ?_)
  refine lv_if_ne (tgt := 14) hF.1 hF.2.1 dX1_undo_7 (by decide) (fun c_34 => ?_) (fun c_34 => ?_)
  · have hw := hw.2 c_34
    refine lv_iconst (v := 0) hF.1 hF.2.1 dX1_undo_14 (by decide) ?_
    exact T15 p0 0 X_32 0 0 _ _ ls hP hS ⟨Nat.zero_le _, Nat.zero_le _⟩ (lv_sub hl [0] rfl) hw
  · have hw := hw.1 c_34
    refine lv_iconst (v := 1) hF.1 hF.2.1 dX1_undo_10 (by decide) ?_
    refine lv_goto (tgt := 15) hF.1 hF.2.1 dX1_undo_11 (by decide) ?_
    exact T15 p0 1 X_32 0 0 _ _ ls hP hS ⟨Nat.zero_le _, Nat.zero_le _⟩ (lv_sub hl [0] rfl) hw
def wpX1_type_31 (post : Int32 → hX → Prop) (xpost : String → Nat → hX → Prop) (E : Nat) (mc ms : Nat) (x0 : Nat) (x1 : Int32) (z0 : Int32) (X : hX) (kc ks : Nat) : Prop := (∃ mc_2 ms_3 : Nat, kc + mc_2 ≤ mc ∧ ks + ms_3 ≤ ms ∧ wpX1_needState (fun X_1 => gfA X_1 x0 1 3 (fun v_7 => isO X_1 v_7 10 ((∃ mc_13 ms_14 : Nat, (kc + mc_2) + mc_13 ≤ mc ∧ (ks + ms_3) + ms_14 ≤ ms ∧ wpJ5_append_3 (fun r_10 X_11 => (∃ a_17 : Nat, r_10 = some a_17 ∧ gfA X_11 x0 1 3 (fun v_20 => isO X_11 v_20 10 (wpJ5_length (fun r_23 X_24 => post r_23 X_24) E X_11 v_20)))) E mc_13 ms_14 X_1 v_7 (iChr x1))))) xpost E mc_2 ms_3 X z0)
def wpX1_type (post : Int32 → hX → Prop) (xpost : String → Nat → hX → Prop) (E : Nat) (mc ms : Nat) (X : hX) (p0 : Nat) (p1 : Int32) : Prop := wpX1_isBetween (fun r_26 => (∃ mc_28 ms_29 : Nat, 0 + mc_28 ≤ mc ∧ 0 + ms_29 ≤ ms ∧ wpX1_needArgument (fun X_27 => gfA X_27 p0 1 3 (fun v_33 => isO X_27 v_33 10 (wpJ5_length (fun r_36 X_37 => ((60 ≤ r_36 → wpX1_type_31 post xpost E mc ms p0 p1 0 X_37 (0 + mc_28) (0 + ms_29)) ∧ (¬ 60 ≤ r_36 → wpX1_type_31 post xpost E mc ms p0 p1 1 X_37 (0 + mc_28) (0 + ms_29)))) E X_27 v_33))) xpost E mc_28 ms_29 X r_26)) (Int32.toInt64 p1) 32 126
abbrev wsX1_type : List Cond := ws_ yX1_type cX1_type 2 (some .int)
set_option maxHeartbeats 8000000 in
theorem metX1_type (l : Launch) (hlt : l.stackTraces = false) (K : HK) (mc ms : Nat) (sz : Nat) (post : Int32 → hX → Prop) (xpost : String → Nat → hX → Prop) (X0 : hX) (p0 : Nat) (p1 : Int32) : vx_Met l yX1_type wsX1_type (rmh 7 146 mc ms) (hPc K X0 sz [.ref p0, .int p1] (wpX1_type post xpost (K.2.2 0) mc ms X0 p0 p1)) (hQi post K X0 sz) (hXC xpost K X0 sz) mc ms (hA X0 sz) := by
  refine vx_ofW (cc := cX1_type) (maxL := 2) (ret := (some .int)) (by decide) rfl ?_
  intro p e s m args below meth c s₁ B hml hno hv
  obtain ⟨rfl, hv⟩ := hv
  obtain ⟨hC, hP, hw⟩ := HC.of hv
  have hsz : s.heap.size = sz := hv.1
  subst hsz
  clear hv
  have hout : ∀ {pc : Nat}, ∀ x ∈ c.exceptionTable.toList, covers x pc = false := fun x hx => (hno x hx).elim
  have hr := B.returns
  have hts := atoms_spec (ws := wsX1_type) B.pre
  have hts : ∀ w ∈ lw_all, w.before _ s = true := fun w h => hts w (List.mem_cons_of_mem _ h)
  have hF : CallFix p m c cX1_type 2 s ([.ref p0, .int p1] : List Value).toArray lw_all RX1 := ⟨B.exec, B.bytes, hml, findClass_of_methodNamed B.named, hts⟩
  have hlocks := B.notSynchronized
  have hl := lv_entry ([.ref p0, .int p1]) (n := 2) (Nat.le_of_ble_eq_true rfl)
  rw [lg_entry_eq]
  generalize (lg_sl ([.ref p0, .int p1]) ++ List.replicate (2 - (lg_sl ([.ref p0, .int p1])).length) Slot.unset).toArray = ls at hl ⊢
  have hl : lv_has ls 2 [(0, .ref p0), (1, .int p1)] := hl
  have hS : va_S (hA X0 s.heap.size) s.heap s.heap [] := va_S.rf
  have T31 : ∀ (x0 : Nat) (x1 : Int32) (z0 : Int32) (X : hX) (kc ks : Nat) (H : Heap) (locs : List Loc) (ls : Array Slot), hI K X0 s.heap.size X H → va_S (hA X0 s.heap.size) s.heap H locs → kc ≤ mc ∧ ks ≤ ms → lv_has ls 2 [(0, .ref x0), (1, .int x1)] → wpX1_type_31 post xpost (K.2.2 0) mc ms x0 x1 z0 X kc ks → W p l e (rmh 7 146 mc ms) s m ([.ref p0, .int p1] : List Value).toArray below meth c H locs kc ks (vx_MQ below (hQi post K X0 s.heap.size) (hXC xpost K X0 s.heap.size) ([.ref p0, .int p1] : List Value).toArray s mc ms (hA X0 s.heap.size)) (F0 m 31 ls [.int z0]) := by
    intro x0 x1 z0 X kc ks H locs ls hP hS hk hl hw
    unfold wpX1_type_31 at hw
    obtain ⟨mc_2, ms_3, hc_4, hs_5, hw⟩ := hw
    refine hkx_v (hrx_S (As := [.int z0]) (rest := []) hF hl.1 hC hP hS (metX1_needState l hlt K mc_2 ms_3 _ _ _ X z0) (va_cwS 1 hF.2.2.2.2 (lw_S q1510 q1511 q75 q1512) rfl rfl rfl (by decide +kernel) ⟨Nat.le_of_ble_eq_true rfl, Nat.le_of_ble_eq_true rfl⟩) hw rfl rfl (Nat.le_of_ble_eq_true rfl) dX1_type_31 ⟨hc_4, hs_5⟩) hP hS (fun E9 q9 X9 H locs hw hcl hP hS => ?_) (fun X_1 H locs hw hP hS => ?_)
    · exact h_out hout hlocks hcl hP hS ⟨hc_4, hs_5⟩ hw
    refine lv_aload_n hF.1 hF.2.1 dX1_type_34 rfl (lv_at hl 0 rfl) ?_
    obtain ⟨fs_6, v_7, hx_8, hv_9, hw⟩ := hw
    refine x_get hF hC hP in_X1 rfl 3 (by decide) q248 (fun _ z => z) hx_8 hv_9 dX1_type_35 ?_
    refine lv_iload_n hF.1 hF.2.1 dX1_type_38 rfl (lv_at hl 1 rfl) ?_
    refine lv_i2c hF.1 hF.2.1 dX1_type_39 rfl ?_
    obtain ⟨ho_12, hw⟩ := hw
    obtain ⟨mc_13, ms_14, hc_15, hs_16, hw⟩ := hw
    refine hk_q (hr_V (As := [.int (iChr x1)]) (rest := []) (T := TJ5) (N := 4) (ci := 10) hF hl.1 hC hP hS (metJ5_append_3 l K mc_13 ms_14 _ _ X_1 v_7 (iChr x1)) rfl (cwV 1 hF.2.2.2.2 (lw_V q1544 q1545 q1546 q82 q1547) rfl rfl rfl (by decide +kernel) ⟨Nat.le_of_ble_eq_true rfl, Nat.le_of_ble_eq_true rfl⟩) ho_12 hw rfl rfl (Nat.le_of_ble_eq_true rfl) dX1_type_40 ⟨hc_15, hs_16⟩) hP hS (fun r_10 X_11 H locs hw hP hS => ?_)
    obtain ⟨a_17, e_18, hw⟩ := hw
    subst e_18
    rw [va_rf_some]
    refine lv_pop hF.1 hF.2.1 dX1_type_43 rfl ?_
    refine lv_aload_n hF.1 hF.2.1 dX1_type_44 rfl (lv_at hl 0 rfl) ?_
    obtain ⟨fs_19, v_20, hx_21, hv_22, hw⟩ := hw
    refine x_get hF hC hP in_X1 rfl 3 (by decide) q248 (fun _ z => z) hx_21 hv_22 dX1_type_45 ?_
    obtain ⟨ho_25, hw⟩ := hw
    refine hk_i (hr_V (As := []) (rest := []) (T := TJ5) (N := 4) (ci := 10) hF hl.1 hC hP hS (metJ5_length l K _ _ X_11 v_20) rfl (cwV 0 hF.2.2.2.2 (lw_V q440 q441 q442 q82 q443) rfl rfl rfl (by decide +kernel) ⟨Nat.le_of_ble_eq_true rfl, Nat.le_of_ble_eq_true rfl⟩) ho_25 hw rfl rfl (Nat.le_of_ble_eq_true rfl) dX1_type_48 ⟨hc_15, hs_16⟩) hP hS (fun r_23 X_24 H locs hw hP hS => ?_)
    exact vx_ret (h_iret hF hr hlocks hP hS ⟨hc_15, hs_16⟩ dX1_type_51 hw)
  unfold wpX1_type at hw
  show W p l e (rmh 7 146 mc ms) s m _ below meth c _ _ _ _ _ _
  refine lv_iload_n hF.1 hF.2.1 dX1_type_0 rfl (lv_at hl 1 rfl) ?_
  refine lv_i2l hF.1 hF.2.1 dX1_type_1 rfl ?_
  refine lv_ldc2 hF.1 hF.2.1 hF.2.2.2.1 (hF.2.2.2.2 _ q1542) dX1_type_2 ?_
  refine lv_ldc2 hF.1 hF.2.1 hF.2.2.2.1 (hF.2.2.2.2 _ q1543) dX1_type_5 ?_
  refine hp_i (hrp_S (As := [.long (Int32.toInt64 p1), .long 32, .long 126]) (rest := []) hF hl.1 (metX1_isBetween l _ (Int32.toInt64 p1) 32 126) (va_cwS 3 hF.2.2.2.2 (lw_S q1228 q848 q75 q849) rfl rfl rfl (by decide +kernel) ⟨Nat.le_of_ble_eq_true rfl, Nat.le_of_ble_eq_true rfl⟩) hw rfl rfl (Nat.le_of_ble_eq_true rfl) dX1_type_8 ⟨Nat.zero_le _, Nat.zero_le _⟩) (fun r_26 hw => ?_)
  obtain ⟨mc_28, ms_29, hc_30, hs_31, hw⟩ := hw
  refine hkx_v (hrx_S (As := [.int r_26]) (rest := []) hF hl.1 hC hP hS (metX1_needArgument l hlt K mc_28 ms_29 _ _ _ X0 r_26) (va_cwS 1 hF.2.2.2.2 (lw_S q1140 q1141 q75 q1142) rfl rfl rfl (by decide +kernel) ⟨Nat.le_of_ble_eq_true rfl, Nat.le_of_ble_eq_true rfl⟩) hw rfl rfl (Nat.le_of_ble_eq_true rfl) dX1_type_11 ⟨hc_30, hs_31⟩) hP hS (fun E9 q9 X9 H locs hw hcl hP hS => ?_) (fun X_27 H locs hw hP hS => ?_)
  · exact h_out hout hlocks hcl hP hS ⟨hc_30, hs_31⟩ hw
  refine lv_aload_n hF.1 hF.2.1 dX1_type_14 rfl (lv_at hl 0 rfl) ?_
  obtain ⟨fs_32, v_33, hx_34, hv_35, hw⟩ := hw
  refine x_get hF hC hP in_X1 rfl 3 (by decide) q248 (fun _ z => z) hx_34 hv_35 dX1_type_15 ?_
  obtain ⟨ho_38, hw⟩ := hw
  refine hk_i (hr_V (As := []) (rest := []) (T := TJ5) (N := 4) (ci := 10) hF hl.1 hC hP hS (metJ5_length l K _ _ X_27 v_33) rfl (cwV 0 hF.2.2.2.2 (lw_V q440 q441 q442 q82 q443) rfl rfl rfl (by decide +kernel) ⟨Nat.le_of_ble_eq_true rfl, Nat.le_of_ble_eq_true rfl⟩) ho_38 hw rfl rfl (Nat.le_of_ble_eq_true rfl) dX1_type_18 ⟨hc_30, hs_31⟩) hP hS (fun r_36 X_37 H locs hw hP hS => ?_)
  refine lv_bipush (v := 60) hF.1 hF.2.1 dX1_type_21 (by decide) ?_
  refine lv_icmp_ge (tgt := 30) hF.1 hF.2.1 dX1_type_23 (by decide) (fun c_39 => ?_) (fun c_39 => ?_)
  · have hw := hw.1 c_39
    refine lv_iconst (v := 0) hF.1 hF.2.1 dX1_type_30 (by decide) ?_
    exact T31 p0 p1 0 X_37 (0 + mc_28) (0 + ms_29) _ _ ls hP hS ⟨hc_30, hs_31⟩ (lv_sub hl [0, 1] rfl) hw
  · have hw := hw.2 c_39
    refine lv_iconst (v := 1) hF.1 hF.2.1 dX1_type_26 (by decide) ?_
    refine lv_goto (tgt := 31) hF.1 hF.2.1 dX1_type_27 (by decide) ?_
    exact T31 p0 p1 1 X_37 (0 + mc_28) (0 + ms_29) _ _ ls hP hS ⟨hc_30, hs_31⟩ (lv_sub hl [0, 1] rfl) hw

/-! ClockworkOrreries: what it tells (2), walked by program -/
set_option maxRecDepth 100000
def wpX1_drivingMoon_88 (post : Option Nat → hX → Prop) (xpost : String → Nat → hX → Prop) (E : Nat) (mc ms : Nat) (x3 : Nat) (z0 : Int32) (X : hX) (kc ks : Nat) : Prop := (∃ mc_2 ms_3 : Nat, kc + mc_2 ≤ mc ∧ ks + ms_3 ≤ ms ∧ wpX1_needSuch (fun X_1 => post (some x3) X_1) xpost E mc_2 ms_3 X z0)
def wpX1_drivingMoon_87 (post : Option Nat → hX → Prop) (xpost : String → Nat → hX → Prop) (E : Nat) (mc ms : Nat) (x3 : Nat) (X : hX) (kc ks : Nat) : Prop := wpX1_drivingMoon_88 post xpost E mc ms x3 0 X kc ks
def wpX1_drivingMoon (post : Option Nat → hX → Prop) (xpost : String → Nat → hX → Prop) (E : Nat) (mc ms : Nat) (X : hX) (p0 : Nat) (p1 : Int32) : Prop := gfA X p0 1 0 (fun v_7 => gfA X v_7 2 2 (fun v_11 => isO X v_11 8 (wpJ2_size (fun r_14 X_15 => wpX1_isBetween (fun r_17 => (∃ mc_19 ms_20 : Nat, 0 + mc_19 ≤ mc ∧ 0 + ms_20 ≤ ms ∧ wpX1_needArgument (fun X_18 => gfA X_18 p0 1 0 (fun v_24 => gfA X_18 v_24 2 2 (fun v_28 => isO X_18 v_28 8 (wpJ2_get (fun r_31 X_32 => (∃ a_34 : Nat, r_31 = some a_34 ∧ ((∃ fs, X_32 a_34 = some (.inr (7, fs))) ∧ gfA X_32 p0 1 0 (fun v_38 => isO X_32 v_38 2 ((∃ mc_44 ms_45 : Nat, (0 + mc_19) + mc_44 ≤ mc ∧ (0 + ms_20) + ms_45 ≤ ms ∧ wpX2_drive (fun r_41 X_42 => (∃ a_48 : Nat, r_41 = some a_48 ∧ gfI X_42 a_34 7 1 (fun v_51 => isO X_42 a_48 3 (wpX6_has (fun r_54 X_55 => ((r_54 = 0 → wpX1_drivingMoon_87 post xpost E mc ms a_48 X_55 ((0 + mc_19) + mc_44) ((0 + ms_20) + ms_45)) ∧ (¬ r_54 = 0 → gfA X_55 p0 1 0 (fun v_59 => gfA X_55 v_59 2 1 (fun v_63 => gfI X_55 a_34 7 0 (fun v_67 => isO X_55 v_63 8 (wpJ2_get (fun r_70 X_71 => (∃ a_73 : Nat, r_70 = some a_73 ∧ ((∃ fs, X_71 a_73 = some (.inr (6, fs))) ∧ gfI X_71 a_73 6 0 (fun v_77 => isO X_71 a_48 3 (wpX6_has (fun r_80 X_81 => ((r_80 = 0 → wpX1_drivingMoon_87 post xpost E mc ms a_48 X_81 ((0 + mc_19) + mc_44) ((0 + ms_20) + ms_45)) ∧ (¬ r_80 = 0 → wpX1_drivingMoon_88 post xpost E mc ms a_48 1 X_81 ((0 + mc_19) + mc_44) ((0 + ms_20) + ms_45)))) E X_71 a_48 v_77))))) E X_55 v_63 v_67))))))) E X_42 a_48 v_51)))) E mc_44 ms_45 X_32 v_38)))))) E X_18 v_28 p1)))) xpost E mc_19 ms_20 X_15 r_17)) (Int32.toInt64 p1) 0 (Int32.toInt64 (r_14 - 1))) E X v_11)))
abbrev wsX1_drivingMoon : List Cond := ws_ yX1_drivingMoon cX1_drivingMoon 4 (some (.object "ClockworkOrreries$Drive"))
set_option maxHeartbeats 8000000 in
theorem metX1_drivingMoon (l : Launch) (hlt : l.stackTraces = false) (K : HK) (mc ms : Nat) (sz : Nat) (post : Option Nat → hX → Prop) (xpost : String → Nat → hX → Prop) (X0 : hX) (p0 : Nat) (p1 : Int32) : vx_Met l yX1_drivingMoon wsX1_drivingMoon (rmh 7 123 mc ms) (hPc K X0 sz [.ref p0, .int p1] (wpX1_drivingMoon post xpost (K.2.2 0) mc ms X0 p0 p1)) (hQq post K X0 sz) (hXC xpost K X0 sz) mc ms (hA X0 sz) := by
  refine vx_ofW (cc := cX1_drivingMoon) (maxL := 4) (ret := (some (.object "ClockworkOrreries$Drive"))) (by decide) rfl ?_
  intro p e s m args below meth c s₁ B hml hno hv
  obtain ⟨rfl, hv⟩ := hv
  obtain ⟨hC, hP, hw⟩ := HC.of hv
  have hsz : s.heap.size = sz := hv.1
  subst hsz
  clear hv
  have hout : ∀ {pc : Nat}, ∀ x ∈ c.exceptionTable.toList, covers x pc = false := fun x hx => (hno x hx).elim
  have hr := B.returns
  have hts := atoms_spec (ws := wsX1_drivingMoon) B.pre
  have hts : ∀ w ∈ lw_all, w.before _ s = true := fun w h => hts w (List.mem_cons_of_mem _ h)
  have hF : CallFix p m c cX1_drivingMoon 4 s ([.ref p0, .int p1] : List Value).toArray lw_all RX1 := ⟨B.exec, B.bytes, hml, findClass_of_methodNamed B.named, hts⟩
  have hlocks := B.notSynchronized
  have hl := lv_entry ([.ref p0, .int p1]) (n := 4) (Nat.le_of_ble_eq_true rfl)
  rw [lg_entry_eq]
  generalize (lg_sl ([.ref p0, .int p1]) ++ List.replicate (4 - (lg_sl ([.ref p0, .int p1])).length) Slot.unset).toArray = ls at hl ⊢
  have hl : lv_has ls 4 [(0, .ref p0), (1, .int p1)] := hl
  have hS : va_S (hA X0 s.heap.size) s.heap s.heap [] := va_S.rf
  have T88 : ∀ (x3 : Nat) (z0 : Int32) (X : hX) (kc ks : Nat) (H : Heap) (locs : List Loc) (ls : Array Slot), hI K X0 s.heap.size X H → va_S (hA X0 s.heap.size) s.heap H locs → kc ≤ mc ∧ ks ≤ ms → lv_has ls 4 [(3, .ref x3)] → wpX1_drivingMoon_88 post xpost (K.2.2 0) mc ms x3 z0 X kc ks → W p l e (rmh 7 123 mc ms) s m ([.ref p0, .int p1] : List Value).toArray below meth c H locs kc ks (vx_MQ below (hQq post K X0 s.heap.size) (hXC xpost K X0 s.heap.size) ([.ref p0, .int p1] : List Value).toArray s mc ms (hA X0 s.heap.size)) (F0 m 88 ls [.int z0]) := by
    intro x3 z0 X kc ks H locs ls hP hS hk hl hw
    unfold wpX1_drivingMoon_88 at hw
    obtain ⟨mc_2, ms_3, hc_4, hs_5, hw⟩ := hw
    refine hkx_v (hrx_S (As := [.int z0]) (rest := []) hF hl.1 hC hP hS (metX1_needSuch l hlt K mc_2 ms_3 _ _ _ X z0) (va_cwS 1 hF.2.2.2.2 (lw_S q1180 q1181 q75 q1182) rfl rfl rfl (by decide +kernel) ⟨Nat.le_of_ble_eq_true rfl, Nat.le_of_ble_eq_true rfl⟩) hw rfl rfl (Nat.le_of_ble_eq_true rfl) dX1_drivingMoon_88 ⟨hc_4, hs_5⟩) hP hS (fun E9 q9 X9 H locs hw hcl hP hS => ?_) (fun X_1 H locs hw hP hS => ?_)
    · exact h_out hout hlocks hcl hP hS ⟨hc_4, hs_5⟩ hw
    refine lv_aload_n hF.1 hF.2.1 dX1_drivingMoon_91 rfl (lv_at hl 0 rfl) ?_
    exact vx_ret (h_aret (r := (some x3)) hF hr (Or.inl ⟨_, rfl⟩) hlocks hP hS ⟨hc_4, hs_5⟩ dX1_drivingMoon_92 hw)
  have T87 : ∀ (x3 : Nat) (X : hX) (kc ks : Nat) (H : Heap) (locs : List Loc) (ls : Array Slot), hI K X0 s.heap.size X H → va_S (hA X0 s.heap.size) s.heap H locs → kc ≤ mc ∧ ks ≤ ms → lv_has ls 4 [(3, .ref x3)] → wpX1_drivingMoon_87 post xpost (K.2.2 0) mc ms x3 X kc ks → W p l e (rmh 7 123 mc ms) s m ([.ref p0, .int p1] : List Value).toArray below meth c H locs kc ks (vx_MQ below (hQq post K X0 s.heap.size) (hXC xpost K X0 s.heap.size) ([.ref p0, .int p1] : List Value).toArray s mc ms (hA X0 s.heap.size)) (F0 m 87 ls []) := by
    intro x3 X kc ks H locs ls hP hS hk hl hw
    unfold wpX1_drivingMoon_87 at hw
    refine lv_iconst (v := 0) hF.1 hF.2.1 dX1_drivingMoon_87 (by decide) ?_
    exact T88 x3 0 X kc ks _ _ ls hP hS hk (lv_sub hl [0] rfl) hw
  unfold wpX1_drivingMoon at hw
  show W p l e (rmh 7 123 mc ms) s m _ below meth c _ _ _ _ _ _
  refine lv_iload_n hF.1 hF.2.1 dX1_drivingMoon_0 rfl (lv_at hl 1 rfl) ?_
  refine lv_i2l hF.1 hF.2.1 dX1_drivingMoon_1 rfl ?_
  refine lv_lconst (v := 0) hF.1 hF.2.1 dX1_drivingMoon_2 (by decide) ?_
  refine lv_aload_n hF.1 hF.2.1 dX1_drivingMoon_3 rfl (lv_at hl 0 rfl) ?_
  obtain ⟨fs_6, v_7, hx_8, hv_9, hw⟩ := hw
  refine x_get hF hC hP in_X1 rfl 0 (by decide) q244 (fun _ z => z) hx_8 hv_9 dX1_drivingMoon_4 ?_
  obtain ⟨fs_10, v_11, hx_12, hv_13, hw⟩ := hw
  refine x_getN hF hC hP in_X2 rfl 2 (by decide) q156 (fun _ z => z) hx_12 hv_13 dX1_drivingMoon_7 ?_
  obtain ⟨ho_16, hw⟩ := hw
  refine hk_i (hr_V (As := []) (rest := [.long 0, .long (Int32.toInt64 p1)]) (T := TJ2) (N := 3) (ci := 8) hF hl.1 hC hP hS (metJ2_size l K _ _ X0 v_11) rfl (cwV 0 hF.2.2.2.2 (lw_V q266 q267 q268 q79 q269) rfl rfl rfl (by decide +kernel) ⟨Nat.le_of_ble_eq_true rfl, Nat.le_of_ble_eq_true rfl⟩) ho_16 hw rfl rfl (Nat.le_of_ble_eq_true rfl) dX1_drivingMoon_10 ⟨Nat.zero_le _, Nat.zero_le _⟩) hP hS (fun r_14 X_15 H locs hw hP hS => ?_)
  refine lv_iconst (v := 1) hF.1 hF.2.1 dX1_drivingMoon_13 (by decide) ?_
  refine lv_isub hF.1 hF.2.1 dX1_drivingMoon_14 ?_
  refine lv_i2l hF.1 hF.2.1 dX1_drivingMoon_15 rfl ?_
  refine hp_i (hrp_S (As := [.long (Int32.toInt64 p1), .long 0, .long (Int32.toInt64 (r_14 - 1))]) (rest := []) hF hl.1 (metX1_isBetween l _ (Int32.toInt64 p1) 0 (Int32.toInt64 (r_14 - 1))) (va_cwS 3 hF.2.2.2.2 (lw_S q1228 q848 q75 q849) rfl rfl rfl (by decide +kernel) ⟨Nat.le_of_ble_eq_true rfl, Nat.le_of_ble_eq_true rfl⟩) hw rfl rfl (Nat.le_of_ble_eq_true rfl) dX1_drivingMoon_16 ⟨Nat.zero_le _, Nat.zero_le _⟩) (fun r_17 hw => ?_)
  obtain ⟨mc_19, ms_20, hc_21, hs_22, hw⟩ := hw
  refine hkx_v (hrx_S (As := [.int r_17]) (rest := []) hF hl.1 hC hP hS (metX1_needArgument l hlt K mc_19 ms_20 _ _ _ X_15 r_17) (va_cwS 1 hF.2.2.2.2 (lw_S q1140 q1141 q75 q1142) rfl rfl rfl (by decide +kernel) ⟨Nat.le_of_ble_eq_true rfl, Nat.le_of_ble_eq_true rfl⟩) hw rfl rfl (Nat.le_of_ble_eq_true rfl) dX1_drivingMoon_19 ⟨hc_21, hs_22⟩) hP hS (fun E9 q9 X9 H locs hw hcl hP hS => ?_) (fun X_18 H locs hw hP hS => ?_)
  · exact h_out hout hlocks hcl hP hS ⟨hc_21, hs_22⟩ hw
  refine lv_aload_n hF.1 hF.2.1 dX1_drivingMoon_22 rfl (lv_at hl 0 rfl) ?_
  obtain ⟨fs_23, v_24, hx_25, hv_26, hw⟩ := hw
  refine x_get hF hC hP in_X1 rfl 0 (by decide) q244 (fun _ z => z) hx_25 hv_26 dX1_drivingMoon_23 ?_
  obtain ⟨fs_27, v_28, hx_29, hv_30, hw⟩ := hw
  refine x_getN hF hC hP in_X2 rfl 2 (by decide) q156 (fun _ z => z) hx_29 hv_30 dX1_drivingMoon_26 ?_
  refine lv_iload_n hF.1 hF.2.1 dX1_drivingMoon_29 rfl (lv_at hl 1 rfl) ?_
  obtain ⟨ho_33, hw⟩ := hw
  refine hk_q (hr_V (As := [.int p1]) (rest := []) (T := TJ2) (N := 3) (ci := 8) hF hl.1 hC hP hS (metJ2_get l K _ _ X_18 v_28 p1) rfl (cwV 1 hF.2.2.2.2 (lw_V q419 q347 q348 q79 q349) rfl rfl rfl (by decide +kernel) ⟨Nat.le_of_ble_eq_true rfl, Nat.le_of_ble_eq_true rfl⟩) ho_33 hw rfl rfl (Nat.le_of_ble_eq_true rfl) dX1_drivingMoon_30 ⟨hc_21, hs_22⟩) hP hS (fun r_31 X_32 H locs hw hP hS => ?_)
  obtain ⟨a_34, e_35, hw⟩ := hw
  subst e_35
  rw [va_rf_some]
  obtain ⟨h_36, hw⟩ := hw
  refine x_cast (T := TX8) (N := 2) (ci := 7) hF hC hP rfl q1319 h_36 dX1_drivingMoon_33 ?_
  refine lv_astore_n (lv' := [(2, .ref a_34), (0, .ref p0), (1, .int p1)]) hF.1 hF.2.1 dX1_drivingMoon_36 rfl hl (by decide) rfl (fun ls hl => ?_)
  refine lv_aload_n hF.1 hF.2.1 dX1_drivingMoon_37 rfl (lv_at hl 1 rfl) ?_
  obtain ⟨fs_37, v_38, hx_39, hv_40, hw⟩ := hw
  refine x_get hF hC hP in_X1 rfl 0 (by decide) q244 (fun _ z => z) hx_39 hv_40 dX1_drivingMoon_38 ?_
  obtain ⟨ho_43, hw⟩ := hw
  obtain ⟨mc_44, ms_45, hc_46, hs_47, hw⟩ := hw
  refine hk_q (hr_V (As := []) (rest := []) (T := TX2) (N := 9) (ci := 2) hF hl.1 hC hP hS (metX2_drive l K mc_44 ms_45 _ _ X_32 v_38) rfl (cwV 0 hF.2.2.2.2 (lw_V q336 q337 q338 q76 q339) rfl rfl rfl (by decide +kernel) ⟨Nat.le_of_ble_eq_true rfl, Nat.le_of_ble_eq_true rfl⟩) ho_43 hw rfl rfl (Nat.le_of_ble_eq_true rfl) dX1_drivingMoon_41 ⟨hc_46, hs_47⟩) hP hS (fun r_41 X_42 H locs hw hP hS => ?_)
  obtain ⟨a_48, e_49, hw⟩ := hw
  subst e_49
  rw [va_rf_some]
  refine lv_astore_n (lv' := [(3, .ref a_48), (2, .ref a_34), (0, .ref p0), (1, .int p1)]) hF.1 hF.2.1 dX1_drivingMoon_44 rfl hl (by decide) rfl (fun ls hl => ?_)
  refine lv_aload_n hF.1 hF.2.1 dX1_drivingMoon_45 rfl (lv_at hl 0 rfl) ?_
  refine lv_aload_n hF.1 hF.2.1 dX1_drivingMoon_46 rfl (lv_at hl 1 rfl) ?_
  obtain ⟨fs_50, v_51, hx_52, hv_53, hw⟩ := hw
  refine x_getN hF hC hP in_X8 rfl 1 (by decide) q958 (fun _ z => z) hx_52 hv_53 dX1_drivingMoon_47 ?_
  obtain ⟨ho_56, hw⟩ := hw
  refine hk_i (hr_V (As := [.int v_51]) (rest := []) (T := TX6) (N := 9) (ci := 3) hF hl.1 hC hP hS (metX6_has l K _ _ X_42 a_48 v_51) rfl (cwV 1 hF.2.2.2.2 (lw_V q1167 q372 q373 q96 q374) rfl rfl rfl (by decide +kernel) ⟨Nat.le_of_ble_eq_true rfl, Nat.le_of_ble_eq_true rfl⟩) ho_56 hw rfl rfl (Nat.le_of_ble_eq_true rfl) dX1_drivingMoon_50 ⟨hc_46, hs_47⟩) hP hS (fun r_54 X_55 H locs hw hP hS => ?_)
  refine lv_if_eq (tgt := 87) hF.1 hF.2.1 dX1_drivingMoon_53 (by decide) (fun c_57 => ?_) (fun c_57 => ?_)
  · have hw := hw.1 c_57
    exact T87 a_48 X_55 ((0 + mc_19) + mc_44) ((0 + ms_20) + ms_45) _ _ ls hP hS ⟨hc_46, hs_47⟩ (lv_sub hl [0] rfl) hw
  · have hw := hw.2 c_57
    refine lv_aload_n hF.1 hF.2.1 dX1_drivingMoon_56 rfl (lv_at hl 0 rfl) ?_
    refine lv_aload_n hF.1 hF.2.1 dX1_drivingMoon_57 rfl (lv_at hl 2 rfl) ?_
    obtain ⟨fs_58, v_59, hx_60, hv_61, hw⟩ := hw
    refine x_get hF hC hP in_X1 rfl 0 (by decide) q244 (fun _ z => z) hx_60 hv_61 dX1_drivingMoon_58 ?_
    obtain ⟨fs_62, v_63, hx_64, hv_65, hw⟩ := hw
    refine x_getN hF hC hP in_X2 rfl 1 (by decide) q154 (fun _ z => z) hx_64 hv_65 dX1_drivingMoon_61 ?_
    refine lv_aload_n hF.1 hF.2.1 dX1_drivingMoon_64 rfl (lv_at hl 1 rfl) ?_
    obtain ⟨fs_66, v_67, hx_68, hv_69, hw⟩ := hw
    refine x_getN hF hC hP in_X8 rfl 0 (by decide) q955 (fun _ z => z) hx_68 hv_69 dX1_drivingMoon_65 ?_
    obtain ⟨ho_72, hw⟩ := hw
    refine hk_q (hr_V (As := [.int v_67]) (rest := [.ref a_48]) (T := TJ2) (N := 3) (ci := 8) hF hl.1 hC hP hS (metJ2_get l K _ _ X_55 v_63 v_67) rfl (cwV 1 hF.2.2.2.2 (lw_V q419 q347 q348 q79 q349) rfl rfl rfl (by decide +kernel) ⟨Nat.le_of_ble_eq_true rfl, Nat.le_of_ble_eq_true rfl⟩) ho_72 hw rfl rfl (Nat.le_of_ble_eq_true rfl) dX1_drivingMoon_68 ⟨hc_46, hs_47⟩) hP hS (fun r_70 X_71 H locs hw hP hS => ?_)
    obtain ⟨a_73, e_74, hw⟩ := hw
    subst e_74
    rw [va_rf_some]
    obtain ⟨h_75, hw⟩ := hw
    refine x_cast (T := TX7) (N := 3) (ci := 6) hF hC hP rfl q1274 h_75 dX1_drivingMoon_71 ?_
    obtain ⟨fs_76, v_77, hx_78, hv_79, hw⟩ := hw
    refine x_getN hF hC hP in_X7 rfl 0 (by decide) q922 (fun _ z => z) hx_78 hv_79 dX1_drivingMoon_74 ?_
    obtain ⟨ho_82, hw⟩ := hw
    refine hk_i (hr_V (As := [.int v_77]) (rest := []) (T := TX6) (N := 9) (ci := 3) hF hl.1 hC hP hS (metX6_has l K _ _ X_71 a_48 v_77) rfl (cwV 1 hF.2.2.2.2 (lw_V q1167 q372 q373 q96 q374) rfl rfl rfl (by decide +kernel) ⟨Nat.le_of_ble_eq_true rfl, Nat.le_of_ble_eq_true rfl⟩) ho_82 hw rfl rfl (Nat.le_of_ble_eq_true rfl) dX1_drivingMoon_77 ⟨hc_46, hs_47⟩) hP hS (fun r_80 X_81 H locs hw hP hS => ?_)
    refine lv_if_eq (tgt := 87) hF.1 hF.2.1 dX1_drivingMoon_80 (by decide) (fun c_83 => ?_) (fun c_83 => ?_)
    · have hw := hw.1 c_83
      exact T87 a_48 X_81 ((0 + mc_19) + mc_44) ((0 + ms_20) + ms_45) _ _ ls hP hS ⟨hc_46, hs_47⟩ (lv_sub hl [0] rfl) hw
    · have hw := hw.2 c_83
      refine lv_iconst (v := 1) hF.1 hF.2.1 dX1_drivingMoon_83 (by decide) ?_
      refine lv_goto (tgt := 88) hF.1 hF.2.1 dX1_drivingMoon_84 (by decide) ?_
      exact T88 a_48 1 X_81 ((0 + mc_19) + mc_44) ((0 + ms_20) + ms_45) _ _ ls hP hS ⟨hc_46, hs_47⟩ (lv_sub hl [0] rfl) hw
def wpX1_moonAngle (post : Int32 → hX → Prop) (xpost : String → Nat → hX → Prop) (E : Nat) (mc ms : Nat) (X : hX) (p0 : Nat) (p1 : Int32) : Prop := gfA X p0 1 0 (fun v_2 => isO X p0 1 ((∃ mc_8 ms_9 : Nat, 0 + mc_8 ≤ mc ∧ 0 + ms_9 ≤ ms ∧ wpX1_drivingMoon (fun r_5 X_6 => (∃ a_12 : Nat, r_5 = some a_12 ∧ isO X_6 v_2 2 (wpX2_moonAngleOf (fun r_14 X_15 => post r_14 X_15) E X_6 v_2 p1 a_12))) xpost E mc_8 ms_9 X p0 p1)))
abbrev wsX1_moonAngle : List Cond := ws_ yX1_moonAngle cX1_moonAngle 2 (some .int)
set_option maxHeartbeats 8000000 in
theorem metX1_moonAngle (l : Launch) (hlt : l.stackTraces = false) (K : HK) (mc ms : Nat) (sz : Nat) (post : Int32 → hX → Prop) (xpost : String → Nat → hX → Prop) (X0 : hX) (p0 : Nat) (p1 : Int32) : vx_Met l yX1_moonAngle wsX1_moonAngle (rmh 8 146 mc ms) (hPc K X0 sz [.ref p0, .int p1] (wpX1_moonAngle post xpost (K.2.2 0) mc ms X0 p0 p1)) (hQi post K X0 sz) (hXC xpost K X0 sz) mc ms (hA X0 sz) := by
  refine vx_ofW (cc := cX1_moonAngle) (maxL := 2) (ret := (some .int)) (by decide) rfl ?_
  intro p e s m args below meth c s₁ B hml hno hv
  obtain ⟨rfl, hv⟩ := hv
  obtain ⟨hC, hP, hw⟩ := HC.of hv
  have hsz : s.heap.size = sz := hv.1
  subst hsz
  clear hv
  have hout : ∀ {pc : Nat}, ∀ x ∈ c.exceptionTable.toList, covers x pc = false := fun x hx => (hno x hx).elim
  have hr := B.returns
  have hts := atoms_spec (ws := wsX1_moonAngle) B.pre
  have hts : ∀ w ∈ lw_all, w.before _ s = true := fun w h => hts w (List.mem_cons_of_mem _ h)
  have hF : CallFix p m c cX1_moonAngle 2 s ([.ref p0, .int p1] : List Value).toArray lw_all RX1 := ⟨B.exec, B.bytes, hml, findClass_of_methodNamed B.named, hts⟩
  have hlocks := B.notSynchronized
  have hl := lv_entry ([.ref p0, .int p1]) (n := 2) (Nat.le_of_ble_eq_true rfl)
  rw [lg_entry_eq]
  generalize (lg_sl ([.ref p0, .int p1]) ++ List.replicate (2 - (lg_sl ([.ref p0, .int p1])).length) Slot.unset).toArray = ls at hl ⊢
  have hl : lv_has ls 2 [(0, .ref p0), (1, .int p1)] := hl
  have hS : va_S (hA X0 s.heap.size) s.heap s.heap [] := va_S.rf
  unfold wpX1_moonAngle at hw
  show W p l e (rmh 8 146 mc ms) s m _ below meth c _ _ _ _ _ _
  refine lv_aload_n hF.1 hF.2.1 dX1_moonAngle_0 rfl (lv_at hl 0 rfl) ?_
  obtain ⟨fs_1, v_2, hx_3, hv_4, hw⟩ := hw
  refine x_get hF hC hP in_X1 rfl 0 (by decide) q244 (fun _ z => z) hx_3 hv_4 dX1_moonAngle_1 ?_
  refine lv_iload_n hF.1 hF.2.1 dX1_moonAngle_4 rfl (lv_at hl 1 rfl) ?_
  refine lv_aload_n hF.1 hF.2.1 dX1_moonAngle_5 rfl (lv_at hl 0 rfl) ?_
  refine lv_iload_n hF.1 hF.2.1 dX1_moonAngle_6 rfl (lv_at hl 1 rfl) ?_
  obtain ⟨ho_7, hw⟩ := hw
  obtain ⟨mc_8, ms_9, hc_10, hs_11, hw⟩ := hw
  refine hkx_q (hrx_V (As := [.int p1]) (rest := [.int p1, .ref v_2]) (T := TX1) (N := 4) (ci := 1) hF hl.1 hC hP hS (metX1_drivingMoon l hlt K mc_8 ms_9 _ _ _ X0 p0 p1) rfl (cwV 1 hF.2.2.2.2 (lw_V q1315 q1317 qs15 q75 q1318) rfl rfl rfl (by decide +kernel) ⟨Nat.le_of_ble_eq_true rfl, Nat.le_of_ble_eq_true rfl⟩) ho_7 hw rfl rfl (Nat.le_of_ble_eq_true rfl) dX1_moonAngle_7 ⟨hc_10, hs_11⟩) hP hS (fun E9 q9 X9 H locs hw hcl hP hS => ?_) (fun r_5 X_6 H locs hw hP hS => ?_)
  · exact h_out hout hlocks hcl hP hS ⟨hc_10, hs_11⟩ hw
  obtain ⟨a_12, e_13, hw⟩ := hw
  subst e_13
  rw [va_rf_some]
  obtain ⟨ho_16, hw⟩ := hw
  refine hk_i (hr_V (As := [.int p1, .ref a_12]) (rest := []) (T := TX2) (N := 9) (ci := 2) hF hl.1 hC hP hS (metX2_moonAngleOf l K _ _ X_6 v_2 p1 a_12) rfl (cwV 2 hF.2.2.2.2 (lw_V q1320 q1321 q1322 q76 q1323) rfl rfl rfl (by decide +kernel) ⟨Nat.le_of_ble_eq_true rfl, Nat.le_of_ble_eq_true rfl⟩) ho_16 hw rfl rfl (Nat.le_of_ble_eq_true rfl) dX1_moonAngle_10 ⟨hc_10, hs_11⟩) hP hS (fun r_14 X_15 H locs hw hP hS => ?_)
  exact vx_ret (h_iret hF hr hlocks hP hS ⟨hc_10, hs_11⟩ dX1_moonAngle_13 hw)
def wpX1_isSlow (post : Int32 → hX → Prop) (xpost : String → Nat → hX → Prop) (E : Nat) (mc ms : Nat) (X : hX) (p0 : Nat) (p1 : Int32) : Prop := gfA X p0 1 0 (fun v_2 => isO X p0 1 ((∃ mc_8 ms_9 : Nat, 0 + mc_8 ≤ mc ∧ 0 + ms_9 ≤ ms ∧ wpX1_drivingMoon (fun r_5 X_6 => (∃ a_12 : Nat, r_5 = some a_12 ∧ isO X_6 v_2 2 (wpX2_isSlower (fun r_14 X_15 => ((r_14 = 0 ∨ r_14 = 1) ∧ post r_14 X_15)) E X_6 v_2 p1 a_12))) xpost E mc_8 ms_9 X p0 p1)))
abbrev wsX1_isSlow : List Cond := ws_ yX1_isSlow cX1_isSlow 2 (some .boolean)
set_option maxHeartbeats 8000000 in
theorem metX1_isSlow (l : Launch) (hlt : l.stackTraces = false) (K : HK) (mc ms : Nat) (sz : Nat) (post : Int32 → hX → Prop) (xpost : String → Nat → hX → Prop) (X0 : hX) (p0 : Nat) (p1 : Int32) : vx_Met l yX1_isSlow wsX1_isSlow (rmh 8 146 mc ms) (hPc K X0 sz [.ref p0, .int p1] (wpX1_isSlow post xpost (K.2.2 0) mc ms X0 p0 p1)) (hQi post K X0 sz) (hXC xpost K X0 sz) mc ms (hA X0 sz) := by
  refine vx_ofW (cc := cX1_isSlow) (maxL := 2) (ret := (some .boolean)) (by decide) rfl ?_
  intro p e s m args below meth c s₁ B hml hno hv
  obtain ⟨rfl, hv⟩ := hv
  obtain ⟨hC, hP, hw⟩ := HC.of hv
  have hsz : s.heap.size = sz := hv.1
  subst hsz
  clear hv
  have hout : ∀ {pc : Nat}, ∀ x ∈ c.exceptionTable.toList, covers x pc = false := fun x hx => (hno x hx).elim
  have hr := B.returns
  have hts := atoms_spec (ws := wsX1_isSlow) B.pre
  have hts : ∀ w ∈ lw_all, w.before _ s = true := fun w h => hts w (List.mem_cons_of_mem _ h)
  have hF : CallFix p m c cX1_isSlow 2 s ([.ref p0, .int p1] : List Value).toArray lw_all RX1 := ⟨B.exec, B.bytes, hml, findClass_of_methodNamed B.named, hts⟩
  have hlocks := B.notSynchronized
  have hl := lv_entry ([.ref p0, .int p1]) (n := 2) (Nat.le_of_ble_eq_true rfl)
  rw [lg_entry_eq]
  generalize (lg_sl ([.ref p0, .int p1]) ++ List.replicate (2 - (lg_sl ([.ref p0, .int p1])).length) Slot.unset).toArray = ls at hl ⊢
  have hl : lv_has ls 2 [(0, .ref p0), (1, .int p1)] := hl
  have hS : va_S (hA X0 s.heap.size) s.heap s.heap [] := va_S.rf
  unfold wpX1_isSlow at hw
  show W p l e (rmh 8 146 mc ms) s m _ below meth c _ _ _ _ _ _
  refine lv_aload_n hF.1 hF.2.1 dX1_isSlow_0 rfl (lv_at hl 0 rfl) ?_
  obtain ⟨fs_1, v_2, hx_3, hv_4, hw⟩ := hw
  refine x_get hF hC hP in_X1 rfl 0 (by decide) q244 (fun _ z => z) hx_3 hv_4 dX1_isSlow_1 ?_
  refine lv_iload_n hF.1 hF.2.1 dX1_isSlow_4 rfl (lv_at hl 1 rfl) ?_
  refine lv_aload_n hF.1 hF.2.1 dX1_isSlow_5 rfl (lv_at hl 0 rfl) ?_
  refine lv_iload_n hF.1 hF.2.1 dX1_isSlow_6 rfl (lv_at hl 1 rfl) ?_
  obtain ⟨ho_7, hw⟩ := hw
  obtain ⟨mc_8, ms_9, hc_10, hs_11, hw⟩ := hw
  refine hkx_q (hrx_V (As := [.int p1]) (rest := [.int p1, .ref v_2]) (T := TX1) (N := 4) (ci := 1) hF hl.1 hC hP hS (metX1_drivingMoon l hlt K mc_8 ms_9 _ _ _ X0 p0 p1) rfl (cwV 1 hF.2.2.2.2 (lw_V q1315 q1317 qs15 q75 q1318) rfl rfl rfl (by decide +kernel) ⟨Nat.le_of_ble_eq_true rfl, Nat.le_of_ble_eq_true rfl⟩) ho_7 hw rfl rfl (Nat.le_of_ble_eq_true rfl) dX1_isSlow_7 ⟨hc_10, hs_11⟩) hP hS (fun E9 q9 X9 H locs hw hcl hP hS => ?_) (fun r_5 X_6 H locs hw hP hS => ?_)
  · exact h_out hout hlocks hcl hP hS ⟨hc_10, hs_11⟩ hw
  obtain ⟨a_12, e_13, hw⟩ := hw
  subst e_13
  rw [va_rf_some]
  obtain ⟨ho_16, hw⟩ := hw
  refine hk_i (hr_V (As := [.int p1, .ref a_12]) (rest := []) (T := TX2) (N := 9) (ci := 2) hF hl.1 hC hP hS (metX2_isSlower l K _ _ X_6 v_2 p1 a_12) rfl (cwV 2 hF.2.2.2.2 (lw_V q1331 q1332 q1333 q76 q1334) rfl rfl rfl (by decide +kernel) ⟨Nat.le_of_ble_eq_true rfl, Nat.le_of_ble_eq_true rfl⟩) ho_16 hw rfl rfl (Nat.le_of_ble_eq_true rfl) dX1_isSlow_10 ⟨hc_10, hs_11⟩) hP hS (fun r_14 X_15 H locs hw hP hS => ?_)
  obtain ⟨h_17, hw⟩ := hw
  exact vx_ret (h_zret hF hr hlocks hP hS ⟨hc_10, hs_11⟩ dX1_isSlow_13 h_17 hw)
def wpX1_drivingBoth_96 (post : Option Nat → hX → Prop) (xpost : String → Nat → hX → Prop) (E : Nat) (mc ms : Nat) (x3 : Nat) (z0 : Int32) (X : hX) (kc ks : Nat) : Prop := (∃ mc_2 ms_3 : Nat, kc + mc_2 ≤ mc ∧ ks + ms_3 ≤ ms ∧ wpX1_needSuch (fun X_1 => post (some x3) X_1) xpost E mc_2 ms_3 X z0)
def wpX1_drivingBoth_95 (post : Option Nat → hX → Prop) (xpost : String → Nat → hX → Prop) (E : Nat) (mc ms : Nat) (x3 : Nat) (X : hX) (kc ks : Nat) : Prop := wpX1_drivingBoth_96 post xpost E mc ms x3 0 X kc ks
def wpX1_drivingBoth_32 (post : Option Nat → hX → Prop) (xpost : String → Nat → hX → Prop) (E : Nat) (mc ms : Nat) (x0 : Nat) (x1 : Int32) (x2 : Int32) (z0 : Int32) (X : hX) (kc ks : Nat) : Prop := (∃ mc_7 ms_8 : Nat, kc + mc_7 ≤ mc ∧ ks + ms_8 ≤ ms ∧ wpX1_needArgument (fun X_6 => gfA X_6 x0 1 0 (fun v_12 => isO X_6 v_12 2 ((∃ mc_18 ms_19 : Nat, (kc + mc_7) + mc_18 ≤ mc ∧ (ks + ms_8) + ms_19 ≤ ms ∧ wpX2_drive (fun r_15 X_16 => (∃ a_22 : Nat, r_15 = some a_22 ∧ gfA X_16 x0 1 0 (fun v_25 => gfA X_16 v_25 2 1 (fun v_29 => isO X_16 v_29 8 (wpJ2_get (fun r_32 X_33 => (∃ a_35 : Nat, r_32 = some a_35 ∧ ((∃ fs, X_33 a_35 = some (.inr (6, fs))) ∧ gfI X_33 a_35 6 0 (fun v_39 => isO X_33 a_22 3 (wpX6_has (fun r_42 X_43 => ((r_42 = 0 → wpX1_drivingBoth_95 post xpost E mc ms a_22 X_43 ((kc + mc_7) + mc_18) ((ks + ms_8) + ms_19)) ∧ (¬ r_42 = 0 → gfA X_43 x0 1 0 (fun v_47 => gfA X_43 v_47 2 1 (fun v_51 => isO X_43 v_51 8 (wpJ2_get (fun r_54 X_55 => (∃ a_57 : Nat, r_54 = some a_57 ∧ ((∃ fs, X_55 a_57 = some (.inr (6, fs))) ∧ gfI X_55 a_57 6 0 (fun v_61 => isO X_55 a_22 3 (wpX6_has (fun r_64 X_65 => ((r_64 = 0 → wpX1_drivingBoth_95 post xpost E mc ms a_22 X_65 ((kc + mc_7) + mc_18) ((ks + ms_8) + ms_19)) ∧ (¬ r_64 = 0 → wpX1_drivingBoth_96 post xpost E mc ms a_22 1 X_65 ((kc + mc_7) + mc_18) ((ks + ms_8) + ms_19)))) E X_55 a_22 v_61))))) E X_43 v_51 x2)))))) E X_33 a_22 v_39))))) E X_16 v_29 x1))))) E mc_18 ms_19 X_6 v_12)))) xpost E mc_7 ms_8 X z0)
def wpX1_drivingBoth_31 (post : Option Nat → hX → Prop) (xpost : String → Nat → hX → Prop) (E : Nat) (mc ms : Nat) (x0 : Nat) (x1 : Int32) (x2 : Int32) (X : hX) (kc ks : Nat) : Prop := wpX1_drivingBoth_32 post xpost E mc ms x0 x1 x2 0 X kc ks
def wpX1_drivingBoth (post : Option Nat → hX → Prop) (xpost : String → Nat → hX → Prop) (E : Nat) (mc ms : Nat) (X : hX) (p0 : Nat) (p1 : Int32) (p2 : Int32) : Prop := gfA X p0 1 0 (fun v_69 => isO X v_69 2 (wpX2_isArm (fun r_72 X_73 => ((r_72 = 0 → wpX1_drivingBoth_31 post xpost E mc ms p0 p1 p2 X_73 0 0) ∧ (¬ r_72 = 0 → gfA X_73 p0 1 0 (fun v_77 => isO X_73 v_77 2 (wpX2_isArm (fun r_80 X_81 => ((r_80 = 0 → wpX1_drivingBoth_31 post xpost E mc ms p0 p1 p2 X_81 0 0) ∧ (¬ r_80 = 0 → ((p1 = p2 → wpX1_drivingBoth_31 post xpost E mc ms p0 p1 p2 X_81 0 0) ∧ (¬ p1 = p2 → wpX1_drivingBoth_32 post xpost E mc ms p0 p1 p2 1 X_81 0 0))))) E X_73 v_77 p2))))) E X v_69 p1))
abbrev wsX1_drivingBoth : List Cond := ws_ yX1_drivingBoth cX1_drivingBoth 4 (some (.object "ClockworkOrreries$Drive"))
set_option maxHeartbeats 8000000 in
theorem metX1_drivingBoth (l : Launch) (hlt : l.stackTraces = false) (K : HK) (mc ms : Nat) (sz : Nat) (post : Option Nat → hX → Prop) (xpost : String → Nat → hX → Prop) (X0 : hX) (p0 : Nat) (p1 : Int32) (p2 : Int32) : vx_Met l yX1_drivingBoth wsX1_drivingBoth (rmh 7 123 mc ms) (hPc K X0 sz [.ref p0, .int p1, .int p2] (wpX1_drivingBoth post xpost (K.2.2 0) mc ms X0 p0 p1 p2)) (hQq post K X0 sz) (hXC xpost K X0 sz) mc ms (hA X0 sz) := by
  refine vx_ofW (cc := cX1_drivingBoth) (maxL := 4) (ret := (some (.object "ClockworkOrreries$Drive"))) (by decide) rfl ?_
  intro p e s m args below meth c s₁ B hml hno hv
  obtain ⟨rfl, hv⟩ := hv
  obtain ⟨hC, hP, hw⟩ := HC.of hv
  have hsz : s.heap.size = sz := hv.1
  subst hsz
  clear hv
  have hout : ∀ {pc : Nat}, ∀ x ∈ c.exceptionTable.toList, covers x pc = false := fun x hx => (hno x hx).elim
  have hr := B.returns
  have hts := atoms_spec (ws := wsX1_drivingBoth) B.pre
  have hts : ∀ w ∈ lw_all, w.before _ s = true := fun w h => hts w (List.mem_cons_of_mem _ h)
  have hF : CallFix p m c cX1_drivingBoth 4 s ([.ref p0, .int p1, .int p2] : List Value).toArray lw_all RX1 := ⟨B.exec, B.bytes, hml, findClass_of_methodNamed B.named, hts⟩
  have hlocks := B.notSynchronized
  have hl := lv_entry ([.ref p0, .int p1, .int p2]) (n := 4) (Nat.le_of_ble_eq_true rfl)
  rw [lg_entry_eq]
  generalize (lg_sl ([.ref p0, .int p1, .int p2]) ++ List.replicate (4 - (lg_sl ([.ref p0, .int p1, .int p2])).length) Slot.unset).toArray = ls at hl ⊢
  have hl : lv_has ls 4 [(0, .ref p0), (1, .int p1), (2, .int p2)] := hl
  have hS : va_S (hA X0 s.heap.size) s.heap s.heap [] := va_S.rf
  have T96 : ∀ (x3 : Nat) (z0 : Int32) (X : hX) (kc ks : Nat) (H : Heap) (locs : List Loc) (ls : Array Slot), hI K X0 s.heap.size X H → va_S (hA X0 s.heap.size) s.heap H locs → kc ≤ mc ∧ ks ≤ ms → lv_has ls 4 [(3, .ref x3)] → wpX1_drivingBoth_96 post xpost (K.2.2 0) mc ms x3 z0 X kc ks → W p l e (rmh 7 123 mc ms) s m ([.ref p0, .int p1, .int p2] : List Value).toArray below meth c H locs kc ks (vx_MQ below (hQq post K X0 s.heap.size) (hXC xpost K X0 s.heap.size) ([.ref p0, .int p1, .int p2] : List Value).toArray s mc ms (hA X0 s.heap.size)) (F0 m 96 ls [.int z0]) := by
    intro x3 z0 X kc ks H locs ls hP hS hk hl hw
    unfold wpX1_drivingBoth_96 at hw
    obtain ⟨mc_2, ms_3, hc_4, hs_5, hw⟩ := hw
    refine hkx_v (hrx_S (As := [.int z0]) (rest := []) hF hl.1 hC hP hS (metX1_needSuch l hlt K mc_2 ms_3 _ _ _ X z0) (va_cwS 1 hF.2.2.2.2 (lw_S q1180 q1181 q75 q1182) rfl rfl rfl (by decide +kernel) ⟨Nat.le_of_ble_eq_true rfl, Nat.le_of_ble_eq_true rfl⟩) hw rfl rfl (Nat.le_of_ble_eq_true rfl) dX1_drivingBoth_96 ⟨hc_4, hs_5⟩) hP hS (fun E9 q9 X9 H locs hw hcl hP hS => ?_) (fun X_1 H locs hw hP hS => ?_)
    · exact h_out hout hlocks hcl hP hS ⟨hc_4, hs_5⟩ hw
    refine lv_aload_n hF.1 hF.2.1 dX1_drivingBoth_99 rfl (lv_at hl 0 rfl) ?_
    exact vx_ret (h_aret (r := (some x3)) hF hr (Or.inl ⟨_, rfl⟩) hlocks hP hS ⟨hc_4, hs_5⟩ dX1_drivingBoth_100 hw)
  have T95 : ∀ (x3 : Nat) (X : hX) (kc ks : Nat) (H : Heap) (locs : List Loc) (ls : Array Slot), hI K X0 s.heap.size X H → va_S (hA X0 s.heap.size) s.heap H locs → kc ≤ mc ∧ ks ≤ ms → lv_has ls 4 [(3, .ref x3)] → wpX1_drivingBoth_95 post xpost (K.2.2 0) mc ms x3 X kc ks → W p l e (rmh 7 123 mc ms) s m ([.ref p0, .int p1, .int p2] : List Value).toArray below meth c H locs kc ks (vx_MQ below (hQq post K X0 s.heap.size) (hXC xpost K X0 s.heap.size) ([.ref p0, .int p1, .int p2] : List Value).toArray s mc ms (hA X0 s.heap.size)) (F0 m 95 ls []) := by
    intro x3 X kc ks H locs ls hP hS hk hl hw
    unfold wpX1_drivingBoth_95 at hw
    refine lv_iconst (v := 0) hF.1 hF.2.1 dX1_drivingBoth_95 (by decide) ?_
    exact T96 x3 0 X kc ks _ _ ls hP hS hk (lv_sub hl [0] rfl) hw
  have T32 : ∀ (x0 : Nat) (x1 : Int32) (x2 : Int32) (z0 : Int32) (X : hX) (kc ks : Nat) (H : Heap) (locs : List Loc) (ls : Array Slot), hI K X0 s.heap.size X H → va_S (hA X0 s.heap.size) s.heap H locs → kc ≤ mc ∧ ks ≤ ms → lv_has ls 4 [(0, .ref x0), (1, .int x1), (2, .int x2)] → wpX1_drivingBoth_32 post xpost (K.2.2 0) mc ms x0 x1 x2 z0 X kc ks → W p l e (rmh 7 123 mc ms) s m ([.ref p0, .int p1, .int p2] : List Value).toArray below meth c H locs kc ks (vx_MQ below (hQq post K X0 s.heap.size) (hXC xpost K X0 s.heap.size) ([.ref p0, .int p1, .int p2] : List Value).toArray s mc ms (hA X0 s.heap.size)) (F0 m 32 ls [.int z0]) := by
    intro x0 x1 x2 z0 X kc ks H locs ls hP hS hk hl hw
    unfold wpX1_drivingBoth_32 at hw
    obtain ⟨mc_7, ms_8, hc_9, hs_10, hw⟩ := hw
    refine hkx_v (hrx_S (As := [.int z0]) (rest := []) hF hl.1 hC hP hS (metX1_needArgument l hlt K mc_7 ms_8 _ _ _ X z0) (va_cwS 1 hF.2.2.2.2 (lw_S q1140 q1141 q75 q1142) rfl rfl rfl (by decide +kernel) ⟨Nat.le_of_ble_eq_true rfl, Nat.le_of_ble_eq_true rfl⟩) hw rfl rfl (Nat.le_of_ble_eq_true rfl) dX1_drivingBoth_32 ⟨hc_9, hs_10⟩) hP hS (fun E9 q9 X9 H locs hw hcl hP hS => ?_) (fun X_6 H locs hw hP hS => ?_)
    · exact h_out hout hlocks hcl hP hS ⟨hc_9, hs_10⟩ hw
    refine lv_aload_n hF.1 hF.2.1 dX1_drivingBoth_35 rfl (lv_at hl 0 rfl) ?_
    obtain ⟨fs_11, v_12, hx_13, hv_14, hw⟩ := hw
    refine x_get hF hC hP in_X1 rfl 0 (by decide) q244 (fun _ z => z) hx_13 hv_14 dX1_drivingBoth_36 ?_
    obtain ⟨ho_17, hw⟩ := hw
    obtain ⟨mc_18, ms_19, hc_20, hs_21, hw⟩ := hw
    refine hk_q (hr_V (As := []) (rest := []) (T := TX2) (N := 9) (ci := 2) hF hl.1 hC hP hS (metX2_drive l K mc_18 ms_19 _ _ X_6 v_12) rfl (cwV 0 hF.2.2.2.2 (lw_V q336 q337 q338 q76 q339) rfl rfl rfl (by decide +kernel) ⟨Nat.le_of_ble_eq_true rfl, Nat.le_of_ble_eq_true rfl⟩) ho_17 hw rfl rfl (Nat.le_of_ble_eq_true rfl) dX1_drivingBoth_39 ⟨hc_20, hs_21⟩) hP hS (fun r_15 X_16 H locs hw hP hS => ?_)
    obtain ⟨a_22, e_23, hw⟩ := hw
    subst e_23
    rw [va_rf_some]
    refine lv_astore_n (lv' := [(3, .ref a_22), (0, .ref x0), (1, .int x1), (2, .int x2)]) hF.1 hF.2.1 dX1_drivingBoth_42 rfl hl (by decide) rfl (fun ls hl => ?_)
    refine lv_aload_n hF.1 hF.2.1 dX1_drivingBoth_43 rfl (lv_at hl 0 rfl) ?_
    refine lv_aload_n hF.1 hF.2.1 dX1_drivingBoth_44 rfl (lv_at hl 1 rfl) ?_
    obtain ⟨fs_24, v_25, hx_26, hv_27, hw⟩ := hw
    refine x_get hF hC hP in_X1 rfl 0 (by decide) q244 (fun _ z => z) hx_26 hv_27 dX1_drivingBoth_45 ?_
    obtain ⟨fs_28, v_29, hx_30, hv_31, hw⟩ := hw
    refine x_getN hF hC hP in_X2 rfl 1 (by decide) q154 (fun _ z => z) hx_30 hv_31 dX1_drivingBoth_48 ?_
    refine lv_iload_n hF.1 hF.2.1 dX1_drivingBoth_51 rfl (lv_at hl 2 rfl) ?_
    obtain ⟨ho_34, hw⟩ := hw
    refine hk_q (hr_V (As := [.int x1]) (rest := [.ref a_22]) (T := TJ2) (N := 3) (ci := 8) hF hl.1 hC hP hS (metJ2_get l K _ _ X_16 v_29 x1) rfl (cwV 1 hF.2.2.2.2 (lw_V q419 q347 q348 q79 q349) rfl rfl rfl (by decide +kernel) ⟨Nat.le_of_ble_eq_true rfl, Nat.le_of_ble_eq_true rfl⟩) ho_34 hw rfl rfl (Nat.le_of_ble_eq_true rfl) dX1_drivingBoth_52 ⟨hc_20, hs_21⟩) hP hS (fun r_32 X_33 H locs hw hP hS => ?_)
    obtain ⟨a_35, e_36, hw⟩ := hw
    subst e_36
    rw [va_rf_some]
    obtain ⟨h_37, hw⟩ := hw
    refine x_cast (T := TX7) (N := 3) (ci := 6) hF hC hP rfl q1274 h_37 dX1_drivingBoth_55 ?_
    obtain ⟨fs_38, v_39, hx_40, hv_41, hw⟩ := hw
    refine x_getN hF hC hP in_X7 rfl 0 (by decide) q922 (fun _ z => z) hx_40 hv_41 dX1_drivingBoth_58 ?_
    obtain ⟨ho_44, hw⟩ := hw
    refine hk_i (hr_V (As := [.int v_39]) (rest := []) (T := TX6) (N := 9) (ci := 3) hF hl.1 hC hP hS (metX6_has l K _ _ X_33 a_22 v_39) rfl (cwV 1 hF.2.2.2.2 (lw_V q1167 q372 q373 q96 q374) rfl rfl rfl (by decide +kernel) ⟨Nat.le_of_ble_eq_true rfl, Nat.le_of_ble_eq_true rfl⟩) ho_44 hw rfl rfl (Nat.le_of_ble_eq_true rfl) dX1_drivingBoth_61 ⟨hc_20, hs_21⟩) hP hS (fun r_42 X_43 H locs hw hP hS => ?_)
    refine lv_if_eq (tgt := 95) hF.1 hF.2.1 dX1_drivingBoth_64 (by decide) (fun c_45 => ?_) (fun c_45 => ?_)
    · have hw := hw.1 c_45
      exact T95 a_22 X_43 ((kc + mc_7) + mc_18) ((ks + ms_8) + ms_19) _ _ ls hP hS ⟨hc_20, hs_21⟩ (lv_sub hl [0] rfl) hw
    · have hw := hw.2 c_45
      refine lv_aload_n hF.1 hF.2.1 dX1_drivingBoth_67 rfl (lv_at hl 0 rfl) ?_
      refine lv_aload_n hF.1 hF.2.1 dX1_drivingBoth_68 rfl (lv_at hl 1 rfl) ?_
      obtain ⟨fs_46, v_47, hx_48, hv_49, hw⟩ := hw
      refine x_get hF hC hP in_X1 rfl 0 (by decide) q244 (fun _ z => z) hx_48 hv_49 dX1_drivingBoth_69 ?_
      obtain ⟨fs_50, v_51, hx_52, hv_53, hw⟩ := hw
      refine x_getN hF hC hP in_X2 rfl 1 (by decide) q154 (fun _ z => z) hx_52 hv_53 dX1_drivingBoth_72 ?_
      refine lv_iload_n hF.1 hF.2.1 dX1_drivingBoth_75 rfl (lv_at hl 3 rfl) ?_
      obtain ⟨ho_56, hw⟩ := hw
      refine hk_q (hr_V (As := [.int x2]) (rest := [.ref a_22]) (T := TJ2) (N := 3) (ci := 8) hF hl.1 hC hP hS (metJ2_get l K _ _ X_43 v_51 x2) rfl (cwV 1 hF.2.2.2.2 (lw_V q419 q347 q348 q79 q349) rfl rfl rfl (by decide +kernel) ⟨Nat.le_of_ble_eq_true rfl, Nat.le_of_ble_eq_true rfl⟩) ho_56 hw rfl rfl (Nat.le_of_ble_eq_true rfl) dX1_drivingBoth_76 ⟨hc_20, hs_21⟩) hP hS (fun r_54 X_55 H locs hw hP hS => ?_)
      obtain ⟨a_57, e_58, hw⟩ := hw
      subst e_58
      rw [va_rf_some]
      obtain ⟨h_59, hw⟩ := hw
      refine x_cast (T := TX7) (N := 3) (ci := 6) hF hC hP rfl q1274 h_59 dX1_drivingBoth_79 ?_
      obtain ⟨fs_60, v_61, hx_62, hv_63, hw⟩ := hw
      refine x_getN hF hC hP in_X7 rfl 0 (by decide) q922 (fun _ z => z) hx_62 hv_63 dX1_drivingBoth_82 ?_
      obtain ⟨ho_66, hw⟩ := hw
      refine hk_i (hr_V (As := [.int v_61]) (rest := []) (T := TX6) (N := 9) (ci := 3) hF hl.1 hC hP hS (metX6_has l K _ _ X_55 a_22 v_61) rfl (cwV 1 hF.2.2.2.2 (lw_V q1167 q372 q373 q96 q374) rfl rfl rfl (by decide +kernel) ⟨Nat.le_of_ble_eq_true rfl, Nat.le_of_ble_eq_true rfl⟩) ho_66 hw rfl rfl (Nat.le_of_ble_eq_true rfl) dX1_drivingBoth_85 ⟨hc_20, hs_21⟩) hP hS (fun r_64 X_65 H locs hw hP hS => ?_)
      refine lv_if_eq (tgt := 95) hF.1 hF.2.1 dX1_drivingBoth_88 (by decide) (fun c_67 => ?_) (fun c_67 => ?_)
      · have hw := hw.1 c_67
        exact T95 a_22 X_65 ((kc + mc_7) + mc_18) ((ks + ms_8) + ms_19) _ _ ls hP hS ⟨hc_20, hs_21⟩ (lv_sub hl [0] rfl) hw
      · have hw := hw.2 c_67
        refine lv_iconst (v := 1) hF.1 hF.2.1 dX1_drivingBoth_91 (by decide) ?_
        refine lv_goto (tgt := 96) hF.1 hF.2.1 dX1_drivingBoth_92 (by decide) ?_
        exact T96 a_22 1 X_65 ((kc + mc_7) + mc_18) ((ks + ms_8) + ms_19) _ _ ls hP hS ⟨hc_20, hs_21⟩ (lv_sub hl [0] rfl) hw
  have T31 : ∀ (x0 : Nat) (x1 : Int32) (x2 : Int32) (X : hX) (kc ks : Nat) (H : Heap) (locs : List Loc) (ls : Array Slot), hI K X0 s.heap.size X H → va_S (hA X0 s.heap.size) s.heap H locs → kc ≤ mc ∧ ks ≤ ms → lv_has ls 4 [(0, .ref x0), (1, .int x1), (2, .int x2)] → wpX1_drivingBoth_31 post xpost (K.2.2 0) mc ms x0 x1 x2 X kc ks → W p l e (rmh 7 123 mc ms) s m ([.ref p0, .int p1, .int p2] : List Value).toArray below meth c H locs kc ks (vx_MQ below (hQq post K X0 s.heap.size) (hXC xpost K X0 s.heap.size) ([.ref p0, .int p1, .int p2] : List Value).toArray s mc ms (hA X0 s.heap.size)) (F0 m 31 ls []) := by
    intro x0 x1 x2 X kc ks H locs ls hP hS hk hl hw
    unfold wpX1_drivingBoth_31 at hw
    refine lv_iconst (v := 0) hF.1 hF.2.1 dX1_drivingBoth_31 (by decide) ?_
    exact T32 x0 x1 x2 0 X kc ks _ _ ls hP hS hk (lv_sub hl [0, 1, 2] rfl) hw
  unfold wpX1_drivingBoth at hw
  show W p l e (rmh 7 123 mc ms) s m _ below meth c _ _ _ _ _ _
  refine lv_aload_n hF.1 hF.2.1 dX1_drivingBoth_0 rfl (lv_at hl 0 rfl) ?_
  obtain ⟨fs_68, v_69, hx_70, hv_71, hw⟩ := hw
  refine x_get hF hC hP in_X1 rfl 0 (by decide) q244 (fun _ z => z) hx_70 hv_71 dX1_drivingBoth_1 ?_
  refine lv_iload_n hF.1 hF.2.1 dX1_drivingBoth_4 rfl (lv_at hl 1 rfl) ?_
  obtain ⟨ho_74, hw⟩ := hw
  refine hk_i (hr_V (As := [.int p1]) (rest := []) (T := TX2) (N := 9) (ci := 2) hF hl.1 hC hP hS (metX2_isArm l K _ _ X0 v_69 p1) rfl (cwV 1 hF.2.2.2.2 (lw_V q1273 q941 q942 q76 q943) rfl rfl rfl (by decide +kernel) ⟨Nat.le_of_ble_eq_true rfl, Nat.le_of_ble_eq_true rfl⟩) ho_74 hw rfl rfl (Nat.le_of_ble_eq_true rfl) dX1_drivingBoth_5 ⟨Nat.zero_le _, Nat.zero_le _⟩) hP hS (fun r_72 X_73 H locs hw hP hS => ?_)
  refine lv_if_eq (tgt := 31) hF.1 hF.2.1 dX1_drivingBoth_8 (by decide) (fun c_75 => ?_) (fun c_75 => ?_)
  · have hw := hw.1 c_75
    exact T31 p0 p1 p2 X_73 0 0 _ _ ls hP hS ⟨Nat.zero_le _, Nat.zero_le _⟩ (lv_sub hl [0, 1, 2] rfl) hw
  · have hw := hw.2 c_75
    refine lv_aload_n hF.1 hF.2.1 dX1_drivingBoth_11 rfl (lv_at hl 0 rfl) ?_
    obtain ⟨fs_76, v_77, hx_78, hv_79, hw⟩ := hw
    refine x_get hF hC hP in_X1 rfl 0 (by decide) q244 (fun _ z => z) hx_78 hv_79 dX1_drivingBoth_12 ?_
    refine lv_iload_n hF.1 hF.2.1 dX1_drivingBoth_15 rfl (lv_at hl 2 rfl) ?_
    obtain ⟨ho_82, hw⟩ := hw
    refine hk_i (hr_V (As := [.int p2]) (rest := []) (T := TX2) (N := 9) (ci := 2) hF hl.1 hC hP hS (metX2_isArm l K _ _ X_73 v_77 p2) rfl (cwV 1 hF.2.2.2.2 (lw_V q1273 q941 q942 q76 q943) rfl rfl rfl (by decide +kernel) ⟨Nat.le_of_ble_eq_true rfl, Nat.le_of_ble_eq_true rfl⟩) ho_82 hw rfl rfl (Nat.le_of_ble_eq_true rfl) dX1_drivingBoth_16 ⟨Nat.zero_le _, Nat.zero_le _⟩) hP hS (fun r_80 X_81 H locs hw hP hS => ?_)
    refine lv_if_eq (tgt := 31) hF.1 hF.2.1 dX1_drivingBoth_19 (by decide) (fun c_83 => ?_) (fun c_83 => ?_)
    · have hw := hw.1 c_83
      exact T31 p0 p1 p2 X_81 0 0 _ _ ls hP hS ⟨Nat.zero_le _, Nat.zero_le _⟩ (lv_sub hl [0, 1, 2] rfl) hw
    · have hw := hw.2 c_83
      refine lv_iload_n hF.1 hF.2.1 dX1_drivingBoth_22 rfl (lv_at hl 1 rfl) ?_
      refine lv_iload_n hF.1 hF.2.1 dX1_drivingBoth_23 rfl (lv_at hl 2 rfl) ?_
      refine lv_icmp_eq (tgt := 31) hF.1 hF.2.1 dX1_drivingBoth_24 (by decide) (fun c_84 => ?_) (fun c_84 => ?_)
      · have hw := hw.1 c_84
        exact T31 p0 p1 p2 X_81 0 0 _ _ ls hP hS ⟨Nat.zero_le _, Nat.zero_le _⟩ (lv_sub hl [0, 1, 2] rfl) hw
      · have hw := hw.2 c_84
        refine lv_iconst (v := 1) hF.1 hF.2.1 dX1_drivingBoth_27 (by decide) ?_
        refine lv_goto (tgt := 32) hF.1 hF.2.1 dX1_drivingBoth_28 (by decide) ?_
        exact T32 p0 p1 p2 1 X_81 0 0 _ _ ls hP hS ⟨Nat.zero_le _, Nat.zero_le _⟩ (lv_sub hl [0, 1, 2] rfl) hw
def wpX1_meetIn_82 (post : Int32 → hX → Prop) (xpost : String → Nat → hX → Prop) (E : Nat) (mc ms : Nat) (x5 : Int32) (z0 : Int32) (X : hX) (kc ks : Nat) : Prop := (∃ mc_2 ms_3 : Nat, kc + mc_2 ≤ mc ∧ ks + ms_3 ≤ ms ∧ wpX1_needSuch (fun X_1 => post x5 X_1) xpost E mc_2 ms_3 X z0)
def wpX1_meetIn_71 (post : Int32 → hX → Prop) (xpost : String → Nat → hX → Prop) (E : Nat) (mc ms : Nat) (x5 : Int32) (X : hX) (kc ks : Nat) : Prop := ((x5 = (-1) → wpX1_meetIn_82 post xpost E mc ms x5 0 X kc ks) ∧ (¬ x5 = (-1) → wpX1_meetIn_82 post xpost E mc ms x5 1 X kc ks))
def wpX1_meetIn_63 (post : Int32 → hX → Prop) (xpost : String → Nat → hX → Prop) (E : Nat) (mc ms : Nat) (J26 : Nat → Int32 → Int32 → Int32 → Nat → Int32 → Int32 → hX → Nat → Nat → Prop) (x0 : Nat) (x1 : Int32) (x2 : Int32) (x3 : Int32) (x4 : Nat) (x6 : Int32) (z0 : Int32) (X : hX) (kc ks : Nat) : Prop := (∀ x6_7 : Int32, x6_7 = x6 + 1 → J26 x0 x1 x2 x3 x4 z0 x6_7 X kc ks)
def wpX1_meetIn_26 (post : Int32 → hX → Prop) (xpost : String → Nat → hX → Prop) (E : Nat) (mc ms : Nat) : Nat → Nat → Int32 → Int32 → Int32 → Nat → Int32 → Int32 → hX → Nat → Nat → Prop
  | 0 => fun _ _ _ _ _ _ _ _ _ _ => False
  | n + 1 => fun x0 x1 x2 x3 x4 x5 x6 X kc ks => ((1000 < x6 → wpX1_meetIn_71 post xpost E mc ms x5 X kc ks) ∧ (¬ 1000 < x6 → ((x5 = (-1) → gfA X x0 1 0 (fun v_11 => isO X v_11 2 (wpX2_doMeet (fun r_14 X_15 => ((r_14 = 0 → wpX1_meetIn_63 post xpost E mc ms (wpX1_meetIn_26 post xpost E mc ms n) x0 x1 x2 x3 x4 x6 (-1) X_15 kc ks) ∧ (¬ r_14 = 0 → wpX1_meetIn_63 post xpost E mc ms (wpX1_meetIn_26 post xpost E mc ms n) x0 x1 x2 x3 x4 x6 x6 X_15 kc ks))) E X v_11 x1 x2 x3 x4 x6))) ∧ (¬ x5 = (-1) → wpX1_meetIn_71 post xpost E mc ms x5 X kc ks))))
def wpX1_meetIn (post : Int32 → hX → Prop) (xpost : String → Nat → hX → Prop) (E : Nat) (mc ms : Nat) (X : hX) (p0 : Nat) (p1 : Int32) (p2 : Int32) (p3 : Int32) : Prop := wpX1_isBetween (fun r_18 => (∃ mc_20 ms_21 : Nat, 0 + mc_20 ≤ mc ∧ 0 + ms_21 ≤ ms ∧ wpX1_needArgument (fun X_19 => isO X_19 p0 1 ((∃ mc_27 ms_28 : Nat, (0 + mc_20) + mc_27 ≤ mc ∧ (0 + ms_21) + ms_28 ≤ ms ∧ wpX1_drivingBoth (fun r_24 X_25 => (∃ a_31 : Nat, r_24 = some a_31 ∧ ∃ fu : Nat, wpX1_meetIn_26 post xpost E mc ms fu p0 p1 p2 p3 a_31 (-1) 1 X_25 ((0 + mc_20) + mc_27) ((0 + ms_21) + ms_28))) xpost E mc_27 ms_28 X_19 p0 p1 p2))) xpost E mc_20 ms_21 X r_18)) (Int32.toInt64 p3) 0 600
abbrev wsX1_meetIn : List Cond := ws_ yX1_meetIn cX1_meetIn 7 (some .int)
set_option maxHeartbeats 8000000 in
theorem metX1_meetIn (l : Launch) (hlt : l.stackTraces = false) (K : HK) (mc ms : Nat) (sz : Nat) (post : Int32 → hX → Prop) (xpost : String → Nat → hX → Prop) (X0 : hX) (p0 : Nat) (p1 : Int32) (p2 : Int32) (p3 : Int32) : vx_Met l yX1_meetIn wsX1_meetIn (rmh 8 146 mc ms) (hPc K X0 sz [.ref p0, .int p1, .int p2, .int p3] (wpX1_meetIn post xpost (K.2.2 0) mc ms X0 p0 p1 p2 p3)) (hQi post K X0 sz) (hXC xpost K X0 sz) mc ms (hA X0 sz) := by
  refine vx_ofW (cc := cX1_meetIn) (maxL := 7) (ret := (some .int)) (by decide) rfl ?_
  intro p e s m args below meth c s₁ B hml hno hv
  obtain ⟨rfl, hv⟩ := hv
  obtain ⟨hC, hP, hw⟩ := HC.of hv
  have hsz : s.heap.size = sz := hv.1
  subst hsz
  clear hv
  have hout : ∀ {pc : Nat}, ∀ x ∈ c.exceptionTable.toList, covers x pc = false := fun x hx => (hno x hx).elim
  have hr := B.returns
  have hts := atoms_spec (ws := wsX1_meetIn) B.pre
  have hts : ∀ w ∈ lw_all, w.before _ s = true := fun w h => hts w (List.mem_cons_of_mem _ h)
  have hF : CallFix p m c cX1_meetIn 7 s ([.ref p0, .int p1, .int p2, .int p3] : List Value).toArray lw_all RX1 := ⟨B.exec, B.bytes, hml, findClass_of_methodNamed B.named, hts⟩
  have hlocks := B.notSynchronized
  have hl := lv_entry ([.ref p0, .int p1, .int p2, .int p3]) (n := 7) (Nat.le_of_ble_eq_true rfl)
  rw [lg_entry_eq]
  generalize (lg_sl ([.ref p0, .int p1, .int p2, .int p3]) ++ List.replicate (7 - (lg_sl ([.ref p0, .int p1, .int p2, .int p3])).length) Slot.unset).toArray = ls at hl ⊢
  have hl : lv_has ls 7 [(0, .ref p0), (1, .int p1), (2, .int p2), (3, .int p3)] := hl
  have hS : va_S (hA X0 s.heap.size) s.heap s.heap [] := va_S.rf
  have T82 : ∀ (x5 : Int32) (z0 : Int32) (X : hX) (kc ks : Nat) (H : Heap) (locs : List Loc) (ls : Array Slot), hI K X0 s.heap.size X H → va_S (hA X0 s.heap.size) s.heap H locs → kc ≤ mc ∧ ks ≤ ms → lv_has ls 7 [(5, .int x5)] → wpX1_meetIn_82 post xpost (K.2.2 0) mc ms x5 z0 X kc ks → W p l e (rmh 8 146 mc ms) s m ([.ref p0, .int p1, .int p2, .int p3] : List Value).toArray below meth c H locs kc ks (vx_MQ below (hQi post K X0 s.heap.size) (hXC xpost K X0 s.heap.size) ([.ref p0, .int p1, .int p2, .int p3] : List Value).toArray s mc ms (hA X0 s.heap.size)) (F0 m 82 ls [.int z0]) := by
    intro x5 z0 X kc ks H locs ls hP hS hk hl hw
    unfold wpX1_meetIn_82 at hw
    obtain ⟨mc_2, ms_3, hc_4, hs_5, hw⟩ := hw
    refine hkx_v (hrx_S (As := [.int z0]) (rest := []) hF hl.1 hC hP hS (metX1_needSuch l hlt K mc_2 ms_3 _ _ _ X z0) (va_cwS 1 hF.2.2.2.2 (lw_S q1180 q1181 q75 q1182) rfl rfl rfl (by decide +kernel) ⟨Nat.le_of_ble_eq_true rfl, Nat.le_of_ble_eq_true rfl⟩) hw rfl rfl (Nat.le_of_ble_eq_true rfl) dX1_meetIn_82 ⟨hc_4, hs_5⟩) hP hS (fun E9 q9 X9 H locs hw hcl hP hS => ?_) (fun X_1 H locs hw hP hS => ?_)
    · exact h_out hout hlocks hcl hP hS ⟨hc_4, hs_5⟩ hw
    refine lv_iload hF.1 hF.2.1 dX1_meetIn_85 (lv_at hl 0 rfl) ?_
    exact vx_ret (h_iret hF hr hlocks hP hS ⟨hc_4, hs_5⟩ dX1_meetIn_87 hw)
  have T71 : ∀ (x5 : Int32) (X : hX) (kc ks : Nat) (H : Heap) (locs : List Loc) (ls : Array Slot), hI K X0 s.heap.size X H → va_S (hA X0 s.heap.size) s.heap H locs → kc ≤ mc ∧ ks ≤ ms → lv_has ls 7 [(5, .int x5)] → wpX1_meetIn_71 post xpost (K.2.2 0) mc ms x5 X kc ks → W p l e (rmh 8 146 mc ms) s m ([.ref p0, .int p1, .int p2, .int p3] : List Value).toArray below meth c H locs kc ks (vx_MQ below (hQi post K X0 s.heap.size) (hXC xpost K X0 s.heap.size) ([.ref p0, .int p1, .int p2, .int p3] : List Value).toArray s mc ms (hA X0 s.heap.size)) (F0 m 71 ls []) := by
    intro x5 X kc ks H locs ls hP hS hk hl hw
    unfold wpX1_meetIn_71 at hw
    refine lv_iload hF.1 hF.2.1 dX1_meetIn_71 (lv_at hl 0 rfl) ?_
    refine lv_iconst (v := (-1)) hF.1 hF.2.1 dX1_meetIn_73 (by decide) ?_
    refine lv_icmp_eq (tgt := 81) hF.1 hF.2.1 dX1_meetIn_74 (by decide) (fun c_6 => ?_) (fun c_6 => ?_)
    · have hw := hw.1 c_6
      refine lv_iconst (v := 0) hF.1 hF.2.1 dX1_meetIn_81 (by decide) ?_
      exact T82 x5 0 X kc ks _ _ ls hP hS hk (lv_sub hl [0] rfl) hw
    · have hw := hw.2 c_6
      refine lv_iconst (v := 1) hF.1 hF.2.1 dX1_meetIn_77 (by decide) ?_
      refine lv_goto (tgt := 82) hF.1 hF.2.1 dX1_meetIn_78 (by decide) ?_
      exact T82 x5 1 X kc ks _ _ ls hP hS hk (lv_sub hl [0] rfl) hw
  have T63 : ∀ (J26 : Nat → Int32 → Int32 → Int32 → Nat → Int32 → Int32 → hX → Nat → Nat → Prop) (hJ26 : ∀ (x0 : Nat) (x1 : Int32) (x2 : Int32) (x3 : Int32) (x4 : Nat) (x5 : Int32) (x6 : Int32) (X : hX) (kc ks : Nat) (H : Heap) (locs : List Loc) (ls : Array Slot), hI K X0 s.heap.size X H → va_S (hA X0 s.heap.size) s.heap H locs → kc ≤ mc ∧ ks ≤ ms → lv_has ls 7 [(0, .ref x0), (1, .int x1), (2, .int x2), (3, .int x3), (4, .ref x4), (5, .int x5), (6, .int x6)] → J26 x0 x1 x2 x3 x4 x5 x6 X kc ks → W p l e (rmh 8 146 mc ms) s m ([.ref p0, .int p1, .int p2, .int p3] : List Value).toArray below meth c H locs kc ks (vx_MQ below (hQi post K X0 s.heap.size) (hXC xpost K X0 s.heap.size) ([.ref p0, .int p1, .int p2, .int p3] : List Value).toArray s mc ms (hA X0 s.heap.size)) (F0 m 26 ls [])), ∀ (x0 : Nat) (x1 : Int32) (x2 : Int32) (x3 : Int32) (x4 : Nat) (x6 : Int32) (z0 : Int32) (X : hX) (kc ks : Nat) (H : Heap) (locs : List Loc) (ls : Array Slot), hI K X0 s.heap.size X H → va_S (hA X0 s.heap.size) s.heap H locs → kc ≤ mc ∧ ks ≤ ms → lv_has ls 7 [(0, .ref x0), (1, .int x1), (2, .int x2), (3, .int x3), (4, .ref x4), (6, .int x6)] → wpX1_meetIn_63 post xpost (K.2.2 0) mc ms J26 x0 x1 x2 x3 x4 x6 z0 X kc ks → W p l e (rmh 8 146 mc ms) s m ([.ref p0, .int p1, .int p2, .int p3] : List Value).toArray below meth c H locs kc ks (vx_MQ below (hQi post K X0 s.heap.size) (hXC xpost K X0 s.heap.size) ([.ref p0, .int p1, .int p2, .int p3] : List Value).toArray s mc ms (hA X0 s.heap.size)) (F0 m 63 ls [.int z0]) := by
    intro J26 hJ26
    intro x0 x1 x2 x3 x4 x6 z0 X kc ks H locs ls hP hS hk hl hw
    unfold wpX1_meetIn_63 at hw
    refine lv_istore (lv' := [(5, .int z0), (0, .ref x0), (1, .int x1), (2, .int x2), (3, .int x3), (4, .ref x4), (6, .int x6)]) hF.1 hF.2.1 dX1_meetIn_63 hl (by decide) rfl (fun ls hl => ?_)
    obtain ⟨x6_7, ex6_7⟩ : ∃ y : Int32, y = x6 + 1 := ⟨_, rfl⟩
    have hw := hw x6_7 ex6_7
    refine lv_iinc (v := x6_7) (lv' := [(6, .int x6_7), (5, .int z0), (0, .ref x0), (1, .int x1), (2, .int x2), (3, .int x3), (4, .ref x4)]) hF.1 hF.2.1 dX1_meetIn_65 hl (k := 6) rfl (by rw [ex6_7]; rfl) (by decide) rfl (fun ls hl => ?_)
    refine lv_goto (tgt := 26) hF.1 hF.2.1 dX1_meetIn_68 (by decide) ?_
    exact hJ26 x0 x1 x2 x3 x4 z0 x6_7 X kc ks _ _ ls hP hS hk (lv_sub hl [2, 3, 4, 5, 6, 1, 0] rfl) hw
  have T26 : ∀ (n : Nat), ∀ (x0 : Nat) (x1 : Int32) (x2 : Int32) (x3 : Int32) (x4 : Nat) (x5 : Int32) (x6 : Int32) (X : hX) (kc ks : Nat) (H : Heap) (locs : List Loc) (ls : Array Slot), hI K X0 s.heap.size X H → va_S (hA X0 s.heap.size) s.heap H locs → kc ≤ mc ∧ ks ≤ ms → lv_has ls 7 [(0, .ref x0), (1, .int x1), (2, .int x2), (3, .int x3), (4, .ref x4), (5, .int x5), (6, .int x6)] → wpX1_meetIn_26 post xpost (K.2.2 0) mc ms n x0 x1 x2 x3 x4 x5 x6 X kc ks → W p l e (rmh 8 146 mc ms) s m ([.ref p0, .int p1, .int p2, .int p3] : List Value).toArray below meth c H locs kc ks (vx_MQ below (hQi post K X0 s.heap.size) (hXC xpost K X0 s.heap.size) ([.ref p0, .int p1, .int p2, .int p3] : List Value).toArray s mc ms (hA X0 s.heap.size)) (F0 m 26 ls []) := by
    intro n
    induction n with
    | zero =>
      intro x0 x1 x2 x3 x4 x5 x6 X kc ks H locs ls hP hS hk hl hw
      exact False.elim hw
    | succ n ih =>
      intro x0 x1 x2 x3 x4 x5 x6 X kc ks H locs ls hP hS hk hl hw
      unfold wpX1_meetIn_26 at hw
      refine lv_iload hF.1 hF.2.1 dX1_meetIn_26 (lv_at hl 6 rfl) ?_
      refine lv_sipush (v := 1000) hF.1 hF.2.1 dX1_meetIn_28 (by decide) ?_
      refine lv_icmp_gt (tgt := 71) hF.1 hF.2.1 dX1_meetIn_31 (by decide) (fun c_8 => ?_) (fun c_8 => ?_)
      · have hw := hw.1 c_8
        exact T71 x5 X kc ks _ _ ls hP hS hk (lv_sub hl [5] rfl) hw
      · have hw := hw.2 c_8
        refine lv_iload hF.1 hF.2.1 dX1_meetIn_34 (lv_at hl 5 rfl) ?_
        refine lv_iconst (v := (-1)) hF.1 hF.2.1 dX1_meetIn_36 (by decide) ?_
        refine lv_icmp_ne (tgt := 71) hF.1 hF.2.1 dX1_meetIn_37 (by decide) (fun c_9 => ?_) (fun c_9 => ?_)
        · have hw := hw.2 c_9
          exact T71 x5 X kc ks _ _ ls hP hS hk (lv_sub hl [5] rfl) hw
        · have hw := hw.1 c_9
          refine lv_aload_n hF.1 hF.2.1 dX1_meetIn_40 rfl (lv_at hl 0 rfl) ?_
          obtain ⟨fs_10, v_11, hx_12, hv_13, hw⟩ := hw
          refine x_get hF hC hP in_X1 rfl 0 (by decide) q244 (fun _ z => z) hx_12 hv_13 dX1_meetIn_41 ?_
          refine lv_iload_n hF.1 hF.2.1 dX1_meetIn_44 rfl (lv_at hl 1 rfl) ?_
          refine lv_iload_n hF.1 hF.2.1 dX1_meetIn_45 rfl (lv_at hl 2 rfl) ?_
          refine lv_iload_n hF.1 hF.2.1 dX1_meetIn_46 rfl (lv_at hl 3 rfl) ?_
          refine lv_aload hF.1 hF.2.1 dX1_meetIn_47 (lv_at hl 4 rfl) ?_
          refine lv_iload hF.1 hF.2.1 dX1_meetIn_49 (lv_at hl 6 rfl) ?_
          obtain ⟨ho_16, hw⟩ := hw
          refine hk_i (hr_V (As := [.int x1, .int x2, .int x3, .ref x4, .int x6]) (rest := []) (T := TX2) (N := 9) (ci := 2) hF hl.1 hC hP hS (metX2_doMeet l K _ _ X v_11 x1 x2 x3 x4 x6) rfl (cwV 5 hF.2.2.2.2 (lw_V q1348 q1349 q1350 q76 q1351) rfl rfl rfl (by decide +kernel) ⟨Nat.le_of_ble_eq_true rfl, Nat.le_of_ble_eq_true rfl⟩) ho_16 hw rfl rfl (Nat.le_of_ble_eq_true rfl) dX1_meetIn_51 hk) hP hS (fun r_14 X_15 H locs hw hP hS => ?_)
          refine lv_if_eq (tgt := 62) hF.1 hF.2.1 dX1_meetIn_54 (by decide) (fun c_17 => ?_) (fun c_17 => ?_)
          · have hw := hw.1 c_17
            refine lv_iconst (v := (-1)) hF.1 hF.2.1 dX1_meetIn_62 (by decide) ?_
            exact T63 _ ih x0 x1 x2 x3 x4 x6 (-1) X_15 kc ks _ _ ls hP hS hk (lv_sub hl [0, 1, 2, 3, 4, 6] rfl) hw
          · have hw := hw.2 c_17
            refine lv_iload hF.1 hF.2.1 dX1_meetIn_57 (lv_at hl 6 rfl) ?_
            refine lv_goto (tgt := 63) hF.1 hF.2.1 dX1_meetIn_59 (by decide) ?_
            exact T63 _ ih x0 x1 x2 x3 x4 x6 x6 X_15 kc ks _ _ ls hP hS hk (lv_sub hl [0, 1, 2, 3, 4, 6] rfl) hw
  unfold wpX1_meetIn at hw
  show W p l e (rmh 8 146 mc ms) s m _ below meth c _ _ _ _ _ _
  refine lv_iload_n hF.1 hF.2.1 dX1_meetIn_0 rfl (lv_at hl 3 rfl) ?_
  refine lv_i2l hF.1 hF.2.1 dX1_meetIn_1 rfl ?_
  refine lv_lconst (v := 0) hF.1 hF.2.1 dX1_meetIn_2 (by decide) ?_
  refine lv_ldc2 hF.1 hF.2.1 hF.2.2.2.1 (hF.2.2.2.2 _ q1343) dX1_meetIn_3 ?_
  refine hp_i (hrp_S (As := [.long (Int32.toInt64 p3), .long 0, .long 600]) (rest := []) hF hl.1 (metX1_isBetween l _ (Int32.toInt64 p3) 0 600) (va_cwS 3 hF.2.2.2.2 (lw_S q1228 q848 q75 q849) rfl rfl rfl (by decide +kernel) ⟨Nat.le_of_ble_eq_true rfl, Nat.le_of_ble_eq_true rfl⟩) hw rfl rfl (Nat.le_of_ble_eq_true rfl) dX1_meetIn_6 ⟨Nat.zero_le _, Nat.zero_le _⟩) (fun r_18 hw => ?_)
  obtain ⟨mc_20, ms_21, hc_22, hs_23, hw⟩ := hw
  refine hkx_v (hrx_S (As := [.int r_18]) (rest := []) hF hl.1 hC hP hS (metX1_needArgument l hlt K mc_20 ms_21 _ _ _ X0 r_18) (va_cwS 1 hF.2.2.2.2 (lw_S q1140 q1141 q75 q1142) rfl rfl rfl (by decide +kernel) ⟨Nat.le_of_ble_eq_true rfl, Nat.le_of_ble_eq_true rfl⟩) hw rfl rfl (Nat.le_of_ble_eq_true rfl) dX1_meetIn_9 ⟨hc_22, hs_23⟩) hP hS (fun E9 q9 X9 H locs hw hcl hP hS => ?_) (fun X_19 H locs hw hP hS => ?_)
  · exact h_out hout hlocks hcl hP hS ⟨hc_22, hs_23⟩ hw
  refine lv_aload_n hF.1 hF.2.1 dX1_meetIn_12 rfl (lv_at hl 0 rfl) ?_
  refine lv_iload_n hF.1 hF.2.1 dX1_meetIn_13 rfl (lv_at hl 1 rfl) ?_
  refine lv_iload_n hF.1 hF.2.1 dX1_meetIn_14 rfl (lv_at hl 2 rfl) ?_
  obtain ⟨ho_26, hw⟩ := hw
  obtain ⟨mc_27, ms_28, hc_29, hs_30, hw⟩ := hw
  refine hkx_q (hrx_V (As := [.int p1, .int p2]) (rest := []) (T := TX1) (N := 4) (ci := 1) hF hl.1 hC hP hS (metX1_drivingBoth l hlt K mc_27 ms_28 _ _ _ X_19 p0 p1 p2) rfl (cwV 2 hF.2.2.2.2 (lw_V q1344 q1346 qs16 q75 q1347) rfl rfl rfl (by decide +kernel) ⟨Nat.le_of_ble_eq_true rfl, Nat.le_of_ble_eq_true rfl⟩) ho_26 hw rfl rfl (Nat.le_of_ble_eq_true rfl) dX1_meetIn_15 ⟨hc_29, hs_30⟩) hP hS (fun E9 q9 X9 H locs hw hcl hP hS => ?_) (fun r_24 X_25 H locs hw hP hS => ?_)
  · exact h_out hout hlocks hcl hP hS ⟨hc_29, hs_30⟩ hw
  obtain ⟨a_31, e_32, hw⟩ := hw
  subst e_32
  rw [va_rf_some]
  refine lv_astore (lv' := [(4, .ref a_31), (0, .ref p0), (1, .int p1), (2, .int p2), (3, .int p3)]) hF.1 hF.2.1 dX1_meetIn_18 hl (by decide) rfl (fun ls hl => ?_)
  refine lv_iconst (v := (-1)) hF.1 hF.2.1 dX1_meetIn_20 (by decide) ?_
  refine lv_istore (lv' := [(5, .int (-1)), (4, .ref a_31), (0, .ref p0), (1, .int p1), (2, .int p2), (3, .int p3)]) hF.1 hF.2.1 dX1_meetIn_21 hl (by decide) rfl (fun ls hl => ?_)
  refine lv_iconst (v := 1) hF.1 hF.2.1 dX1_meetIn_23 (by decide) ?_
  refine lv_istore (lv' := [(6, .int 1), (5, .int (-1)), (4, .ref a_31), (0, .ref p0), (1, .int p1), (2, .int p2), (3, .int p3)]) hF.1 hF.2.1 dX1_meetIn_24 hl (by decide) rfl (fun ls hl => ?_)
  obtain ⟨fu, hw⟩ := hw
  exact T26 fu p0 p1 p2 p3 a_31 (-1) 1 X_25 ((0 + mc_20) + mc_27) ((0 + ms_21) + ms_28) _ _ ls hP hS ⟨hc_29, hs_30⟩ (lv_sub hl [3, 4, 5, 6, 2, 1, 0] rfl) hw
def wpX1_meetings_58 (post : Int32 → hX → Prop) (xpost : String → Nat → hX → Prop) (E : Nat) (mc ms : Nat) (J26 : Nat → Int32 → Int32 → Int32 → Nat → Int32 → Int32 → hX → Nat → Nat → Prop) (x0 : Nat) (x1 : Int32) (x2 : Int32) (x3 : Int32) (x4 : Nat) (x6 : Int32) (z0 : Int32) (z1 : Int32) (X : hX) (kc ks : Nat) : Prop := (∀ x5_1 : Int32, x5_1 = z0 + z1 → (∀ x6_2 : Int32, x6_2 = x6 + 1 → J26 x0 x1 x2 x3 x4 x5_1 x6_2 X kc ks))
def wpX1_meetings_26 (post : Int32 → hX → Prop) (xpost : String → Nat → hX → Prop) (E : Nat) (mc ms : Nat) : Nat → Nat → Int32 → Int32 → Int32 → Nat → Int32 → Int32 → hX → Nat → Nat → Prop
  | 0 => fun _ _ _ _ _ _ _ _ _ _ => False
  | n + 1 => fun x0 x1 x2 x3 x4 x5 x6 X kc ks => ((1000 < x6 → post x5 X) ∧ (¬ 1000 < x6 → gfA X x0 1 0 (fun v_5 => isO X v_5 2 (wpX2_doMeet (fun r_8 X_9 => ((r_8 = 0 → wpX1_meetings_58 post xpost E mc ms (wpX1_meetings_26 post xpost E mc ms n) x0 x1 x2 x3 x4 x6 x5 0 X_9 kc ks) ∧ (¬ r_8 = 0 → wpX1_meetings_58 post xpost E mc ms (wpX1_meetings_26 post xpost E mc ms n) x0 x1 x2 x3 x4 x6 x5 1 X_9 kc ks))) E X v_5 x1 x2 x3 x4 x6))))
def wpX1_meetings (post : Int32 → hX → Prop) (xpost : String → Nat → hX → Prop) (E : Nat) (mc ms : Nat) (X : hX) (p0 : Nat) (p1 : Int32) (p2 : Int32) (p3 : Int32) : Prop := wpX1_isBetween (fun r_12 => (∃ mc_14 ms_15 : Nat, 0 + mc_14 ≤ mc ∧ 0 + ms_15 ≤ ms ∧ wpX1_needArgument (fun X_13 => isO X_13 p0 1 ((∃ mc_21 ms_22 : Nat, (0 + mc_14) + mc_21 ≤ mc ∧ (0 + ms_15) + ms_22 ≤ ms ∧ wpX1_drivingBoth (fun r_18 X_19 => (∃ a_25 : Nat, r_18 = some a_25 ∧ ∃ fu : Nat, wpX1_meetings_26 post xpost E mc ms fu p0 p1 p2 p3 a_25 0 1 X_19 ((0 + mc_14) + mc_21) ((0 + ms_15) + ms_22))) xpost E mc_21 ms_22 X_13 p0 p1 p2))) xpost E mc_14 ms_15 X r_12)) (Int32.toInt64 p3) 0 600
abbrev wsX1_meetings : List Cond := ws_ yX1_meetings cX1_meetings 7 (some .int)
set_option maxHeartbeats 8000000 in
theorem metX1_meetings (l : Launch) (hlt : l.stackTraces = false) (K : HK) (mc ms : Nat) (sz : Nat) (post : Int32 → hX → Prop) (xpost : String → Nat → hX → Prop) (X0 : hX) (p0 : Nat) (p1 : Int32) (p2 : Int32) (p3 : Int32) : vx_Met l yX1_meetings wsX1_meetings (rmh 8 146 mc ms) (hPc K X0 sz [.ref p0, .int p1, .int p2, .int p3] (wpX1_meetings post xpost (K.2.2 0) mc ms X0 p0 p1 p2 p3)) (hQi post K X0 sz) (hXC xpost K X0 sz) mc ms (hA X0 sz) := by
  refine vx_ofW (cc := cX1_meetings) (maxL := 7) (ret := (some .int)) (by decide) rfl ?_
  intro p e s m args below meth c s₁ B hml hno hv
  obtain ⟨rfl, hv⟩ := hv
  obtain ⟨hC, hP, hw⟩ := HC.of hv
  have hsz : s.heap.size = sz := hv.1
  subst hsz
  clear hv
  have hout : ∀ {pc : Nat}, ∀ x ∈ c.exceptionTable.toList, covers x pc = false := fun x hx => (hno x hx).elim
  have hr := B.returns
  have hts := atoms_spec (ws := wsX1_meetings) B.pre
  have hts : ∀ w ∈ lw_all, w.before _ s = true := fun w h => hts w (List.mem_cons_of_mem _ h)
  have hF : CallFix p m c cX1_meetings 7 s ([.ref p0, .int p1, .int p2, .int p3] : List Value).toArray lw_all RX1 := ⟨B.exec, B.bytes, hml, findClass_of_methodNamed B.named, hts⟩
  have hlocks := B.notSynchronized
  have hl := lv_entry ([.ref p0, .int p1, .int p2, .int p3]) (n := 7) (Nat.le_of_ble_eq_true rfl)
  rw [lg_entry_eq]
  generalize (lg_sl ([.ref p0, .int p1, .int p2, .int p3]) ++ List.replicate (7 - (lg_sl ([.ref p0, .int p1, .int p2, .int p3])).length) Slot.unset).toArray = ls at hl ⊢
  have hl : lv_has ls 7 [(0, .ref p0), (1, .int p1), (2, .int p2), (3, .int p3)] := hl
  have hS : va_S (hA X0 s.heap.size) s.heap s.heap [] := va_S.rf
  have T58 : ∀ (J26 : Nat → Int32 → Int32 → Int32 → Nat → Int32 → Int32 → hX → Nat → Nat → Prop) (hJ26 : ∀ (x0 : Nat) (x1 : Int32) (x2 : Int32) (x3 : Int32) (x4 : Nat) (x5 : Int32) (x6 : Int32) (X : hX) (kc ks : Nat) (H : Heap) (locs : List Loc) (ls : Array Slot), hI K X0 s.heap.size X H → va_S (hA X0 s.heap.size) s.heap H locs → kc ≤ mc ∧ ks ≤ ms → lv_has ls 7 [(0, .ref x0), (1, .int x1), (2, .int x2), (3, .int x3), (4, .ref x4), (5, .int x5), (6, .int x6)] → J26 x0 x1 x2 x3 x4 x5 x6 X kc ks → W p l e (rmh 8 146 mc ms) s m ([.ref p0, .int p1, .int p2, .int p3] : List Value).toArray below meth c H locs kc ks (vx_MQ below (hQi post K X0 s.heap.size) (hXC xpost K X0 s.heap.size) ([.ref p0, .int p1, .int p2, .int p3] : List Value).toArray s mc ms (hA X0 s.heap.size)) (F0 m 26 ls [])), ∀ (x0 : Nat) (x1 : Int32) (x2 : Int32) (x3 : Int32) (x4 : Nat) (x6 : Int32) (z0 : Int32) (z1 : Int32) (X : hX) (kc ks : Nat) (H : Heap) (locs : List Loc) (ls : Array Slot), hI K X0 s.heap.size X H → va_S (hA X0 s.heap.size) s.heap H locs → kc ≤ mc ∧ ks ≤ ms → lv_has ls 7 [(0, .ref x0), (1, .int x1), (2, .int x2), (3, .int x3), (4, .ref x4), (6, .int x6)] → wpX1_meetings_58 post xpost (K.2.2 0) mc ms J26 x0 x1 x2 x3 x4 x6 z0 z1 X kc ks → W p l e (rmh 8 146 mc ms) s m ([.ref p0, .int p1, .int p2, .int p3] : List Value).toArray below meth c H locs kc ks (vx_MQ below (hQi post K X0 s.heap.size) (hXC xpost K X0 s.heap.size) ([.ref p0, .int p1, .int p2, .int p3] : List Value).toArray s mc ms (hA X0 s.heap.size)) (F0 m 58 ls [.int z1, .int z0]) := by
    intro J26 hJ26
    intro x0 x1 x2 x3 x4 x6 z0 z1 X kc ks H locs ls hP hS hk hl hw
    unfold wpX1_meetings_58 at hw
    refine lv_iadd hF.1 hF.2.1 dX1_meetings_58 ?_
    refine lv_topi (fun x5_1 ex5_1 => ?_)
    have hw := hw x5_1 ex5_1
    refine lv_istore (lv' := [(5, .int x5_1), (0, .ref x0), (1, .int x1), (2, .int x2), (3, .int x3), (4, .ref x4), (6, .int x6)]) hF.1 hF.2.1 dX1_meetings_59 hl (by decide) rfl (fun ls hl => ?_)
    obtain ⟨x6_2, ex6_2⟩ : ∃ y : Int32, y = x6 + 1 := ⟨_, rfl⟩
    have hw := hw x6_2 ex6_2
    refine lv_iinc (v := x6_2) (lv' := [(6, .int x6_2), (5, .int x5_1), (0, .ref x0), (1, .int x1), (2, .int x2), (3, .int x3), (4, .ref x4)]) hF.1 hF.2.1 dX1_meetings_61 hl (k := 6) rfl (by rw [ex6_2]; rfl) (by decide) rfl (fun ls hl => ?_)
    refine lv_goto (tgt := 26) hF.1 hF.2.1 dX1_meetings_64 (by decide) ?_
    exact hJ26 x0 x1 x2 x3 x4 x5_1 x6_2 X kc ks _ _ ls hP hS hk (lv_sub hl [2, 3, 4, 5, 6, 1, 0] rfl) hw
  have T26 : ∀ (n : Nat), ∀ (x0 : Nat) (x1 : Int32) (x2 : Int32) (x3 : Int32) (x4 : Nat) (x5 : Int32) (x6 : Int32) (X : hX) (kc ks : Nat) (H : Heap) (locs : List Loc) (ls : Array Slot), hI K X0 s.heap.size X H → va_S (hA X0 s.heap.size) s.heap H locs → kc ≤ mc ∧ ks ≤ ms → lv_has ls 7 [(0, .ref x0), (1, .int x1), (2, .int x2), (3, .int x3), (4, .ref x4), (5, .int x5), (6, .int x6)] → wpX1_meetings_26 post xpost (K.2.2 0) mc ms n x0 x1 x2 x3 x4 x5 x6 X kc ks → W p l e (rmh 8 146 mc ms) s m ([.ref p0, .int p1, .int p2, .int p3] : List Value).toArray below meth c H locs kc ks (vx_MQ below (hQi post K X0 s.heap.size) (hXC xpost K X0 s.heap.size) ([.ref p0, .int p1, .int p2, .int p3] : List Value).toArray s mc ms (hA X0 s.heap.size)) (F0 m 26 ls []) := by
    intro n
    induction n with
    | zero =>
      intro x0 x1 x2 x3 x4 x5 x6 X kc ks H locs ls hP hS hk hl hw
      exact False.elim hw
    | succ n ih =>
      intro x0 x1 x2 x3 x4 x5 x6 X kc ks H locs ls hP hS hk hl hw
      unfold wpX1_meetings_26 at hw
      refine lv_iload hF.1 hF.2.1 dX1_meetings_26 (lv_at hl 6 rfl) ?_
      refine lv_sipush (v := 1000) hF.1 hF.2.1 dX1_meetings_28 (by decide) ?_
      refine lv_icmp_gt (tgt := 67) hF.1 hF.2.1 dX1_meetings_31 (by decide) (fun c_3 => ?_) (fun c_3 => ?_)
      · have hw := hw.1 c_3
        refine lv_iload hF.1 hF.2.1 dX1_meetings_67 (lv_at hl 5 rfl) ?_
        exact vx_ret (h_iret hF hr hlocks hP hS hk dX1_meetings_69 hw)
      · have hw := hw.2 c_3
        refine lv_iload hF.1 hF.2.1 dX1_meetings_34 (lv_at hl 5 rfl) ?_
        refine lv_aload_n hF.1 hF.2.1 dX1_meetings_36 rfl (lv_at hl 0 rfl) ?_
        obtain ⟨fs_4, v_5, hx_6, hv_7, hw⟩ := hw
        refine x_get hF hC hP in_X1 rfl 0 (by decide) q244 (fun _ z => z) hx_6 hv_7 dX1_meetings_37 ?_
        refine lv_iload_n hF.1 hF.2.1 dX1_meetings_40 rfl (lv_at hl 1 rfl) ?_
        refine lv_iload_n hF.1 hF.2.1 dX1_meetings_41 rfl (lv_at hl 2 rfl) ?_
        refine lv_iload_n hF.1 hF.2.1 dX1_meetings_42 rfl (lv_at hl 3 rfl) ?_
        refine lv_aload hF.1 hF.2.1 dX1_meetings_43 (lv_at hl 4 rfl) ?_
        refine lv_iload hF.1 hF.2.1 dX1_meetings_45 (lv_at hl 6 rfl) ?_
        obtain ⟨ho_10, hw⟩ := hw
        refine hk_i (hr_V (As := [.int x1, .int x2, .int x3, .ref x4, .int x6]) (rest := [.int x5]) (T := TX2) (N := 9) (ci := 2) hF hl.1 hC hP hS (metX2_doMeet l K _ _ X v_5 x1 x2 x3 x4 x6) rfl (cwV 5 hF.2.2.2.2 (lw_V q1348 q1349 q1350 q76 q1351) rfl rfl rfl (by decide +kernel) ⟨Nat.le_of_ble_eq_true rfl, Nat.le_of_ble_eq_true rfl⟩) ho_10 hw rfl rfl (Nat.le_of_ble_eq_true rfl) dX1_meetings_47 hk) hP hS (fun r_8 X_9 H locs hw hP hS => ?_)
        refine lv_if_eq (tgt := 57) hF.1 hF.2.1 dX1_meetings_50 (by decide) (fun c_11 => ?_) (fun c_11 => ?_)
        · have hw := hw.1 c_11
          refine lv_iconst (v := 0) hF.1 hF.2.1 dX1_meetings_57 (by decide) ?_
          exact T58 _ ih x0 x1 x2 x3 x4 x6 x5 0 X_9 kc ks _ _ ls hP hS hk (lv_sub hl [0, 1, 2, 3, 4, 6] rfl) hw
        · have hw := hw.2 c_11
          refine lv_iconst (v := 1) hF.1 hF.2.1 dX1_meetings_53 (by decide) ?_
          refine lv_goto (tgt := 58) hF.1 hF.2.1 dX1_meetings_54 (by decide) ?_
          exact T58 _ ih x0 x1 x2 x3 x4 x6 x5 1 X_9 kc ks _ _ ls hP hS hk (lv_sub hl [0, 1, 2, 3, 4, 6] rfl) hw
  unfold wpX1_meetings at hw
  show W p l e (rmh 8 146 mc ms) s m _ below meth c _ _ _ _ _ _
  refine lv_iload_n hF.1 hF.2.1 dX1_meetings_0 rfl (lv_at hl 3 rfl) ?_
  refine lv_i2l hF.1 hF.2.1 dX1_meetings_1 rfl ?_
  refine lv_lconst (v := 0) hF.1 hF.2.1 dX1_meetings_2 (by decide) ?_
  refine lv_ldc2 hF.1 hF.2.1 hF.2.2.2.1 (hF.2.2.2.2 _ q1343) dX1_meetings_3 ?_
  refine hp_i (hrp_S (As := [.long (Int32.toInt64 p3), .long 0, .long 600]) (rest := []) hF hl.1 (metX1_isBetween l _ (Int32.toInt64 p3) 0 600) (va_cwS 3 hF.2.2.2.2 (lw_S q1228 q848 q75 q849) rfl rfl rfl (by decide +kernel) ⟨Nat.le_of_ble_eq_true rfl, Nat.le_of_ble_eq_true rfl⟩) hw rfl rfl (Nat.le_of_ble_eq_true rfl) dX1_meetings_6 ⟨Nat.zero_le _, Nat.zero_le _⟩) (fun r_12 hw => ?_)
  obtain ⟨mc_14, ms_15, hc_16, hs_17, hw⟩ := hw
  refine hkx_v (hrx_S (As := [.int r_12]) (rest := []) hF hl.1 hC hP hS (metX1_needArgument l hlt K mc_14 ms_15 _ _ _ X0 r_12) (va_cwS 1 hF.2.2.2.2 (lw_S q1140 q1141 q75 q1142) rfl rfl rfl (by decide +kernel) ⟨Nat.le_of_ble_eq_true rfl, Nat.le_of_ble_eq_true rfl⟩) hw rfl rfl (Nat.le_of_ble_eq_true rfl) dX1_meetings_9 ⟨hc_16, hs_17⟩) hP hS (fun E9 q9 X9 H locs hw hcl hP hS => ?_) (fun X_13 H locs hw hP hS => ?_)
  · exact h_out hout hlocks hcl hP hS ⟨hc_16, hs_17⟩ hw
  refine lv_aload_n hF.1 hF.2.1 dX1_meetings_12 rfl (lv_at hl 0 rfl) ?_
  refine lv_iload_n hF.1 hF.2.1 dX1_meetings_13 rfl (lv_at hl 1 rfl) ?_
  refine lv_iload_n hF.1 hF.2.1 dX1_meetings_14 rfl (lv_at hl 2 rfl) ?_
  obtain ⟨ho_20, hw⟩ := hw
  obtain ⟨mc_21, ms_22, hc_23, hs_24, hw⟩ := hw
  refine hkx_q (hrx_V (As := [.int p1, .int p2]) (rest := []) (T := TX1) (N := 4) (ci := 1) hF hl.1 hC hP hS (metX1_drivingBoth l hlt K mc_21 ms_22 _ _ _ X_13 p0 p1 p2) rfl (cwV 2 hF.2.2.2.2 (lw_V q1344 q1346 qs16 q75 q1347) rfl rfl rfl (by decide +kernel) ⟨Nat.le_of_ble_eq_true rfl, Nat.le_of_ble_eq_true rfl⟩) ho_20 hw rfl rfl (Nat.le_of_ble_eq_true rfl) dX1_meetings_15 ⟨hc_23, hs_24⟩) hP hS (fun E9 q9 X9 H locs hw hcl hP hS => ?_) (fun r_18 X_19 H locs hw hP hS => ?_)
  · exact h_out hout hlocks hcl hP hS ⟨hc_23, hs_24⟩ hw
  obtain ⟨a_25, e_26, hw⟩ := hw
  subst e_26
  rw [va_rf_some]
  refine lv_astore (lv' := [(4, .ref a_25), (0, .ref p0), (1, .int p1), (2, .int p2), (3, .int p3)]) hF.1 hF.2.1 dX1_meetings_18 hl (by decide) rfl (fun ls hl => ?_)
  refine lv_iconst (v := 0) hF.1 hF.2.1 dX1_meetings_20 (by decide) ?_
  refine lv_istore (lv' := [(5, .int 0), (4, .ref a_25), (0, .ref p0), (1, .int p1), (2, .int p2), (3, .int p3)]) hF.1 hF.2.1 dX1_meetings_21 hl (by decide) rfl (fun ls hl => ?_)
  refine lv_iconst (v := 1) hF.1 hF.2.1 dX1_meetings_23 (by decide) ?_
  refine lv_istore (lv' := [(6, .int 1), (5, .int 0), (4, .ref a_25), (0, .ref p0), (1, .int p1), (2, .int p2), (3, .int p3)]) hF.1 hF.2.1 dX1_meetings_24 hl (by decide) rfl (fun ls hl => ?_)
  obtain ⟨fu, hw⟩ := hw
  exact T26 fu p0 p1 p2 p3 a_25 0 1 X_19 ((0 + mc_14) + mc_21) ((0 + ms_15) + ms_22) _ _ ls hP hS ⟨hc_23, hs_24⟩ (lv_sub hl [3, 4, 5, 6, 2, 1, 0] rfl) hw
def wpX1_difference (post : Int64 → hX → Prop) (xpost : String → Nat → hX → Prop) (E : Nat) (mc ms : Nat) (X : hX) (p0 : Nat) (p1 : Int32) (p2 : Int32) (p3 : Int32) : Prop := isO X p0 1 ((∃ mc_4 ms_5 : Nat, 0 + mc_4 ≤ mc ∧ 0 + ms_5 ≤ ms ∧ wpX1_drivingBoth (fun r_1 X_2 => (∃ a_8 : Nat, r_1 = some a_8 ∧ gfA X_2 p0 1 0 (fun v_11 => gfA X_2 v_11 2 1 (fun v_15 => isO X_2 v_15 8 (wpJ2_get (fun r_18 X_19 => (∃ a_21 : Nat, r_18 = some a_21 ∧ ((∃ fs, X_19 a_21 = some (.inr (6, fs))) ∧ gfI X_19 a_21 6 0 (fun v_25 => gfA X_19 p0 1 0 (fun v_29 => gfA X_19 v_29 2 1 (fun v_33 => isO X_19 v_33 8 (wpJ2_get (fun r_36 X_37 => (∃ a_39 : Nat, r_36 = some a_39 ∧ ((∃ fs, X_37 a_39 = some (.inr (6, fs))) ∧ gfI X_37 a_39 6 0 (fun v_43 => gfA X_37 a_8 3 1 (fun v_47 => alJ X_37 v_47 v_25 (fun v_54 => gfA X_37 a_8 3 1 (fun v_56 => alJ X_37 v_56 v_43 (fun v_63 => wpX1_divisor (fun r_64 => gfA X_37 a_8 3 0 (fun v_66 => alJ X_37 v_66 v_25 (fun v_73 => gfA X_37 a_8 3 1 (fun v_75 => alJ X_37 v_75 v_43 (fun v_82 => (¬ r_64 = 0 ∧ gfA X_37 a_8 3 0 (fun v_85 => alJ X_37 v_85 v_43 (fun v_92 => gfA X_37 a_8 3 1 (fun v_94 => alJ X_37 v_94 v_25 (fun v_101 => (¬ r_64 = 0 ∧ (∀ x9_103 : Int64, x9_103 = (v_73 * (v_82 / r_64)) - (v_92 * (v_101 / r_64)) → gfA X_37 a_8 3 1 (fun v_105 => alJ X_37 v_105 v_25 (fun v_112 => (¬ r_64 = 0 ∧ gfA X_37 a_8 3 1 (fun v_115 => alJ X_37 v_115 v_43 (fun v_122 => (∀ x11_123 : Int64, x11_123 = (v_112 / r_64) * v_122 → wpX1_divisor (fun r_124 => ((p3 = 0 → (¬ r_124 = 0 ∧ post (x11_123 / r_124) X_37)) ∧ (¬ p3 = 0 → (¬ r_124 = 0 ∧ post (x9_103 / r_124) X_37)))) x9_103 x11_123)))))))))))))))))) v_54 v_63)))))))) E X_19 v_33 p2))))))) E X_2 v_15 p1))))) xpost E mc_4 ms_5 X p0 p1 p2))
abbrev wsX1_difference : List Cond := ws_ yX1_difference cX1_difference 15 (some .long)
set_option maxHeartbeats 8000000 in
theorem metX1_difference (l : Launch) (hlt : l.stackTraces = false) (K : HK) (mc ms : Nat) (sz : Nat) (post : Int64 → hX → Prop) (xpost : String → Nat → hX → Prop) (X0 : hX) (p0 : Nat) (p1 : Int32) (p2 : Int32) (p3 : Int32) : vx_Met l yX1_difference wsX1_difference (rmh 8 146 mc ms) (hPc K X0 sz [.ref p0, .int p1, .int p2, .int p3] (wpX1_difference post xpost (K.2.2 0) mc ms X0 p0 p1 p2 p3)) (hQl post K X0 sz) (hXC xpost K X0 sz) mc ms (hA X0 sz) := by
  refine vx_ofW (cc := cX1_difference) (maxL := 15) (ret := (some .long)) (by decide) rfl ?_
  intro p e s m args below meth c s₁ B hml hno hv
  obtain ⟨rfl, hv⟩ := hv
  obtain ⟨hC, hP, hw⟩ := HC.of hv
  have hsz : s.heap.size = sz := hv.1
  subst hsz
  clear hv
  have hout : ∀ {pc : Nat}, ∀ x ∈ c.exceptionTable.toList, covers x pc = false := fun x hx => (hno x hx).elim
  have hr := B.returns
  have hts := atoms_spec (ws := wsX1_difference) B.pre
  have hts : ∀ w ∈ lw_all, w.before _ s = true := fun w h => hts w (List.mem_cons_of_mem _ h)
  have hF : CallFix p m c cX1_difference 15 s ([.ref p0, .int p1, .int p2, .int p3] : List Value).toArray lw_all RX1 := ⟨B.exec, B.bytes, hml, findClass_of_methodNamed B.named, hts⟩
  have hlocks := B.notSynchronized
  have hl := lv_entry ([.ref p0, .int p1, .int p2, .int p3]) (n := 15) (Nat.le_of_ble_eq_true rfl)
  rw [lg_entry_eq]
  generalize (lg_sl ([.ref p0, .int p1, .int p2, .int p3]) ++ List.replicate (15 - (lg_sl ([.ref p0, .int p1, .int p2, .int p3])).length) Slot.unset).toArray = ls at hl ⊢
  have hl : lv_has ls 15 [(0, .ref p0), (1, .int p1), (2, .int p2), (3, .int p3)] := hl
  have hS : va_S (hA X0 s.heap.size) s.heap s.heap [] := va_S.rf
  unfold wpX1_difference at hw
  show W p l e (rmh 8 146 mc ms) s m _ below meth c _ _ _ _ _ _
  refine lv_aload_n hF.1 hF.2.1 dX1_difference_0 rfl (lv_at hl 0 rfl) ?_
  refine lv_iload_n hF.1 hF.2.1 dX1_difference_1 rfl (lv_at hl 1 rfl) ?_
  refine lv_iload_n hF.1 hF.2.1 dX1_difference_2 rfl (lv_at hl 2 rfl) ?_
  obtain ⟨ho_3, hw⟩ := hw
  obtain ⟨mc_4, ms_5, hc_6, hs_7, hw⟩ := hw
  refine hkx_q (hrx_V (As := [.int p1, .int p2]) (rest := []) (T := TX1) (N := 4) (ci := 1) hF hl.1 hC hP hS (metX1_drivingBoth l hlt K mc_4 ms_5 _ _ _ X0 p0 p1 p2) rfl (cwV 2 hF.2.2.2.2 (lw_V q1344 q1346 qs16 q75 q1347) rfl rfl rfl (by decide +kernel) ⟨Nat.le_of_ble_eq_true rfl, Nat.le_of_ble_eq_true rfl⟩) ho_3 hw rfl rfl (Nat.le_of_ble_eq_true rfl) dX1_difference_3 ⟨hc_6, hs_7⟩) hP hS (fun E9 q9 X9 H locs hw hcl hP hS => ?_) (fun r_1 X_2 H locs hw hP hS => ?_)
  · exact h_out hout hlocks hcl hP hS ⟨hc_6, hs_7⟩ hw
  obtain ⟨a_8, e_9, hw⟩ := hw
  subst e_9
  rw [va_rf_some]
  refine lv_astore (lv' := [(4, .ref a_8), (0, .ref p0), (1, .int p1), (2, .int p2), (3, .int p3)]) hF.1 hF.2.1 dX1_difference_6 hl (by decide) rfl (fun ls hl => ?_)
  refine lv_aload_n hF.1 hF.2.1 dX1_difference_8 rfl (lv_at hl 1 rfl) ?_
  obtain ⟨fs_10, v_11, hx_12, hv_13, hw⟩ := hw
  refine x_get hF hC hP in_X1 rfl 0 (by decide) q244 (fun _ z => z) hx_12 hv_13 dX1_difference_9 ?_
  obtain ⟨fs_14, v_15, hx_16, hv_17, hw⟩ := hw
  refine x_getN hF hC hP in_X2 rfl 1 (by decide) q154 (fun _ z => z) hx_16 hv_17 dX1_difference_12 ?_
  refine lv_iload_n hF.1 hF.2.1 dX1_difference_15 rfl (lv_at hl 2 rfl) ?_
  obtain ⟨ho_20, hw⟩ := hw
  refine hk_q (hr_V (As := [.int p1]) (rest := []) (T := TJ2) (N := 3) (ci := 8) hF hl.1 hC hP hS (metJ2_get l K _ _ X_2 v_15 p1) rfl (cwV 1 hF.2.2.2.2 (lw_V q419 q347 q348 q79 q349) rfl rfl rfl (by decide +kernel) ⟨Nat.le_of_ble_eq_true rfl, Nat.le_of_ble_eq_true rfl⟩) ho_20 hw rfl rfl (Nat.le_of_ble_eq_true rfl) dX1_difference_16 ⟨hc_6, hs_7⟩) hP hS (fun r_18 X_19 H locs hw hP hS => ?_)
  obtain ⟨a_21, e_22, hw⟩ := hw
  subst e_22
  rw [va_rf_some]
  obtain ⟨h_23, hw⟩ := hw
  refine x_cast (T := TX7) (N := 3) (ci := 6) hF hC hP rfl q1274 h_23 dX1_difference_19 ?_
  obtain ⟨fs_24, v_25, hx_26, hv_27, hw⟩ := hw
  refine x_getN hF hC hP in_X7 rfl 0 (by decide) q922 (fun _ z => z) hx_26 hv_27 dX1_difference_22 ?_
  refine lv_istore (lv' := [(5, .int v_25), (4, .ref a_8), (0, .ref p0), (1, .int p1), (2, .int p2), (3, .int p3)]) hF.1 hF.2.1 dX1_difference_25 hl (by decide) rfl (fun ls hl => ?_)
  refine lv_aload_n hF.1 hF.2.1 dX1_difference_27 rfl (lv_at hl 2 rfl) ?_
  obtain ⟨fs_28, v_29, hx_30, hv_31, hw⟩ := hw
  refine x_get hF hC hP in_X1 rfl 0 (by decide) q244 (fun _ z => z) hx_30 hv_31 dX1_difference_28 ?_
  obtain ⟨fs_32, v_33, hx_34, hv_35, hw⟩ := hw
  refine x_getN hF hC hP in_X2 rfl 1 (by decide) q154 (fun _ z => z) hx_34 hv_35 dX1_difference_31 ?_
  refine lv_iload_n hF.1 hF.2.1 dX1_difference_34 rfl (lv_at hl 4 rfl) ?_
  obtain ⟨ho_38, hw⟩ := hw
  refine hk_q (hr_V (As := [.int p2]) (rest := []) (T := TJ2) (N := 3) (ci := 8) hF hl.1 hC hP hS (metJ2_get l K _ _ X_19 v_33 p2) rfl (cwV 1 hF.2.2.2.2 (lw_V q419 q347 q348 q79 q349) rfl rfl rfl (by decide +kernel) ⟨Nat.le_of_ble_eq_true rfl, Nat.le_of_ble_eq_true rfl⟩) ho_38 hw rfl rfl (Nat.le_of_ble_eq_true rfl) dX1_difference_35 ⟨hc_6, hs_7⟩) hP hS (fun r_36 X_37 H locs hw hP hS => ?_)
  obtain ⟨a_39, e_40, hw⟩ := hw
  subst e_40
  rw [va_rf_some]
  obtain ⟨h_41, hw⟩ := hw
  refine x_cast (T := TX7) (N := 3) (ci := 6) hF hC hP rfl q1274 h_41 dX1_difference_38 ?_
  obtain ⟨fs_42, v_43, hx_44, hv_45, hw⟩ := hw
  refine x_getN hF hC hP in_X7 rfl 0 (by decide) q922 (fun _ z => z) hx_44 hv_45 dX1_difference_41 ?_
  refine lv_istore (lv' := [(6, .int v_43), (5, .int v_25), (4, .ref a_8), (0, .ref p0), (1, .int p1), (2, .int p2), (3, .int p3)]) hF.1 hF.2.1 dX1_difference_44 hl (by decide) rfl (fun ls hl => ?_)
  refine lv_aload hF.1 hF.2.1 dX1_difference_46 (lv_at hl 2 rfl) ?_
  obtain ⟨fs_46, v_47, hx_48, hv_49, hw⟩ := hw
  refine x_getN hF hC hP in_X6 rfl 1 (by decide) q380 (fun _ z => z) hx_48 hv_49 dX1_difference_48 ?_
  refine lv_iload hF.1 hF.2.1 dX1_difference_51 (lv_at hl 1 rfl) ?_
  obtain ⟨n_50, f_51, hx_52, hi_53, hw⟩ := hw
  refine x_lald hF hC hP hx_52 hi_53 dX1_difference_53 ?_
  generalize f_51 (Int32.toNatClampNeg v_25) = v_54 at hw ⊢
  refine lv_aload hF.1 hF.2.1 dX1_difference_54 (lv_at hl 2 rfl) ?_
  obtain ⟨fs_55, v_56, hx_57, hv_58, hw⟩ := hw
  refine x_getN hF hC hP in_X6 rfl 1 (by decide) q380 (fun _ z => z) hx_57 hv_58 dX1_difference_56 ?_
  refine lv_iload hF.1 hF.2.1 dX1_difference_59 (lv_at hl 0 rfl) ?_
  obtain ⟨n_59, f_60, hx_61, hi_62, hw⟩ := hw
  refine x_lald hF hC hP hx_61 hi_62 dX1_difference_61 ?_
  generalize f_60 (Int32.toNatClampNeg v_43) = v_63 at hw ⊢
  refine hp_l (hrp_S (As := [.long v_54, .long v_63]) (rest := []) hF hl.1 (metX1_divisor l _ v_54 v_63) (va_cwS 2 hF.2.2.2.2 (lw_S q1240 q366 q75 q367) rfl rfl rfl (by decide +kernel) ⟨Nat.le_of_ble_eq_true rfl, Nat.le_of_ble_eq_true rfl⟩) hw rfl rfl (Nat.le_of_ble_eq_true rfl) dX1_difference_62 ⟨hc_6, hs_7⟩) (fun r_64 hw => ?_)
  refine lv_lstore (lv' := [(7, .long r_64), (6, .int v_43), (5, .int v_25), (4, .ref a_8), (0, .ref p0), (1, .int p1), (2, .int p2), (3, .int p3)]) hF.1 hF.2.1 dX1_difference_65 hl (by decide) rfl (fun ls hl => ?_)
  refine lv_aload hF.1 hF.2.1 dX1_difference_67 (lv_at hl 3 rfl) ?_
  obtain ⟨fs_65, v_66, hx_67, hv_68, hw⟩ := hw
  refine x_getN hF hC hP in_X6 rfl 0 (by decide) q377 (fun _ z => z) hx_67 hv_68 dX1_difference_69 ?_
  refine lv_iload hF.1 hF.2.1 dX1_difference_72 (lv_at hl 2 rfl) ?_
  obtain ⟨n_69, f_70, hx_71, hi_72, hw⟩ := hw
  refine x_lald hF hC hP hx_71 hi_72 dX1_difference_74 ?_
  generalize f_70 (Int32.toNatClampNeg v_25) = v_73 at hw ⊢
  refine lv_aload hF.1 hF.2.1 dX1_difference_75 (lv_at hl 3 rfl) ?_
  obtain ⟨fs_74, v_75, hx_76, hv_77, hw⟩ := hw
  refine x_getN hF hC hP in_X6 rfl 1 (by decide) q380 (fun _ z => z) hx_76 hv_77 dX1_difference_77 ?_
  refine lv_iload hF.1 hF.2.1 dX1_difference_80 (lv_at hl 1 rfl) ?_
  obtain ⟨n_78, f_79, hx_80, hi_81, hw⟩ := hw
  refine x_lald hF hC hP hx_80 hi_81 dX1_difference_82 ?_
  generalize f_79 (Int32.toNatClampNeg v_43) = v_82 at hw ⊢
  refine lv_lload hF.1 hF.2.1 dX1_difference_83 (lv_at hl 0 rfl) ?_
  obtain ⟨h_83, hw⟩ := hw
  refine lv_ldiv hF.1 hF.2.1 dX1_difference_85 h_83 ?_
  refine lv_lmul hF.1 hF.2.1 dX1_difference_86 ?_
  refine lv_aload hF.1 hF.2.1 dX1_difference_87 (lv_at hl 3 rfl) ?_
  obtain ⟨fs_84, v_85, hx_86, hv_87, hw⟩ := hw
  refine x_getN hF hC hP in_X6 rfl 0 (by decide) q377 (fun _ z => z) hx_86 hv_87 dX1_difference_89 ?_
  refine lv_iload hF.1 hF.2.1 dX1_difference_92 (lv_at hl 1 rfl) ?_
  obtain ⟨n_88, f_89, hx_90, hi_91, hw⟩ := hw
  refine x_lald hF hC hP hx_90 hi_91 dX1_difference_94 ?_
  generalize f_89 (Int32.toNatClampNeg v_43) = v_92 at hw ⊢
  refine lv_aload hF.1 hF.2.1 dX1_difference_95 (lv_at hl 3 rfl) ?_
  obtain ⟨fs_93, v_94, hx_95, hv_96, hw⟩ := hw
  refine x_getN hF hC hP in_X6 rfl 1 (by decide) q380 (fun _ z => z) hx_95 hv_96 dX1_difference_97 ?_
  refine lv_iload hF.1 hF.2.1 dX1_difference_100 (lv_at hl 2 rfl) ?_
  obtain ⟨n_97, f_98, hx_99, hi_100, hw⟩ := hw
  refine x_lald hF hC hP hx_99 hi_100 dX1_difference_102 ?_
  generalize f_98 (Int32.toNatClampNeg v_25) = v_101 at hw ⊢
  refine lv_lload hF.1 hF.2.1 dX1_difference_103 (lv_at hl 0 rfl) ?_
  obtain ⟨h_102, hw⟩ := hw
  refine lv_ldiv hF.1 hF.2.1 dX1_difference_105 h_102 ?_
  refine lv_lmul hF.1 hF.2.1 dX1_difference_106 ?_
  refine lv_lsub hF.1 hF.2.1 dX1_difference_107 ?_
  refine lv_topl (fun x9_103 ex9_103 => ?_)
  have hw := hw x9_103 ex9_103
  refine lv_lstore (lv' := [(9, .long x9_103), (7, .long r_64), (6, .int v_43), (5, .int v_25), (4, .ref a_8), (0, .ref p0), (1, .int p1), (2, .int p2), (3, .int p3)]) hF.1 hF.2.1 dX1_difference_108 hl (by decide) rfl (fun ls hl => ?_)
  refine lv_aload hF.1 hF.2.1 dX1_difference_110 (lv_at hl 4 rfl) ?_
  obtain ⟨fs_104, v_105, hx_106, hv_107, hw⟩ := hw
  refine x_getN hF hC hP in_X6 rfl 1 (by decide) q380 (fun _ z => z) hx_106 hv_107 dX1_difference_112 ?_
  refine lv_iload hF.1 hF.2.1 dX1_difference_115 (lv_at hl 3 rfl) ?_
  obtain ⟨n_108, f_109, hx_110, hi_111, hw⟩ := hw
  refine x_lald hF hC hP hx_110 hi_111 dX1_difference_117 ?_
  generalize f_109 (Int32.toNatClampNeg v_25) = v_112 at hw ⊢
  refine lv_lload hF.1 hF.2.1 dX1_difference_118 (lv_at hl 1 rfl) ?_
  obtain ⟨h_113, hw⟩ := hw
  refine lv_ldiv hF.1 hF.2.1 dX1_difference_120 h_113 ?_
  refine lv_aload hF.1 hF.2.1 dX1_difference_121 (lv_at hl 4 rfl) ?_
  obtain ⟨fs_114, v_115, hx_116, hv_117, hw⟩ := hw
  refine x_getN hF hC hP in_X6 rfl 1 (by decide) q380 (fun _ z => z) hx_116 hv_117 dX1_difference_123 ?_
  refine lv_iload hF.1 hF.2.1 dX1_difference_126 (lv_at hl 2 rfl) ?_
  obtain ⟨n_118, f_119, hx_120, hi_121, hw⟩ := hw
  refine x_lald hF hC hP hx_120 hi_121 dX1_difference_128 ?_
  generalize f_119 (Int32.toNatClampNeg v_43) = v_122 at hw ⊢
  refine lv_lmul hF.1 hF.2.1 dX1_difference_129 ?_
  refine lv_topl (fun x11_123 ex11_123 => ?_)
  have hw := hw x11_123 ex11_123
  refine lv_lstore (lv' := [(11, .long x11_123), (9, .long x9_103), (7, .long r_64), (6, .int v_43), (5, .int v_25), (4, .ref a_8), (0, .ref p0), (1, .int p1), (2, .int p2), (3, .int p3)]) hF.1 hF.2.1 dX1_difference_130 hl (by decide) rfl (fun ls hl => ?_)
  refine lv_lload hF.1 hF.2.1 dX1_difference_132 (lv_at hl 1 rfl) ?_
  refine lv_lload hF.1 hF.2.1 dX1_difference_134 (lv_at hl 0 rfl) ?_
  refine hp_l (hrp_S (As := [.long x9_103, .long x11_123]) (rest := []) hF hl.1 (metX1_divisor l _ x9_103 x11_123) (va_cwS 2 hF.2.2.2.2 (lw_S q1240 q366 q75 q367) rfl rfl rfl (by decide +kernel) ⟨Nat.le_of_ble_eq_true rfl, Nat.le_of_ble_eq_true rfl⟩) hw rfl rfl (Nat.le_of_ble_eq_true rfl) dX1_difference_136 ⟨hc_6, hs_7⟩) (fun r_124 hw => ?_)
  refine lv_lstore (lv' := [(13, .long r_124), (11, .long x11_123), (9, .long x9_103), (7, .long r_64), (6, .int v_43), (5, .int v_25), (4, .ref a_8), (0, .ref p0), (1, .int p1), (2, .int p2), (3, .int p3)]) hF.1 hF.2.1 dX1_difference_139 hl (by decide) rfl (fun ls hl => ?_)
  refine lv_iload_n hF.1 hF.2.1 dX1_difference_141 rfl (lv_at hl 10 rfl) ?_
  refine lv_if_eq (tgt := 153) hF.1 hF.2.1 dX1_difference_142 (by decide) (fun c_125 => ?_) (fun c_125 => ?_)
  · have hw := hw.1 c_125
    refine lv_lload hF.1 hF.2.1 dX1_difference_153 (lv_at hl 1 rfl) ?_
    refine lv_lload hF.1 hF.2.1 dX1_difference_155 (lv_at hl 0 rfl) ?_
    obtain ⟨h_126, hw⟩ := hw
    refine lv_ldiv hF.1 hF.2.1 dX1_difference_157 h_126 ?_
    exact vx_ret (h_lret hF hr hlocks hP hS ⟨hc_6, hs_7⟩ dX1_difference_158 hw)
  · have hw := hw.2 c_125
    refine lv_lload hF.1 hF.2.1 dX1_difference_145 (lv_at hl 2 rfl) ?_
    refine lv_lload hF.1 hF.2.1 dX1_difference_147 (lv_at hl 0 rfl) ?_
    obtain ⟨h_127, hw⟩ := hw
    refine lv_ldiv hF.1 hF.2.1 dX1_difference_149 h_127 ?_
    refine lv_goto (tgt := 158) hF.1 hF.2.1 dX1_difference_150 (by decide) ?_
    exact vx_ret (h_lret hF hr hlocks hP hS ⟨hc_6, hs_7⟩ dX1_difference_158 hw)
def wpX1_differenceAbove (post : Int64 → hX → Prop) (xpost : String → Nat → hX → Prop) (E : Nat) (mc ms : Nat) (X : hX) (p0 : Nat) (p1 : Int32) (p2 : Int32) : Prop := isO X p0 1 ((∃ mc_4 ms_5 : Nat, 0 + mc_4 ≤ mc ∧ 0 + ms_5 ≤ ms ∧ wpX1_difference (fun r_1 X_2 => post r_1 X_2) xpost E mc_4 ms_5 X p0 p1 p2 1))
abbrev wsX1_differenceAbove : List Cond := ws_ yX1_differenceAbove cX1_differenceAbove 3 (some .long)
set_option maxHeartbeats 8000000 in
theorem metX1_differenceAbove (l : Launch) (hlt : l.stackTraces = false) (K : HK) (mc ms : Nat) (sz : Nat) (post : Int64 → hX → Prop) (xpost : String → Nat → hX → Prop) (X0 : hX) (p0 : Nat) (p1 : Int32) (p2 : Int32) : vx_Met l yX1_differenceAbove wsX1_differenceAbove (rmh 9 180 mc ms) (hPc K X0 sz [.ref p0, .int p1, .int p2] (wpX1_differenceAbove post xpost (K.2.2 0) mc ms X0 p0 p1 p2)) (hQl post K X0 sz) (hXC xpost K X0 sz) mc ms (hA X0 sz) := by
  refine vx_ofW (cc := cX1_differenceAbove) (maxL := 3) (ret := (some .long)) (by decide) rfl ?_
  intro p e s m args below meth c s₁ B hml hno hv
  obtain ⟨rfl, hv⟩ := hv
  obtain ⟨hC, hP, hw⟩ := HC.of hv
  have hsz : s.heap.size = sz := hv.1
  subst hsz
  clear hv
  have hout : ∀ {pc : Nat}, ∀ x ∈ c.exceptionTable.toList, covers x pc = false := fun x hx => (hno x hx).elim
  have hr := B.returns
  have hts := atoms_spec (ws := wsX1_differenceAbove) B.pre
  have hts : ∀ w ∈ lw_all, w.before _ s = true := fun w h => hts w (List.mem_cons_of_mem _ h)
  have hF : CallFix p m c cX1_differenceAbove 3 s ([.ref p0, .int p1, .int p2] : List Value).toArray lw_all RX1 := ⟨B.exec, B.bytes, hml, findClass_of_methodNamed B.named, hts⟩
  have hlocks := B.notSynchronized
  have hl := lv_entry ([.ref p0, .int p1, .int p2]) (n := 3) (Nat.le_of_ble_eq_true rfl)
  rw [lg_entry_eq]
  generalize (lg_sl ([.ref p0, .int p1, .int p2]) ++ List.replicate (3 - (lg_sl ([.ref p0, .int p1, .int p2])).length) Slot.unset).toArray = ls at hl ⊢
  have hl : lv_has ls 3 [(0, .ref p0), (1, .int p1), (2, .int p2)] := hl
  have hS : va_S (hA X0 s.heap.size) s.heap s.heap [] := va_S.rf
  unfold wpX1_differenceAbove at hw
  show W p l e (rmh 9 180 mc ms) s m _ below meth c _ _ _ _ _ _
  refine lv_aload_n hF.1 hF.2.1 dX1_differenceAbove_0 rfl (lv_at hl 0 rfl) ?_
  refine lv_iload_n hF.1 hF.2.1 dX1_differenceAbove_1 rfl (lv_at hl 1 rfl) ?_
  refine lv_iload_n hF.1 hF.2.1 dX1_differenceAbove_2 rfl (lv_at hl 2 rfl) ?_
  refine lv_iconst (v := 1) hF.1 hF.2.1 dX1_differenceAbove_3 (by decide) ?_
  obtain ⟨ho_3, hw⟩ := hw
  obtain ⟨mc_4, ms_5, hc_6, hs_7, hw⟩ := hw
  refine hkx_l (hrx_V (As := [.int p1, .int p2, .int 1]) (rest := []) (T := TX1) (N := 4) (ci := 1) hF hl.1 hC hP hS (metX1_difference l hlt K mc_4 ms_5 _ _ _ X0 p0 p1 p2 1) rfl (cwV 3 hF.2.2.2.2 (lw_V q1373 q1375 qs17 q75 q1376) rfl rfl rfl (by decide +kernel) ⟨Nat.le_of_ble_eq_true rfl, Nat.le_of_ble_eq_true rfl⟩) ho_3 hw rfl rfl (Nat.le_of_ble_eq_true rfl) dX1_differenceAbove_4 ⟨hc_6, hs_7⟩) hP hS (fun E9 q9 X9 H locs hw hcl hP hS => ?_) (fun r_1 X_2 H locs hw hP hS => ?_)
  · exact h_out hout hlocks hcl hP hS ⟨hc_6, hs_7⟩ hw
  exact vx_ret (h_lret hF hr hlocks hP hS ⟨hc_6, hs_7⟩ dX1_differenceAbove_7 hw)
def wpX1_comeBackIn (post : Int64 → hX → Prop) (xpost : String → Nat → hX → Prop) (E : Nat) (mc ms : Nat) (X : hX) (p0 : Nat) (p1 : Int32) (p2 : Int32) : Prop := isO X p0 1 ((∃ mc_4 ms_5 : Nat, 0 + mc_4 ≤ mc ∧ 0 + ms_5 ≤ ms ∧ wpX1_difference (fun r_1 X_2 => post r_1 X_2) xpost E mc_4 ms_5 X p0 p1 p2 0))
abbrev wsX1_comeBackIn : List Cond := ws_ yX1_comeBackIn cX1_comeBackIn 3 (some .long)
set_option maxHeartbeats 8000000 in
theorem metX1_comeBackIn (l : Launch) (hlt : l.stackTraces = false) (K : HK) (mc ms : Nat) (sz : Nat) (post : Int64 → hX → Prop) (xpost : String → Nat → hX → Prop) (X0 : hX) (p0 : Nat) (p1 : Int32) (p2 : Int32) : vx_Met l yX1_comeBackIn wsX1_comeBackIn (rmh 9 180 mc ms) (hPc K X0 sz [.ref p0, .int p1, .int p2] (wpX1_comeBackIn post xpost (K.2.2 0) mc ms X0 p0 p1 p2)) (hQl post K X0 sz) (hXC xpost K X0 sz) mc ms (hA X0 sz) := by
  refine vx_ofW (cc := cX1_comeBackIn) (maxL := 3) (ret := (some .long)) (by decide) rfl ?_
  intro p e s m args below meth c s₁ B hml hno hv
  obtain ⟨rfl, hv⟩ := hv
  obtain ⟨hC, hP, hw⟩ := HC.of hv
  have hsz : s.heap.size = sz := hv.1
  subst hsz
  clear hv
  have hout : ∀ {pc : Nat}, ∀ x ∈ c.exceptionTable.toList, covers x pc = false := fun x hx => (hno x hx).elim
  have hr := B.returns
  have hts := atoms_spec (ws := wsX1_comeBackIn) B.pre
  have hts : ∀ w ∈ lw_all, w.before _ s = true := fun w h => hts w (List.mem_cons_of_mem _ h)
  have hF : CallFix p m c cX1_comeBackIn 3 s ([.ref p0, .int p1, .int p2] : List Value).toArray lw_all RX1 := ⟨B.exec, B.bytes, hml, findClass_of_methodNamed B.named, hts⟩
  have hlocks := B.notSynchronized
  have hl := lv_entry ([.ref p0, .int p1, .int p2]) (n := 3) (Nat.le_of_ble_eq_true rfl)
  rw [lg_entry_eq]
  generalize (lg_sl ([.ref p0, .int p1, .int p2]) ++ List.replicate (3 - (lg_sl ([.ref p0, .int p1, .int p2])).length) Slot.unset).toArray = ls at hl ⊢
  have hl : lv_has ls 3 [(0, .ref p0), (1, .int p1), (2, .int p2)] := hl
  have hS : va_S (hA X0 s.heap.size) s.heap s.heap [] := va_S.rf
  unfold wpX1_comeBackIn at hw
  show W p l e (rmh 9 180 mc ms) s m _ below meth c _ _ _ _ _ _
  refine lv_aload_n hF.1 hF.2.1 dX1_comeBackIn_0 rfl (lv_at hl 0 rfl) ?_
  refine lv_iload_n hF.1 hF.2.1 dX1_comeBackIn_1 rfl (lv_at hl 1 rfl) ?_
  refine lv_iload_n hF.1 hF.2.1 dX1_comeBackIn_2 rfl (lv_at hl 2 rfl) ?_
  refine lv_iconst (v := 0) hF.1 hF.2.1 dX1_comeBackIn_3 (by decide) ?_
  obtain ⟨ho_3, hw⟩ := hw
  obtain ⟨mc_4, ms_5, hc_6, hs_7, hw⟩ := hw
  refine hkx_l (hrx_V (As := [.int p1, .int p2, .int 0]) (rest := []) (T := TX1) (N := 4) (ci := 1) hF hl.1 hC hP hS (metX1_difference l hlt K mc_4 ms_5 _ _ _ X0 p0 p1 p2 0) rfl (cwV 3 hF.2.2.2.2 (lw_V q1373 q1375 qs17 q75 q1376) rfl rfl rfl (by decide +kernel) ⟨Nat.le_of_ble_eq_true rfl, Nat.le_of_ble_eq_true rfl⟩) ho_3 hw rfl rfl (Nat.le_of_ble_eq_true rfl) dX1_comeBackIn_4 ⟨hc_6, hs_7⟩) hP hS (fun E9 q9 X9 H locs hw hcl hP hS => ?_) (fun r_1 X_2 H locs hw hP hS => ?_)
  · exact h_out hout hlocks hcl hP hS ⟨hc_6, hs_7⟩ hw
  exact vx_ret (h_lret hF hr hlocks hP hS ⟨hc_6, hs_7⟩ dX1_comeBackIn_7 hw)
def wpX1_allMeetIn_190 (post : Int32 → hX → Prop) (xpost : String → Nat → hX → Prop) (E : Nat) (mc ms : Nat) (x6 : Int32) (z0 : Int32) (X : hX) (kc ks : Nat) : Prop := (∃ mc_2 ms_3 : Nat, kc + mc_2 ≤ mc ∧ ks + ms_3 ≤ ms ∧ wpX1_needSuch (fun X_1 => post x6 X_1) xpost E mc_2 ms_3 X z0)
def wpX1_allMeetIn_179 (post : Int32 → hX → Prop) (xpost : String → Nat → hX → Prop) (E : Nat) (mc ms : Nat) (x6 : Int32) (X : hX) (kc ks : Nat) : Prop := ((x6 = (-1) → wpX1_allMeetIn_190 post xpost E mc ms x6 0 X kc ks) ∧ (¬ x6 = (-1) → wpX1_allMeetIn_190 post xpost E mc ms x6 1 X kc ks))
def wpX1_allMeetIn_171 (post : Int32 → hX → Prop) (xpost : String → Nat → hX → Prop) (E : Nat) (mc ms : Nat) (J81 : Nat → Int32 → Int32 → Int32 → Int32 → Nat → Int32 → Int32 → hX → Nat → Nat → Prop) (x0 : Nat) (x1 : Int32) (x2 : Int32) (x3 : Int32) (x4 : Int32) (x5 : Nat) (x7 : Int32) (z0 : Int32) (X : hX) (kc ks : Nat) : Prop := (∀ x7_7 : Int32, x7_7 = x7 + 1 → J81 x0 x1 x2 x3 x4 x5 z0 x7_7 X kc ks)
def wpX1_allMeetIn_170 (post : Int32 → hX → Prop) (xpost : String → Nat → hX → Prop) (E : Nat) (mc ms : Nat) (J81 : Nat → Int32 → Int32 → Int32 → Int32 → Nat → Int32 → Int32 → hX → Nat → Nat → Prop) (x0 : Nat) (x1 : Int32) (x2 : Int32) (x3 : Int32) (x4 : Int32) (x5 : Nat) (x7 : Int32) (X : hX) (kc ks : Nat) : Prop := wpX1_allMeetIn_171 post xpost E mc ms J81 x0 x1 x2 x3 x4 x5 x7 (-1) X kc ks
def wpX1_allMeetIn_140 (post : Int32 → hX → Prop) (xpost : String → Nat → hX → Prop) (E : Nat) (mc ms : Nat) (J81 : Nat → Int32 → Int32 → Int32 → Int32 → Nat → Int32 → Int32 → hX → Nat → Nat → Prop) (x0 : Nat) (x1 : Int32) (x2 : Int32) (x3 : Int32) (x4 : Int32) (x5 : Nat) (x7 : Int32) (z0 : Int32) (X : hX) (kc ks : Nat) : Prop := ((z0 = 0 → wpX1_allMeetIn_170 post xpost E mc ms J81 x0 x1 x2 x3 x4 x5 x7 X kc ks) ∧ (¬ z0 = 0 → gfA X x0 1 0 (fun v_10 => isO X v_10 2 (wpX2_doMeet (fun r_13 X_14 => ((r_13 = 0 → wpX1_allMeetIn_170 post xpost E mc ms J81 x0 x1 x2 x3 x4 x5 x7 X_14 kc ks) ∧ (¬ r_13 = 0 → wpX1_allMeetIn_171 post xpost E mc ms J81 x0 x1 x2 x3 x4 x5 x7 x7 X_14 kc ks))) E X v_10 x2 x3 x4 x5 x7))))
def wpX1_allMeetIn_139 (post : Int32 → hX → Prop) (xpost : String → Nat → hX → Prop) (E : Nat) (mc ms : Nat) (J81 : Nat → Int32 → Int32 → Int32 → Int32 → Nat → Int32 → Int32 → hX → Nat → Nat → Prop) (x0 : Nat) (x1 : Int32) (x2 : Int32) (x3 : Int32) (x4 : Int32) (x5 : Nat) (x7 : Int32) (X : hX) (kc ks : Nat) : Prop := wpX1_allMeetIn_140 post xpost E mc ms J81 x0 x1 x2 x3 x4 x5 x7 0 X kc ks
def wpX1_allMeetIn_81 (post : Int32 → hX → Prop) (xpost : String → Nat → hX → Prop) (E : Nat) (mc ms : Nat) : Nat → Nat → Int32 → Int32 → Int32 → Int32 → Nat → Int32 → Int32 → hX → Nat → Nat → Prop
  | 0 => fun _ _ _ _ _ _ _ _ _ _ _ => False
  | n + 1 => fun x0 x1 x2 x3 x4 x5 x6 x7 X kc ks => ((1000 < x7 → wpX1_allMeetIn_179 post xpost E mc ms x6 X kc ks) ∧ (¬ 1000 < x7 → ((x6 = (-1) → gfA X x0 1 0 (fun v_20 => isO X v_20 2 (wpX2_doMeet (fun r_23 X_24 => ((r_23 = 0 → wpX1_allMeetIn_139 post xpost E mc ms (wpX1_allMeetIn_81 post xpost E mc ms n) x0 x1 x2 x3 x4 x5 x7 X_24 kc ks) ∧ (¬ r_23 = 0 → gfA X_24 x0 1 0 (fun v_28 => isO X_24 v_28 2 (wpX2_doMeet (fun r_31 X_32 => ((r_31 = 0 → wpX1_allMeetIn_139 post xpost E mc ms (wpX1_allMeetIn_81 post xpost E mc ms n) x0 x1 x2 x3 x4 x5 x7 X_32 kc ks) ∧ (¬ r_31 = 0 → wpX1_allMeetIn_140 post xpost E mc ms (wpX1_allMeetIn_81 post xpost E mc ms n) x0 x1 x2 x3 x4 x5 x7 1 X_32 kc ks))) E X_24 v_28 x1 x3 x4 x5 x7))))) E X v_20 x1 x2 x4 x5 x7))) ∧ (¬ x6 = (-1) → wpX1_allMeetIn_179 post xpost E mc ms x6 X kc ks))))
def wpX1_allMeetIn_39 (post : Int32 → hX → Prop) (xpost : String → Nat → hX → Prop) (E : Nat) (mc ms : Nat) (x0 : Nat) (x1 : Int32) (x2 : Int32) (x3 : Int32) (x4 : Int32) (z0 : Int32) (X : hX) (kc ks : Nat) : Prop := (∃ mc_36 ms_37 : Nat, kc + mc_36 ≤ mc ∧ ks + ms_37 ≤ ms ∧ wpX1_needArgument (fun X_35 => isO X_35 x0 1 ((∃ mc_43 ms_44 : Nat, (kc + mc_36) + mc_43 ≤ mc ∧ (ks + ms_37) + ms_44 ≤ ms ∧ wpX1_drivingBoth (fun r_40 X_41 => (∃ a_47 : Nat, r_40 = some a_47 ∧ gfA X_41 x0 1 0 (fun v_50 => gfA X_41 v_50 2 1 (fun v_54 => isO X_41 v_54 8 (wpJ2_get (fun r_57 X_58 => (∃ a_60 : Nat, r_57 = some a_60 ∧ ((∃ fs, X_58 a_60 = some (.inr (6, fs))) ∧ gfI X_58 a_60 6 0 (fun v_64 => isO X_58 a_47 3 (wpX6_has (fun r_67 X_68 => (∃ mc_71 ms_72 : Nat, ((kc + mc_36) + mc_43) + mc_71 ≤ mc ∧ ((ks + ms_37) + ms_44) + ms_72 ≤ ms ∧ wpX1_needSuch (fun X_70 => ∃ fu : Nat, wpX1_allMeetIn_81 post xpost E mc ms fu x0 x1 x2 x3 x4 a_47 (-1) 1 X_70 (((kc + mc_36) + mc_43) + mc_71) (((ks + ms_37) + ms_44) + ms_72)) xpost E mc_71 ms_72 X_68 r_67)) E X_58 a_47 v_64))))) E X_41 v_54 x3))))) xpost E mc_43 ms_44 X_35 x0 x1 x2))) xpost E mc_36 ms_37 X z0)
def wpX1_allMeetIn_38 (post : Int32 → hX → Prop) (xpost : String → Nat → hX → Prop) (E : Nat) (mc ms : Nat) (x0 : Nat) (x1 : Int32) (x2 : Int32) (x3 : Int32) (x4 : Int32) (X : hX) (kc ks : Nat) : Prop := wpX1_allMeetIn_39 post xpost E mc ms x0 x1 x2 x3 x4 0 X kc ks
def wpX1_allMeetIn (post : Int32 → hX → Prop) (xpost : String → Nat → hX → Prop) (E : Nat) (mc ms : Nat) (X : hX) (p0 : Nat) (p1 : Int32) (p2 : Int32) (p3 : Int32) (p4 : Int32) : Prop := wpX1_isBetween (fun r_75 => ((r_75 = 0 → wpX1_allMeetIn_38 post xpost E mc ms p0 p1 p2 p3 p4 X 0 0) ∧ (¬ r_75 = 0 → gfA X p0 1 0 (fun v_78 => isO X v_78 2 (wpX2_isArm (fun r_81 X_82 => ((r_81 = 0 → wpX1_allMeetIn_38 post xpost E mc ms p0 p1 p2 p3 p4 X_82 0 0) ∧ (¬ r_81 = 0 → ((p3 = p1 → wpX1_allMeetIn_38 post xpost E mc ms p0 p1 p2 p3 p4 X_82 0 0) ∧ (¬ p3 = p1 → ((p3 = p2 → wpX1_allMeetIn_38 post xpost E mc ms p0 p1 p2 p3 p4 X_82 0 0) ∧ (¬ p3 = p2 → wpX1_allMeetIn_39 post xpost E mc ms p0 p1 p2 p3 p4 1 X_82 0 0))))))) E X v_78 p3))))) (Int32.toInt64 p4) 0 600
abbrev wsX1_allMeetIn : List Cond := ws_ yX1_allMeetIn cX1_allMeetIn 10 (some .int)
set_option maxHeartbeats 8000000 in
theorem metX1_allMeetIn (l : Launch) (hlt : l.stackTraces = false) (K : HK) (mc ms : Nat) (sz : Nat) (post : Int32 → hX → Prop) (xpost : String → Nat → hX → Prop) (X0 : hX) (p0 : Nat) (p1 : Int32) (p2 : Int32) (p3 : Int32) (p4 : Int32) : vx_Met l yX1_allMeetIn wsX1_allMeetIn (rmh 8 146 mc ms) (hPc K X0 sz [.ref p0, .int p1, .int p2, .int p3, .int p4] (wpX1_allMeetIn post xpost (K.2.2 0) mc ms X0 p0 p1 p2 p3 p4)) (hQi post K X0 sz) (hXC xpost K X0 sz) mc ms (hA X0 sz) := by
  refine vx_ofW (cc := cX1_allMeetIn) (maxL := 10) (ret := (some .int)) (by decide) rfl ?_
  intro p e s m args below meth c s₁ B hml hno hv
  obtain ⟨rfl, hv⟩ := hv
  obtain ⟨hC, hP, hw⟩ := HC.of hv
  have hsz : s.heap.size = sz := hv.1
  subst hsz
  clear hv
  have hout : ∀ {pc : Nat}, ∀ x ∈ c.exceptionTable.toList, covers x pc = false := fun x hx => (hno x hx).elim
  have hr := B.returns
  have hts := atoms_spec (ws := wsX1_allMeetIn) B.pre
  have hts : ∀ w ∈ lw_all, w.before _ s = true := fun w h => hts w (List.mem_cons_of_mem _ h)
  have hF : CallFix p m c cX1_allMeetIn 10 s ([.ref p0, .int p1, .int p2, .int p3, .int p4] : List Value).toArray lw_all RX1 := ⟨B.exec, B.bytes, hml, findClass_of_methodNamed B.named, hts⟩
  have hlocks := B.notSynchronized
  have hl := lv_entry ([.ref p0, .int p1, .int p2, .int p3, .int p4]) (n := 10) (Nat.le_of_ble_eq_true rfl)
  rw [lg_entry_eq]
  generalize (lg_sl ([.ref p0, .int p1, .int p2, .int p3, .int p4]) ++ List.replicate (10 - (lg_sl ([.ref p0, .int p1, .int p2, .int p3, .int p4])).length) Slot.unset).toArray = ls at hl ⊢
  have hl : lv_has ls 10 [(0, .ref p0), (1, .int p1), (2, .int p2), (3, .int p3), (4, .int p4)] := hl
  have hS : va_S (hA X0 s.heap.size) s.heap s.heap [] := va_S.rf
  have T190 : ∀ (x6 : Int32) (z0 : Int32) (X : hX) (kc ks : Nat) (H : Heap) (locs : List Loc) (ls : Array Slot), hI K X0 s.heap.size X H → va_S (hA X0 s.heap.size) s.heap H locs → kc ≤ mc ∧ ks ≤ ms → lv_has ls 10 [(6, .int x6)] → wpX1_allMeetIn_190 post xpost (K.2.2 0) mc ms x6 z0 X kc ks → W p l e (rmh 8 146 mc ms) s m ([.ref p0, .int p1, .int p2, .int p3, .int p4] : List Value).toArray below meth c H locs kc ks (vx_MQ below (hQi post K X0 s.heap.size) (hXC xpost K X0 s.heap.size) ([.ref p0, .int p1, .int p2, .int p3, .int p4] : List Value).toArray s mc ms (hA X0 s.heap.size)) (F0 m 190 ls [.int z0]) := by
    intro x6 z0 X kc ks H locs ls hP hS hk hl hw
    unfold wpX1_allMeetIn_190 at hw
    obtain ⟨mc_2, ms_3, hc_4, hs_5, hw⟩ := hw
    refine hkx_v (hrx_S (As := [.int z0]) (rest := []) hF hl.1 hC hP hS (metX1_needSuch l hlt K mc_2 ms_3 _ _ _ X z0) (va_cwS 1 hF.2.2.2.2 (lw_S q1180 q1181 q75 q1182) rfl rfl rfl (by decide +kernel) ⟨Nat.le_of_ble_eq_true rfl, Nat.le_of_ble_eq_true rfl⟩) hw rfl rfl (Nat.le_of_ble_eq_true rfl) dX1_allMeetIn_190 ⟨hc_4, hs_5⟩) hP hS (fun E9 q9 X9 H locs hw hcl hP hS => ?_) (fun X_1 H locs hw hP hS => ?_)
    · exact h_out hout hlocks hcl hP hS ⟨hc_4, hs_5⟩ hw
    refine lv_iload hF.1 hF.2.1 dX1_allMeetIn_193 (lv_at hl 0 rfl) ?_
    exact vx_ret (h_iret hF hr hlocks hP hS ⟨hc_4, hs_5⟩ dX1_allMeetIn_195 hw)
  have T179 : ∀ (x6 : Int32) (X : hX) (kc ks : Nat) (H : Heap) (locs : List Loc) (ls : Array Slot), hI K X0 s.heap.size X H → va_S (hA X0 s.heap.size) s.heap H locs → kc ≤ mc ∧ ks ≤ ms → lv_has ls 10 [(6, .int x6)] → wpX1_allMeetIn_179 post xpost (K.2.2 0) mc ms x6 X kc ks → W p l e (rmh 8 146 mc ms) s m ([.ref p0, .int p1, .int p2, .int p3, .int p4] : List Value).toArray below meth c H locs kc ks (vx_MQ below (hQi post K X0 s.heap.size) (hXC xpost K X0 s.heap.size) ([.ref p0, .int p1, .int p2, .int p3, .int p4] : List Value).toArray s mc ms (hA X0 s.heap.size)) (F0 m 179 ls []) := by
    intro x6 X kc ks H locs ls hP hS hk hl hw
    unfold wpX1_allMeetIn_179 at hw
    refine lv_iload hF.1 hF.2.1 dX1_allMeetIn_179 (lv_at hl 0 rfl) ?_
    refine lv_iconst (v := (-1)) hF.1 hF.2.1 dX1_allMeetIn_181 (by decide) ?_
    refine lv_icmp_eq (tgt := 189) hF.1 hF.2.1 dX1_allMeetIn_182 (by decide) (fun c_6 => ?_) (fun c_6 => ?_)
    · have hw := hw.1 c_6
      refine lv_iconst (v := 0) hF.1 hF.2.1 dX1_allMeetIn_189 (by decide) ?_
      exact T190 x6 0 X kc ks _ _ ls hP hS hk (lv_sub hl [0] rfl) hw
    · have hw := hw.2 c_6
      refine lv_iconst (v := 1) hF.1 hF.2.1 dX1_allMeetIn_185 (by decide) ?_
      refine lv_goto (tgt := 190) hF.1 hF.2.1 dX1_allMeetIn_186 (by decide) ?_
      exact T190 x6 1 X kc ks _ _ ls hP hS hk (lv_sub hl [0] rfl) hw
  have T171 : ∀ (J81 : Nat → Int32 → Int32 → Int32 → Int32 → Nat → Int32 → Int32 → hX → Nat → Nat → Prop) (hJ81 : ∀ (x0 : Nat) (x1 : Int32) (x2 : Int32) (x3 : Int32) (x4 : Int32) (x5 : Nat) (x6 : Int32) (x7 : Int32) (X : hX) (kc ks : Nat) (H : Heap) (locs : List Loc) (ls : Array Slot), hI K X0 s.heap.size X H → va_S (hA X0 s.heap.size) s.heap H locs → kc ≤ mc ∧ ks ≤ ms → lv_has ls 10 [(0, .ref x0), (1, .int x1), (2, .int x2), (3, .int x3), (4, .int x4), (5, .ref x5), (6, .int x6), (7, .int x7)] → J81 x0 x1 x2 x3 x4 x5 x6 x7 X kc ks → W p l e (rmh 8 146 mc ms) s m ([.ref p0, .int p1, .int p2, .int p3, .int p4] : List Value).toArray below meth c H locs kc ks (vx_MQ below (hQi post K X0 s.heap.size) (hXC xpost K X0 s.heap.size) ([.ref p0, .int p1, .int p2, .int p3, .int p4] : List Value).toArray s mc ms (hA X0 s.heap.size)) (F0 m 81 ls [])), ∀ (x0 : Nat) (x1 : Int32) (x2 : Int32) (x3 : Int32) (x4 : Int32) (x5 : Nat) (x7 : Int32) (z0 : Int32) (X : hX) (kc ks : Nat) (H : Heap) (locs : List Loc) (ls : Array Slot), hI K X0 s.heap.size X H → va_S (hA X0 s.heap.size) s.heap H locs → kc ≤ mc ∧ ks ≤ ms → lv_has ls 10 [(0, .ref x0), (1, .int x1), (2, .int x2), (3, .int x3), (4, .int x4), (5, .ref x5), (7, .int x7)] → wpX1_allMeetIn_171 post xpost (K.2.2 0) mc ms J81 x0 x1 x2 x3 x4 x5 x7 z0 X kc ks → W p l e (rmh 8 146 mc ms) s m ([.ref p0, .int p1, .int p2, .int p3, .int p4] : List Value).toArray below meth c H locs kc ks (vx_MQ below (hQi post K X0 s.heap.size) (hXC xpost K X0 s.heap.size) ([.ref p0, .int p1, .int p2, .int p3, .int p4] : List Value).toArray s mc ms (hA X0 s.heap.size)) (F0 m 171 ls [.int z0]) := by
    intro J81 hJ81
    intro x0 x1 x2 x3 x4 x5 x7 z0 X kc ks H locs ls hP hS hk hl hw
    unfold wpX1_allMeetIn_171 at hw
    refine lv_istore (lv' := [(6, .int z0), (0, .ref x0), (1, .int x1), (2, .int x2), (3, .int x3), (4, .int x4), (5, .ref x5), (7, .int x7)]) hF.1 hF.2.1 dX1_allMeetIn_171 hl (by decide) rfl (fun ls hl => ?_)
    obtain ⟨x7_7, ex7_7⟩ : ∃ y : Int32, y = x7 + 1 := ⟨_, rfl⟩
    have hw := hw x7_7 ex7_7
    refine lv_iinc (v := x7_7) (lv' := [(7, .int x7_7), (6, .int z0), (0, .ref x0), (1, .int x1), (2, .int x2), (3, .int x3), (4, .int x4), (5, .ref x5)]) hF.1 hF.2.1 dX1_allMeetIn_173 hl (k := 7) rfl (by rw [ex7_7]; rfl) (by decide) rfl (fun ls hl => ?_)
    refine lv_goto (tgt := 81) hF.1 hF.2.1 dX1_allMeetIn_176 (by decide) ?_
    exact hJ81 x0 x1 x2 x3 x4 x5 z0 x7_7 X kc ks _ _ ls hP hS hk (lv_sub hl [2, 3, 4, 5, 6, 7, 1, 0] rfl) hw
  have T170 : ∀ (J81 : Nat → Int32 → Int32 → Int32 → Int32 → Nat → Int32 → Int32 → hX → Nat → Nat → Prop) (hJ81 : ∀ (x0 : Nat) (x1 : Int32) (x2 : Int32) (x3 : Int32) (x4 : Int32) (x5 : Nat) (x6 : Int32) (x7 : Int32) (X : hX) (kc ks : Nat) (H : Heap) (locs : List Loc) (ls : Array Slot), hI K X0 s.heap.size X H → va_S (hA X0 s.heap.size) s.heap H locs → kc ≤ mc ∧ ks ≤ ms → lv_has ls 10 [(0, .ref x0), (1, .int x1), (2, .int x2), (3, .int x3), (4, .int x4), (5, .ref x5), (6, .int x6), (7, .int x7)] → J81 x0 x1 x2 x3 x4 x5 x6 x7 X kc ks → W p l e (rmh 8 146 mc ms) s m ([.ref p0, .int p1, .int p2, .int p3, .int p4] : List Value).toArray below meth c H locs kc ks (vx_MQ below (hQi post K X0 s.heap.size) (hXC xpost K X0 s.heap.size) ([.ref p0, .int p1, .int p2, .int p3, .int p4] : List Value).toArray s mc ms (hA X0 s.heap.size)) (F0 m 81 ls [])), ∀ (x0 : Nat) (x1 : Int32) (x2 : Int32) (x3 : Int32) (x4 : Int32) (x5 : Nat) (x7 : Int32) (X : hX) (kc ks : Nat) (H : Heap) (locs : List Loc) (ls : Array Slot), hI K X0 s.heap.size X H → va_S (hA X0 s.heap.size) s.heap H locs → kc ≤ mc ∧ ks ≤ ms → lv_has ls 10 [(0, .ref x0), (1, .int x1), (2, .int x2), (3, .int x3), (4, .int x4), (5, .ref x5), (7, .int x7)] → wpX1_allMeetIn_170 post xpost (K.2.2 0) mc ms J81 x0 x1 x2 x3 x4 x5 x7 X kc ks → W p l e (rmh 8 146 mc ms) s m ([.ref p0, .int p1, .int p2, .int p3, .int p4] : List Value).toArray below meth c H locs kc ks (vx_MQ below (hQi post K X0 s.heap.size) (hXC xpost K X0 s.heap.size) ([.ref p0, .int p1, .int p2, .int p3, .int p4] : List Value).toArray s mc ms (hA X0 s.heap.size)) (F0 m 170 ls []) := by
    intro J81 hJ81
    intro x0 x1 x2 x3 x4 x5 x7 X kc ks H locs ls hP hS hk hl hw
    unfold wpX1_allMeetIn_170 at hw
    refine lv_iconst (v := (-1)) hF.1 hF.2.1 dX1_allMeetIn_170 (by decide) ?_
    exact T171 _ hJ81 x0 x1 x2 x3 x4 x5 x7 (-1) X kc ks _ _ ls hP hS hk (lv_sub hl [0, 1, 2, 3, 4, 5, 6] rfl) hw
  have T140 : ∀ (J81 : Nat → Int32 → Int32 → Int32 → Int32 → Nat → Int32 → Int32 → hX → Nat → Nat → Prop) (hJ81 : ∀ (x0 : Nat) (x1 : Int32) (x2 : Int32) (x3 : Int32) (x4 : Int32) (x5 : Nat) (x6 : Int32) (x7 : Int32) (X : hX) (kc ks : Nat) (H : Heap) (locs : List Loc) (ls : Array Slot), hI K X0 s.heap.size X H → va_S (hA X0 s.heap.size) s.heap H locs → kc ≤ mc ∧ ks ≤ ms → lv_has ls 10 [(0, .ref x0), (1, .int x1), (2, .int x2), (3, .int x3), (4, .int x4), (5, .ref x5), (6, .int x6), (7, .int x7)] → J81 x0 x1 x2 x3 x4 x5 x6 x7 X kc ks → W p l e (rmh 8 146 mc ms) s m ([.ref p0, .int p1, .int p2, .int p3, .int p4] : List Value).toArray below meth c H locs kc ks (vx_MQ below (hQi post K X0 s.heap.size) (hXC xpost K X0 s.heap.size) ([.ref p0, .int p1, .int p2, .int p3, .int p4] : List Value).toArray s mc ms (hA X0 s.heap.size)) (F0 m 81 ls [])), ∀ (x0 : Nat) (x1 : Int32) (x2 : Int32) (x3 : Int32) (x4 : Int32) (x5 : Nat) (x7 : Int32) (z0 : Int32) (X : hX) (kc ks : Nat) (H : Heap) (locs : List Loc) (ls : Array Slot), hI K X0 s.heap.size X H → va_S (hA X0 s.heap.size) s.heap H locs → kc ≤ mc ∧ ks ≤ ms → lv_has ls 10 [(0, .ref x0), (1, .int x1), (2, .int x2), (3, .int x3), (4, .int x4), (5, .ref x5), (7, .int x7)] → wpX1_allMeetIn_140 post xpost (K.2.2 0) mc ms J81 x0 x1 x2 x3 x4 x5 x7 z0 X kc ks → W p l e (rmh 8 146 mc ms) s m ([.ref p0, .int p1, .int p2, .int p3, .int p4] : List Value).toArray below meth c H locs kc ks (vx_MQ below (hQi post K X0 s.heap.size) (hXC xpost K X0 s.heap.size) ([.ref p0, .int p1, .int p2, .int p3, .int p4] : List Value).toArray s mc ms (hA X0 s.heap.size)) (F0 m 140 ls [.int z0]) := by
    intro J81 hJ81
    intro x0 x1 x2 x3 x4 x5 x7 z0 X kc ks H locs ls hP hS hk hl hw
    unfold wpX1_allMeetIn_140 at hw
    refine lv_istore (lv' := [(9, .int z0), (0, .ref x0), (1, .int x1), (2, .int x2), (3, .int x3), (4, .int x4), (5, .ref x5), (7, .int x7)]) hF.1 hF.2.1 dX1_allMeetIn_140 hl (by decide) rfl (fun ls hl => ?_)
    refine lv_iload hF.1 hF.2.1 dX1_allMeetIn_142 (lv_at hl 0 rfl) ?_
    refine lv_if_eq (tgt := 170) hF.1 hF.2.1 dX1_allMeetIn_144 (by decide) (fun c_8 => ?_) (fun c_8 => ?_)
    · have hw := hw.1 c_8
      exact T170 _ hJ81 x0 x1 x2 x3 x4 x5 x7 X kc ks _ _ ls hP hS hk (lv_sub hl [1, 2, 3, 4, 5, 6, 7] rfl) hw
    · have hw := hw.2 c_8
      refine lv_aload_n hF.1 hF.2.1 dX1_allMeetIn_147 rfl (lv_at hl 1 rfl) ?_
      obtain ⟨fs_9, v_10, hx_11, hv_12, hw⟩ := hw
      refine x_get hF hC hP in_X1 rfl 0 (by decide) q244 (fun _ z => z) hx_11 hv_12 dX1_allMeetIn_148 ?_
      refine lv_iload_n hF.1 hF.2.1 dX1_allMeetIn_151 rfl (lv_at hl 3 rfl) ?_
      refine lv_iload_n hF.1 hF.2.1 dX1_allMeetIn_152 rfl (lv_at hl 4 rfl) ?_
      refine lv_iload hF.1 hF.2.1 dX1_allMeetIn_153 (lv_at hl 5 rfl) ?_
      refine lv_aload hF.1 hF.2.1 dX1_allMeetIn_155 (lv_at hl 6 rfl) ?_
      refine lv_iload hF.1 hF.2.1 dX1_allMeetIn_157 (lv_at hl 7 rfl) ?_
      obtain ⟨ho_15, hw⟩ := hw
      refine hk_i (hr_V (As := [.int x2, .int x3, .int x4, .ref x5, .int x7]) (rest := []) (T := TX2) (N := 9) (ci := 2) hF hl.1 hC hP hS (metX2_doMeet l K _ _ X v_10 x2 x3 x4 x5 x7) rfl (cwV 5 hF.2.2.2.2 (lw_V q1348 q1349 q1350 q76 q1351) rfl rfl rfl (by decide +kernel) ⟨Nat.le_of_ble_eq_true rfl, Nat.le_of_ble_eq_true rfl⟩) ho_15 hw rfl rfl (Nat.le_of_ble_eq_true rfl) dX1_allMeetIn_159 hk) hP hS (fun r_13 X_14 H locs hw hP hS => ?_)
      refine lv_if_eq (tgt := 170) hF.1 hF.2.1 dX1_allMeetIn_162 (by decide) (fun c_16 => ?_) (fun c_16 => ?_)
      · have hw := hw.1 c_16
        exact T170 _ hJ81 x0 x1 x2 x3 x4 x5 x7 X_14 kc ks _ _ ls hP hS hk (lv_sub hl [1, 2, 3, 4, 5, 6, 7] rfl) hw
      · have hw := hw.2 c_16
        refine lv_iload hF.1 hF.2.1 dX1_allMeetIn_165 (lv_at hl 7 rfl) ?_
        refine lv_goto (tgt := 171) hF.1 hF.2.1 dX1_allMeetIn_167 (by decide) ?_
        exact T171 _ hJ81 x0 x1 x2 x3 x4 x5 x7 x7 X_14 kc ks _ _ ls hP hS hk (lv_sub hl [1, 2, 3, 4, 5, 6, 7] rfl) hw
  have T139 : ∀ (J81 : Nat → Int32 → Int32 → Int32 → Int32 → Nat → Int32 → Int32 → hX → Nat → Nat → Prop) (hJ81 : ∀ (x0 : Nat) (x1 : Int32) (x2 : Int32) (x3 : Int32) (x4 : Int32) (x5 : Nat) (x6 : Int32) (x7 : Int32) (X : hX) (kc ks : Nat) (H : Heap) (locs : List Loc) (ls : Array Slot), hI K X0 s.heap.size X H → va_S (hA X0 s.heap.size) s.heap H locs → kc ≤ mc ∧ ks ≤ ms → lv_has ls 10 [(0, .ref x0), (1, .int x1), (2, .int x2), (3, .int x3), (4, .int x4), (5, .ref x5), (6, .int x6), (7, .int x7)] → J81 x0 x1 x2 x3 x4 x5 x6 x7 X kc ks → W p l e (rmh 8 146 mc ms) s m ([.ref p0, .int p1, .int p2, .int p3, .int p4] : List Value).toArray below meth c H locs kc ks (vx_MQ below (hQi post K X0 s.heap.size) (hXC xpost K X0 s.heap.size) ([.ref p0, .int p1, .int p2, .int p3, .int p4] : List Value).toArray s mc ms (hA X0 s.heap.size)) (F0 m 81 ls [])), ∀ (x0 : Nat) (x1 : Int32) (x2 : Int32) (x3 : Int32) (x4 : Int32) (x5 : Nat) (x7 : Int32) (X : hX) (kc ks : Nat) (H : Heap) (locs : List Loc) (ls : Array Slot), hI K X0 s.heap.size X H → va_S (hA X0 s.heap.size) s.heap H locs → kc ≤ mc ∧ ks ≤ ms → lv_has ls 10 [(0, .ref x0), (1, .int x1), (2, .int x2), (3, .int x3), (4, .int x4), (5, .ref x5), (7, .int x7)] → wpX1_allMeetIn_139 post xpost (K.2.2 0) mc ms J81 x0 x1 x2 x3 x4 x5 x7 X kc ks → W p l e (rmh 8 146 mc ms) s m ([.ref p0, .int p1, .int p2, .int p3, .int p4] : List Value).toArray below meth c H locs kc ks (vx_MQ below (hQi post K X0 s.heap.size) (hXC xpost K X0 s.heap.size) ([.ref p0, .int p1, .int p2, .int p3, .int p4] : List Value).toArray s mc ms (hA X0 s.heap.size)) (F0 m 139 ls []) := by
    intro J81 hJ81
    intro x0 x1 x2 x3 x4 x5 x7 X kc ks H locs ls hP hS hk hl hw
    unfold wpX1_allMeetIn_139 at hw
    refine lv_iconst (v := 0) hF.1 hF.2.1 dX1_allMeetIn_139 (by decide) ?_
    exact T140 _ hJ81 x0 x1 x2 x3 x4 x5 x7 0 X kc ks _ _ ls hP hS hk (lv_sub hl [0, 1, 2, 3, 4, 5, 6] rfl) hw
  have T81 : ∀ (n : Nat), ∀ (x0 : Nat) (x1 : Int32) (x2 : Int32) (x3 : Int32) (x4 : Int32) (x5 : Nat) (x6 : Int32) (x7 : Int32) (X : hX) (kc ks : Nat) (H : Heap) (locs : List Loc) (ls : Array Slot), hI K X0 s.heap.size X H → va_S (hA X0 s.heap.size) s.heap H locs → kc ≤ mc ∧ ks ≤ ms → lv_has ls 10 [(0, .ref x0), (1, .int x1), (2, .int x2), (3, .int x3), (4, .int x4), (5, .ref x5), (6, .int x6), (7, .int x7)] → wpX1_allMeetIn_81 post xpost (K.2.2 0) mc ms n x0 x1 x2 x3 x4 x5 x6 x7 X kc ks → W p l e (rmh 8 146 mc ms) s m ([.ref p0, .int p1, .int p2, .int p3, .int p4] : List Value).toArray below meth c H locs kc ks (vx_MQ below (hQi post K X0 s.heap.size) (hXC xpost K X0 s.heap.size) ([.ref p0, .int p1, .int p2, .int p3, .int p4] : List Value).toArray s mc ms (hA X0 s.heap.size)) (F0 m 81 ls []) := by
    intro n
    induction n with
    | zero =>
      intro x0 x1 x2 x3 x4 x5 x6 x7 X kc ks H locs ls hP hS hk hl hw
      exact False.elim hw
    | succ n ih =>
      intro x0 x1 x2 x3 x4 x5 x6 x7 X kc ks H locs ls hP hS hk hl hw
      unfold wpX1_allMeetIn_81 at hw
      refine lv_iload hF.1 hF.2.1 dX1_allMeetIn_81 (lv_at hl 7 rfl) ?_
      refine lv_sipush (v := 1000) hF.1 hF.2.1 dX1_allMeetIn_83 (by decide) ?_
      refine lv_icmp_gt (tgt := 179) hF.1 hF.2.1 dX1_allMeetIn_86 (by decide) (fun c_17 => ?_) (fun c_17 => ?_)
      · have hw := hw.1 c_17
        exact T179 x6 X kc ks _ _ ls hP hS hk (lv_sub hl [6] rfl) hw
      · have hw := hw.2 c_17
        refine lv_iload hF.1 hF.2.1 dX1_allMeetIn_89 (lv_at hl 6 rfl) ?_
        refine lv_iconst (v := (-1)) hF.1 hF.2.1 dX1_allMeetIn_91 (by decide) ?_
        refine lv_icmp_ne (tgt := 179) hF.1 hF.2.1 dX1_allMeetIn_92 (by decide) (fun c_18 => ?_) (fun c_18 => ?_)
        · have hw := hw.2 c_18
          exact T179 x6 X kc ks _ _ ls hP hS hk (lv_sub hl [6] rfl) hw
        · have hw := hw.1 c_18
          refine lv_aload_n hF.1 hF.2.1 dX1_allMeetIn_95 rfl (lv_at hl 0 rfl) ?_
          obtain ⟨fs_19, v_20, hx_21, hv_22, hw⟩ := hw
          refine x_get hF hC hP in_X1 rfl 0 (by decide) q244 (fun _ z => z) hx_21 hv_22 dX1_allMeetIn_96 ?_
          refine lv_iload_n hF.1 hF.2.1 dX1_allMeetIn_99 rfl (lv_at hl 1 rfl) ?_
          refine lv_iload_n hF.1 hF.2.1 dX1_allMeetIn_100 rfl (lv_at hl 2 rfl) ?_
          refine lv_iload hF.1 hF.2.1 dX1_allMeetIn_101 (lv_at hl 4 rfl) ?_
          refine lv_aload hF.1 hF.2.1 dX1_allMeetIn_103 (lv_at hl 5 rfl) ?_
          refine lv_iload hF.1 hF.2.1 dX1_allMeetIn_105 (lv_at hl 7 rfl) ?_
          obtain ⟨ho_25, hw⟩ := hw
          refine hk_i (hr_V (As := [.int x1, .int x2, .int x4, .ref x5, .int x7]) (rest := []) (T := TX2) (N := 9) (ci := 2) hF hl.1 hC hP hS (metX2_doMeet l K _ _ X v_20 x1 x2 x4 x5 x7) rfl (cwV 5 hF.2.2.2.2 (lw_V q1348 q1349 q1350 q76 q1351) rfl rfl rfl (by decide +kernel) ⟨Nat.le_of_ble_eq_true rfl, Nat.le_of_ble_eq_true rfl⟩) ho_25 hw rfl rfl (Nat.le_of_ble_eq_true rfl) dX1_allMeetIn_107 hk) hP hS (fun r_23 X_24 H locs hw hP hS => ?_)
          refine lv_istore (lv' := [(8, .int r_23), (0, .ref x0), (1, .int x1), (2, .int x2), (3, .int x3), (4, .int x4), (5, .ref x5), (6, .int x6), (7, .int x7)]) hF.1 hF.2.1 dX1_allMeetIn_110 hl (by decide) rfl (fun ls hl => ?_)
          refine lv_iload hF.1 hF.2.1 dX1_allMeetIn_112 (lv_at hl 0 rfl) ?_
          refine lv_if_eq (tgt := 139) hF.1 hF.2.1 dX1_allMeetIn_114 (by decide) (fun c_26 => ?_) (fun c_26 => ?_)
          · have hw := hw.1 c_26
            exact T139 _ ih x0 x1 x2 x3 x4 x5 x7 X_24 kc ks _ _ ls hP hS hk (lv_sub hl [1, 2, 3, 4, 5, 6, 8] rfl) hw
          · have hw := hw.2 c_26
            refine lv_aload_n hF.1 hF.2.1 dX1_allMeetIn_117 rfl (lv_at hl 1 rfl) ?_
            obtain ⟨fs_27, v_28, hx_29, hv_30, hw⟩ := hw
            refine x_get hF hC hP in_X1 rfl 0 (by decide) q244 (fun _ z => z) hx_29 hv_30 dX1_allMeetIn_118 ?_
            refine lv_iload_n hF.1 hF.2.1 dX1_allMeetIn_121 rfl (lv_at hl 2 rfl) ?_
            refine lv_iload_n hF.1 hF.2.1 dX1_allMeetIn_122 rfl (lv_at hl 4 rfl) ?_
            refine lv_iload hF.1 hF.2.1 dX1_allMeetIn_123 (lv_at hl 5 rfl) ?_
            refine lv_aload hF.1 hF.2.1 dX1_allMeetIn_125 (lv_at hl 6 rfl) ?_
            refine lv_iload hF.1 hF.2.1 dX1_allMeetIn_127 (lv_at hl 8 rfl) ?_
            obtain ⟨ho_33, hw⟩ := hw
            refine hk_i (hr_V (As := [.int x1, .int x3, .int x4, .ref x5, .int x7]) (rest := []) (T := TX2) (N := 9) (ci := 2) hF hl.1 hC hP hS (metX2_doMeet l K _ _ X_24 v_28 x1 x3 x4 x5 x7) rfl (cwV 5 hF.2.2.2.2 (lw_V q1348 q1349 q1350 q76 q1351) rfl rfl rfl (by decide +kernel) ⟨Nat.le_of_ble_eq_true rfl, Nat.le_of_ble_eq_true rfl⟩) ho_33 hw rfl rfl (Nat.le_of_ble_eq_true rfl) dX1_allMeetIn_129 hk) hP hS (fun r_31 X_32 H locs hw hP hS => ?_)
            refine lv_if_eq (tgt := 139) hF.1 hF.2.1 dX1_allMeetIn_132 (by decide) (fun c_34 => ?_) (fun c_34 => ?_)
            · have hw := hw.1 c_34
              exact T139 _ ih x0 x1 x2 x3 x4 x5 x7 X_32 kc ks _ _ ls hP hS hk (lv_sub hl [1, 2, 3, 4, 5, 6, 8] rfl) hw
            · have hw := hw.2 c_34
              refine lv_iconst (v := 1) hF.1 hF.2.1 dX1_allMeetIn_135 (by decide) ?_
              refine lv_goto (tgt := 140) hF.1 hF.2.1 dX1_allMeetIn_136 (by decide) ?_
              exact T140 _ ih x0 x1 x2 x3 x4 x5 x7 1 X_32 kc ks _ _ ls hP hS hk (lv_sub hl [1, 2, 3, 4, 5, 6, 8] rfl) hw
  have T39 : ∀ (x0 : Nat) (x1 : Int32) (x2 : Int32) (x3 : Int32) (x4 : Int32) (z0 : Int32) (X : hX) (kc ks : Nat) (H : Heap) (locs : List Loc) (ls : Array Slot), hI K X0 s.heap.size X H → va_S (hA X0 s.heap.size) s.heap H locs → kc ≤ mc ∧ ks ≤ ms → lv_has ls 10 [(0, .ref x0), (1, .int x1), (2, .int x2), (3, .int x3), (4, .int x4)] → wpX1_allMeetIn_39 post xpost (K.2.2 0) mc ms x0 x1 x2 x3 x4 z0 X kc ks → W p l e (rmh 8 146 mc ms) s m ([.ref p0, .int p1, .int p2, .int p3, .int p4] : List Value).toArray below meth c H locs kc ks (vx_MQ below (hQi post K X0 s.heap.size) (hXC xpost K X0 s.heap.size) ([.ref p0, .int p1, .int p2, .int p3, .int p4] : List Value).toArray s mc ms (hA X0 s.heap.size)) (F0 m 39 ls [.int z0]) := by
    intro x0 x1 x2 x3 x4 z0 X kc ks H locs ls hP hS hk hl hw
    unfold wpX1_allMeetIn_39 at hw
    obtain ⟨mc_36, ms_37, hc_38, hs_39, hw⟩ := hw
    refine hkx_v (hrx_S (As := [.int z0]) (rest := []) hF hl.1 hC hP hS (metX1_needArgument l hlt K mc_36 ms_37 _ _ _ X z0) (va_cwS 1 hF.2.2.2.2 (lw_S q1140 q1141 q75 q1142) rfl rfl rfl (by decide +kernel) ⟨Nat.le_of_ble_eq_true rfl, Nat.le_of_ble_eq_true rfl⟩) hw rfl rfl (Nat.le_of_ble_eq_true rfl) dX1_allMeetIn_39 ⟨hc_38, hs_39⟩) hP hS (fun E9 q9 X9 H locs hw hcl hP hS => ?_) (fun X_35 H locs hw hP hS => ?_)
    · exact h_out hout hlocks hcl hP hS ⟨hc_38, hs_39⟩ hw
    refine lv_aload_n hF.1 hF.2.1 dX1_allMeetIn_42 rfl (lv_at hl 0 rfl) ?_
    refine lv_iload_n hF.1 hF.2.1 dX1_allMeetIn_43 rfl (lv_at hl 1 rfl) ?_
    refine lv_iload_n hF.1 hF.2.1 dX1_allMeetIn_44 rfl (lv_at hl 2 rfl) ?_
    obtain ⟨ho_42, hw⟩ := hw
    obtain ⟨mc_43, ms_44, hc_45, hs_46, hw⟩ := hw
    refine hkx_q (hrx_V (As := [.int x1, .int x2]) (rest := []) (T := TX1) (N := 4) (ci := 1) hF hl.1 hC hP hS (metX1_drivingBoth l hlt K mc_43 ms_44 _ _ _ X_35 x0 x1 x2) rfl (cwV 2 hF.2.2.2.2 (lw_V q1344 q1346 qs16 q75 q1347) rfl rfl rfl (by decide +kernel) ⟨Nat.le_of_ble_eq_true rfl, Nat.le_of_ble_eq_true rfl⟩) ho_42 hw rfl rfl (Nat.le_of_ble_eq_true rfl) dX1_allMeetIn_45 ⟨hc_45, hs_46⟩) hP hS (fun E9 q9 X9 H locs hw hcl hP hS => ?_) (fun r_40 X_41 H locs hw hP hS => ?_)
    · exact h_out hout hlocks hcl hP hS ⟨hc_45, hs_46⟩ hw
    obtain ⟨a_47, e_48, hw⟩ := hw
    subst e_48
    rw [va_rf_some]
    refine lv_astore (lv' := [(5, .ref a_47), (0, .ref x0), (1, .int x1), (2, .int x2), (3, .int x3), (4, .int x4)]) hF.1 hF.2.1 dX1_allMeetIn_48 hl (by decide) rfl (fun ls hl => ?_)
    refine lv_aload hF.1 hF.2.1 dX1_allMeetIn_50 (lv_at hl 0 rfl) ?_
    refine lv_aload_n hF.1 hF.2.1 dX1_allMeetIn_52 rfl (lv_at hl 1 rfl) ?_
    obtain ⟨fs_49, v_50, hx_51, hv_52, hw⟩ := hw
    refine x_get hF hC hP in_X1 rfl 0 (by decide) q244 (fun _ z => z) hx_51 hv_52 dX1_allMeetIn_53 ?_
    obtain ⟨fs_53, v_54, hx_55, hv_56, hw⟩ := hw
    refine x_getN hF hC hP in_X2 rfl 1 (by decide) q154 (fun _ z => z) hx_55 hv_56 dX1_allMeetIn_56 ?_
    refine lv_iload_n hF.1 hF.2.1 dX1_allMeetIn_59 rfl (lv_at hl 4 rfl) ?_
    obtain ⟨ho_59, hw⟩ := hw
    refine hk_q (hr_V (As := [.int x3]) (rest := [.ref a_47]) (T := TJ2) (N := 3) (ci := 8) hF hl.1 hC hP hS (metJ2_get l K _ _ X_41 v_54 x3) rfl (cwV 1 hF.2.2.2.2 (lw_V q419 q347 q348 q79 q349) rfl rfl rfl (by decide +kernel) ⟨Nat.le_of_ble_eq_true rfl, Nat.le_of_ble_eq_true rfl⟩) ho_59 hw rfl rfl (Nat.le_of_ble_eq_true rfl) dX1_allMeetIn_60 ⟨hc_45, hs_46⟩) hP hS (fun r_57 X_58 H locs hw hP hS => ?_)
    obtain ⟨a_60, e_61, hw⟩ := hw
    subst e_61
    rw [va_rf_some]
    obtain ⟨h_62, hw⟩ := hw
    refine x_cast (T := TX7) (N := 3) (ci := 6) hF hC hP rfl q1274 h_62 dX1_allMeetIn_63 ?_
    obtain ⟨fs_63, v_64, hx_65, hv_66, hw⟩ := hw
    refine x_getN hF hC hP in_X7 rfl 0 (by decide) q922 (fun _ z => z) hx_65 hv_66 dX1_allMeetIn_66 ?_
    obtain ⟨ho_69, hw⟩ := hw
    refine hk_i (hr_V (As := [.int v_64]) (rest := []) (T := TX6) (N := 9) (ci := 3) hF hl.1 hC hP hS (metX6_has l K _ _ X_58 a_47 v_64) rfl (cwV 1 hF.2.2.2.2 (lw_V q1167 q372 q373 q96 q374) rfl rfl rfl (by decide +kernel) ⟨Nat.le_of_ble_eq_true rfl, Nat.le_of_ble_eq_true rfl⟩) ho_69 hw rfl rfl (Nat.le_of_ble_eq_true rfl) dX1_allMeetIn_69 ⟨hc_45, hs_46⟩) hP hS (fun r_67 X_68 H locs hw hP hS => ?_)
    obtain ⟨mc_71, ms_72, hc_73, hs_74, hw⟩ := hw
    refine hkx_v (hrx_S (As := [.int r_67]) (rest := []) hF hl.1 hC hP hS (metX1_needSuch l hlt K mc_71 ms_72 _ _ _ X_68 r_67) (va_cwS 1 hF.2.2.2.2 (lw_S q1180 q1181 q75 q1182) rfl rfl rfl (by decide +kernel) ⟨Nat.le_of_ble_eq_true rfl, Nat.le_of_ble_eq_true rfl⟩) hw rfl rfl (Nat.le_of_ble_eq_true rfl) dX1_allMeetIn_72 ⟨hc_73, hs_74⟩) hP hS (fun E9 q9 X9 H locs hw hcl hP hS => ?_) (fun X_70 H locs hw hP hS => ?_)
    · exact h_out hout hlocks hcl hP hS ⟨hc_73, hs_74⟩ hw
    refine lv_iconst (v := (-1)) hF.1 hF.2.1 dX1_allMeetIn_75 (by decide) ?_
    refine lv_istore (lv' := [(6, .int (-1)), (5, .ref a_47), (0, .ref x0), (1, .int x1), (2, .int x2), (3, .int x3), (4, .int x4)]) hF.1 hF.2.1 dX1_allMeetIn_76 hl (by decide) rfl (fun ls hl => ?_)
    refine lv_iconst (v := 1) hF.1 hF.2.1 dX1_allMeetIn_78 (by decide) ?_
    refine lv_istore (lv' := [(7, .int 1), (6, .int (-1)), (5, .ref a_47), (0, .ref x0), (1, .int x1), (2, .int x2), (3, .int x3), (4, .int x4)]) hF.1 hF.2.1 dX1_allMeetIn_79 hl (by decide) rfl (fun ls hl => ?_)
    obtain ⟨fu, hw⟩ := hw
    exact T81 fu x0 x1 x2 x3 x4 a_47 (-1) 1 X_70 (((kc + mc_36) + mc_43) + mc_71) (((ks + ms_37) + ms_44) + ms_72) _ _ ls hP hS ⟨hc_73, hs_74⟩ (lv_sub hl [3, 4, 5, 6, 7, 2, 1, 0] rfl) hw
  have T38 : ∀ (x0 : Nat) (x1 : Int32) (x2 : Int32) (x3 : Int32) (x4 : Int32) (X : hX) (kc ks : Nat) (H : Heap) (locs : List Loc) (ls : Array Slot), hI K X0 s.heap.size X H → va_S (hA X0 s.heap.size) s.heap H locs → kc ≤ mc ∧ ks ≤ ms → lv_has ls 10 [(0, .ref x0), (1, .int x1), (2, .int x2), (3, .int x3), (4, .int x4)] → wpX1_allMeetIn_38 post xpost (K.2.2 0) mc ms x0 x1 x2 x3 x4 X kc ks → W p l e (rmh 8 146 mc ms) s m ([.ref p0, .int p1, .int p2, .int p3, .int p4] : List Value).toArray below meth c H locs kc ks (vx_MQ below (hQi post K X0 s.heap.size) (hXC xpost K X0 s.heap.size) ([.ref p0, .int p1, .int p2, .int p3, .int p4] : List Value).toArray s mc ms (hA X0 s.heap.size)) (F0 m 38 ls []) := by
    intro x0 x1 x2 x3 x4 X kc ks H locs ls hP hS hk hl hw
    unfold wpX1_allMeetIn_38 at hw
    refine lv_iconst (v := 0) hF.1 hF.2.1 dX1_allMeetIn_38 (by decide) ?_
    exact T39 x0 x1 x2 x3 x4 0 X kc ks _ _ ls hP hS hk (lv_sub hl [0, 1, 2, 3, 4] rfl) hw
  unfold wpX1_allMeetIn at hw
  show W p l e (rmh 8 146 mc ms) s m _ below meth c _ _ _ _ _ _
  refine lv_iload hF.1 hF.2.1 dX1_allMeetIn_0 (lv_at hl 4 rfl) ?_
  refine lv_i2l hF.1 hF.2.1 dX1_allMeetIn_2 rfl ?_
  refine lv_lconst (v := 0) hF.1 hF.2.1 dX1_allMeetIn_3 (by decide) ?_
  refine lv_ldc2 hF.1 hF.2.1 hF.2.2.2.1 (hF.2.2.2.2 _ q1343) dX1_allMeetIn_4 ?_
  refine hp_i (hrp_S (As := [.long (Int32.toInt64 p4), .long 0, .long 600]) (rest := []) hF hl.1 (metX1_isBetween l _ (Int32.toInt64 p4) 0 600) (va_cwS 3 hF.2.2.2.2 (lw_S q1228 q848 q75 q849) rfl rfl rfl (by decide +kernel) ⟨Nat.le_of_ble_eq_true rfl, Nat.le_of_ble_eq_true rfl⟩) hw rfl rfl (Nat.le_of_ble_eq_true rfl) dX1_allMeetIn_7 ⟨Nat.zero_le _, Nat.zero_le _⟩) (fun r_75 hw => ?_)
  refine lv_if_eq (tgt := 38) hF.1 hF.2.1 dX1_allMeetIn_10 (by decide) (fun c_76 => ?_) (fun c_76 => ?_)
  · have hw := hw.1 c_76
    exact T38 p0 p1 p2 p3 p4 X0 0 0 _ _ ls hP hS ⟨Nat.zero_le _, Nat.zero_le _⟩ (lv_sub hl [0, 1, 2, 3, 4] rfl) hw
  · have hw := hw.2 c_76
    refine lv_aload_n hF.1 hF.2.1 dX1_allMeetIn_13 rfl (lv_at hl 0 rfl) ?_
    obtain ⟨fs_77, v_78, hx_79, hv_80, hw⟩ := hw
    refine x_get hF hC hP in_X1 rfl 0 (by decide) q244 (fun _ z => z) hx_79 hv_80 dX1_allMeetIn_14 ?_
    refine lv_iload_n hF.1 hF.2.1 dX1_allMeetIn_17 rfl (lv_at hl 3 rfl) ?_
    obtain ⟨ho_83, hw⟩ := hw
    refine hk_i (hr_V (As := [.int p3]) (rest := []) (T := TX2) (N := 9) (ci := 2) hF hl.1 hC hP hS (metX2_isArm l K _ _ X0 v_78 p3) rfl (cwV 1 hF.2.2.2.2 (lw_V q1273 q941 q942 q76 q943) rfl rfl rfl (by decide +kernel) ⟨Nat.le_of_ble_eq_true rfl, Nat.le_of_ble_eq_true rfl⟩) ho_83 hw rfl rfl (Nat.le_of_ble_eq_true rfl) dX1_allMeetIn_18 ⟨Nat.zero_le _, Nat.zero_le _⟩) hP hS (fun r_81 X_82 H locs hw hP hS => ?_)
    refine lv_if_eq (tgt := 38) hF.1 hF.2.1 dX1_allMeetIn_21 (by decide) (fun c_84 => ?_) (fun c_84 => ?_)
    · have hw := hw.1 c_84
      exact T38 p0 p1 p2 p3 p4 X_82 0 0 _ _ ls hP hS ⟨Nat.zero_le _, Nat.zero_le _⟩ (lv_sub hl [0, 1, 2, 3, 4] rfl) hw
    · have hw := hw.2 c_84
      refine lv_iload_n hF.1 hF.2.1 dX1_allMeetIn_24 rfl (lv_at hl 3 rfl) ?_
      refine lv_iload_n hF.1 hF.2.1 dX1_allMeetIn_25 rfl (lv_at hl 1 rfl) ?_
      refine lv_icmp_eq (tgt := 38) hF.1 hF.2.1 dX1_allMeetIn_26 (by decide) (fun c_85 => ?_) (fun c_85 => ?_)
      · have hw := hw.1 c_85
        exact T38 p0 p1 p2 p3 p4 X_82 0 0 _ _ ls hP hS ⟨Nat.zero_le _, Nat.zero_le _⟩ (lv_sub hl [0, 1, 2, 3, 4] rfl) hw
      · have hw := hw.2 c_85
        refine lv_iload_n hF.1 hF.2.1 dX1_allMeetIn_29 rfl (lv_at hl 3 rfl) ?_
        refine lv_iload_n hF.1 hF.2.1 dX1_allMeetIn_30 rfl (lv_at hl 2 rfl) ?_
        refine lv_icmp_eq (tgt := 38) hF.1 hF.2.1 dX1_allMeetIn_31 (by decide) (fun c_86 => ?_) (fun c_86 => ?_)
        · have hw := hw.1 c_86
          exact T38 p0 p1 p2 p3 p4 X_82 0 0 _ _ ls hP hS ⟨Nat.zero_le _, Nat.zero_le _⟩ (lv_sub hl [0, 1, 2, 3, 4] rfl) hw
        · have hw := hw.2 c_86
          refine lv_iconst (v := 1) hF.1 hF.2.1 dX1_allMeetIn_34 (by decide) ?_
          refine lv_goto (tgt := 39) hF.1 hF.2.1 dX1_allMeetIn_35 (by decide) ?_
          exact T39 p0 p1 p2 p3 p4 1 X_82 0 0 _ _ ls hP hS ⟨Nat.zero_le _, Nat.zero_le _⟩ (lv_sub hl [0, 1, 2, 3, 4] rfl) hw
def wpX1_farthestIn_81 (post : Int32 → hX → Prop) (xpost : String → Nat → hX → Prop) (E : Nat) (mc ms : Nat) (J16 : Nat → Int32 → Int32 → Nat → Int32 → Int32 → Int32 → hX → Nat → Nat → Prop) (x0 : Nat) (x1 : Int32) (x2 : Int32) (x3 : Nat) (x5 : Int32) (x6 : Int32) (x7 : Int32) (z0 : Int32) (X : hX) (kc ks : Nat) : Prop := wpJ11_max (fun r_1 => (∀ x6_2 : Int32, x6_2 = x6 + 1 → J16 x0 x1 x2 x3 z0 r_1 x6_2 X kc ks)) x5 x7
def wpX1_farthestIn_16 (post : Int32 → hX → Prop) (xpost : String → Nat → hX → Prop) (E : Nat) (mc ms : Nat) : Nat → Nat → Int32 → Int32 → Nat → Int32 → Int32 → Int32 → hX → Nat → Nat → Prop
  | 0 => fun _ _ _ _ _ _ _ _ _ _ => False
  | n + 1 => fun x0 x1 x2 x3 x4 x5 x6 X kc ks => ((1000 < x6 → post x4 X) ∧ (¬ 1000 < x6 → gfA X x0 1 0 (fun v_5 => gfA X x0 1 0 (fun v_9 => gfI X v_9 2 7 (fun v_13 => isO X v_5 2 (wpX2_armAngle (fun r_16 X_17 => gfA X_17 x0 1 0 (fun v_20 => gfA X_17 x0 1 0 (fun v_24 => gfI X_17 v_24 2 7 (fun v_28 => isO X_17 v_20 2 (wpX2_armAngle (fun r_31 X_32 => wpX1_apart (fun r_34 => ((r_34 ≤ x5 → wpX1_farthestIn_81 post xpost E mc ms (wpX1_farthestIn_16 post xpost E mc ms n) x0 x1 x2 x3 x5 x6 r_34 x4 X_32 kc ks) ∧ (¬ r_34 ≤ x5 → wpX1_farthestIn_81 post xpost E mc ms (wpX1_farthestIn_16 post xpost E mc ms n) x0 x1 x2 x3 x5 x6 r_34 x6 X_32 kc ks))) r_16 r_31) E X_17 v_20 x2 x3 (v_28 + x6)))))) E X v_5 x1 x3 (v_13 + x6)))))))
def wpX1_farthestIn (post : Int32 → hX → Prop) (xpost : String → Nat → hX → Prop) (E : Nat) (mc ms : Nat) (X : hX) (p0 : Nat) (p1 : Int32) (p2 : Int32) : Prop := isO X p0 1 ((∃ mc_39 ms_40 : Nat, 0 + mc_39 ≤ mc ∧ 0 + ms_40 ≤ ms ∧ wpX1_drivingBoth (fun r_36 X_37 => (∃ a_43 : Nat, r_36 = some a_43 ∧ ∃ fu : Nat, wpX1_farthestIn_16 post xpost E mc ms fu p0 p1 p2 a_43 (-1) (-1) 1 X_37 (0 + mc_39) (0 + ms_40))) xpost E mc_39 ms_40 X p0 p1 p2))
abbrev wsX1_farthestIn : List Cond := ws_ yX1_farthestIn cX1_farthestIn 8 (some .int)
set_option maxHeartbeats 8000000 in
theorem metX1_farthestIn (l : Launch) (hlt : l.stackTraces = false) (K : HK) (mc ms : Nat) (sz : Nat) (post : Int32 → hX → Prop) (xpost : String → Nat → hX → Prop) (X0 : hX) (p0 : Nat) (p1 : Int32) (p2 : Int32) : vx_Met l yX1_farthestIn wsX1_farthestIn (rmh 8 146 mc ms) (hPc K X0 sz [.ref p0, .int p1, .int p2] (wpX1_farthestIn post xpost (K.2.2 0) mc ms X0 p0 p1 p2)) (hQi post K X0 sz) (hXC xpost K X0 sz) mc ms (hA X0 sz) := by
  refine vx_ofW (cc := cX1_farthestIn) (maxL := 8) (ret := (some .int)) (by decide) rfl ?_
  intro p e s m args below meth c s₁ B hml hno hv
  obtain ⟨rfl, hv⟩ := hv
  obtain ⟨hC, hP, hw⟩ := HC.of hv
  have hsz : s.heap.size = sz := hv.1
  subst hsz
  clear hv
  have hout : ∀ {pc : Nat}, ∀ x ∈ c.exceptionTable.toList, covers x pc = false := fun x hx => (hno x hx).elim
  have hr := B.returns
  have hts := atoms_spec (ws := wsX1_farthestIn) B.pre
  have hts : ∀ w ∈ lw_all, w.before _ s = true := fun w h => hts w (List.mem_cons_of_mem _ h)
  have hF : CallFix p m c cX1_farthestIn 8 s ([.ref p0, .int p1, .int p2] : List Value).toArray lw_all RX1 := ⟨B.exec, B.bytes, hml, findClass_of_methodNamed B.named, hts⟩
  have hlocks := B.notSynchronized
  have hl := lv_entry ([.ref p0, .int p1, .int p2]) (n := 8) (Nat.le_of_ble_eq_true rfl)
  rw [lg_entry_eq]
  generalize (lg_sl ([.ref p0, .int p1, .int p2]) ++ List.replicate (8 - (lg_sl ([.ref p0, .int p1, .int p2])).length) Slot.unset).toArray = ls at hl ⊢
  have hl : lv_has ls 8 [(0, .ref p0), (1, .int p1), (2, .int p2)] := hl
  have hS : va_S (hA X0 s.heap.size) s.heap s.heap [] := va_S.rf
  have T81 : ∀ (J16 : Nat → Int32 → Int32 → Nat → Int32 → Int32 → Int32 → hX → Nat → Nat → Prop) (hJ16 : ∀ (x0 : Nat) (x1 : Int32) (x2 : Int32) (x3 : Nat) (x4 : Int32) (x5 : Int32) (x6 : Int32) (X : hX) (kc ks : Nat) (H : Heap) (locs : List Loc) (ls : Array Slot), hI K X0 s.heap.size X H → va_S (hA X0 s.heap.size) s.heap H locs → kc ≤ mc ∧ ks ≤ ms → lv_has ls 8 [(0, .ref x0), (1, .int x1), (2, .int x2), (3, .ref x3), (4, .int x4), (5, .int x5), (6, .int x6)] → J16 x0 x1 x2 x3 x4 x5 x6 X kc ks → W p l e (rmh 8 146 mc ms) s m ([.ref p0, .int p1, .int p2] : List Value).toArray below meth c H locs kc ks (vx_MQ below (hQi post K X0 s.heap.size) (hXC xpost K X0 s.heap.size) ([.ref p0, .int p1, .int p2] : List Value).toArray s mc ms (hA X0 s.heap.size)) (F0 m 16 ls [])), ∀ (x0 : Nat) (x1 : Int32) (x2 : Int32) (x3 : Nat) (x5 : Int32) (x6 : Int32) (x7 : Int32) (z0 : Int32) (X : hX) (kc ks : Nat) (H : Heap) (locs : List Loc) (ls : Array Slot), hI K X0 s.heap.size X H → va_S (hA X0 s.heap.size) s.heap H locs → kc ≤ mc ∧ ks ≤ ms → lv_has ls 8 [(0, .ref x0), (1, .int x1), (2, .int x2), (3, .ref x3), (5, .int x5), (6, .int x6), (7, .int x7)] → wpX1_farthestIn_81 post xpost (K.2.2 0) mc ms J16 x0 x1 x2 x3 x5 x6 x7 z0 X kc ks → W p l e (rmh 8 146 mc ms) s m ([.ref p0, .int p1, .int p2] : List Value).toArray below meth c H locs kc ks (vx_MQ below (hQi post K X0 s.heap.size) (hXC xpost K X0 s.heap.size) ([.ref p0, .int p1, .int p2] : List Value).toArray s mc ms (hA X0 s.heap.size)) (F0 m 81 ls [.int z0]) := by
    intro J16 hJ16
    intro x0 x1 x2 x3 x5 x6 x7 z0 X kc ks H locs ls hP hS hk hl hw
    unfold wpX1_farthestIn_81 at hw
    refine lv_istore (lv' := [(4, .int z0), (0, .ref x0), (1, .int x1), (2, .int x2), (3, .ref x3), (5, .int x5), (6, .int x6), (7, .int x7)]) hF.1 hF.2.1 dX1_farthestIn_81 hl (by decide) rfl (fun ls hl => ?_)
    refine lv_iload hF.1 hF.2.1 dX1_farthestIn_83 (lv_at hl 5 rfl) ?_
    refine lv_iload hF.1 hF.2.1 dX1_farthestIn_85 (lv_at hl 7 rfl) ?_
    refine hp_i (hrp_S (As := [.int x5, .int x7]) (rest := []) hF hl.1 (metJ11_max l _ x5 x7) (va_cwS 2 hF.2.2.2.2 (lw_S q1399 q466 q89 q467) rfl rfl rfl (by decide +kernel) ⟨Nat.le_of_ble_eq_true rfl, Nat.le_of_ble_eq_true rfl⟩) hw rfl rfl (Nat.le_of_ble_eq_true rfl) dX1_farthestIn_87 hk) (fun r_1 hw => ?_)
    refine lv_istore (lv' := [(5, .int r_1), (4, .int z0), (0, .ref x0), (1, .int x1), (2, .int x2), (3, .ref x3), (6, .int x6), (7, .int x7)]) hF.1 hF.2.1 dX1_farthestIn_90 hl (by decide) rfl (fun ls hl => ?_)
    obtain ⟨x6_2, ex6_2⟩ : ∃ y : Int32, y = x6 + 1 := ⟨_, rfl⟩
    have hw := hw x6_2 ex6_2
    refine lv_iinc (v := x6_2) (lv' := [(6, .int x6_2), (5, .int r_1), (4, .int z0), (0, .ref x0), (1, .int x1), (2, .int x2), (3, .ref x3), (7, .int x7)]) hF.1 hF.2.1 dX1_farthestIn_92 hl (k := 6) rfl (by rw [ex6_2]; rfl) (by decide) rfl (fun ls hl => ?_)
    refine lv_goto (tgt := 16) hF.1 hF.2.1 dX1_farthestIn_95 (by decide) ?_
    exact hJ16 x0 x1 x2 x3 z0 r_1 x6_2 X kc ks _ _ ls hP hS hk (lv_sub hl [3, 4, 5, 6, 2, 1, 0] rfl) hw
  have T16 : ∀ (n : Nat), ∀ (x0 : Nat) (x1 : Int32) (x2 : Int32) (x3 : Nat) (x4 : Int32) (x5 : Int32) (x6 : Int32) (X : hX) (kc ks : Nat) (H : Heap) (locs : List Loc) (ls : Array Slot), hI K X0 s.heap.size X H → va_S (hA X0 s.heap.size) s.heap H locs → kc ≤ mc ∧ ks ≤ ms → lv_has ls 8 [(0, .ref x0), (1, .int x1), (2, .int x2), (3, .ref x3), (4, .int x4), (5, .int x5), (6, .int x6)] → wpX1_farthestIn_16 post xpost (K.2.2 0) mc ms n x0 x1 x2 x3 x4 x5 x6 X kc ks → W p l e (rmh 8 146 mc ms) s m ([.ref p0, .int p1, .int p2] : List Value).toArray below meth c H locs kc ks (vx_MQ below (hQi post K X0 s.heap.size) (hXC xpost K X0 s.heap.size) ([.ref p0, .int p1, .int p2] : List Value).toArray s mc ms (hA X0 s.heap.size)) (F0 m 16 ls []) := by
    intro n
    induction n with
    | zero =>
      intro x0 x1 x2 x3 x4 x5 x6 X kc ks H locs ls hP hS hk hl hw
      exact False.elim hw
    | succ n ih =>
      intro x0 x1 x2 x3 x4 x5 x6 X kc ks H locs ls hP hS hk hl hw
      unfold wpX1_farthestIn_16 at hw
      refine lv_iload hF.1 hF.2.1 dX1_farthestIn_16 (lv_at hl 6 rfl) ?_
      refine lv_sipush (v := 1000) hF.1 hF.2.1 dX1_farthestIn_18 (by decide) ?_
      refine lv_icmp_gt (tgt := 98) hF.1 hF.2.1 dX1_farthestIn_21 (by decide) (fun c_3 => ?_) (fun c_3 => ?_)
      · have hw := hw.1 c_3
        refine lv_iload hF.1 hF.2.1 dX1_farthestIn_98 (lv_at hl 4 rfl) ?_
        exact vx_ret (h_iret hF hr hlocks hP hS hk dX1_farthestIn_100 hw)
      · have hw := hw.2 c_3
        refine lv_aload_n hF.1 hF.2.1 dX1_farthestIn_24 rfl (lv_at hl 0 rfl) ?_
        obtain ⟨fs_4, v_5, hx_6, hv_7, hw⟩ := hw
        refine x_get hF hC hP in_X1 rfl 0 (by decide) q244 (fun _ z => z) hx_6 hv_7 dX1_farthestIn_25 ?_
        refine lv_iload_n hF.1 hF.2.1 dX1_farthestIn_28 rfl (lv_at hl 1 rfl) ?_
        refine lv_aload_n hF.1 hF.2.1 dX1_farthestIn_29 rfl (lv_at hl 3 rfl) ?_
        refine lv_aload_n hF.1 hF.2.1 dX1_farthestIn_30 rfl (lv_at hl 0 rfl) ?_
        obtain ⟨fs_8, v_9, hx_10, hv_11, hw⟩ := hw
        refine x_get hF hC hP in_X1 rfl 0 (by decide) q244 (fun _ z => z) hx_10 hv_11 dX1_farthestIn_31 ?_
        obtain ⟨fs_12, v_13, hx_14, hv_15, hw⟩ := hw
        refine x_getN hF hC hP in_X2 rfl 7 (by decide) q169 (fun _ z => z) hx_14 hv_15 dX1_farthestIn_34 ?_
        refine lv_iload hF.1 hF.2.1 dX1_farthestIn_37 (lv_at hl 6 rfl) ?_
        refine lv_iadd hF.1 hF.2.1 dX1_farthestIn_39 ?_
        obtain ⟨ho_18, hw⟩ := hw
        refine hk_i (hr_V (As := [.int x1, .ref x3, .int (v_13 + x6)]) (rest := []) (T := TX2) (N := 9) (ci := 2) hF hl.1 hC hP hS (metX2_armAngle l K _ _ X v_5 x1 x3 (v_13 + x6)) rfl (cwV 3 hF.2.2.2.2 (lw_V q1282 q1283 q1284 q76 q1285) rfl rfl rfl (by decide +kernel) ⟨Nat.le_of_ble_eq_true rfl, Nat.le_of_ble_eq_true rfl⟩) ho_18 hw rfl rfl (Nat.le_of_ble_eq_true rfl) dX1_farthestIn_40 hk) hP hS (fun r_16 X_17 H locs hw hP hS => ?_)
        refine lv_aload_n hF.1 hF.2.1 dX1_farthestIn_43 rfl (lv_at hl 0 rfl) ?_
        obtain ⟨fs_19, v_20, hx_21, hv_22, hw⟩ := hw
        refine x_get hF hC hP in_X1 rfl 0 (by decide) q244 (fun _ z => z) hx_21 hv_22 dX1_farthestIn_44 ?_
        refine lv_iload_n hF.1 hF.2.1 dX1_farthestIn_47 rfl (lv_at hl 2 rfl) ?_
        refine lv_aload_n hF.1 hF.2.1 dX1_farthestIn_48 rfl (lv_at hl 3 rfl) ?_
        refine lv_aload_n hF.1 hF.2.1 dX1_farthestIn_49 rfl (lv_at hl 0 rfl) ?_
        obtain ⟨fs_23, v_24, hx_25, hv_26, hw⟩ := hw
        refine x_get hF hC hP in_X1 rfl 0 (by decide) q244 (fun _ z => z) hx_25 hv_26 dX1_farthestIn_50 ?_
        obtain ⟨fs_27, v_28, hx_29, hv_30, hw⟩ := hw
        refine x_getN hF hC hP in_X2 rfl 7 (by decide) q169 (fun _ z => z) hx_29 hv_30 dX1_farthestIn_53 ?_
        refine lv_iload hF.1 hF.2.1 dX1_farthestIn_56 (lv_at hl 6 rfl) ?_
        refine lv_iadd hF.1 hF.2.1 dX1_farthestIn_58 ?_
        obtain ⟨ho_33, hw⟩ := hw
        refine hk_i (hr_V (As := [.int x2, .ref x3, .int (v_28 + x6)]) (rest := [.int r_16]) (T := TX2) (N := 9) (ci := 2) hF hl.1 hC hP hS (metX2_armAngle l K _ _ X_17 v_20 x2 x3 (v_28 + x6)) rfl (cwV 3 hF.2.2.2.2 (lw_V q1282 q1283 q1284 q76 q1285) rfl rfl rfl (by decide +kernel) ⟨Nat.le_of_ble_eq_true rfl, Nat.le_of_ble_eq_true rfl⟩) ho_33 hw rfl rfl (Nat.le_of_ble_eq_true rfl) dX1_farthestIn_59 hk) hP hS (fun r_31 X_32 H locs hw hP hS => ?_)
        refine hp_i (hrp_S (As := [.int r_16, .int r_31]) (rest := []) hF hl.1 (metX1_apart l _ r_16 r_31) (va_cwS 2 hF.2.2.2.2 (lw_S q1398 q1354 q75 q1355) rfl rfl rfl (by decide +kernel) ⟨Nat.le_of_ble_eq_true rfl, Nat.le_of_ble_eq_true rfl⟩) hw rfl rfl (Nat.le_of_ble_eq_true rfl) dX1_farthestIn_62 hk) (fun r_34 hw => ?_)
        refine lv_istore (lv' := [(7, .int r_34), (0, .ref x0), (1, .int x1), (2, .int x2), (3, .ref x3), (4, .int x4), (5, .int x5), (6, .int x6)]) hF.1 hF.2.1 dX1_farthestIn_65 hl (by decide) rfl (fun ls hl => ?_)
        refine lv_iload hF.1 hF.2.1 dX1_farthestIn_67 (lv_at hl 0 rfl) ?_
        refine lv_iload hF.1 hF.2.1 dX1_farthestIn_69 (lv_at hl 6 rfl) ?_
        refine lv_icmp_le (tgt := 79) hF.1 hF.2.1 dX1_farthestIn_71 (by decide) (fun c_35 => ?_) (fun c_35 => ?_)
        · have hw := hw.1 c_35
          refine lv_iload hF.1 hF.2.1 dX1_farthestIn_79 (lv_at hl 5 rfl) ?_
          exact T81 _ ih x0 x1 x2 x3 x5 x6 r_34 x4 X_32 kc ks _ _ ls hP hS hk (lv_sub hl [1, 2, 3, 4, 6, 7, 0] rfl) hw
        · have hw := hw.2 c_35
          refine lv_iload hF.1 hF.2.1 dX1_farthestIn_74 (lv_at hl 7 rfl) ?_
          refine lv_goto (tgt := 81) hF.1 hF.2.1 dX1_farthestIn_76 (by decide) ?_
          exact T81 _ ih x0 x1 x2 x3 x5 x6 r_34 x6 X_32 kc ks _ _ ls hP hS hk (lv_sub hl [1, 2, 3, 4, 6, 7, 0] rfl) hw
  unfold wpX1_farthestIn at hw
  show W p l e (rmh 8 146 mc ms) s m _ below meth c _ _ _ _ _ _
  refine lv_aload_n hF.1 hF.2.1 dX1_farthestIn_0 rfl (lv_at hl 0 rfl) ?_
  refine lv_iload_n hF.1 hF.2.1 dX1_farthestIn_1 rfl (lv_at hl 1 rfl) ?_
  refine lv_iload_n hF.1 hF.2.1 dX1_farthestIn_2 rfl (lv_at hl 2 rfl) ?_
  obtain ⟨ho_38, hw⟩ := hw
  obtain ⟨mc_39, ms_40, hc_41, hs_42, hw⟩ := hw
  refine hkx_q (hrx_V (As := [.int p1, .int p2]) (rest := []) (T := TX1) (N := 4) (ci := 1) hF hl.1 hC hP hS (metX1_drivingBoth l hlt K mc_39 ms_40 _ _ _ X0 p0 p1 p2) rfl (cwV 2 hF.2.2.2.2 (lw_V q1344 q1346 qs16 q75 q1347) rfl rfl rfl (by decide +kernel) ⟨Nat.le_of_ble_eq_true rfl, Nat.le_of_ble_eq_true rfl⟩) ho_38 hw rfl rfl (Nat.le_of_ble_eq_true rfl) dX1_farthestIn_3 ⟨hc_41, hs_42⟩) hP hS (fun E9 q9 X9 H locs hw hcl hP hS => ?_) (fun r_36 X_37 H locs hw hP hS => ?_)
  · exact h_out hout hlocks hcl hP hS ⟨hc_41, hs_42⟩ hw
  obtain ⟨a_43, e_44, hw⟩ := hw
  subst e_44
  rw [va_rf_some]
  refine lv_astore_n (lv' := [(3, .ref a_43), (0, .ref p0), (1, .int p1), (2, .int p2)]) hF.1 hF.2.1 dX1_farthestIn_6 rfl hl (by decide) rfl (fun ls hl => ?_)
  refine lv_iconst (v := (-1)) hF.1 hF.2.1 dX1_farthestIn_7 (by decide) ?_
  refine lv_istore (lv' := [(4, .int (-1)), (3, .ref a_43), (0, .ref p0), (1, .int p1), (2, .int p2)]) hF.1 hF.2.1 dX1_farthestIn_8 hl (by decide) rfl (fun ls hl => ?_)
  refine lv_iconst (v := (-1)) hF.1 hF.2.1 dX1_farthestIn_10 (by decide) ?_
  refine lv_istore (lv' := [(5, .int (-1)), (4, .int (-1)), (3, .ref a_43), (0, .ref p0), (1, .int p1), (2, .int p2)]) hF.1 hF.2.1 dX1_farthestIn_11 hl (by decide) rfl (fun ls hl => ?_)
  refine lv_iconst (v := 1) hF.1 hF.2.1 dX1_farthestIn_13 (by decide) ?_
  refine lv_istore (lv' := [(6, .int 1), (5, .int (-1)), (4, .int (-1)), (3, .ref a_43), (0, .ref p0), (1, .int p1), (2, .int p2)]) hF.1 hF.2.1 dX1_farthestIn_14 hl (by decide) rfl (fun ls hl => ?_)
  obtain ⟨fu, hw⟩ := hw
  exact T16 fu p0 p1 p2 a_43 (-1) (-1) 1 X_37 (0 + mc_39) (0 + ms_40) _ _ ls hP hS ⟨hc_41, hs_42⟩ (lv_sub hl [4, 5, 6, 3, 2, 1, 0] rfl) hw
def wpX1_bendFor_164 (post : Int32 → hX → Prop) (xpost : String → Nat → hX → Prop) (E : Nat) (mc ms : Nat) (J106 : Int32 → Int32 → Int32 → Int32 → hX → Nat → Nat → Prop) (x2 : Int32) (x4 : Int32) (x6 : Int32) (z0 : Int32) (X : hX) (kc ks : Nat) : Prop := (∀ x6_1 : Int32, x6_1 = x6 + 1 → J106 x2 x4 z0 x6_1 X kc ks)
def wpX1_bendFor_106 (post : Int32 → hX → Prop) (xpost : String → Nat → hX → Prop) (E : Nat) (mc ms : Nat) : Nat → Int32 → Int32 → Int32 → Int32 → hX → Nat → Nat → Prop
  | 0 => fun _ _ _ _ _ _ _ => False
  | n + 1 => fun x2 x4 x5 x6 X kc ks => ((180 < x6 → post x5 X) ∧ (¬ 180 < x6 → wpX1_around (fun r_3 => wpX1_apart (fun r_4 => wpX1_around (fun r_5 => wpX1_apart (fun r_6 => ((r_6 ≤ r_4 → wpX1_bendFor_164 post xpost E mc ms (wpX1_bendFor_106 post xpost E mc ms n) x2 x4 x6 x5 X kc ks) ∧ (¬ r_6 ≤ r_4 → wpX1_bendFor_164 post xpost E mc ms (wpX1_bendFor_106 post xpost E mc ms n) x2 x4 x6 x6 X kc ks))) r_5 x2) (Int32.toInt64 (x4 + (60 * x5)))) r_3 x2) (Int32.toInt64 (x4 + (60 * x6)))))
def wpX1_bendFor_28 (post : Int32 → hX → Prop) (xpost : String → Nat → hX → Prop) (E : Nat) (mc ms : Nat) (x0 : Nat) (x1 : Int32) (x2 : Int32) (z0 : Int32) (X : hX) (kc ks : Nat) : Prop := (∃ mc_9 ms_10 : Nat, kc + mc_9 ≤ mc ∧ ks + ms_10 ≤ ms ∧ wpX1_needArgument (fun X_8 => gfA X_8 x0 1 0 (fun v_14 => gfA X_8 v_14 2 1 (fun v_18 => isO X_8 v_18 8 (wpJ2_get (fun r_21 X_22 => (∃ a_24 : Nat, r_21 = some a_24 ∧ ((∃ fs, X_22 a_24 = some (.inr (6, fs))) ∧ gfI X_22 a_24 6 0 (fun v_28 => isO X_22 x0 1 ((∃ mc_34 ms_35 : Nat, (kc + mc_9) + mc_34 ≤ mc ∧ (ks + ms_10) + ms_35 ≤ ms ∧ wpX1_driving (fun r_31 X_32 => (∃ a_38 : Nat, r_31 = some a_38 ∧ gfA X_32 x0 1 0 (fun v_41 => gfA X_32 x0 1 0 (fun v_45 => gfI X_32 v_45 2 7 (fun v_49 => isO X_32 v_41 2 (wpX2_armAngle (fun r_52 X_53 => gfA X_53 x0 1 0 (fun v_56 => gfA X_53 v_56 2 1 (fun v_60 => isO X_53 v_60 8 (wpJ2_get (fun r_63 X_64 => (∃ a_66 : Nat, r_63 = some a_66 ∧ ((∃ fs, X_64 a_66 = some (.inr (6, fs))) ∧ gfI X_64 a_66 6 1 (fun v_70 => wpX1_around (fun r_73 => ∃ fu : Nat, wpX1_bendFor_106 post xpost E mc ms fu x2 r_73 (-180) (-180) X_64 ((kc + mc_9) + mc_34) ((ks + ms_10) + ms_35)) (Int32.toInt64 (r_52 - (60 * v_70))))))) E X_53 v_60 x1)))) E X_32 v_41 x1 a_38 v_49)))))) xpost E mc_34 ms_35 X_22 x0 v_28)))))) E X_8 v_18 x1)))) xpost E mc_9 ms_10 X z0)
def wpX1_bendFor_27 (post : Int32 → hX → Prop) (xpost : String → Nat → hX → Prop) (E : Nat) (mc ms : Nat) (x0 : Nat) (x1 : Int32) (x2 : Int32) (X : hX) (kc ks : Nat) : Prop := wpX1_bendFor_28 post xpost E mc ms x0 x1 x2 0 X kc ks
def wpX1_bendFor (post : Int32 → hX → Prop) (xpost : String → Nat → hX → Prop) (E : Nat) (mc ms : Nat) (X : hX) (p0 : Nat) (p1 : Int32) (p2 : Int32) : Prop := gfA X p0 1 0 (fun v_75 => isO X v_75 2 (wpX2_isArm (fun r_78 X_79 => ((r_78 = 0 → wpX1_bendFor_27 post xpost E mc ms p0 p1 p2 X_79 0 0) ∧ (¬ r_78 = 0 → wpX1_isBetween (fun r_82 => ((r_82 = 0 → wpX1_bendFor_27 post xpost E mc ms p0 p1 p2 X_79 0 0) ∧ (¬ r_82 = 0 → wpX1_bendFor_28 post xpost E mc ms p0 p1 p2 1 X_79 0 0))) (Int32.toInt64 p2) 0 21599))) E X v_75 p1))
abbrev wsX1_bendFor : List Cond := ws_ yX1_bendFor cX1_bendFor 9 (some .int)
set_option maxHeartbeats 8000000 in
theorem metX1_bendFor (l : Launch) (hlt : l.stackTraces = false) (K : HK) (mc ms : Nat) (sz : Nat) (post : Int32 → hX → Prop) (xpost : String → Nat → hX → Prop) (X0 : hX) (p0 : Nat) (p1 : Int32) (p2 : Int32) : vx_Met l yX1_bendFor wsX1_bendFor (rmh 8 145 mc ms) (hPc K X0 sz [.ref p0, .int p1, .int p2] (wpX1_bendFor post xpost (K.2.2 0) mc ms X0 p0 p1 p2)) (hQi post K X0 sz) (hXC xpost K X0 sz) mc ms (hA X0 sz) := by
  refine vx_ofW (cc := cX1_bendFor) (maxL := 9) (ret := (some .int)) (by decide) rfl ?_
  intro p e s m args below meth c s₁ B hml hno hv
  obtain ⟨rfl, hv⟩ := hv
  obtain ⟨hC, hP, hw⟩ := HC.of hv
  have hsz : s.heap.size = sz := hv.1
  subst hsz
  clear hv
  have hout : ∀ {pc : Nat}, ∀ x ∈ c.exceptionTable.toList, covers x pc = false := fun x hx => (hno x hx).elim
  have hr := B.returns
  have hts := atoms_spec (ws := wsX1_bendFor) B.pre
  have hts : ∀ w ∈ lw_all, w.before _ s = true := fun w h => hts w (List.mem_cons_of_mem _ h)
  have hF : CallFix p m c cX1_bendFor 9 s ([.ref p0, .int p1, .int p2] : List Value).toArray lw_all RX1 := ⟨B.exec, B.bytes, hml, findClass_of_methodNamed B.named, hts⟩
  have hlocks := B.notSynchronized
  have hl := lv_entry ([.ref p0, .int p1, .int p2]) (n := 9) (Nat.le_of_ble_eq_true rfl)
  rw [lg_entry_eq]
  generalize (lg_sl ([.ref p0, .int p1, .int p2]) ++ List.replicate (9 - (lg_sl ([.ref p0, .int p1, .int p2])).length) Slot.unset).toArray = ls at hl ⊢
  have hl : lv_has ls 9 [(0, .ref p0), (1, .int p1), (2, .int p2)] := hl
  have hS : va_S (hA X0 s.heap.size) s.heap s.heap [] := va_S.rf
  have T164 : ∀ (J106 : Int32 → Int32 → Int32 → Int32 → hX → Nat → Nat → Prop) (hJ106 : ∀ (x2 : Int32) (x4 : Int32) (x5 : Int32) (x6 : Int32) (X : hX) (kc ks : Nat) (H : Heap) (locs : List Loc) (ls : Array Slot), hI K X0 s.heap.size X H → va_S (hA X0 s.heap.size) s.heap H locs → kc ≤ mc ∧ ks ≤ ms → lv_has ls 9 [(2, .int x2), (4, .int x4), (5, .int x5), (6, .int x6)] → J106 x2 x4 x5 x6 X kc ks → W p l e (rmh 8 145 mc ms) s m ([.ref p0, .int p1, .int p2] : List Value).toArray below meth c H locs kc ks (vx_MQ below (hQi post K X0 s.heap.size) (hXC xpost K X0 s.heap.size) ([.ref p0, .int p1, .int p2] : List Value).toArray s mc ms (hA X0 s.heap.size)) (F0 m 106 ls [])), ∀ (x2 : Int32) (x4 : Int32) (x6 : Int32) (z0 : Int32) (X : hX) (kc ks : Nat) (H : Heap) (locs : List Loc) (ls : Array Slot), hI K X0 s.heap.size X H → va_S (hA X0 s.heap.size) s.heap H locs → kc ≤ mc ∧ ks ≤ ms → lv_has ls 9 [(2, .int x2), (4, .int x4), (6, .int x6)] → wpX1_bendFor_164 post xpost (K.2.2 0) mc ms J106 x2 x4 x6 z0 X kc ks → W p l e (rmh 8 145 mc ms) s m ([.ref p0, .int p1, .int p2] : List Value).toArray below meth c H locs kc ks (vx_MQ below (hQi post K X0 s.heap.size) (hXC xpost K X0 s.heap.size) ([.ref p0, .int p1, .int p2] : List Value).toArray s mc ms (hA X0 s.heap.size)) (F0 m 164 ls [.int z0]) := by
    intro J106 hJ106
    intro x2 x4 x6 z0 X kc ks H locs ls hP hS hk hl hw
    unfold wpX1_bendFor_164 at hw
    refine lv_istore (lv' := [(5, .int z0), (2, .int x2), (4, .int x4), (6, .int x6)]) hF.1 hF.2.1 dX1_bendFor_164 hl (by decide) rfl (fun ls hl => ?_)
    obtain ⟨x6_1, ex6_1⟩ : ∃ y : Int32, y = x6 + 1 := ⟨_, rfl⟩
    have hw := hw x6_1 ex6_1
    refine lv_iinc (v := x6_1) (lv' := [(6, .int x6_1), (5, .int z0), (2, .int x2), (4, .int x4)]) hF.1 hF.2.1 dX1_bendFor_166 hl (k := 3) rfl (by rw [ex6_1]; rfl) (by decide) rfl (fun ls hl => ?_)
    refine lv_goto (tgt := 106) hF.1 hF.2.1 dX1_bendFor_169 (by decide) ?_
    exact hJ106 x2 x4 z0 x6_1 X kc ks _ _ ls hP hS hk (lv_sub hl [2, 3, 1, 0] rfl) hw
  have T106 : ∀ (n : Nat), ∀ (x2 : Int32) (x4 : Int32) (x5 : Int32) (x6 : Int32) (X : hX) (kc ks : Nat) (H : Heap) (locs : List Loc) (ls : Array Slot), hI K X0 s.heap.size X H → va_S (hA X0 s.heap.size) s.heap H locs → kc ≤ mc ∧ ks ≤ ms → lv_has ls 9 [(2, .int x2), (4, .int x4), (5, .int x5), (6, .int x6)] → wpX1_bendFor_106 post xpost (K.2.2 0) mc ms n x2 x4 x5 x6 X kc ks → W p l e (rmh 8 145 mc ms) s m ([.ref p0, .int p1, .int p2] : List Value).toArray below meth c H locs kc ks (vx_MQ below (hQi post K X0 s.heap.size) (hXC xpost K X0 s.heap.size) ([.ref p0, .int p1, .int p2] : List Value).toArray s mc ms (hA X0 s.heap.size)) (F0 m 106 ls []) := by
    intro n
    induction n with
    | zero =>
      intro x2 x4 x5 x6 X kc ks H locs ls hP hS hk hl hw
      exact False.elim hw
    | succ n ih =>
      intro x2 x4 x5 x6 X kc ks H locs ls hP hS hk hl hw
      unfold wpX1_bendFor_106 at hw
      refine lv_iload hF.1 hF.2.1 dX1_bendFor_106 (lv_at hl 3 rfl) ?_
      refine lv_sipush (v := 180) hF.1 hF.2.1 dX1_bendFor_108 (by decide) ?_
      refine lv_icmp_gt (tgt := 172) hF.1 hF.2.1 dX1_bendFor_111 (by decide) (fun c_2 => ?_) (fun c_2 => ?_)
      · have hw := hw.1 c_2
        refine lv_iload hF.1 hF.2.1 dX1_bendFor_172 (lv_at hl 2 rfl) ?_
        exact vx_ret (h_iret hF hr hlocks hP hS hk dX1_bendFor_174 hw)
      · have hw := hw.2 c_2
        refine lv_iload hF.1 hF.2.1 dX1_bendFor_114 (lv_at hl 1 rfl) ?_
        refine lv_bipush (v := 60) hF.1 hF.2.1 dX1_bendFor_116 (by decide) ?_
        refine lv_iload hF.1 hF.2.1 dX1_bendFor_118 (lv_at hl 3 rfl) ?_
        refine lv_imul hF.1 hF.2.1 dX1_bendFor_120 ?_
        refine lv_iadd hF.1 hF.2.1 dX1_bendFor_121 ?_
        refine lv_i2l hF.1 hF.2.1 dX1_bendFor_122 rfl ?_
        refine hp_i (hrp_S (As := [.long (Int32.toInt64 (x4 + (60 * x6)))]) (rest := []) hF hl.1 (metX1_around l _ (Int32.toInt64 (x4 + (60 * x6)))) (va_cwS 1 hF.2.2.2.2 (lw_S q1293 q1294 q75 q1295) rfl rfl rfl (by decide +kernel) ⟨Nat.le_of_ble_eq_true rfl, Nat.le_of_ble_eq_true rfl⟩) hw rfl rfl (Nat.le_of_ble_eq_true rfl) dX1_bendFor_123 hk) (fun r_3 hw => ?_)
        refine lv_iload_n hF.1 hF.2.1 dX1_bendFor_126 rfl (lv_at hl 0 rfl) ?_
        refine hp_i (hrp_S (As := [.int r_3, .int x2]) (rest := []) hF hl.1 (metX1_apart l _ r_3 x2) (va_cwS 2 hF.2.2.2.2 (lw_S q1398 q1354 q75 q1355) rfl rfl rfl (by decide +kernel) ⟨Nat.le_of_ble_eq_true rfl, Nat.le_of_ble_eq_true rfl⟩) hw rfl rfl (Nat.le_of_ble_eq_true rfl) dX1_bendFor_127 hk) (fun r_4 hw => ?_)
        refine lv_istore (lv' := [(7, .int r_4), (2, .int x2), (4, .int x4), (5, .int x5), (6, .int x6)]) hF.1 hF.2.1 dX1_bendFor_130 hl (by decide) rfl (fun ls hl => ?_)
        refine lv_iload hF.1 hF.2.1 dX1_bendFor_132 (lv_at hl 2 rfl) ?_
        refine lv_bipush (v := 60) hF.1 hF.2.1 dX1_bendFor_134 (by decide) ?_
        refine lv_iload hF.1 hF.2.1 dX1_bendFor_136 (lv_at hl 3 rfl) ?_
        refine lv_imul hF.1 hF.2.1 dX1_bendFor_138 ?_
        refine lv_iadd hF.1 hF.2.1 dX1_bendFor_139 ?_
        refine lv_i2l hF.1 hF.2.1 dX1_bendFor_140 rfl ?_
        refine hp_i (hrp_S (As := [.long (Int32.toInt64 (x4 + (60 * x5)))]) (rest := []) hF hl.1 (metX1_around l _ (Int32.toInt64 (x4 + (60 * x5)))) (va_cwS 1 hF.2.2.2.2 (lw_S q1293 q1294 q75 q1295) rfl rfl rfl (by decide +kernel) ⟨Nat.le_of_ble_eq_true rfl, Nat.le_of_ble_eq_true rfl⟩) hw rfl rfl (Nat.le_of_ble_eq_true rfl) dX1_bendFor_141 hk) (fun r_5 hw => ?_)
        refine lv_iload_n hF.1 hF.2.1 dX1_bendFor_144 rfl (lv_at hl 1 rfl) ?_
        refine hp_i (hrp_S (As := [.int r_5, .int x2]) (rest := []) hF hl.1 (metX1_apart l _ r_5 x2) (va_cwS 2 hF.2.2.2.2 (lw_S q1398 q1354 q75 q1355) rfl rfl rfl (by decide +kernel) ⟨Nat.le_of_ble_eq_true rfl, Nat.le_of_ble_eq_true rfl⟩) hw rfl rfl (Nat.le_of_ble_eq_true rfl) dX1_bendFor_145 hk) (fun r_6 hw => ?_)
        refine lv_istore (lv' := [(8, .int r_6), (7, .int r_4), (2, .int x2), (4, .int x4), (5, .int x5), (6, .int x6)]) hF.1 hF.2.1 dX1_bendFor_148 hl (by decide) rfl (fun ls hl => ?_)
        refine lv_iload hF.1 hF.2.1 dX1_bendFor_150 (lv_at hl 1 rfl) ?_
        refine lv_iload hF.1 hF.2.1 dX1_bendFor_152 (lv_at hl 0 rfl) ?_
        refine lv_icmp_ge (tgt := 162) hF.1 hF.2.1 dX1_bendFor_154 (by decide) (fun c_7 => ?_) (fun c_7 => ?_)
        · have hw := hw.1 c_7
          refine lv_iload hF.1 hF.2.1 dX1_bendFor_162 (lv_at hl 4 rfl) ?_
          exact T164 _ ih x2 x4 x6 x5 X kc ks _ _ ls hP hS hk (lv_sub hl [2, 3, 5] rfl) hw
        · have hw := hw.2 c_7
          refine lv_iload hF.1 hF.2.1 dX1_bendFor_157 (lv_at hl 5 rfl) ?_
          refine lv_goto (tgt := 164) hF.1 hF.2.1 dX1_bendFor_159 (by decide) ?_
          exact T164 _ ih x2 x4 x6 x6 X kc ks _ _ ls hP hS hk (lv_sub hl [2, 3, 5] rfl) hw
  have T28 : ∀ (x0 : Nat) (x1 : Int32) (x2 : Int32) (z0 : Int32) (X : hX) (kc ks : Nat) (H : Heap) (locs : List Loc) (ls : Array Slot), hI K X0 s.heap.size X H → va_S (hA X0 s.heap.size) s.heap H locs → kc ≤ mc ∧ ks ≤ ms → lv_has ls 9 [(0, .ref x0), (1, .int x1), (2, .int x2)] → wpX1_bendFor_28 post xpost (K.2.2 0) mc ms x0 x1 x2 z0 X kc ks → W p l e (rmh 8 145 mc ms) s m ([.ref p0, .int p1, .int p2] : List Value).toArray below meth c H locs kc ks (vx_MQ below (hQi post K X0 s.heap.size) (hXC xpost K X0 s.heap.size) ([.ref p0, .int p1, .int p2] : List Value).toArray s mc ms (hA X0 s.heap.size)) (F0 m 28 ls [.int z0]) := by
    intro x0 x1 x2 z0 X kc ks H locs ls hP hS hk hl hw
    unfold wpX1_bendFor_28 at hw
    obtain ⟨mc_9, ms_10, hc_11, hs_12, hw⟩ := hw
    refine hkx_v (hrx_S (As := [.int z0]) (rest := []) hF hl.1 hC hP hS (metX1_needArgument l hlt K mc_9 ms_10 _ _ _ X z0) (va_cwS 1 hF.2.2.2.2 (lw_S q1140 q1141 q75 q1142) rfl rfl rfl (by decide +kernel) ⟨Nat.le_of_ble_eq_true rfl, Nat.le_of_ble_eq_true rfl⟩) hw rfl rfl (Nat.le_of_ble_eq_true rfl) dX1_bendFor_28 ⟨hc_11, hs_12⟩) hP hS (fun E9 q9 X9 H locs hw hcl hP hS => ?_) (fun X_8 H locs hw hP hS => ?_)
    · exact h_out hout hlocks hcl hP hS ⟨hc_11, hs_12⟩ hw
    refine lv_aload_n hF.1 hF.2.1 dX1_bendFor_31 rfl (lv_at hl 0 rfl) ?_
    refine lv_aload_n hF.1 hF.2.1 dX1_bendFor_32 rfl (lv_at hl 0 rfl) ?_
    obtain ⟨fs_13, v_14, hx_15, hv_16, hw⟩ := hw
    refine x_get hF hC hP in_X1 rfl 0 (by decide) q244 (fun _ z => z) hx_15 hv_16 dX1_bendFor_33 ?_
    obtain ⟨fs_17, v_18, hx_19, hv_20, hw⟩ := hw
    refine x_getN hF hC hP in_X2 rfl 1 (by decide) q154 (fun _ z => z) hx_19 hv_20 dX1_bendFor_36 ?_
    refine lv_iload_n hF.1 hF.2.1 dX1_bendFor_39 rfl (lv_at hl 1 rfl) ?_
    obtain ⟨ho_23, hw⟩ := hw
    refine hk_q (hr_V (As := [.int x1]) (rest := [.ref x0]) (T := TJ2) (N := 3) (ci := 8) hF hl.1 hC hP hS (metJ2_get l K _ _ X_8 v_18 x1) rfl (cwV 1 hF.2.2.2.2 (lw_V q419 q347 q348 q79 q349) rfl rfl rfl (by decide +kernel) ⟨Nat.le_of_ble_eq_true rfl, Nat.le_of_ble_eq_true rfl⟩) ho_23 hw rfl rfl (Nat.le_of_ble_eq_true rfl) dX1_bendFor_40 ⟨hc_11, hs_12⟩) hP hS (fun r_21 X_22 H locs hw hP hS => ?_)
    obtain ⟨a_24, e_25, hw⟩ := hw
    subst e_25
    rw [va_rf_some]
    obtain ⟨h_26, hw⟩ := hw
    refine x_cast (T := TX7) (N := 3) (ci := 6) hF hC hP rfl q1274 h_26 dX1_bendFor_43 ?_
    obtain ⟨fs_27, v_28, hx_29, hv_30, hw⟩ := hw
    refine x_getN hF hC hP in_X7 rfl 0 (by decide) q922 (fun _ z => z) hx_29 hv_30 dX1_bendFor_46 ?_
    obtain ⟨ho_33, hw⟩ := hw
    obtain ⟨mc_34, ms_35, hc_36, hs_37, hw⟩ := hw
    refine hkx_q (hrx_V (As := [.int v_28]) (rest := []) (T := TX1) (N := 4) (ci := 1) hF hl.1 hC hP hS (metX1_driving l hlt K mc_34 ms_35 _ _ _ X_22 x0 v_28) rfl (cwV 1 hF.2.2.2.2 (lw_V q1176 q1178 qs12 q75 q1179) rfl rfl rfl (by decide +kernel) ⟨Nat.le_of_ble_eq_true rfl, Nat.le_of_ble_eq_true rfl⟩) ho_33 hw rfl rfl (Nat.le_of_ble_eq_true rfl) dX1_bendFor_49 ⟨hc_36, hs_37⟩) hP hS (fun E9 q9 X9 H locs hw hcl hP hS => ?_) (fun r_31 X_32 H locs hw hP hS => ?_)
    · exact h_out hout hlocks hcl hP hS ⟨hc_36, hs_37⟩ hw
    obtain ⟨a_38, e_39, hw⟩ := hw
    subst e_39
    rw [va_rf_some]
    refine lv_astore_n (lv' := [(3, .ref a_38), (0, .ref x0), (1, .int x1), (2, .int x2)]) hF.1 hF.2.1 dX1_bendFor_52 rfl hl (by decide) rfl (fun ls hl => ?_)
    refine lv_aload_n hF.1 hF.2.1 dX1_bendFor_53 rfl (lv_at hl 1 rfl) ?_
    obtain ⟨fs_40, v_41, hx_42, hv_43, hw⟩ := hw
    refine x_get hF hC hP in_X1 rfl 0 (by decide) q244 (fun _ z => z) hx_42 hv_43 dX1_bendFor_54 ?_
    refine lv_iload_n hF.1 hF.2.1 dX1_bendFor_57 rfl (lv_at hl 2 rfl) ?_
    refine lv_aload_n hF.1 hF.2.1 dX1_bendFor_58 rfl (lv_at hl 0 rfl) ?_
    refine lv_aload_n hF.1 hF.2.1 dX1_bendFor_59 rfl (lv_at hl 1 rfl) ?_
    obtain ⟨fs_44, v_45, hx_46, hv_47, hw⟩ := hw
    refine x_get hF hC hP in_X1 rfl 0 (by decide) q244 (fun _ z => z) hx_46 hv_47 dX1_bendFor_60 ?_
    obtain ⟨fs_48, v_49, hx_50, hv_51, hw⟩ := hw
    refine x_getN hF hC hP in_X2 rfl 7 (by decide) q169 (fun _ z => z) hx_50 hv_51 dX1_bendFor_63 ?_
    obtain ⟨ho_54, hw⟩ := hw
    refine hk_i (hr_V (As := [.int x1, .ref a_38, .int v_49]) (rest := []) (T := TX2) (N := 9) (ci := 2) hF hl.1 hC hP hS (metX2_armAngle l K _ _ X_32 v_41 x1 a_38 v_49) rfl (cwV 3 hF.2.2.2.2 (lw_V q1282 q1283 q1284 q76 q1285) rfl rfl rfl (by decide +kernel) ⟨Nat.le_of_ble_eq_true rfl, Nat.le_of_ble_eq_true rfl⟩) ho_54 hw rfl rfl (Nat.le_of_ble_eq_true rfl) dX1_bendFor_66 ⟨hc_36, hs_37⟩) hP hS (fun r_52 X_53 H locs hw hP hS => ?_)
    refine lv_bipush (v := 60) hF.1 hF.2.1 dX1_bendFor_69 (by decide) ?_
    refine lv_aload_n hF.1 hF.2.1 dX1_bendFor_71 rfl (lv_at hl 1 rfl) ?_
    obtain ⟨fs_55, v_56, hx_57, hv_58, hw⟩ := hw
    refine x_get hF hC hP in_X1 rfl 0 (by decide) q244 (fun _ z => z) hx_57 hv_58 dX1_bendFor_72 ?_
    obtain ⟨fs_59, v_60, hx_61, hv_62, hw⟩ := hw
    refine x_getN hF hC hP in_X2 rfl 1 (by decide) q154 (fun _ z => z) hx_61 hv_62 dX1_bendFor_75 ?_
    refine lv_iload_n hF.1 hF.2.1 dX1_bendFor_78 rfl (lv_at hl 2 rfl) ?_
    obtain ⟨ho_65, hw⟩ := hw
    refine hk_q (hr_V (As := [.int x1]) (rest := [.int 60, .int r_52]) (T := TJ2) (N := 3) (ci := 8) hF hl.1 hC hP hS (metJ2_get l K _ _ X_53 v_60 x1) rfl (cwV 1 hF.2.2.2.2 (lw_V q419 q347 q348 q79 q349) rfl rfl rfl (by decide +kernel) ⟨Nat.le_of_ble_eq_true rfl, Nat.le_of_ble_eq_true rfl⟩) ho_65 hw rfl rfl (Nat.le_of_ble_eq_true rfl) dX1_bendFor_79 ⟨hc_36, hs_37⟩) hP hS (fun r_63 X_64 H locs hw hP hS => ?_)
    obtain ⟨a_66, e_67, hw⟩ := hw
    subst e_67
    rw [va_rf_some]
    obtain ⟨h_68, hw⟩ := hw
    refine x_cast (T := TX7) (N := 3) (ci := 6) hF hC hP rfl q1274 h_68 dX1_bendFor_82 ?_
    obtain ⟨fs_69, v_70, hx_71, hv_72, hw⟩ := hw
    refine x_getN hF hC hP in_X7 rfl 1 (by decide) q925 (fun _ z => z) hx_71 hv_72 dX1_bendFor_85 ?_
    refine lv_imul hF.1 hF.2.1 dX1_bendFor_88 ?_
    refine lv_isub hF.1 hF.2.1 dX1_bendFor_89 ?_
    refine lv_i2l hF.1 hF.2.1 dX1_bendFor_90 rfl ?_
    refine hp_i (hrp_S (As := [.long (Int32.toInt64 (r_52 - (60 * v_70)))]) (rest := []) hF hl.1 (metX1_around l _ (Int32.toInt64 (r_52 - (60 * v_70)))) (va_cwS 1 hF.2.2.2.2 (lw_S q1293 q1294 q75 q1295) rfl rfl rfl (by decide +kernel) ⟨Nat.le_of_ble_eq_true rfl, Nat.le_of_ble_eq_true rfl⟩) hw rfl rfl (Nat.le_of_ble_eq_true rfl) dX1_bendFor_91 ⟨hc_36, hs_37⟩) (fun r_73 hw => ?_)
    refine lv_istore (lv' := [(4, .int r_73), (3, .ref a_38), (0, .ref x0), (1, .int x1), (2, .int x2)]) hF.1 hF.2.1 dX1_bendFor_94 hl (by decide) rfl (fun ls hl => ?_)
    refine lv_sipush (v := (-180)) hF.1 hF.2.1 dX1_bendFor_96 (by decide) ?_
    refine lv_istore (lv' := [(5, .int (-180)), (4, .int r_73), (3, .ref a_38), (0, .ref x0), (1, .int x1), (2, .int x2)]) hF.1 hF.2.1 dX1_bendFor_99 hl (by decide) rfl (fun ls hl => ?_)
    refine lv_sipush (v := (-180)) hF.1 hF.2.1 dX1_bendFor_101 (by decide) ?_
    refine lv_istore (lv' := [(6, .int (-180)), (5, .int (-180)), (4, .int r_73), (3, .ref a_38), (0, .ref x0), (1, .int x1), (2, .int x2)]) hF.1 hF.2.1 dX1_bendFor_104 hl (by decide) rfl (fun ls hl => ?_)
    obtain ⟨fu, hw⟩ := hw
    exact T106 fu x2 r_73 (-180) (-180) X_64 ((kc + mc_9) + mc_34) ((ks + ms_10) + ms_35) _ _ ls hP hS ⟨hc_36, hs_37⟩ (lv_sub hl [6, 2, 1, 0] rfl) hw
  have T27 : ∀ (x0 : Nat) (x1 : Int32) (x2 : Int32) (X : hX) (kc ks : Nat) (H : Heap) (locs : List Loc) (ls : Array Slot), hI K X0 s.heap.size X H → va_S (hA X0 s.heap.size) s.heap H locs → kc ≤ mc ∧ ks ≤ ms → lv_has ls 9 [(0, .ref x0), (1, .int x1), (2, .int x2)] → wpX1_bendFor_27 post xpost (K.2.2 0) mc ms x0 x1 x2 X kc ks → W p l e (rmh 8 145 mc ms) s m ([.ref p0, .int p1, .int p2] : List Value).toArray below meth c H locs kc ks (vx_MQ below (hQi post K X0 s.heap.size) (hXC xpost K X0 s.heap.size) ([.ref p0, .int p1, .int p2] : List Value).toArray s mc ms (hA X0 s.heap.size)) (F0 m 27 ls []) := by
    intro x0 x1 x2 X kc ks H locs ls hP hS hk hl hw
    unfold wpX1_bendFor_27 at hw
    refine lv_iconst (v := 0) hF.1 hF.2.1 dX1_bendFor_27 (by decide) ?_
    exact T28 x0 x1 x2 0 X kc ks _ _ ls hP hS hk (lv_sub hl [0, 1, 2] rfl) hw
  unfold wpX1_bendFor at hw
  show W p l e (rmh 8 145 mc ms) s m _ below meth c _ _ _ _ _ _
  refine lv_aload_n hF.1 hF.2.1 dX1_bendFor_0 rfl (lv_at hl 0 rfl) ?_
  obtain ⟨fs_74, v_75, hx_76, hv_77, hw⟩ := hw
  refine x_get hF hC hP in_X1 rfl 0 (by decide) q244 (fun _ z => z) hx_76 hv_77 dX1_bendFor_1 ?_
  refine lv_iload_n hF.1 hF.2.1 dX1_bendFor_4 rfl (lv_at hl 1 rfl) ?_
  obtain ⟨ho_80, hw⟩ := hw
  refine hk_i (hr_V (As := [.int p1]) (rest := []) (T := TX2) (N := 9) (ci := 2) hF hl.1 hC hP hS (metX2_isArm l K _ _ X0 v_75 p1) rfl (cwV 1 hF.2.2.2.2 (lw_V q1273 q941 q942 q76 q943) rfl rfl rfl (by decide +kernel) ⟨Nat.le_of_ble_eq_true rfl, Nat.le_of_ble_eq_true rfl⟩) ho_80 hw rfl rfl (Nat.le_of_ble_eq_true rfl) dX1_bendFor_5 ⟨Nat.zero_le _, Nat.zero_le _⟩) hP hS (fun r_78 X_79 H locs hw hP hS => ?_)
  refine lv_if_eq (tgt := 27) hF.1 hF.2.1 dX1_bendFor_8 (by decide) (fun c_81 => ?_) (fun c_81 => ?_)
  · have hw := hw.1 c_81
    exact T27 p0 p1 p2 X_79 0 0 _ _ ls hP hS ⟨Nat.zero_le _, Nat.zero_le _⟩ (lv_sub hl [0, 1, 2] rfl) hw
  · have hw := hw.2 c_81
    refine lv_iload_n hF.1 hF.2.1 dX1_bendFor_11 rfl (lv_at hl 2 rfl) ?_
    refine lv_i2l hF.1 hF.2.1 dX1_bendFor_12 rfl ?_
    refine lv_lconst (v := 0) hF.1 hF.2.1 dX1_bendFor_13 (by decide) ?_
    refine lv_ldc2 hF.1 hF.2.1 hF.2.2.2.1 (hF.2.2.2.2 _ q1407) dX1_bendFor_14 ?_
    refine hp_i (hrp_S (As := [.long (Int32.toInt64 p2), .long 0, .long 21599]) (rest := []) hF hl.1 (metX1_isBetween l _ (Int32.toInt64 p2) 0 21599) (va_cwS 3 hF.2.2.2.2 (lw_S q1228 q848 q75 q849) rfl rfl rfl (by decide +kernel) ⟨Nat.le_of_ble_eq_true rfl, Nat.le_of_ble_eq_true rfl⟩) hw rfl rfl (Nat.le_of_ble_eq_true rfl) dX1_bendFor_17 ⟨Nat.zero_le _, Nat.zero_le _⟩) (fun r_82 hw => ?_)
    refine lv_if_eq (tgt := 27) hF.1 hF.2.1 dX1_bendFor_20 (by decide) (fun c_83 => ?_) (fun c_83 => ?_)
    · have hw := hw.1 c_83
      exact T27 p0 p1 p2 X_79 0 0 _ _ ls hP hS ⟨Nat.zero_le _, Nat.zero_le _⟩ (lv_sub hl [0, 1, 2] rfl) hw
    · have hw := hw.2 c_83
      refine lv_iconst (v := 1) hF.1 hF.2.1 dX1_bendFor_23 (by decide) ?_
      refine lv_goto (tgt := 28) hF.1 hF.2.1 dX1_bendFor_24 (by decide) ?_
      exact T28 p0 p1 p2 1 X_79 0 0 _ _ ls hP hS ⟨Nat.zero_le _, Nat.zero_le _⟩ (lv_sub hl [0, 1, 2] rfl) hw
def wpX1_dayOf_29 (post : Int32 → hX → Prop) (xpost : String → Nat → hX → Prop) (E : Nat) (mc ms : Nat) (x1 : Int32) (x2 : Int32) (x3 : Int32) (z0 : Int32) (X : hX) (kc ks : Nat) : Prop := (∃ mc_2 ms_3 : Nat, kc + mc_2 ≤ mc ∧ ks + ms_3 ≤ ms ∧ wpX1_needArgument (fun X_1 => wpX1_daysOf (fun r_6 => wpX1_isBetween (fun r_7 => (∃ mc_9 ms_10 : Nat, (kc + mc_2) + mc_9 ≤ mc ∧ (ks + ms_3) + ms_10 ≤ ms ∧ wpX1_needArgument (fun X_8 => wpX1_dayBefore (fun r_13 => post ((r_13 + x3) - 1) X_8) x1 x2) xpost E mc_9 ms_10 X_1 r_7)) (Int32.toInt64 x3) 1 (Int32.toInt64 r_6)) x1 x2) xpost E mc_2 ms_3 X z0)
def wpX1_dayOf_28 (post : Int32 → hX → Prop) (xpost : String → Nat → hX → Prop) (E : Nat) (mc ms : Nat) (x1 : Int32) (x2 : Int32) (x3 : Int32) (X : hX) (kc ks : Nat) : Prop := wpX1_dayOf_29 post xpost E mc ms x1 x2 x3 0 X kc ks
def wpX1_dayOf (post : Int32 → hX → Prop) (xpost : String → Nat → hX → Prop) (E : Nat) (mc ms : Nat) (X : hX) (p0 : Nat) (p1 : Int32) (p2 : Int32) (p3 : Int32) : Prop := wpX1_isBetween (fun r_14 => ((r_14 = 0 → wpX1_dayOf_28 post xpost E mc ms p1 p2 p3 X 0 0) ∧ (¬ r_14 = 0 → wpX1_isBetween (fun r_16 => ((r_16 = 0 → wpX1_dayOf_28 post xpost E mc ms p1 p2 p3 X 0 0) ∧ (¬ r_16 = 0 → wpX1_dayOf_29 post xpost E mc ms p1 p2 p3 1 X 0 0))) (Int32.toInt64 p2) 1 12))) (Int32.toInt64 p1) 1 2738
abbrev wsX1_dayOf : List Cond := ws_ yX1_dayOf cX1_dayOf 4 (some .int)
set_option maxHeartbeats 8000000 in
theorem metX1_dayOf (l : Launch) (hlt : l.stackTraces = false) (K : HK) (mc ms : Nat) (sz : Nat) (post : Int32 → hX → Prop) (xpost : String → Nat → hX → Prop) (X0 : hX) (p0 : Nat) (p1 : Int32) (p2 : Int32) (p3 : Int32) : vx_Met l yX1_dayOf wsX1_dayOf (rmh 7 115 mc ms) (hPc K X0 sz [.ref p0, .int p1, .int p2, .int p3] (wpX1_dayOf post xpost (K.2.2 0) mc ms X0 p0 p1 p2 p3)) (hQi post K X0 sz) (hXC xpost K X0 sz) mc ms (hA X0 sz) := by
  refine vx_ofW (cc := cX1_dayOf) (maxL := 4) (ret := (some .int)) (by decide) rfl ?_
  intro p e s m args below meth c s₁ B hml hno hv
  obtain ⟨rfl, hv⟩ := hv
  obtain ⟨hC, hP, hw⟩ := HC.of hv
  have hsz : s.heap.size = sz := hv.1
  subst hsz
  clear hv
  have hout : ∀ {pc : Nat}, ∀ x ∈ c.exceptionTable.toList, covers x pc = false := fun x hx => (hno x hx).elim
  have hr := B.returns
  have hts := atoms_spec (ws := wsX1_dayOf) B.pre
  have hts : ∀ w ∈ lw_all, w.before _ s = true := fun w h => hts w (List.mem_cons_of_mem _ h)
  have hF : CallFix p m c cX1_dayOf 4 s ([.ref p0, .int p1, .int p2, .int p3] : List Value).toArray lw_all RX1 := ⟨B.exec, B.bytes, hml, findClass_of_methodNamed B.named, hts⟩
  have hlocks := B.notSynchronized
  have hl := lv_entry ([.ref p0, .int p1, .int p2, .int p3]) (n := 4) (Nat.le_of_ble_eq_true rfl)
  rw [lg_entry_eq]
  generalize (lg_sl ([.ref p0, .int p1, .int p2, .int p3]) ++ List.replicate (4 - (lg_sl ([.ref p0, .int p1, .int p2, .int p3])).length) Slot.unset).toArray = ls at hl ⊢
  have hl : lv_has ls 4 [(0, .ref p0), (1, .int p1), (2, .int p2), (3, .int p3)] := hl
  have hS : va_S (hA X0 s.heap.size) s.heap s.heap [] := va_S.rf
  have T29 : ∀ (x1 : Int32) (x2 : Int32) (x3 : Int32) (z0 : Int32) (X : hX) (kc ks : Nat) (H : Heap) (locs : List Loc) (ls : Array Slot), hI K X0 s.heap.size X H → va_S (hA X0 s.heap.size) s.heap H locs → kc ≤ mc ∧ ks ≤ ms → lv_has ls 4 [(1, .int x1), (2, .int x2), (3, .int x3)] → wpX1_dayOf_29 post xpost (K.2.2 0) mc ms x1 x2 x3 z0 X kc ks → W p l e (rmh 7 115 mc ms) s m ([.ref p0, .int p1, .int p2, .int p3] : List Value).toArray below meth c H locs kc ks (vx_MQ below (hQi post K X0 s.heap.size) (hXC xpost K X0 s.heap.size) ([.ref p0, .int p1, .int p2, .int p3] : List Value).toArray s mc ms (hA X0 s.heap.size)) (F0 m 29 ls [.int z0]) := by
    intro x1 x2 x3 z0 X kc ks H locs ls hP hS hk hl hw
    unfold wpX1_dayOf_29 at hw
    obtain ⟨mc_2, ms_3, hc_4, hs_5, hw⟩ := hw
    refine hkx_v (hrx_S (As := [.int z0]) (rest := []) hF hl.1 hC hP hS (metX1_needArgument l hlt K mc_2 ms_3 _ _ _ X z0) (va_cwS 1 hF.2.2.2.2 (lw_S q1140 q1141 q75 q1142) rfl rfl rfl (by decide +kernel) ⟨Nat.le_of_ble_eq_true rfl, Nat.le_of_ble_eq_true rfl⟩) hw rfl rfl (Nat.le_of_ble_eq_true rfl) dX1_dayOf_29 ⟨hc_4, hs_5⟩) hP hS (fun E9 q9 X9 H locs hw hcl hP hS => ?_) (fun X_1 H locs hw hP hS => ?_)
    · exact h_out hout hlocks hcl hP hS ⟨hc_4, hs_5⟩ hw
    refine lv_iload_n hF.1 hF.2.1 dX1_dayOf_32 rfl (lv_at hl 2 rfl) ?_
    refine lv_i2l hF.1 hF.2.1 dX1_dayOf_33 rfl ?_
    refine lv_lconst (v := 1) hF.1 hF.2.1 dX1_dayOf_34 (by decide) ?_
    refine lv_iload_n hF.1 hF.2.1 dX1_dayOf_35 rfl (lv_at hl 0 rfl) ?_
    refine lv_iload_n hF.1 hF.2.1 dX1_dayOf_36 rfl (lv_at hl 1 rfl) ?_
    refine hp_i (hrp_S (As := [.int x1, .int x2]) (rest := [.long 1, .long (Int32.toInt64 x3)]) hF hl.1 (metX1_daysOf l _ x1 x2) (va_cwS 2 hF.2.2.2.2 (lw_S q296 q297 q75 q298) rfl rfl rfl (by decide +kernel) ⟨Nat.le_of_ble_eq_true rfl, Nat.le_of_ble_eq_true rfl⟩) hw rfl rfl (Nat.le_of_ble_eq_true rfl) dX1_dayOf_37 ⟨hc_4, hs_5⟩) (fun r_6 hw => ?_)
    refine lv_i2l hF.1 hF.2.1 dX1_dayOf_40 rfl ?_
    refine hp_i (hrp_S (As := [.long (Int32.toInt64 x3), .long 1, .long (Int32.toInt64 r_6)]) (rest := []) hF hl.1 (metX1_isBetween l _ (Int32.toInt64 x3) 1 (Int32.toInt64 r_6)) (va_cwS 3 hF.2.2.2.2 (lw_S q1228 q848 q75 q849) rfl rfl rfl (by decide +kernel) ⟨Nat.le_of_ble_eq_true rfl, Nat.le_of_ble_eq_true rfl⟩) hw rfl rfl (Nat.le_of_ble_eq_true rfl) dX1_dayOf_41 ⟨hc_4, hs_5⟩) (fun r_7 hw => ?_)
    obtain ⟨mc_9, ms_10, hc_11, hs_12, hw⟩ := hw
    refine hkx_v (hrx_S (As := [.int r_7]) (rest := []) hF hl.1 hC hP hS (metX1_needArgument l hlt K mc_9 ms_10 _ _ _ X_1 r_7) (va_cwS 1 hF.2.2.2.2 (lw_S q1140 q1141 q75 q1142) rfl rfl rfl (by decide +kernel) ⟨Nat.le_of_ble_eq_true rfl, Nat.le_of_ble_eq_true rfl⟩) hw rfl rfl (Nat.le_of_ble_eq_true rfl) dX1_dayOf_44 ⟨hc_11, hs_12⟩) hP hS (fun E9 q9 X9 H locs hw hcl hP hS => ?_) (fun X_8 H locs hw hP hS => ?_)
    · exact h_out hout hlocks hcl hP hS ⟨hc_11, hs_12⟩ hw
    refine lv_iload_n hF.1 hF.2.1 dX1_dayOf_47 rfl (lv_at hl 0 rfl) ?_
    refine lv_iload_n hF.1 hF.2.1 dX1_dayOf_48 rfl (lv_at hl 1 rfl) ?_
    refine hp_i (hrp_S (As := [.int x1, .int x2]) (rest := []) hF hl.1 (metX1_dayBefore l _ x1 x2) (va_cwS 2 hF.2.2.2.2 (lw_S q325 q326 q75 q327) rfl rfl rfl (by decide +kernel) ⟨Nat.le_of_ble_eq_true rfl, Nat.le_of_ble_eq_true rfl⟩) hw rfl rfl (Nat.le_of_ble_eq_true rfl) dX1_dayOf_49 ⟨hc_11, hs_12⟩) (fun r_13 hw => ?_)
    refine lv_iload_n hF.1 hF.2.1 dX1_dayOf_52 rfl (lv_at hl 2 rfl) ?_
    refine lv_iadd hF.1 hF.2.1 dX1_dayOf_53 ?_
    refine lv_iconst (v := 1) hF.1 hF.2.1 dX1_dayOf_54 (by decide) ?_
    refine lv_isub hF.1 hF.2.1 dX1_dayOf_55 ?_
    exact vx_ret (h_iret hF hr hlocks hP hS ⟨hc_11, hs_12⟩ dX1_dayOf_56 hw)
  have T28 : ∀ (x1 : Int32) (x2 : Int32) (x3 : Int32) (X : hX) (kc ks : Nat) (H : Heap) (locs : List Loc) (ls : Array Slot), hI K X0 s.heap.size X H → va_S (hA X0 s.heap.size) s.heap H locs → kc ≤ mc ∧ ks ≤ ms → lv_has ls 4 [(1, .int x1), (2, .int x2), (3, .int x3)] → wpX1_dayOf_28 post xpost (K.2.2 0) mc ms x1 x2 x3 X kc ks → W p l e (rmh 7 115 mc ms) s m ([.ref p0, .int p1, .int p2, .int p3] : List Value).toArray below meth c H locs kc ks (vx_MQ below (hQi post K X0 s.heap.size) (hXC xpost K X0 s.heap.size) ([.ref p0, .int p1, .int p2, .int p3] : List Value).toArray s mc ms (hA X0 s.heap.size)) (F0 m 28 ls []) := by
    intro x1 x2 x3 X kc ks H locs ls hP hS hk hl hw
    unfold wpX1_dayOf_28 at hw
    refine lv_iconst (v := 0) hF.1 hF.2.1 dX1_dayOf_28 (by decide) ?_
    exact T29 x1 x2 x3 0 X kc ks _ _ ls hP hS hk (lv_sub hl [0, 1, 2] rfl) hw
  unfold wpX1_dayOf at hw
  show W p l e (rmh 7 115 mc ms) s m _ below meth c _ _ _ _ _ _
  refine lv_iload_n hF.1 hF.2.1 dX1_dayOf_0 rfl (lv_at hl 1 rfl) ?_
  refine lv_i2l hF.1 hF.2.1 dX1_dayOf_1 rfl ?_
  refine lv_lconst (v := 1) hF.1 hF.2.1 dX1_dayOf_2 (by decide) ?_
  refine lv_ldc2 hF.1 hF.2.1 hF.2.2.2.1 (hF.2.2.2.2 _ q1415) dX1_dayOf_3 ?_
  refine hp_i (hrp_S (As := [.long (Int32.toInt64 p1), .long 1, .long 2738]) (rest := []) hF hl.1 (metX1_isBetween l _ (Int32.toInt64 p1) 1 2738) (va_cwS 3 hF.2.2.2.2 (lw_S q1228 q848 q75 q849) rfl rfl rfl (by decide +kernel) ⟨Nat.le_of_ble_eq_true rfl, Nat.le_of_ble_eq_true rfl⟩) hw rfl rfl (Nat.le_of_ble_eq_true rfl) dX1_dayOf_6 ⟨Nat.zero_le _, Nat.zero_le _⟩) (fun r_14 hw => ?_)
  refine lv_if_eq (tgt := 28) hF.1 hF.2.1 dX1_dayOf_9 (by decide) (fun c_15 => ?_) (fun c_15 => ?_)
  · have hw := hw.1 c_15
    exact T28 p1 p2 p3 X0 0 0 _ _ ls hP hS ⟨Nat.zero_le _, Nat.zero_le _⟩ (lv_sub hl [1, 2, 3] rfl) hw
  · have hw := hw.2 c_15
    refine lv_iload_n hF.1 hF.2.1 dX1_dayOf_12 rfl (lv_at hl 2 rfl) ?_
    refine lv_i2l hF.1 hF.2.1 dX1_dayOf_13 rfl ?_
    refine lv_lconst (v := 1) hF.1 hF.2.1 dX1_dayOf_14 (by decide) ?_
    refine lv_ldc2 hF.1 hF.2.1 hF.2.2.2.1 (hF.2.2.2.2 _ q1416) dX1_dayOf_15 ?_
    refine hp_i (hrp_S (As := [.long (Int32.toInt64 p2), .long 1, .long 12]) (rest := []) hF hl.1 (metX1_isBetween l _ (Int32.toInt64 p2) 1 12) (va_cwS 3 hF.2.2.2.2 (lw_S q1228 q848 q75 q849) rfl rfl rfl (by decide +kernel) ⟨Nat.le_of_ble_eq_true rfl, Nat.le_of_ble_eq_true rfl⟩) hw rfl rfl (Nat.le_of_ble_eq_true rfl) dX1_dayOf_18 ⟨Nat.zero_le _, Nat.zero_le _⟩) (fun r_16 hw => ?_)
    refine lv_if_eq (tgt := 28) hF.1 hF.2.1 dX1_dayOf_21 (by decide) (fun c_17 => ?_) (fun c_17 => ?_)
    · have hw := hw.1 c_17
      exact T28 p1 p2 p3 X0 0 0 _ _ ls hP hS ⟨Nat.zero_le _, Nat.zero_le _⟩ (lv_sub hl [1, 2, 3] rfl) hw
    · have hw := hw.2 c_17
      refine lv_iconst (v := 1) hF.1 hF.2.1 dX1_dayOf_24 (by decide) ?_
      refine lv_goto (tgt := 29) hF.1 hF.2.1 dX1_dayOf_25 (by decide) ?_
      exact T29 p1 p2 p3 1 X0 0 0 _ _ ls hP hS ⟨Nat.zero_le _, Nat.zero_le _⟩ (lv_sub hl [1, 2, 3] rfl) hw
def wpX1_daysUntil_128 (post : Int32 → hX → Prop) (xpost : String → Nat → hX → Prop) (E : Nat) (mc ms : Nat) (J70 : Nat → Int32 → Int32 → Int32 → Int32 → hX → Nat → Nat → Prop) (x0 : Nat) (x1 : Int32) (x2 : Int32) (x5 : Int32) (z0 : Int32) (X : hX) (kc ks : Nat) : Prop := (∀ x5_1 : Int32, x5_1 = x5 + 1 → J70 x0 x1 x2 z0 x5_1 X kc ks)
def wpX1_daysUntil_100 (post : Int32 → hX → Prop) (xpost : String → Nat → hX → Prop) (E : Nat) (mc ms : Nat) (J70 : Nat → Int32 → Int32 → Int32 → Int32 → hX → Nat → Nat → Prop) (x0 : Nat) (x1 : Int32) (x2 : Int32) (x5 : Int32) (z0 : Int32) (X : hX) (kc ks : Nat) : Prop := gfA X x0 1 0 (fun v_3 => gfI X v_3 2 7 (fun v_7 => ((z0 ≤ v_7 → wpX1_daysUntil_128 post xpost E mc ms J70 x0 x1 x2 x5 (-1) X kc ks) ∧ (¬ z0 ≤ v_7 → gfA X x0 1 0 (fun v_12 => gfI X v_12 2 7 (fun v_16 => wpX1_daysUntil_128 post xpost E mc ms J70 x0 x1 x2 x5 (z0 - v_16) X kc ks))))))
def wpX1_daysUntil_70 (post : Int32 → hX → Prop) (xpost : String → Nat → hX → Prop) (E : Nat) (mc ms : Nat) : Nat → Nat → Int32 → Int32 → Int32 → Int32 → hX → Nat → Nat → Prop
  | 0 => fun _ _ _ _ _ _ _ _ => False
  | n + 1 => fun x0 x1 x2 x4 x5 X kc ks => ((x4 = (-1) → wpX1_daysOf (fun r_20 => ((r_20 < x2 → wpX1_daysUntil_100 post xpost E mc ms (wpX1_daysUntil_70 post xpost E mc ms n) x0 x1 x2 x5 (-1) X kc ks) ∧ (¬ r_20 < x2 → wpX1_dayBefore (fun r_22 => wpX1_daysUntil_100 post xpost E mc ms (wpX1_daysUntil_70 post xpost E mc ms n) x0 x1 x2 x5 ((r_22 + x2) - 1) X kc ks) x5 x1))) x5 x1) ∧ (¬ x4 = (-1) → post x4 X))
def wpX1_daysUntil_46 (post : Int32 → hX → Prop) (xpost : String → Nat → hX → Prop) (E : Nat) (mc ms : Nat) (x0 : Nat) (x1 : Int32) (x2 : Int32) (z0 : Int32) (X : hX) (kc ks : Nat) : Prop := (∃ mc_24 ms_25 : Nat, kc + mc_24 ≤ mc ∧ ks + ms_25 ≤ ms ∧ wpX1_needSuch (fun X_23 => gfA X_23 x0 1 0 (fun v_29 => gfI X_23 v_29 2 7 (fun v_33 => wpX1_counted (fun r_36 => (∀ x3_37 : Int32, x3_37 = r_36 / 10000 → ∃ fu : Nat, wpX1_daysUntil_70 post xpost E mc ms fu x0 x1 x2 (-1) x3_37 X_23 (kc + mc_24) (ks + ms_25))) v_33))) xpost E mc_24 ms_25 X z0)
def wpX1_daysUntil_29 (post : Int32 → hX → Prop) (xpost : String → Nat → hX → Prop) (E : Nat) (mc ms : Nat) (x0 : Nat) (x1 : Int32) (x2 : Int32) (z0 : Int32) (X : hX) (kc ks : Nat) : Prop := (∃ mc_39 ms_40 : Nat, kc + mc_39 ≤ mc ∧ ks + ms_40 ≤ ms ∧ wpX1_needArgument (fun X_38 => wpX1_daysOf (fun r_43 => ((r_43 < x2 → wpX1_daysUntil_46 post xpost E mc ms x0 x1 x2 0 X_38 (kc + mc_39) (ks + ms_40)) ∧ (¬ r_43 < x2 → wpX1_daysUntil_46 post xpost E mc ms x0 x1 x2 1 X_38 (kc + mc_39) (ks + ms_40)))) 4 x1) xpost E mc_39 ms_40 X z0)
def wpX1_daysUntil_28 (post : Int32 → hX → Prop) (xpost : String → Nat → hX → Prop) (E : Nat) (mc ms : Nat) (x0 : Nat) (x1 : Int32) (x2 : Int32) (X : hX) (kc ks : Nat) : Prop := wpX1_daysUntil_29 post xpost E mc ms x0 x1 x2 0 X kc ks
def wpX1_daysUntil (post : Int32 → hX → Prop) (xpost : String → Nat → hX → Prop) (E : Nat) (mc ms : Nat) (X : hX) (p0 : Nat) (p1 : Int32) (p2 : Int32) : Prop := wpX1_isBetween (fun r_45 => ((r_45 = 0 → wpX1_daysUntil_28 post xpost E mc ms p0 p1 p2 X 0 0) ∧ (¬ r_45 = 0 → wpX1_isBetween (fun r_47 => ((r_47 = 0 → wpX1_daysUntil_28 post xpost E mc ms p0 p1 p2 X 0 0) ∧ (¬ r_47 = 0 → wpX1_daysUntil_29 post xpost E mc ms p0 p1 p2 1 X 0 0))) (Int32.toInt64 p2) 1 31))) (Int32.toInt64 p1) 1 12
abbrev wsX1_daysUntil : List Cond := ws_ yX1_daysUntil cX1_daysUntil 7 (some .int)
set_option maxHeartbeats 8000000 in
theorem metX1_daysUntil (l : Launch) (hlt : l.stackTraces = false) (K : HK) (mc ms : Nat) (sz : Nat) (post : Int32 → hX → Prop) (xpost : String → Nat → hX → Prop) (X0 : hX) (p0 : Nat) (p1 : Int32) (p2 : Int32) : vx_Met l yX1_daysUntil wsX1_daysUntil (rmh 7 115 mc ms) (hPc K X0 sz [.ref p0, .int p1, .int p2] (wpX1_daysUntil post xpost (K.2.2 0) mc ms X0 p0 p1 p2)) (hQi post K X0 sz) (hXC xpost K X0 sz) mc ms (hA X0 sz) := by
  refine vx_ofW (cc := cX1_daysUntil) (maxL := 7) (ret := (some .int)) (by decide) rfl ?_
  intro p e s m args below meth c s₁ B hml hno hv
  obtain ⟨rfl, hv⟩ := hv
  obtain ⟨hC, hP, hw⟩ := HC.of hv
  have hsz : s.heap.size = sz := hv.1
  subst hsz
  clear hv
  have hout : ∀ {pc : Nat}, ∀ x ∈ c.exceptionTable.toList, covers x pc = false := fun x hx => (hno x hx).elim
  have hr := B.returns
  have hts := atoms_spec (ws := wsX1_daysUntil) B.pre
  have hts : ∀ w ∈ lw_all, w.before _ s = true := fun w h => hts w (List.mem_cons_of_mem _ h)
  have hF : CallFix p m c cX1_daysUntil 7 s ([.ref p0, .int p1, .int p2] : List Value).toArray lw_all RX1 := ⟨B.exec, B.bytes, hml, findClass_of_methodNamed B.named, hts⟩
  have hlocks := B.notSynchronized
  have hl := lv_entry ([.ref p0, .int p1, .int p2]) (n := 7) (Nat.le_of_ble_eq_true rfl)
  rw [lg_entry_eq]
  generalize (lg_sl ([.ref p0, .int p1, .int p2]) ++ List.replicate (7 - (lg_sl ([.ref p0, .int p1, .int p2])).length) Slot.unset).toArray = ls at hl ⊢
  have hl : lv_has ls 7 [(0, .ref p0), (1, .int p1), (2, .int p2)] := hl
  have hS : va_S (hA X0 s.heap.size) s.heap s.heap [] := va_S.rf
  have T128 : ∀ (J70 : Nat → Int32 → Int32 → Int32 → Int32 → hX → Nat → Nat → Prop) (hJ70 : ∀ (x0 : Nat) (x1 : Int32) (x2 : Int32) (x4 : Int32) (x5 : Int32) (X : hX) (kc ks : Nat) (H : Heap) (locs : List Loc) (ls : Array Slot), hI K X0 s.heap.size X H → va_S (hA X0 s.heap.size) s.heap H locs → kc ≤ mc ∧ ks ≤ ms → lv_has ls 7 [(0, .ref x0), (1, .int x1), (2, .int x2), (4, .int x4), (5, .int x5)] → J70 x0 x1 x2 x4 x5 X kc ks → W p l e (rmh 7 115 mc ms) s m ([.ref p0, .int p1, .int p2] : List Value).toArray below meth c H locs kc ks (vx_MQ below (hQi post K X0 s.heap.size) (hXC xpost K X0 s.heap.size) ([.ref p0, .int p1, .int p2] : List Value).toArray s mc ms (hA X0 s.heap.size)) (F0 m 70 ls [])), ∀ (x0 : Nat) (x1 : Int32) (x2 : Int32) (x5 : Int32) (z0 : Int32) (X : hX) (kc ks : Nat) (H : Heap) (locs : List Loc) (ls : Array Slot), hI K X0 s.heap.size X H → va_S (hA X0 s.heap.size) s.heap H locs → kc ≤ mc ∧ ks ≤ ms → lv_has ls 7 [(0, .ref x0), (1, .int x1), (2, .int x2), (5, .int x5)] → wpX1_daysUntil_128 post xpost (K.2.2 0) mc ms J70 x0 x1 x2 x5 z0 X kc ks → W p l e (rmh 7 115 mc ms) s m ([.ref p0, .int p1, .int p2] : List Value).toArray below meth c H locs kc ks (vx_MQ below (hQi post K X0 s.heap.size) (hXC xpost K X0 s.heap.size) ([.ref p0, .int p1, .int p2] : List Value).toArray s mc ms (hA X0 s.heap.size)) (F0 m 128 ls [.int z0]) := by
    intro J70 hJ70
    intro x0 x1 x2 x5 z0 X kc ks H locs ls hP hS hk hl hw
    unfold wpX1_daysUntil_128 at hw
    refine lv_istore (lv' := [(4, .int z0), (0, .ref x0), (1, .int x1), (2, .int x2), (5, .int x5)]) hF.1 hF.2.1 dX1_daysUntil_128 hl (by decide) rfl (fun ls hl => ?_)
    obtain ⟨x5_1, ex5_1⟩ : ∃ y : Int32, y = x5 + 1 := ⟨_, rfl⟩
    have hw := hw x5_1 ex5_1
    refine lv_iinc (v := x5_1) (lv' := [(5, .int x5_1), (4, .int z0), (0, .ref x0), (1, .int x1), (2, .int x2)]) hF.1 hF.2.1 dX1_daysUntil_130 hl (k := 4) rfl (by rw [ex5_1]; rfl) (by decide) rfl (fun ls hl => ?_)
    refine lv_goto (tgt := 70) hF.1 hF.2.1 dX1_daysUntil_133 (by decide) ?_
    exact hJ70 x0 x1 x2 z0 x5_1 X kc ks _ _ ls hP hS hk (lv_sub hl [2, 3, 4, 1, 0] rfl) hw
  have T100 : ∀ (J70 : Nat → Int32 → Int32 → Int32 → Int32 → hX → Nat → Nat → Prop) (hJ70 : ∀ (x0 : Nat) (x1 : Int32) (x2 : Int32) (x4 : Int32) (x5 : Int32) (X : hX) (kc ks : Nat) (H : Heap) (locs : List Loc) (ls : Array Slot), hI K X0 s.heap.size X H → va_S (hA X0 s.heap.size) s.heap H locs → kc ≤ mc ∧ ks ≤ ms → lv_has ls 7 [(0, .ref x0), (1, .int x1), (2, .int x2), (4, .int x4), (5, .int x5)] → J70 x0 x1 x2 x4 x5 X kc ks → W p l e (rmh 7 115 mc ms) s m ([.ref p0, .int p1, .int p2] : List Value).toArray below meth c H locs kc ks (vx_MQ below (hQi post K X0 s.heap.size) (hXC xpost K X0 s.heap.size) ([.ref p0, .int p1, .int p2] : List Value).toArray s mc ms (hA X0 s.heap.size)) (F0 m 70 ls [])), ∀ (x0 : Nat) (x1 : Int32) (x2 : Int32) (x5 : Int32) (z0 : Int32) (X : hX) (kc ks : Nat) (H : Heap) (locs : List Loc) (ls : Array Slot), hI K X0 s.heap.size X H → va_S (hA X0 s.heap.size) s.heap H locs → kc ≤ mc ∧ ks ≤ ms → lv_has ls 7 [(0, .ref x0), (1, .int x1), (2, .int x2), (5, .int x5)] → wpX1_daysUntil_100 post xpost (K.2.2 0) mc ms J70 x0 x1 x2 x5 z0 X kc ks → W p l e (rmh 7 115 mc ms) s m ([.ref p0, .int p1, .int p2] : List Value).toArray below meth c H locs kc ks (vx_MQ below (hQi post K X0 s.heap.size) (hXC xpost K X0 s.heap.size) ([.ref p0, .int p1, .int p2] : List Value).toArray s mc ms (hA X0 s.heap.size)) (F0 m 100 ls [.int z0]) := by
    intro J70 hJ70
    intro x0 x1 x2 x5 z0 X kc ks H locs ls hP hS hk hl hw
    unfold wpX1_daysUntil_100 at hw
    refine lv_istore (lv' := [(6, .int z0), (0, .ref x0), (1, .int x1), (2, .int x2), (5, .int x5)]) hF.1 hF.2.1 dX1_daysUntil_100 hl (by decide) rfl (fun ls hl => ?_)
    refine lv_iload hF.1 hF.2.1 dX1_daysUntil_102 (lv_at hl 0 rfl) ?_
    refine lv_aload_n hF.1 hF.2.1 dX1_daysUntil_104 rfl (lv_at hl 1 rfl) ?_
    obtain ⟨fs_2, v_3, hx_4, hv_5, hw⟩ := hw
    refine x_get hF hC hP in_X1 rfl 0 (by decide) q244 (fun _ z => z) hx_4 hv_5 dX1_daysUntil_105 ?_
    obtain ⟨fs_6, v_7, hx_8, hv_9, hw⟩ := hw
    refine x_getN hF hC hP in_X2 rfl 7 (by decide) q169 (fun _ z => z) hx_8 hv_9 dX1_daysUntil_108 ?_
    refine lv_icmp_le (tgt := 127) hF.1 hF.2.1 dX1_daysUntil_111 (by decide) (fun c_10 => ?_) (fun c_10 => ?_)
    · have hw := hw.1 c_10
      refine lv_iconst (v := (-1)) hF.1 hF.2.1 dX1_daysUntil_127 (by decide) ?_
      exact T128 _ hJ70 x0 x1 x2 x5 (-1) X kc ks _ _ ls hP hS hk (lv_sub hl [1, 2, 3, 4] rfl) hw
    · have hw := hw.2 c_10
      refine lv_iload hF.1 hF.2.1 dX1_daysUntil_114 (lv_at hl 0 rfl) ?_
      refine lv_aload_n hF.1 hF.2.1 dX1_daysUntil_116 rfl (lv_at hl 1 rfl) ?_
      obtain ⟨fs_11, v_12, hx_13, hv_14, hw⟩ := hw
      refine x_get hF hC hP in_X1 rfl 0 (by decide) q244 (fun _ z => z) hx_13 hv_14 dX1_daysUntil_117 ?_
      obtain ⟨fs_15, v_16, hx_17, hv_18, hw⟩ := hw
      refine x_getN hF hC hP in_X2 rfl 7 (by decide) q169 (fun _ z => z) hx_17 hv_18 dX1_daysUntil_120 ?_
      refine lv_isub hF.1 hF.2.1 dX1_daysUntil_123 ?_
      refine lv_goto (tgt := 128) hF.1 hF.2.1 dX1_daysUntil_124 (by decide) ?_
      exact T128 _ hJ70 x0 x1 x2 x5 (z0 - v_16) X kc ks _ _ ls hP hS hk (lv_sub hl [1, 2, 3, 4] rfl) hw
  have T70 : ∀ (n : Nat), ∀ (x0 : Nat) (x1 : Int32) (x2 : Int32) (x4 : Int32) (x5 : Int32) (X : hX) (kc ks : Nat) (H : Heap) (locs : List Loc) (ls : Array Slot), hI K X0 s.heap.size X H → va_S (hA X0 s.heap.size) s.heap H locs → kc ≤ mc ∧ ks ≤ ms → lv_has ls 7 [(0, .ref x0), (1, .int x1), (2, .int x2), (4, .int x4), (5, .int x5)] → wpX1_daysUntil_70 post xpost (K.2.2 0) mc ms n x0 x1 x2 x4 x5 X kc ks → W p l e (rmh 7 115 mc ms) s m ([.ref p0, .int p1, .int p2] : List Value).toArray below meth c H locs kc ks (vx_MQ below (hQi post K X0 s.heap.size) (hXC xpost K X0 s.heap.size) ([.ref p0, .int p1, .int p2] : List Value).toArray s mc ms (hA X0 s.heap.size)) (F0 m 70 ls []) := by
    intro n
    induction n with
    | zero =>
      intro x0 x1 x2 x4 x5 X kc ks H locs ls hP hS hk hl hw
      exact False.elim hw
    | succ n ih =>
      intro x0 x1 x2 x4 x5 X kc ks H locs ls hP hS hk hl hw
      unfold wpX1_daysUntil_70 at hw
      refine lv_iload hF.1 hF.2.1 dX1_daysUntil_70 (lv_at hl 3 rfl) ?_
      refine lv_iconst (v := (-1)) hF.1 hF.2.1 dX1_daysUntil_72 (by decide) ?_
      refine lv_icmp_ne (tgt := 136) hF.1 hF.2.1 dX1_daysUntil_73 (by decide) (fun c_19 => ?_) (fun c_19 => ?_)
      · have hw := hw.2 c_19
        refine lv_iload hF.1 hF.2.1 dX1_daysUntil_136 (lv_at hl 3 rfl) ?_
        exact vx_ret (h_iret hF hr hlocks hP hS hk dX1_daysUntil_138 hw)
      · have hw := hw.1 c_19
        refine lv_iload_n hF.1 hF.2.1 dX1_daysUntil_76 rfl (lv_at hl 2 rfl) ?_
        refine lv_iload hF.1 hF.2.1 dX1_daysUntil_77 (lv_at hl 4 rfl) ?_
        refine lv_iload_n hF.1 hF.2.1 dX1_daysUntil_79 rfl (lv_at hl 1 rfl) ?_
        refine hp_i (hrp_S (As := [.int x5, .int x1]) (rest := [.int x2]) hF hl.1 (metX1_daysOf l _ x5 x1) (va_cwS 2 hF.2.2.2.2 (lw_S q296 q297 q75 q298) rfl rfl rfl (by decide +kernel) ⟨Nat.le_of_ble_eq_true rfl, Nat.le_of_ble_eq_true rfl⟩) hw rfl rfl (Nat.le_of_ble_eq_true rfl) dX1_daysUntil_80 hk) (fun r_20 hw => ?_)
        refine lv_icmp_gt (tgt := 99) hF.1 hF.2.1 dX1_daysUntil_83 (by decide) (fun c_21 => ?_) (fun c_21 => ?_)
        · have hw := hw.1 c_21
          refine lv_iconst (v := (-1)) hF.1 hF.2.1 dX1_daysUntil_99 (by decide) ?_
          exact T100 _ ih x0 x1 x2 x5 (-1) X kc ks _ _ ls hP hS hk (lv_sub hl [0, 1, 2, 4] rfl) hw
        · have hw := hw.2 c_21
          refine lv_iload hF.1 hF.2.1 dX1_daysUntil_86 (lv_at hl 4 rfl) ?_
          refine lv_iload_n hF.1 hF.2.1 dX1_daysUntil_88 rfl (lv_at hl 1 rfl) ?_
          refine hp_i (hrp_S (As := [.int x5, .int x1]) (rest := []) hF hl.1 (metX1_dayBefore l _ x5 x1) (va_cwS 2 hF.2.2.2.2 (lw_S q325 q326 q75 q327) rfl rfl rfl (by decide +kernel) ⟨Nat.le_of_ble_eq_true rfl, Nat.le_of_ble_eq_true rfl⟩) hw rfl rfl (Nat.le_of_ble_eq_true rfl) dX1_daysUntil_89 hk) (fun r_22 hw => ?_)
          refine lv_iload_n hF.1 hF.2.1 dX1_daysUntil_92 rfl (lv_at hl 2 rfl) ?_
          refine lv_iadd hF.1 hF.2.1 dX1_daysUntil_93 ?_
          refine lv_iconst (v := 1) hF.1 hF.2.1 dX1_daysUntil_94 (by decide) ?_
          refine lv_isub hF.1 hF.2.1 dX1_daysUntil_95 ?_
          refine lv_goto (tgt := 100) hF.1 hF.2.1 dX1_daysUntil_96 (by decide) ?_
          exact T100 _ ih x0 x1 x2 x5 ((r_22 + x2) - 1) X kc ks _ _ ls hP hS hk (lv_sub hl [0, 1, 2, 4] rfl) hw
  have T46 : ∀ (x0 : Nat) (x1 : Int32) (x2 : Int32) (z0 : Int32) (X : hX) (kc ks : Nat) (H : Heap) (locs : List Loc) (ls : Array Slot), hI K X0 s.heap.size X H → va_S (hA X0 s.heap.size) s.heap H locs → kc ≤ mc ∧ ks ≤ ms → lv_has ls 7 [(0, .ref x0), (1, .int x1), (2, .int x2)] → wpX1_daysUntil_46 post xpost (K.2.2 0) mc ms x0 x1 x2 z0 X kc ks → W p l e (rmh 7 115 mc ms) s m ([.ref p0, .int p1, .int p2] : List Value).toArray below meth c H locs kc ks (vx_MQ below (hQi post K X0 s.heap.size) (hXC xpost K X0 s.heap.size) ([.ref p0, .int p1, .int p2] : List Value).toArray s mc ms (hA X0 s.heap.size)) (F0 m 46 ls [.int z0]) := by
    intro x0 x1 x2 z0 X kc ks H locs ls hP hS hk hl hw
    unfold wpX1_daysUntil_46 at hw
    obtain ⟨mc_24, ms_25, hc_26, hs_27, hw⟩ := hw
    refine hkx_v (hrx_S (As := [.int z0]) (rest := []) hF hl.1 hC hP hS (metX1_needSuch l hlt K mc_24 ms_25 _ _ _ X z0) (va_cwS 1 hF.2.2.2.2 (lw_S q1180 q1181 q75 q1182) rfl rfl rfl (by decide +kernel) ⟨Nat.le_of_ble_eq_true rfl, Nat.le_of_ble_eq_true rfl⟩) hw rfl rfl (Nat.le_of_ble_eq_true rfl) dX1_daysUntil_46 ⟨hc_26, hs_27⟩) hP hS (fun E9 q9 X9 H locs hw hcl hP hS => ?_) (fun X_23 H locs hw hP hS => ?_)
    · exact h_out hout hlocks hcl hP hS ⟨hc_26, hs_27⟩ hw
    refine lv_aload_n hF.1 hF.2.1 dX1_daysUntil_49 rfl (lv_at hl 0 rfl) ?_
    obtain ⟨fs_28, v_29, hx_30, hv_31, hw⟩ := hw
    refine x_get hF hC hP in_X1 rfl 0 (by decide) q244 (fun _ z => z) hx_30 hv_31 dX1_daysUntil_50 ?_
    obtain ⟨fs_32, v_33, hx_34, hv_35, hw⟩ := hw
    refine x_getN hF hC hP in_X2 rfl 7 (by decide) q169 (fun _ z => z) hx_34 hv_35 dX1_daysUntil_53 ?_
    refine hp_i (hrp_S (As := [.int v_33]) (rest := []) hF hl.1 (metX1_counted l _ v_33) (va_cwS 1 hF.2.2.2.2 (lw_S q290 q291 q75 q292) rfl rfl rfl (by decide +kernel) ⟨Nat.le_of_ble_eq_true rfl, Nat.le_of_ble_eq_true rfl⟩) hw rfl rfl (Nat.le_of_ble_eq_true rfl) dX1_daysUntil_56 ⟨hc_26, hs_27⟩) (fun r_36 hw => ?_)
    refine lv_sipush (v := 10000) hF.1 hF.2.1 dX1_daysUntil_59 (by decide) ?_
    refine lv_idiv hF.1 hF.2.1 dX1_daysUntil_62 (by decide) ?_
    refine lv_topi (fun x3_37 ex3_37 => ?_)
    have hw := hw x3_37 ex3_37
    refine lv_istore_n (lv' := [(3, .int x3_37), (0, .ref x0), (1, .int x1), (2, .int x2)]) hF.1 hF.2.1 dX1_daysUntil_63 rfl hl (by decide) rfl (fun ls hl => ?_)
    refine lv_iconst (v := (-1)) hF.1 hF.2.1 dX1_daysUntil_64 (by decide) ?_
    refine lv_istore (lv' := [(4, .int (-1)), (3, .int x3_37), (0, .ref x0), (1, .int x1), (2, .int x2)]) hF.1 hF.2.1 dX1_daysUntil_65 hl (by decide) rfl (fun ls hl => ?_)
    refine lv_iload_n hF.1 hF.2.1 dX1_daysUntil_67 rfl (lv_at hl 1 rfl) ?_
    refine lv_istore (lv' := [(5, .int x3_37), (4, .int (-1)), (3, .int x3_37), (0, .ref x0), (1, .int x1), (2, .int x2)]) hF.1 hF.2.1 dX1_daysUntil_68 hl (by decide) rfl (fun ls hl => ?_)
    obtain ⟨fu, hw⟩ := hw
    exact T70 fu x0 x1 x2 (-1) x3_37 X_23 (kc + mc_24) (ks + ms_25) _ _ ls hP hS ⟨hc_26, hs_27⟩ (lv_sub hl [3, 4, 5, 1, 0] rfl) hw
  have T29 : ∀ (x0 : Nat) (x1 : Int32) (x2 : Int32) (z0 : Int32) (X : hX) (kc ks : Nat) (H : Heap) (locs : List Loc) (ls : Array Slot), hI K X0 s.heap.size X H → va_S (hA X0 s.heap.size) s.heap H locs → kc ≤ mc ∧ ks ≤ ms → lv_has ls 7 [(0, .ref x0), (1, .int x1), (2, .int x2)] → wpX1_daysUntil_29 post xpost (K.2.2 0) mc ms x0 x1 x2 z0 X kc ks → W p l e (rmh 7 115 mc ms) s m ([.ref p0, .int p1, .int p2] : List Value).toArray below meth c H locs kc ks (vx_MQ below (hQi post K X0 s.heap.size) (hXC xpost K X0 s.heap.size) ([.ref p0, .int p1, .int p2] : List Value).toArray s mc ms (hA X0 s.heap.size)) (F0 m 29 ls [.int z0]) := by
    intro x0 x1 x2 z0 X kc ks H locs ls hP hS hk hl hw
    unfold wpX1_daysUntil_29 at hw
    obtain ⟨mc_39, ms_40, hc_41, hs_42, hw⟩ := hw
    refine hkx_v (hrx_S (As := [.int z0]) (rest := []) hF hl.1 hC hP hS (metX1_needArgument l hlt K mc_39 ms_40 _ _ _ X z0) (va_cwS 1 hF.2.2.2.2 (lw_S q1140 q1141 q75 q1142) rfl rfl rfl (by decide +kernel) ⟨Nat.le_of_ble_eq_true rfl, Nat.le_of_ble_eq_true rfl⟩) hw rfl rfl (Nat.le_of_ble_eq_true rfl) dX1_daysUntil_29 ⟨hc_41, hs_42⟩) hP hS (fun E9 q9 X9 H locs hw hcl hP hS => ?_) (fun X_38 H locs hw hP hS => ?_)
    · exact h_out hout hlocks hcl hP hS ⟨hc_41, hs_42⟩ hw
    refine lv_iload_n hF.1 hF.2.1 dX1_daysUntil_32 rfl (lv_at hl 2 rfl) ?_
    refine lv_iconst (v := 4) hF.1 hF.2.1 dX1_daysUntil_33 (by decide) ?_
    refine lv_iload_n hF.1 hF.2.1 dX1_daysUntil_34 rfl (lv_at hl 1 rfl) ?_
    refine hp_i (hrp_S (As := [.int 4, .int x1]) (rest := [.int x2]) hF hl.1 (metX1_daysOf l _ 4 x1) (va_cwS 2 hF.2.2.2.2 (lw_S q296 q297 q75 q298) rfl rfl rfl (by decide +kernel) ⟨Nat.le_of_ble_eq_true rfl, Nat.le_of_ble_eq_true rfl⟩) hw rfl rfl (Nat.le_of_ble_eq_true rfl) dX1_daysUntil_35 ⟨hc_41, hs_42⟩) (fun r_43 hw => ?_)
    refine lv_icmp_gt (tgt := 45) hF.1 hF.2.1 dX1_daysUntil_38 (by decide) (fun c_44 => ?_) (fun c_44 => ?_)
    · have hw := hw.1 c_44
      refine lv_iconst (v := 0) hF.1 hF.2.1 dX1_daysUntil_45 (by decide) ?_
      exact T46 x0 x1 x2 0 X_38 (kc + mc_39) (ks + ms_40) _ _ ls hP hS ⟨hc_41, hs_42⟩ (lv_sub hl [0, 1, 2] rfl) hw
    · have hw := hw.2 c_44
      refine lv_iconst (v := 1) hF.1 hF.2.1 dX1_daysUntil_41 (by decide) ?_
      refine lv_goto (tgt := 46) hF.1 hF.2.1 dX1_daysUntil_42 (by decide) ?_
      exact T46 x0 x1 x2 1 X_38 (kc + mc_39) (ks + ms_40) _ _ ls hP hS ⟨hc_41, hs_42⟩ (lv_sub hl [0, 1, 2] rfl) hw
  have T28 : ∀ (x0 : Nat) (x1 : Int32) (x2 : Int32) (X : hX) (kc ks : Nat) (H : Heap) (locs : List Loc) (ls : Array Slot), hI K X0 s.heap.size X H → va_S (hA X0 s.heap.size) s.heap H locs → kc ≤ mc ∧ ks ≤ ms → lv_has ls 7 [(0, .ref x0), (1, .int x1), (2, .int x2)] → wpX1_daysUntil_28 post xpost (K.2.2 0) mc ms x0 x1 x2 X kc ks → W p l e (rmh 7 115 mc ms) s m ([.ref p0, .int p1, .int p2] : List Value).toArray below meth c H locs kc ks (vx_MQ below (hQi post K X0 s.heap.size) (hXC xpost K X0 s.heap.size) ([.ref p0, .int p1, .int p2] : List Value).toArray s mc ms (hA X0 s.heap.size)) (F0 m 28 ls []) := by
    intro x0 x1 x2 X kc ks H locs ls hP hS hk hl hw
    unfold wpX1_daysUntil_28 at hw
    refine lv_iconst (v := 0) hF.1 hF.2.1 dX1_daysUntil_28 (by decide) ?_
    exact T29 x0 x1 x2 0 X kc ks _ _ ls hP hS hk (lv_sub hl [0, 1, 2] rfl) hw
  unfold wpX1_daysUntil at hw
  show W p l e (rmh 7 115 mc ms) s m _ below meth c _ _ _ _ _ _
  refine lv_iload_n hF.1 hF.2.1 dX1_daysUntil_0 rfl (lv_at hl 1 rfl) ?_
  refine lv_i2l hF.1 hF.2.1 dX1_daysUntil_1 rfl ?_
  refine lv_lconst (v := 1) hF.1 hF.2.1 dX1_daysUntil_2 (by decide) ?_
  refine lv_ldc2 hF.1 hF.2.1 hF.2.2.2.1 (hF.2.2.2.2 _ q1416) dX1_daysUntil_3 ?_
  refine hp_i (hrp_S (As := [.long (Int32.toInt64 p1), .long 1, .long 12]) (rest := []) hF hl.1 (metX1_isBetween l _ (Int32.toInt64 p1) 1 12) (va_cwS 3 hF.2.2.2.2 (lw_S q1228 q848 q75 q849) rfl rfl rfl (by decide +kernel) ⟨Nat.le_of_ble_eq_true rfl, Nat.le_of_ble_eq_true rfl⟩) hw rfl rfl (Nat.le_of_ble_eq_true rfl) dX1_daysUntil_6 ⟨Nat.zero_le _, Nat.zero_le _⟩) (fun r_45 hw => ?_)
  refine lv_if_eq (tgt := 28) hF.1 hF.2.1 dX1_daysUntil_9 (by decide) (fun c_46 => ?_) (fun c_46 => ?_)
  · have hw := hw.1 c_46
    exact T28 p0 p1 p2 X0 0 0 _ _ ls hP hS ⟨Nat.zero_le _, Nat.zero_le _⟩ (lv_sub hl [0, 1, 2] rfl) hw
  · have hw := hw.2 c_46
    refine lv_iload_n hF.1 hF.2.1 dX1_daysUntil_12 rfl (lv_at hl 2 rfl) ?_
    refine lv_i2l hF.1 hF.2.1 dX1_daysUntil_13 rfl ?_
    refine lv_lconst (v := 1) hF.1 hF.2.1 dX1_daysUntil_14 (by decide) ?_
    refine lv_ldc2 hF.1 hF.2.1 hF.2.2.2.1 (hF.2.2.2.2 _ q1424) dX1_daysUntil_15 ?_
    refine hp_i (hrp_S (As := [.long (Int32.toInt64 p2), .long 1, .long 31]) (rest := []) hF hl.1 (metX1_isBetween l _ (Int32.toInt64 p2) 1 31) (va_cwS 3 hF.2.2.2.2 (lw_S q1228 q848 q75 q849) rfl rfl rfl (by decide +kernel) ⟨Nat.le_of_ble_eq_true rfl, Nat.le_of_ble_eq_true rfl⟩) hw rfl rfl (Nat.le_of_ble_eq_true rfl) dX1_daysUntil_18 ⟨Nat.zero_le _, Nat.zero_le _⟩) (fun r_47 hw => ?_)
    refine lv_if_eq (tgt := 28) hF.1 hF.2.1 dX1_daysUntil_21 (by decide) (fun c_48 => ?_) (fun c_48 => ?_)
    · have hw := hw.1 c_48
      exact T28 p0 p1 p2 X0 0 0 _ _ ls hP hS ⟨Nat.zero_le _, Nat.zero_le _⟩ (lv_sub hl [0, 1, 2] rfl) hw
    · have hw := hw.2 c_48
      refine lv_iconst (v := 1) hF.1 hF.2.1 dX1_daysUntil_24 (by decide) ?_
      refine lv_goto (tgt := 29) hF.1 hF.2.1 dX1_daysUntil_25 (by decide) ?_
      exact T29 p0 p1 p2 1 X0 0 0 _ _ ls hP hS ⟨Nat.zero_le _, Nat.zero_le _⟩ (lv_sub hl [0, 1, 2] rfl) hw
def wpX1_periodOf_18 (post : Int32 → hX → Prop) (xpost : String → Nat → hX → Prop) (E : Nat) (mc ms : Nat) (x2 : Int32) (z0 : Int32) (X : hX) (kc ks : Nat) : Prop := (∃ mc_2 ms_3 : Nat, kc + mc_2 ≤ mc ∧ ks + ms_3 ≤ ms ∧ wpX1_needSuch (fun X_1 => post x2 X_1) xpost E mc_2 ms_3 X z0)
def wpX1_periodOf (post : Int32 → hX → Prop) (xpost : String → Nat → hX → Prop) (E : Nat) (mc ms : Nat) (X : hX) (p0 : Nat) (p1 : Int32) : Prop := isO X p0 1 ((∃ mc_9 ms_10 : Nat, 0 + mc_9 ≤ mc ∧ 0 + ms_10 ≤ ms ∧ wpX1_armAt (fun r_6 X_7 => (∃ a_13 : Nat, r_6 = some a_13 ∧ gfI X_7 a_13 6 2 (fun v_16 => ((v_16 ≤ 0 → wpX1_periodOf_18 post xpost E mc ms v_16 0 X_7 (0 + mc_9) (0 + ms_10)) ∧ (¬ v_16 ≤ 0 → wpX1_periodOf_18 post xpost E mc ms v_16 1 X_7 (0 + mc_9) (0 + ms_10)))))) xpost E mc_9 ms_10 X p0 p1))
abbrev wsX1_periodOf : List Cond := ws_ yX1_periodOf cX1_periodOf 3 (some .int)
set_option maxHeartbeats 8000000 in
theorem metX1_periodOf (l : Launch) (hlt : l.stackTraces = false) (K : HK) (mc ms : Nat) (sz : Nat) (post : Int32 → hX → Prop) (xpost : String → Nat → hX → Prop) (X0 : hX) (p0 : Nat) (p1 : Int32) : vx_Met l yX1_periodOf wsX1_periodOf (rmh 8 136 mc ms) (hPc K X0 sz [.ref p0, .int p1] (wpX1_periodOf post xpost (K.2.2 0) mc ms X0 p0 p1)) (hQi post K X0 sz) (hXC xpost K X0 sz) mc ms (hA X0 sz) := by
  refine vx_ofW (cc := cX1_periodOf) (maxL := 3) (ret := (some .int)) (by decide) rfl ?_
  intro p e s m args below meth c s₁ B hml hno hv
  obtain ⟨rfl, hv⟩ := hv
  obtain ⟨hC, hP, hw⟩ := HC.of hv
  have hsz : s.heap.size = sz := hv.1
  subst hsz
  clear hv
  have hout : ∀ {pc : Nat}, ∀ x ∈ c.exceptionTable.toList, covers x pc = false := fun x hx => (hno x hx).elim
  have hr := B.returns
  have hts := atoms_spec (ws := wsX1_periodOf) B.pre
  have hts : ∀ w ∈ lw_all, w.before _ s = true := fun w h => hts w (List.mem_cons_of_mem _ h)
  have hF : CallFix p m c cX1_periodOf 3 s ([.ref p0, .int p1] : List Value).toArray lw_all RX1 := ⟨B.exec, B.bytes, hml, findClass_of_methodNamed B.named, hts⟩
  have hlocks := B.notSynchronized
  have hl := lv_entry ([.ref p0, .int p1]) (n := 3) (Nat.le_of_ble_eq_true rfl)
  rw [lg_entry_eq]
  generalize (lg_sl ([.ref p0, .int p1]) ++ List.replicate (3 - (lg_sl ([.ref p0, .int p1])).length) Slot.unset).toArray = ls at hl ⊢
  have hl : lv_has ls 3 [(0, .ref p0), (1, .int p1)] := hl
  have hS : va_S (hA X0 s.heap.size) s.heap s.heap [] := va_S.rf
  have T18 : ∀ (x2 : Int32) (z0 : Int32) (X : hX) (kc ks : Nat) (H : Heap) (locs : List Loc) (ls : Array Slot), hI K X0 s.heap.size X H → va_S (hA X0 s.heap.size) s.heap H locs → kc ≤ mc ∧ ks ≤ ms → lv_has ls 3 [(2, .int x2)] → wpX1_periodOf_18 post xpost (K.2.2 0) mc ms x2 z0 X kc ks → W p l e (rmh 8 136 mc ms) s m ([.ref p0, .int p1] : List Value).toArray below meth c H locs kc ks (vx_MQ below (hQi post K X0 s.heap.size) (hXC xpost K X0 s.heap.size) ([.ref p0, .int p1] : List Value).toArray s mc ms (hA X0 s.heap.size)) (F0 m 18 ls [.int z0]) := by
    intro x2 z0 X kc ks H locs ls hP hS hk hl hw
    unfold wpX1_periodOf_18 at hw
    obtain ⟨mc_2, ms_3, hc_4, hs_5, hw⟩ := hw
    refine hkx_v (hrx_S (As := [.int z0]) (rest := []) hF hl.1 hC hP hS (metX1_needSuch l hlt K mc_2 ms_3 _ _ _ X z0) (va_cwS 1 hF.2.2.2.2 (lw_S q1180 q1181 q75 q1182) rfl rfl rfl (by decide +kernel) ⟨Nat.le_of_ble_eq_true rfl, Nat.le_of_ble_eq_true rfl⟩) hw rfl rfl (Nat.le_of_ble_eq_true rfl) dX1_periodOf_18 ⟨hc_4, hs_5⟩) hP hS (fun E9 q9 X9 H locs hw hcl hP hS => ?_) (fun X_1 H locs hw hP hS => ?_)
    · exact h_out hout hlocks hcl hP hS ⟨hc_4, hs_5⟩ hw
    refine lv_iload_n hF.1 hF.2.1 dX1_periodOf_21 rfl (lv_at hl 0 rfl) ?_
    exact vx_ret (h_iret hF hr hlocks hP hS ⟨hc_4, hs_5⟩ dX1_periodOf_22 hw)
  unfold wpX1_periodOf at hw
  show W p l e (rmh 8 136 mc ms) s m _ below meth c _ _ _ _ _ _
  refine lv_aload_n hF.1 hF.2.1 dX1_periodOf_0 rfl (lv_at hl 0 rfl) ?_
  refine lv_iload_n hF.1 hF.2.1 dX1_periodOf_1 rfl (lv_at hl 1 rfl) ?_
  obtain ⟨ho_8, hw⟩ := hw
  obtain ⟨mc_9, ms_10, hc_11, hs_12, hw⟩ := hw
  refine hkx_q (hrx_V (As := [.int p1]) (rest := []) (T := TX1) (N := 4) (ci := 1) hF hl.1 hC hP hS (metX1_armAt l hlt K mc_9 ms_10 _ _ _ X0 p0 p1) rfl (cwV 1 hF.2.2.2.2 (lw_V q1269 q1271 qs14 q75 q1272) rfl rfl rfl (by decide +kernel) ⟨Nat.le_of_ble_eq_true rfl, Nat.le_of_ble_eq_true rfl⟩) ho_8 hw rfl rfl (Nat.le_of_ble_eq_true rfl) dX1_periodOf_2 ⟨hc_11, hs_12⟩) hP hS (fun E9 q9 X9 H locs hw hcl hP hS => ?_) (fun r_6 X_7 H locs hw hP hS => ?_)
  · exact h_out hout hlocks hcl hP hS ⟨hc_11, hs_12⟩ hw
  obtain ⟨a_13, e_14, hw⟩ := hw
  subst e_14
  rw [va_rf_some]
  obtain ⟨fs_15, v_16, hx_17, hv_18, hw⟩ := hw
  refine x_getN hF hC hP in_X7 rfl 2 (by decide) q928 (fun _ z => z) hx_17 hv_18 dX1_periodOf_5 ?_
  refine lv_istore_n (lv' := [(2, .int v_16), (0, .ref p0), (1, .int p1)]) hF.1 hF.2.1 dX1_periodOf_8 rfl hl (by decide) rfl (fun ls hl => ?_)
  refine lv_iload_n hF.1 hF.2.1 dX1_periodOf_9 rfl (lv_at hl 0 rfl) ?_
  refine lv_if_le (tgt := 17) hF.1 hF.2.1 dX1_periodOf_10 (by decide) (fun c_19 => ?_) (fun c_19 => ?_)
  · have hw := hw.1 c_19
    refine lv_iconst (v := 0) hF.1 hF.2.1 dX1_periodOf_17 (by decide) ?_
    exact T18 v_16 0 X_7 (0 + mc_9) (0 + ms_10) _ _ ls hP hS ⟨hc_11, hs_12⟩ (lv_sub hl [0] rfl) hw
  · have hw := hw.2 c_19
    refine lv_iconst (v := 1) hF.1 hF.2.1 dX1_periodOf_13 (by decide) ?_
    refine lv_goto (tgt := 18) hF.1 hF.2.1 dX1_periodOf_14 (by decide) ?_
    exact T18 v_16 1 X_7 (0 + mc_9) (0 + ms_10) _ _ ls hP hS ⟨hc_11, hs_12⟩ (lv_sub hl [0] rfl) hw
def wpX1_errorBits_27 (post : Int64 → hX → Prop) (xpost : String → Nat → hX → Prop) (E : Nat) (mc ms : Nat) (x0 : Nat) (x2 : Nat) (x3 : Nat) (z0 : Int32) (X : hX) (kc ks : Nat) : Prop := (∃ mc_2 ms_3 : Nat, kc + mc_2 ≤ mc ∧ ks + ms_3 ≤ ms ∧ wpX1_needSuch (fun X_1 => gfA X_1 x3 3 0 (fun v_7 => gfI X_1 x2 6 0 (fun v_11 => alJ X_1 v_7 v_11 (fun v_18 => wpJ11_abs (fun r_19 => gfA X_1 x3 3 1 (fun v_21 => gfI X_1 x2 6 0 (fun v_25 => alJ X_1 v_21 v_25 (fun v_32 => (vf_n64 (FP.ddiv (FP.l2d r_19) (FP.l2d v_32)) ∧ (∀ x4_34 : UInt64, x4_34 = FP.ddiv (FP.l2d r_19) (FP.l2d v_32) → gfI X_1 x2 6 2 (fun v_36 => (vf_n64 (FP.ddiv 4652007308841189376 (FP.i2d v_36)) ∧ (vf_n64 (FP.dsub x4_34 (FP.ddiv 4652007308841189376 (FP.i2d v_36))) ∧ gfA X_1 x0 1 0 (fun v_42 => gfI X_1 v_42 2 7 (fun v_46 => (vf_n64 (FP.dmul (FP.dsub x4_34 (FP.ddiv 4652007308841189376 (FP.i2d v_36))) (FP.i2d v_46)) ∧ wpJ19_doubleToLongBits (fun r_50 => post r_50 X_1) (FP.dmul (FP.dsub x4_34 (FP.ddiv 4652007308841189376 (FP.i2d v_36))) (FP.i2d v_46)))))))))))))) v_18)))) xpost E mc_2 ms_3 X z0)
def wpX1_errorBits (post : Int64 → hX → Prop) (xpost : String → Nat → hX → Prop) (E : Nat) (mc ms : Nat) (X : hX) (p0 : Nat) (p1 : Int32) : Prop := isO X p0 1 ((∃ mc_54 ms_55 : Nat, 0 + mc_54 ≤ mc ∧ 0 + ms_55 ≤ ms ∧ wpX1_armAt (fun r_51 X_52 => (∃ a_58 : Nat, r_51 = some a_58 ∧ gfI X_52 a_58 6 0 (fun v_61 => isO X_52 p0 1 ((∃ mc_67 ms_68 : Nat, (0 + mc_54) + mc_67 ≤ mc ∧ (0 + ms_55) + ms_68 ≤ ms ∧ wpX1_driving (fun r_64 X_65 => (∃ a_71 : Nat, r_64 = some a_71 ∧ gfI X_65 a_58 6 2 (fun v_74 => ((v_74 ≤ 0 → wpX1_errorBits_27 post xpost E mc ms p0 a_58 a_71 0 X_65 ((0 + mc_54) + mc_67) ((0 + ms_55) + ms_68)) ∧ (¬ v_74 ≤ 0 → wpX1_errorBits_27 post xpost E mc ms p0 a_58 a_71 1 X_65 ((0 + mc_54) + mc_67) ((0 + ms_55) + ms_68)))))) xpost E mc_67 ms_68 X_52 p0 v_61))))) xpost E mc_54 ms_55 X p0 p1))
abbrev wsX1_errorBits : List Cond := ws_ yX1_errorBits cX1_errorBits 6 (some .long)
set_option maxHeartbeats 8000000 in
theorem metX1_errorBits (l : Launch) (hlt : l.stackTraces = false) (K : HK) (mc ms : Nat) (sz : Nat) (post : Int64 → hX → Prop) (xpost : String → Nat → hX → Prop) (X0 : hX) (p0 : Nat) (p1 : Int32) : vx_Met l yX1_errorBits wsX1_errorBits (rmh 8 145 mc ms) (hPc K X0 sz [.ref p0, .int p1] (wpX1_errorBits post xpost (K.2.2 0) mc ms X0 p0 p1)) (hQl post K X0 sz) (hXC xpost K X0 sz) mc ms (hA X0 sz) := by
  refine vx_ofW (cc := cX1_errorBits) (maxL := 6) (ret := (some .long)) (by decide) rfl ?_
  intro p e s m args below meth c s₁ B hml hno hv
  obtain ⟨rfl, hv⟩ := hv
  obtain ⟨hC, hP, hw⟩ := HC.of hv
  have hsz : s.heap.size = sz := hv.1
  subst hsz
  clear hv
  have hout : ∀ {pc : Nat}, ∀ x ∈ c.exceptionTable.toList, covers x pc = false := fun x hx => (hno x hx).elim
  have hr := B.returns
  have hts := atoms_spec (ws := wsX1_errorBits) B.pre
  have hts : ∀ w ∈ lw_all, w.before _ s = true := fun w h => hts w (List.mem_cons_of_mem _ h)
  have hF : CallFix p m c cX1_errorBits 6 s ([.ref p0, .int p1] : List Value).toArray lw_all RX1 := ⟨B.exec, B.bytes, hml, findClass_of_methodNamed B.named, hts⟩
  have hlocks := B.notSynchronized
  have hl := lv_entry ([.ref p0, .int p1]) (n := 6) (Nat.le_of_ble_eq_true rfl)
  rw [lg_entry_eq]
  generalize (lg_sl ([.ref p0, .int p1]) ++ List.replicate (6 - (lg_sl ([.ref p0, .int p1])).length) Slot.unset).toArray = ls at hl ⊢
  have hl : lv_has ls 6 [(0, .ref p0), (1, .int p1)] := hl
  have hS : va_S (hA X0 s.heap.size) s.heap s.heap [] := va_S.rf
  have T27 : ∀ (x0 : Nat) (x2 : Nat) (x3 : Nat) (z0 : Int32) (X : hX) (kc ks : Nat) (H : Heap) (locs : List Loc) (ls : Array Slot), hI K X0 s.heap.size X H → va_S (hA X0 s.heap.size) s.heap H locs → kc ≤ mc ∧ ks ≤ ms → lv_has ls 6 [(0, .ref x0), (2, .ref x2), (3, .ref x3)] → wpX1_errorBits_27 post xpost (K.2.2 0) mc ms x0 x2 x3 z0 X kc ks → W p l e (rmh 8 145 mc ms) s m ([.ref p0, .int p1] : List Value).toArray below meth c H locs kc ks (vx_MQ below (hQl post K X0 s.heap.size) (hXC xpost K X0 s.heap.size) ([.ref p0, .int p1] : List Value).toArray s mc ms (hA X0 s.heap.size)) (F0 m 27 ls [.int z0]) := by
    intro x0 x2 x3 z0 X kc ks H locs ls hP hS hk hl hw
    unfold wpX1_errorBits_27 at hw
    obtain ⟨mc_2, ms_3, hc_4, hs_5, hw⟩ := hw
    refine hkx_v (hrx_S (As := [.int z0]) (rest := []) hF hl.1 hC hP hS (metX1_needSuch l hlt K mc_2 ms_3 _ _ _ X z0) (va_cwS 1 hF.2.2.2.2 (lw_S q1180 q1181 q75 q1182) rfl rfl rfl (by decide +kernel) ⟨Nat.le_of_ble_eq_true rfl, Nat.le_of_ble_eq_true rfl⟩) hw rfl rfl (Nat.le_of_ble_eq_true rfl) dX1_errorBits_27 ⟨hc_4, hs_5⟩) hP hS (fun E9 q9 X9 H locs hw hcl hP hS => ?_) (fun X_1 H locs hw hP hS => ?_)
    · exact h_out hout hlocks hcl hP hS ⟨hc_4, hs_5⟩ hw
    refine lv_aload_n hF.1 hF.2.1 dX1_errorBits_30 rfl (lv_at hl 2 rfl) ?_
    obtain ⟨fs_6, v_7, hx_8, hv_9, hw⟩ := hw
    refine x_getN hF hC hP in_X6 rfl 0 (by decide) q377 (fun _ z => z) hx_8 hv_9 dX1_errorBits_31 ?_
    refine lv_aload_n hF.1 hF.2.1 dX1_errorBits_34 rfl (lv_at hl 1 rfl) ?_
    obtain ⟨fs_10, v_11, hx_12, hv_13, hw⟩ := hw
    refine x_getN hF hC hP in_X7 rfl 0 (by decide) q922 (fun _ z => z) hx_12 hv_13 dX1_errorBits_35 ?_
    obtain ⟨n_14, f_15, hx_16, hi_17, hw⟩ := hw
    refine x_lald hF hC hP hx_16 hi_17 dX1_errorBits_38 ?_
    generalize f_15 (Int32.toNatClampNeg v_11) = v_18 at hw ⊢
    refine hp_l (hrp_S (As := [.long v_18]) (rest := []) hF hl.1 (metJ11_abs l _ v_18) (va_cwS 1 hF.2.2.2.2 (lw_S q368 q369 q89 q370) rfl rfl rfl (by decide +kernel) ⟨Nat.le_of_ble_eq_true rfl, Nat.le_of_ble_eq_true rfl⟩) hw rfl rfl (Nat.le_of_ble_eq_true rfl) dX1_errorBits_39 ⟨hc_4, hs_5⟩) (fun r_19 hw => ?_)
    refine lv_l2d hF.1 hF.2.1 dX1_errorBits_42 ?_
    refine lv_aload_n hF.1 hF.2.1 dX1_errorBits_43 rfl (lv_at hl 2 rfl) ?_
    obtain ⟨fs_20, v_21, hx_22, hv_23, hw⟩ := hw
    refine x_getN hF hC hP in_X6 rfl 1 (by decide) q380 (fun _ z => z) hx_22 hv_23 dX1_errorBits_44 ?_
    refine lv_aload_n hF.1 hF.2.1 dX1_errorBits_47 rfl (lv_at hl 1 rfl) ?_
    obtain ⟨fs_24, v_25, hx_26, hv_27, hw⟩ := hw
    refine x_getN hF hC hP in_X7 rfl 0 (by decide) q922 (fun _ z => z) hx_26 hv_27 dX1_errorBits_48 ?_
    obtain ⟨n_28, f_29, hx_30, hi_31, hw⟩ := hw
    refine x_lald hF hC hP hx_30 hi_31 dX1_errorBits_51 ?_
    generalize f_29 (Int32.toNatClampNeg v_25) = v_32 at hw ⊢
    refine lv_l2d hF.1 hF.2.1 dX1_errorBits_52 ?_
    obtain ⟨h_33, hw⟩ := hw
    refine lv_ddiv hF.1 hF.2.1 dX1_errorBits_53 h_33 ?_
    refine lv_topd (fun x4_34 ex4_34 => ?_)
    have hw := hw x4_34 ex4_34
    refine lv_dstore (lv' := [(4, .double x4_34), (0, .ref x0), (2, .ref x2), (3, .ref x3)]) hF.1 hF.2.1 dX1_errorBits_54 hl (by decide) rfl (fun ls hl => ?_)
    refine lv_dload hF.1 hF.2.1 dX1_errorBits_56 (lv_at hl 0 rfl) ?_
    refine lv_ldc2d hF.1 hF.2.1 hF.2.2.2.1 (hF.2.2.2.2 _ q1439) dX1_errorBits_58 ?_
    refine lv_aload_n hF.1 hF.2.1 dX1_errorBits_61 rfl (lv_at hl 2 rfl) ?_
    obtain ⟨fs_35, v_36, hx_37, hv_38, hw⟩ := hw
    refine x_getN hF hC hP in_X7 rfl 2 (by decide) q928 (fun _ z => z) hx_37 hv_38 dX1_errorBits_62 ?_
    refine lv_i2d hF.1 hF.2.1 dX1_errorBits_65 ?_
    obtain ⟨h_39, hw⟩ := hw
    refine lv_ddiv hF.1 hF.2.1 dX1_errorBits_66 h_39 ?_
    obtain ⟨h_40, hw⟩ := hw
    refine lv_dsub hF.1 hF.2.1 dX1_errorBits_67 h_40 ?_
    refine lv_aload_n hF.1 hF.2.1 dX1_errorBits_68 rfl (lv_at hl 1 rfl) ?_
    obtain ⟨fs_41, v_42, hx_43, hv_44, hw⟩ := hw
    refine x_get hF hC hP in_X1 rfl 0 (by decide) q244 (fun _ z => z) hx_43 hv_44 dX1_errorBits_69 ?_
    obtain ⟨fs_45, v_46, hx_47, hv_48, hw⟩ := hw
    refine x_getN hF hC hP in_X2 rfl 7 (by decide) q169 (fun _ z => z) hx_47 hv_48 dX1_errorBits_72 ?_
    refine lv_i2d hF.1 hF.2.1 dX1_errorBits_75 ?_
    obtain ⟨h_49, hw⟩ := hw
    refine lv_dmul hF.1 hF.2.1 dX1_errorBits_76 h_49 ?_
    refine hp_l (hrp_S (As := [.double (FP.dmul (FP.dsub x4_34 (FP.ddiv 4652007308841189376 (FP.i2d v_36))) (FP.i2d v_46))]) (rest := []) hF hl.1 (metJ19_doubleToLongBits l _ (FP.dmul (FP.dsub x4_34 (FP.ddiv 4652007308841189376 (FP.i2d v_36))) (FP.i2d v_46))) (va_cwS 1 hF.2.2.2.2 (lw_S q1440 q1441 q104 q1442) rfl rfl rfl (by decide +kernel) ⟨Nat.le_of_ble_eq_true rfl, Nat.le_of_ble_eq_true rfl⟩) hw rfl rfl (Nat.le_of_ble_eq_true rfl) dX1_errorBits_77 ⟨hc_4, hs_5⟩) (fun r_50 hw => ?_)
    exact vx_ret (h_lret hF hr hlocks hP hS ⟨hc_4, hs_5⟩ dX1_errorBits_80 hw)
  unfold wpX1_errorBits at hw
  show W p l e (rmh 8 145 mc ms) s m _ below meth c _ _ _ _ _ _
  refine lv_aload_n hF.1 hF.2.1 dX1_errorBits_0 rfl (lv_at hl 0 rfl) ?_
  refine lv_iload_n hF.1 hF.2.1 dX1_errorBits_1 rfl (lv_at hl 1 rfl) ?_
  obtain ⟨ho_53, hw⟩ := hw
  obtain ⟨mc_54, ms_55, hc_56, hs_57, hw⟩ := hw
  refine hkx_q (hrx_V (As := [.int p1]) (rest := []) (T := TX1) (N := 4) (ci := 1) hF hl.1 hC hP hS (metX1_armAt l hlt K mc_54 ms_55 _ _ _ X0 p0 p1) rfl (cwV 1 hF.2.2.2.2 (lw_V q1269 q1271 qs14 q75 q1272) rfl rfl rfl (by decide +kernel) ⟨Nat.le_of_ble_eq_true rfl, Nat.le_of_ble_eq_true rfl⟩) ho_53 hw rfl rfl (Nat.le_of_ble_eq_true rfl) dX1_errorBits_2 ⟨hc_56, hs_57⟩) hP hS (fun E9 q9 X9 H locs hw hcl hP hS => ?_) (fun r_51 X_52 H locs hw hP hS => ?_)
  · exact h_out hout hlocks hcl hP hS ⟨hc_56, hs_57⟩ hw
  obtain ⟨a_58, e_59, hw⟩ := hw
  subst e_59
  rw [va_rf_some]
  refine lv_astore_n (lv' := [(2, .ref a_58), (0, .ref p0), (1, .int p1)]) hF.1 hF.2.1 dX1_errorBits_5 rfl hl (by decide) rfl (fun ls hl => ?_)
  refine lv_aload_n hF.1 hF.2.1 dX1_errorBits_6 rfl (lv_at hl 1 rfl) ?_
  refine lv_aload_n hF.1 hF.2.1 dX1_errorBits_7 rfl (lv_at hl 0 rfl) ?_
  obtain ⟨fs_60, v_61, hx_62, hv_63, hw⟩ := hw
  refine x_getN hF hC hP in_X7 rfl 0 (by decide) q922 (fun _ z => z) hx_62 hv_63 dX1_errorBits_8 ?_
  obtain ⟨ho_66, hw⟩ := hw
  obtain ⟨mc_67, ms_68, hc_69, hs_70, hw⟩ := hw
  refine hkx_q (hrx_V (As := [.int v_61]) (rest := []) (T := TX1) (N := 4) (ci := 1) hF hl.1 hC hP hS (metX1_driving l hlt K mc_67 ms_68 _ _ _ X_52 p0 v_61) rfl (cwV 1 hF.2.2.2.2 (lw_V q1176 q1178 qs12 q75 q1179) rfl rfl rfl (by decide +kernel) ⟨Nat.le_of_ble_eq_true rfl, Nat.le_of_ble_eq_true rfl⟩) ho_66 hw rfl rfl (Nat.le_of_ble_eq_true rfl) dX1_errorBits_11 ⟨hc_69, hs_70⟩) hP hS (fun E9 q9 X9 H locs hw hcl hP hS => ?_) (fun r_64 X_65 H locs hw hP hS => ?_)
  · exact h_out hout hlocks hcl hP hS ⟨hc_69, hs_70⟩ hw
  obtain ⟨a_71, e_72, hw⟩ := hw
  subst e_72
  rw [va_rf_some]
  refine lv_astore_n (lv' := [(3, .ref a_71), (2, .ref a_58), (0, .ref p0), (1, .int p1)]) hF.1 hF.2.1 dX1_errorBits_14 rfl hl (by decide) rfl (fun ls hl => ?_)
  refine lv_aload_n hF.1 hF.2.1 dX1_errorBits_15 rfl (lv_at hl 1 rfl) ?_
  obtain ⟨fs_73, v_74, hx_75, hv_76, hw⟩ := hw
  refine x_getN hF hC hP in_X7 rfl 2 (by decide) q928 (fun _ z => z) hx_75 hv_76 dX1_errorBits_16 ?_
  refine lv_if_le (tgt := 26) hF.1 hF.2.1 dX1_errorBits_19 (by decide) (fun c_77 => ?_) (fun c_77 => ?_)
  · have hw := hw.1 c_77
    refine lv_iconst (v := 0) hF.1 hF.2.1 dX1_errorBits_26 (by decide) ?_
    exact T27 p0 a_58 a_71 0 X_65 ((0 + mc_54) + mc_67) ((0 + ms_55) + ms_68) _ _ ls hP hS ⟨hc_69, hs_70⟩ (lv_sub hl [2, 1, 0] rfl) hw
  · have hw := hw.2 c_77
    refine lv_iconst (v := 1) hF.1 hF.2.1 dX1_errorBits_22 (by decide) ?_
    refine lv_goto (tgt := 27) hF.1 hF.2.1 dX1_errorBits_23 (by decide) ?_
    exact T27 p0 a_58 a_71 1 X_65 ((0 + mc_54) + mc_67) ((0 + ms_55) + ms_68) _ _ ls hP hS ⟨hc_69, hs_70⟩ (lv_sub hl [2, 1, 0] rfl) hw
def wpX1_bestPair_163 (post : Int32 → hX → Prop) (xpost : String → Nat → hX → Prop) (E : Nat) (mc ms : Nat) (J43 : Int32 → Int32 → Int32 → Int32 → Int32 → hX → Nat → Nat → Prop) (J54 : Int32 → Int32 → Int32 → Int32 → Int32 → Int32 → hX → Nat → Nat → Prop) (x1 : Int32) (x2 : Int32) (x3 : Int32) (x4 : Int32) (x5 : Int32) (x6 : Int32) (X : hX) (kc ks : Nat) : Prop := (∀ x6_1 : Int32, x6_1 = x6 + 1 → J54 x1 x2 x3 x4 x5 x6_1 X kc ks)
def wpX1_bestPair_156 (post : Int32 → hX → Prop) (xpost : String → Nat → hX → Prop) (E : Nat) (mc ms : Nat) (J43 : Int32 → Int32 → Int32 → Int32 → Int32 → hX → Nat → Nat → Prop) (J54 : Int32 → Int32 → Int32 → Int32 → Int32 → Int32 → hX → Nat → Nat → Prop) (x1 : Int32) (x2 : Int32) (x5 : Int32) (x6 : Int32) (X : hX) (kc ks : Nat) : Prop := wpX1_bestPair_163 post xpost E mc ms J43 J54 x1 x2 x5 x6 x5 x6 X kc ks
def wpX1_bestPair_133 (post : Int32 → hX → Prop) (xpost : String → Nat → hX → Prop) (E : Nat) (mc ms : Nat) (J43 : Int32 → Int32 → Int32 → Int32 → Int32 → hX → Nat → Nat → Prop) (J54 : Int32 → Int32 → Int32 → Int32 → Int32 → Int32 → hX → Nat → Nat → Prop) (x1 : Int32) (x2 : Int32) (x3 : Int32) (x4 : Int32) (x5 : Int32) (x6 : Int32) (x7 : Int64) (x9 : Int64) (z0 : Int32) (X : hX) (kc ks : Nat) : Prop := ((x7 < x9 → wpX1_bestPair_156 post xpost E mc ms J43 J54 x1 x2 x5 x6 X kc ks) ∧ (¬ x7 < x9 → ((x7 = x9 → ((z0 = 0 → wpX1_bestPair_163 post xpost E mc ms J43 J54 x1 x2 x3 x4 x5 x6 X kc ks) ∧ (¬ z0 = 0 → wpX1_bestPair_156 post xpost E mc ms J43 J54 x1 x2 x5 x6 X kc ks))) ∧ (¬ x7 = x9 → wpX1_bestPair_163 post xpost E mc ms J43 J54 x1 x2 x3 x4 x5 x6 X kc ks))))
def wpX1_bestPair_128 (post : Int32 → hX → Prop) (xpost : String → Nat → hX → Prop) (E : Nat) (mc ms : Nat) (J43 : Int32 → Int32 → Int32 → Int32 → Int32 → hX → Nat → Nat → Prop) (J54 : Int32 → Int32 → Int32 → Int32 → Int32 → Int32 → hX → Nat → Nat → Prop) (x1 : Int32) (x2 : Int32) (x3 : Int32) (x4 : Int32) (x5 : Int32) (x6 : Int32) (x7 : Int64) (x9 : Int64) (X : hX) (kc ks : Nat) : Prop := wpX1_bestPair_133 post xpost E mc ms J43 J54 x1 x2 x3 x4 x5 x6 x7 x9 1 X kc ks
def wpX1_bestPair_132 (post : Int32 → hX → Prop) (xpost : String → Nat → hX → Prop) (E : Nat) (mc ms : Nat) (J43 : Int32 → Int32 → Int32 → Int32 → Int32 → hX → Nat → Nat → Prop) (J54 : Int32 → Int32 → Int32 → Int32 → Int32 → Int32 → hX → Nat → Nat → Prop) (x1 : Int32) (x2 : Int32) (x3 : Int32) (x4 : Int32) (x5 : Int32) (x6 : Int32) (x7 : Int64) (x9 : Int64) (X : hX) (kc ks : Nat) : Prop := wpX1_bestPair_133 post xpost E mc ms J43 J54 x1 x2 x3 x4 x5 x6 x7 x9 0 X kc ks
def wpX1_bestPair_54 (post : Int32 → hX → Prop) (xpost : String → Nat → hX → Prop) (E : Nat) (mc ms : Nat) (J43 : Int32 → Int32 → Int32 → Int32 → Int32 → hX → Nat → Nat → Prop) : Nat → Int32 → Int32 → Int32 → Int32 → Int32 → Int32 → hX → Nat → Nat → Prop
  | 0 => fun _ _ _ _ _ _ _ _ _ => False
  | n + 1 => fun x1 x2 x3 x4 x5 x6 X kc ks => ((120 < x6 → (∀ x5_6 : Int32, x5_6 = x5 + 1 → J43 x1 x2 x3 x4 x5_6 X kc ks)) ∧ (¬ 120 < x6 → wpJ11_abs_2 (fun r_7 => (∀ x7_8 : Int64, x7_8 = (Int32.toInt64 r_7) * (Int32.toInt64 x4) → wpJ11_abs_2 (fun r_9 => (∀ x9_10 : Int64, x9_10 = (Int32.toInt64 r_9) * (Int32.toInt64 x6) → (((x5 + x6) < (x3 + x4) → wpX1_bestPair_128 post xpost E mc ms J43 (wpX1_bestPair_54 post xpost E mc ms J43 n) x1 x2 x3 x4 x5 x6 x7_8 x9_10 X kc ks) ∧ (¬ (x5 + x6) < (x3 + x4) → (((x5 + x6) = (x3 + x4) → ((x3 ≤ x5 → wpX1_bestPair_132 post xpost E mc ms J43 (wpX1_bestPair_54 post xpost E mc ms J43 n) x1 x2 x3 x4 x5 x6 x7_8 x9_10 X kc ks) ∧ (¬ x3 ≤ x5 → wpX1_bestPair_128 post xpost E mc ms J43 (wpX1_bestPair_54 post xpost E mc ms J43 n) x1 x2 x3 x4 x5 x6 x7_8 x9_10 X kc ks))) ∧ (¬ (x5 + x6) = (x3 + x4) → wpX1_bestPair_132 post xpost E mc ms J43 (wpX1_bestPair_54 post xpost E mc ms J43 n) x1 x2 x3 x4 x5 x6 x7_8 x9_10 X kc ks)))))) ((x3 * x2) - (x1 * x4)))) ((x5 * x2) - (x1 * x6))))
def wpX1_bestPair_43 (post : Int32 → hX → Prop) (xpost : String → Nat → hX → Prop) (E : Nat) (mc ms : Nat) : Nat → Int32 → Int32 → Int32 → Int32 → Int32 → hX → Nat → Nat → Prop
  | 0 => fun _ _ _ _ _ _ _ _ => False
  | n + 1 => fun x1 x2 x3 x4 x5 X kc ks => ((120 < x5 → post ((1000 * x3) + x4) X) ∧ (¬ 120 < x5 → ∃ fu : Nat, wpX1_bestPair_54 post xpost E mc ms (wpX1_bestPair_43 post xpost E mc ms n) fu x1 x2 x3 x4 x5 8 X kc ks))
def wpX1_bestPair_29 (post : Int32 → hX → Prop) (xpost : String → Nat → hX → Prop) (E : Nat) (mc ms : Nat) (x1 : Int32) (x2 : Int32) (z0 : Int32) (X : hX) (kc ks : Nat) : Prop := (∃ mc_16 ms_17 : Nat, kc + mc_16 ≤ mc ∧ ks + ms_17 ≤ ms ∧ wpX1_needArgument (fun X_15 => ∃ fu : Nat, wpX1_bestPair_43 post xpost E mc ms fu x1 x2 8 8 8 X_15 (kc + mc_16) (ks + ms_17)) xpost E mc_16 ms_17 X z0)
def wpX1_bestPair_28 (post : Int32 → hX → Prop) (xpost : String → Nat → hX → Prop) (E : Nat) (mc ms : Nat) (x1 : Int32) (x2 : Int32) (X : hX) (kc ks : Nat) : Prop := wpX1_bestPair_29 post xpost E mc ms x1 x2 0 X kc ks
def wpX1_bestPair (post : Int32 → hX → Prop) (xpost : String → Nat → hX → Prop) (E : Nat) (mc ms : Nat) (X : hX) (p0 : Nat) (p1 : Int32) (p2 : Int32) : Prop := wpX1_isBetween (fun r_20 => ((r_20 = 0 → wpX1_bestPair_28 post xpost E mc ms p1 p2 X 0 0) ∧ (¬ r_20 = 0 → wpX1_isBetween (fun r_22 => ((r_22 = 0 → wpX1_bestPair_28 post xpost E mc ms p1 p2 X 0 0) ∧ (¬ r_22 = 0 → wpX1_bestPair_29 post xpost E mc ms p1 p2 1 X 0 0))) (Int32.toInt64 p2) 1 200))) (Int32.toInt64 p1) 1 200
abbrev wsX1_bestPair : List Cond := ws_ yX1_bestPair cX1_bestPair 12 (some .int)
set_option maxHeartbeats 8000000 in
theorem metX1_bestPair (l : Launch) (hlt : l.stackTraces = false) (K : HK) (mc ms : Nat) (sz : Nat) (post : Int32 → hX → Prop) (xpost : String → Nat → hX → Prop) (X0 : hX) (p0 : Nat) (p1 : Int32) (p2 : Int32) : vx_Met l yX1_bestPair wsX1_bestPair (rmh 7 115 mc ms) (hPc K X0 sz [.ref p0, .int p1, .int p2] (wpX1_bestPair post xpost (K.2.2 0) mc ms X0 p0 p1 p2)) (hQi post K X0 sz) (hXC xpost K X0 sz) mc ms (hA X0 sz) := by
  refine vx_ofW (cc := cX1_bestPair) (maxL := 12) (ret := (some .int)) (by decide) rfl ?_
  intro p e s m args below meth c s₁ B hml hno hv
  obtain ⟨rfl, hv⟩ := hv
  obtain ⟨hC, hP, hw⟩ := HC.of hv
  have hsz : s.heap.size = sz := hv.1
  subst hsz
  clear hv
  have hout : ∀ {pc : Nat}, ∀ x ∈ c.exceptionTable.toList, covers x pc = false := fun x hx => (hno x hx).elim
  have hr := B.returns
  have hts := atoms_spec (ws := wsX1_bestPair) B.pre
  have hts : ∀ w ∈ lw_all, w.before _ s = true := fun w h => hts w (List.mem_cons_of_mem _ h)
  have hF : CallFix p m c cX1_bestPair 12 s ([.ref p0, .int p1, .int p2] : List Value).toArray lw_all RX1 := ⟨B.exec, B.bytes, hml, findClass_of_methodNamed B.named, hts⟩
  have hlocks := B.notSynchronized
  have hl := lv_entry ([.ref p0, .int p1, .int p2]) (n := 12) (Nat.le_of_ble_eq_true rfl)
  rw [lg_entry_eq]
  generalize (lg_sl ([.ref p0, .int p1, .int p2]) ++ List.replicate (12 - (lg_sl ([.ref p0, .int p1, .int p2])).length) Slot.unset).toArray = ls at hl ⊢
  have hl : lv_has ls 12 [(0, .ref p0), (1, .int p1), (2, .int p2)] := hl
  have hS : va_S (hA X0 s.heap.size) s.heap s.heap [] := va_S.rf
  have T163 : ∀ (J43 : Int32 → Int32 → Int32 → Int32 → Int32 → hX → Nat → Nat → Prop) (hJ43 : ∀ (x1 : Int32) (x2 : Int32) (x3 : Int32) (x4 : Int32) (x5 : Int32) (X : hX) (kc ks : Nat) (H : Heap) (locs : List Loc) (ls : Array Slot), hI K X0 s.heap.size X H → va_S (hA X0 s.heap.size) s.heap H locs → kc ≤ mc ∧ ks ≤ ms → lv_has ls 12 [(1, .int x1), (2, .int x2), (3, .int x3), (4, .int x4), (5, .int x5)] → J43 x1 x2 x3 x4 x5 X kc ks → W p l e (rmh 7 115 mc ms) s m ([.ref p0, .int p1, .int p2] : List Value).toArray below meth c H locs kc ks (vx_MQ below (hQi post K X0 s.heap.size) (hXC xpost K X0 s.heap.size) ([.ref p0, .int p1, .int p2] : List Value).toArray s mc ms (hA X0 s.heap.size)) (F0 m 43 ls [])), ∀ (J54 : Int32 → Int32 → Int32 → Int32 → Int32 → Int32 → hX → Nat → Nat → Prop) (hJ54 : ∀ (x1 : Int32) (x2 : Int32) (x3 : Int32) (x4 : Int32) (x5 : Int32) (x6 : Int32) (X : hX) (kc ks : Nat) (H : Heap) (locs : List Loc) (ls : Array Slot), hI K X0 s.heap.size X H → va_S (hA X0 s.heap.size) s.heap H locs → kc ≤ mc ∧ ks ≤ ms → lv_has ls 12 [(1, .int x1), (2, .int x2), (3, .int x3), (4, .int x4), (5, .int x5), (6, .int x6)] → J54 x1 x2 x3 x4 x5 x6 X kc ks → W p l e (rmh 7 115 mc ms) s m ([.ref p0, .int p1, .int p2] : List Value).toArray below meth c H locs kc ks (vx_MQ below (hQi post K X0 s.heap.size) (hXC xpost K X0 s.heap.size) ([.ref p0, .int p1, .int p2] : List Value).toArray s mc ms (hA X0 s.heap.size)) (F0 m 54 ls [])), ∀ (x1 : Int32) (x2 : Int32) (x3 : Int32) (x4 : Int32) (x5 : Int32) (x6 : Int32) (X : hX) (kc ks : Nat) (H : Heap) (locs : List Loc) (ls : Array Slot), hI K X0 s.heap.size X H → va_S (hA X0 s.heap.size) s.heap H locs → kc ≤ mc ∧ ks ≤ ms → lv_has ls 12 [(1, .int x1), (2, .int x2), (3, .int x3), (4, .int x4), (5, .int x5), (6, .int x6)] → wpX1_bestPair_163 post xpost (K.2.2 0) mc ms J43 J54 x1 x2 x3 x4 x5 x6 X kc ks → W p l e (rmh 7 115 mc ms) s m ([.ref p0, .int p1, .int p2] : List Value).toArray below meth c H locs kc ks (vx_MQ below (hQi post K X0 s.heap.size) (hXC xpost K X0 s.heap.size) ([.ref p0, .int p1, .int p2] : List Value).toArray s mc ms (hA X0 s.heap.size)) (F0 m 163 ls []) := by
    intro J43 hJ43 J54 hJ54
    intro x1 x2 x3 x4 x5 x6 X kc ks H locs ls hP hS hk hl hw
    unfold wpX1_bestPair_163 at hw
    obtain ⟨x6_1, ex6_1⟩ : ∃ y : Int32, y = x6 + 1 := ⟨_, rfl⟩
    have hw := hw x6_1 ex6_1
    refine lv_iinc (v := x6_1) (lv' := [(6, .int x6_1), (1, .int x1), (2, .int x2), (3, .int x3), (4, .int x4), (5, .int x5)]) hF.1 hF.2.1 dX1_bestPair_163 hl (k := 5) rfl (by rw [ex6_1]; rfl) (by decide) rfl (fun ls hl => ?_)
    refine lv_goto (tgt := 54) hF.1 hF.2.1 dX1_bestPair_166 (by decide) ?_
    exact hJ54 x1 x2 x3 x4 x5 x6_1 X kc ks _ _ ls hP hS hk (lv_sub hl [1, 2, 3, 4, 5, 0] rfl) hw
  have T156 : ∀ (J43 : Int32 → Int32 → Int32 → Int32 → Int32 → hX → Nat → Nat → Prop) (hJ43 : ∀ (x1 : Int32) (x2 : Int32) (x3 : Int32) (x4 : Int32) (x5 : Int32) (X : hX) (kc ks : Nat) (H : Heap) (locs : List Loc) (ls : Array Slot), hI K X0 s.heap.size X H → va_S (hA X0 s.heap.size) s.heap H locs → kc ≤ mc ∧ ks ≤ ms → lv_has ls 12 [(1, .int x1), (2, .int x2), (3, .int x3), (4, .int x4), (5, .int x5)] → J43 x1 x2 x3 x4 x5 X kc ks → W p l e (rmh 7 115 mc ms) s m ([.ref p0, .int p1, .int p2] : List Value).toArray below meth c H locs kc ks (vx_MQ below (hQi post K X0 s.heap.size) (hXC xpost K X0 s.heap.size) ([.ref p0, .int p1, .int p2] : List Value).toArray s mc ms (hA X0 s.heap.size)) (F0 m 43 ls [])), ∀ (J54 : Int32 → Int32 → Int32 → Int32 → Int32 → Int32 → hX → Nat → Nat → Prop) (hJ54 : ∀ (x1 : Int32) (x2 : Int32) (x3 : Int32) (x4 : Int32) (x5 : Int32) (x6 : Int32) (X : hX) (kc ks : Nat) (H : Heap) (locs : List Loc) (ls : Array Slot), hI K X0 s.heap.size X H → va_S (hA X0 s.heap.size) s.heap H locs → kc ≤ mc ∧ ks ≤ ms → lv_has ls 12 [(1, .int x1), (2, .int x2), (3, .int x3), (4, .int x4), (5, .int x5), (6, .int x6)] → J54 x1 x2 x3 x4 x5 x6 X kc ks → W p l e (rmh 7 115 mc ms) s m ([.ref p0, .int p1, .int p2] : List Value).toArray below meth c H locs kc ks (vx_MQ below (hQi post K X0 s.heap.size) (hXC xpost K X0 s.heap.size) ([.ref p0, .int p1, .int p2] : List Value).toArray s mc ms (hA X0 s.heap.size)) (F0 m 54 ls [])), ∀ (x1 : Int32) (x2 : Int32) (x5 : Int32) (x6 : Int32) (X : hX) (kc ks : Nat) (H : Heap) (locs : List Loc) (ls : Array Slot), hI K X0 s.heap.size X H → va_S (hA X0 s.heap.size) s.heap H locs → kc ≤ mc ∧ ks ≤ ms → lv_has ls 12 [(1, .int x1), (2, .int x2), (5, .int x5), (6, .int x6)] → wpX1_bestPair_156 post xpost (K.2.2 0) mc ms J43 J54 x1 x2 x5 x6 X kc ks → W p l e (rmh 7 115 mc ms) s m ([.ref p0, .int p1, .int p2] : List Value).toArray below meth c H locs kc ks (vx_MQ below (hQi post K X0 s.heap.size) (hXC xpost K X0 s.heap.size) ([.ref p0, .int p1, .int p2] : List Value).toArray s mc ms (hA X0 s.heap.size)) (F0 m 156 ls []) := by
    intro J43 hJ43 J54 hJ54
    intro x1 x2 x5 x6 X kc ks H locs ls hP hS hk hl hw
    unfold wpX1_bestPair_156 at hw
    refine lv_iload hF.1 hF.2.1 dX1_bestPair_156 (lv_at hl 2 rfl) ?_
    refine lv_istore_n (lv' := [(3, .int x5), (1, .int x1), (2, .int x2), (5, .int x5), (6, .int x6)]) hF.1 hF.2.1 dX1_bestPair_158 rfl hl (by decide) rfl (fun ls hl => ?_)
    refine lv_iload hF.1 hF.2.1 dX1_bestPair_159 (lv_at hl 4 rfl) ?_
    refine lv_istore (lv' := [(4, .int x6), (3, .int x5), (1, .int x1), (2, .int x2), (5, .int x5), (6, .int x6)]) hF.1 hF.2.1 dX1_bestPair_161 hl (by decide) rfl (fun ls hl => ?_)
    exact T163 _ hJ43 _ hJ54 x1 x2 x5 x6 x5 x6 X kc ks _ _ ls hP hS hk (lv_sub hl [2, 3, 1, 0, 4, 5] rfl) hw
  have T133 : ∀ (J43 : Int32 → Int32 → Int32 → Int32 → Int32 → hX → Nat → Nat → Prop) (hJ43 : ∀ (x1 : Int32) (x2 : Int32) (x3 : Int32) (x4 : Int32) (x5 : Int32) (X : hX) (kc ks : Nat) (H : Heap) (locs : List Loc) (ls : Array Slot), hI K X0 s.heap.size X H → va_S (hA X0 s.heap.size) s.heap H locs → kc ≤ mc ∧ ks ≤ ms → lv_has ls 12 [(1, .int x1), (2, .int x2), (3, .int x3), (4, .int x4), (5, .int x5)] → J43 x1 x2 x3 x4 x5 X kc ks → W p l e (rmh 7 115 mc ms) s m ([.ref p0, .int p1, .int p2] : List Value).toArray below meth c H locs kc ks (vx_MQ below (hQi post K X0 s.heap.size) (hXC xpost K X0 s.heap.size) ([.ref p0, .int p1, .int p2] : List Value).toArray s mc ms (hA X0 s.heap.size)) (F0 m 43 ls [])), ∀ (J54 : Int32 → Int32 → Int32 → Int32 → Int32 → Int32 → hX → Nat → Nat → Prop) (hJ54 : ∀ (x1 : Int32) (x2 : Int32) (x3 : Int32) (x4 : Int32) (x5 : Int32) (x6 : Int32) (X : hX) (kc ks : Nat) (H : Heap) (locs : List Loc) (ls : Array Slot), hI K X0 s.heap.size X H → va_S (hA X0 s.heap.size) s.heap H locs → kc ≤ mc ∧ ks ≤ ms → lv_has ls 12 [(1, .int x1), (2, .int x2), (3, .int x3), (4, .int x4), (5, .int x5), (6, .int x6)] → J54 x1 x2 x3 x4 x5 x6 X kc ks → W p l e (rmh 7 115 mc ms) s m ([.ref p0, .int p1, .int p2] : List Value).toArray below meth c H locs kc ks (vx_MQ below (hQi post K X0 s.heap.size) (hXC xpost K X0 s.heap.size) ([.ref p0, .int p1, .int p2] : List Value).toArray s mc ms (hA X0 s.heap.size)) (F0 m 54 ls [])), ∀ (x1 : Int32) (x2 : Int32) (x3 : Int32) (x4 : Int32) (x5 : Int32) (x6 : Int32) (x7 : Int64) (x9 : Int64) (z0 : Int32) (X : hX) (kc ks : Nat) (H : Heap) (locs : List Loc) (ls : Array Slot), hI K X0 s.heap.size X H → va_S (hA X0 s.heap.size) s.heap H locs → kc ≤ mc ∧ ks ≤ ms → lv_has ls 12 [(1, .int x1), (2, .int x2), (3, .int x3), (4, .int x4), (5, .int x5), (6, .int x6), (7, .long x7), (9, .long x9)] → wpX1_bestPair_133 post xpost (K.2.2 0) mc ms J43 J54 x1 x2 x3 x4 x5 x6 x7 x9 z0 X kc ks → W p l e (rmh 7 115 mc ms) s m ([.ref p0, .int p1, .int p2] : List Value).toArray below meth c H locs kc ks (vx_MQ below (hQi post K X0 s.heap.size) (hXC xpost K X0 s.heap.size) ([.ref p0, .int p1, .int p2] : List Value).toArray s mc ms (hA X0 s.heap.size)) (F0 m 133 ls [.int z0]) := by
    intro J43 hJ43 J54 hJ54
    intro x1 x2 x3 x4 x5 x6 x7 x9 z0 X kc ks H locs ls hP hS hk hl hw
    unfold wpX1_bestPair_133 at hw
    refine lv_istore (lv' := [(11, .int z0), (1, .int x1), (2, .int x2), (3, .int x3), (4, .int x4), (5, .int x5), (6, .int x6), (7, .long x7), (9, .long x9)]) hF.1 hF.2.1 dX1_bestPair_133 hl (by decide) rfl (fun ls hl => ?_)
    refine lv_lload hF.1 hF.2.1 dX1_bestPair_135 (lv_at hl 7 rfl) ?_
    refine lv_lload hF.1 hF.2.1 dX1_bestPair_137 (lv_at hl 8 rfl) ?_
    refine W.lcmp hF.1 hF.2.1 dX1_bestPair_139 ?_
    refine lv_if_lt (tgt := 156) hF.1 hF.2.1 dX1_bestPair_140 (by decide) (fun c_2 => ?_) (fun c_2 => ?_)
    · rw [lc_lt] at c_2
      have hw := hw.1 c_2
      exact T156 _ hJ43 _ hJ54 x1 x2 x5 x6 X kc ks _ _ ls hP hS hk (lv_sub hl [1, 2, 5, 6] rfl) hw
    · rw [lc_lt] at c_2
      have hw := hw.2 c_2
      refine lv_lload hF.1 hF.2.1 dX1_bestPair_143 (lv_at hl 7 rfl) ?_
      refine lv_lload hF.1 hF.2.1 dX1_bestPair_145 (lv_at hl 8 rfl) ?_
      refine W.lcmp hF.1 hF.2.1 dX1_bestPair_147 ?_
      refine lv_if_ne (tgt := 163) hF.1 hF.2.1 dX1_bestPair_148 (by decide) (fun c_3 => ?_) (fun c_3 => ?_)
      · rw [lc_eq] at c_3
        have hw := hw.2 c_3
        exact T163 _ hJ43 _ hJ54 x1 x2 x3 x4 x5 x6 X kc ks _ _ ls hP hS hk (lv_sub hl [1, 2, 3, 4, 5, 6] rfl) hw
      · rw [lc_eq] at c_3
        have hw := hw.1 c_3
        refine lv_iload hF.1 hF.2.1 dX1_bestPair_151 (lv_at hl 0 rfl) ?_
        refine lv_if_eq (tgt := 163) hF.1 hF.2.1 dX1_bestPair_153 (by decide) (fun c_4 => ?_) (fun c_4 => ?_)
        · have hw := hw.1 c_4
          exact T163 _ hJ43 _ hJ54 x1 x2 x3 x4 x5 x6 X kc ks _ _ ls hP hS hk (lv_sub hl [1, 2, 3, 4, 5, 6] rfl) hw
        · have hw := hw.2 c_4
          exact T156 _ hJ43 _ hJ54 x1 x2 x5 x6 X kc ks _ _ ls hP hS hk (lv_sub hl [1, 2, 5, 6] rfl) hw
  have T128 : ∀ (J43 : Int32 → Int32 → Int32 → Int32 → Int32 → hX → Nat → Nat → Prop) (hJ43 : ∀ (x1 : Int32) (x2 : Int32) (x3 : Int32) (x4 : Int32) (x5 : Int32) (X : hX) (kc ks : Nat) (H : Heap) (locs : List Loc) (ls : Array Slot), hI K X0 s.heap.size X H → va_S (hA X0 s.heap.size) s.heap H locs → kc ≤ mc ∧ ks ≤ ms → lv_has ls 12 [(1, .int x1), (2, .int x2), (3, .int x3), (4, .int x4), (5, .int x5)] → J43 x1 x2 x3 x4 x5 X kc ks → W p l e (rmh 7 115 mc ms) s m ([.ref p0, .int p1, .int p2] : List Value).toArray below meth c H locs kc ks (vx_MQ below (hQi post K X0 s.heap.size) (hXC xpost K X0 s.heap.size) ([.ref p0, .int p1, .int p2] : List Value).toArray s mc ms (hA X0 s.heap.size)) (F0 m 43 ls [])), ∀ (J54 : Int32 → Int32 → Int32 → Int32 → Int32 → Int32 → hX → Nat → Nat → Prop) (hJ54 : ∀ (x1 : Int32) (x2 : Int32) (x3 : Int32) (x4 : Int32) (x5 : Int32) (x6 : Int32) (X : hX) (kc ks : Nat) (H : Heap) (locs : List Loc) (ls : Array Slot), hI K X0 s.heap.size X H → va_S (hA X0 s.heap.size) s.heap H locs → kc ≤ mc ∧ ks ≤ ms → lv_has ls 12 [(1, .int x1), (2, .int x2), (3, .int x3), (4, .int x4), (5, .int x5), (6, .int x6)] → J54 x1 x2 x3 x4 x5 x6 X kc ks → W p l e (rmh 7 115 mc ms) s m ([.ref p0, .int p1, .int p2] : List Value).toArray below meth c H locs kc ks (vx_MQ below (hQi post K X0 s.heap.size) (hXC xpost K X0 s.heap.size) ([.ref p0, .int p1, .int p2] : List Value).toArray s mc ms (hA X0 s.heap.size)) (F0 m 54 ls [])), ∀ (x1 : Int32) (x2 : Int32) (x3 : Int32) (x4 : Int32) (x5 : Int32) (x6 : Int32) (x7 : Int64) (x9 : Int64) (X : hX) (kc ks : Nat) (H : Heap) (locs : List Loc) (ls : Array Slot), hI K X0 s.heap.size X H → va_S (hA X0 s.heap.size) s.heap H locs → kc ≤ mc ∧ ks ≤ ms → lv_has ls 12 [(1, .int x1), (2, .int x2), (3, .int x3), (4, .int x4), (5, .int x5), (6, .int x6), (7, .long x7), (9, .long x9)] → wpX1_bestPair_128 post xpost (K.2.2 0) mc ms J43 J54 x1 x2 x3 x4 x5 x6 x7 x9 X kc ks → W p l e (rmh 7 115 mc ms) s m ([.ref p0, .int p1, .int p2] : List Value).toArray below meth c H locs kc ks (vx_MQ below (hQi post K X0 s.heap.size) (hXC xpost K X0 s.heap.size) ([.ref p0, .int p1, .int p2] : List Value).toArray s mc ms (hA X0 s.heap.size)) (F0 m 128 ls []) := by
    intro J43 hJ43 J54 hJ54
    intro x1 x2 x3 x4 x5 x6 x7 x9 X kc ks H locs ls hP hS hk hl hw
    unfold wpX1_bestPair_128 at hw
    refine lv_iconst (v := 1) hF.1 hF.2.1 dX1_bestPair_128 (by decide) ?_
    refine lv_goto (tgt := 133) hF.1 hF.2.1 dX1_bestPair_129 (by decide) ?_
    exact T133 _ hJ43 _ hJ54 x1 x2 x3 x4 x5 x6 x7 x9 1 X kc ks _ _ ls hP hS hk (lv_sub hl [0, 1, 2, 3, 4, 5, 6, 7] rfl) hw
  have T132 : ∀ (J43 : Int32 → Int32 → Int32 → Int32 → Int32 → hX → Nat → Nat → Prop) (hJ43 : ∀ (x1 : Int32) (x2 : Int32) (x3 : Int32) (x4 : Int32) (x5 : Int32) (X : hX) (kc ks : Nat) (H : Heap) (locs : List Loc) (ls : Array Slot), hI K X0 s.heap.size X H → va_S (hA X0 s.heap.size) s.heap H locs → kc ≤ mc ∧ ks ≤ ms → lv_has ls 12 [(1, .int x1), (2, .int x2), (3, .int x3), (4, .int x4), (5, .int x5)] → J43 x1 x2 x3 x4 x5 X kc ks → W p l e (rmh 7 115 mc ms) s m ([.ref p0, .int p1, .int p2] : List Value).toArray below meth c H locs kc ks (vx_MQ below (hQi post K X0 s.heap.size) (hXC xpost K X0 s.heap.size) ([.ref p0, .int p1, .int p2] : List Value).toArray s mc ms (hA X0 s.heap.size)) (F0 m 43 ls [])), ∀ (J54 : Int32 → Int32 → Int32 → Int32 → Int32 → Int32 → hX → Nat → Nat → Prop) (hJ54 : ∀ (x1 : Int32) (x2 : Int32) (x3 : Int32) (x4 : Int32) (x5 : Int32) (x6 : Int32) (X : hX) (kc ks : Nat) (H : Heap) (locs : List Loc) (ls : Array Slot), hI K X0 s.heap.size X H → va_S (hA X0 s.heap.size) s.heap H locs → kc ≤ mc ∧ ks ≤ ms → lv_has ls 12 [(1, .int x1), (2, .int x2), (3, .int x3), (4, .int x4), (5, .int x5), (6, .int x6)] → J54 x1 x2 x3 x4 x5 x6 X kc ks → W p l e (rmh 7 115 mc ms) s m ([.ref p0, .int p1, .int p2] : List Value).toArray below meth c H locs kc ks (vx_MQ below (hQi post K X0 s.heap.size) (hXC xpost K X0 s.heap.size) ([.ref p0, .int p1, .int p2] : List Value).toArray s mc ms (hA X0 s.heap.size)) (F0 m 54 ls [])), ∀ (x1 : Int32) (x2 : Int32) (x3 : Int32) (x4 : Int32) (x5 : Int32) (x6 : Int32) (x7 : Int64) (x9 : Int64) (X : hX) (kc ks : Nat) (H : Heap) (locs : List Loc) (ls : Array Slot), hI K X0 s.heap.size X H → va_S (hA X0 s.heap.size) s.heap H locs → kc ≤ mc ∧ ks ≤ ms → lv_has ls 12 [(1, .int x1), (2, .int x2), (3, .int x3), (4, .int x4), (5, .int x5), (6, .int x6), (7, .long x7), (9, .long x9)] → wpX1_bestPair_132 post xpost (K.2.2 0) mc ms J43 J54 x1 x2 x3 x4 x5 x6 x7 x9 X kc ks → W p l e (rmh 7 115 mc ms) s m ([.ref p0, .int p1, .int p2] : List Value).toArray below meth c H locs kc ks (vx_MQ below (hQi post K X0 s.heap.size) (hXC xpost K X0 s.heap.size) ([.ref p0, .int p1, .int p2] : List Value).toArray s mc ms (hA X0 s.heap.size)) (F0 m 132 ls []) := by
    intro J43 hJ43 J54 hJ54
    intro x1 x2 x3 x4 x5 x6 x7 x9 X kc ks H locs ls hP hS hk hl hw
    unfold wpX1_bestPair_132 at hw
    refine lv_iconst (v := 0) hF.1 hF.2.1 dX1_bestPair_132 (by decide) ?_
    exact T133 _ hJ43 _ hJ54 x1 x2 x3 x4 x5 x6 x7 x9 0 X kc ks _ _ ls hP hS hk (lv_sub hl [0, 1, 2, 3, 4, 5, 6, 7] rfl) hw
  have T54 : ∀ (J43 : Int32 → Int32 → Int32 → Int32 → Int32 → hX → Nat → Nat → Prop) (hJ43 : ∀ (x1 : Int32) (x2 : Int32) (x3 : Int32) (x4 : Int32) (x5 : Int32) (X : hX) (kc ks : Nat) (H : Heap) (locs : List Loc) (ls : Array Slot), hI K X0 s.heap.size X H → va_S (hA X0 s.heap.size) s.heap H locs → kc ≤ mc ∧ ks ≤ ms → lv_has ls 12 [(1, .int x1), (2, .int x2), (3, .int x3), (4, .int x4), (5, .int x5)] → J43 x1 x2 x3 x4 x5 X kc ks → W p l e (rmh 7 115 mc ms) s m ([.ref p0, .int p1, .int p2] : List Value).toArray below meth c H locs kc ks (vx_MQ below (hQi post K X0 s.heap.size) (hXC xpost K X0 s.heap.size) ([.ref p0, .int p1, .int p2] : List Value).toArray s mc ms (hA X0 s.heap.size)) (F0 m 43 ls [])), ∀ (n : Nat), ∀ (x1 : Int32) (x2 : Int32) (x3 : Int32) (x4 : Int32) (x5 : Int32) (x6 : Int32) (X : hX) (kc ks : Nat) (H : Heap) (locs : List Loc) (ls : Array Slot), hI K X0 s.heap.size X H → va_S (hA X0 s.heap.size) s.heap H locs → kc ≤ mc ∧ ks ≤ ms → lv_has ls 12 [(1, .int x1), (2, .int x2), (3, .int x3), (4, .int x4), (5, .int x5), (6, .int x6)] → wpX1_bestPair_54 post xpost (K.2.2 0) mc ms J43 n x1 x2 x3 x4 x5 x6 X kc ks → W p l e (rmh 7 115 mc ms) s m ([.ref p0, .int p1, .int p2] : List Value).toArray below meth c H locs kc ks (vx_MQ below (hQi post K X0 s.heap.size) (hXC xpost K X0 s.heap.size) ([.ref p0, .int p1, .int p2] : List Value).toArray s mc ms (hA X0 s.heap.size)) (F0 m 54 ls []) := by
    intro J43 hJ43
    intro n
    induction n with
    | zero =>
      intro x1 x2 x3 x4 x5 x6 X kc ks H locs ls hP hS hk hl hw
      exact False.elim hw
    | succ n ih =>
      intro x1 x2 x3 x4 x5 x6 X kc ks H locs ls hP hS hk hl hw
      unfold wpX1_bestPair_54 at hw
      refine lv_iload hF.1 hF.2.1 dX1_bestPair_54 (lv_at hl 5 rfl) ?_
      refine lv_bipush (v := 120) hF.1 hF.2.1 dX1_bestPair_56 (by decide) ?_
      refine lv_icmp_gt (tgt := 169) hF.1 hF.2.1 dX1_bestPair_58 (by decide) (fun c_5 => ?_) (fun c_5 => ?_)
      · have hw := hw.1 c_5
        obtain ⟨x5_6, ex5_6⟩ : ∃ y : Int32, y = x5 + 1 := ⟨_, rfl⟩
        have hw := hw x5_6 ex5_6
        refine lv_iinc (v := x5_6) (lv' := [(5, .int x5_6), (1, .int x1), (2, .int x2), (3, .int x3), (4, .int x4), (6, .int x6)]) hF.1 hF.2.1 dX1_bestPair_169 hl (k := 4) rfl (by rw [ex5_6]; rfl) (by decide) rfl (fun ls hl => ?_)
        refine lv_goto (tgt := 43) hF.1 hF.2.1 dX1_bestPair_172 (by decide) ?_
        exact hJ43 x1 x2 x3 x4 x5_6 X kc ks _ _ ls hP hS hk (lv_sub hl [1, 2, 3, 4, 0] rfl) hw
      · have hw := hw.2 c_5
        refine lv_iload hF.1 hF.2.1 dX1_bestPair_61 (lv_at hl 4 rfl) ?_
        refine lv_iload_n hF.1 hF.2.1 dX1_bestPair_63 rfl (lv_at hl 1 rfl) ?_
        refine lv_imul hF.1 hF.2.1 dX1_bestPair_64 ?_
        refine lv_iload_n hF.1 hF.2.1 dX1_bestPair_65 rfl (lv_at hl 0 rfl) ?_
        refine lv_iload hF.1 hF.2.1 dX1_bestPair_66 (lv_at hl 5 rfl) ?_
        refine lv_imul hF.1 hF.2.1 dX1_bestPair_68 ?_
        refine lv_isub hF.1 hF.2.1 dX1_bestPair_69 ?_
        refine hp_i (hrp_S (As := [.int ((x5 * x2) - (x1 * x6))]) (rest := []) hF hl.1 (metJ11_abs_2 l _ ((x5 * x2) - (x1 * x6))) (va_cwS 1 hF.2.2.2.2 (lw_S q1356 q1357 q89 q1358) rfl rfl rfl (by decide +kernel) ⟨Nat.le_of_ble_eq_true rfl, Nat.le_of_ble_eq_true rfl⟩) hw rfl rfl (Nat.le_of_ble_eq_true rfl) dX1_bestPair_70 hk) (fun r_7 hw => ?_)
        refine lv_i2l hF.1 hF.2.1 dX1_bestPair_73 rfl ?_
        refine lv_iload hF.1 hF.2.1 dX1_bestPair_74 (lv_at hl 3 rfl) ?_
        refine lv_i2l hF.1 hF.2.1 dX1_bestPair_76 rfl ?_
        refine lv_lmul hF.1 hF.2.1 dX1_bestPair_77 ?_
        refine lv_topl (fun x7_8 ex7_8 => ?_)
        have hw := hw x7_8 ex7_8
        refine lv_lstore (lv' := [(7, .long x7_8), (1, .int x1), (2, .int x2), (3, .int x3), (4, .int x4), (5, .int x5), (6, .int x6)]) hF.1 hF.2.1 dX1_bestPair_78 hl (by decide) rfl (fun ls hl => ?_)
        refine lv_iload_n hF.1 hF.2.1 dX1_bestPair_80 rfl (lv_at hl 3 rfl) ?_
        refine lv_iload_n hF.1 hF.2.1 dX1_bestPair_81 rfl (lv_at hl 2 rfl) ?_
        refine lv_imul hF.1 hF.2.1 dX1_bestPair_82 ?_
        refine lv_iload_n hF.1 hF.2.1 dX1_bestPair_83 rfl (lv_at hl 1 rfl) ?_
        refine lv_iload hF.1 hF.2.1 dX1_bestPair_84 (lv_at hl 4 rfl) ?_
        refine lv_imul hF.1 hF.2.1 dX1_bestPair_86 ?_
        refine lv_isub hF.1 hF.2.1 dX1_bestPair_87 ?_
        refine hp_i (hrp_S (As := [.int ((x3 * x2) - (x1 * x4))]) (rest := []) hF hl.1 (metJ11_abs_2 l _ ((x3 * x2) - (x1 * x4))) (va_cwS 1 hF.2.2.2.2 (lw_S q1356 q1357 q89 q1358) rfl rfl rfl (by decide +kernel) ⟨Nat.le_of_ble_eq_true rfl, Nat.le_of_ble_eq_true rfl⟩) hw rfl rfl (Nat.le_of_ble_eq_true rfl) dX1_bestPair_88 hk) (fun r_9 hw => ?_)
        refine lv_i2l hF.1 hF.2.1 dX1_bestPair_91 rfl ?_
        refine lv_iload hF.1 hF.2.1 dX1_bestPair_92 (lv_at hl 6 rfl) ?_
        refine lv_i2l hF.1 hF.2.1 dX1_bestPair_94 rfl ?_
        refine lv_lmul hF.1 hF.2.1 dX1_bestPair_95 ?_
        refine lv_topl (fun x9_10 ex9_10 => ?_)
        have hw := hw x9_10 ex9_10
        refine lv_lstore (lv' := [(9, .long x9_10), (7, .long x7_8), (1, .int x1), (2, .int x2), (3, .int x3), (4, .int x4), (5, .int x5), (6, .int x6)]) hF.1 hF.2.1 dX1_bestPair_96 hl (by decide) rfl (fun ls hl => ?_)
        refine lv_iload hF.1 hF.2.1 dX1_bestPair_98 (lv_at hl 6 rfl) ?_
        refine lv_iload hF.1 hF.2.1 dX1_bestPair_100 (lv_at hl 7 rfl) ?_
        refine lv_iadd hF.1 hF.2.1 dX1_bestPair_102 ?_
        refine lv_iload_n hF.1 hF.2.1 dX1_bestPair_103 rfl (lv_at hl 4 rfl) ?_
        refine lv_iload hF.1 hF.2.1 dX1_bestPair_104 (lv_at hl 5 rfl) ?_
        refine lv_iadd hF.1 hF.2.1 dX1_bestPair_106 ?_
        refine lv_icmp_lt (tgt := 128) hF.1 hF.2.1 dX1_bestPair_107 (by decide) (fun c_11 => ?_) (fun c_11 => ?_)
        · have hw := hw.1 c_11
          exact T128 _ hJ43 _ ih x1 x2 x3 x4 x5 x6 x7_8 x9_10 X kc ks _ _ ls hP hS hk (lv_sub hl [2, 3, 4, 5, 6, 7, 1, 0] rfl) hw
        · have hw := hw.2 c_11
          refine lv_iload hF.1 hF.2.1 dX1_bestPair_110 (lv_at hl 6 rfl) ?_
          refine lv_iload hF.1 hF.2.1 dX1_bestPair_112 (lv_at hl 7 rfl) ?_
          refine lv_iadd hF.1 hF.2.1 dX1_bestPair_114 ?_
          refine lv_iload_n hF.1 hF.2.1 dX1_bestPair_115 rfl (lv_at hl 4 rfl) ?_
          refine lv_iload hF.1 hF.2.1 dX1_bestPair_116 (lv_at hl 5 rfl) ?_
          refine lv_iadd hF.1 hF.2.1 dX1_bestPair_118 ?_
          refine lv_icmp_ne (tgt := 132) hF.1 hF.2.1 dX1_bestPair_119 (by decide) (fun c_12 => ?_) (fun c_12 => ?_)
          · have hw := hw.2 c_12
            exact T132 _ hJ43 _ ih x1 x2 x3 x4 x5 x6 x7_8 x9_10 X kc ks _ _ ls hP hS hk (lv_sub hl [2, 3, 4, 5, 6, 7, 1, 0] rfl) hw
          · have hw := hw.1 c_12
            refine lv_iload hF.1 hF.2.1 dX1_bestPair_122 (lv_at hl 6 rfl) ?_
            refine lv_iload_n hF.1 hF.2.1 dX1_bestPair_124 rfl (lv_at hl 4 rfl) ?_
            refine lv_icmp_ge (tgt := 132) hF.1 hF.2.1 dX1_bestPair_125 (by decide) (fun c_13 => ?_) (fun c_13 => ?_)
            · have hw := hw.1 c_13
              exact T132 _ hJ43 _ ih x1 x2 x3 x4 x5 x6 x7_8 x9_10 X kc ks _ _ ls hP hS hk (lv_sub hl [2, 3, 4, 5, 6, 7, 1, 0] rfl) hw
            · have hw := hw.2 c_13
              exact T128 _ hJ43 _ ih x1 x2 x3 x4 x5 x6 x7_8 x9_10 X kc ks _ _ ls hP hS hk (lv_sub hl [2, 3, 4, 5, 6, 7, 1, 0] rfl) hw
  have T43 : ∀ (n : Nat), ∀ (x1 : Int32) (x2 : Int32) (x3 : Int32) (x4 : Int32) (x5 : Int32) (X : hX) (kc ks : Nat) (H : Heap) (locs : List Loc) (ls : Array Slot), hI K X0 s.heap.size X H → va_S (hA X0 s.heap.size) s.heap H locs → kc ≤ mc ∧ ks ≤ ms → lv_has ls 12 [(1, .int x1), (2, .int x2), (3, .int x3), (4, .int x4), (5, .int x5)] → wpX1_bestPair_43 post xpost (K.2.2 0) mc ms n x1 x2 x3 x4 x5 X kc ks → W p l e (rmh 7 115 mc ms) s m ([.ref p0, .int p1, .int p2] : List Value).toArray below meth c H locs kc ks (vx_MQ below (hQi post K X0 s.heap.size) (hXC xpost K X0 s.heap.size) ([.ref p0, .int p1, .int p2] : List Value).toArray s mc ms (hA X0 s.heap.size)) (F0 m 43 ls []) := by
    intro n
    induction n with
    | zero =>
      intro x1 x2 x3 x4 x5 X kc ks H locs ls hP hS hk hl hw
      exact False.elim hw
    | succ n ih =>
      intro x1 x2 x3 x4 x5 X kc ks H locs ls hP hS hk hl hw
      unfold wpX1_bestPair_43 at hw
      refine lv_iload hF.1 hF.2.1 dX1_bestPair_43 (lv_at hl 4 rfl) ?_
      refine lv_bipush (v := 120) hF.1 hF.2.1 dX1_bestPair_45 (by decide) ?_
      refine lv_icmp_gt (tgt := 175) hF.1 hF.2.1 dX1_bestPair_47 (by decide) (fun c_14 => ?_) (fun c_14 => ?_)
      · have hw := hw.1 c_14
        refine lv_sipush (v := 1000) hF.1 hF.2.1 dX1_bestPair_175 (by decide) ?_
        refine lv_iload_n hF.1 hF.2.1 dX1_bestPair_178 rfl (lv_at hl 2 rfl) ?_
        refine lv_imul hF.1 hF.2.1 dX1_bestPair_179 ?_
        refine lv_iload hF.1 hF.2.1 dX1_bestPair_180 (lv_at hl 3 rfl) ?_
        refine lv_iadd hF.1 hF.2.1 dX1_bestPair_182 ?_
        exact vx_ret (h_iret hF hr hlocks hP hS hk dX1_bestPair_183 hw)
      · have hw := hw.2 c_14
        refine lv_bipush (v := 8) hF.1 hF.2.1 dX1_bestPair_50 (by decide) ?_
        refine lv_istore (lv' := [(6, .int 8), (1, .int x1), (2, .int x2), (3, .int x3), (4, .int x4), (5, .int x5)]) hF.1 hF.2.1 dX1_bestPair_52 hl (by decide) rfl (fun ls hl => ?_)
        obtain ⟨fu, hw⟩ := hw
        exact T54 _ ih fu x1 x2 x3 x4 x5 8 X kc ks _ _ ls hP hS hk (lv_sub hl [1, 2, 3, 4, 5, 0] rfl) hw
  have T29 : ∀ (x1 : Int32) (x2 : Int32) (z0 : Int32) (X : hX) (kc ks : Nat) (H : Heap) (locs : List Loc) (ls : Array Slot), hI K X0 s.heap.size X H → va_S (hA X0 s.heap.size) s.heap H locs → kc ≤ mc ∧ ks ≤ ms → lv_has ls 12 [(1, .int x1), (2, .int x2)] → wpX1_bestPair_29 post xpost (K.2.2 0) mc ms x1 x2 z0 X kc ks → W p l e (rmh 7 115 mc ms) s m ([.ref p0, .int p1, .int p2] : List Value).toArray below meth c H locs kc ks (vx_MQ below (hQi post K X0 s.heap.size) (hXC xpost K X0 s.heap.size) ([.ref p0, .int p1, .int p2] : List Value).toArray s mc ms (hA X0 s.heap.size)) (F0 m 29 ls [.int z0]) := by
    intro x1 x2 z0 X kc ks H locs ls hP hS hk hl hw
    unfold wpX1_bestPair_29 at hw
    obtain ⟨mc_16, ms_17, hc_18, hs_19, hw⟩ := hw
    refine hkx_v (hrx_S (As := [.int z0]) (rest := []) hF hl.1 hC hP hS (metX1_needArgument l hlt K mc_16 ms_17 _ _ _ X z0) (va_cwS 1 hF.2.2.2.2 (lw_S q1140 q1141 q75 q1142) rfl rfl rfl (by decide +kernel) ⟨Nat.le_of_ble_eq_true rfl, Nat.le_of_ble_eq_true rfl⟩) hw rfl rfl (Nat.le_of_ble_eq_true rfl) dX1_bestPair_29 ⟨hc_18, hs_19⟩) hP hS (fun E9 q9 X9 H locs hw hcl hP hS => ?_) (fun X_15 H locs hw hP hS => ?_)
    · exact h_out hout hlocks hcl hP hS ⟨hc_18, hs_19⟩ hw
    refine lv_bipush (v := 8) hF.1 hF.2.1 dX1_bestPair_32 (by decide) ?_
    refine lv_istore_n (lv' := [(3, .int 8), (1, .int x1), (2, .int x2)]) hF.1 hF.2.1 dX1_bestPair_34 rfl hl (by decide) rfl (fun ls hl => ?_)
    refine lv_bipush (v := 8) hF.1 hF.2.1 dX1_bestPair_35 (by decide) ?_
    refine lv_istore (lv' := [(4, .int 8), (3, .int 8), (1, .int x1), (2, .int x2)]) hF.1 hF.2.1 dX1_bestPair_37 hl (by decide) rfl (fun ls hl => ?_)
    refine lv_bipush (v := 8) hF.1 hF.2.1 dX1_bestPair_39 (by decide) ?_
    refine lv_istore (lv' := [(5, .int 8), (4, .int 8), (3, .int 8), (1, .int x1), (2, .int x2)]) hF.1 hF.2.1 dX1_bestPair_41 hl (by decide) rfl (fun ls hl => ?_)
    obtain ⟨fu, hw⟩ := hw
    exact T43 fu x1 x2 8 8 8 X_15 (kc + mc_16) (ks + ms_17) _ _ ls hP hS ⟨hc_18, hs_19⟩ (lv_sub hl [3, 4, 2, 1, 0] rfl) hw
  have T28 : ∀ (x1 : Int32) (x2 : Int32) (X : hX) (kc ks : Nat) (H : Heap) (locs : List Loc) (ls : Array Slot), hI K X0 s.heap.size X H → va_S (hA X0 s.heap.size) s.heap H locs → kc ≤ mc ∧ ks ≤ ms → lv_has ls 12 [(1, .int x1), (2, .int x2)] → wpX1_bestPair_28 post xpost (K.2.2 0) mc ms x1 x2 X kc ks → W p l e (rmh 7 115 mc ms) s m ([.ref p0, .int p1, .int p2] : List Value).toArray below meth c H locs kc ks (vx_MQ below (hQi post K X0 s.heap.size) (hXC xpost K X0 s.heap.size) ([.ref p0, .int p1, .int p2] : List Value).toArray s mc ms (hA X0 s.heap.size)) (F0 m 28 ls []) := by
    intro x1 x2 X kc ks H locs ls hP hS hk hl hw
    unfold wpX1_bestPair_28 at hw
    refine lv_iconst (v := 0) hF.1 hF.2.1 dX1_bestPair_28 (by decide) ?_
    exact T29 x1 x2 0 X kc ks _ _ ls hP hS hk (lv_sub hl [0, 1] rfl) hw
  unfold wpX1_bestPair at hw
  show W p l e (rmh 7 115 mc ms) s m _ below meth c _ _ _ _ _ _
  refine lv_iload_n hF.1 hF.2.1 dX1_bestPair_0 rfl (lv_at hl 1 rfl) ?_
  refine lv_i2l hF.1 hF.2.1 dX1_bestPair_1 rfl ?_
  refine lv_lconst (v := 1) hF.1 hF.2.1 dX1_bestPair_2 (by decide) ?_
  refine lv_ldc2 hF.1 hF.2.1 hF.2.2.2.1 (hF.2.2.2.2 _ q1457) dX1_bestPair_3 ?_
  refine hp_i (hrp_S (As := [.long (Int32.toInt64 p1), .long 1, .long 200]) (rest := []) hF hl.1 (metX1_isBetween l _ (Int32.toInt64 p1) 1 200) (va_cwS 3 hF.2.2.2.2 (lw_S q1228 q848 q75 q849) rfl rfl rfl (by decide +kernel) ⟨Nat.le_of_ble_eq_true rfl, Nat.le_of_ble_eq_true rfl⟩) hw rfl rfl (Nat.le_of_ble_eq_true rfl) dX1_bestPair_6 ⟨Nat.zero_le _, Nat.zero_le _⟩) (fun r_20 hw => ?_)
  refine lv_if_eq (tgt := 28) hF.1 hF.2.1 dX1_bestPair_9 (by decide) (fun c_21 => ?_) (fun c_21 => ?_)
  · have hw := hw.1 c_21
    exact T28 p1 p2 X0 0 0 _ _ ls hP hS ⟨Nat.zero_le _, Nat.zero_le _⟩ (lv_sub hl [1, 2] rfl) hw
  · have hw := hw.2 c_21
    refine lv_iload_n hF.1 hF.2.1 dX1_bestPair_12 rfl (lv_at hl 2 rfl) ?_
    refine lv_i2l hF.1 hF.2.1 dX1_bestPair_13 rfl ?_
    refine lv_lconst (v := 1) hF.1 hF.2.1 dX1_bestPair_14 (by decide) ?_
    refine lv_ldc2 hF.1 hF.2.1 hF.2.2.2.1 (hF.2.2.2.2 _ q1457) dX1_bestPair_15 ?_
    refine hp_i (hrp_S (As := [.long (Int32.toInt64 p2), .long 1, .long 200]) (rest := []) hF hl.1 (metX1_isBetween l _ (Int32.toInt64 p2) 1 200) (va_cwS 3 hF.2.2.2.2 (lw_S q1228 q848 q75 q849) rfl rfl rfl (by decide +kernel) ⟨Nat.le_of_ble_eq_true rfl, Nat.le_of_ble_eq_true rfl⟩) hw rfl rfl (Nat.le_of_ble_eq_true rfl) dX1_bestPair_18 ⟨Nat.zero_le _, Nat.zero_le _⟩) (fun r_22 hw => ?_)
    refine lv_if_eq (tgt := 28) hF.1 hF.2.1 dX1_bestPair_21 (by decide) (fun c_23 => ?_) (fun c_23 => ?_)
    · have hw := hw.1 c_23
      exact T28 p1 p2 X0 0 0 _ _ ls hP hS ⟨Nat.zero_le _, Nat.zero_le _⟩ (lv_sub hl [1, 2] rfl) hw
    · have hw := hw.2 c_23
      refine lv_iconst (v := 1) hF.1 hF.2.1 dX1_bestPair_24 (by decide) ?_
      refine lv_goto (tgt := 29) hF.1 hF.2.1 dX1_bestPair_25 (by decide) ?_
      exact T29 p1 p2 1 X0 0 0 _ _ ls hP hS ⟨Nat.zero_le _, Nat.zero_le _⟩ (lv_sub hl [1, 2] rfl) hw
def wpX1_degrees (post : UInt32 → hX → Prop) (xpost : String → Nat → hX → Prop) (E : Nat) (mc ms : Nat) (X : hX) (p0 : Nat) (p1 : Int32) : Prop := isO X p0 1 ((∃ mc_4 ms_5 : Nat, 0 + mc_4 ≤ mc ∧ 0 + ms_5 ≤ ms ∧ wpX1_angleOf (fun r_1 X_2 => (vf_n32 (FP.fdiv (FP.i2f r_1) 1114636288) ∧ post (FP.fdiv (FP.i2f r_1) 1114636288) X_2)) xpost E mc_4 ms_5 X p0 p1))
abbrev wsX1_degrees : List Cond := ws_ yX1_degrees cX1_degrees 2 (some .float)
set_option maxHeartbeats 8000000 in
theorem metX1_degrees (l : Launch) (hlt : l.stackTraces = false) (K : HK) (mc ms : Nat) (sz : Nat) (post : UInt32 → hX → Prop) (xpost : String → Nat → hX → Prop) (X0 : hX) (p0 : Nat) (p1 : Int32) : vx_Met l yX1_degrees wsX1_degrees (rmh 9 166 mc ms) (hPc K X0 sz [.ref p0, .int p1] (wpX1_degrees post xpost (K.2.2 0) mc ms X0 p0 p1)) (hQf post K X0 sz) (hXC xpost K X0 sz) mc ms (hA X0 sz) := by
  refine vx_ofW (cc := cX1_degrees) (maxL := 2) (ret := (some .float)) (by decide) rfl ?_
  intro p e s m args below meth c s₁ B hml hno hv
  obtain ⟨rfl, hv⟩ := hv
  obtain ⟨hC, hP, hw⟩ := HC.of hv
  have hsz : s.heap.size = sz := hv.1
  subst hsz
  clear hv
  have hout : ∀ {pc : Nat}, ∀ x ∈ c.exceptionTable.toList, covers x pc = false := fun x hx => (hno x hx).elim
  have hr := B.returns
  have hts := atoms_spec (ws := wsX1_degrees) B.pre
  have hts : ∀ w ∈ lw_all, w.before _ s = true := fun w h => hts w (List.mem_cons_of_mem _ h)
  have hF : CallFix p m c cX1_degrees 2 s ([.ref p0, .int p1] : List Value).toArray lw_all RX1 := ⟨B.exec, B.bytes, hml, findClass_of_methodNamed B.named, hts⟩
  have hlocks := B.notSynchronized
  have hl := lv_entry ([.ref p0, .int p1]) (n := 2) (Nat.le_of_ble_eq_true rfl)
  rw [lg_entry_eq]
  generalize (lg_sl ([.ref p0, .int p1]) ++ List.replicate (2 - (lg_sl ([.ref p0, .int p1])).length) Slot.unset).toArray = ls at hl ⊢
  have hl : lv_has ls 2 [(0, .ref p0), (1, .int p1)] := hl
  have hS : va_S (hA X0 s.heap.size) s.heap s.heap [] := va_S.rf
  unfold wpX1_degrees at hw
  show W p l e (rmh 9 166 mc ms) s m _ below meth c _ _ _ _ _ _
  refine lv_aload_n hF.1 hF.2.1 dX1_degrees_0 rfl (lv_at hl 0 rfl) ?_
  refine lv_iload_n hF.1 hF.2.1 dX1_degrees_1 rfl (lv_at hl 1 rfl) ?_
  obtain ⟨ho_3, hw⟩ := hw
  obtain ⟨mc_4, ms_5, hc_6, hs_7, hw⟩ := hw
  refine hkx_i (hrx_V (As := [.int p1]) (rest := []) (T := TX1) (N := 4) (ci := 1) hF hl.1 hC hP hS (metX1_angleOf l hlt K mc_4 ms_5 _ _ _ X0 p0 p1) rfl (cwV 1 hF.2.2.2.2 (lw_V q1465 q1279 q1280 q75 q1281) rfl rfl rfl (by decide +kernel) ⟨Nat.le_of_ble_eq_true rfl, Nat.le_of_ble_eq_true rfl⟩) ho_3 hw rfl rfl (Nat.le_of_ble_eq_true rfl) dX1_degrees_2 ⟨hc_6, hs_7⟩) hP hS (fun E9 q9 X9 H locs hw hcl hP hS => ?_) (fun r_1 X_2 H locs hw hP hS => ?_)
  · exact h_out hout hlocks hcl hP hS ⟨hc_6, hs_7⟩ hw
  refine lv_i2f hF.1 hF.2.1 dX1_degrees_5 ?_
  refine lv_ldcwf hF.1 hF.2.1 hF.2.2.2.1 (hF.2.2.2.2 _ q1466) dX1_degrees_6 ?_
  obtain ⟨h_8, hw⟩ := hw
  refine lv_fdiv hF.1 hF.2.1 dX1_degrees_9 h_8 ?_
  exact vx_ret (h_fret hF hr hlocks hP hS ⟨hc_6, hs_7⟩ dX1_degrees_10 hw)
def wpX1_degreeBits (post : Int32 → hX → Prop) (xpost : String → Nat → hX → Prop) (E : Nat) (mc ms : Nat) (X : hX) (p0 : Nat) (p1 : Int32) : Prop := isO X p0 1 ((∃ mc_4 ms_5 : Nat, 0 + mc_4 ≤ mc ∧ 0 + ms_5 ≤ ms ∧ wpX1_degrees (fun r_1 X_2 => wpJ20_floatToIntBits (fun r_8 => post r_8 X_2) r_1) xpost E mc_4 ms_5 X p0 p1))
abbrev wsX1_degreeBits : List Cond := ws_ yX1_degreeBits cX1_degreeBits 2 (some .int)
set_option maxHeartbeats 8000000 in
theorem metX1_degreeBits (l : Launch) (hlt : l.stackTraces = false) (K : HK) (mc ms : Nat) (sz : Nat) (post : Int32 → hX → Prop) (xpost : String → Nat → hX → Prop) (X0 : hX) (p0 : Nat) (p1 : Int32) : vx_Met l yX1_degreeBits wsX1_degreeBits (rmh 10 187 mc ms) (hPc K X0 sz [.ref p0, .int p1] (wpX1_degreeBits post xpost (K.2.2 0) mc ms X0 p0 p1)) (hQi post K X0 sz) (hXC xpost K X0 sz) mc ms (hA X0 sz) := by
  refine vx_ofW (cc := cX1_degreeBits) (maxL := 2) (ret := (some .int)) (by decide) rfl ?_
  intro p e s m args below meth c s₁ B hml hno hv
  obtain ⟨rfl, hv⟩ := hv
  obtain ⟨hC, hP, hw⟩ := HC.of hv
  have hsz : s.heap.size = sz := hv.1
  subst hsz
  clear hv
  have hout : ∀ {pc : Nat}, ∀ x ∈ c.exceptionTable.toList, covers x pc = false := fun x hx => (hno x hx).elim
  have hr := B.returns
  have hts := atoms_spec (ws := wsX1_degreeBits) B.pre
  have hts : ∀ w ∈ lw_all, w.before _ s = true := fun w h => hts w (List.mem_cons_of_mem _ h)
  have hF : CallFix p m c cX1_degreeBits 2 s ([.ref p0, .int p1] : List Value).toArray lw_all RX1 := ⟨B.exec, B.bytes, hml, findClass_of_methodNamed B.named, hts⟩
  have hlocks := B.notSynchronized
  have hl := lv_entry ([.ref p0, .int p1]) (n := 2) (Nat.le_of_ble_eq_true rfl)
  rw [lg_entry_eq]
  generalize (lg_sl ([.ref p0, .int p1]) ++ List.replicate (2 - (lg_sl ([.ref p0, .int p1])).length) Slot.unset).toArray = ls at hl ⊢
  have hl : lv_has ls 2 [(0, .ref p0), (1, .int p1)] := hl
  have hS : va_S (hA X0 s.heap.size) s.heap s.heap [] := va_S.rf
  unfold wpX1_degreeBits at hw
  show W p l e (rmh 10 187 mc ms) s m _ below meth c _ _ _ _ _ _
  refine lv_aload_n hF.1 hF.2.1 dX1_degreeBits_0 rfl (lv_at hl 0 rfl) ?_
  refine lv_iload_n hF.1 hF.2.1 dX1_degreeBits_1 rfl (lv_at hl 1 rfl) ?_
  obtain ⟨ho_3, hw⟩ := hw
  obtain ⟨mc_4, ms_5, hc_6, hs_7, hw⟩ := hw
  refine hkx_f (hrx_V (As := [.int p1]) (rest := []) (T := TX1) (N := 4) (ci := 1) hF hl.1 hC hP hS (metX1_degrees l hlt K mc_4 ms_5 _ _ _ X0 p0 p1) rfl (cwV 1 hF.2.2.2.2 (lw_V q1474 q1462 q1463 q75 q1464) rfl rfl rfl (by decide +kernel) ⟨Nat.le_of_ble_eq_true rfl, Nat.le_of_ble_eq_true rfl⟩) ho_3 hw rfl rfl (Nat.le_of_ble_eq_true rfl) dX1_degreeBits_2 ⟨hc_6, hs_7⟩) hP hS (fun E9 q9 X9 H locs hw hcl hP hS => ?_) (fun r_1 X_2 H locs hw hP hS => ?_)
  · exact h_out hout hlocks hcl hP hS ⟨hc_6, hs_7⟩ hw
  refine hp_i (hrp_S (As := [.float r_1]) (rest := []) hF hl.1 (metJ20_floatToIntBits l _ r_1) (va_cwS 1 hF.2.2.2.2 (lw_S q1475 q1476 q105 q1477) rfl rfl rfl (by decide +kernel) ⟨Nat.le_of_ble_eq_true rfl, Nat.le_of_ble_eq_true rfl⟩) hw rfl rfl (Nat.le_of_ble_eq_true rfl) dX1_degreeBits_5 ⟨hc_6, hs_7⟩) (fun r_8 hw => ?_)
  exact vx_ret (h_iret hF hr hlocks hP hS ⟨hc_6, hs_7⟩ dX1_degreeBits_8 hw)
def wpX1_teeth (post : Int32 → hX → Prop) (xpost : String → Nat → hX → Prop) (E : Nat) (mc ms : Nat) (X : hX) (p0 : Nat) (p1 : Int32) : Prop := gfA X p0 1 0 (fun v_2 => gfA X v_2 2 0 (fun v_6 => isO X v_6 8 (wpJ2_get (fun r_9 X_10 => (∃ a_12 : Nat, r_9 = some a_12 ∧ ((∃ fs, X_10 a_12 = some (.inr (5, fs))) ∧ gfI X_10 a_12 5 1 (fun v_16 => post v_16 X_10)))) E X v_6 p1)))
abbrev wsX1_teeth : List Cond := ws_ yX1_teeth cX1_teeth 2 (some .int)
set_option maxHeartbeats 8000000 in
theorem metX1_teeth (l : Launch) (hlt : l.stackTraces = false) (K : HK) (mc ms : Nat) (sz : Nat) (post : Int32 → hX → Prop) (xpost : String → Nat → hX → Prop) (X0 : hX) (p0 : Nat) (p1 : Int32) : vx_Met l yX1_teeth wsX1_teeth (rmh 3 64 mc ms) (hPc K X0 sz [.ref p0, .int p1] (wpX1_teeth post xpost (K.2.2 0) mc ms X0 p0 p1)) (hQi post K X0 sz) (hXC xpost K X0 sz) mc ms (hA X0 sz) := by
  refine vx_ofW (cc := cX1_teeth) (maxL := 2) (ret := (some .int)) (by decide) rfl ?_
  intro p e s m args below meth c s₁ B hml hno hv
  obtain ⟨rfl, hv⟩ := hv
  obtain ⟨hC, hP, hw⟩ := HC.of hv
  have hsz : s.heap.size = sz := hv.1
  subst hsz
  clear hv
  have hout : ∀ {pc : Nat}, ∀ x ∈ c.exceptionTable.toList, covers x pc = false := fun x hx => (hno x hx).elim
  have hr := B.returns
  have hts := atoms_spec (ws := wsX1_teeth) B.pre
  have hts : ∀ w ∈ lw_all, w.before _ s = true := fun w h => hts w (List.mem_cons_of_mem _ h)
  have hF : CallFix p m c cX1_teeth 2 s ([.ref p0, .int p1] : List Value).toArray lw_all RX1 := ⟨B.exec, B.bytes, hml, findClass_of_methodNamed B.named, hts⟩
  have hlocks := B.notSynchronized
  have hl := lv_entry ([.ref p0, .int p1]) (n := 2) (Nat.le_of_ble_eq_true rfl)
  rw [lg_entry_eq]
  generalize (lg_sl ([.ref p0, .int p1]) ++ List.replicate (2 - (lg_sl ([.ref p0, .int p1])).length) Slot.unset).toArray = ls at hl ⊢
  have hl : lv_has ls 2 [(0, .ref p0), (1, .int p1)] := hl
  have hS : va_S (hA X0 s.heap.size) s.heap s.heap [] := va_S.rf
  unfold wpX1_teeth at hw
  show W p l e (rmh 3 64 mc ms) s m _ below meth c _ _ _ _ _ _
  refine lv_aload_n hF.1 hF.2.1 dX1_teeth_0 rfl (lv_at hl 0 rfl) ?_
  obtain ⟨fs_1, v_2, hx_3, hv_4, hw⟩ := hw
  refine x_get hF hC hP in_X1 rfl 0 (by decide) q244 (fun _ z => z) hx_3 hv_4 dX1_teeth_1 ?_
  obtain ⟨fs_5, v_6, hx_7, hv_8, hw⟩ := hw
  refine x_getN hF hC hP in_X2 rfl 0 (by decide) q152 (fun _ z => z) hx_7 hv_8 dX1_teeth_4 ?_
  refine lv_iload_n hF.1 hF.2.1 dX1_teeth_7 rfl (lv_at hl 1 rfl) ?_
  obtain ⟨ho_11, hw⟩ := hw
  refine hk_q (hr_V (As := [.int p1]) (rest := []) (T := TJ2) (N := 3) (ci := 8) hF hl.1 hC hP hS (metJ2_get l K _ _ X0 v_6 p1) rfl (cwV 1 hF.2.2.2.2 (lw_V q419 q347 q348 q79 q349) rfl rfl rfl (by decide +kernel) ⟨Nat.le_of_ble_eq_true rfl, Nat.le_of_ble_eq_true rfl⟩) ho_11 hw rfl rfl (Nat.le_of_ble_eq_true rfl) dX1_teeth_8 ⟨Nat.zero_le _, Nat.zero_le _⟩) hP hS (fun r_9 X_10 H locs hw hP hS => ?_)
  obtain ⟨a_12, e_13, hw⟩ := hw
  subst e_13
  rw [va_rf_some]
  obtain ⟨h_14, hw⟩ := hw
  refine x_cast (T := TX5) (N := 2) (ci := 5) hF hC hP rfl q420 h_14 dX1_teeth_11 ?_
  obtain ⟨fs_15, v_16, hx_17, hv_18, hw⟩ := hw
  refine x_getN hF hC hP in_X5 rfl 1 (by decide) q864 (fun _ z => z) hx_17 hv_18 dX1_teeth_14 ?_
  exact vx_ret (h_iret hF hr hlocks hP hS ⟨Nat.zero_le _, Nat.zero_le _⟩ dX1_teeth_17 hw)
def wpX1_bestTrain_199 (post : Int32 → hX → Prop) (xpost : String → Nat → hX → Prop) (E : Nat) (mc ms : Nat) (J49 : Nat → Int32 → Int32 → Int32 → Int64 → Int64 → Int32 → hX → Nat → Nat → Prop) (x0 : Nat) (x2 : Int32) (x3 : Int32) (x4 : Int32) (x5 : Int64) (x7 : Int64) (x9 : Int32) (X : hX) (kc ks : Nat) : Prop := (∀ x9_1 : Int32, x9_1 = x9 + 1 → J49 x0 x2 x3 x4 x5 x7 x9_1 X kc ks)
def wpX1_bestTrain_169 (post : Int32 → hX → Prop) (xpost : String → Nat → hX → Prop) (E : Nat) (mc ms : Nat) (J49 : Nat → Int32 → Int32 → Int32 → Int64 → Int64 → Int32 → hX → Nat → Nat → Prop) (x0 : Nat) (x2 : Int32) (x3 : Int32) (x9 : Int32) (x10 : Int32) (x11 : Int32) (x12 : Int32) (x13 : Int32) (x14 : Int64) (x16 : Int64) (X : hX) (kc ks : Nat) : Prop := (∀ x4_2 : Int32, x4_2 = (((((x10 * 24) + x11) * 24) + x12) * 24) + x13 → wpX1_bestTrain_199 post xpost E mc ms J49 x0 x2 x3 x4_2 x16 x14 x9 X kc ks)
def wpX1_bestTrain_49 (post : Int32 → hX → Prop) (xpost : String → Nat → hX → Prop) (E : Nat) (mc ms : Nat) : Nat → Nat → Int32 → Int32 → Int32 → Int64 → Int64 → Int32 → hX → Nat → Nat → Prop
  | 0 => fun _ _ _ _ _ _ _ _ _ _ => False
  | n + 1 => fun x0 x2 x3 x4 x5 x7 x9 X kc ks => (((((x3 * x3) * x3) * x3) ≤ x9 → post x4 X) ∧ (¬ (((x3 * x3) * x3) * x3) ≤ x9 → (¬ ((x3 * x3) * x3) = 0 ∧ (∀ x10_5 : Int32, x10_5 = x9 / ((x3 * x3) * x3) → (¬ (x3 * x3) = 0 ∧ (¬ x3 = 0 ∧ (∀ x11_8 : Int32, x11_8 = iRem (x9 / (x3 * x3)) x3 → (¬ x3 = 0 ∧ (¬ x3 = 0 ∧ (∀ x12_11 : Int32, x12_11 = iRem (x9 / x3) x3 → (¬ x3 = 0 ∧ (∀ x13_13 : Int32, x13_13 = iRem x9 x3 → wpX1_areOther (fun r_14 => ((r_14 = 0 → wpX1_bestTrain_199 post xpost E mc ms (wpX1_bestTrain_49 post xpost E mc ms n) x0 x2 x3 x4 x5 x7 x9 X kc ks) ∧ (¬ r_14 = 0 → isO X x0 1 ((∃ mc_19 ms_20 : Nat, kc + mc_19 ≤ mc ∧ ks + ms_20 ≤ ms ∧ wpX1_teeth (fun r_16 X_17 => isO X_17 x0 1 ((∃ mc_26 ms_27 : Nat, (kc + mc_19) + mc_26 ≤ mc ∧ (ks + ms_20) + ms_27 ≤ ms ∧ wpX1_teeth (fun r_23 X_24 => (∀ x14_30 : Int64, x14_30 = (Int32.toInt64 r_16) * (Int32.toInt64 r_23) → isO X_24 x0 1 ((∃ mc_34 ms_35 : Nat, ((kc + mc_19) + mc_26) + mc_34 ≤ mc ∧ ((ks + ms_20) + ms_27) + ms_35 ≤ ms ∧ wpX1_teeth (fun r_31 X_32 => isO X_32 x0 1 ((∃ mc_41 ms_42 : Nat, (((kc + mc_19) + mc_26) + mc_34) + mc_41 ≤ mc ∧ (((ks + ms_20) + ms_27) + ms_35) + ms_42 ≤ ms ∧ wpX1_teeth (fun r_38 X_39 => wpX1_off (fun r_45 => ((x4 = (-1) → wpX1_bestTrain_169 post xpost E mc ms (wpX1_bestTrain_49 post xpost E mc ms n) x0 x2 x3 x9 x10_5 x11_8 x12_11 x13_13 x14_30 r_45 X_39 ((((kc + mc_19) + mc_26) + mc_34) + mc_41) ((((ks + ms_20) + ms_27) + ms_35) + ms_42)) ∧ (¬ x4 = (-1) → (((x5 * x14_30) ≤ (r_45 * x7) → wpX1_bestTrain_199 post xpost E mc ms (wpX1_bestTrain_49 post xpost E mc ms n) x0 x2 x3 x4 x5 x7 x9 X_39 ((((kc + mc_19) + mc_26) + mc_34) + mc_41) ((((ks + ms_20) + ms_27) + ms_35) + ms_42)) ∧ (¬ (x5 * x14_30) ≤ (r_45 * x7) → wpX1_bestTrain_169 post xpost E mc ms (wpX1_bestTrain_49 post xpost E mc ms n) x0 x2 x3 x9 x10_5 x11_8 x12_11 x13_13 x14_30 r_45 X_39 ((((kc + mc_19) + mc_26) + mc_34) + mc_41) ((((ks + ms_20) + ms_27) + ms_35) + ms_42)))))) ((Int32.toInt64 r_31) * (Int32.toInt64 r_38)) x14_30 x2) xpost E mc_41 ms_42 X_32 x0 x12_11))) xpost E mc_34 ms_35 X_24 x0 x10_5)))) xpost E mc_26 ms_27 X_17 x0 x13_13))) xpost E mc_19 ms_20 X x0 x11_8))))) x10_5 x11_8 x12_11 x13_13))))))))))))
def wpX1_bestTrain_34 (post : Int32 → hX → Prop) (xpost : String → Nat → hX → Prop) (E : Nat) (mc ms : Nat) (x0 : Nat) (x2 : Int32) (x3 : Int32) (z0 : Int32) (X : hX) (kc ks : Nat) : Prop := (∃ mc_49 ms_50 : Nat, kc + mc_49 ≤ mc ∧ ks + ms_50 ≤ ms ∧ wpX1_needSuch (fun X_48 => ∃ fu : Nat, wpX1_bestTrain_49 post xpost E mc ms fu x0 x2 x3 (-1) 0 1 0 X_48 (kc + mc_49) (ks + ms_50)) xpost E mc_49 ms_50 X z0)
def wpX1_bestTrain_33 (post : Int32 → hX → Prop) (xpost : String → Nat → hX → Prop) (E : Nat) (mc ms : Nat) (x0 : Nat) (x2 : Int32) (x3 : Int32) (X : hX) (kc ks : Nat) : Prop := wpX1_bestTrain_34 post xpost E mc ms x0 x2 x3 0 X kc ks
def wpX1_bestTrain (post : Int32 → hX → Prop) (xpost : String → Nat → hX → Prop) (E : Nat) (mc ms : Nat) (X : hX) (p0 : Nat) (p1 : Int32) : Prop := isO X p0 1 ((∃ mc_56 ms_57 : Nat, 0 + mc_56 ≤ mc ∧ 0 + ms_57 ≤ ms ∧ wpX1_armAt (fun r_53 X_54 => (∃ a_60 : Nat, r_53 = some a_60 ∧ gfI X_54 a_60 6 2 (fun v_63 => gfA X_54 p0 1 0 (fun v_67 => gfA X_54 v_67 2 0 (fun v_71 => isO X_54 v_71 8 (wpJ2_size (fun r_74 X_75 => ((v_63 ≤ 0 → wpX1_bestTrain_33 post xpost E mc ms p0 v_63 r_74 X_75 (0 + mc_56) (0 + ms_57)) ∧ (¬ v_63 ≤ 0 → ((r_74 < 4 → wpX1_bestTrain_33 post xpost E mc ms p0 v_63 r_74 X_75 (0 + mc_56) (0 + ms_57)) ∧ (¬ r_74 < 4 → wpX1_bestTrain_34 post xpost E mc ms p0 v_63 r_74 1 X_75 (0 + mc_56) (0 + ms_57)))))) E X_54 v_71)))))) xpost E mc_56 ms_57 X p0 p1))
abbrev wsX1_bestTrain : List Cond := ws_ yX1_bestTrain cX1_bestTrain 18 (some .int)
set_option maxHeartbeats 8000000 in
theorem metX1_bestTrain (l : Launch) (hlt : l.stackTraces = false) (K : HK) (mc ms : Nat) (sz : Nat) (post : Int32 → hX → Prop) (xpost : String → Nat → hX → Prop) (X0 : hX) (p0 : Nat) (p1 : Int32) : vx_Met l yX1_bestTrain wsX1_bestTrain (rmh 8 136 mc ms) (hPc K X0 sz [.ref p0, .int p1] (wpX1_bestTrain post xpost (K.2.2 0) mc ms X0 p0 p1)) (hQi post K X0 sz) (hXC xpost K X0 sz) mc ms (hA X0 sz) := by
  refine vx_ofW (cc := cX1_bestTrain) (maxL := 18) (ret := (some .int)) (by decide) rfl ?_
  intro p e s m args below meth c s₁ B hml hno hv
  obtain ⟨rfl, hv⟩ := hv
  obtain ⟨hC, hP, hw⟩ := HC.of hv
  have hsz : s.heap.size = sz := hv.1
  subst hsz
  clear hv
  have hout : ∀ {pc : Nat}, ∀ x ∈ c.exceptionTable.toList, covers x pc = false := fun x hx => (hno x hx).elim
  have hr := B.returns
  have hts := atoms_spec (ws := wsX1_bestTrain) B.pre
  have hts : ∀ w ∈ lw_all, w.before _ s = true := fun w h => hts w (List.mem_cons_of_mem _ h)
  have hF : CallFix p m c cX1_bestTrain 18 s ([.ref p0, .int p1] : List Value).toArray lw_all RX1 := ⟨B.exec, B.bytes, hml, findClass_of_methodNamed B.named, hts⟩
  have hlocks := B.notSynchronized
  have hl := lv_entry ([.ref p0, .int p1]) (n := 18) (Nat.le_of_ble_eq_true rfl)
  rw [lg_entry_eq]
  generalize (lg_sl ([.ref p0, .int p1]) ++ List.replicate (18 - (lg_sl ([.ref p0, .int p1])).length) Slot.unset).toArray = ls at hl ⊢
  have hl : lv_has ls 18 [(0, .ref p0), (1, .int p1)] := hl
  have hS : va_S (hA X0 s.heap.size) s.heap s.heap [] := va_S.rf
  have T199 : ∀ (J49 : Nat → Int32 → Int32 → Int32 → Int64 → Int64 → Int32 → hX → Nat → Nat → Prop) (hJ49 : ∀ (x0 : Nat) (x2 : Int32) (x3 : Int32) (x4 : Int32) (x5 : Int64) (x7 : Int64) (x9 : Int32) (X : hX) (kc ks : Nat) (H : Heap) (locs : List Loc) (ls : Array Slot), hI K X0 s.heap.size X H → va_S (hA X0 s.heap.size) s.heap H locs → kc ≤ mc ∧ ks ≤ ms → lv_has ls 18 [(0, .ref x0), (2, .int x2), (3, .int x3), (4, .int x4), (5, .long x5), (7, .long x7), (9, .int x9)] → J49 x0 x2 x3 x4 x5 x7 x9 X kc ks → W p l e (rmh 8 136 mc ms) s m ([.ref p0, .int p1] : List Value).toArray below meth c H locs kc ks (vx_MQ below (hQi post K X0 s.heap.size) (hXC xpost K X0 s.heap.size) ([.ref p0, .int p1] : List Value).toArray s mc ms (hA X0 s.heap.size)) (F0 m 49 ls [])), ∀ (x0 : Nat) (x2 : Int32) (x3 : Int32) (x4 : Int32) (x5 : Int64) (x7 : Int64) (x9 : Int32) (X : hX) (kc ks : Nat) (H : Heap) (locs : List Loc) (ls : Array Slot), hI K X0 s.heap.size X H → va_S (hA X0 s.heap.size) s.heap H locs → kc ≤ mc ∧ ks ≤ ms → lv_has ls 18 [(0, .ref x0), (2, .int x2), (3, .int x3), (4, .int x4), (5, .long x5), (7, .long x7), (9, .int x9)] → wpX1_bestTrain_199 post xpost (K.2.2 0) mc ms J49 x0 x2 x3 x4 x5 x7 x9 X kc ks → W p l e (rmh 8 136 mc ms) s m ([.ref p0, .int p1] : List Value).toArray below meth c H locs kc ks (vx_MQ below (hQi post K X0 s.heap.size) (hXC xpost K X0 s.heap.size) ([.ref p0, .int p1] : List Value).toArray s mc ms (hA X0 s.heap.size)) (F0 m 199 ls []) := by
    intro J49 hJ49
    intro x0 x2 x3 x4 x5 x7 x9 X kc ks H locs ls hP hS hk hl hw
    unfold wpX1_bestTrain_199 at hw
    obtain ⟨x9_1, ex9_1⟩ : ∃ y : Int32, y = x9 + 1 := ⟨_, rfl⟩
    have hw := hw x9_1 ex9_1
    refine lv_iinc (v := x9_1) (lv' := [(9, .int x9_1), (0, .ref x0), (2, .int x2), (3, .int x3), (4, .int x4), (5, .long x5), (7, .long x7)]) hF.1 hF.2.1 dX1_bestTrain_199 hl (k := 6) rfl (by rw [ex9_1]; rfl) (by decide) rfl (fun ls hl => ?_)
    refine lv_goto (tgt := 49) hF.1 hF.2.1 dX1_bestTrain_202 (by decide) ?_
    exact hJ49 x0 x2 x3 x4 x5 x7 x9_1 X kc ks _ _ ls hP hS hk (lv_sub hl [1, 2, 3, 4, 5, 6, 0] rfl) hw
  have T169 : ∀ (J49 : Nat → Int32 → Int32 → Int32 → Int64 → Int64 → Int32 → hX → Nat → Nat → Prop) (hJ49 : ∀ (x0 : Nat) (x2 : Int32) (x3 : Int32) (x4 : Int32) (x5 : Int64) (x7 : Int64) (x9 : Int32) (X : hX) (kc ks : Nat) (H : Heap) (locs : List Loc) (ls : Array Slot), hI K X0 s.heap.size X H → va_S (hA X0 s.heap.size) s.heap H locs → kc ≤ mc ∧ ks ≤ ms → lv_has ls 18 [(0, .ref x0), (2, .int x2), (3, .int x3), (4, .int x4), (5, .long x5), (7, .long x7), (9, .int x9)] → J49 x0 x2 x3 x4 x5 x7 x9 X kc ks → W p l e (rmh 8 136 mc ms) s m ([.ref p0, .int p1] : List Value).toArray below meth c H locs kc ks (vx_MQ below (hQi post K X0 s.heap.size) (hXC xpost K X0 s.heap.size) ([.ref p0, .int p1] : List Value).toArray s mc ms (hA X0 s.heap.size)) (F0 m 49 ls [])), ∀ (x0 : Nat) (x2 : Int32) (x3 : Int32) (x9 : Int32) (x10 : Int32) (x11 : Int32) (x12 : Int32) (x13 : Int32) (x14 : Int64) (x16 : Int64) (X : hX) (kc ks : Nat) (H : Heap) (locs : List Loc) (ls : Array Slot), hI K X0 s.heap.size X H → va_S (hA X0 s.heap.size) s.heap H locs → kc ≤ mc ∧ ks ≤ ms → lv_has ls 18 [(0, .ref x0), (2, .int x2), (3, .int x3), (9, .int x9), (10, .int x10), (11, .int x11), (12, .int x12), (13, .int x13), (14, .long x14), (16, .long x16)] → wpX1_bestTrain_169 post xpost (K.2.2 0) mc ms J49 x0 x2 x3 x9 x10 x11 x12 x13 x14 x16 X kc ks → W p l e (rmh 8 136 mc ms) s m ([.ref p0, .int p1] : List Value).toArray below meth c H locs kc ks (vx_MQ below (hQi post K X0 s.heap.size) (hXC xpost K X0 s.heap.size) ([.ref p0, .int p1] : List Value).toArray s mc ms (hA X0 s.heap.size)) (F0 m 169 ls []) := by
    intro J49 hJ49
    intro x0 x2 x3 x9 x10 x11 x12 x13 x14 x16 X kc ks H locs ls hP hS hk hl hw
    unfold wpX1_bestTrain_169 at hw
    refine lv_iload hF.1 hF.2.1 dX1_bestTrain_169 (lv_at hl 4 rfl) ?_
    refine lv_bipush (v := 24) hF.1 hF.2.1 dX1_bestTrain_171 (by decide) ?_
    refine lv_imul hF.1 hF.2.1 dX1_bestTrain_173 ?_
    refine lv_iload hF.1 hF.2.1 dX1_bestTrain_174 (lv_at hl 5 rfl) ?_
    refine lv_iadd hF.1 hF.2.1 dX1_bestTrain_176 ?_
    refine lv_bipush (v := 24) hF.1 hF.2.1 dX1_bestTrain_177 (by decide) ?_
    refine lv_imul hF.1 hF.2.1 dX1_bestTrain_179 ?_
    refine lv_iload hF.1 hF.2.1 dX1_bestTrain_180 (lv_at hl 6 rfl) ?_
    refine lv_iadd hF.1 hF.2.1 dX1_bestTrain_182 ?_
    refine lv_bipush (v := 24) hF.1 hF.2.1 dX1_bestTrain_183 (by decide) ?_
    refine lv_imul hF.1 hF.2.1 dX1_bestTrain_185 ?_
    refine lv_iload hF.1 hF.2.1 dX1_bestTrain_186 (lv_at hl 7 rfl) ?_
    refine lv_iadd hF.1 hF.2.1 dX1_bestTrain_188 ?_
    refine lv_topi (fun x4_2 ex4_2 => ?_)
    have hw := hw x4_2 ex4_2
    refine lv_istore (lv' := [(4, .int x4_2), (0, .ref x0), (2, .int x2), (3, .int x3), (9, .int x9), (10, .int x10), (11, .int x11), (12, .int x12), (13, .int x13), (14, .long x14), (16, .long x16)]) hF.1 hF.2.1 dX1_bestTrain_189 hl (by decide) rfl (fun ls hl => ?_)
    refine lv_lload hF.1 hF.2.1 dX1_bestTrain_191 (lv_at hl 10 rfl) ?_
    refine lv_lstore (lv' := [(5, .long x16), (4, .int x4_2), (0, .ref x0), (2, .int x2), (3, .int x3), (9, .int x9), (10, .int x10), (11, .int x11), (12, .int x12), (13, .int x13), (14, .long x14), (16, .long x16)]) hF.1 hF.2.1 dX1_bestTrain_193 hl (by decide) rfl (fun ls hl => ?_)
    refine lv_lload hF.1 hF.2.1 dX1_bestTrain_195 (lv_at hl 10 rfl) ?_
    refine lv_lstore (lv' := [(7, .long x14), (5, .long x16), (4, .int x4_2), (0, .ref x0), (2, .int x2), (3, .int x3), (9, .int x9), (10, .int x10), (11, .int x11), (12, .int x12), (13, .int x13), (14, .long x14), (16, .long x16)]) hF.1 hF.2.1 dX1_bestTrain_197 hl (by decide) rfl (fun ls hl => ?_)
    exact T199 _ hJ49 x0 x2 x3 x4_2 x16 x14 x9 X kc ks _ _ ls hP hS hk (lv_sub hl [3, 4, 5, 2, 1, 0, 6] rfl) hw
  have T49 : ∀ (n : Nat), ∀ (x0 : Nat) (x2 : Int32) (x3 : Int32) (x4 : Int32) (x5 : Int64) (x7 : Int64) (x9 : Int32) (X : hX) (kc ks : Nat) (H : Heap) (locs : List Loc) (ls : Array Slot), hI K X0 s.heap.size X H → va_S (hA X0 s.heap.size) s.heap H locs → kc ≤ mc ∧ ks ≤ ms → lv_has ls 18 [(0, .ref x0), (2, .int x2), (3, .int x3), (4, .int x4), (5, .long x5), (7, .long x7), (9, .int x9)] → wpX1_bestTrain_49 post xpost (K.2.2 0) mc ms n x0 x2 x3 x4 x5 x7 x9 X kc ks → W p l e (rmh 8 136 mc ms) s m ([.ref p0, .int p1] : List Value).toArray below meth c H locs kc ks (vx_MQ below (hQi post K X0 s.heap.size) (hXC xpost K X0 s.heap.size) ([.ref p0, .int p1] : List Value).toArray s mc ms (hA X0 s.heap.size)) (F0 m 49 ls []) := by
    intro n
    induction n with
    | zero =>
      intro x0 x2 x3 x4 x5 x7 x9 X kc ks H locs ls hP hS hk hl hw
      exact False.elim hw
    | succ n ih =>
      intro x0 x2 x3 x4 x5 x7 x9 X kc ks H locs ls hP hS hk hl hw
      unfold wpX1_bestTrain_49 at hw
      refine lv_iload hF.1 hF.2.1 dX1_bestTrain_49 (lv_at hl 6 rfl) ?_
      refine lv_iload_n hF.1 hF.2.1 dX1_bestTrain_51 rfl (lv_at hl 2 rfl) ?_
      refine lv_iload_n hF.1 hF.2.1 dX1_bestTrain_52 rfl (lv_at hl 2 rfl) ?_
      refine lv_imul hF.1 hF.2.1 dX1_bestTrain_53 ?_
      refine lv_iload_n hF.1 hF.2.1 dX1_bestTrain_54 rfl (lv_at hl 2 rfl) ?_
      refine lv_imul hF.1 hF.2.1 dX1_bestTrain_55 ?_
      refine lv_iload_n hF.1 hF.2.1 dX1_bestTrain_56 rfl (lv_at hl 2 rfl) ?_
      refine lv_imul hF.1 hF.2.1 dX1_bestTrain_57 ?_
      refine lv_icmp_ge (tgt := 205) hF.1 hF.2.1 dX1_bestTrain_58 (by decide) (fun c_3 => ?_) (fun c_3 => ?_)
      · have hw := hw.1 c_3
        refine lv_iload hF.1 hF.2.1 dX1_bestTrain_205 (lv_at hl 3 rfl) ?_
        exact vx_ret (h_iret hF hr hlocks hP hS hk dX1_bestTrain_207 hw)
      · have hw := hw.2 c_3
        refine lv_iload hF.1 hF.2.1 dX1_bestTrain_61 (lv_at hl 6 rfl) ?_
        refine lv_iload_n hF.1 hF.2.1 dX1_bestTrain_63 rfl (lv_at hl 2 rfl) ?_
        refine lv_iload_n hF.1 hF.2.1 dX1_bestTrain_64 rfl (lv_at hl 2 rfl) ?_
        refine lv_imul hF.1 hF.2.1 dX1_bestTrain_65 ?_
        refine lv_iload_n hF.1 hF.2.1 dX1_bestTrain_66 rfl (lv_at hl 2 rfl) ?_
        refine lv_imul hF.1 hF.2.1 dX1_bestTrain_67 ?_
        obtain ⟨h_4, hw⟩ := hw
        refine lv_idiv hF.1 hF.2.1 dX1_bestTrain_68 h_4 ?_
        refine lv_topi (fun x10_5 ex10_5 => ?_)
        have hw := hw x10_5 ex10_5
        refine lv_istore (lv' := [(10, .int x10_5), (0, .ref x0), (2, .int x2), (3, .int x3), (4, .int x4), (5, .long x5), (7, .long x7), (9, .int x9)]) hF.1 hF.2.1 dX1_bestTrain_69 hl (by decide) rfl (fun ls hl => ?_)
        refine lv_iload hF.1 hF.2.1 dX1_bestTrain_71 (lv_at hl 7 rfl) ?_
        refine lv_iload_n hF.1 hF.2.1 dX1_bestTrain_73 rfl (lv_at hl 3 rfl) ?_
        refine lv_iload_n hF.1 hF.2.1 dX1_bestTrain_74 rfl (lv_at hl 3 rfl) ?_
        refine lv_imul hF.1 hF.2.1 dX1_bestTrain_75 ?_
        obtain ⟨h_6, hw⟩ := hw
        refine lv_idiv hF.1 hF.2.1 dX1_bestTrain_76 h_6 ?_
        refine lv_iload_n hF.1 hF.2.1 dX1_bestTrain_77 rfl (lv_at hl 3 rfl) ?_
        obtain ⟨h_7, hw⟩ := hw
        refine lv_irem hF.1 hF.2.1 dX1_bestTrain_78 h_7 ?_
        refine lv_topi (fun x11_8 ex11_8 => ?_)
        have hw := hw x11_8 ex11_8
        refine lv_istore (lv' := [(11, .int x11_8), (10, .int x10_5), (0, .ref x0), (2, .int x2), (3, .int x3), (4, .int x4), (5, .long x5), (7, .long x7), (9, .int x9)]) hF.1 hF.2.1 dX1_bestTrain_79 hl (by decide) rfl (fun ls hl => ?_)
        refine lv_iload hF.1 hF.2.1 dX1_bestTrain_81 (lv_at hl 8 rfl) ?_
        refine lv_iload_n hF.1 hF.2.1 dX1_bestTrain_83 rfl (lv_at hl 4 rfl) ?_
        obtain ⟨h_9, hw⟩ := hw
        refine lv_idiv hF.1 hF.2.1 dX1_bestTrain_84 h_9 ?_
        refine lv_iload_n hF.1 hF.2.1 dX1_bestTrain_85 rfl (lv_at hl 4 rfl) ?_
        obtain ⟨h_10, hw⟩ := hw
        refine lv_irem hF.1 hF.2.1 dX1_bestTrain_86 h_10 ?_
        refine lv_topi (fun x12_11 ex12_11 => ?_)
        have hw := hw x12_11 ex12_11
        refine lv_istore (lv' := [(12, .int x12_11), (11, .int x11_8), (10, .int x10_5), (0, .ref x0), (2, .int x2), (3, .int x3), (4, .int x4), (5, .long x5), (7, .long x7), (9, .int x9)]) hF.1 hF.2.1 dX1_bestTrain_87 hl (by decide) rfl (fun ls hl => ?_)
        refine lv_iload hF.1 hF.2.1 dX1_bestTrain_89 (lv_at hl 9 rfl) ?_
        refine lv_iload_n hF.1 hF.2.1 dX1_bestTrain_91 rfl (lv_at hl 5 rfl) ?_
        obtain ⟨h_12, hw⟩ := hw
        refine lv_irem hF.1 hF.2.1 dX1_bestTrain_92 h_12 ?_
        refine lv_topi (fun x13_13 ex13_13 => ?_)
        have hw := hw x13_13 ex13_13
        refine lv_istore (lv' := [(13, .int x13_13), (12, .int x12_11), (11, .int x11_8), (10, .int x10_5), (0, .ref x0), (2, .int x2), (3, .int x3), (4, .int x4), (5, .long x5), (7, .long x7), (9, .int x9)]) hF.1 hF.2.1 dX1_bestTrain_93 hl (by decide) rfl (fun ls hl => ?_)
        refine lv_iload hF.1 hF.2.1 dX1_bestTrain_95 (lv_at hl 3 rfl) ?_
        refine lv_iload hF.1 hF.2.1 dX1_bestTrain_97 (lv_at hl 2 rfl) ?_
        refine lv_iload hF.1 hF.2.1 dX1_bestTrain_99 (lv_at hl 1 rfl) ?_
        refine lv_iload hF.1 hF.2.1 dX1_bestTrain_101 (lv_at hl 0 rfl) ?_
        refine hp_i (hrp_S (As := [.int x10_5, .int x11_8, .int x12_11, .int x13_13]) (rest := []) hF hl.1 (metX1_areOther l _ x10_5 x11_8 x12_11 x13_13) (va_cwS 4 hF.2.2.2.2 (lw_S q1492 q1493 q75 q1494) rfl rfl rfl (by decide +kernel) ⟨Nat.le_of_ble_eq_true rfl, Nat.le_of_ble_eq_true rfl⟩) hw rfl rfl (Nat.le_of_ble_eq_true rfl) dX1_bestTrain_103 hk) (fun r_14 hw => ?_)
        refine lv_if_eq (tgt := 199) hF.1 hF.2.1 dX1_bestTrain_106 (by decide) (fun c_15 => ?_) (fun c_15 => ?_)
        · have hw := hw.1 c_15
          exact T199 _ ih x0 x2 x3 x4 x5 x7 x9 X kc ks _ _ ls hP hS hk (lv_sub hl [4, 5, 6, 7, 8, 9, 10] rfl) hw
        · have hw := hw.2 c_15
          refine lv_aload_n hF.1 hF.2.1 dX1_bestTrain_109 rfl (lv_at hl 4 rfl) ?_
          refine lv_iload hF.1 hF.2.1 dX1_bestTrain_110 (lv_at hl 2 rfl) ?_
          obtain ⟨ho_18, hw⟩ := hw
          obtain ⟨mc_19, ms_20, hc_21, hs_22, hw⟩ := hw
          refine hkx_i (hrx_V (As := [.int x11_8]) (rest := []) (T := TX1) (N := 4) (ci := 1) hF hl.1 hC hP hS (metX1_teeth l hlt K mc_19 ms_20 _ _ _ X x0 x11_8) rfl (cwV 1 hF.2.2.2.2 (lw_V q1495 q1497 qs18 q75 q1498) rfl rfl rfl (by decide +kernel) ⟨Nat.le_of_ble_eq_true rfl, Nat.le_of_ble_eq_true rfl⟩) ho_18 hw rfl rfl (Nat.le_of_ble_eq_true rfl) dX1_bestTrain_112 ⟨hc_21, hs_22⟩) hP hS (fun E9 q9 X9 H locs hw hcl hP hS => ?_) (fun r_16 X_17 H locs hw hP hS => ?_)
          · exact h_out hout hlocks hcl hP hS ⟨hc_21, hs_22⟩ hw
          refine lv_i2l hF.1 hF.2.1 dX1_bestTrain_115 rfl ?_
          refine lv_aload_n hF.1 hF.2.1 dX1_bestTrain_116 rfl (lv_at hl 4 rfl) ?_
          refine lv_iload hF.1 hF.2.1 dX1_bestTrain_117 (lv_at hl 0 rfl) ?_
          obtain ⟨ho_25, hw⟩ := hw
          obtain ⟨mc_26, ms_27, hc_28, hs_29, hw⟩ := hw
          refine hkx_i (hrx_V (As := [.int x13_13]) (rest := [.long (Int32.toInt64 r_16)]) (T := TX1) (N := 4) (ci := 1) hF hl.1 hC hP hS (metX1_teeth l hlt K mc_26 ms_27 _ _ _ X_17 x0 x13_13) rfl (cwV 1 hF.2.2.2.2 (lw_V q1495 q1497 qs18 q75 q1498) rfl rfl rfl (by decide +kernel) ⟨Nat.le_of_ble_eq_true rfl, Nat.le_of_ble_eq_true rfl⟩) ho_25 hw rfl rfl (Nat.le_of_ble_eq_true rfl) dX1_bestTrain_119 ⟨hc_28, hs_29⟩) hP hS (fun E9 q9 X9 H locs hw hcl hP hS => ?_) (fun r_23 X_24 H locs hw hP hS => ?_)
          · exact h_out hout hlocks hcl hP hS ⟨hc_28, hs_29⟩ hw
          refine lv_i2l hF.1 hF.2.1 dX1_bestTrain_122 rfl ?_
          refine lv_lmul hF.1 hF.2.1 dX1_bestTrain_123 ?_
          refine lv_topl (fun x14_30 ex14_30 => ?_)
          have hw := hw x14_30 ex14_30
          refine lv_lstore (lv' := [(14, .long x14_30), (13, .int x13_13), (12, .int x12_11), (11, .int x11_8), (10, .int x10_5), (0, .ref x0), (2, .int x2), (3, .int x3), (4, .int x4), (5, .long x5), (7, .long x7), (9, .int x9)]) hF.1 hF.2.1 dX1_bestTrain_124 hl (by decide) rfl (fun ls hl => ?_)
          refine lv_aload_n hF.1 hF.2.1 dX1_bestTrain_126 rfl (lv_at hl 5 rfl) ?_
          refine lv_iload hF.1 hF.2.1 dX1_bestTrain_127 (lv_at hl 4 rfl) ?_
          obtain ⟨ho_33, hw⟩ := hw
          obtain ⟨mc_34, ms_35, hc_36, hs_37, hw⟩ := hw
          refine hkx_i (hrx_V (As := [.int x10_5]) (rest := []) (T := TX1) (N := 4) (ci := 1) hF hl.1 hC hP hS (metX1_teeth l hlt K mc_34 ms_35 _ _ _ X_24 x0 x10_5) rfl (cwV 1 hF.2.2.2.2 (lw_V q1495 q1497 qs18 q75 q1498) rfl rfl rfl (by decide +kernel) ⟨Nat.le_of_ble_eq_true rfl, Nat.le_of_ble_eq_true rfl⟩) ho_33 hw rfl rfl (Nat.le_of_ble_eq_true rfl) dX1_bestTrain_129 ⟨hc_36, hs_37⟩) hP hS (fun E9 q9 X9 H locs hw hcl hP hS => ?_) (fun r_31 X_32 H locs hw hP hS => ?_)
          · exact h_out hout hlocks hcl hP hS ⟨hc_36, hs_37⟩ hw
          refine lv_i2l hF.1 hF.2.1 dX1_bestTrain_132 rfl ?_
          refine lv_aload_n hF.1 hF.2.1 dX1_bestTrain_133 rfl (lv_at hl 5 rfl) ?_
          refine lv_iload hF.1 hF.2.1 dX1_bestTrain_134 (lv_at hl 2 rfl) ?_
          obtain ⟨ho_40, hw⟩ := hw
          obtain ⟨mc_41, ms_42, hc_43, hs_44, hw⟩ := hw
          refine hkx_i (hrx_V (As := [.int x12_11]) (rest := [.long (Int32.toInt64 r_31)]) (T := TX1) (N := 4) (ci := 1) hF hl.1 hC hP hS (metX1_teeth l hlt K mc_41 ms_42 _ _ _ X_32 x0 x12_11) rfl (cwV 1 hF.2.2.2.2 (lw_V q1495 q1497 qs18 q75 q1498) rfl rfl rfl (by decide +kernel) ⟨Nat.le_of_ble_eq_true rfl, Nat.le_of_ble_eq_true rfl⟩) ho_40 hw rfl rfl (Nat.le_of_ble_eq_true rfl) dX1_bestTrain_136 ⟨hc_43, hs_44⟩) hP hS (fun E9 q9 X9 H locs hw hcl hP hS => ?_) (fun r_38 X_39 H locs hw hP hS => ?_)
          · exact h_out hout hlocks hcl hP hS ⟨hc_43, hs_44⟩ hw
          refine lv_i2l hF.1 hF.2.1 dX1_bestTrain_139 rfl ?_
          refine lv_lmul hF.1 hF.2.1 dX1_bestTrain_140 ?_
          refine lv_lload hF.1 hF.2.1 dX1_bestTrain_141 (lv_at hl 0 rfl) ?_
          refine lv_iload_n hF.1 hF.2.1 dX1_bestTrain_143 rfl (lv_at hl 6 rfl) ?_
          refine hp_l (hrp_S (As := [.long ((Int32.toInt64 r_31) * (Int32.toInt64 r_38)), .long x14_30, .int x2]) (rest := []) hF hl.1 (metX1_off l _ ((Int32.toInt64 r_31) * (Int32.toInt64 r_38)) x14_30 x2) (va_cwS 3 hF.2.2.2.2 (lw_S q1499 q1500 q75 q1501) rfl rfl rfl (by decide +kernel) ⟨Nat.le_of_ble_eq_true rfl, Nat.le_of_ble_eq_true rfl⟩) hw rfl rfl (Nat.le_of_ble_eq_true rfl) dX1_bestTrain_144 ⟨hc_43, hs_44⟩) (fun r_45 hw => ?_)
          refine lv_lstore (lv' := [(16, .long r_45), (14, .long x14_30), (13, .int x13_13), (12, .int x12_11), (11, .int x11_8), (10, .int x10_5), (0, .ref x0), (2, .int x2), (3, .int x3), (4, .int x4), (5, .long x5), (7, .long x7), (9, .int x9)]) hF.1 hF.2.1 dX1_bestTrain_147 hl (by decide) rfl (fun ls hl => ?_)
          refine lv_iload hF.1 hF.2.1 dX1_bestTrain_149 (lv_at hl 9 rfl) ?_
          refine lv_iconst (v := (-1)) hF.1 hF.2.1 dX1_bestTrain_151 (by decide) ?_
          refine lv_icmp_eq (tgt := 169) hF.1 hF.2.1 dX1_bestTrain_152 (by decide) (fun c_46 => ?_) (fun c_46 => ?_)
          · have hw := hw.1 c_46
            exact T169 _ ih x0 x2 x3 x9 x10_5 x11_8 x12_11 x13_13 x14_30 r_45 X_39 ((((kc + mc_19) + mc_26) + mc_34) + mc_41) ((((ks + ms_20) + ms_27) + ms_35) + ms_42) _ _ ls hP hS ⟨hc_43, hs_44⟩ (lv_sub hl [6, 7, 8, 12, 5, 4, 3, 2, 1, 0] rfl) hw
          · have hw := hw.2 c_46
            refine lv_lload hF.1 hF.2.1 dX1_bestTrain_155 (lv_at hl 0 rfl) ?_
            refine lv_lload hF.1 hF.2.1 dX1_bestTrain_157 (lv_at hl 11 rfl) ?_
            refine lv_lmul hF.1 hF.2.1 dX1_bestTrain_159 ?_
            refine lv_lload hF.1 hF.2.1 dX1_bestTrain_160 (lv_at hl 10 rfl) ?_
            refine lv_lload hF.1 hF.2.1 dX1_bestTrain_162 (lv_at hl 1 rfl) ?_
            refine lv_lmul hF.1 hF.2.1 dX1_bestTrain_164 ?_
            refine W.lcmp hF.1 hF.2.1 dX1_bestTrain_165 ?_
            refine lv_if_ge (tgt := 199) hF.1 hF.2.1 dX1_bestTrain_166 (by decide) (fun c_47 => ?_) (fun c_47 => ?_)
            · rw [lc_ge] at c_47
              have hw := hw.1 c_47
              exact T199 _ ih x0 x2 x3 x4 x5 x7 x9 X_39 ((((kc + mc_19) + mc_26) + mc_34) + mc_41) ((((ks + ms_20) + ms_27) + ms_35) + ms_42) _ _ ls hP hS ⟨hc_43, hs_44⟩ (lv_sub hl [6, 7, 8, 9, 10, 11, 12] rfl) hw
            · rw [lc_ge] at c_47
              have hw := hw.2 c_47
              exact T169 _ ih x0 x2 x3 x9 x10_5 x11_8 x12_11 x13_13 x14_30 r_45 X_39 ((((kc + mc_19) + mc_26) + mc_34) + mc_41) ((((ks + ms_20) + ms_27) + ms_35) + ms_42) _ _ ls hP hS ⟨hc_43, hs_44⟩ (lv_sub hl [6, 7, 8, 12, 5, 4, 3, 2, 1, 0] rfl) hw
  have T34 : ∀ (x0 : Nat) (x2 : Int32) (x3 : Int32) (z0 : Int32) (X : hX) (kc ks : Nat) (H : Heap) (locs : List Loc) (ls : Array Slot), hI K X0 s.heap.size X H → va_S (hA X0 s.heap.size) s.heap H locs → kc ≤ mc ∧ ks ≤ ms → lv_has ls 18 [(0, .ref x0), (2, .int x2), (3, .int x3)] → wpX1_bestTrain_34 post xpost (K.2.2 0) mc ms x0 x2 x3 z0 X kc ks → W p l e (rmh 8 136 mc ms) s m ([.ref p0, .int p1] : List Value).toArray below meth c H locs kc ks (vx_MQ below (hQi post K X0 s.heap.size) (hXC xpost K X0 s.heap.size) ([.ref p0, .int p1] : List Value).toArray s mc ms (hA X0 s.heap.size)) (F0 m 34 ls [.int z0]) := by
    intro x0 x2 x3 z0 X kc ks H locs ls hP hS hk hl hw
    unfold wpX1_bestTrain_34 at hw
    obtain ⟨mc_49, ms_50, hc_51, hs_52, hw⟩ := hw
    refine hkx_v (hrx_S (As := [.int z0]) (rest := []) hF hl.1 hC hP hS (metX1_needSuch l hlt K mc_49 ms_50 _ _ _ X z0) (va_cwS 1 hF.2.2.2.2 (lw_S q1180 q1181 q75 q1182) rfl rfl rfl (by decide +kernel) ⟨Nat.le_of_ble_eq_true rfl, Nat.le_of_ble_eq_true rfl⟩) hw rfl rfl (Nat.le_of_ble_eq_true rfl) dX1_bestTrain_34 ⟨hc_51, hs_52⟩) hP hS (fun E9 q9 X9 H locs hw hcl hP hS => ?_) (fun X_48 H locs hw hP hS => ?_)
    · exact h_out hout hlocks hcl hP hS ⟨hc_51, hs_52⟩ hw
    refine lv_iconst (v := (-1)) hF.1 hF.2.1 dX1_bestTrain_37 (by decide) ?_
    refine lv_istore (lv' := [(4, .int (-1)), (0, .ref x0), (2, .int x2), (3, .int x3)]) hF.1 hF.2.1 dX1_bestTrain_38 hl (by decide) rfl (fun ls hl => ?_)
    refine lv_lconst (v := 0) hF.1 hF.2.1 dX1_bestTrain_40 (by decide) ?_
    refine lv_lstore (lv' := [(5, .long 0), (4, .int (-1)), (0, .ref x0), (2, .int x2), (3, .int x3)]) hF.1 hF.2.1 dX1_bestTrain_41 hl (by decide) rfl (fun ls hl => ?_)
    refine lv_lconst (v := 1) hF.1 hF.2.1 dX1_bestTrain_43 (by decide) ?_
    refine lv_lstore (lv' := [(7, .long 1), (5, .long 0), (4, .int (-1)), (0, .ref x0), (2, .int x2), (3, .int x3)]) hF.1 hF.2.1 dX1_bestTrain_44 hl (by decide) rfl (fun ls hl => ?_)
    refine lv_iconst (v := 0) hF.1 hF.2.1 dX1_bestTrain_46 (by decide) ?_
    refine lv_istore (lv' := [(9, .int 0), (7, .long 1), (5, .long 0), (4, .int (-1)), (0, .ref x0), (2, .int x2), (3, .int x3)]) hF.1 hF.2.1 dX1_bestTrain_47 hl (by decide) rfl (fun ls hl => ?_)
    obtain ⟨fu, hw⟩ := hw
    exact T49 fu x0 x2 x3 (-1) 0 1 0 X_48 (kc + mc_49) (ks + ms_50) _ _ ls hP hS ⟨hc_51, hs_52⟩ (lv_sub hl [4, 5, 6, 3, 2, 1, 0] rfl) hw
  have T33 : ∀ (x0 : Nat) (x2 : Int32) (x3 : Int32) (X : hX) (kc ks : Nat) (H : Heap) (locs : List Loc) (ls : Array Slot), hI K X0 s.heap.size X H → va_S (hA X0 s.heap.size) s.heap H locs → kc ≤ mc ∧ ks ≤ ms → lv_has ls 18 [(0, .ref x0), (2, .int x2), (3, .int x3)] → wpX1_bestTrain_33 post xpost (K.2.2 0) mc ms x0 x2 x3 X kc ks → W p l e (rmh 8 136 mc ms) s m ([.ref p0, .int p1] : List Value).toArray below meth c H locs kc ks (vx_MQ below (hQi post K X0 s.heap.size) (hXC xpost K X0 s.heap.size) ([.ref p0, .int p1] : List Value).toArray s mc ms (hA X0 s.heap.size)) (F0 m 33 ls []) := by
    intro x0 x2 x3 X kc ks H locs ls hP hS hk hl hw
    unfold wpX1_bestTrain_33 at hw
    refine lv_iconst (v := 0) hF.1 hF.2.1 dX1_bestTrain_33 (by decide) ?_
    exact T34 x0 x2 x3 0 X kc ks _ _ ls hP hS hk (lv_sub hl [0, 1, 2] rfl) hw
  unfold wpX1_bestTrain at hw
  show W p l e (rmh 8 136 mc ms) s m _ below meth c _ _ _ _ _ _
  refine lv_aload_n hF.1 hF.2.1 dX1_bestTrain_0 rfl (lv_at hl 0 rfl) ?_
  refine lv_iload_n hF.1 hF.2.1 dX1_bestTrain_1 rfl (lv_at hl 1 rfl) ?_
  obtain ⟨ho_55, hw⟩ := hw
  obtain ⟨mc_56, ms_57, hc_58, hs_59, hw⟩ := hw
  refine hkx_q (hrx_V (As := [.int p1]) (rest := []) (T := TX1) (N := 4) (ci := 1) hF hl.1 hC hP hS (metX1_armAt l hlt K mc_56 ms_57 _ _ _ X0 p0 p1) rfl (cwV 1 hF.2.2.2.2 (lw_V q1269 q1271 qs14 q75 q1272) rfl rfl rfl (by decide +kernel) ⟨Nat.le_of_ble_eq_true rfl, Nat.le_of_ble_eq_true rfl⟩) ho_55 hw rfl rfl (Nat.le_of_ble_eq_true rfl) dX1_bestTrain_2 ⟨hc_58, hs_59⟩) hP hS (fun E9 q9 X9 H locs hw hcl hP hS => ?_) (fun r_53 X_54 H locs hw hP hS => ?_)
  · exact h_out hout hlocks hcl hP hS ⟨hc_58, hs_59⟩ hw
  obtain ⟨a_60, e_61, hw⟩ := hw
  subst e_61
  rw [va_rf_some]
  obtain ⟨fs_62, v_63, hx_64, hv_65, hw⟩ := hw
  refine x_getN hF hC hP in_X7 rfl 2 (by decide) q928 (fun _ z => z) hx_64 hv_65 dX1_bestTrain_5 ?_
  refine lv_istore_n (lv' := [(2, .int v_63), (0, .ref p0), (1, .int p1)]) hF.1 hF.2.1 dX1_bestTrain_8 rfl hl (by decide) rfl (fun ls hl => ?_)
  refine lv_aload_n hF.1 hF.2.1 dX1_bestTrain_9 rfl (lv_at hl 1 rfl) ?_
  obtain ⟨fs_66, v_67, hx_68, hv_69, hw⟩ := hw
  refine x_get hF hC hP in_X1 rfl 0 (by decide) q244 (fun _ z => z) hx_68 hv_69 dX1_bestTrain_10 ?_
  obtain ⟨fs_70, v_71, hx_72, hv_73, hw⟩ := hw
  refine x_getN hF hC hP in_X2 rfl 0 (by decide) q152 (fun _ z => z) hx_72 hv_73 dX1_bestTrain_13 ?_
  obtain ⟨ho_76, hw⟩ := hw
  refine hk_i (hr_V (As := []) (rest := []) (T := TJ2) (N := 3) (ci := 8) hF hl.1 hC hP hS (metJ2_size l K _ _ X_54 v_71) rfl (cwV 0 hF.2.2.2.2 (lw_V q266 q267 q268 q79 q269) rfl rfl rfl (by decide +kernel) ⟨Nat.le_of_ble_eq_true rfl, Nat.le_of_ble_eq_true rfl⟩) ho_76 hw rfl rfl (Nat.le_of_ble_eq_true rfl) dX1_bestTrain_16 ⟨hc_58, hs_59⟩) hP hS (fun r_74 X_75 H locs hw hP hS => ?_)
  refine lv_istore_n (lv' := [(3, .int r_74), (2, .int v_63), (0, .ref p0), (1, .int p1)]) hF.1 hF.2.1 dX1_bestTrain_19 rfl hl (by decide) rfl (fun ls hl => ?_)
  refine lv_iload_n hF.1 hF.2.1 dX1_bestTrain_20 rfl (lv_at hl 1 rfl) ?_
  refine lv_if_le (tgt := 33) hF.1 hF.2.1 dX1_bestTrain_21 (by decide) (fun c_77 => ?_) (fun c_77 => ?_)
  · have hw := hw.1 c_77
    exact T33 p0 v_63 r_74 X_75 (0 + mc_56) (0 + ms_57) _ _ ls hP hS ⟨hc_58, hs_59⟩ (lv_sub hl [2, 1, 0] rfl) hw
  · have hw := hw.2 c_77
    refine lv_iload_n hF.1 hF.2.1 dX1_bestTrain_24 rfl (lv_at hl 0 rfl) ?_
    refine lv_iconst (v := 4) hF.1 hF.2.1 dX1_bestTrain_25 (by decide) ?_
    refine lv_icmp_lt (tgt := 33) hF.1 hF.2.1 dX1_bestTrain_26 (by decide) (fun c_78 => ?_) (fun c_78 => ?_)
    · have hw := hw.1 c_78
      exact T33 p0 v_63 r_74 X_75 (0 + mc_56) (0 + ms_57) _ _ ls hP hS ⟨hc_58, hs_59⟩ (lv_sub hl [2, 1, 0] rfl) hw
    · have hw := hw.2 c_78
      refine lv_iconst (v := 1) hF.1 hF.2.1 dX1_bestTrain_29 (by decide) ?_
      refine lv_goto (tgt := 34) hF.1 hF.2.1 dX1_bestTrain_30 (by decide) ?_
      exact T34 p0 v_63 r_74 1 X_75 (0 + mc_56) (0 + ms_57) _ _ ls hP hS ⟨hc_58, hs_59⟩ (lv_sub hl [2, 1, 0] rfl) hw

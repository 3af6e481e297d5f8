/-! the model's constructor, walked by program -/
set_option maxRecDepth 100000
def wpX3_init (post : hX → Prop) (E : Nat) (mc ms : Nat) (X : hX) (p0 : Nat) : Prop := newA X 0 (.inl (fun _ => 0)) 113 4 0 0 mc ms (fun a_1 X_2 => pfV X_2 p0 0 0 (.ref a_1) (fun X_7 => newA X_7 0 (.inl (fun _ => 0)) 113 4 (0 + 1) (0 + Int32.toNatClampNeg 113) mc ms (fun a_8 X_9 => pfV X_9 p0 0 1 (.ref a_8) (fun X_14 => newA X_14 0 (.inl (fun _ => 0)) 113 4 ((0 + 1) + 1) ((0 + Int32.toNatClampNeg 113) + Int32.toNatClampNeg 113) mc ms (fun a_15 X_16 => pfV X_16 p0 0 2 (.ref a_15) (fun X_21 => newA X_21 0 (.inl (fun _ => 0)) 452 4 (((0 + 1) + 1) + 1) (((0 + Int32.toNatClampNeg 113) + Int32.toNatClampNeg 113) + Int32.toNatClampNeg 113) mc ms (fun a_22 X_23 => pfV X_23 p0 0 4 (.ref a_22) (fun X_28 => newA X_28 0 (.inl (fun _ => 0)) 60 4 ((((0 + 1) + 1) + 1) + 1) ((((0 + Int32.toNatClampNeg 113) + Int32.toNatClampNeg 113) + Int32.toNatClampNeg 113) + Int32.toNatClampNeg 452) mc ms (fun a_29 X_30 => pfV X_30 p0 0 6 (.ref a_29) (fun X_35 => newA X_35 0 (.inl (fun _ => 0)) 12 4 (((((0 + 1) + 1) + 1) + 1) + 1) (((((0 + Int32.toNatClampNeg 113) + Int32.toNatClampNeg 113) + Int32.toNatClampNeg 113) + Int32.toNatClampNeg 452) + Int32.toNatClampNeg 60) mc ms (fun a_36 X_37 => pfV X_37 p0 0 9 (.ref a_36) (fun X_42 => newA X_42 1 (.inr (.inl (fun _ => 0))) 12 8 ((((((0 + 1) + 1) + 1) + 1) + 1) + 1) ((((((0 + Int32.toNatClampNeg 113) + Int32.toNatClampNeg 113) + Int32.toNatClampNeg 113) + Int32.toNatClampNeg 452) + Int32.toNatClampNeg 60) + Int32.toNatClampNeg 12) mc ms (fun a_43 X_44 => pfV X_44 p0 0 10 (.ref a_43) (fun X_49 => newA X_49 1 (.inr (.inl (fun _ => 0))) 12 8 (((((((0 + 1) + 1) + 1) + 1) + 1) + 1) + 1) (((((((0 + Int32.toNatClampNeg 113) + Int32.toNatClampNeg 113) + Int32.toNatClampNeg 113) + Int32.toNatClampNeg 452) + Int32.toNatClampNeg 60) + Int32.toNatClampNeg 12) + Int32.toNatClampNeg 12) mc ms (fun a_50 X_51 => pfV X_51 p0 0 11 (.ref a_50) (fun X_56 => newA X_56 0 (.inl (fun _ => 0)) 12 4 ((((((((0 + 1) + 1) + 1) + 1) + 1) + 1) + 1) + 1) ((((((((0 + Int32.toNatClampNeg 113) + Int32.toNatClampNeg 113) + Int32.toNatClampNeg 113) + Int32.toNatClampNeg 452) + Int32.toNatClampNeg 60) + Int32.toNatClampNeg 12) + Int32.toNatClampNeg 12) + Int32.toNatClampNeg 12) mc ms (fun a_57 X_58 => pfV X_58 p0 0 12 (.ref a_57) (fun X_63 => gfA X_63 p0 0 0 (fun v_65 => asI X_63 v_65 0 1 (fun X_72 => post X_72))))))))))))))))))))
abbrev wsX3_init : List Cond := ws_ yX3_init cX3_init 1 none
set_option maxHeartbeats 8000000 in
theorem metX3_init (l : Launch) (K : HK) (mc ms : Nat) (sz : Nat) (post : hX → Prop) (X0 : hX) (p0 : Nat) : Met l yX3_init wsX3_init (rmh 1 20 mc ms) (hPc K X0 sz [.ref p0] (wpX3_init post (K.2.2 0) mc ms X0 p0)) (hQv post K X0 sz) mc ms (hA X0 sz) := by
  refine Met.ofW (cc := cX3_init) (maxL := 1) (ret := none) (by decide) rfl ?_
  intro p e s m args below meth c s₁ B hml hv
  obtain ⟨rfl, hv⟩ := hv
  obtain ⟨hC, hP, hw⟩ := HC.of hv
  have hsz : s.heap.size = sz := hv.1
  subst hsz
  clear hv
  have hr := B.returns
  have hts := atoms_spec (ws := wsX3_init) B.pre
  have hts : ∀ w ∈ lw_all, w.before _ s = true := fun w h => hts w (List.mem_cons_of_mem _ h)
  have hF : CallFix p m c cX3_init 1 s ([.ref p0] : List Value).toArray lw_all RX3 := ⟨B.exec, B.bytes, hml, findClass_of_methodNamed B.named, hts⟩
  have hlocks := B.notSynchronized
  have hin : meth.name = "<init>" := (name_of_methodNamed B.named B.method).1
  have hl := lv_entry ([.ref p0]) (n := 1) (Nat.le_of_ble_eq_true rfl)
  rw [lg_entry_eq]
  generalize (lg_sl ([.ref p0]) ++ List.replicate (1 - (lg_sl ([.ref p0])).length) Slot.unset).toArray = ls at hl ⊢
  have hl : lv_has ls 1 [(0, .ref p0)] := hl
  have hS : va_S (hA X0 s.heap.size) s.heap s.heap [] := va_S.rf
  unfold wpX3_init at hw
  show W p l e (rmh 1 20 mc ms) s m _ below meth c _ _ _ _ _ _
  refine lv_aload_n hF.1 hF.2.1 dX3_init_0 rfl (lv_at hl 0 rfl) ?_
  refine W.objInit hF.1 hF.2.1 hF.2.2.2.1 (hF.2.2.2.2 _ q1727) (hF.2.2.2.2 _ q116) (hF.2.2.2.2 _ q117) rfl (by rw [hF.2.2.1]; exact hl.1) rfl dX3_init_1 (Nat.le_of_ble_eq_true rfl) (Nat.le_of_ble_eq_true rfl) ?_
  refine W.eq (g2 := F0 m 4 ls []) rfl ?_
  refine lv_aload_n hF.1 hF.2.1 dX3_init_4 rfl (lv_at hl 0 rfl) ?_
  refine lv_bipush (v := 113) hF.1 hF.2.1 dX3_init_5 (by decide) ?_
  refine x_newa (atype := .int) (t := 0) hF hC hP hS q191 rfl rfl rfl (Or.inl rfl) (fun _ _ => rfl) hw ⟨rfl, rfl⟩ dX3_init_7 (fun a_1 X_2 H pk_3c pk_3s hw hP hS => ?_)
  obtain ⟨fs_4, hx_5, hl_6, hw⟩ := hw
  refine x_putF hF hin hC hP hS in_X3 rfl tyX3 tyX3_ok nmX3 0 (by decide) q1728 (fun _ z => z) rfl rfl rfl rfl hx_5 hl_6 dX3_init_9 (fun H locs hP hS => ?_)
  generalize hup X_2 p0 (.inr (0, fs_4.set 0 (.ref a_1))) = X_7 at hP hw
  refine lv_aload_n hF.1 hF.2.1 dX3_init_12 rfl (lv_at hl 0 rfl) ?_
  refine lv_bipush (v := 113) hF.1 hF.2.1 dX3_init_13 (by decide) ?_
  refine x_newa (atype := .int) (t := 0) hF hC hP hS q191 rfl rfl rfl (Or.inl rfl) (fun _ _ => rfl) hw ⟨rfl, rfl⟩ dX3_init_15 (fun a_8 X_9 H pk_10c pk_10s hw hP hS => ?_)
  obtain ⟨fs_11, hx_12, hl_13, hw⟩ := hw
  refine x_putF hF hin hC hP hS in_X3 rfl tyX3 tyX3_ok nmX3 1 (by decide) q1729 (fun _ z => z) rfl rfl rfl rfl hx_12 hl_13 dX3_init_17 (fun H locs hP hS => ?_)
  generalize hup X_9 p0 (.inr (0, fs_11.set 1 (.ref a_8))) = X_14 at hP hw
  refine lv_aload_n hF.1 hF.2.1 dX3_init_20 rfl (lv_at hl 0 rfl) ?_
  refine lv_bipush (v := 113) hF.1 hF.2.1 dX3_init_21 (by decide) ?_
  refine x_newa (atype := .int) (t := 0) hF hC hP hS q191 rfl rfl rfl (Or.inl rfl) (fun _ _ => rfl) hw ⟨rfl, rfl⟩ dX3_init_23 (fun a_15 X_16 H pk_17c pk_17s hw hP hS => ?_)
  obtain ⟨fs_18, hx_19, hl_20, hw⟩ := hw
  refine x_putF hF hin hC hP hS in_X3 rfl tyX3 tyX3_ok nmX3 2 (by decide) q1730 (fun _ z => z) rfl rfl rfl rfl hx_19 hl_20 dX3_init_25 (fun H locs hP hS => ?_)
  generalize hup X_16 p0 (.inr (0, fs_18.set 2 (.ref a_15))) = X_21 at hP hw
  refine lv_aload_n hF.1 hF.2.1 dX3_init_28 rfl (lv_at hl 0 rfl) ?_
  refine lv_sipush (v := 452) hF.1 hF.2.1 dX3_init_29 (by decide) ?_
  refine x_newa (atype := .int) (t := 0) hF hC hP hS q191 rfl rfl rfl (Or.inl rfl) (fun _ _ => rfl) hw ⟨rfl, rfl⟩ dX3_init_32 (fun a_22 X_23 H pk_24c pk_24s hw hP hS => ?_)
  obtain ⟨fs_25, hx_26, hl_27, hw⟩ := hw
  refine x_putF hF hin hC hP hS in_X3 rfl tyX3 tyX3_ok nmX3 4 (by decide) q1732 (fun _ z => z) rfl rfl rfl rfl hx_26 hl_27 dX3_init_34 (fun H locs hP hS => ?_)
  generalize hup X_23 p0 (.inr (0, fs_25.set 4 (.ref a_22))) = X_28 at hP hw
  refine lv_aload_n hF.1 hF.2.1 dX3_init_37 rfl (lv_at hl 0 rfl) ?_
  refine lv_bipush (v := 60) hF.1 hF.2.1 dX3_init_38 (by decide) ?_
  refine x_newa (atype := .int) (t := 0) hF hC hP hS q191 rfl rfl rfl (Or.inl rfl) (fun _ _ => rfl) hw ⟨rfl, rfl⟩ dX3_init_40 (fun a_29 X_30 H pk_31c pk_31s hw hP hS => ?_)
  obtain ⟨fs_32, hx_33, hl_34, hw⟩ := hw
  refine x_putF hF hin hC hP hS in_X3 rfl tyX3 tyX3_ok nmX3 6 (by decide) q1734 (fun _ z => z) rfl rfl rfl rfl hx_33 hl_34 dX3_init_42 (fun H locs hP hS => ?_)
  generalize hup X_30 p0 (.inr (0, fs_32.set 6 (.ref a_29))) = X_35 at hP hw
  refine lv_aload_n hF.1 hF.2.1 dX3_init_45 rfl (lv_at hl 0 rfl) ?_
  refine lv_bipush (v := 12) hF.1 hF.2.1 dX3_init_46 (by decide) ?_
  refine x_newa (atype := .int) (t := 0) hF hC hP hS q191 rfl rfl rfl (Or.inl rfl) (fun _ _ => rfl) hw ⟨rfl, rfl⟩ dX3_init_48 (fun a_36 X_37 H pk_38c pk_38s hw hP hS => ?_)
  obtain ⟨fs_39, hx_40, hl_41, hw⟩ := hw
  refine x_putF hF hin hC hP hS in_X3 rfl tyX3 tyX3_ok nmX3 9 (by decide) q1737 (fun _ z => z) rfl rfl rfl rfl hx_40 hl_41 dX3_init_50 (fun H locs hP hS => ?_)
  generalize hup X_37 p0 (.inr (0, fs_39.set 9 (.ref a_36))) = X_42 at hP hw
  refine lv_aload_n hF.1 hF.2.1 dX3_init_53 rfl (lv_at hl 0 rfl) ?_
  refine lv_bipush (v := 12) hF.1 hF.2.1 dX3_init_54 (by decide) ?_
  refine x_newa (atype := .long) (t := 1) hF hC hP hS q414 rfl rfl rfl (Or.inr (Or.inl rfl)) (fun _ _ => rfl) hw ⟨rfl, rfl⟩ dX3_init_56 (fun a_43 X_44 H pk_45c pk_45s hw hP hS => ?_)
  obtain ⟨fs_46, hx_47, hl_48, hw⟩ := hw
  refine x_putF hF hin hC hP hS in_X3 rfl tyX3 tyX3_ok nmX3 10 (by decide) q1738 (fun _ z => z) rfl rfl rfl rfl hx_47 hl_48 dX3_init_58 (fun H locs hP hS => ?_)
  generalize hup X_44 p0 (.inr (0, fs_46.set 10 (.ref a_43))) = X_49 at hP hw
  refine lv_aload_n hF.1 hF.2.1 dX3_init_61 rfl (lv_at hl 0 rfl) ?_
  refine lv_bipush (v := 12) hF.1 hF.2.1 dX3_init_62 (by decide) ?_
  refine x_newa (atype := .long) (t := 1) hF hC hP hS q414 rfl rfl rfl (Or.inr (Or.inl rfl)) (fun _ _ => rfl) hw ⟨rfl, rfl⟩ dX3_init_64 (fun a_50 X_51 H pk_52c pk_52s hw hP hS => ?_)
  obtain ⟨fs_53, hx_54, hl_55, hw⟩ := hw
  refine x_putF hF hin hC hP hS in_X3 rfl tyX3 tyX3_ok nmX3 11 (by decide) q1739 (fun _ z => z) rfl rfl rfl rfl hx_54 hl_55 dX3_init_66 (fun H locs hP hS => ?_)
  generalize hup X_51 p0 (.inr (0, fs_53.set 11 (.ref a_50))) = X_56 at hP hw
  refine lv_aload_n hF.1 hF.2.1 dX3_init_69 rfl (lv_at hl 0 rfl) ?_
  refine lv_bipush (v := 12) hF.1 hF.2.1 dX3_init_70 (by decide) ?_
  refine x_newa (atype := .int) (t := 0) hF hC hP hS q191 rfl rfl rfl (Or.inl rfl) (fun _ _ => rfl) hw ⟨rfl, rfl⟩ dX3_init_72 (fun a_57 X_58 H pk_59c pk_59s hw hP hS => ?_)
  obtain ⟨fs_60, hx_61, hl_62, hw⟩ := hw
  refine x_putF hF hin hC hP hS in_X3 rfl tyX3 tyX3_ok nmX3 12 (by decide) q1740 (fun _ z => z) rfl rfl rfl rfl hx_61 hl_62 dX3_init_74 (fun H locs hP hS => ?_)
  generalize hup X_58 p0 (.inr (0, fs_60.set 12 (.ref a_57))) = X_63 at hP hw
  refine lv_aload_n hF.1 hF.2.1 dX3_init_77 rfl (lv_at hl 0 rfl) ?_
  obtain ⟨fs_64, v_65, hx_66, hv_67, hw⟩ := hw
  refine x_get hF hC hP in_X3 rfl 0 (by decide) q1728 (fun _ z => z) hx_66 hv_67 dX3_init_78 ?_
  refine lv_iconst (v := 0) hF.1 hF.2.1 dX3_init_81 (by decide) ?_
  refine lv_iconst (v := 1) hF.1 hF.2.1 dX3_init_82 (by decide) ?_
  obtain ⟨n_68, f_69, hx_70, hi_71, hw⟩ := hw
  refine x_iast hF hC hP hS hx_70 hi_71 dX3_init_83 (fun H locs hP hS => ?_)
  generalize hup X_63 v_65 (.inl (0, n_68, .inl (upd f_69 (Int32.toNatClampNeg 0) 1))) = X_72 at hP hw
  exact h_vret hF hr hlocks hP hS ⟨pk_59c, pk_59s⟩ dX3_init_84 hw

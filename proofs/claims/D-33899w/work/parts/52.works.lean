/-! Works, Drive: what needs nothing, walked by program -/
set_option maxRecDepth 100000
def wpX5_init (post : hX → Prop) (E : Nat) (X : hX) (p0 : Nat) (p1 : Int32) (p2 : Int32) : Prop := pfV X p0 5 0 (.int p1) (fun X_4 => pfV X_4 p0 5 1 (.int p2) (fun X_8 => post X_8))
abbrev wsX5_init : List Cond := ws_ yX5_init cX5_init 3 none
set_option maxHeartbeats 8000000 in
theorem metX5_init (l : Launch) (K : HK) (sz : Nat) (post : hX → Prop) (X0 : hX) (p0 : Nat) (p1 : Int32) (p2 : Int32) : Met l yX5_init wsX5_init (rmh 1 20 0 0) (hPc K X0 sz [.ref p0, .int p1, .int p2] (wpX5_init post (K.2.2 0) X0 p0 p1 p2)) (hQv post K X0 sz) 0 0 (hA X0 sz) := by
  refine Met.ofW (cc := cX5_init) (maxL := 3) (ret := none) (by decide) rfl ?_
  intro p e s m args below meth c s₁ B hml hv
  obtain ⟨rfl, hv⟩ := hv
  obtain ⟨hC, hP, hw⟩ := HC.of hv
  have hsz : s.heap.size = sz := hv.1
  subst hsz
  clear hv
  have hr := B.returns
  have hts := atoms_spec (ws := wsX5_init) B.pre
  have hts : ∀ w ∈ lw_all, w.before _ s = true := fun w h => hts w (List.mem_cons_of_mem _ h)
  have hF : CallFix p m c cX5_init 3 s ([.ref p0, .int p1, .int p2] : List Value).toArray lw_all RX5 := ⟨B.exec, B.bytes, hml, findClass_of_methodNamed B.named, hts⟩
  have hlocks := B.notSynchronized
  have hin : meth.name = "<init>" := (name_of_methodNamed B.named B.method).1
  have hl := lv_entry ([.ref p0, .int p1, .int p2]) (n := 3) (Nat.le_of_ble_eq_true rfl)
  rw [lg_entry_eq]
  generalize (lg_sl ([.ref p0, .int p1, .int p2]) ++ List.replicate (3 - (lg_sl ([.ref p0, .int p1, .int p2])).length) Slot.unset).toArray = ls at hl ⊢
  have hl : lv_has ls 3 [(0, .ref p0), (1, .int p1), (2, .int p2)] := hl
  have hS : va_S (hA X0 s.heap.size) s.heap s.heap [] := va_S.rf
  unfold wpX5_init at hw
  show W p l e (rmh 1 20 0 0) s m _ below meth c _ _ _ _ _ _
  refine lv_aload_n hF.1 hF.2.1 dX5_init_0 rfl (lv_at hl 0 rfl) ?_
  refine W.objInit hF.1 hF.2.1 hF.2.2.2.1 (hF.2.2.2.2 _ q856) (hF.2.2.2.2 _ q116) (hF.2.2.2.2 _ q117) rfl (by rw [hF.2.2.1]; exact hl.1) rfl dX5_init_1 (Nat.le_of_ble_eq_true rfl) (Nat.le_of_ble_eq_true rfl) ?_
  refine W.eq (g2 := F0 m 4 ls []) rfl ?_
  refine lv_aload_n hF.1 hF.2.1 dX5_init_4 rfl (lv_at hl 0 rfl) ?_
  refine lv_iload_n hF.1 hF.2.1 dX5_init_5 rfl (lv_at hl 1 rfl) ?_
  obtain ⟨fs_1, hx_2, hl_3, hw⟩ := hw
  refine x_putF hF hin hC hP hS in_X5 rfl tyX5 tyX5_ok nmX5 0 (by decide) q857 (fun _ z => z) rfl rfl rfl rfl hx_2 hl_3 dX5_init_6 (fun H locs hP hS => ?_)
  generalize hup X0 p0 (.inr (5, fs_1.set 0 (.int p1))) = X_4 at hP hw
  refine lv_aload_n hF.1 hF.2.1 dX5_init_9 rfl (lv_at hl 0 rfl) ?_
  refine lv_iload_n hF.1 hF.2.1 dX5_init_10 rfl (lv_at hl 2 rfl) ?_
  obtain ⟨fs_5, hx_6, hl_7, hw⟩ := hw
  refine x_putF hF hin hC hP hS in_X5 rfl tyX5 tyX5_ok nmX5 1 (by decide) q861 (fun _ z => z) rfl rfl rfl rfl hx_6 hl_7 dX5_init_11 (fun H locs hP hS => ?_)
  generalize hup X_4 p0 (.inr (5, fs_5.set 1 (.int p2))) = X_8 at hP hw
  exact h_vret hF hr hlocks hP hS ⟨Nat.le_refl _, Nat.le_refl _⟩ dX5_init_14 hw
def wpX7_init (post : hX → Prop) (E : Nat) (X : hX) (p0 : Nat) (p1 : Int32) (p2 : Int32) (p3 : Int32) : Prop := pfV X p0 6 0 (.int p1) (fun X_4 => pfV X_4 p0 6 1 (.int p2) (fun X_8 => pfV X_8 p0 6 2 (.int p3) (fun X_12 => post X_12)))
abbrev wsX7_init : List Cond := ws_ yX7_init cX7_init 4 none
set_option maxHeartbeats 8000000 in
theorem metX7_init (l : Launch) (K : HK) (sz : Nat) (post : hX → Prop) (X0 : hX) (p0 : Nat) (p1 : Int32) (p2 : Int32) (p3 : Int32) : Met l yX7_init wsX7_init (rmh 1 20 0 0) (hPc K X0 sz [.ref p0, .int p1, .int p2, .int p3] (wpX7_init post (K.2.2 0) X0 p0 p1 p2 p3)) (hQv post K X0 sz) 0 0 (hA X0 sz) := by
  refine Met.ofW (cc := cX7_init) (maxL := 4) (ret := none) (by decide) rfl ?_
  intro p e s m args below meth c s₁ B hml hv
  obtain ⟨rfl, hv⟩ := hv
  obtain ⟨hC, hP, hw⟩ := HC.of hv
  have hsz : s.heap.size = sz := hv.1
  subst hsz
  clear hv
  have hr := B.returns
  have hts := atoms_spec (ws := wsX7_init) B.pre
  have hts : ∀ w ∈ lw_all, w.before _ s = true := fun w h => hts w (List.mem_cons_of_mem _ h)
  have hF : CallFix p m c cX7_init 4 s ([.ref p0, .int p1, .int p2, .int p3] : List Value).toArray lw_all RX7 := ⟨B.exec, B.bytes, hml, findClass_of_methodNamed B.named, hts⟩
  have hlocks := B.notSynchronized
  have hin : meth.name = "<init>" := (name_of_methodNamed B.named B.method).1
  have hl := lv_entry ([.ref p0, .int p1, .int p2, .int p3]) (n := 4) (Nat.le_of_ble_eq_true rfl)
  rw [lg_entry_eq]
  generalize (lg_sl ([.ref p0, .int p1, .int p2, .int p3]) ++ List.replicate (4 - (lg_sl ([.ref p0, .int p1, .int p2, .int p3])).length) Slot.unset).toArray = ls at hl ⊢
  have hl : lv_has ls 4 [(0, .ref p0), (1, .int p1), (2, .int p2), (3, .int p3)] := hl
  have hS : va_S (hA X0 s.heap.size) s.heap s.heap [] := va_S.rf
  unfold wpX7_init at hw
  show W p l e (rmh 1 20 0 0) s m _ below meth c _ _ _ _ _ _
  refine lv_aload_n hF.1 hF.2.1 dX7_init_0 rfl (lv_at hl 0 rfl) ?_
  refine W.objInit hF.1 hF.2.1 hF.2.2.2.1 (hF.2.2.2.2 _ q919) (hF.2.2.2.2 _ q116) (hF.2.2.2.2 _ q117) rfl (by rw [hF.2.2.1]; exact hl.1) rfl dX7_init_1 (Nat.le_of_ble_eq_true rfl) (Nat.le_of_ble_eq_true rfl) ?_
  refine W.eq (g2 := F0 m 4 ls []) rfl ?_
  refine lv_aload_n hF.1 hF.2.1 dX7_init_4 rfl (lv_at hl 0 rfl) ?_
  refine lv_iload_n hF.1 hF.2.1 dX7_init_5 rfl (lv_at hl 1 rfl) ?_
  obtain ⟨fs_1, hx_2, hl_3, hw⟩ := hw
  refine x_putF hF hin hC hP hS in_X7 rfl tyX7 tyX7_ok nmX7 0 (by decide) q920 (fun _ z => z) rfl rfl rfl rfl hx_2 hl_3 dX7_init_6 (fun H locs hP hS => ?_)
  generalize hup X0 p0 (.inr (6, fs_1.set 0 (.int p1))) = X_4 at hP hw
  refine lv_aload_n hF.1 hF.2.1 dX7_init_9 rfl (lv_at hl 0 rfl) ?_
  refine lv_iload_n hF.1 hF.2.1 dX7_init_10 rfl (lv_at hl 2 rfl) ?_
  obtain ⟨fs_5, hx_6, hl_7, hw⟩ := hw
  refine x_putF hF hin hC hP hS in_X7 rfl tyX7 tyX7_ok nmX7 1 (by decide) q923 (fun _ z => z) rfl rfl rfl rfl hx_6 hl_7 dX7_init_11 (fun H locs hP hS => ?_)
  generalize hup X_4 p0 (.inr (6, fs_5.set 1 (.int p2))) = X_8 at hP hw
  refine lv_aload_n hF.1 hF.2.1 dX7_init_14 rfl (lv_at hl 0 rfl) ?_
  refine lv_iload_n hF.1 hF.2.1 dX7_init_15 rfl (lv_at hl 3 rfl) ?_
  obtain ⟨fs_9, hx_10, hl_11, hw⟩ := hw
  refine x_putF hF hin hC hP hS in_X7 rfl tyX7 tyX7_ok nmX7 2 (by decide) q926 (fun _ z => z) rfl rfl rfl rfl hx_10 hl_11 dX7_init_16 (fun H locs hP hS => ?_)
  generalize hup X_8 p0 (.inr (6, fs_9.set 2 (.int p3))) = X_12 at hP hw
  exact h_vret hF hr hlocks hP hS ⟨Nat.le_refl _, Nat.le_refl _⟩ dX7_init_19 hw
def wpX8_init (post : hX → Prop) (E : Nat) (X : hX) (p0 : Nat) (p1 : Int32) (p2 : Int32) : Prop := pfV X p0 7 0 (.int p1) (fun X_4 => pfV X_4 p0 7 1 (.int p2) (fun X_8 => post X_8))
abbrev wsX8_init : List Cond := ws_ yX8_init cX8_init 3 none
set_option maxHeartbeats 8000000 in
theorem metX8_init (l : Launch) (K : HK) (sz : Nat) (post : hX → Prop) (X0 : hX) (p0 : Nat) (p1 : Int32) (p2 : Int32) : Met l yX8_init wsX8_init (rmh 1 20 0 0) (hPc K X0 sz [.ref p0, .int p1, .int p2] (wpX8_init post (K.2.2 0) X0 p0 p1 p2)) (hQv post K X0 sz) 0 0 (hA X0 sz) := by
  refine Met.ofW (cc := cX8_init) (maxL := 3) (ret := none) (by decide) rfl ?_
  intro p e s m args below meth c s₁ B hml hv
  obtain ⟨rfl, hv⟩ := hv
  obtain ⟨hC, hP, hw⟩ := HC.of hv
  have hsz : s.heap.size = sz := hv.1
  subst hsz
  clear hv
  have hr := B.returns
  have hts := atoms_spec (ws := wsX8_init) B.pre
  have hts : ∀ w ∈ lw_all, w.before _ s = true := fun w h => hts w (List.mem_cons_of_mem _ h)
  have hF : CallFix p m c cX8_init 3 s ([.ref p0, .int p1, .int p2] : List Value).toArray lw_all RX8 := ⟨B.exec, B.bytes, hml, findClass_of_methodNamed B.named, hts⟩
  have hlocks := B.notSynchronized
  have hin : meth.name = "<init>" := (name_of_methodNamed B.named B.method).1
  have hl := lv_entry ([.ref p0, .int p1, .int p2]) (n := 3) (Nat.le_of_ble_eq_true rfl)
  rw [lg_entry_eq]
  generalize (lg_sl ([.ref p0, .int p1, .int p2]) ++ List.replicate (3 - (lg_sl ([.ref p0, .int p1, .int p2])).length) Slot.unset).toArray = ls at hl ⊢
  have hl : lv_has ls 3 [(0, .ref p0), (1, .int p1), (2, .int p2)] := hl
  have hS : va_S (hA X0 s.heap.size) s.heap s.heap [] := va_S.rf
  unfold wpX8_init at hw
  show W p l e (rmh 1 20 0 0) s m _ below meth c _ _ _ _ _ _
  refine lv_aload_n hF.1 hF.2.1 dX8_init_0 rfl (lv_at hl 0 rfl) ?_
  refine W.objInit hF.1 hF.2.1 hF.2.2.2.1 (hF.2.2.2.2 _ q952) (hF.2.2.2.2 _ q116) (hF.2.2.2.2 _ q117) rfl (by rw [hF.2.2.1]; exact hl.1) rfl dX8_init_1 (Nat.le_of_ble_eq_true rfl) (Nat.le_of_ble_eq_true rfl) ?_
  refine W.eq (g2 := F0 m 4 ls []) rfl ?_
  refine lv_aload_n hF.1 hF.2.1 dX8_init_4 rfl (lv_at hl 0 rfl) ?_
  refine lv_iload_n hF.1 hF.2.1 dX8_init_5 rfl (lv_at hl 1 rfl) ?_
  obtain ⟨fs_1, hx_2, hl_3, hw⟩ := hw
  refine x_putF hF hin hC hP hS in_X8 rfl tyX8 tyX8_ok nmX8 0 (by decide) q953 (fun _ z => z) rfl rfl rfl rfl hx_2 hl_3 dX8_init_6 (fun H locs hP hS => ?_)
  generalize hup X0 p0 (.inr (7, fs_1.set 0 (.int p1))) = X_4 at hP hw
  refine lv_aload_n hF.1 hF.2.1 dX8_init_9 rfl (lv_at hl 0 rfl) ?_
  refine lv_iload_n hF.1 hF.2.1 dX8_init_10 rfl (lv_at hl 2 rfl) ?_
  obtain ⟨fs_5, hx_6, hl_7, hw⟩ := hw
  refine x_putF hF hin hC hP hS in_X8 rfl tyX8 tyX8_ok nmX8 1 (by decide) q956 (fun _ z => z) rfl rfl rfl rfl hx_6 hl_7 dX8_init_11 (fun H locs hP hS => ?_)
  generalize hup X_4 p0 (.inr (7, fs_5.set 1 (.int p2))) = X_8 at hP hw
  exact h_vret hF hr hlocks hP hS ⟨Nat.le_refl _, Nat.le_refl _⟩ dX8_init_14 hw
def wpX6_has (post : Int32 → hX → Prop) (E : Nat) (X : hX) (p0 : Nat) (p1 : Int32) : Prop := gfA X p0 3 1 (fun v_2 => alJ X v_2 p1 (fun v_9 => ((v_9 ≤ 0 → post 0 X) ∧ (¬ v_9 ≤ 0 → post 1 X))))
abbrev wsX6_has : List Cond := ws_ yX6_has cX6_has 2 (some .boolean)
set_option maxHeartbeats 8000000 in
theorem metX6_has (l : Launch) (K : HK) (sz : Nat) (post : Int32 → hX → Prop) (X0 : hX) (p0 : Nat) (p1 : Int32) : Met l yX6_has wsX6_has (rmh 0 0 0 0) (hPc K X0 sz [.ref p0, .int p1] (wpX6_has post (K.2.2 0) X0 p0 p1)) (hQi post K X0 sz) 0 0 (hA X0 sz) := by
  refine Met.ofW (cc := cX6_has) (maxL := 2) (ret := (some .boolean)) (by decide) rfl ?_
  intro p e s m args below meth c s₁ B hml hv
  obtain ⟨rfl, hv⟩ := hv
  obtain ⟨hC, hP, hw⟩ := HC.of hv
  have hsz : s.heap.size = sz := hv.1
  subst hsz
  clear hv
  have hr := B.returns
  have hts := atoms_spec (ws := wsX6_has) B.pre
  have hts : ∀ w ∈ lw_all, w.before _ s = true := fun w h => hts w (List.mem_cons_of_mem _ h)
  have hF : CallFix p m c cX6_has 2 s ([.ref p0, .int p1] : List Value).toArray lw_all RX6 := ⟨B.exec, B.bytes, hml, findClass_of_methodNamed B.named, hts⟩
  have hlocks := B.notSynchronized
  have hl := lv_entry ([.ref p0, .int p1]) (n := 2) (Nat.le_of_ble_eq_true rfl)
  rw [lg_entry_eq]
  generalize (lg_sl ([.ref p0, .int p1]) ++ List.replicate (2 - (lg_sl ([.ref p0, .int p1])).length) Slot.unset).toArray = ls at hl ⊢
  have hl : lv_has ls 2 [(0, .ref p0), (1, .int p1)] := hl
  have hS : va_S (hA X0 s.heap.size) s.heap s.heap [] := va_S.rf
  unfold wpX6_has at hw
  show W p l e (rmh 0 0 0 0) s m _ below meth c _ _ _ _ _ _
  refine lv_aload_n hF.1 hF.2.1 dX6_has_0 rfl (lv_at hl 0 rfl) ?_
  obtain ⟨fs_1, v_2, hx_3, hv_4, hw⟩ := hw
  refine x_get hF hC hP in_X6 rfl 1 (by decide) q378 (fun _ z => z) hx_3 hv_4 dX6_has_1 ?_
  refine lv_iload_n hF.1 hF.2.1 dX6_has_4 rfl (lv_at hl 1 rfl) ?_
  obtain ⟨n_5, f_6, hx_7, hi_8, hw⟩ := hw
  refine x_lald hF hC hP hx_7 hi_8 dX6_has_5 ?_
  generalize f_6 (Int32.toNatClampNeg p1) = v_9 at hw ⊢
  refine lv_lconst (v := 0) hF.1 hF.2.1 dX6_has_6 (by decide) ?_
  refine W.lcmp hF.1 hF.2.1 dX6_has_7 ?_
  refine lv_if_le (tgt := 15) hF.1 hF.2.1 dX6_has_8 (by decide) (fun c_10 => ?_) (fun c_10 => ?_)
  · rw [lc_le] at c_10
    have hw := hw.1 c_10
    refine lv_iconst (v := 0) hF.1 hF.2.1 dX6_has_15 (by decide) ?_
    exact h_zret hF hr hlocks hP hS ⟨Nat.le_refl _, Nat.le_refl _⟩ dX6_has_16 (Or.inl rfl) hw
  · rw [lc_le] at c_10
    have hw := hw.2 c_10
    refine lv_iconst (v := 1) hF.1 hF.2.1 dX6_has_11 (by decide) ?_
    refine lv_goto (tgt := 16) hF.1 hF.2.1 dX6_has_12 (by decide) ?_
    exact h_zret hF hr hlocks hP hS ⟨Nat.le_refl _, Nat.le_refl _⟩ dX6_has_16 (Or.inr rfl) hw
def wpX6_goes_99 (post : hX → Prop) (E : Nat) (z0 : Nat) (z1 : Int32) (X : hX) : Prop := (((z1 ||| 1) = 0 ∨ (z1 ||| 1) = 1) ∧ pfV X z0 3 7 (.int (z1 ||| 1)) (fun X_5 => post X_5))
def wpX6_goes (post : hX → Prop) (E : Nat) (X : hX) (p0 : Nat) (p1 : Int32) (p2 : Nat) (p3 : Nat) : Prop := gfI X p2 5 0 (fun v_7 => ((v_7 = p1 → gfI X p3 5 0 (fun v_12 => gfA X p0 3 0 (fun v_16 => alJ X v_16 p1 (fun v_23 => gfI X p2 5 1 (fun v_25 => (∀ x5_28 : Int64, x5_28 = (-v_23) * (Int32.toInt64 v_25) → gfA X p0 3 1 (fun v_30 => alJ X v_30 p1 (fun v_37 => gfI X p3 5 1 (fun v_39 => (∀ x7_42 : Int64, x7_42 = v_37 * (Int32.toInt64 v_39) → wpX1_divisor (fun r_43 => isO X p0 3 (wpX6_has (fun r_44 X_45 => ((r_44 = 0 → gfA X_45 p0 3 4 (fun v_49 => alI X_45 0 v_49 p1 (fun v_56 => ((v_56 = 4 → pfV X_45 p0 3 8 (.int 1) (fun X_164 => post X_164)) ∧ (¬ v_56 = 4 → gfA X_45 p0 3 0 (fun v_59 => (¬ r_43 = 0 ∧ asJ X_45 v_59 v_12 (x5_28 / r_43) (fun X_67 => gfA X_67 p0 3 1 (fun v_69 => (¬ r_43 = 0 ∧ asJ X_67 v_69 v_12 (x7_42 / r_43) (fun X_77 => gfA X_77 p0 3 2 (fun v_79 => gfA X_77 p0 3 2 (fun v_83 => alJ X_77 v_83 p1 (fun v_90 => gfI X_77 p2 5 1 (fun v_92 => asJ X_77 v_79 v_12 ((-v_90) * (Int32.toInt64 v_92)) (fun X_99 => gfA X_99 p0 3 3 (fun v_101 => gfA X_99 p0 3 3 (fun v_105 => alJ X_99 v_105 p1 (fun v_112 => gfI X_99 p3 5 1 (fun v_114 => asJ X_99 v_101 v_12 (v_112 * (Int32.toInt64 v_114)) (fun X_121 => gfA X_121 p0 3 4 (fun v_123 => gfA X_121 p0 3 4 (fun v_127 => alI X_121 0 v_127 p1 (fun v_134 => asI X_121 v_123 v_12 (v_134 + 1) (fun X_139 => gfA X_139 p0 3 5 (fun v_141 => gfI X_139 p0 3 6 (fun v_145 => asI X_139 v_141 v_145 v_12 (fun X_152 => gfI X_152 p0 3 6 (fun v_154 => pfV X_152 p0 3 6 (.int (v_154 + 1)) (fun X_160 => post X_160)))))))))))))))))))))))))))))) ∧ (¬ r_44 = 0 → gfI X_45 p0 3 7 (fun v_166 => gfA X_45 p0 3 0 (fun v_170 => alJ X_45 v_170 v_12 (fun v_177 => (¬ r_43 = 0 ∧ ((v_177 = (x5_28 / r_43) → gfA X_45 p0 3 1 (fun v_181 => alJ X_45 v_181 v_12 (fun v_188 => (¬ r_43 = 0 ∧ ((v_188 = (x7_42 / r_43) → (((v_166 ||| 0) = 0 ∨ (v_166 ||| 0) = 1) ∧ pfV X_45 p0 3 7 (.int (v_166 ||| 0)) (fun X_195 => post X_195))) ∧ (¬ v_188 = (x7_42 / r_43) → wpX6_goes_99 post E p0 v_166 X_45)))))) ∧ (¬ v_177 = (x5_28 / r_43) → wpX6_goes_99 post E p0 v_166 X_45))))))))) E X p0 v_12)) x5_28 x7_42)))))))))) ∧ (¬ v_7 = p1 → post X)))
abbrev wsX6_goes : List Cond := ws_ yX6_goes cX6_goes 11 none
set_option maxHeartbeats 8000000 in
theorem metX6_goes (l : Launch) (K : HK) (sz : Nat) (post : hX → Prop) (X0 : hX) (p0 : Nat) (p1 : Int32) (p2 : Nat) (p3 : Nat) : Met l yX6_goes wsX6_goes (rmh 2 50 0 0) (hPc K X0 sz [.ref p0, .int p1, .ref p2, .ref p3] (wpX6_goes post (K.2.2 0) X0 p0 p1 p2 p3)) (hQv post K X0 sz) 0 0 (hA X0 sz) := by
  refine Met.ofW (cc := cX6_goes) (maxL := 11) (ret := none) (by decide) rfl ?_
  intro p e s m args below meth c s₁ B hml hv
  obtain ⟨rfl, hv⟩ := hv
  obtain ⟨hC, hP, hw⟩ := HC.of hv
  have hsz : s.heap.size = sz := hv.1
  subst hsz
  clear hv
  have hr := B.returns
  have hts := atoms_spec (ws := wsX6_goes) B.pre
  have hts : ∀ w ∈ lw_all, w.before _ s = true := fun w h => hts w (List.mem_cons_of_mem _ h)
  have hF : CallFix p m c cX6_goes 11 s ([.ref p0, .int p1, .ref p2, .ref p3] : List Value).toArray lw_all RX6 := ⟨B.exec, B.bytes, hml, findClass_of_methodNamed B.named, hts⟩
  have hlocks := B.notSynchronized
  have hl := lv_entry ([.ref p0, .int p1, .ref p2, .ref p3]) (n := 11) (Nat.le_of_ble_eq_true rfl)
  rw [lg_entry_eq]
  generalize (lg_sl ([.ref p0, .int p1, .ref p2, .ref p3]) ++ List.replicate (11 - (lg_sl ([.ref p0, .int p1, .ref p2, .ref p3])).length) Slot.unset).toArray = ls at hl ⊢
  have hl : lv_has ls 11 [(0, .ref p0), (1, .int p1), (2, .ref p2), (3, .ref p3)] := hl
  have hS : va_S (hA X0 s.heap.size) s.heap s.heap [] := va_S.rf
  have T99 : ∀ (z0 : Nat) (z1 : Int32) (X : hX) (H : Heap) (locs : List Loc) (ls : Array Slot), hI K X0 s.heap.size X H → va_S (hA X0 s.heap.size) s.heap H locs → lv_has ls 11 [] → wpX6_goes_99 post (K.2.2 0) z0 z1 X → W p l e (rmh 2 50 0 0) s m ([.ref p0, .int p1, .ref p2, .ref p3] : List Value).toArray below meth c H locs 0 0 (MQ below (hQv post K X0 s.heap.size) ([.ref p0, .int p1, .ref p2, .ref p3] : List Value).toArray s 0 0 (hA X0 s.heap.size)) (F0 m 99 ls [.int z1, .ref z0]) := by
    intro z0 z1 X H locs ls hP hS hl hw
    unfold wpX6_goes_99 at hw
    refine lv_iconst (v := 1) hF.1 hF.2.1 dX6_goes_99 (by decide) ?_
    refine lv_goto (tgt := 104) hF.1 hF.2.1 dX6_goes_100 (by decide) ?_
    refine lv_ior hF.1 hF.2.1 dX6_goes_104 ?_
    obtain ⟨h_4, hw⟩ := hw
    obtain ⟨fs_1, hx_2, hl_3, hw⟩ := hw
    refine x_put hF hC hP hS in_X6 rfl tyX6 tyX6_ok nmX6 7 (by decide) q391 (fun _ z => z) rfl (zb_n h_4) (zb_f h_4) hx_2 hl_3 dX6_goes_105 (fun H locs hP hS => ?_)
    generalize hup X z0 (.inr (3, fs_1.set 7 (.int (z1 ||| 1)))) = X_5 at hP hw
    refine lv_goto (tgt := 228) hF.1 hF.2.1 dX6_goes_108 (by decide) ?_
    exact h_vret hF hr hlocks hP hS ⟨Nat.le_refl _, Nat.le_refl _⟩ dX6_goes_228 hw
  unfold wpX6_goes at hw
  show W p l e (rmh 2 50 0 0) s m _ below meth c _ _ _ _ _ _
  refine lv_aload_n hF.1 hF.2.1 dX6_goes_0 rfl (lv_at hl 2 rfl) ?_
  obtain ⟨fs_6, v_7, hx_8, hv_9, hw⟩ := hw
  refine x_getN hF hC hP in_X5 rfl 0 (by decide) q858 (fun _ z => z) hx_8 hv_9 dX6_goes_1 ?_
  refine lv_iload_n hF.1 hF.2.1 dX6_goes_4 rfl (lv_at hl 1 rfl) ?_
  refine lv_icmp_eq (tgt := 9) hF.1 hF.2.1 dX6_goes_5 (by decide) (fun c_10 => ?_) (fun c_10 => ?_)
  · have hw := hw.1 c_10
    refine lv_aload_n hF.1 hF.2.1 dX6_goes_9 rfl (lv_at hl 3 rfl) ?_
    obtain ⟨fs_11, v_12, hx_13, hv_14, hw⟩ := hw
    refine x_getN hF hC hP in_X5 rfl 0 (by decide) q858 (fun _ z => z) hx_13 hv_14 dX6_goes_10 ?_
    refine lv_istore (lv' := [(4, .int v_12), (0, .ref p0), (1, .int p1), (2, .ref p2), (3, .ref p3)]) hF.1 hF.2.1 dX6_goes_13 hl (by decide) rfl (fun ls hl => ?_)
    refine lv_aload_n hF.1 hF.2.1 dX6_goes_15 rfl (lv_at hl 1 rfl) ?_
    obtain ⟨fs_15, v_16, hx_17, hv_18, hw⟩ := hw
    refine x_get hF hC hP in_X6 rfl 0 (by decide) q375 (fun _ z => z) hx_17 hv_18 dX6_goes_16 ?_
    refine lv_iload_n hF.1 hF.2.1 dX6_goes_19 rfl (lv_at hl 2 rfl) ?_
    obtain ⟨n_19, f_20, hx_21, hi_22, hw⟩ := hw
    refine x_lald hF hC hP hx_21 hi_22 dX6_goes_20 ?_
    generalize f_20 (Int32.toNatClampNeg p1) = v_23 at hw ⊢
    refine lv_lneg hF.1 hF.2.1 dX6_goes_21 ?_
    refine lv_aload_n hF.1 hF.2.1 dX6_goes_22 rfl (lv_at hl 3 rfl) ?_
    obtain ⟨fs_24, v_25, hx_26, hv_27, hw⟩ := hw
    refine x_getN hF hC hP in_X5 rfl 1 (by decide) q862 (fun _ z => z) hx_26 hv_27 dX6_goes_23 ?_
    refine lv_i2l hF.1 hF.2.1 dX6_goes_26 rfl ?_
    refine lv_lmul hF.1 hF.2.1 dX6_goes_27 ?_
    refine lv_topl (fun x5_28 ex5_28 => ?_)
    have hw := hw x5_28 ex5_28
    refine lv_lstore (lv' := [(5, .long x5_28), (4, .int v_12), (0, .ref p0), (1, .int p1), (2, .ref p2), (3, .ref p3)]) hF.1 hF.2.1 dX6_goes_28 hl (by decide) rfl (fun ls hl => ?_)
    refine lv_aload_n hF.1 hF.2.1 dX6_goes_30 rfl (lv_at hl 2 rfl) ?_
    obtain ⟨fs_29, v_30, hx_31, hv_32, hw⟩ := hw
    refine x_get hF hC hP in_X6 rfl 1 (by decide) q378 (fun _ z => z) hx_31 hv_32 dX6_goes_31 ?_
    refine lv_iload_n hF.1 hF.2.1 dX6_goes_34 rfl (lv_at hl 3 rfl) ?_
    obtain ⟨n_33, f_34, hx_35, hi_36, hw⟩ := hw
    refine x_lald hF hC hP hx_35 hi_36 dX6_goes_35 ?_
    generalize f_34 (Int32.toNatClampNeg p1) = v_37 at hw ⊢
    refine lv_aload_n hF.1 hF.2.1 dX6_goes_36 rfl (lv_at hl 5 rfl) ?_
    obtain ⟨fs_38, v_39, hx_40, hv_41, hw⟩ := hw
    refine x_getN hF hC hP in_X5 rfl 1 (by decide) q862 (fun _ z => z) hx_40 hv_41 dX6_goes_37 ?_
    refine lv_i2l hF.1 hF.2.1 dX6_goes_40 rfl ?_
    refine lv_lmul hF.1 hF.2.1 dX6_goes_41 ?_
    refine lv_topl (fun x7_42 ex7_42 => ?_)
    have hw := hw x7_42 ex7_42
    refine lv_lstore (lv' := [(7, .long x7_42), (5, .long x5_28), (4, .int v_12), (0, .ref p0), (1, .int p1), (2, .ref p2), (3, .ref p3)]) hF.1 hF.2.1 dX6_goes_42 hl (by decide) rfl (fun ls hl => ?_)
    refine lv_lload hF.1 hF.2.1 dX6_goes_44 (lv_at hl 1 rfl) ?_
    refine lv_lload hF.1 hF.2.1 dX6_goes_46 (lv_at hl 0 rfl) ?_
    refine hp_l (hrp_SN (As := [.long x5_28, .long x7_42]) (rest := []) hF hl.1 (metX1_divisor l _ x5_28 x7_42) (va_cnB 2 hF.2.2.2.2 (lw_meth q367) rfl rfl rfl (hC.2.2.1.2.2.2.2.2.1 _ q365 rfl) (hF.2.2.2.2 _ q75) (by decide +kernel) ⟨Nat.le_of_ble_eq_true rfl, Nat.le_of_ble_eq_true rfl⟩) q366 hw rfl rfl (Nat.le_of_ble_eq_true rfl) dX6_goes_48 ⟨Nat.le_refl _, Nat.le_refl _⟩) (fun r_43 hw => ?_)
    refine lv_lstore (lv' := [(9, .long r_43), (7, .long x7_42), (5, .long x5_28), (4, .int v_12), (0, .ref p0), (1, .int p1), (2, .ref p2), (3, .ref p3)]) hF.1 hF.2.1 dX6_goes_51 hl (by decide) rfl (fun ls hl => ?_)
    refine lv_aload_n hF.1 hF.2.1 dX6_goes_53 rfl (lv_at hl 4 rfl) ?_
    refine lv_iload hF.1 hF.2.1 dX6_goes_54 (lv_at hl 3 rfl) ?_
    obtain ⟨ho_46, hw⟩ := hw
    refine hk_i (hr_V (As := [.int v_12]) (rest := []) (T := TX6) (N := 9) (ci := 3) hF hl.1 hC hP hS (metX6_has l K _ _ X0 p0 v_12) rfl (cwV 1 hF.2.2.2.2 (lw_V q371 q372 q373 q96 q374) rfl rfl rfl (by decide +kernel) ⟨Nat.le_of_ble_eq_true rfl, Nat.le_of_ble_eq_true rfl⟩) ho_46 hw rfl rfl (Nat.le_of_ble_eq_true rfl) dX6_goes_56 ⟨Nat.le_refl _, Nat.le_refl _⟩) hP hS (fun r_44 X_45 H locs hw hP hS => ?_)
    refine lv_if_eq (tgt := 111) hF.1 hF.2.1 dX6_goes_59 (by decide) (fun c_47 => ?_) (fun c_47 => ?_)
    · have hw := hw.1 c_47
      refine lv_aload_n hF.1 hF.2.1 dX6_goes_111 rfl (lv_at hl 4 rfl) ?_
      obtain ⟨fs_48, v_49, hx_50, hv_51, hw⟩ := hw
      refine x_get hF hC hP in_X6 rfl 4 (by decide) q385 (fun _ z => z) hx_50 hv_51 dX6_goes_112 ?_
      refine lv_iload_n hF.1 hF.2.1 dX6_goes_115 rfl (lv_at hl 5 rfl) ?_
      obtain ⟨n_52, f_53, hx_54, hi_55, hw⟩ := hw
      refine x_iald hF hC hP hx_54 hi_55 dX6_goes_116 ?_
      generalize f_53 (Int32.toNatClampNeg p1) = v_56 at hw ⊢
      refine lv_iconst (v := 4) hF.1 hF.2.1 dX6_goes_117 (by decide) ?_
      refine lv_icmp_ne (tgt := 129) hF.1 hF.2.1 dX6_goes_118 (by decide) (fun c_57 => ?_) (fun c_57 => ?_)
      · have hw := hw.2 c_57
        refine lv_aload_n hF.1 hF.2.1 dX6_goes_129 rfl (lv_at hl 4 rfl) ?_
        obtain ⟨fs_58, v_59, hx_60, hv_61, hw⟩ := hw
        refine x_get hF hC hP in_X6 rfl 0 (by decide) q375 (fun _ z => z) hx_60 hv_61 dX6_goes_130 ?_
        refine lv_iload hF.1 hF.2.1 dX6_goes_133 (lv_at hl 3 rfl) ?_
        refine lv_lload hF.1 hF.2.1 dX6_goes_135 (lv_at hl 2 rfl) ?_
        refine lv_lload hF.1 hF.2.1 dX6_goes_137 (lv_at hl 0 rfl) ?_
        obtain ⟨h_62, hw⟩ := hw
        refine lv_ldiv hF.1 hF.2.1 dX6_goes_139 h_62 ?_
        obtain ⟨n_63, f_64, hx_65, hi_66, hw⟩ := hw
        refine x_last hF hC hP hS hx_65 hi_66 dX6_goes_140 (fun H locs hP hS => ?_)
        generalize hup X_45 v_59 (.inl (1, n_63, .inr (.inl (vp_updL f_64 (Int32.toNatClampNeg v_12) (x5_28 / r_43))))) = X_67 at hP hw
        refine lv_aload_n hF.1 hF.2.1 dX6_goes_141 rfl (lv_at hl 4 rfl) ?_
        obtain ⟨fs_68, v_69, hx_70, hv_71, hw⟩ := hw
        refine x_get hF hC hP in_X6 rfl 1 (by decide) q378 (fun _ z => z) hx_70 hv_71 dX6_goes_142 ?_
        refine lv_iload hF.1 hF.2.1 dX6_goes_145 (lv_at hl 3 rfl) ?_
        refine lv_lload hF.1 hF.2.1 dX6_goes_147 (lv_at hl 1 rfl) ?_
        refine lv_lload hF.1 hF.2.1 dX6_goes_149 (lv_at hl 0 rfl) ?_
        obtain ⟨h_72, hw⟩ := hw
        refine lv_ldiv hF.1 hF.2.1 dX6_goes_151 h_72 ?_
        obtain ⟨n_73, f_74, hx_75, hi_76, hw⟩ := hw
        refine x_last hF hC hP hS hx_75 hi_76 dX6_goes_152 (fun H locs hP hS => ?_)
        generalize hup X_67 v_69 (.inl (1, n_73, .inr (.inl (vp_updL f_74 (Int32.toNatClampNeg v_12) (x7_42 / r_43))))) = X_77 at hP hw
        refine lv_aload_n hF.1 hF.2.1 dX6_goes_153 rfl (lv_at hl 4 rfl) ?_
        obtain ⟨fs_78, v_79, hx_80, hv_81, hw⟩ := hw
        refine x_get hF hC hP in_X6 rfl 2 (by decide) q381 (fun _ z => z) hx_80 hv_81 dX6_goes_154 ?_
        refine lv_iload hF.1 hF.2.1 dX6_goes_157 (lv_at hl 3 rfl) ?_
        refine lv_aload_n hF.1 hF.2.1 dX6_goes_159 rfl (lv_at hl 4 rfl) ?_
        obtain ⟨fs_82, v_83, hx_84, hv_85, hw⟩ := hw
        refine x_get hF hC hP in_X6 rfl 2 (by decide) q381 (fun _ z => z) hx_84 hv_85 dX6_goes_160 ?_
        refine lv_iload_n hF.1 hF.2.1 dX6_goes_163 rfl (lv_at hl 5 rfl) ?_
        obtain ⟨n_86, f_87, hx_88, hi_89, hw⟩ := hw
        refine x_lald hF hC hP hx_88 hi_89 dX6_goes_164 ?_
        generalize f_87 (Int32.toNatClampNeg p1) = v_90 at hw ⊢
        refine lv_lneg hF.1 hF.2.1 dX6_goes_165 ?_
        refine lv_aload_n hF.1 hF.2.1 dX6_goes_166 rfl (lv_at hl 6 rfl) ?_
        obtain ⟨fs_91, v_92, hx_93, hv_94, hw⟩ := hw
        refine x_getN hF hC hP in_X5 rfl 1 (by decide) q862 (fun _ z => z) hx_93 hv_94 dX6_goes_167 ?_
        refine lv_i2l hF.1 hF.2.1 dX6_goes_170 rfl ?_
        refine lv_lmul hF.1 hF.2.1 dX6_goes_171 ?_
        obtain ⟨n_95, f_96, hx_97, hi_98, hw⟩ := hw
        refine x_last hF hC hP hS hx_97 hi_98 dX6_goes_172 (fun H locs hP hS => ?_)
        generalize hup X_77 v_79 (.inl (1, n_95, .inr (.inl (vp_updL f_96 (Int32.toNatClampNeg v_12) ((-v_90) * (Int32.toInt64 v_92)))))) = X_99 at hP hw
        refine lv_aload_n hF.1 hF.2.1 dX6_goes_173 rfl (lv_at hl 4 rfl) ?_
        obtain ⟨fs_100, v_101, hx_102, hv_103, hw⟩ := hw
        refine x_get hF hC hP in_X6 rfl 3 (by decide) q383 (fun _ z => z) hx_102 hv_103 dX6_goes_174 ?_
        refine lv_iload hF.1 hF.2.1 dX6_goes_177 (lv_at hl 3 rfl) ?_
        refine lv_aload_n hF.1 hF.2.1 dX6_goes_179 rfl (lv_at hl 4 rfl) ?_
        obtain ⟨fs_104, v_105, hx_106, hv_107, hw⟩ := hw
        refine x_get hF hC hP in_X6 rfl 3 (by decide) q383 (fun _ z => z) hx_106 hv_107 dX6_goes_180 ?_
        refine lv_iload_n hF.1 hF.2.1 dX6_goes_183 rfl (lv_at hl 5 rfl) ?_
        obtain ⟨n_108, f_109, hx_110, hi_111, hw⟩ := hw
        refine x_lald hF hC hP hx_110 hi_111 dX6_goes_184 ?_
        generalize f_109 (Int32.toNatClampNeg p1) = v_112 at hw ⊢
        refine lv_aload_n hF.1 hF.2.1 dX6_goes_185 rfl (lv_at hl 7 rfl) ?_
        obtain ⟨fs_113, v_114, hx_115, hv_116, hw⟩ := hw
        refine x_getN hF hC hP in_X5 rfl 1 (by decide) q862 (fun _ z => z) hx_115 hv_116 dX6_goes_186 ?_
        refine lv_i2l hF.1 hF.2.1 dX6_goes_189 rfl ?_
        refine lv_lmul hF.1 hF.2.1 dX6_goes_190 ?_
        obtain ⟨n_117, f_118, hx_119, hi_120, hw⟩ := hw
        refine x_last hF hC hP hS hx_119 hi_120 dX6_goes_191 (fun H locs hP hS => ?_)
        generalize hup X_99 v_101 (.inl (1, n_117, .inr (.inl (vp_updL f_118 (Int32.toNatClampNeg v_12) (v_112 * (Int32.toInt64 v_114)))))) = X_121 at hP hw
        refine lv_aload_n hF.1 hF.2.1 dX6_goes_192 rfl (lv_at hl 4 rfl) ?_
        obtain ⟨fs_122, v_123, hx_124, hv_125, hw⟩ := hw
        refine x_get hF hC hP in_X6 rfl 4 (by decide) q385 (fun _ z => z) hx_124 hv_125 dX6_goes_193 ?_
        refine lv_iload hF.1 hF.2.1 dX6_goes_196 (lv_at hl 3 rfl) ?_
        refine lv_aload_n hF.1 hF.2.1 dX6_goes_198 rfl (lv_at hl 4 rfl) ?_
        obtain ⟨fs_126, v_127, hx_128, hv_129, hw⟩ := hw
        refine x_get hF hC hP in_X6 rfl 4 (by decide) q385 (fun _ z => z) hx_128 hv_129 dX6_goes_199 ?_
        refine lv_iload_n hF.1 hF.2.1 dX6_goes_202 rfl (lv_at hl 5 rfl) ?_
        obtain ⟨n_130, f_131, hx_132, hi_133, hw⟩ := hw
        refine x_iald hF hC hP hx_132 hi_133 dX6_goes_203 ?_
        generalize f_131 (Int32.toNatClampNeg p1) = v_134 at hw ⊢
        refine lv_iconst (v := 1) hF.1 hF.2.1 dX6_goes_204 (by decide) ?_
        refine lv_iadd hF.1 hF.2.1 dX6_goes_205 ?_
        obtain ⟨n_135, f_136, hx_137, hi_138, hw⟩ := hw
        refine x_iast hF hC hP hS hx_137 hi_138 dX6_goes_206 (fun H locs hP hS => ?_)
        generalize hup X_121 v_123 (.inl (0, n_135, .inl (upd f_136 (Int32.toNatClampNeg v_12) (v_134 + 1)))) = X_139 at hP hw
        refine lv_aload_n hF.1 hF.2.1 dX6_goes_207 rfl (lv_at hl 4 rfl) ?_
        obtain ⟨fs_140, v_141, hx_142, hv_143, hw⟩ := hw
        refine x_get hF hC hP in_X6 rfl 5 (by decide) q387 (fun _ z => z) hx_142 hv_143 dX6_goes_208 ?_
        refine lv_aload_n hF.1 hF.2.1 dX6_goes_211 rfl (lv_at hl 4 rfl) ?_
        obtain ⟨fs_144, v_145, hx_146, hv_147, hw⟩ := hw
        refine x_get hF hC hP in_X6 rfl 6 (by decide) q388 (fun _ z => z) hx_146 hv_147 dX6_goes_212 ?_
        refine lv_iload hF.1 hF.2.1 dX6_goes_215 (lv_at hl 3 rfl) ?_
        obtain ⟨n_148, f_149, hx_150, hi_151, hw⟩ := hw
        refine x_iast hF hC hP hS hx_150 hi_151 dX6_goes_217 (fun H locs hP hS => ?_)
        generalize hup X_139 v_141 (.inl (0, n_148, .inl (upd f_149 (Int32.toNatClampNeg v_145) v_12))) = X_152 at hP hw
        refine lv_aload_n hF.1 hF.2.1 dX6_goes_218 rfl (lv_at hl 4 rfl) ?_
        refine lv_dup hF.1 hF.2.1 dX6_goes_219 rfl ?_
        obtain ⟨fs_153, v_154, hx_155, hv_156, hw⟩ := hw
        refine x_get hF hC hP in_X6 rfl 6 (by decide) q388 (fun _ z => z) hx_155 hv_156 dX6_goes_220 ?_
        refine lv_iconst (v := 1) hF.1 hF.2.1 dX6_goes_223 (by decide) ?_
        refine lv_iadd hF.1 hF.2.1 dX6_goes_224 ?_
        obtain ⟨fs_157, hx_158, hl_159, hw⟩ := hw
        refine x_put hF hC hP hS in_X6 rfl tyX6 tyX6_ok nmX6 6 (by decide) q388 (fun _ z => z) rfl rfl rfl hx_158 hl_159 dX6_goes_225 (fun H locs hP hS => ?_)
        generalize hup X_152 p0 (.inr (3, fs_157.set 6 (.int (v_154 + 1)))) = X_160 at hP hw
        exact h_vret hF hr hlocks hP hS ⟨Nat.le_refl _, Nat.le_refl _⟩ dX6_goes_228 hw
      · have hw := hw.1 c_57
        refine lv_aload_n hF.1 hF.2.1 dX6_goes_121 rfl (lv_at hl 4 rfl) ?_
        refine lv_iconst (v := 1) hF.1 hF.2.1 dX6_goes_122 (by decide) ?_
        obtain ⟨fs_161, hx_162, hl_163, hw⟩ := hw
        refine x_put hF hC hP hS in_X6 rfl tyX6 tyX6_ok nmX6 8 (by decide) q393 (fun _ z => z) rfl rfl rfl hx_162 hl_163 dX6_goes_123 (fun H locs hP hS => ?_)
        generalize hup X_45 p0 (.inr (3, fs_161.set 8 (.int 1))) = X_164 at hP hw
        refine lv_goto (tgt := 228) hF.1 hF.2.1 dX6_goes_126 (by decide) ?_
        exact h_vret hF hr hlocks hP hS ⟨Nat.le_refl _, Nat.le_refl _⟩ dX6_goes_228 hw
    · have hw := hw.2 c_47
      refine lv_aload_n hF.1 hF.2.1 dX6_goes_62 rfl (lv_at hl 4 rfl) ?_
      refine lv_dup hF.1 hF.2.1 dX6_goes_63 rfl ?_
      obtain ⟨fs_165, v_166, hx_167, hv_168, hw⟩ := hw
      refine x_get hF hC hP in_X6 rfl 7 (by decide) q391 (fun _ z => z) hx_167 hv_168 dX6_goes_64 ?_
      refine lv_aload_n hF.1 hF.2.1 dX6_goes_67 rfl (lv_at hl 4 rfl) ?_
      obtain ⟨fs_169, v_170, hx_171, hv_172, hw⟩ := hw
      refine x_get hF hC hP in_X6 rfl 0 (by decide) q375 (fun _ z => z) hx_171 hv_172 dX6_goes_68 ?_
      refine lv_iload hF.1 hF.2.1 dX6_goes_71 (lv_at hl 3 rfl) ?_
      obtain ⟨n_173, f_174, hx_175, hi_176, hw⟩ := hw
      refine x_lald hF hC hP hx_175 hi_176 dX6_goes_73 ?_
      generalize f_174 (Int32.toNatClampNeg v_12) = v_177 at hw ⊢
      refine lv_lload hF.1 hF.2.1 dX6_goes_74 (lv_at hl 2 rfl) ?_
      refine lv_lload hF.1 hF.2.1 dX6_goes_76 (lv_at hl 0 rfl) ?_
      obtain ⟨h_178, hw⟩ := hw
      refine lv_ldiv hF.1 hF.2.1 dX6_goes_78 h_178 ?_
      refine W.lcmp hF.1 hF.2.1 dX6_goes_79 ?_
      refine lv_if_ne (tgt := 99) hF.1 hF.2.1 dX6_goes_80 (by decide) (fun c_179 => ?_) (fun c_179 => ?_)
      · rw [lc_eq] at c_179
        have hw := hw.2 c_179
        exact T99 p0 v_166 X_45 _ _ ls hP hS (lv_sub hl [] rfl) hw
      · rw [lc_eq] at c_179
        have hw := hw.1 c_179
        refine lv_aload_n hF.1 hF.2.1 dX6_goes_83 rfl (lv_at hl 4 rfl) ?_
        obtain ⟨fs_180, v_181, hx_182, hv_183, hw⟩ := hw
        refine x_get hF hC hP in_X6 rfl 1 (by decide) q378 (fun _ z => z) hx_182 hv_183 dX6_goes_84 ?_
        refine lv_iload hF.1 hF.2.1 dX6_goes_87 (lv_at hl 3 rfl) ?_
        obtain ⟨n_184, f_185, hx_186, hi_187, hw⟩ := hw
        refine x_lald hF hC hP hx_186 hi_187 dX6_goes_89 ?_
        generalize f_185 (Int32.toNatClampNeg v_12) = v_188 at hw ⊢
        refine lv_lload hF.1 hF.2.1 dX6_goes_90 (lv_at hl 1 rfl) ?_
        refine lv_lload hF.1 hF.2.1 dX6_goes_92 (lv_at hl 0 rfl) ?_
        obtain ⟨h_189, hw⟩ := hw
        refine lv_ldiv hF.1 hF.2.1 dX6_goes_94 h_189 ?_
        refine W.lcmp hF.1 hF.2.1 dX6_goes_95 ?_
        refine lv_if_eq (tgt := 103) hF.1 hF.2.1 dX6_goes_96 (by decide) (fun c_190 => ?_) (fun c_190 => ?_)
        · rw [lc_eq] at c_190
          have hw := hw.1 c_190
          refine lv_iconst (v := 0) hF.1 hF.2.1 dX6_goes_103 (by decide) ?_
          refine lv_ior hF.1 hF.2.1 dX6_goes_104 ?_
          obtain ⟨h_194, hw⟩ := hw
          obtain ⟨fs_191, hx_192, hl_193, hw⟩ := hw
          refine x_put hF hC hP hS in_X6 rfl tyX6 tyX6_ok nmX6 7 (by decide) q391 (fun _ z => z) rfl (zb_n h_194) (zb_f h_194) hx_192 hl_193 dX6_goes_105 (fun H locs hP hS => ?_)
          generalize hup X_45 p0 (.inr (3, fs_191.set 7 (.int (v_166 ||| 0)))) = X_195 at hP hw
          refine lv_goto (tgt := 228) hF.1 hF.2.1 dX6_goes_108 (by decide) ?_
          exact h_vret hF hr hlocks hP hS ⟨Nat.le_refl _, Nat.le_refl _⟩ dX6_goes_228 hw
        · rw [lc_eq] at c_190
          have hw := hw.2 c_190
          exact T99 p0 v_166 X_45 _ _ ls hP hS (lv_sub hl [] rfl) hw
  · have hw := hw.2 c_10
    exact h_vret hF hr hlocks hP hS ⟨Nat.le_refl _, Nat.le_refl _⟩ dX6_goes_8 hw
def wpX6_init_97 (post : hX → Prop) (E : Nat) (mc ms : Nat) (J87 : Nat → Nat → Int32 → hX → Nat → Nat → Prop) : Nat → Nat → Nat → Int32 → Int32 → hX → Nat → Nat → Prop
  | 0 => fun _ _ _ _ _ _ _ => False
  | n + 1 => fun x0 x1 x2 x3 X kc ks => gfI X x1 2 6 (fun v_2 => ((v_2 ≤ x3 → (∀ x2_6 : Int32, x2_6 = x2 + 1 → J87 x0 x1 x2_6 X kc ks)) ∧ (¬ v_2 ≤ x3 → gfA X x0 3 5 (fun v_8 => alI X 0 v_8 x2 (fun v_15 => gfA X x1 2 0 (fun v_17 => gfA X x1 2 3 (fun v_21 => alI X 0 v_21 x3 (fun v_28 => isO X v_17 8 (wpJ2_get (fun r_29 X_30 => (∃ a_32 : Nat, r_29 = some a_32 ∧ ((∃ fs, X_30 a_32 = some (.inr (5, fs))) ∧ gfA X_30 x1 2 0 (fun v_36 => gfA X_30 x1 2 4 (fun v_40 => alI X_30 0 v_40 x3 (fun v_47 => isO X_30 v_36 8 (wpJ2_get (fun r_48 X_49 => (∃ a_51 : Nat, r_48 = some a_51 ∧ ((∃ fs, X_49 a_51 = some (.inr (5, fs))) ∧ isO X_49 x0 3 (wpX6_goes (fun X_54 => gfA X_54 x0 3 5 (fun v_57 => alI X_54 0 v_57 x2 (fun v_64 => gfA X_54 x1 2 0 (fun v_66 => gfA X_54 x1 2 4 (fun v_70 => alI X_54 0 v_70 x3 (fun v_77 => isO X_54 v_66 8 (wpJ2_get (fun r_78 X_79 => (∃ a_81 : Nat, r_78 = some a_81 ∧ ((∃ fs, X_79 a_81 = some (.inr (5, fs))) ∧ gfA X_79 x1 2 0 (fun v_85 => gfA X_79 x1 2 3 (fun v_89 => alI X_79 0 v_89 x3 (fun v_96 => isO X_79 v_85 8 (wpJ2_get (fun r_97 X_98 => (∃ a_100 : Nat, r_97 = some a_100 ∧ ((∃ fs, X_98 a_100 = some (.inr (5, fs))) ∧ isO X_98 x0 3 (wpX6_goes (fun X_103 => (∀ x3_105 : Int32, x3_105 = x3 + 1 → wpX6_init_97 post E mc ms J87 n x0 x1 x2 x3_105 X_103 kc ks)) E X_98 x0 v_64 a_81 a_100)))) E X_79 v_85 v_96))))))) E X_54 v_66 v_77))))))) E X_49 x0 v_15 a_32 a_51)))) E X_30 v_36 v_47))))))) E X v_17 v_28)))))))))
def wpX6_init_87 (post : hX → Prop) (E : Nat) (mc ms : Nat) : Nat → Nat → Nat → Int32 → hX → Nat → Nat → Prop
  | 0 => fun _ _ _ _ _ _ => False
  | n + 1 => fun x0 x1 x2 X kc ks => gfI X x0 3 6 (fun v_107 => ((v_107 ≤ x2 → post X) ∧ (¬ v_107 ≤ x2 → ∃ fu : Nat, wpX6_init_97 post E mc ms (wpX6_init_87 post E mc ms n) fu x0 x1 x2 0 X kc ks)))
def wpX6_init (post : hX → Prop) (E : Nat) (mc ms : Nat) (X : hX) (p0 : Nat) (p1 : Nat) : Prop := newA X 1 (.inr (.inl (fun _ => 0))) 12 8 0 0 mc ms (fun a_111 X_112 => pfV X_112 p0 3 0 (.ref a_111) (fun X_117 => newA X_117 1 (.inr (.inl (fun _ => 0))) 12 8 (0 + 1) (0 + Int32.toNatClampNeg 12) mc ms (fun a_118 X_119 => pfV X_119 p0 3 1 (.ref a_118) (fun X_124 => newA X_124 1 (.inr (.inl (fun _ => 0))) 12 8 ((0 + 1) + 1) ((0 + Int32.toNatClampNeg 12) + Int32.toNatClampNeg 12) mc ms (fun a_125 X_126 => pfV X_126 p0 3 2 (.ref a_125) (fun X_131 => newA X_131 1 (.inr (.inl (fun _ => 0))) 12 8 (((0 + 1) + 1) + 1) (((0 + Int32.toNatClampNeg 12) + Int32.toNatClampNeg 12) + Int32.toNatClampNeg 12) mc ms (fun a_132 X_133 => pfV X_133 p0 3 3 (.ref a_132) (fun X_138 => newA X_138 0 (.inl (fun _ => 0)) 12 4 ((((0 + 1) + 1) + 1) + 1) ((((0 + Int32.toNatClampNeg 12) + Int32.toNatClampNeg 12) + Int32.toNatClampNeg 12) + Int32.toNatClampNeg 12) mc ms (fun a_139 X_140 => pfV X_140 p0 3 4 (.ref a_139) (fun X_145 => newA X_145 0 (.inl (fun _ => 0)) 12 4 (((((0 + 1) + 1) + 1) + 1) + 1) (((((0 + Int32.toNatClampNeg 12) + Int32.toNatClampNeg 12) + Int32.toNatClampNeg 12) + Int32.toNatClampNeg 12) + Int32.toNatClampNeg 12) mc ms (fun a_146 X_147 => pfV X_147 p0 3 5 (.ref a_146) (fun X_152 => pfV X_152 p0 3 6 (.int 1) (fun X_156 => gfA X_156 p0 3 0 (fun v_158 => asJ X_156 v_158 0 1 (fun X_165 => gfA X_165 p0 3 1 (fun v_167 => asJ X_165 v_167 0 1 (fun X_174 => gfA X_174 p0 3 2 (fun v_176 => asJ X_174 v_176 0 1 (fun X_183 => gfA X_183 p0 3 3 (fun v_185 => asJ X_183 v_185 0 1 (fun X_192 => ∃ fu : Nat, wpX6_init_87 post E mc ms fu p0 p1 0 X_192 ((((((0 + 1) + 1) + 1) + 1) + 1) + 1) ((((((0 + Int32.toNatClampNeg 12) + Int32.toNatClampNeg 12) + Int32.toNatClampNeg 12) + Int32.toNatClampNeg 12) + Int32.toNatClampNeg 12) + Int32.toNatClampNeg 12))))))))))))))))))))))
abbrev wsX6_init : List Cond := ws_ yX6_init cX6_init 4 none
set_option maxHeartbeats 8000000 in
theorem metX6_init (l : Launch) (K : HK) (mc ms : Nat) (sz : Nat) (post : hX → Prop) (X0 : hX) (p0 : Nat) (p1 : Nat) : Met l yX6_init wsX6_init (rmh 3 80 mc ms) (hPc K X0 sz [.ref p0, .ref p1] (wpX6_init post (K.2.2 0) mc ms X0 p0 p1)) (hQv post K X0 sz) mc ms (hA X0 sz) := by
  refine Met.ofW (cc := cX6_init) (maxL := 4) (ret := none) (by decide) rfl ?_
  intro p e s m args below meth c s₁ B hml hv
  obtain ⟨rfl, hv⟩ := hv
  obtain ⟨hC, hP, hw⟩ := HC.of hv
  have hsz : s.heap.size = sz := hv.1
  subst hsz
  clear hv
  have hr := B.returns
  have hts := atoms_spec (ws := wsX6_init) B.pre
  have hts : ∀ w ∈ lw_all, w.before _ s = true := fun w h => hts w (List.mem_cons_of_mem _ h)
  have hF : CallFix p m c cX6_init 4 s ([.ref p0, .ref p1] : List Value).toArray lw_all RX6 := ⟨B.exec, B.bytes, hml, findClass_of_methodNamed B.named, hts⟩
  have hlocks := B.notSynchronized
  have hin : meth.name = "<init>" := (name_of_methodNamed B.named B.method).1
  have hl := lv_entry ([.ref p0, .ref p1]) (n := 4) (Nat.le_of_ble_eq_true rfl)
  rw [lg_entry_eq]
  generalize (lg_sl ([.ref p0, .ref p1]) ++ List.replicate (4 - (lg_sl ([.ref p0, .ref p1])).length) Slot.unset).toArray = ls at hl ⊢
  have hl : lv_has ls 4 [(0, .ref p0), (1, .ref p1)] := hl
  have hS : va_S (hA X0 s.heap.size) s.heap s.heap [] := va_S.rf
  have T97 : ∀ (J87 : Nat → Nat → Int32 → hX → Nat → Nat → Prop) (hJ87 : ∀ (x0 : Nat) (x1 : Nat) (x2 : Int32) (X : hX) (kc ks : Nat) (H : Heap) (locs : List Loc) (ls : Array Slot), hI K X0 s.heap.size X H → va_S (hA X0 s.heap.size) s.heap H locs → kc ≤ mc ∧ ks ≤ ms → lv_has ls 4 [(0, .ref x0), (1, .ref x1), (2, .int x2)] → J87 x0 x1 x2 X kc ks → W p l e (rmh 3 80 mc ms) s m ([.ref p0, .ref p1] : List Value).toArray below meth c H locs kc ks (MQ below (hQv post K X0 s.heap.size) ([.ref p0, .ref p1] : List Value).toArray s mc ms (hA X0 s.heap.size)) (F0 m 87 ls [])), ∀ (n : Nat), ∀ (x0 : Nat) (x1 : Nat) (x2 : Int32) (x3 : Int32) (X : hX) (kc ks : Nat) (H : Heap) (locs : List Loc) (ls : Array Slot), hI K X0 s.heap.size X H → va_S (hA X0 s.heap.size) s.heap H locs → kc ≤ mc ∧ ks ≤ ms → lv_has ls 4 [(0, .ref x0), (1, .ref x1), (2, .int x2), (3, .int x3)] → wpX6_init_97 post (K.2.2 0) mc ms J87 n x0 x1 x2 x3 X kc ks → W p l e (rmh 3 80 mc ms) s m ([.ref p0, .ref p1] : List Value).toArray below meth c H locs kc ks (MQ below (hQv post K X0 s.heap.size) ([.ref p0, .ref p1] : List Value).toArray s mc ms (hA X0 s.heap.size)) (F0 m 97 ls []) := by
    intro J87 hJ87
    intro n
    induction n with
    | zero =>
      intro x0 x1 x2 x3 X kc ks H locs ls hP hS hk hl hw
      exact False.elim hw
    | succ n ih =>
      intro x0 x1 x2 x3 X kc ks H locs ls hP hS hk hl hw
      unfold wpX6_init_97 at hw
      refine lv_iload_n hF.1 hF.2.1 dX6_init_97 rfl (lv_at hl 3 rfl) ?_
      refine lv_aload_n hF.1 hF.2.1 dX6_init_98 rfl (lv_at hl 1 rfl) ?_
      obtain ⟨fs_1, v_2, hx_3, hv_4, hw⟩ := hw
      refine x_getN hF hC hP in_X2 rfl 6 (by decide) q165 (fun _ z => z) hx_3 hv_4 dX6_init_99 ?_
      refine lv_icmp_ge (tgt := 195) hF.1 hF.2.1 dX6_init_102 (by decide) (fun c_5 => ?_) (fun c_5 => ?_)
      · have hw := hw.1 c_5
        obtain ⟨x2_6, ex2_6⟩ : ∃ y : Int32, y = x2 + 1 := ⟨_, rfl⟩
        have hw := hw x2_6 ex2_6
        refine lv_iinc (v := x2_6) (lv' := [(2, .int x2_6), (0, .ref x0), (1, .ref x1), (3, .int x3)]) hF.1 hF.2.1 dX6_init_195 hl (k := 2) rfl (by rw [ex2_6]; rfl) (by decide) rfl (fun ls hl => ?_)
        refine lv_goto (tgt := 87) hF.1 hF.2.1 dX6_init_198 (by decide) ?_
        exact hJ87 x0 x1 x2_6 X kc ks _ _ ls hP hS hk (lv_sub hl [1, 2, 0] rfl) hw
      · have hw := hw.2 c_5
        refine lv_aload_n hF.1 hF.2.1 dX6_init_105 rfl (lv_at hl 0 rfl) ?_
        refine lv_aload_n hF.1 hF.2.1 dX6_init_106 rfl (lv_at hl 0 rfl) ?_
        obtain ⟨fs_7, v_8, hx_9, hv_10, hw⟩ := hw
        refine x_get hF hC hP in_X6 rfl 5 (by decide) q387 (fun _ z => z) hx_9 hv_10 dX6_init_107 ?_
        refine lv_iload_n hF.1 hF.2.1 dX6_init_110 rfl (lv_at hl 2 rfl) ?_
        obtain ⟨n_11, f_12, hx_13, hi_14, hw⟩ := hw
        refine x_iald hF hC hP hx_13 hi_14 dX6_init_111 ?_
        generalize f_12 (Int32.toNatClampNeg x2) = v_15 at hw ⊢
        refine lv_aload_n hF.1 hF.2.1 dX6_init_112 rfl (lv_at hl 1 rfl) ?_
        obtain ⟨fs_16, v_17, hx_18, hv_19, hw⟩ := hw
        refine x_getN hF hC hP in_X2 rfl 0 (by decide) q151 (fun _ z => z) hx_18 hv_19 dX6_init_113 ?_
        refine lv_aload_n hF.1 hF.2.1 dX6_init_116 rfl (lv_at hl 1 rfl) ?_
        obtain ⟨fs_20, v_21, hx_22, hv_23, hw⟩ := hw
        refine x_getN hF hC hP in_X2 rfl 3 (by decide) q158 (fun _ z => z) hx_22 hv_23 dX6_init_117 ?_
        refine lv_iload_n hF.1 hF.2.1 dX6_init_120 rfl (lv_at hl 3 rfl) ?_
        obtain ⟨n_24, f_25, hx_26, hi_27, hw⟩ := hw
        refine x_iald hF hC hP hx_26 hi_27 dX6_init_121 ?_
        generalize f_25 (Int32.toNatClampNeg x3) = v_28 at hw ⊢
        obtain ⟨ho_31, hw⟩ := hw
        refine hk_q (hr_V (As := [.int v_28]) (rest := [.int v_15, .ref x0]) (T := TJ2) (N := 3) (ci := 8) hF hl.1 hC hP hS (metJ2_get l K _ _ X v_17 v_28) rfl (cwV 1 hF.2.2.2.2 (lw_V q346 q347 q348 q79 q349) rfl rfl rfl (by decide +kernel) ⟨Nat.le_of_ble_eq_true rfl, Nat.le_of_ble_eq_true rfl⟩) ho_31 hw rfl rfl (Nat.le_of_ble_eq_true rfl) dX6_init_122 hk) hP hS (fun r_29 X_30 H locs hw hP hS => ?_)
        obtain ⟨a_32, e_33, hw⟩ := hw
        subst e_33
        rw [va_rf_some]
        obtain ⟨h_34, hw⟩ := hw
        refine x_cast (T := TX5) (N := 2) (ci := 5) hF hC hP rfl q360 h_34 dX6_init_125 ?_
        refine lv_aload_n hF.1 hF.2.1 dX6_init_128 rfl (lv_at hl 1 rfl) ?_
        obtain ⟨fs_35, v_36, hx_37, hv_38, hw⟩ := hw
        refine x_getN hF hC hP in_X2 rfl 0 (by decide) q151 (fun _ z => z) hx_37 hv_38 dX6_init_129 ?_
        refine lv_aload_n hF.1 hF.2.1 dX6_init_132 rfl (lv_at hl 1 rfl) ?_
        obtain ⟨fs_39, v_40, hx_41, hv_42, hw⟩ := hw
        refine x_getN hF hC hP in_X2 rfl 4 (by decide) q161 (fun _ z => z) hx_41 hv_42 dX6_init_133 ?_
        refine lv_iload_n hF.1 hF.2.1 dX6_init_136 rfl (lv_at hl 3 rfl) ?_
        obtain ⟨n_43, f_44, hx_45, hi_46, hw⟩ := hw
        refine x_iald hF hC hP hx_45 hi_46 dX6_init_137 ?_
        generalize f_44 (Int32.toNatClampNeg x3) = v_47 at hw ⊢
        obtain ⟨ho_50, hw⟩ := hw
        refine hk_q (hr_V (As := [.int v_47]) (rest := [.ref a_32, .int v_15, .ref x0]) (T := TJ2) (N := 3) (ci := 8) hF hl.1 hC hP hS (metJ2_get l K _ _ X_30 v_36 v_47) rfl (cwV 1 hF.2.2.2.2 (lw_V q346 q347 q348 q79 q349) rfl rfl rfl (by decide +kernel) ⟨Nat.le_of_ble_eq_true rfl, Nat.le_of_ble_eq_true rfl⟩) ho_50 hw rfl rfl (Nat.le_of_ble_eq_true rfl) dX6_init_138 hk) hP hS (fun r_48 X_49 H locs hw hP hS => ?_)
        obtain ⟨a_51, e_52, hw⟩ := hw
        subst e_52
        rw [va_rf_some]
        obtain ⟨h_53, hw⟩ := hw
        refine x_cast (T := TX5) (N := 2) (ci := 5) hF hC hP rfl q360 h_53 dX6_init_141 ?_
        obtain ⟨ho_55, hw⟩ := hw
        refine hk_v (hr_V (As := [.int v_15, .ref a_32, .ref a_51]) (rest := []) (T := TX6) (N := 9) (ci := 3) hF hl.1 hC hP hS (metX6_goes l K _ _ X_49 x0 v_15 a_32 a_51) rfl (cwV 3 hF.2.2.2.2 (lw_V q361 q363 qs0 q96 q364) rfl rfl rfl (by decide +kernel) ⟨Nat.le_of_ble_eq_true rfl, Nat.le_of_ble_eq_true rfl⟩) ho_55 hw rfl rfl (Nat.le_of_ble_eq_true rfl) dX6_init_144 hk) hP hS (fun X_54 H locs hw hP hS => ?_)
        refine lv_aload_n hF.1 hF.2.1 dX6_init_147 rfl (lv_at hl 0 rfl) ?_
        refine lv_aload_n hF.1 hF.2.1 dX6_init_148 rfl (lv_at hl 0 rfl) ?_
        obtain ⟨fs_56, v_57, hx_58, hv_59, hw⟩ := hw
        refine x_get hF hC hP in_X6 rfl 5 (by decide) q387 (fun _ z => z) hx_58 hv_59 dX6_init_149 ?_
        refine lv_iload_n hF.1 hF.2.1 dX6_init_152 rfl (lv_at hl 2 rfl) ?_
        obtain ⟨n_60, f_61, hx_62, hi_63, hw⟩ := hw
        refine x_iald hF hC hP hx_62 hi_63 dX6_init_153 ?_
        generalize f_61 (Int32.toNatClampNeg x2) = v_64 at hw ⊢
        refine lv_aload_n hF.1 hF.2.1 dX6_init_154 rfl (lv_at hl 1 rfl) ?_
        obtain ⟨fs_65, v_66, hx_67, hv_68, hw⟩ := hw
        refine x_getN hF hC hP in_X2 rfl 0 (by decide) q151 (fun _ z => z) hx_67 hv_68 dX6_init_155 ?_
        refine lv_aload_n hF.1 hF.2.1 dX6_init_158 rfl (lv_at hl 1 rfl) ?_
        obtain ⟨fs_69, v_70, hx_71, hv_72, hw⟩ := hw
        refine x_getN hF hC hP in_X2 rfl 4 (by decide) q161 (fun _ z => z) hx_71 hv_72 dX6_init_159 ?_
        refine lv_iload_n hF.1 hF.2.1 dX6_init_162 rfl (lv_at hl 3 rfl) ?_
        obtain ⟨n_73, f_74, hx_75, hi_76, hw⟩ := hw
        refine x_iald hF hC hP hx_75 hi_76 dX6_init_163 ?_
        generalize f_74 (Int32.toNatClampNeg x3) = v_77 at hw ⊢
        obtain ⟨ho_80, hw⟩ := hw
        refine hk_q (hr_V (As := [.int v_77]) (rest := [.int v_64, .ref x0]) (T := TJ2) (N := 3) (ci := 8) hF hl.1 hC hP hS (metJ2_get l K _ _ X_54 v_66 v_77) rfl (cwV 1 hF.2.2.2.2 (lw_V q346 q347 q348 q79 q349) rfl rfl rfl (by decide +kernel) ⟨Nat.le_of_ble_eq_true rfl, Nat.le_of_ble_eq_true rfl⟩) ho_80 hw rfl rfl (Nat.le_of_ble_eq_true rfl) dX6_init_164 hk) hP hS (fun r_78 X_79 H locs hw hP hS => ?_)
        obtain ⟨a_81, e_82, hw⟩ := hw
        subst e_82
        rw [va_rf_some]
        obtain ⟨h_83, hw⟩ := hw
        refine x_cast (T := TX5) (N := 2) (ci := 5) hF hC hP rfl q360 h_83 dX6_init_167 ?_
        refine lv_aload_n hF.1 hF.2.1 dX6_init_170 rfl (lv_at hl 1 rfl) ?_
        obtain ⟨fs_84, v_85, hx_86, hv_87, hw⟩ := hw
        refine x_getN hF hC hP in_X2 rfl 0 (by decide) q151 (fun _ z => z) hx_86 hv_87 dX6_init_171 ?_
        refine lv_aload_n hF.1 hF.2.1 dX6_init_174 rfl (lv_at hl 1 rfl) ?_
        obtain ⟨fs_88, v_89, hx_90, hv_91, hw⟩ := hw
        refine x_getN hF hC hP in_X2 rfl 3 (by decide) q158 (fun _ z => z) hx_90 hv_91 dX6_init_175 ?_
        refine lv_iload_n hF.1 hF.2.1 dX6_init_178 rfl (lv_at hl 3 rfl) ?_
        obtain ⟨n_92, f_93, hx_94, hi_95, hw⟩ := hw
        refine x_iald hF hC hP hx_94 hi_95 dX6_init_179 ?_
        generalize f_93 (Int32.toNatClampNeg x3) = v_96 at hw ⊢
        obtain ⟨ho_99, hw⟩ := hw
        refine hk_q (hr_V (As := [.int v_96]) (rest := [.ref a_81, .int v_64, .ref x0]) (T := TJ2) (N := 3) (ci := 8) hF hl.1 hC hP hS (metJ2_get l K _ _ X_79 v_85 v_96) rfl (cwV 1 hF.2.2.2.2 (lw_V q346 q347 q348 q79 q349) rfl rfl rfl (by decide +kernel) ⟨Nat.le_of_ble_eq_true rfl, Nat.le_of_ble_eq_true rfl⟩) ho_99 hw rfl rfl (Nat.le_of_ble_eq_true rfl) dX6_init_180 hk) hP hS (fun r_97 X_98 H locs hw hP hS => ?_)
        obtain ⟨a_100, e_101, hw⟩ := hw
        subst e_101
        rw [va_rf_some]
        obtain ⟨h_102, hw⟩ := hw
        refine x_cast (T := TX5) (N := 2) (ci := 5) hF hC hP rfl q360 h_102 dX6_init_183 ?_
        obtain ⟨ho_104, hw⟩ := hw
        refine hk_v (hr_V (As := [.int v_64, .ref a_81, .ref a_100]) (rest := []) (T := TX6) (N := 9) (ci := 3) hF hl.1 hC hP hS (metX6_goes l K _ _ X_98 x0 v_64 a_81 a_100) rfl (cwV 3 hF.2.2.2.2 (lw_V q361 q363 qs0 q96 q364) rfl rfl rfl (by decide +kernel) ⟨Nat.le_of_ble_eq_true rfl, Nat.le_of_ble_eq_true rfl⟩) ho_104 hw rfl rfl (Nat.le_of_ble_eq_true rfl) dX6_init_186 hk) hP hS (fun X_103 H locs hw hP hS => ?_)
        obtain ⟨x3_105, ex3_105⟩ : ∃ y : Int32, y = x3 + 1 := ⟨_, rfl⟩
        have hw := hw x3_105 ex3_105
        refine lv_iinc (v := x3_105) (lv' := [(3, .int x3_105), (0, .ref x0), (1, .ref x1), (2, .int x2)]) hF.1 hF.2.1 dX6_init_189 hl (k := 3) rfl (by rw [ex3_105]; rfl) (by decide) rfl (fun ls hl => ?_)
        refine lv_goto (tgt := 97) hF.1 hF.2.1 dX6_init_192 (by decide) ?_
        exact ih x0 x1 x2 x3_105 X_103 kc ks _ _ ls hP hS hk (lv_sub hl [1, 2, 3, 0] rfl) hw
  have T87 : ∀ (n : Nat), ∀ (x0 : Nat) (x1 : Nat) (x2 : Int32) (X : hX) (kc ks : Nat) (H : Heap) (locs : List Loc) (ls : Array Slot), hI K X0 s.heap.size X H → va_S (hA X0 s.heap.size) s.heap H locs → kc ≤ mc ∧ ks ≤ ms → lv_has ls 4 [(0, .ref x0), (1, .ref x1), (2, .int x2)] → wpX6_init_87 post (K.2.2 0) mc ms n x0 x1 x2 X kc ks → W p l e (rmh 3 80 mc ms) s m ([.ref p0, .ref p1] : List Value).toArray below meth c H locs kc ks (MQ below (hQv post K X0 s.heap.size) ([.ref p0, .ref p1] : List Value).toArray s mc ms (hA X0 s.heap.size)) (F0 m 87 ls []) := by
    intro n
    induction n with
    | zero =>
      intro x0 x1 x2 X kc ks H locs ls hP hS hk hl hw
      exact False.elim hw
    | succ n ih =>
      intro x0 x1 x2 X kc ks H locs ls hP hS hk hl hw
      unfold wpX6_init_87 at hw
      refine lv_iload_n hF.1 hF.2.1 dX6_init_87 rfl (lv_at hl 2 rfl) ?_
      refine lv_aload_n hF.1 hF.2.1 dX6_init_88 rfl (lv_at hl 0 rfl) ?_
      obtain ⟨fs_106, v_107, hx_108, hv_109, hw⟩ := hw
      refine x_get hF hC hP in_X6 rfl 6 (by decide) q388 (fun _ z => z) hx_108 hv_109 dX6_init_89 ?_
      refine lv_icmp_ge (tgt := 201) hF.1 hF.2.1 dX6_init_92 (by decide) (fun c_110 => ?_) (fun c_110 => ?_)
      · have hw := hw.1 c_110
        exact h_vret hF hr hlocks hP hS hk dX6_init_201 hw
      · have hw := hw.2 c_110
        refine lv_iconst (v := 0) hF.1 hF.2.1 dX6_init_95 (by decide) ?_
        refine lv_istore_n (lv' := [(3, .int 0), (0, .ref x0), (1, .ref x1), (2, .int x2)]) hF.1 hF.2.1 dX6_init_96 rfl hl (by decide) rfl (fun ls hl => ?_)
        obtain ⟨fu, hw⟩ := hw
        exact T97 _ ih fu x0 x1 x2 0 X kc ks _ _ ls hP hS hk (lv_sub hl [1, 2, 3, 0] rfl) hw
  unfold wpX6_init at hw
  show W p l e (rmh 3 80 mc ms) s m _ below meth c _ _ _ _ _ _
  refine lv_aload_n hF.1 hF.2.1 dX6_init_0 rfl (lv_at hl 0 rfl) ?_
  refine W.objInit hF.1 hF.2.1 hF.2.2.2.1 (hF.2.2.2.2 _ q345) (hF.2.2.2.2 _ q116) (hF.2.2.2.2 _ q117) rfl (by rw [hF.2.2.1]; exact hl.1) rfl dX6_init_1 (Nat.le_of_ble_eq_true rfl) (Nat.le_of_ble_eq_true rfl) ?_
  refine W.eq (g2 := F0 m 4 ls []) rfl ?_
  refine lv_aload_n hF.1 hF.2.1 dX6_init_4 rfl (lv_at hl 0 rfl) ?_
  refine lv_bipush (v := 12) hF.1 hF.2.1 dX6_init_5 (by decide) ?_
  refine x_newa (atype := .long) (t := 1) hF hC hP hS q414 rfl rfl rfl (Or.inr (Or.inl rfl)) (fun _ _ => rfl) hw ⟨rfl, rfl⟩ dX6_init_7 (fun a_111 X_112 H pk_113c pk_113s hw hP hS => ?_)
  obtain ⟨fs_114, hx_115, hl_116, hw⟩ := hw
  refine x_putF hF hin hC hP hS in_X6 rfl tyX6 tyX6_ok nmX6 0 (by decide) q375 (fun _ z => z) rfl rfl rfl rfl hx_115 hl_116 dX6_init_9 (fun H locs hP hS => ?_)
  generalize hup X_112 p0 (.inr (3, fs_114.set 0 (.ref a_111))) = X_117 at hP hw
  refine lv_aload_n hF.1 hF.2.1 dX6_init_12 rfl (lv_at hl 0 rfl) ?_
  refine lv_bipush (v := 12) hF.1 hF.2.1 dX6_init_13 (by decide) ?_
  refine x_newa (atype := .long) (t := 1) hF hC hP hS q414 rfl rfl rfl (Or.inr (Or.inl rfl)) (fun _ _ => rfl) hw ⟨rfl, rfl⟩ dX6_init_15 (fun a_118 X_119 H pk_120c pk_120s hw hP hS => ?_)
  obtain ⟨fs_121, hx_122, hl_123, hw⟩ := hw
  refine x_putF hF hin hC hP hS in_X6 rfl tyX6 tyX6_ok nmX6 1 (by decide) q378 (fun _ z => z) rfl rfl rfl rfl hx_122 hl_123 dX6_init_17 (fun H locs hP hS => ?_)
  generalize hup X_119 p0 (.inr (3, fs_121.set 1 (.ref a_118))) = X_124 at hP hw
  refine lv_aload_n hF.1 hF.2.1 dX6_init_20 rfl (lv_at hl 0 rfl) ?_
  refine lv_bipush (v := 12) hF.1 hF.2.1 dX6_init_21 (by decide) ?_
  refine x_newa (atype := .long) (t := 1) hF hC hP hS q414 rfl rfl rfl (Or.inr (Or.inl rfl)) (fun _ _ => rfl) hw ⟨rfl, rfl⟩ dX6_init_23 (fun a_125 X_126 H pk_127c pk_127s hw hP hS => ?_)
  obtain ⟨fs_128, hx_129, hl_130, hw⟩ := hw
  refine x_putF hF hin hC hP hS in_X6 rfl tyX6 tyX6_ok nmX6 2 (by decide) q381 (fun _ z => z) rfl rfl rfl rfl hx_129 hl_130 dX6_init_25 (fun H locs hP hS => ?_)
  generalize hup X_126 p0 (.inr (3, fs_128.set 2 (.ref a_125))) = X_131 at hP hw
  refine lv_aload_n hF.1 hF.2.1 dX6_init_28 rfl (lv_at hl 0 rfl) ?_
  refine lv_bipush (v := 12) hF.1 hF.2.1 dX6_init_29 (by decide) ?_
  refine x_newa (atype := .long) (t := 1) hF hC hP hS q414 rfl rfl rfl (Or.inr (Or.inl rfl)) (fun _ _ => rfl) hw ⟨rfl, rfl⟩ dX6_init_31 (fun a_132 X_133 H pk_134c pk_134s hw hP hS => ?_)
  obtain ⟨fs_135, hx_136, hl_137, hw⟩ := hw
  refine x_putF hF hin hC hP hS in_X6 rfl tyX6 tyX6_ok nmX6 3 (by decide) q383 (fun _ z => z) rfl rfl rfl rfl hx_136 hl_137 dX6_init_33 (fun H locs hP hS => ?_)
  generalize hup X_133 p0 (.inr (3, fs_135.set 3 (.ref a_132))) = X_138 at hP hw
  refine lv_aload_n hF.1 hF.2.1 dX6_init_36 rfl (lv_at hl 0 rfl) ?_
  refine lv_bipush (v := 12) hF.1 hF.2.1 dX6_init_37 (by decide) ?_
  refine x_newa (atype := .int) (t := 0) hF hC hP hS q191 rfl rfl rfl (Or.inl rfl) (fun _ _ => rfl) hw ⟨rfl, rfl⟩ dX6_init_39 (fun a_139 X_140 H pk_141c pk_141s hw hP hS => ?_)
  obtain ⟨fs_142, hx_143, hl_144, hw⟩ := hw
  refine x_putF hF hin hC hP hS in_X6 rfl tyX6 tyX6_ok nmX6 4 (by decide) q385 (fun _ z => z) rfl rfl rfl rfl hx_143 hl_144 dX6_init_41 (fun H locs hP hS => ?_)
  generalize hup X_140 p0 (.inr (3, fs_142.set 4 (.ref a_139))) = X_145 at hP hw
  refine lv_aload_n hF.1 hF.2.1 dX6_init_44 rfl (lv_at hl 0 rfl) ?_
  refine lv_bipush (v := 12) hF.1 hF.2.1 dX6_init_45 (by decide) ?_
  refine x_newa (atype := .int) (t := 0) hF hC hP hS q191 rfl rfl rfl (Or.inl rfl) (fun _ _ => rfl) hw ⟨rfl, rfl⟩ dX6_init_47 (fun a_146 X_147 H pk_148c pk_148s hw hP hS => ?_)
  obtain ⟨fs_149, hx_150, hl_151, hw⟩ := hw
  refine x_putF hF hin hC hP hS in_X6 rfl tyX6 tyX6_ok nmX6 5 (by decide) q387 (fun _ z => z) rfl rfl rfl rfl hx_150 hl_151 dX6_init_49 (fun H locs hP hS => ?_)
  generalize hup X_147 p0 (.inr (3, fs_149.set 5 (.ref a_146))) = X_152 at hP hw
  refine lv_aload_n hF.1 hF.2.1 dX6_init_52 rfl (lv_at hl 0 rfl) ?_
  refine lv_iconst (v := 1) hF.1 hF.2.1 dX6_init_53 (by decide) ?_
  obtain ⟨fs_153, hx_154, hl_155, hw⟩ := hw
  refine x_put hF hC hP hS in_X6 rfl tyX6 tyX6_ok nmX6 6 (by decide) q388 (fun _ z => z) rfl rfl rfl hx_154 hl_155 dX6_init_54 (fun H locs hP hS => ?_)
  generalize hup X_152 p0 (.inr (3, fs_153.set 6 (.int 1))) = X_156 at hP hw
  refine lv_aload_n hF.1 hF.2.1 dX6_init_57 rfl (lv_at hl 0 rfl) ?_
  obtain ⟨fs_157, v_158, hx_159, hv_160, hw⟩ := hw
  refine x_get hF hC hP in_X6 rfl 0 (by decide) q375 (fun _ z => z) hx_159 hv_160 dX6_init_58 ?_
  refine lv_iconst (v := 0) hF.1 hF.2.1 dX6_init_61 (by decide) ?_
  refine lv_lconst (v := 1) hF.1 hF.2.1 dX6_init_62 (by decide) ?_
  obtain ⟨n_161, f_162, hx_163, hi_164, hw⟩ := hw
  refine x_last hF hC hP hS hx_163 hi_164 dX6_init_63 (fun H locs hP hS => ?_)
  generalize hup X_156 v_158 (.inl (1, n_161, .inr (.inl (vp_updL f_162 (Int32.toNatClampNeg 0) 1)))) = X_165 at hP hw
  refine lv_aload_n hF.1 hF.2.1 dX6_init_64 rfl (lv_at hl 0 rfl) ?_
  obtain ⟨fs_166, v_167, hx_168, hv_169, hw⟩ := hw
  refine x_get hF hC hP in_X6 rfl 1 (by decide) q378 (fun _ z => z) hx_168 hv_169 dX6_init_65 ?_
  refine lv_iconst (v := 0) hF.1 hF.2.1 dX6_init_68 (by decide) ?_
  refine lv_lconst (v := 1) hF.1 hF.2.1 dX6_init_69 (by decide) ?_
  obtain ⟨n_170, f_171, hx_172, hi_173, hw⟩ := hw
  refine x_last hF hC hP hS hx_172 hi_173 dX6_init_70 (fun H locs hP hS => ?_)
  generalize hup X_165 v_167 (.inl (1, n_170, .inr (.inl (vp_updL f_171 (Int32.toNatClampNeg 0) 1)))) = X_174 at hP hw
  refine lv_aload_n hF.1 hF.2.1 dX6_init_71 rfl (lv_at hl 0 rfl) ?_
  obtain ⟨fs_175, v_176, hx_177, hv_178, hw⟩ := hw
  refine x_get hF hC hP in_X6 rfl 2 (by decide) q381 (fun _ z => z) hx_177 hv_178 dX6_init_72 ?_
  refine lv_iconst (v := 0) hF.1 hF.2.1 dX6_init_75 (by decide) ?_
  refine lv_lconst (v := 1) hF.1 hF.2.1 dX6_init_76 (by decide) ?_
  obtain ⟨n_179, f_180, hx_181, hi_182, hw⟩ := hw
  refine x_last hF hC hP hS hx_181 hi_182 dX6_init_77 (fun H locs hP hS => ?_)
  generalize hup X_174 v_176 (.inl (1, n_179, .inr (.inl (vp_updL f_180 (Int32.toNatClampNeg 0) 1)))) = X_183 at hP hw
  refine lv_aload_n hF.1 hF.2.1 dX6_init_78 rfl (lv_at hl 0 rfl) ?_
  obtain ⟨fs_184, v_185, hx_186, hv_187, hw⟩ := hw
  refine x_get hF hC hP in_X6 rfl 3 (by decide) q383 (fun _ z => z) hx_186 hv_187 dX6_init_79 ?_
  refine lv_iconst (v := 0) hF.1 hF.2.1 dX6_init_82 (by decide) ?_
  refine lv_lconst (v := 1) hF.1 hF.2.1 dX6_init_83 (by decide) ?_
  obtain ⟨n_188, f_189, hx_190, hi_191, hw⟩ := hw
  refine x_last hF hC hP hS hx_190 hi_191 dX6_init_84 (fun H locs hP hS => ?_)
  generalize hup X_183 v_185 (.inl (1, n_188, .inr (.inl (vp_updL f_189 (Int32.toNatClampNeg 0) 1)))) = X_192 at hP hw
  refine lv_iconst (v := 0) hF.1 hF.2.1 dX6_init_85 (by decide) ?_
  refine lv_istore_n (lv' := [(2, .int 0), (0, .ref p0), (1, .ref p1)]) hF.1 hF.2.1 dX6_init_86 rfl hl (by decide) rfl (fun ls hl => ?_)
  obtain ⟨fu, hw⟩ := hw
  exact T87 fu p0 p1 0 X_192 ((((((0 + 1) + 1) + 1) + 1) + 1) + 1) ((((((0 + Int32.toNatClampNeg 12) + Int32.toNatClampNeg 12) + Int32.toNatClampNeg 12) + Int32.toNatClampNeg 12) + Int32.toNatClampNeg 12) + Int32.toNatClampNeg 12) _ _ ls hP hS ⟨pk_148c, pk_148s⟩ (lv_sub hl [1, 2, 0] rfl) hw
def wpX6_isSame (post : Int32 → hX → Prop) (E : Nat) (X : hX) (p0 : Nat) (p1 : Int32) : Prop := gfA X p0 3 2 (fun v_2 => alJ X v_2 p1 (fun v_9 => gfA X p0 3 3 (fun v_11 => alJ X v_11 p1 (fun v_18 => wpX1_divisor (fun r_19 => gfA X p0 3 2 (fun v_21 => alJ X v_21 p1 (fun v_28 => (¬ r_19 = 0 ∧ gfA X p0 3 0 (fun v_31 => alJ X v_31 p1 (fun v_38 => (((v_28 / r_19) = v_38 → gfA X p0 3 3 (fun v_41 => alJ X v_41 p1 (fun v_48 => (¬ r_19 = 0 ∧ gfA X p0 3 1 (fun v_51 => alJ X v_51 p1 (fun v_58 => (((v_48 / r_19) = v_58 → post 1 X) ∧ (¬ (v_48 / r_19) = v_58 → post 0 X)))))))) ∧ (¬ (v_28 / r_19) = v_38 → post 0 X)))))))) v_9 v_18))))
abbrev wsX6_isSame : List Cond := ws_ yX6_isSame cX6_isSame 4 (some .boolean)
set_option maxHeartbeats 8000000 in
theorem metX6_isSame (l : Launch) (K : HK) (sz : Nat) (post : Int32 → hX → Prop) (X0 : hX) (p0 : Nat) (p1 : Int32) : Met l yX6_isSame wsX6_isSame (rmh 2 50 0 0) (hPc K X0 sz [.ref p0, .int p1] (wpX6_isSame post (K.2.2 0) X0 p0 p1)) (hQi post K X0 sz) 0 0 (hA X0 sz) := by
  refine Met.ofW (cc := cX6_isSame) (maxL := 4) (ret := (some .boolean)) (by decide) rfl ?_
  intro p e s m args below meth c s₁ B hml hv
  obtain ⟨rfl, hv⟩ := hv
  obtain ⟨hC, hP, hw⟩ := HC.of hv
  have hsz : s.heap.size = sz := hv.1
  subst hsz
  clear hv
  have hr := B.returns
  have hts := atoms_spec (ws := wsX6_isSame) B.pre
  have hts : ∀ w ∈ lw_all, w.before _ s = true := fun w h => hts w (List.mem_cons_of_mem _ h)
  have hF : CallFix p m c cX6_isSame 4 s ([.ref p0, .int p1] : List Value).toArray lw_all RX6 := ⟨B.exec, B.bytes, hml, findClass_of_methodNamed B.named, hts⟩
  have hlocks := B.notSynchronized
  have hl := lv_entry ([.ref p0, .int p1]) (n := 4) (Nat.le_of_ble_eq_true rfl)
  rw [lg_entry_eq]
  generalize (lg_sl ([.ref p0, .int p1]) ++ List.replicate (4 - (lg_sl ([.ref p0, .int p1])).length) Slot.unset).toArray = ls at hl ⊢
  have hl : lv_has ls 4 [(0, .ref p0), (1, .int p1)] := hl
  have hS : va_S (hA X0 s.heap.size) s.heap s.heap [] := va_S.rf
  unfold wpX6_isSame at hw
  show W p l e (rmh 2 50 0 0) s m _ below meth c _ _ _ _ _ _
  refine lv_aload_n hF.1 hF.2.1 dX6_isSame_0 rfl (lv_at hl 0 rfl) ?_
  obtain ⟨fs_1, v_2, hx_3, hv_4, hw⟩ := hw
  refine x_get hF hC hP in_X6 rfl 2 (by decide) q381 (fun _ z => z) hx_3 hv_4 dX6_isSame_1 ?_
  refine lv_iload_n hF.1 hF.2.1 dX6_isSame_4 rfl (lv_at hl 1 rfl) ?_
  obtain ⟨n_5, f_6, hx_7, hi_8, hw⟩ := hw
  refine x_lald hF hC hP hx_7 hi_8 dX6_isSame_5 ?_
  generalize f_6 (Int32.toNatClampNeg p1) = v_9 at hw ⊢
  refine lv_aload_n hF.1 hF.2.1 dX6_isSame_6 rfl (lv_at hl 0 rfl) ?_
  obtain ⟨fs_10, v_11, hx_12, hv_13, hw⟩ := hw
  refine x_get hF hC hP in_X6 rfl 3 (by decide) q383 (fun _ z => z) hx_12 hv_13 dX6_isSame_7 ?_
  refine lv_iload_n hF.1 hF.2.1 dX6_isSame_10 rfl (lv_at hl 1 rfl) ?_
  obtain ⟨n_14, f_15, hx_16, hi_17, hw⟩ := hw
  refine x_lald hF hC hP hx_16 hi_17 dX6_isSame_11 ?_
  generalize f_15 (Int32.toNatClampNeg p1) = v_18 at hw ⊢
  refine hp_l (hrp_SN (As := [.long v_9, .long v_18]) (rest := []) hF hl.1 (metX1_divisor l _ v_9 v_18) (va_cnB 2 hF.2.2.2.2 (lw_meth q367) rfl rfl rfl (hC.2.2.1.2.2.2.2.2.1 _ q365 rfl) (hF.2.2.2.2 _ q75) (by decide +kernel) ⟨Nat.le_of_ble_eq_true rfl, Nat.le_of_ble_eq_true rfl⟩) q366 hw rfl rfl (Nat.le_of_ble_eq_true rfl) dX6_isSame_12 ⟨Nat.le_refl _, Nat.le_refl _⟩) (fun r_19 hw => ?_)
  refine lv_lstore_n (lv' := [(2, .long r_19), (0, .ref p0), (1, .int p1)]) hF.1 hF.2.1 dX6_isSame_15 rfl hl (by decide) rfl (fun ls hl => ?_)
  refine lv_aload_n hF.1 hF.2.1 dX6_isSame_16 rfl (lv_at hl 1 rfl) ?_
  obtain ⟨fs_20, v_21, hx_22, hv_23, hw⟩ := hw
  refine x_get hF hC hP in_X6 rfl 2 (by decide) q381 (fun _ z => z) hx_22 hv_23 dX6_isSame_17 ?_
  refine lv_iload_n hF.1 hF.2.1 dX6_isSame_20 rfl (lv_at hl 2 rfl) ?_
  obtain ⟨n_24, f_25, hx_26, hi_27, hw⟩ := hw
  refine x_lald hF hC hP hx_26 hi_27 dX6_isSame_21 ?_
  generalize f_25 (Int32.toNatClampNeg p1) = v_28 at hw ⊢
  refine lv_lload_n hF.1 hF.2.1 dX6_isSame_22 rfl (lv_at hl 0 rfl) ?_
  obtain ⟨h_29, hw⟩ := hw
  refine lv_ldiv hF.1 hF.2.1 dX6_isSame_23 h_29 ?_
  refine lv_aload_n hF.1 hF.2.1 dX6_isSame_24 rfl (lv_at hl 1 rfl) ?_
  obtain ⟨fs_30, v_31, hx_32, hv_33, hw⟩ := hw
  refine x_get hF hC hP in_X6 rfl 0 (by decide) q375 (fun _ z => z) hx_32 hv_33 dX6_isSame_25 ?_
  refine lv_iload_n hF.1 hF.2.1 dX6_isSame_28 rfl (lv_at hl 2 rfl) ?_
  obtain ⟨n_34, f_35, hx_36, hi_37, hw⟩ := hw
  refine x_lald hF hC hP hx_36 hi_37 dX6_isSame_29 ?_
  generalize f_35 (Int32.toNatClampNeg p1) = v_38 at hw ⊢
  refine W.lcmp hF.1 hF.2.1 dX6_isSame_30 ?_
  refine lv_if_ne (tgt := 56) hF.1 hF.2.1 dX6_isSame_31 (by decide) (fun c_39 => ?_) (fun c_39 => ?_)
  · rw [lc_eq] at c_39
    have hw := hw.2 c_39
    refine lv_iconst (v := 0) hF.1 hF.2.1 dX6_isSame_56 (by decide) ?_
    exact h_zret hF hr hlocks hP hS ⟨Nat.le_refl _, Nat.le_refl _⟩ dX6_isSame_57 (Or.inl rfl) hw
  · rw [lc_eq] at c_39
    have hw := hw.1 c_39
    refine lv_aload_n hF.1 hF.2.1 dX6_isSame_34 rfl (lv_at hl 1 rfl) ?_
    obtain ⟨fs_40, v_41, hx_42, hv_43, hw⟩ := hw
    refine x_get hF hC hP in_X6 rfl 3 (by decide) q383 (fun _ z => z) hx_42 hv_43 dX6_isSame_35 ?_
    refine lv_iload_n hF.1 hF.2.1 dX6_isSame_38 rfl (lv_at hl 2 rfl) ?_
    obtain ⟨n_44, f_45, hx_46, hi_47, hw⟩ := hw
    refine x_lald hF hC hP hx_46 hi_47 dX6_isSame_39 ?_
    generalize f_45 (Int32.toNatClampNeg p1) = v_48 at hw ⊢
    refine lv_lload_n hF.1 hF.2.1 dX6_isSame_40 rfl (lv_at hl 0 rfl) ?_
    obtain ⟨h_49, hw⟩ := hw
    refine lv_ldiv hF.1 hF.2.1 dX6_isSame_41 h_49 ?_
    refine lv_aload_n hF.1 hF.2.1 dX6_isSame_42 rfl (lv_at hl 1 rfl) ?_
    obtain ⟨fs_50, v_51, hx_52, hv_53, hw⟩ := hw
    refine x_get hF hC hP in_X6 rfl 1 (by decide) q378 (fun _ z => z) hx_52 hv_53 dX6_isSame_43 ?_
    refine lv_iload_n hF.1 hF.2.1 dX6_isSame_46 rfl (lv_at hl 2 rfl) ?_
    obtain ⟨n_54, f_55, hx_56, hi_57, hw⟩ := hw
    refine x_lald hF hC hP hx_56 hi_57 dX6_isSame_47 ?_
    generalize f_55 (Int32.toNatClampNeg p1) = v_58 at hw ⊢
    refine W.lcmp hF.1 hF.2.1 dX6_isSame_48 ?_
    refine lv_if_ne (tgt := 56) hF.1 hF.2.1 dX6_isSame_49 (by decide) (fun c_59 => ?_) (fun c_59 => ?_)
    · rw [lc_eq] at c_59
      have hw := hw.2 c_59
      refine lv_iconst (v := 0) hF.1 hF.2.1 dX6_isSame_56 (by decide) ?_
      exact h_zret hF hr hlocks hP hS ⟨Nat.le_refl _, Nat.le_refl _⟩ dX6_isSame_57 (Or.inl rfl) hw
    · rw [lc_eq] at c_59
      have hw := hw.1 c_59
      refine lv_iconst (v := 1) hF.1 hF.2.1 dX6_isSame_52 (by decide) ?_
      refine lv_goto (tgt := 57) hF.1 hF.2.1 dX6_isSame_53 (by decide) ?_
      exact h_zret hF hr hlocks hP hS ⟨Nat.le_refl _, Nat.le_refl _⟩ dX6_isSame_57 (Or.inr rfl) hw
def wpX2_init (post : hX → Prop) (E : Nat) (mc ms : Nat) (X : hX) (p0 : Nat) : Prop := newO X 8 [.int 0, .null, .int 0] 3 0 0 mc ms (fun a_1 X_2 => wpJ2_init (fun X_4 => pfV X_4 p0 2 0 (.ref a_1) (fun X_8 => newO X_8 8 [.int 0, .null, .int 0] 3 (0 + 1) (0 + 3) mc ms (fun a_9 X_10 => wpJ2_init (fun X_12 => pfV X_12 p0 2 1 (.ref a_9) (fun X_16 => newO X_16 8 [.int 0, .null, .int 0] 3 ((0 + 1) + 1) ((0 + 3) + 3) mc ms (fun a_17 X_18 => wpJ2_init (fun X_20 => pfV X_20 p0 2 2 (.ref a_17) (fun X_24 => pfV X_24 p0 2 5 (.int 1) (fun X_28 => newA X_28 0 (.inl (fun _ => 0)) 16 4 (((0 + 1) + 1) + 1) (((0 + 3) + 3) + 3) mc ms (fun a_29 X_30 => pfV X_30 p0 2 3 (.ref a_29) (fun X_35 => newA X_35 0 (.inl (fun _ => 0)) 16 4 ((((0 + 1) + 1) + 1) + 1) ((((0 + 3) + 3) + 3) + Int32.toNatClampNeg 16) mc ms (fun a_36 X_37 => pfV X_37 p0 2 4 (.ref a_36) (fun X_42 => post X_42))))))) E X_18 a_17))) E X_10 a_9))) E X_2 a_1)
abbrev wsX2_init : List Cond := ws_ yX2_init cX2_init 1 none
set_option maxHeartbeats 8000000 in
theorem metX2_init (l : Launch) (K : HK) (mc ms : Nat) (sz : Nat) (post : hX → Prop) (X0 : hX) (p0 : Nat) : Met l yX2_init wsX2_init (rmh 4 80 mc ms) (hPc K X0 sz [.ref p0] (wpX2_init post (K.2.2 0) mc ms X0 p0)) (hQv post K X0 sz) mc ms (hA X0 sz) := by
  refine Met.ofW (cc := cX2_init) (maxL := 1) (ret := none) (by decide) rfl ?_
  intro p e s m args below meth c s₁ B hml hv
  obtain ⟨rfl, hv⟩ := hv
  obtain ⟨hC, hP, hw⟩ := HC.of hv
  have hsz : s.heap.size = sz := hv.1
  subst hsz
  clear hv
  have hr := B.returns
  have hts := atoms_spec (ws := wsX2_init) B.pre
  have hts : ∀ w ∈ lw_all, w.before _ s = true := fun w h => hts w (List.mem_cons_of_mem _ h)
  have hF : CallFix p m c cX2_init 1 s ([.ref p0] : List Value).toArray lw_all RX2 := ⟨B.exec, B.bytes, hml, findClass_of_methodNamed B.named, hts⟩
  have hlocks := B.notSynchronized
  have hin : meth.name = "<init>" := (name_of_methodNamed B.named B.method).1
  have hl := lv_entry ([.ref p0]) (n := 1) (Nat.le_of_ble_eq_true rfl)
  rw [lg_entry_eq]
  generalize (lg_sl ([.ref p0]) ++ List.replicate (1 - (lg_sl ([.ref p0])).length) Slot.unset).toArray = ls at hl ⊢
  have hl : lv_has ls 1 [(0, .ref p0)] := hl
  have hS : va_S (hA X0 s.heap.size) s.heap s.heap [] := va_S.rf
  unfold wpX2_init at hw
  show W p l e (rmh 4 80 mc ms) s m _ below meth c _ _ _ _ _ _
  refine lv_aload_n hF.1 hF.2.1 dX2_init_0 rfl (lv_at hl 0 rfl) ?_
  refine W.objInit hF.1 hF.2.1 hF.2.2.2.1 (hF.2.2.2.2 _ q123) (hF.2.2.2.2 _ q116) (hF.2.2.2.2 _ q117) rfl (by rw [hF.2.2.1]; exact hl.1) rfl dX2_init_1 (Nat.le_of_ble_eq_true rfl) (Nat.le_of_ble_eq_true rfl) ?_
  refine W.eq (g2 := F0 m 4 ls []) rfl ?_
  refine lv_aload_n hF.1 hF.2.1 dX2_init_4 rfl (lv_at hl 0 rfl) ?_
  refine x_new hF hC hP hS in_J2 rfl tyJ2 tyJ2_ok q124 q125 q79 (nfsJ2) hw ⟨rfl, rfl⟩ dX2_init_5 (fun a_1 X_2 H pk_3c pk_3s hw hP hS => ?_)
  refine lv_dup hF.1 hF.2.1 dX2_init_8 rfl ?_
  refine hk_v (hr_I (As := []) (rest := [.ref a_1, .ref p0]) hF hl.1 hC hP hS (metJ2_init l K _ _ X_2 a_1) (cwI 0 hF.2.2.2.2 (lw_meth q128) rfl rfl rfl (hF.2.2.2.2 _ q79) (hF.2.2.2.2 _ q126) (hF.2.2.2.2 _ q127) rfl (by decide +kernel) ⟨Nat.le_of_ble_eq_true rfl, Nat.le_of_ble_eq_true rfl⟩) hw rfl rfl (Nat.le_of_ble_eq_true rfl) dX2_init_9 ⟨pk_3c, pk_3s⟩) hP hS (fun X_4 H locs hw hP hS => ?_)
  obtain ⟨fs_5, hx_6, hl_7, hw⟩ := hw
  refine x_putF hF hin hC hP hS in_X2 rfl tyX2 tyX2_ok nmX2 0 (by decide) q150 (fun _ z => z) rfl rfl rfl rfl hx_6 hl_7 dX2_init_12 (fun H locs hP hS => ?_)
  generalize hup X_4 p0 (.inr (2, fs_5.set 0 (.ref a_1))) = X_8 at hP hw
  refine lv_aload_n hF.1 hF.2.1 dX2_init_15 rfl (lv_at hl 0 rfl) ?_
  refine x_new hF hC hP hS in_J2 rfl tyJ2 tyJ2_ok q124 q125 q79 (nfsJ2) hw ⟨rfl, rfl⟩ dX2_init_16 (fun a_9 X_10 H pk_11c pk_11s hw hP hS => ?_)
  refine lv_dup hF.1 hF.2.1 dX2_init_19 rfl ?_
  refine hk_v (hr_I (As := []) (rest := [.ref a_9, .ref p0]) hF hl.1 hC hP hS (metJ2_init l K _ _ X_10 a_9) (cwI 0 hF.2.2.2.2 (lw_meth q128) rfl rfl rfl (hF.2.2.2.2 _ q79) (hF.2.2.2.2 _ q126) (hF.2.2.2.2 _ q127) rfl (by decide +kernel) ⟨Nat.le_of_ble_eq_true rfl, Nat.le_of_ble_eq_true rfl⟩) hw rfl rfl (Nat.le_of_ble_eq_true rfl) dX2_init_20 ⟨pk_11c, pk_11s⟩) hP hS (fun X_12 H locs hw hP hS => ?_)
  obtain ⟨fs_13, hx_14, hl_15, hw⟩ := hw
  refine x_putF hF hin hC hP hS in_X2 rfl tyX2 tyX2_ok nmX2 1 (by decide) q153 (fun _ z => z) rfl rfl rfl rfl hx_14 hl_15 dX2_init_23 (fun H locs hP hS => ?_)
  generalize hup X_12 p0 (.inr (2, fs_13.set 1 (.ref a_9))) = X_16 at hP hw
  refine lv_aload_n hF.1 hF.2.1 dX2_init_26 rfl (lv_at hl 0 rfl) ?_
  refine x_new hF hC hP hS in_J2 rfl tyJ2 tyJ2_ok q124 q125 q79 (nfsJ2) hw ⟨rfl, rfl⟩ dX2_init_27 (fun a_17 X_18 H pk_19c pk_19s hw hP hS => ?_)
  refine lv_dup hF.1 hF.2.1 dX2_init_30 rfl ?_
  refine hk_v (hr_I (As := []) (rest := [.ref a_17, .ref p0]) hF hl.1 hC hP hS (metJ2_init l K _ _ X_18 a_17) (cwI 0 hF.2.2.2.2 (lw_meth q128) rfl rfl rfl (hF.2.2.2.2 _ q79) (hF.2.2.2.2 _ q126) (hF.2.2.2.2 _ q127) rfl (by decide +kernel) ⟨Nat.le_of_ble_eq_true rfl, Nat.le_of_ble_eq_true rfl⟩) hw rfl rfl (Nat.le_of_ble_eq_true rfl) dX2_init_31 ⟨pk_19c, pk_19s⟩) hP hS (fun X_20 H locs hw hP hS => ?_)
  obtain ⟨fs_21, hx_22, hl_23, hw⟩ := hw
  refine x_putF hF hin hC hP hS in_X2 rfl tyX2 tyX2_ok nmX2 2 (by decide) q155 (fun _ z => z) rfl rfl rfl rfl hx_22 hl_23 dX2_init_34 (fun H locs hP hS => ?_)
  generalize hup X_20 p0 (.inr (2, fs_21.set 2 (.ref a_17))) = X_24 at hP hw
  refine lv_aload_n hF.1 hF.2.1 dX2_init_37 rfl (lv_at hl 0 rfl) ?_
  refine lv_iconst (v := 1) hF.1 hF.2.1 dX2_init_38 (by decide) ?_
  obtain ⟨fs_25, hx_26, hl_27, hw⟩ := hw
  refine x_put hF hC hP hS in_X2 rfl tyX2 tyX2_ok nmX2 5 (by decide) q163 (fun _ z => z) rfl rfl rfl hx_26 hl_27 dX2_init_39 (fun H locs hP hS => ?_)
  generalize hup X_24 p0 (.inr (2, fs_25.set 5 (.int 1))) = X_28 at hP hw
  refine lv_aload_n hF.1 hF.2.1 dX2_init_42 rfl (lv_at hl 0 rfl) ?_
  refine lv_bipush (v := 16) hF.1 hF.2.1 dX2_init_43 (by decide) ?_
  refine x_newa (atype := .int) (t := 0) hF hC hP hS q191 rfl rfl rfl (Or.inl rfl) (fun _ _ => rfl) hw ⟨rfl, rfl⟩ dX2_init_45 (fun a_29 X_30 H pk_31c pk_31s hw hP hS => ?_)
  obtain ⟨fs_32, hx_33, hl_34, hw⟩ := hw
  refine x_putF hF hin hC hP hS in_X2 rfl tyX2 tyX2_ok nmX2 3 (by decide) q157 (fun _ z => z) rfl rfl rfl rfl hx_33 hl_34 dX2_init_47 (fun H locs hP hS => ?_)
  generalize hup X_30 p0 (.inr (2, fs_32.set 3 (.ref a_29))) = X_35 at hP hw
  refine lv_aload_n hF.1 hF.2.1 dX2_init_50 rfl (lv_at hl 0 rfl) ?_
  refine lv_bipush (v := 16) hF.1 hF.2.1 dX2_init_51 (by decide) ?_
  refine x_newa (atype := .int) (t := 0) hF hC hP hS q191 rfl rfl rfl (Or.inl rfl) (fun _ _ => rfl) hw ⟨rfl, rfl⟩ dX2_init_53 (fun a_36 X_37 H pk_38c pk_38s hw hP hS => ?_)
  obtain ⟨fs_39, hx_40, hl_41, hw⟩ := hw
  refine x_putF hF hin hC hP hS in_X2 rfl tyX2 tyX2_ok nmX2 4 (by decide) q160 (fun _ z => z) rfl rfl rfl rfl hx_40 hl_41 dX2_init_55 (fun H locs hP hS => ?_)
  generalize hup X_37 p0 (.inr (2, fs_39.set 4 (.ref a_36))) = X_42 at hP hw
  exact h_vret hF hr hlocks hP hS ⟨pk_38c, pk_38s⟩ dX2_init_58 hw
def wpX2_init_2_148 (post : hX → Prop) (E : Nat) (mc ms : Nat) : Nat → Nat → Nat → Int32 → hX → Nat → Nat → Prop
  | 0 => fun _ _ _ _ _ _ => False
  | n + 1 => fun x0 x1 x2 X kc ks => gfA X x1 2 2 (fun v_2 => isO X v_2 8 (wpJ2_size (fun r_5 X_6 => ((r_5 ≤ x2 → gfI X_6 x1 2 5 (fun v_10 => pfV X_6 x0 2 5 (.int v_10) (fun X_16 => gfI X_16 x1 2 6 (fun v_18 => pfV X_16 x0 2 6 (.int v_18) (fun X_24 => gfI X_24 x1 2 7 (fun v_26 => pfV X_24 x0 2 7 (.int v_26) (fun X_32 => gfI X_32 x1 2 8 (fun v_34 => pfV X_32 x0 2 8 (.int v_34) (fun X_40 => post X_40))))))))) ∧ (¬ r_5 ≤ x2 → gfA X_6 x0 2 2 (fun v_42 => gfA X_6 x1 2 2 (fun v_46 => isO X_6 v_46 8 (wpJ2_get (fun r_49 X_50 => (∃ a_52 : Nat, r_49 = some a_52 ∧ ((∃ fs, X_50 a_52 = some (.inr (7, fs))) ∧ isO X_50 v_42 8 ((∃ mc_58 ms_59 : Nat, kc + mc_58 ≤ mc ∧ ks + ms_59 ≤ ms ∧ wpJ2_add (fun r_55 X_56 => (∀ x2_62 : Int32, x2_62 = x2 + 1 → wpX2_init_2_148 post E mc ms n x0 x1 x2_62 X_56 (kc + mc_58) (ks + ms_59))) E mc_58 ms_59 X_50 v_42 a_52))))) E X_6 v_46 x2)))))) E X v_2))
def wpX2_init_2_110 (post : hX → Prop) (E : Nat) (mc ms : Nat) : Nat → Nat → Nat → Int32 → hX → Nat → Nat → Prop
  | 0 => fun _ _ _ _ _ _ => False
  | n + 1 => fun x0 x1 x2 X kc ks => gfA X x1 2 1 (fun v_64 => isO X v_64 8 (wpJ2_size (fun r_67 X_68 => ((r_67 ≤ x2 → ∃ fu : Nat, wpX2_init_2_148 post E mc ms fu x0 x1 0 X_68 kc ks) ∧ (¬ r_67 ≤ x2 → gfA X_68 x0 2 1 (fun v_72 => gfA X_68 x1 2 1 (fun v_76 => isO X_68 v_76 8 (wpJ2_get (fun r_79 X_80 => (∃ a_82 : Nat, r_79 = some a_82 ∧ ((∃ fs, X_80 a_82 = some (.inr (6, fs))) ∧ isO X_80 v_72 8 ((∃ mc_88 ms_89 : Nat, kc + mc_88 ≤ mc ∧ ks + ms_89 ≤ ms ∧ wpJ2_add (fun r_85 X_86 => (∀ x2_92 : Int32, x2_92 = x2 + 1 → wpX2_init_2_110 post E mc ms n x0 x1 x2_92 X_86 (kc + mc_88) (ks + ms_89))) E mc_88 ms_89 X_80 v_72 a_82))))) E X_68 v_76 x2)))))) E X v_64))
def wpX2_init_2_72 (post : hX → Prop) (E : Nat) (mc ms : Nat) : Nat → Nat → Nat → Int32 → hX → Nat → Nat → Prop
  | 0 => fun _ _ _ _ _ _ => False
  | n + 1 => fun x0 x1 x2 X kc ks => gfA X x1 2 0 (fun v_94 => isO X v_94 8 (wpJ2_size (fun r_97 X_98 => ((r_97 ≤ x2 → ∃ fu : Nat, wpX2_init_2_110 post E mc ms fu x0 x1 0 X_98 kc ks) ∧ (¬ r_97 ≤ x2 → gfA X_98 x0 2 0 (fun v_102 => gfA X_98 x1 2 0 (fun v_106 => isO X_98 v_106 8 (wpJ2_get (fun r_109 X_110 => (∃ a_112 : Nat, r_109 = some a_112 ∧ ((∃ fs, X_110 a_112 = some (.inr (5, fs))) ∧ isO X_110 v_102 8 ((∃ mc_118 ms_119 : Nat, kc + mc_118 ≤ mc ∧ ks + ms_119 ≤ ms ∧ wpJ2_add (fun r_115 X_116 => (∀ x2_122 : Int32, x2_122 = x2 + 1 → wpX2_init_2_72 post E mc ms n x0 x1 x2_122 X_116 (kc + mc_118) (ks + ms_119))) E mc_118 ms_119 X_110 v_102 a_112))))) E X_98 v_106 x2)))))) E X v_94))
def wpX2_init_2 (post : hX → Prop) (E : Nat) (mc ms : Nat) (X : hX) (p0 : Nat) (p1 : Nat) : Prop := newO X 8 [.int 0, .null, .int 0] 3 0 0 mc ms (fun a_123 X_124 => wpJ2_init (fun X_126 => pfV X_126 p0 2 0 (.ref a_123) (fun X_130 => newO X_130 8 [.int 0, .null, .int 0] 3 (0 + 1) (0 + 3) mc ms (fun a_131 X_132 => wpJ2_init (fun X_134 => pfV X_134 p0 2 1 (.ref a_131) (fun X_138 => newO X_138 8 [.int 0, .null, .int 0] 3 ((0 + 1) + 1) ((0 + 3) + 3) mc ms (fun a_139 X_140 => wpJ2_init (fun X_142 => pfV X_142 p0 2 2 (.ref a_139) (fun X_146 => pfV X_146 p0 2 5 (.int 1) (fun X_150 => gfA X_150 p1 2 3 (fun v_152 => cloI X_150 v_152 (((0 + 1) + 1) + 1) (((0 + 3) + 3) + 3) mc ms (fun n_156 a_155 X_157 => ((∃ w, X_157 a_155 = some (.inl (0, w))) ∧ pfV X_157 p0 2 3 (.ref a_155) (fun X_163 => gfA X_163 p1 2 4 (fun v_165 => cloI X_163 v_165 ((((0 + 1) + 1) + 1) + 1) ((((0 + 3) + 3) + 3) + n_156) mc ms (fun n_169 a_168 X_170 => ((∃ w, X_170 a_168 = some (.inl (0, w))) ∧ pfV X_170 p0 2 4 (.ref a_168) (fun X_176 => ∃ fu : Nat, wpX2_init_2_72 post E mc ms fu p0 p1 0 X_176 (((((0 + 1) + 1) + 1) + 1) + 1) (((((0 + 3) + 3) + 3) + n_156) + n_169)))))))))))) E X_140 a_139))) E X_132 a_131))) E X_124 a_123)
abbrev wsX2_init_2 : List Cond := ws_ yX2_init_2 cX2_init_2 3 none
set_option maxHeartbeats 8000000 in
theorem metX2_init_2 (l : Launch) (K : HK) (mc ms : Nat) (sz : Nat) (post : hX → Prop) (X0 : hX) (p0 : Nat) (p1 : Nat) : Met l yX2_init_2 wsX2_init_2 (rmh 7 191 mc ms) (hPc K X0 sz [.ref p0, .ref p1] (wpX2_init_2 post (K.2.2 0) mc ms X0 p0 p1)) (hQv post K X0 sz) mc ms (hA X0 sz) := by
  refine Met.ofW (cc := cX2_init_2) (maxL := 3) (ret := none) (by decide) rfl ?_
  intro p e s m args below meth c s₁ B hml hv
  obtain ⟨rfl, hv⟩ := hv
  obtain ⟨hC, hP, hw⟩ := HC.of hv
  have hsz : s.heap.size = sz := hv.1
  subst hsz
  clear hv
  have hr := B.returns
  have hts := atoms_spec (ws := wsX2_init_2) B.pre
  have hts : ∀ w ∈ lw_all, w.before _ s = true := fun w h => hts w (List.mem_cons_of_mem _ h)
  have hF : CallFix p m c cX2_init_2 3 s ([.ref p0, .ref p1] : List Value).toArray lw_all RX2 := ⟨B.exec, B.bytes, hml, findClass_of_methodNamed B.named, hts⟩
  have hlocks := B.notSynchronized
  have hin : meth.name = "<init>" := (name_of_methodNamed B.named B.method).1
  have hl := lv_entry ([.ref p0, .ref p1]) (n := 3) (Nat.le_of_ble_eq_true rfl)
  rw [lg_entry_eq]
  generalize (lg_sl ([.ref p0, .ref p1]) ++ List.replicate (3 - (lg_sl ([.ref p0, .ref p1])).length) Slot.unset).toArray = ls at hl ⊢
  have hl : lv_has ls 3 [(0, .ref p0), (1, .ref p1)] := hl
  have hS : va_S (hA X0 s.heap.size) s.heap s.heap [] := va_S.rf
  have T148 : ∀ (n : Nat), ∀ (x0 : Nat) (x1 : Nat) (x2 : Int32) (X : hX) (kc ks : Nat) (H : Heap) (locs : List Loc) (ls : Array Slot), hI K X0 s.heap.size X H → va_S (hA X0 s.heap.size) s.heap H locs → kc ≤ mc ∧ ks ≤ ms → lv_has ls 3 [(0, .ref x0), (1, .ref x1), (2, .int x2)] → wpX2_init_2_148 post (K.2.2 0) mc ms n x0 x1 x2 X kc ks → W p l e (rmh 7 191 mc ms) s m ([.ref p0, .ref p1] : List Value).toArray below meth c H locs kc ks (MQ below (hQv post K X0 s.heap.size) ([.ref p0, .ref p1] : List Value).toArray s mc ms (hA X0 s.heap.size)) (F0 m 148 ls []) := by
    intro n
    induction n with
    | zero =>
      intro x0 x1 x2 X kc ks H locs ls hP hS hk hl hw
      exact False.elim hw
    | succ n ih =>
      intro x0 x1 x2 X kc ks H locs ls hP hS hk hl hw
      unfold wpX2_init_2_148 at hw
      refine lv_iload_n hF.1 hF.2.1 dX2_init_2_148 rfl (lv_at hl 2 rfl) ?_
      refine lv_aload_n hF.1 hF.2.1 dX2_init_2_149 rfl (lv_at hl 1 rfl) ?_
      obtain ⟨fs_1, v_2, hx_3, hv_4, hw⟩ := hw
      refine x_get hF hC hP in_X2 rfl 2 (by decide) q155 (fun _ z => z) hx_3 hv_4 dX2_init_2_150 ?_
      obtain ⟨ho_7, hw⟩ := hw
      refine hk_i (hr_V (As := []) (rest := [.int x2]) (T := TJ2) (N := 3) (ci := 8) hF hl.1 hC hP hS (metJ2_size l K _ _ X v_2) rfl (cwV 0 hF.2.2.2.2 (lw_V q757 q267 q268 q79 q269) rfl rfl rfl (by decide +kernel) ⟨Nat.le_of_ble_eq_true rfl, Nat.le_of_ble_eq_true rfl⟩) ho_7 hw rfl rfl (Nat.le_of_ble_eq_true rfl) dX2_init_2_153 hk) hP hS (fun r_5 X_6 H locs hw hP hS => ?_)
      refine lv_icmp_ge (tgt := 184) hF.1 hF.2.1 dX2_init_2_156 (by decide) (fun c_8 => ?_) (fun c_8 => ?_)
      · have hw := hw.1 c_8
        refine lv_aload_n hF.1 hF.2.1 dX2_init_2_184 rfl (lv_at hl 0 rfl) ?_
        refine lv_aload_n hF.1 hF.2.1 dX2_init_2_185 rfl (lv_at hl 1 rfl) ?_
        obtain ⟨fs_9, v_10, hx_11, hv_12, hw⟩ := hw
        refine x_get hF hC hP in_X2 rfl 5 (by decide) q163 (fun _ z => z) hx_11 hv_12 dX2_init_2_186 ?_
        obtain ⟨fs_13, hx_14, hl_15, hw⟩ := hw
        refine x_put hF hC hP hS in_X2 rfl tyX2 tyX2_ok nmX2 5 (by decide) q163 (fun _ z => z) rfl rfl rfl hx_14 hl_15 dX2_init_2_189 (fun H locs hP hS => ?_)
        generalize hup X_6 x0 (.inr (2, fs_13.set 5 (.int v_10))) = X_16 at hP hw
        refine lv_aload_n hF.1 hF.2.1 dX2_init_2_192 rfl (lv_at hl 0 rfl) ?_
        refine lv_aload_n hF.1 hF.2.1 dX2_init_2_193 rfl (lv_at hl 1 rfl) ?_
        obtain ⟨fs_17, v_18, hx_19, hv_20, hw⟩ := hw
        refine x_get hF hC hP in_X2 rfl 6 (by decide) q166 (fun _ z => z) hx_19 hv_20 dX2_init_2_194 ?_
        obtain ⟨fs_21, hx_22, hl_23, hw⟩ := hw
        refine x_put hF hC hP hS in_X2 rfl tyX2 tyX2_ok nmX2 6 (by decide) q166 (fun _ z => z) rfl rfl rfl hx_22 hl_23 dX2_init_2_197 (fun H locs hP hS => ?_)
        generalize hup X_16 x0 (.inr (2, fs_21.set 6 (.int v_18))) = X_24 at hP hw
        refine lv_aload_n hF.1 hF.2.1 dX2_init_2_200 rfl (lv_at hl 0 rfl) ?_
        refine lv_aload_n hF.1 hF.2.1 dX2_init_2_201 rfl (lv_at hl 1 rfl) ?_
        obtain ⟨fs_25, v_26, hx_27, hv_28, hw⟩ := hw
        refine x_get hF hC hP in_X2 rfl 7 (by decide) q168 (fun _ z => z) hx_27 hv_28 dX2_init_2_202 ?_
        obtain ⟨fs_29, hx_30, hl_31, hw⟩ := hw
        refine x_put hF hC hP hS in_X2 rfl tyX2 tyX2_ok nmX2 7 (by decide) q168 (fun _ z => z) rfl rfl rfl hx_30 hl_31 dX2_init_2_205 (fun H locs hP hS => ?_)
        generalize hup X_24 x0 (.inr (2, fs_29.set 7 (.int v_26))) = X_32 at hP hw
        refine lv_aload_n hF.1 hF.2.1 dX2_init_2_208 rfl (lv_at hl 0 rfl) ?_
        refine lv_aload_n hF.1 hF.2.1 dX2_init_2_209 rfl (lv_at hl 1 rfl) ?_
        obtain ⟨fs_33, v_34, hx_35, hv_36, hw⟩ := hw
        refine x_get hF hC hP in_X2 rfl 8 (by decide) q170 (fun _ z => z) hx_35 hv_36 dX2_init_2_210 ?_
        obtain ⟨fs_37, hx_38, hl_39, hw⟩ := hw
        refine x_put hF hC hP hS in_X2 rfl tyX2 tyX2_ok nmX2 8 (by decide) q170 (fun _ z => z) rfl rfl rfl hx_38 hl_39 dX2_init_2_213 (fun H locs hP hS => ?_)
        generalize hup X_32 x0 (.inr (2, fs_37.set 8 (.int v_34))) = X_40 at hP hw
        exact h_vret hF hr hlocks hP hS hk dX2_init_2_216 hw
      · have hw := hw.2 c_8
        refine lv_aload_n hF.1 hF.2.1 dX2_init_2_159 rfl (lv_at hl 0 rfl) ?_
        obtain ⟨fs_41, v_42, hx_43, hv_44, hw⟩ := hw
        refine x_get hF hC hP in_X2 rfl 2 (by decide) q155 (fun _ z => z) hx_43 hv_44 dX2_init_2_160 ?_
        refine lv_aload_n hF.1 hF.2.1 dX2_init_2_163 rfl (lv_at hl 1 rfl) ?_
        obtain ⟨fs_45, v_46, hx_47, hv_48, hw⟩ := hw
        refine x_get hF hC hP in_X2 rfl 2 (by decide) q155 (fun _ z => z) hx_47 hv_48 dX2_init_2_164 ?_
        refine lv_iload_n hF.1 hF.2.1 dX2_init_2_167 rfl (lv_at hl 2 rfl) ?_
        obtain ⟨ho_51, hw⟩ := hw
        refine hk_q (hr_V (As := [.int x2]) (rest := [.ref v_42]) (T := TJ2) (N := 3) (ci := 8) hF hl.1 hC hP hS (metJ2_get l K _ _ X_6 v_46 x2) rfl (cwV 1 hF.2.2.2.2 (lw_V q758 q347 q348 q79 q349) rfl rfl rfl (by decide +kernel) ⟨Nat.le_of_ble_eq_true rfl, Nat.le_of_ble_eq_true rfl⟩) ho_51 hw rfl rfl (Nat.le_of_ble_eq_true rfl) dX2_init_2_168 hk) hP hS (fun r_49 X_50 H locs hw hP hS => ?_)
        obtain ⟨a_52, e_53, hw⟩ := hw
        subst e_53
        rw [va_rf_some]
        obtain ⟨h_54, hw⟩ := hw
        refine x_cast (T := TX8) (N := 2) (ci := 7) hF hC hP rfl q808 h_54 dX2_init_2_171 ?_
        obtain ⟨ho_57, hw⟩ := hw
        obtain ⟨mc_58, ms_59, hc_60, hs_61, hw⟩ := hw
        refine hk_i (hr_V (As := [.ref a_52]) (rest := []) (T := TJ2) (N := 3) (ci := 8) hF hl.1 hC hP hS (metJ2_add l K mc_58 ms_59 _ _ X_50 v_42 a_52) rfl (cwV 1 hF.2.2.2.2 (lw_V q760 q761 q762 q79 q763) rfl rfl rfl (by decide +kernel) ⟨Nat.le_of_ble_eq_true rfl, Nat.le_of_ble_eq_true rfl⟩) ho_57 hw rfl rfl (Nat.le_of_ble_eq_true rfl) dX2_init_2_174 ⟨hc_60, hs_61⟩) hP hS (fun r_55 X_56 H locs hw hP hS => ?_)
        refine lv_pop hF.1 hF.2.1 dX2_init_2_177 rfl ?_
        obtain ⟨x2_62, ex2_62⟩ : ∃ y : Int32, y = x2 + 1 := ⟨_, rfl⟩
        have hw := hw x2_62 ex2_62
        refine lv_iinc (v := x2_62) (lv' := [(2, .int x2_62), (0, .ref x0), (1, .ref x1)]) hF.1 hF.2.1 dX2_init_2_178 hl (k := 2) rfl (by rw [ex2_62]; rfl) (by decide) rfl (fun ls hl => ?_)
        refine lv_goto (tgt := 148) hF.1 hF.2.1 dX2_init_2_181 (by decide) ?_
        exact ih x0 x1 x2_62 X_56 (kc + mc_58) (ks + ms_59) _ _ ls hP hS ⟨hc_60, hs_61⟩ (lv_sub hl [1, 2, 0] rfl) hw
  have T110 : ∀ (n : Nat), ∀ (x0 : Nat) (x1 : Nat) (x2 : Int32) (X : hX) (kc ks : Nat) (H : Heap) (locs : List Loc) (ls : Array Slot), hI K X0 s.heap.size X H → va_S (hA X0 s.heap.size) s.heap H locs → kc ≤ mc ∧ ks ≤ ms → lv_has ls 3 [(0, .ref x0), (1, .ref x1), (2, .int x2)] → wpX2_init_2_110 post (K.2.2 0) mc ms n x0 x1 x2 X kc ks → W p l e (rmh 7 191 mc ms) s m ([.ref p0, .ref p1] : List Value).toArray below meth c H locs kc ks (MQ below (hQv post K X0 s.heap.size) ([.ref p0, .ref p1] : List Value).toArray s mc ms (hA X0 s.heap.size)) (F0 m 110 ls []) := by
    intro n
    induction n with
    | zero =>
      intro x0 x1 x2 X kc ks H locs ls hP hS hk hl hw
      exact False.elim hw
    | succ n ih =>
      intro x0 x1 x2 X kc ks H locs ls hP hS hk hl hw
      unfold wpX2_init_2_110 at hw
      refine lv_iload_n hF.1 hF.2.1 dX2_init_2_110 rfl (lv_at hl 2 rfl) ?_
      refine lv_aload_n hF.1 hF.2.1 dX2_init_2_111 rfl (lv_at hl 1 rfl) ?_
      obtain ⟨fs_63, v_64, hx_65, hv_66, hw⟩ := hw
      refine x_get hF hC hP in_X2 rfl 1 (by decide) q153 (fun _ z => z) hx_65 hv_66 dX2_init_2_112 ?_
      obtain ⟨ho_69, hw⟩ := hw
      refine hk_i (hr_V (As := []) (rest := [.int x2]) (T := TJ2) (N := 3) (ci := 8) hF hl.1 hC hP hS (metJ2_size l K _ _ X v_64) rfl (cwV 0 hF.2.2.2.2 (lw_V q757 q267 q268 q79 q269) rfl rfl rfl (by decide +kernel) ⟨Nat.le_of_ble_eq_true rfl, Nat.le_of_ble_eq_true rfl⟩) ho_69 hw rfl rfl (Nat.le_of_ble_eq_true rfl) dX2_init_2_115 hk) hP hS (fun r_67 X_68 H locs hw hP hS => ?_)
      refine lv_icmp_ge (tgt := 146) hF.1 hF.2.1 dX2_init_2_118 (by decide) (fun c_70 => ?_) (fun c_70 => ?_)
      · have hw := hw.1 c_70
        refine lv_iconst (v := 0) hF.1 hF.2.1 dX2_init_2_146 (by decide) ?_
        refine lv_istore_n (lv' := [(2, .int 0), (0, .ref x0), (1, .ref x1)]) hF.1 hF.2.1 dX2_init_2_147 rfl hl (by decide) rfl (fun ls hl => ?_)
        obtain ⟨fu, hw⟩ := hw
        exact T148 fu x0 x1 0 X_68 kc ks _ _ ls hP hS hk (lv_sub hl [1, 2, 0] rfl) hw
      · have hw := hw.2 c_70
        refine lv_aload_n hF.1 hF.2.1 dX2_init_2_121 rfl (lv_at hl 0 rfl) ?_
        obtain ⟨fs_71, v_72, hx_73, hv_74, hw⟩ := hw
        refine x_get hF hC hP in_X2 rfl 1 (by decide) q153 (fun _ z => z) hx_73 hv_74 dX2_init_2_122 ?_
        refine lv_aload_n hF.1 hF.2.1 dX2_init_2_125 rfl (lv_at hl 1 rfl) ?_
        obtain ⟨fs_75, v_76, hx_77, hv_78, hw⟩ := hw
        refine x_get hF hC hP in_X2 rfl 1 (by decide) q153 (fun _ z => z) hx_77 hv_78 dX2_init_2_126 ?_
        refine lv_iload_n hF.1 hF.2.1 dX2_init_2_129 rfl (lv_at hl 2 rfl) ?_
        obtain ⟨ho_81, hw⟩ := hw
        refine hk_q (hr_V (As := [.int x2]) (rest := [.ref v_72]) (T := TJ2) (N := 3) (ci := 8) hF hl.1 hC hP hS (metJ2_get l K _ _ X_68 v_76 x2) rfl (cwV 1 hF.2.2.2.2 (lw_V q758 q347 q348 q79 q349) rfl rfl rfl (by decide +kernel) ⟨Nat.le_of_ble_eq_true rfl, Nat.le_of_ble_eq_true rfl⟩) ho_81 hw rfl rfl (Nat.le_of_ble_eq_true rfl) dX2_init_2_130 hk) hP hS (fun r_79 X_80 H locs hw hP hS => ?_)
        obtain ⟨a_82, e_83, hw⟩ := hw
        subst e_83
        rw [va_rf_some]
        obtain ⟨h_84, hw⟩ := hw
        refine x_cast (T := TX7) (N := 3) (ci := 6) hF hC hP rfl q807 h_84 dX2_init_2_133 ?_
        obtain ⟨ho_87, hw⟩ := hw
        obtain ⟨mc_88, ms_89, hc_90, hs_91, hw⟩ := hw
        refine hk_i (hr_V (As := [.ref a_82]) (rest := []) (T := TJ2) (N := 3) (ci := 8) hF hl.1 hC hP hS (metJ2_add l K mc_88 ms_89 _ _ X_80 v_72 a_82) rfl (cwV 1 hF.2.2.2.2 (lw_V q760 q761 q762 q79 q763) rfl rfl rfl (by decide +kernel) ⟨Nat.le_of_ble_eq_true rfl, Nat.le_of_ble_eq_true rfl⟩) ho_87 hw rfl rfl (Nat.le_of_ble_eq_true rfl) dX2_init_2_136 ⟨hc_90, hs_91⟩) hP hS (fun r_85 X_86 H locs hw hP hS => ?_)
        refine lv_pop hF.1 hF.2.1 dX2_init_2_139 rfl ?_
        obtain ⟨x2_92, ex2_92⟩ : ∃ y : Int32, y = x2 + 1 := ⟨_, rfl⟩
        have hw := hw x2_92 ex2_92
        refine lv_iinc (v := x2_92) (lv' := [(2, .int x2_92), (0, .ref x0), (1, .ref x1)]) hF.1 hF.2.1 dX2_init_2_140 hl (k := 2) rfl (by rw [ex2_92]; rfl) (by decide) rfl (fun ls hl => ?_)
        refine lv_goto (tgt := 110) hF.1 hF.2.1 dX2_init_2_143 (by decide) ?_
        exact ih x0 x1 x2_92 X_86 (kc + mc_88) (ks + ms_89) _ _ ls hP hS ⟨hc_90, hs_91⟩ (lv_sub hl [1, 2, 0] rfl) hw
  have T72 : ∀ (n : Nat), ∀ (x0 : Nat) (x1 : Nat) (x2 : Int32) (X : hX) (kc ks : Nat) (H : Heap) (locs : List Loc) (ls : Array Slot), hI K X0 s.heap.size X H → va_S (hA X0 s.heap.size) s.heap H locs → kc ≤ mc ∧ ks ≤ ms → lv_has ls 3 [(0, .ref x0), (1, .ref x1), (2, .int x2)] → wpX2_init_2_72 post (K.2.2 0) mc ms n x0 x1 x2 X kc ks → W p l e (rmh 7 191 mc ms) s m ([.ref p0, .ref p1] : List Value).toArray below meth c H locs kc ks (MQ below (hQv post K X0 s.heap.size) ([.ref p0, .ref p1] : List Value).toArray s mc ms (hA X0 s.heap.size)) (F0 m 72 ls []) := by
    intro n
    induction n with
    | zero =>
      intro x0 x1 x2 X kc ks H locs ls hP hS hk hl hw
      exact False.elim hw
    | succ n ih =>
      intro x0 x1 x2 X kc ks H locs ls hP hS hk hl hw
      unfold wpX2_init_2_72 at hw
      refine lv_iload_n hF.1 hF.2.1 dX2_init_2_72 rfl (lv_at hl 2 rfl) ?_
      refine lv_aload_n hF.1 hF.2.1 dX2_init_2_73 rfl (lv_at hl 1 rfl) ?_
      obtain ⟨fs_93, v_94, hx_95, hv_96, hw⟩ := hw
      refine x_get hF hC hP in_X2 rfl 0 (by decide) q150 (fun _ z => z) hx_95 hv_96 dX2_init_2_74 ?_
      obtain ⟨ho_99, hw⟩ := hw
      refine hk_i (hr_V (As := []) (rest := [.int x2]) (T := TJ2) (N := 3) (ci := 8) hF hl.1 hC hP hS (metJ2_size l K _ _ X v_94) rfl (cwV 0 hF.2.2.2.2 (lw_V q757 q267 q268 q79 q269) rfl rfl rfl (by decide +kernel) ⟨Nat.le_of_ble_eq_true rfl, Nat.le_of_ble_eq_true rfl⟩) ho_99 hw rfl rfl (Nat.le_of_ble_eq_true rfl) dX2_init_2_77 hk) hP hS (fun r_97 X_98 H locs hw hP hS => ?_)
      refine lv_icmp_ge (tgt := 108) hF.1 hF.2.1 dX2_init_2_80 (by decide) (fun c_100 => ?_) (fun c_100 => ?_)
      · have hw := hw.1 c_100
        refine lv_iconst (v := 0) hF.1 hF.2.1 dX2_init_2_108 (by decide) ?_
        refine lv_istore_n (lv' := [(2, .int 0), (0, .ref x0), (1, .ref x1)]) hF.1 hF.2.1 dX2_init_2_109 rfl hl (by decide) rfl (fun ls hl => ?_)
        obtain ⟨fu, hw⟩ := hw
        exact T110 fu x0 x1 0 X_98 kc ks _ _ ls hP hS hk (lv_sub hl [1, 2, 0] rfl) hw
      · have hw := hw.2 c_100
        refine lv_aload_n hF.1 hF.2.1 dX2_init_2_83 rfl (lv_at hl 0 rfl) ?_
        obtain ⟨fs_101, v_102, hx_103, hv_104, hw⟩ := hw
        refine x_get hF hC hP in_X2 rfl 0 (by decide) q150 (fun _ z => z) hx_103 hv_104 dX2_init_2_84 ?_
        refine lv_aload_n hF.1 hF.2.1 dX2_init_2_87 rfl (lv_at hl 1 rfl) ?_
        obtain ⟨fs_105, v_106, hx_107, hv_108, hw⟩ := hw
        refine x_get hF hC hP in_X2 rfl 0 (by decide) q150 (fun _ z => z) hx_107 hv_108 dX2_init_2_88 ?_
        refine lv_iload_n hF.1 hF.2.1 dX2_init_2_91 rfl (lv_at hl 2 rfl) ?_
        obtain ⟨ho_111, hw⟩ := hw
        refine hk_q (hr_V (As := [.int x2]) (rest := [.ref v_102]) (T := TJ2) (N := 3) (ci := 8) hF hl.1 hC hP hS (metJ2_get l K _ _ X_98 v_106 x2) rfl (cwV 1 hF.2.2.2.2 (lw_V q758 q347 q348 q79 q349) rfl rfl rfl (by decide +kernel) ⟨Nat.le_of_ble_eq_true rfl, Nat.le_of_ble_eq_true rfl⟩) ho_111 hw rfl rfl (Nat.le_of_ble_eq_true rfl) dX2_init_2_92 hk) hP hS (fun r_109 X_110 H locs hw hP hS => ?_)
        obtain ⟨a_112, e_113, hw⟩ := hw
        subst e_113
        rw [va_rf_some]
        obtain ⟨h_114, hw⟩ := hw
        refine x_cast (T := TX5) (N := 2) (ci := 5) hF hC hP rfl q759 h_114 dX2_init_2_95 ?_
        obtain ⟨ho_117, hw⟩ := hw
        obtain ⟨mc_118, ms_119, hc_120, hs_121, hw⟩ := hw
        refine hk_i (hr_V (As := [.ref a_112]) (rest := []) (T := TJ2) (N := 3) (ci := 8) hF hl.1 hC hP hS (metJ2_add l K mc_118 ms_119 _ _ X_110 v_102 a_112) rfl (cwV 1 hF.2.2.2.2 (lw_V q760 q761 q762 q79 q763) rfl rfl rfl (by decide +kernel) ⟨Nat.le_of_ble_eq_true rfl, Nat.le_of_ble_eq_true rfl⟩) ho_117 hw rfl rfl (Nat.le_of_ble_eq_true rfl) dX2_init_2_98 ⟨hc_120, hs_121⟩) hP hS (fun r_115 X_116 H locs hw hP hS => ?_)
        refine lv_pop hF.1 hF.2.1 dX2_init_2_101 rfl ?_
        obtain ⟨x2_122, ex2_122⟩ : ∃ y : Int32, y = x2 + 1 := ⟨_, rfl⟩
        have hw := hw x2_122 ex2_122
        refine lv_iinc (v := x2_122) (lv' := [(2, .int x2_122), (0, .ref x0), (1, .ref x1)]) hF.1 hF.2.1 dX2_init_2_102 hl (k := 2) rfl (by rw [ex2_122]; rfl) (by decide) rfl (fun ls hl => ?_)
        refine lv_goto (tgt := 72) hF.1 hF.2.1 dX2_init_2_105 (by decide) ?_
        exact ih x0 x1 x2_122 X_116 (kc + mc_118) (ks + ms_119) _ _ ls hP hS ⟨hc_120, hs_121⟩ (lv_sub hl [1, 2, 0] rfl) hw
  unfold wpX2_init_2 at hw
  show W p l e (rmh 7 191 mc ms) s m _ below meth c _ _ _ _ _ _
  refine lv_aload_n hF.1 hF.2.1 dX2_init_2_0 rfl (lv_at hl 0 rfl) ?_
  refine W.objInit hF.1 hF.2.1 hF.2.2.2.1 (hF.2.2.2.2 _ q123) (hF.2.2.2.2 _ q116) (hF.2.2.2.2 _ q117) rfl (by rw [hF.2.2.1]; exact hl.1) rfl dX2_init_2_1 (Nat.le_of_ble_eq_true rfl) (Nat.le_of_ble_eq_true rfl) ?_
  refine W.eq (g2 := F0 m 4 ls []) rfl ?_
  refine lv_aload_n hF.1 hF.2.1 dX2_init_2_4 rfl (lv_at hl 0 rfl) ?_
  refine x_new hF hC hP hS in_J2 rfl tyJ2 tyJ2_ok q124 q125 q79 (nfsJ2) hw ⟨rfl, rfl⟩ dX2_init_2_5 (fun a_123 X_124 H pk_125c pk_125s hw hP hS => ?_)
  refine lv_dup hF.1 hF.2.1 dX2_init_2_8 rfl ?_
  refine hk_v (hr_I (As := []) (rest := [.ref a_123, .ref p0]) hF hl.1 hC hP hS (metJ2_init l K _ _ X_124 a_123) (cwI 0 hF.2.2.2.2 (lw_meth q128) rfl rfl rfl (hF.2.2.2.2 _ q79) (hF.2.2.2.2 _ q126) (hF.2.2.2.2 _ q127) rfl (by decide +kernel) ⟨Nat.le_of_ble_eq_true rfl, Nat.le_of_ble_eq_true rfl⟩) hw rfl rfl (Nat.le_of_ble_eq_true rfl) dX2_init_2_9 ⟨pk_125c, pk_125s⟩) hP hS (fun X_126 H locs hw hP hS => ?_)
  obtain ⟨fs_127, hx_128, hl_129, hw⟩ := hw
  refine x_putF hF hin hC hP hS in_X2 rfl tyX2 tyX2_ok nmX2 0 (by decide) q150 (fun _ z => z) rfl rfl rfl rfl hx_128 hl_129 dX2_init_2_12 (fun H locs hP hS => ?_)
  generalize hup X_126 p0 (.inr (2, fs_127.set 0 (.ref a_123))) = X_130 at hP hw
  refine lv_aload_n hF.1 hF.2.1 dX2_init_2_15 rfl (lv_at hl 0 rfl) ?_
  refine x_new hF hC hP hS in_J2 rfl tyJ2 tyJ2_ok q124 q125 q79 (nfsJ2) hw ⟨rfl, rfl⟩ dX2_init_2_16 (fun a_131 X_132 H pk_133c pk_133s hw hP hS => ?_)
  refine lv_dup hF.1 hF.2.1 dX2_init_2_19 rfl ?_
  refine hk_v (hr_I (As := []) (rest := [.ref a_131, .ref p0]) hF hl.1 hC hP hS (metJ2_init l K _ _ X_132 a_131) (cwI 0 hF.2.2.2.2 (lw_meth q128) rfl rfl rfl (hF.2.2.2.2 _ q79) (hF.2.2.2.2 _ q126) (hF.2.2.2.2 _ q127) rfl (by decide +kernel) ⟨Nat.le_of_ble_eq_true rfl, Nat.le_of_ble_eq_true rfl⟩) hw rfl rfl (Nat.le_of_ble_eq_true rfl) dX2_init_2_20 ⟨pk_133c, pk_133s⟩) hP hS (fun X_134 H locs hw hP hS => ?_)
  obtain ⟨fs_135, hx_136, hl_137, hw⟩ := hw
  refine x_putF hF hin hC hP hS in_X2 rfl tyX2 tyX2_ok nmX2 1 (by decide) q153 (fun _ z => z) rfl rfl rfl rfl hx_136 hl_137 dX2_init_2_23 (fun H locs hP hS => ?_)
  generalize hup X_134 p0 (.inr (2, fs_135.set 1 (.ref a_131))) = X_138 at hP hw
  refine lv_aload_n hF.1 hF.2.1 dX2_init_2_26 rfl (lv_at hl 0 rfl) ?_
  refine x_new hF hC hP hS in_J2 rfl tyJ2 tyJ2_ok q124 q125 q79 (nfsJ2) hw ⟨rfl, rfl⟩ dX2_init_2_27 (fun a_139 X_140 H pk_141c pk_141s hw hP hS => ?_)
  refine lv_dup hF.1 hF.2.1 dX2_init_2_30 rfl ?_
  refine hk_v (hr_I (As := []) (rest := [.ref a_139, .ref p0]) hF hl.1 hC hP hS (metJ2_init l K _ _ X_140 a_139) (cwI 0 hF.2.2.2.2 (lw_meth q128) rfl rfl rfl (hF.2.2.2.2 _ q79) (hF.2.2.2.2 _ q126) (hF.2.2.2.2 _ q127) rfl (by decide +kernel) ⟨Nat.le_of_ble_eq_true rfl, Nat.le_of_ble_eq_true rfl⟩) hw rfl rfl (Nat.le_of_ble_eq_true rfl) dX2_init_2_31 ⟨pk_141c, pk_141s⟩) hP hS (fun X_142 H locs hw hP hS => ?_)
  obtain ⟨fs_143, hx_144, hl_145, hw⟩ := hw
  refine x_putF hF hin hC hP hS in_X2 rfl tyX2 tyX2_ok nmX2 2 (by decide) q155 (fun _ z => z) rfl rfl rfl rfl hx_144 hl_145 dX2_init_2_34 (fun H locs hP hS => ?_)
  generalize hup X_142 p0 (.inr (2, fs_143.set 2 (.ref a_139))) = X_146 at hP hw
  refine lv_aload_n hF.1 hF.2.1 dX2_init_2_37 rfl (lv_at hl 0 rfl) ?_
  refine lv_iconst (v := 1) hF.1 hF.2.1 dX2_init_2_38 (by decide) ?_
  obtain ⟨fs_147, hx_148, hl_149, hw⟩ := hw
  refine x_put hF hC hP hS in_X2 rfl tyX2 tyX2_ok nmX2 5 (by decide) q163 (fun _ z => z) rfl rfl rfl hx_148 hl_149 dX2_init_2_39 (fun H locs hP hS => ?_)
  generalize hup X_146 p0 (.inr (2, fs_147.set 5 (.int 1))) = X_150 at hP hw
  refine lv_aload_n hF.1 hF.2.1 dX2_init_2_42 rfl (lv_at hl 0 rfl) ?_
  refine lv_aload_n hF.1 hF.2.1 dX2_init_2_43 rfl (lv_at hl 1 rfl) ?_
  obtain ⟨fs_151, v_152, hx_153, hv_154, hw⟩ := hw
  refine x_get hF hC hP in_X2 rfl 3 (by decide) q157 (fun _ z => z) hx_153 hv_154 dX2_init_2_44 ?_
  refine x_cloI hF hl.1 hC hP hS q752 q753 q478 q479 q754 hw ⟨rfl, rfl⟩ (Nat.le_of_ble_eq_true rfl) (Nat.le_of_ble_eq_true rfl) dX2_init_2_47 (fun n_156 a_155 X_157 H pk_158c pk_158s hw hP hS => ?_)
  obtain ⟨h_159, hw⟩ := hw
  refine x_castI hF hC hP q756 h_159 dX2_init_2_50 ?_
  obtain ⟨fs_160, hx_161, hl_162, hw⟩ := hw
  refine x_putF hF hin hC hP hS in_X2 rfl tyX2 tyX2_ok nmX2 3 (by decide) q157 (fun _ z => z) rfl rfl rfl rfl hx_161 hl_162 dX2_init_2_53 (fun H locs hP hS => ?_)
  generalize hup X_157 p0 (.inr (2, fs_160.set 3 (.ref a_155))) = X_163 at hP hw
  refine lv_aload_n hF.1 hF.2.1 dX2_init_2_56 rfl (lv_at hl 0 rfl) ?_
  refine lv_aload_n hF.1 hF.2.1 dX2_init_2_57 rfl (lv_at hl 1 rfl) ?_
  obtain ⟨fs_164, v_165, hx_166, hv_167, hw⟩ := hw
  refine x_get hF hC hP in_X2 rfl 4 (by decide) q160 (fun _ z => z) hx_166 hv_167 dX2_init_2_58 ?_
  refine x_cloI hF hl.1 hC hP hS q752 q753 q478 q479 q754 hw ⟨rfl, rfl⟩ (Nat.le_of_ble_eq_true rfl) (Nat.le_of_ble_eq_true rfl) dX2_init_2_61 (fun n_169 a_168 X_170 H pk_171c pk_171s hw hP hS => ?_)
  obtain ⟨h_172, hw⟩ := hw
  refine x_castI hF hC hP q756 h_172 dX2_init_2_64 ?_
  obtain ⟨fs_173, hx_174, hl_175, hw⟩ := hw
  refine x_putF hF hin hC hP hS in_X2 rfl tyX2 tyX2_ok nmX2 4 (by decide) q160 (fun _ z => z) rfl rfl rfl rfl hx_174 hl_175 dX2_init_2_67 (fun H locs hP hS => ?_)
  generalize hup X_170 p0 (.inr (2, fs_173.set 4 (.ref a_168))) = X_176 at hP hw
  refine lv_iconst (v := 0) hF.1 hF.2.1 dX2_init_2_70 (by decide) ?_
  refine lv_istore_n (lv' := [(2, .int 0), (0, .ref p0), (1, .ref p1)]) hF.1 hF.2.1 dX2_init_2_71 rfl hl (by decide) rfl (fun ls hl => ?_)
  obtain ⟨fu, hw⟩ := hw
  exact T72 fu p0 p1 0 X_176 (((((0 + 1) + 1) + 1) + 1) + 1) (((((0 + 3) + 3) + 3) + n_156) + n_169) _ _ ls hP hS ⟨pk_171c, pk_171s⟩ (lv_sub hl [1, 2, 0] rfl) hw
def wpX2_isAxle (post : Int32 → hX → Prop) (E : Nat) (X : hX) (p0 : Nat) (p1 : Int32) : Prop := gfI X p0 2 5 (fun v_2 => wpX1_isBetween (fun r_5 => ((r_5 = 0 ∨ r_5 = 1) ∧ post r_5 X)) (Int32.toInt64 p1) 0 (Int32.toInt64 (v_2 - 1)))
abbrev wsX2_isAxle : List Cond := ws_ yX2_isAxle cX2_isAxle 2 (some .boolean)
set_option maxHeartbeats 8000000 in
theorem metX2_isAxle (l : Launch) (K : HK) (sz : Nat) (post : Int32 → hX → Prop) (X0 : hX) (p0 : Nat) (p1 : Int32) : Met l yX2_isAxle wsX2_isAxle (rmh 1 25 0 0) (hPc K X0 sz [.ref p0, .int p1] (wpX2_isAxle post (K.2.2 0) X0 p0 p1)) (hQi post K X0 sz) 0 0 (hA X0 sz) := by
  refine Met.ofW (cc := cX2_isAxle) (maxL := 2) (ret := (some .boolean)) (by decide) rfl ?_
  intro p e s m args below meth c s₁ B hml hv
  obtain ⟨rfl, hv⟩ := hv
  obtain ⟨hC, hP, hw⟩ := HC.of hv
  have hsz : s.heap.size = sz := hv.1
  subst hsz
  clear hv
  have hr := B.returns
  have hts := atoms_spec (ws := wsX2_isAxle) B.pre
  have hts : ∀ w ∈ lw_all, w.before _ s = true := fun w h => hts w (List.mem_cons_of_mem _ h)
  have hF : CallFix p m c cX2_isAxle 2 s ([.ref p0, .int p1] : List Value).toArray lw_all RX2 := ⟨B.exec, B.bytes, hml, findClass_of_methodNamed B.named, hts⟩
  have hlocks := B.notSynchronized
  have hl := lv_entry ([.ref p0, .int p1]) (n := 2) (Nat.le_of_ble_eq_true rfl)
  rw [lg_entry_eq]
  generalize (lg_sl ([.ref p0, .int p1]) ++ List.replicate (2 - (lg_sl ([.ref p0, .int p1])).length) Slot.unset).toArray = ls at hl ⊢
  have hl : lv_has ls 2 [(0, .ref p0), (1, .int p1)] := hl
  have hS : va_S (hA X0 s.heap.size) s.heap s.heap [] := va_S.rf
  unfold wpX2_isAxle at hw
  show W p l e (rmh 1 25 0 0) s m _ below meth c _ _ _ _ _ _
  refine lv_iload_n hF.1 hF.2.1 dX2_isAxle_0 rfl (lv_at hl 1 rfl) ?_
  refine lv_i2l hF.1 hF.2.1 dX2_isAxle_1 rfl ?_
  refine lv_lconst (v := 0) hF.1 hF.2.1 dX2_isAxle_2 (by decide) ?_
  refine lv_aload_n hF.1 hF.2.1 dX2_isAxle_3 rfl (lv_at hl 0 rfl) ?_
  obtain ⟨fs_1, v_2, hx_3, hv_4, hw⟩ := hw
  refine x_get hF hC hP in_X2 rfl 5 (by decide) q163 (fun _ z => z) hx_3 hv_4 dX2_isAxle_4 ?_
  refine lv_iconst (v := 1) hF.1 hF.2.1 dX2_isAxle_7 (by decide) ?_
  refine lv_isub hF.1 hF.2.1 dX2_isAxle_8 ?_
  refine lv_i2l hF.1 hF.2.1 dX2_isAxle_9 rfl ?_
  refine hp_i (hrp_SN (As := [.long (Int32.toInt64 p1), .long 0, .long (Int32.toInt64 (v_2 - 1))]) (rest := []) hF hl.1 (metX1_isBetween l _ (Int32.toInt64 p1) 0 (Int32.toInt64 (v_2 - 1))) (va_cnB 3 hF.2.2.2.2 (lw_meth q849) rfl rfl rfl (hC.2.2.1.2.2.2.2.2.1 _ q847 rfl) (hF.2.2.2.2 _ q75) (by decide +kernel) ⟨Nat.le_of_ble_eq_true rfl, Nat.le_of_ble_eq_true rfl⟩) q848 hw rfl rfl (Nat.le_of_ble_eq_true rfl) dX2_isAxle_10 ⟨Nat.le_refl _, Nat.le_refl _⟩) (fun r_5 hw => ?_)
  obtain ⟨h_6, hw⟩ := hw
  exact h_zret hF hr hlocks hP hS ⟨Nat.le_refl _, Nat.le_refl _⟩ dX2_isAxle_13 h_6 hw
def wpX2_isWheel (post : Int32 → hX → Prop) (E : Nat) (X : hX) (p0 : Nat) (p1 : Int32) : Prop := gfA X p0 2 0 (fun v_2 => isO X v_2 8 (wpJ2_size (fun r_5 X_6 => wpX1_isBetween (fun r_8 => ((r_8 = 0 ∨ r_8 = 1) ∧ post r_8 X_6)) (Int32.toInt64 p1) 0 (Int32.toInt64 (r_5 - 1))) E X v_2))
abbrev wsX2_isWheel : List Cond := ws_ yX2_isWheel cX2_isWheel 2 (some .boolean)
set_option maxHeartbeats 8000000 in
theorem metX2_isWheel (l : Launch) (K : HK) (sz : Nat) (post : Int32 → hX → Prop) (X0 : hX) (p0 : Nat) (p1 : Int32) : Met l yX2_isWheel wsX2_isWheel (rmh 1 25 0 0) (hPc K X0 sz [.ref p0, .int p1] (wpX2_isWheel post (K.2.2 0) X0 p0 p1)) (hQi post K X0 sz) 0 0 (hA X0 sz) := by
  refine Met.ofW (cc := cX2_isWheel) (maxL := 2) (ret := (some .boolean)) (by decide) rfl ?_
  intro p e s m args below meth c s₁ B hml hv
  obtain ⟨rfl, hv⟩ := hv
  obtain ⟨hC, hP, hw⟩ := HC.of hv
  have hsz : s.heap.size = sz := hv.1
  subst hsz
  clear hv
  have hr := B.returns
  have hts := atoms_spec (ws := wsX2_isWheel) B.pre
  have hts : ∀ w ∈ lw_all, w.before _ s = true := fun w h => hts w (List.mem_cons_of_mem _ h)
  have hF : CallFix p m c cX2_isWheel 2 s ([.ref p0, .int p1] : List Value).toArray lw_all RX2 := ⟨B.exec, B.bytes, hml, findClass_of_methodNamed B.named, hts⟩
  have hlocks := B.notSynchronized
  have hl := lv_entry ([.ref p0, .int p1]) (n := 2) (Nat.le_of_ble_eq_true rfl)
  rw [lg_entry_eq]
  generalize (lg_sl ([.ref p0, .int p1]) ++ List.replicate (2 - (lg_sl ([.ref p0, .int p1])).length) Slot.unset).toArray = ls at hl ⊢
  have hl : lv_has ls 2 [(0, .ref p0), (1, .int p1)] := hl
  have hS : va_S (hA X0 s.heap.size) s.heap s.heap [] := va_S.rf
  unfold wpX2_isWheel at hw
  show W p l e (rmh 1 25 0 0) s m _ below meth c _ _ _ _ _ _
  refine lv_iload_n hF.1 hF.2.1 dX2_isWheel_0 rfl (lv_at hl 1 rfl) ?_
  refine lv_i2l hF.1 hF.2.1 dX2_isWheel_1 rfl ?_
  refine lv_lconst (v := 0) hF.1 hF.2.1 dX2_isWheel_2 (by decide) ?_
  refine lv_aload_n hF.1 hF.2.1 dX2_isWheel_3 rfl (lv_at hl 0 rfl) ?_
  obtain ⟨fs_1, v_2, hx_3, hv_4, hw⟩ := hw
  refine x_get hF hC hP in_X2 rfl 0 (by decide) q150 (fun _ z => z) hx_3 hv_4 dX2_isWheel_4 ?_
  obtain ⟨ho_7, hw⟩ := hw
  refine hk_i (hr_V (As := []) (rest := [.long 0, .long (Int32.toInt64 p1)]) (T := TJ2) (N := 3) (ci := 8) hF hl.1 hC hP hS (metJ2_size l K _ _ X0 v_2) rfl (cwV 0 hF.2.2.2.2 (lw_V q757 q267 q268 q79 q269) rfl rfl rfl (by decide +kernel) ⟨Nat.le_of_ble_eq_true rfl, Nat.le_of_ble_eq_true rfl⟩) ho_7 hw rfl rfl (Nat.le_of_ble_eq_true rfl) dX2_isWheel_7 ⟨Nat.le_refl _, Nat.le_refl _⟩) hP hS (fun r_5 X_6 H locs hw hP hS => ?_)
  refine lv_iconst (v := 1) hF.1 hF.2.1 dX2_isWheel_10 (by decide) ?_
  refine lv_isub hF.1 hF.2.1 dX2_isWheel_11 ?_
  refine lv_i2l hF.1 hF.2.1 dX2_isWheel_12 rfl ?_
  refine hp_i (hrp_SN (As := [.long (Int32.toInt64 p1), .long 0, .long (Int32.toInt64 (r_5 - 1))]) (rest := []) hF hl.1 (metX1_isBetween l _ (Int32.toInt64 p1) 0 (Int32.toInt64 (r_5 - 1))) (va_cnB 3 hF.2.2.2.2 (lw_meth q849) rfl rfl rfl (hC.2.2.1.2.2.2.2.2.1 _ q847 rfl) (hF.2.2.2.2 _ q75) (by decide +kernel) ⟨Nat.le_of_ble_eq_true rfl, Nat.le_of_ble_eq_true rfl⟩) q848 hw rfl rfl (Nat.le_of_ble_eq_true rfl) dX2_isWheel_13 ⟨Nat.le_refl _, Nat.le_refl _⟩) (fun r_8 hw => ?_)
  obtain ⟨h_9, hw⟩ := hw
  exact h_zret hF hr hlocks hP hS ⟨Nat.le_refl _, Nat.le_refl _⟩ dX2_isWheel_16 h_9 hw
def wpX2_isArm (post : Int32 → hX → Prop) (E : Nat) (X : hX) (p0 : Nat) (p1 : Int32) : Prop := gfA X p0 2 1 (fun v_2 => isO X v_2 8 (wpJ2_size (fun r_5 X_6 => wpX1_isBetween (fun r_8 => ((r_8 = 0 ∨ r_8 = 1) ∧ post r_8 X_6)) (Int32.toInt64 p1) 0 (Int32.toInt64 (r_5 - 1))) E X v_2))
abbrev wsX2_isArm : List Cond := ws_ yX2_isArm cX2_isArm 2 (some .boolean)
set_option maxHeartbeats 8000000 in
theorem metX2_isArm (l : Launch) (K : HK) (sz : Nat) (post : Int32 → hX → Prop) (X0 : hX) (p0 : Nat) (p1 : Int32) : Met l yX2_isArm wsX2_isArm (rmh 1 25 0 0) (hPc K X0 sz [.ref p0, .int p1] (wpX2_isArm post (K.2.2 0) X0 p0 p1)) (hQi post K X0 sz) 0 0 (hA X0 sz) := by
  refine Met.ofW (cc := cX2_isArm) (maxL := 2) (ret := (some .boolean)) (by decide) rfl ?_
  intro p e s m args below meth c s₁ B hml hv
  obtain ⟨rfl, hv⟩ := hv
  obtain ⟨hC, hP, hw⟩ := HC.of hv
  have hsz : s.heap.size = sz := hv.1
  subst hsz
  clear hv
  have hr := B.returns
  have hts := atoms_spec (ws := wsX2_isArm) B.pre
  have hts : ∀ w ∈ lw_all, w.before _ s = true := fun w h => hts w (List.mem_cons_of_mem _ h)
  have hF : CallFix p m c cX2_isArm 2 s ([.ref p0, .int p1] : List Value).toArray lw_all RX2 := ⟨B.exec, B.bytes, hml, findClass_of_methodNamed B.named, hts⟩
  have hlocks := B.notSynchronized
  have hl := lv_entry ([.ref p0, .int p1]) (n := 2) (Nat.le_of_ble_eq_true rfl)
  rw [lg_entry_eq]
  generalize (lg_sl ([.ref p0, .int p1]) ++ List.replicate (2 - (lg_sl ([.ref p0, .int p1])).length) Slot.unset).toArray = ls at hl ⊢
  have hl : lv_has ls 2 [(0, .ref p0), (1, .int p1)] := hl
  have hS : va_S (hA X0 s.heap.size) s.heap s.heap [] := va_S.rf
  unfold wpX2_isArm at hw
  show W p l e (rmh 1 25 0 0) s m _ below meth c _ _ _ _ _ _
  refine lv_iload_n hF.1 hF.2.1 dX2_isArm_0 rfl (lv_at hl 1 rfl) ?_
  refine lv_i2l hF.1 hF.2.1 dX2_isArm_1 rfl ?_
  refine lv_lconst (v := 0) hF.1 hF.2.1 dX2_isArm_2 (by decide) ?_
  refine lv_aload_n hF.1 hF.2.1 dX2_isArm_3 rfl (lv_at hl 0 rfl) ?_
  obtain ⟨fs_1, v_2, hx_3, hv_4, hw⟩ := hw
  refine x_get hF hC hP in_X2 rfl 1 (by decide) q153 (fun _ z => z) hx_3 hv_4 dX2_isArm_4 ?_
  obtain ⟨ho_7, hw⟩ := hw
  refine hk_i (hr_V (As := []) (rest := [.long 0, .long (Int32.toInt64 p1)]) (T := TJ2) (N := 3) (ci := 8) hF hl.1 hC hP hS (metJ2_size l K _ _ X0 v_2) rfl (cwV 0 hF.2.2.2.2 (lw_V q757 q267 q268 q79 q269) rfl rfl rfl (by decide +kernel) ⟨Nat.le_of_ble_eq_true rfl, Nat.le_of_ble_eq_true rfl⟩) ho_7 hw rfl rfl (Nat.le_of_ble_eq_true rfl) dX2_isArm_7 ⟨Nat.le_refl _, Nat.le_refl _⟩) hP hS (fun r_5 X_6 H locs hw hP hS => ?_)
  refine lv_iconst (v := 1) hF.1 hF.2.1 dX2_isArm_10 (by decide) ?_
  refine lv_isub hF.1 hF.2.1 dX2_isArm_11 ?_
  refine lv_i2l hF.1 hF.2.1 dX2_isArm_12 rfl ?_
  refine hp_i (hrp_SN (As := [.long (Int32.toInt64 p1), .long 0, .long (Int32.toInt64 (r_5 - 1))]) (rest := []) hF hl.1 (metX1_isBetween l _ (Int32.toInt64 p1) 0 (Int32.toInt64 (r_5 - 1))) (va_cnB 3 hF.2.2.2.2 (lw_meth q849) rfl rfl rfl (hC.2.2.1.2.2.2.2.2.1 _ q847 rfl) (hF.2.2.2.2 _ q75) (by decide +kernel) ⟨Nat.le_of_ble_eq_true rfl, Nat.le_of_ble_eq_true rfl⟩) q848 hw rfl rfl (Nat.le_of_ble_eq_true rfl) dX2_isArm_13 ⟨Nat.le_refl _, Nat.le_refl _⟩) (fun r_8 hw => ?_)
  obtain ⟨h_9, hw⟩ := hw
  exact h_zret hF hr hlocks hP hS ⟨Nat.le_refl _, Nat.le_refl _⟩ dX2_isArm_16 h_9 hw
def wpX2_areTwo (post : Int32 → hX → Prop) (E : Nat) (X : hX) (p0 : Nat) (p1 : Int32) (p2 : Int32) : Prop := isO X p0 2 (wpX2_isWheel (fun r_1 X_2 => ((r_1 = 0 → post 0 X_2) ∧ (¬ r_1 = 0 → isO X_2 p0 2 (wpX2_isWheel (fun r_5 X_6 => ((r_5 = 0 → post 0 X_6) ∧ (¬ r_5 = 0 → ((p1 = p2 → post 0 X_6) ∧ (¬ p1 = p2 → post 1 X_6))))) E X_2 p0 p2)))) E X p0 p1)
abbrev wsX2_areTwo : List Cond := ws_ yX2_areTwo cX2_areTwo 3 (some .boolean)
set_option maxHeartbeats 8000000 in
theorem metX2_areTwo (l : Launch) (K : HK) (sz : Nat) (post : Int32 → hX → Prop) (X0 : hX) (p0 : Nat) (p1 : Int32) (p2 : Int32) : Met l yX2_areTwo wsX2_areTwo (rmh 2 46 0 0) (hPc K X0 sz [.ref p0, .int p1, .int p2] (wpX2_areTwo post (K.2.2 0) X0 p0 p1 p2)) (hQi post K X0 sz) 0 0 (hA X0 sz) := by
  refine Met.ofW (cc := cX2_areTwo) (maxL := 3) (ret := (some .boolean)) (by decide) rfl ?_
  intro p e s m args below meth c s₁ B hml hv
  obtain ⟨rfl, hv⟩ := hv
  obtain ⟨hC, hP, hw⟩ := HC.of hv
  have hsz : s.heap.size = sz := hv.1
  subst hsz
  clear hv
  have hr := B.returns
  have hts := atoms_spec (ws := wsX2_areTwo) B.pre
  have hts : ∀ w ∈ lw_all, w.before _ s = true := fun w h => hts w (List.mem_cons_of_mem _ h)
  have hF : CallFix p m c cX2_areTwo 3 s ([.ref p0, .int p1, .int p2] : List Value).toArray lw_all RX2 := ⟨B.exec, B.bytes, hml, findClass_of_methodNamed B.named, hts⟩
  have hlocks := B.notSynchronized
  have hl := lv_entry ([.ref p0, .int p1, .int p2]) (n := 3) (Nat.le_of_ble_eq_true rfl)
  rw [lg_entry_eq]
  generalize (lg_sl ([.ref p0, .int p1, .int p2]) ++ List.replicate (3 - (lg_sl ([.ref p0, .int p1, .int p2])).length) Slot.unset).toArray = ls at hl ⊢
  have hl : lv_has ls 3 [(0, .ref p0), (1, .int p1), (2, .int p2)] := hl
  have hS : va_S (hA X0 s.heap.size) s.heap s.heap [] := va_S.rf
  unfold wpX2_areTwo at hw
  show W p l e (rmh 2 46 0 0) s m _ below meth c _ _ _ _ _ _
  refine lv_aload_n hF.1 hF.2.1 dX2_areTwo_0 rfl (lv_at hl 0 rfl) ?_
  refine lv_iload_n hF.1 hF.2.1 dX2_areTwo_1 rfl (lv_at hl 1 rfl) ?_
  obtain ⟨ho_3, hw⟩ := hw
  refine hk_i (hr_V (As := [.int p1]) (rest := []) (T := TX2) (N := 9) (ci := 2) hF hl.1 hC hP hS (metX2_isWheel l K _ _ X0 p0 p1) rfl (cwV 1 hF.2.2.2.2 (lw_V q878 q879 q880 q76 q881) rfl rfl rfl (by decide +kernel) ⟨Nat.le_of_ble_eq_true rfl, Nat.le_of_ble_eq_true rfl⟩) ho_3 hw rfl rfl (Nat.le_of_ble_eq_true rfl) dX2_areTwo_2 ⟨Nat.le_refl _, Nat.le_refl _⟩) hP hS (fun r_1 X_2 H locs hw hP hS => ?_)
  refine lv_if_eq (tgt := 25) hF.1 hF.2.1 dX2_areTwo_5 (by decide) (fun c_4 => ?_) (fun c_4 => ?_)
  · have hw := hw.1 c_4
    refine lv_iconst (v := 0) hF.1 hF.2.1 dX2_areTwo_25 (by decide) ?_
    exact h_zret hF hr hlocks hP hS ⟨Nat.le_refl _, Nat.le_refl _⟩ dX2_areTwo_26 (Or.inl rfl) hw
  · have hw := hw.2 c_4
    refine lv_aload_n hF.1 hF.2.1 dX2_areTwo_8 rfl (lv_at hl 0 rfl) ?_
    refine lv_iload_n hF.1 hF.2.1 dX2_areTwo_9 rfl (lv_at hl 2 rfl) ?_
    obtain ⟨ho_7, hw⟩ := hw
    refine hk_i (hr_V (As := [.int p2]) (rest := []) (T := TX2) (N := 9) (ci := 2) hF hl.1 hC hP hS (metX2_isWheel l K _ _ X_2 p0 p2) rfl (cwV 1 hF.2.2.2.2 (lw_V q878 q879 q880 q76 q881) rfl rfl rfl (by decide +kernel) ⟨Nat.le_of_ble_eq_true rfl, Nat.le_of_ble_eq_true rfl⟩) ho_7 hw rfl rfl (Nat.le_of_ble_eq_true rfl) dX2_areTwo_10 ⟨Nat.le_refl _, Nat.le_refl _⟩) hP hS (fun r_5 X_6 H locs hw hP hS => ?_)
    refine lv_if_eq (tgt := 25) hF.1 hF.2.1 dX2_areTwo_13 (by decide) (fun c_8 => ?_) (fun c_8 => ?_)
    · have hw := hw.1 c_8
      refine lv_iconst (v := 0) hF.1 hF.2.1 dX2_areTwo_25 (by decide) ?_
      exact h_zret hF hr hlocks hP hS ⟨Nat.le_refl _, Nat.le_refl _⟩ dX2_areTwo_26 (Or.inl rfl) hw
    · have hw := hw.2 c_8
      refine lv_iload_n hF.1 hF.2.1 dX2_areTwo_16 rfl (lv_at hl 1 rfl) ?_
      refine lv_iload_n hF.1 hF.2.1 dX2_areTwo_17 rfl (lv_at hl 2 rfl) ?_
      refine lv_icmp_eq (tgt := 25) hF.1 hF.2.1 dX2_areTwo_18 (by decide) (fun c_9 => ?_) (fun c_9 => ?_)
      · have hw := hw.1 c_9
        refine lv_iconst (v := 0) hF.1 hF.2.1 dX2_areTwo_25 (by decide) ?_
        exact h_zret hF hr hlocks hP hS ⟨Nat.le_refl _, Nat.le_refl _⟩ dX2_areTwo_26 (Or.inl rfl) hw
      · have hw := hw.2 c_9
        refine lv_iconst (v := 1) hF.1 hF.2.1 dX2_areTwo_21 (by decide) ?_
        refine lv_goto (tgt := 26) hF.1 hF.2.1 dX2_areTwo_22 (by decide) ?_
        exact h_zret hF hr hlocks hP hS ⟨Nat.le_refl _, Nat.le_refl _⟩ dX2_areTwo_26 (Or.inr rfl) hw
def wpX2_areMeshed_64 (post : Int32 → hX → Prop) (E : Nat) (J5 : Nat → Int32 → Int32 → Int32 → Int32 → hX → Prop) (x0 : Nat) (x1 : Int32) (x2 : Int32) (x4 : Int32) (z0 : Int32) (z1 : Int32) (X : hX) : Prop := (∀ x3_1 : Int32, x3_1 = z0 ||| z1 → (∀ x4_2 : Int32, x4_2 = x4 + 1 → J5 x0 x1 x2 x3_1 x4_2 X))
def wpX2_areMeshed_63 (post : Int32 → hX → Prop) (E : Nat) (J5 : Nat → Int32 → Int32 → Int32 → Int32 → hX → Prop) (x0 : Nat) (x1 : Int32) (x2 : Int32) (x4 : Int32) (z0 : Int32) (X : hX) : Prop := wpX2_areMeshed_64 post E J5 x0 x1 x2 x4 z0 0 X
def wpX2_areMeshed_59 (post : Int32 → hX → Prop) (E : Nat) (J5 : Nat → Int32 → Int32 → Int32 → Int32 → hX → Prop) (x0 : Nat) (x1 : Int32) (x2 : Int32) (x4 : Int32) (z0 : Int32) (X : hX) : Prop := wpX2_areMeshed_64 post E J5 x0 x1 x2 x4 z0 1 X
def wpX2_areMeshed_37 (post : Int32 → hX → Prop) (E : Nat) (J5 : Nat → Int32 → Int32 → Int32 → Int32 → hX → Prop) (x0 : Nat) (x1 : Int32) (x2 : Int32) (x4 : Int32) (z0 : Int32) (X : hX) : Prop := gfA X x0 2 3 (fun v_4 => alI X 0 v_4 x4 (fun v_11 => ((v_11 = x2 → gfA X x0 2 4 (fun v_14 => alI X 0 v_14 x4 (fun v_21 => ((v_21 = x1 → wpX2_areMeshed_59 post E J5 x0 x1 x2 x4 z0 X) ∧ (¬ v_21 = x1 → wpX2_areMeshed_63 post E J5 x0 x1 x2 x4 z0 X))))) ∧ (¬ v_11 = x2 → wpX2_areMeshed_63 post E J5 x0 x1 x2 x4 z0 X))))
def wpX2_areMeshed_5 (post : Int32 → hX → Prop) (E : Nat) : Nat → Nat → Int32 → Int32 → Int32 → Int32 → hX → Prop
  | 0 => fun _ _ _ _ _ _ => False
  | n + 1 => fun x0 x1 x2 x3 x4 X => gfI X x0 2 6 (fun v_24 => ((v_24 ≤ x4 → ((x3 = 0 ∨ x3 = 1) ∧ post x3 X)) ∧ (¬ v_24 ≤ x4 → gfA X x0 2 3 (fun v_30 => alI X 0 v_30 x4 (fun v_37 => ((v_37 = x1 → gfA X x0 2 4 (fun v_40 => alI X 0 v_40 x4 (fun v_47 => ((v_47 = x2 → wpX2_areMeshed_59 post E (wpX2_areMeshed_5 post E n) x0 x1 x2 x4 x3 X) ∧ (¬ v_47 = x2 → wpX2_areMeshed_37 post E (wpX2_areMeshed_5 post E n) x0 x1 x2 x4 x3 X))))) ∧ (¬ v_37 = x1 → wpX2_areMeshed_37 post E (wpX2_areMeshed_5 post E n) x0 x1 x2 x4 x3 X)))))))
def wpX2_areMeshed (post : Int32 → hX → Prop) (E : Nat) (X : hX) (p0 : Nat) (p1 : Int32) (p2 : Int32) : Prop := ∃ fu : Nat, wpX2_areMeshed_5 post E fu p0 p1 p2 0 0 X
abbrev wsX2_areMeshed : List Cond := ws_ yX2_areMeshed cX2_areMeshed 5 (some .boolean)
set_option maxHeartbeats 8000000 in
theorem metX2_areMeshed (l : Launch) (K : HK) (sz : Nat) (post : Int32 → hX → Prop) (X0 : hX) (p0 : Nat) (p1 : Int32) (p2 : Int32) : Met l yX2_areMeshed wsX2_areMeshed (rmh 0 0 0 0) (hPc K X0 sz [.ref p0, .int p1, .int p2] (wpX2_areMeshed post (K.2.2 0) X0 p0 p1 p2)) (hQi post K X0 sz) 0 0 (hA X0 sz) := by
  refine Met.ofW (cc := cX2_areMeshed) (maxL := 5) (ret := (some .boolean)) (by decide) rfl ?_
  intro p e s m args below meth c s₁ B hml hv
  obtain ⟨rfl, hv⟩ := hv
  obtain ⟨hC, hP, hw⟩ := HC.of hv
  have hsz : s.heap.size = sz := hv.1
  subst hsz
  clear hv
  have hr := B.returns
  have hts := atoms_spec (ws := wsX2_areMeshed) B.pre
  have hts : ∀ w ∈ lw_all, w.before _ s = true := fun w h => hts w (List.mem_cons_of_mem _ h)
  have hF : CallFix p m c cX2_areMeshed 5 s ([.ref p0, .int p1, .int p2] : List Value).toArray lw_all RX2 := ⟨B.exec, B.bytes, hml, findClass_of_methodNamed B.named, hts⟩
  have hlocks := B.notSynchronized
  have hl := lv_entry ([.ref p0, .int p1, .int p2]) (n := 5) (Nat.le_of_ble_eq_true rfl)
  rw [lg_entry_eq]
  generalize (lg_sl ([.ref p0, .int p1, .int p2]) ++ List.replicate (5 - (lg_sl ([.ref p0, .int p1, .int p2])).length) Slot.unset).toArray = ls at hl ⊢
  have hl : lv_has ls 5 [(0, .ref p0), (1, .int p1), (2, .int p2)] := hl
  have hS : va_S (hA X0 s.heap.size) s.heap s.heap [] := va_S.rf
  have T64 : ∀ (J5 : Nat → Int32 → Int32 → Int32 → Int32 → hX → Prop) (hJ5 : ∀ (x0 : Nat) (x1 : Int32) (x2 : Int32) (x3 : Int32) (x4 : Int32) (X : hX) (H : Heap) (locs : List Loc) (ls : Array Slot), hI K X0 s.heap.size X H → va_S (hA X0 s.heap.size) s.heap H locs → lv_has ls 5 [(0, .ref x0), (1, .int x1), (2, .int x2), (3, .int x3), (4, .int x4)] → J5 x0 x1 x2 x3 x4 X → W p l e (rmh 0 0 0 0) s m ([.ref p0, .int p1, .int p2] : List Value).toArray below meth c H locs 0 0 (MQ below (hQi post K X0 s.heap.size) ([.ref p0, .int p1, .int p2] : List Value).toArray s 0 0 (hA X0 s.heap.size)) (F0 m 5 ls [])), ∀ (x0 : Nat) (x1 : Int32) (x2 : Int32) (x4 : Int32) (z0 : Int32) (z1 : Int32) (X : hX) (H : Heap) (locs : List Loc) (ls : Array Slot), hI K X0 s.heap.size X H → va_S (hA X0 s.heap.size) s.heap H locs → lv_has ls 5 [(0, .ref x0), (1, .int x1), (2, .int x2), (4, .int x4)] → wpX2_areMeshed_64 post (K.2.2 0) J5 x0 x1 x2 x4 z0 z1 X → W p l e (rmh 0 0 0 0) s m ([.ref p0, .int p1, .int p2] : List Value).toArray below meth c H locs 0 0 (MQ below (hQi post K X0 s.heap.size) ([.ref p0, .int p1, .int p2] : List Value).toArray s 0 0 (hA X0 s.heap.size)) (F0 m 64 ls [.int z1, .int z0]) := by
    intro J5 hJ5
    intro x0 x1 x2 x4 z0 z1 X H locs ls hP hS hl hw
    unfold wpX2_areMeshed_64 at hw
    refine lv_ior hF.1 hF.2.1 dX2_areMeshed_64 ?_
    refine lv_topi (fun x3_1 ex3_1 => ?_)
    have hw := hw x3_1 ex3_1
    refine lv_istore_n (lv' := [(3, .int x3_1), (0, .ref x0), (1, .int x1), (2, .int x2), (4, .int x4)]) hF.1 hF.2.1 dX2_areMeshed_65 rfl hl (by decide) rfl (fun ls hl => ?_)
    obtain ⟨x4_2, ex4_2⟩ : ∃ y : Int32, y = x4 + 1 := ⟨_, rfl⟩
    have hw := hw x4_2 ex4_2
    refine lv_iinc (v := x4_2) (lv' := [(4, .int x4_2), (3, .int x3_1), (0, .ref x0), (1, .int x1), (2, .int x2)]) hF.1 hF.2.1 dX2_areMeshed_66 hl (k := 4) rfl (by rw [ex4_2]; rfl) (by decide) rfl (fun ls hl => ?_)
    refine lv_goto (tgt := 5) hF.1 hF.2.1 dX2_areMeshed_69 (by decide) ?_
    exact hJ5 x0 x1 x2 x3_1 x4_2 X _ _ ls hP hS (lv_sub hl [2, 3, 4, 1, 0] rfl) hw
  have T63 : ∀ (J5 : Nat → Int32 → Int32 → Int32 → Int32 → hX → Prop) (hJ5 : ∀ (x0 : Nat) (x1 : Int32) (x2 : Int32) (x3 : Int32) (x4 : Int32) (X : hX) (H : Heap) (locs : List Loc) (ls : Array Slot), hI K X0 s.heap.size X H → va_S (hA X0 s.heap.size) s.heap H locs → lv_has ls 5 [(0, .ref x0), (1, .int x1), (2, .int x2), (3, .int x3), (4, .int x4)] → J5 x0 x1 x2 x3 x4 X → W p l e (rmh 0 0 0 0) s m ([.ref p0, .int p1, .int p2] : List Value).toArray below meth c H locs 0 0 (MQ below (hQi post K X0 s.heap.size) ([.ref p0, .int p1, .int p2] : List Value).toArray s 0 0 (hA X0 s.heap.size)) (F0 m 5 ls [])), ∀ (x0 : Nat) (x1 : Int32) (x2 : Int32) (x4 : Int32) (z0 : Int32) (X : hX) (H : Heap) (locs : List Loc) (ls : Array Slot), hI K X0 s.heap.size X H → va_S (hA X0 s.heap.size) s.heap H locs → lv_has ls 5 [(0, .ref x0), (1, .int x1), (2, .int x2), (4, .int x4)] → wpX2_areMeshed_63 post (K.2.2 0) J5 x0 x1 x2 x4 z0 X → W p l e (rmh 0 0 0 0) s m ([.ref p0, .int p1, .int p2] : List Value).toArray below meth c H locs 0 0 (MQ below (hQi post K X0 s.heap.size) ([.ref p0, .int p1, .int p2] : List Value).toArray s 0 0 (hA X0 s.heap.size)) (F0 m 63 ls [.int z0]) := by
    intro J5 hJ5
    intro x0 x1 x2 x4 z0 X H locs ls hP hS hl hw
    unfold wpX2_areMeshed_63 at hw
    refine lv_iconst (v := 0) hF.1 hF.2.1 dX2_areMeshed_63 (by decide) ?_
    exact T64 _ hJ5 x0 x1 x2 x4 z0 0 X _ _ ls hP hS (lv_sub hl [0, 1, 2, 3] rfl) hw
  have T59 : ∀ (J5 : Nat → Int32 → Int32 → Int32 → Int32 → hX → Prop) (hJ5 : ∀ (x0 : Nat) (x1 : Int32) (x2 : Int32) (x3 : Int32) (x4 : Int32) (X : hX) (H : Heap) (locs : List Loc) (ls : Array Slot), hI K X0 s.heap.size X H → va_S (hA X0 s.heap.size) s.heap H locs → lv_has ls 5 [(0, .ref x0), (1, .int x1), (2, .int x2), (3, .int x3), (4, .int x4)] → J5 x0 x1 x2 x3 x4 X → W p l e (rmh 0 0 0 0) s m ([.ref p0, .int p1, .int p2] : List Value).toArray below meth c H locs 0 0 (MQ below (hQi post K X0 s.heap.size) ([.ref p0, .int p1, .int p2] : List Value).toArray s 0 0 (hA X0 s.heap.size)) (F0 m 5 ls [])), ∀ (x0 : Nat) (x1 : Int32) (x2 : Int32) (x4 : Int32) (z0 : Int32) (X : hX) (H : Heap) (locs : List Loc) (ls : Array Slot), hI K X0 s.heap.size X H → va_S (hA X0 s.heap.size) s.heap H locs → lv_has ls 5 [(0, .ref x0), (1, .int x1), (2, .int x2), (4, .int x4)] → wpX2_areMeshed_59 post (K.2.2 0) J5 x0 x1 x2 x4 z0 X → W p l e (rmh 0 0 0 0) s m ([.ref p0, .int p1, .int p2] : List Value).toArray below meth c H locs 0 0 (MQ below (hQi post K X0 s.heap.size) ([.ref p0, .int p1, .int p2] : List Value).toArray s 0 0 (hA X0 s.heap.size)) (F0 m 59 ls [.int z0]) := by
    intro J5 hJ5
    intro x0 x1 x2 x4 z0 X H locs ls hP hS hl hw
    unfold wpX2_areMeshed_59 at hw
    refine lv_iconst (v := 1) hF.1 hF.2.1 dX2_areMeshed_59 (by decide) ?_
    refine lv_goto (tgt := 64) hF.1 hF.2.1 dX2_areMeshed_60 (by decide) ?_
    exact T64 _ hJ5 x0 x1 x2 x4 z0 1 X _ _ ls hP hS (lv_sub hl [0, 1, 2, 3] rfl) hw
  have T37 : ∀ (J5 : Nat → Int32 → Int32 → Int32 → Int32 → hX → Prop) (hJ5 : ∀ (x0 : Nat) (x1 : Int32) (x2 : Int32) (x3 : Int32) (x4 : Int32) (X : hX) (H : Heap) (locs : List Loc) (ls : Array Slot), hI K X0 s.heap.size X H → va_S (hA X0 s.heap.size) s.heap H locs → lv_has ls 5 [(0, .ref x0), (1, .int x1), (2, .int x2), (3, .int x3), (4, .int x4)] → J5 x0 x1 x2 x3 x4 X → W p l e (rmh 0 0 0 0) s m ([.ref p0, .int p1, .int p2] : List Value).toArray below meth c H locs 0 0 (MQ below (hQi post K X0 s.heap.size) ([.ref p0, .int p1, .int p2] : List Value).toArray s 0 0 (hA X0 s.heap.size)) (F0 m 5 ls [])), ∀ (x0 : Nat) (x1 : Int32) (x2 : Int32) (x4 : Int32) (z0 : Int32) (X : hX) (H : Heap) (locs : List Loc) (ls : Array Slot), hI K X0 s.heap.size X H → va_S (hA X0 s.heap.size) s.heap H locs → lv_has ls 5 [(0, .ref x0), (1, .int x1), (2, .int x2), (4, .int x4)] → wpX2_areMeshed_37 post (K.2.2 0) J5 x0 x1 x2 x4 z0 X → W p l e (rmh 0 0 0 0) s m ([.ref p0, .int p1, .int p2] : List Value).toArray below meth c H locs 0 0 (MQ below (hQi post K X0 s.heap.size) ([.ref p0, .int p1, .int p2] : List Value).toArray s 0 0 (hA X0 s.heap.size)) (F0 m 37 ls [.int z0]) := by
    intro J5 hJ5
    intro x0 x1 x2 x4 z0 X H locs ls hP hS hl hw
    unfold wpX2_areMeshed_37 at hw
    refine lv_aload_n hF.1 hF.2.1 dX2_areMeshed_37 rfl (lv_at hl 0 rfl) ?_
    obtain ⟨fs_3, v_4, hx_5, hv_6, hw⟩ := hw
    refine x_get hF hC hP in_X2 rfl 3 (by decide) q157 (fun _ z => z) hx_5 hv_6 dX2_areMeshed_38 ?_
    refine lv_iload hF.1 hF.2.1 dX2_areMeshed_41 (lv_at hl 3 rfl) ?_
    obtain ⟨n_7, f_8, hx_9, hi_10, hw⟩ := hw
    refine x_iald hF hC hP hx_9 hi_10 dX2_areMeshed_43 ?_
    generalize f_8 (Int32.toNatClampNeg x4) = v_11 at hw ⊢
    refine lv_iload_n hF.1 hF.2.1 dX2_areMeshed_44 rfl (lv_at hl 2 rfl) ?_
    refine lv_icmp_ne (tgt := 63) hF.1 hF.2.1 dX2_areMeshed_45 (by decide) (fun c_12 => ?_) (fun c_12 => ?_)
    · have hw := hw.2 c_12
      exact T63 _ hJ5 x0 x1 x2 x4 z0 X _ _ ls hP hS (lv_sub hl [0, 1, 2, 3] rfl) hw
    · have hw := hw.1 c_12
      refine lv_aload_n hF.1 hF.2.1 dX2_areMeshed_48 rfl (lv_at hl 0 rfl) ?_
      obtain ⟨fs_13, v_14, hx_15, hv_16, hw⟩ := hw
      refine x_get hF hC hP in_X2 rfl 4 (by decide) q160 (fun _ z => z) hx_15 hv_16 dX2_areMeshed_49 ?_
      refine lv_iload hF.1 hF.2.1 dX2_areMeshed_52 (lv_at hl 3 rfl) ?_
      obtain ⟨n_17, f_18, hx_19, hi_20, hw⟩ := hw
      refine x_iald hF hC hP hx_19 hi_20 dX2_areMeshed_54 ?_
      generalize f_18 (Int32.toNatClampNeg x4) = v_21 at hw ⊢
      refine lv_iload_n hF.1 hF.2.1 dX2_areMeshed_55 rfl (lv_at hl 1 rfl) ?_
      refine lv_icmp_ne (tgt := 63) hF.1 hF.2.1 dX2_areMeshed_56 (by decide) (fun c_22 => ?_) (fun c_22 => ?_)
      · have hw := hw.2 c_22
        exact T63 _ hJ5 x0 x1 x2 x4 z0 X _ _ ls hP hS (lv_sub hl [0, 1, 2, 3] rfl) hw
      · have hw := hw.1 c_22
        exact T59 _ hJ5 x0 x1 x2 x4 z0 X _ _ ls hP hS (lv_sub hl [0, 1, 2, 3] rfl) hw
  have T5 : ∀ (n : Nat), ∀ (x0 : Nat) (x1 : Int32) (x2 : Int32) (x3 : Int32) (x4 : Int32) (X : hX) (H : Heap) (locs : List Loc) (ls : Array Slot), hI K X0 s.heap.size X H → va_S (hA X0 s.heap.size) s.heap H locs → lv_has ls 5 [(0, .ref x0), (1, .int x1), (2, .int x2), (3, .int x3), (4, .int x4)] → wpX2_areMeshed_5 post (K.2.2 0) n x0 x1 x2 x3 x4 X → W p l e (rmh 0 0 0 0) s m ([.ref p0, .int p1, .int p2] : List Value).toArray below meth c H locs 0 0 (MQ below (hQi post K X0 s.heap.size) ([.ref p0, .int p1, .int p2] : List Value).toArray s 0 0 (hA X0 s.heap.size)) (F0 m 5 ls []) := by
    intro n
    induction n with
    | zero =>
      intro x0 x1 x2 x3 x4 X H locs ls hP hS hl hw
      exact False.elim hw
    | succ n ih =>
      intro x0 x1 x2 x3 x4 X H locs ls hP hS hl hw
      unfold wpX2_areMeshed_5 at hw
      refine lv_iload hF.1 hF.2.1 dX2_areMeshed_5 (lv_at hl 4 rfl) ?_
      refine lv_aload_n hF.1 hF.2.1 dX2_areMeshed_7 rfl (lv_at hl 0 rfl) ?_
      obtain ⟨fs_23, v_24, hx_25, hv_26, hw⟩ := hw
      refine x_get hF hC hP in_X2 rfl 6 (by decide) q166 (fun _ z => z) hx_25 hv_26 dX2_areMeshed_8 ?_
      refine lv_icmp_ge (tgt := 72) hF.1 hF.2.1 dX2_areMeshed_11 (by decide) (fun c_27 => ?_) (fun c_27 => ?_)
      · have hw := hw.1 c_27
        refine lv_iload_n hF.1 hF.2.1 dX2_areMeshed_72 rfl (lv_at hl 3 rfl) ?_
        obtain ⟨h_28, hw⟩ := hw
        exact h_zret hF hr hlocks hP hS ⟨Nat.le_refl _, Nat.le_refl _⟩ dX2_areMeshed_73 h_28 hw
      · have hw := hw.2 c_27
        refine lv_iload_n hF.1 hF.2.1 dX2_areMeshed_14 rfl (lv_at hl 3 rfl) ?_
        refine lv_aload_n hF.1 hF.2.1 dX2_areMeshed_15 rfl (lv_at hl 0 rfl) ?_
        obtain ⟨fs_29, v_30, hx_31, hv_32, hw⟩ := hw
        refine x_get hF hC hP in_X2 rfl 3 (by decide) q157 (fun _ z => z) hx_31 hv_32 dX2_areMeshed_16 ?_
        refine lv_iload hF.1 hF.2.1 dX2_areMeshed_19 (lv_at hl 4 rfl) ?_
        obtain ⟨n_33, f_34, hx_35, hi_36, hw⟩ := hw
        refine x_iald hF hC hP hx_35 hi_36 dX2_areMeshed_21 ?_
        generalize f_34 (Int32.toNatClampNeg x4) = v_37 at hw ⊢
        refine lv_iload_n hF.1 hF.2.1 dX2_areMeshed_22 rfl (lv_at hl 1 rfl) ?_
        refine lv_icmp_ne (tgt := 37) hF.1 hF.2.1 dX2_areMeshed_23 (by decide) (fun c_38 => ?_) (fun c_38 => ?_)
        · have hw := hw.2 c_38
          exact T37 _ ih x0 x1 x2 x4 x3 X _ _ ls hP hS (lv_sub hl [0, 1, 2, 4] rfl) hw
        · have hw := hw.1 c_38
          refine lv_aload_n hF.1 hF.2.1 dX2_areMeshed_26 rfl (lv_at hl 0 rfl) ?_
          obtain ⟨fs_39, v_40, hx_41, hv_42, hw⟩ := hw
          refine x_get hF hC hP in_X2 rfl 4 (by decide) q160 (fun _ z => z) hx_41 hv_42 dX2_areMeshed_27 ?_
          refine lv_iload hF.1 hF.2.1 dX2_areMeshed_30 (lv_at hl 4 rfl) ?_
          obtain ⟨n_43, f_44, hx_45, hi_46, hw⟩ := hw
          refine x_iald hF hC hP hx_45 hi_46 dX2_areMeshed_32 ?_
          generalize f_44 (Int32.toNatClampNeg x4) = v_47 at hw ⊢
          refine lv_iload_n hF.1 hF.2.1 dX2_areMeshed_33 rfl (lv_at hl 2 rfl) ?_
          refine lv_icmp_eq (tgt := 59) hF.1 hF.2.1 dX2_areMeshed_34 (by decide) (fun c_48 => ?_) (fun c_48 => ?_)
          · have hw := hw.1 c_48
            exact T59 _ ih x0 x1 x2 x4 x3 X _ _ ls hP hS (lv_sub hl [0, 1, 2, 4] rfl) hw
          · have hw := hw.2 c_48
            exact T37 _ ih x0 x1 x2 x4 x3 X _ _ ls hP hS (lv_sub hl [0, 1, 2, 4] rfl) hw
  unfold wpX2_areMeshed at hw
  show W p l e (rmh 0 0 0 0) s m _ below meth c _ _ _ _ _ _
  refine lv_iconst (v := 0) hF.1 hF.2.1 dX2_areMeshed_0 (by decide) ?_
  refine lv_istore_n (lv' := [(3, .int 0), (0, .ref p0), (1, .int p1), (2, .int p2)]) hF.1 hF.2.1 dX2_areMeshed_1 rfl hl (by decide) rfl (fun ls hl => ?_)
  refine lv_iconst (v := 0) hF.1 hF.2.1 dX2_areMeshed_2 (by decide) ?_
  refine lv_istore (lv' := [(4, .int 0), (3, .int 0), (0, .ref p0), (1, .int p1), (2, .int p2)]) hF.1 hF.2.1 dX2_areMeshed_3 hl (by decide) rfl (fun ls hl => ?_)
  obtain ⟨fu, hw⟩ := hw
  exact T5 fu p0 p1 p2 0 0 X0 _ _ ls hP hS (lv_sub hl [2, 3, 4, 1, 0] rfl) hw
def wpX2_addsPair (post : hX → Prop) (E : Nat) (X : hX) (p0 : Nat) (p1 : Int32) (p2 : Int32) : Prop := gfA X p0 2 3 (fun v_2 => gfI X p0 2 6 (fun v_6 => asI X v_2 v_6 p1 (fun X_13 => gfA X_13 p0 2 4 (fun v_15 => gfI X_13 p0 2 6 (fun v_19 => asI X_13 v_15 v_19 p2 (fun X_26 => gfI X_26 p0 2 6 (fun v_28 => pfV X_26 p0 2 6 (.int (v_28 + 1)) (fun X_34 => post X_34))))))))
abbrev wsX2_addsPair : List Cond := ws_ yX2_addsPair cX2_addsPair 3 none
set_option maxHeartbeats 8000000 in
theorem metX2_addsPair (l : Launch) (K : HK) (sz : Nat) (post : hX → Prop) (X0 : hX) (p0 : Nat) (p1 : Int32) (p2 : Int32) : Met l yX2_addsPair wsX2_addsPair (rmh 0 0 0 0) (hPc K X0 sz [.ref p0, .int p1, .int p2] (wpX2_addsPair post (K.2.2 0) X0 p0 p1 p2)) (hQv post K X0 sz) 0 0 (hA X0 sz) := by
  refine Met.ofW (cc := cX2_addsPair) (maxL := 3) (ret := none) (by decide) rfl ?_
  intro p e s m args below meth c s₁ B hml hv
  obtain ⟨rfl, hv⟩ := hv
  obtain ⟨hC, hP, hw⟩ := HC.of hv
  have hsz : s.heap.size = sz := hv.1
  subst hsz
  clear hv
  have hr := B.returns
  have hts := atoms_spec (ws := wsX2_addsPair) B.pre
  have hts : ∀ w ∈ lw_all, w.before _ s = true := fun w h => hts w (List.mem_cons_of_mem _ h)
  have hF : CallFix p m c cX2_addsPair 3 s ([.ref p0, .int p1, .int p2] : List Value).toArray lw_all RX2 := ⟨B.exec, B.bytes, hml, findClass_of_methodNamed B.named, hts⟩
  have hlocks := B.notSynchronized
  have hl := lv_entry ([.ref p0, .int p1, .int p2]) (n := 3) (Nat.le_of_ble_eq_true rfl)
  rw [lg_entry_eq]
  generalize (lg_sl ([.ref p0, .int p1, .int p2]) ++ List.replicate (3 - (lg_sl ([.ref p0, .int p1, .int p2])).length) Slot.unset).toArray = ls at hl ⊢
  have hl : lv_has ls 3 [(0, .ref p0), (1, .int p1), (2, .int p2)] := hl
  have hS : va_S (hA X0 s.heap.size) s.heap s.heap [] := va_S.rf
  unfold wpX2_addsPair at hw
  show W p l e (rmh 0 0 0 0) s m _ below meth c _ _ _ _ _ _
  refine lv_aload_n hF.1 hF.2.1 dX2_addsPair_0 rfl (lv_at hl 0 rfl) ?_
  obtain ⟨fs_1, v_2, hx_3, hv_4, hw⟩ := hw
  refine x_get hF hC hP in_X2 rfl 3 (by decide) q157 (fun _ z => z) hx_3 hv_4 dX2_addsPair_1 ?_
  refine lv_aload_n hF.1 hF.2.1 dX2_addsPair_4 rfl (lv_at hl 0 rfl) ?_
  obtain ⟨fs_5, v_6, hx_7, hv_8, hw⟩ := hw
  refine x_get hF hC hP in_X2 rfl 6 (by decide) q166 (fun _ z => z) hx_7 hv_8 dX2_addsPair_5 ?_
  refine lv_iload_n hF.1 hF.2.1 dX2_addsPair_8 rfl (lv_at hl 1 rfl) ?_
  obtain ⟨n_9, f_10, hx_11, hi_12, hw⟩ := hw
  refine x_iast hF hC hP hS hx_11 hi_12 dX2_addsPair_9 (fun H locs hP hS => ?_)
  generalize hup X0 v_2 (.inl (0, n_9, .inl (upd f_10 (Int32.toNatClampNeg v_6) p1))) = X_13 at hP hw
  refine lv_aload_n hF.1 hF.2.1 dX2_addsPair_10 rfl (lv_at hl 0 rfl) ?_
  obtain ⟨fs_14, v_15, hx_16, hv_17, hw⟩ := hw
  refine x_get hF hC hP in_X2 rfl 4 (by decide) q160 (fun _ z => z) hx_16 hv_17 dX2_addsPair_11 ?_
  refine lv_aload_n hF.1 hF.2.1 dX2_addsPair_14 rfl (lv_at hl 0 rfl) ?_
  obtain ⟨fs_18, v_19, hx_20, hv_21, hw⟩ := hw
  refine x_get hF hC hP in_X2 rfl 6 (by decide) q166 (fun _ z => z) hx_20 hv_21 dX2_addsPair_15 ?_
  refine lv_iload_n hF.1 hF.2.1 dX2_addsPair_18 rfl (lv_at hl 2 rfl) ?_
  obtain ⟨n_22, f_23, hx_24, hi_25, hw⟩ := hw
  refine x_iast hF hC hP hS hx_24 hi_25 dX2_addsPair_19 (fun H locs hP hS => ?_)
  generalize hup X_13 v_15 (.inl (0, n_22, .inl (upd f_23 (Int32.toNatClampNeg v_19) p2))) = X_26 at hP hw
  refine lv_aload_n hF.1 hF.2.1 dX2_addsPair_20 rfl (lv_at hl 0 rfl) ?_
  refine lv_dup hF.1 hF.2.1 dX2_addsPair_21 rfl ?_
  obtain ⟨fs_27, v_28, hx_29, hv_30, hw⟩ := hw
  refine x_get hF hC hP in_X2 rfl 6 (by decide) q166 (fun _ z => z) hx_29 hv_30 dX2_addsPair_22 ?_
  refine lv_iconst (v := 1) hF.1 hF.2.1 dX2_addsPair_25 (by decide) ?_
  refine lv_iadd hF.1 hF.2.1 dX2_addsPair_26 ?_
  obtain ⟨fs_31, hx_32, hl_33, hw⟩ := hw
  refine x_put hF hC hP hS in_X2 rfl tyX2 tyX2_ok nmX2 6 (by decide) q166 (fun _ z => z) rfl rfl rfl hx_32 hl_33 dX2_addsPair_27 (fun H locs hP hS => ?_)
  generalize hup X_26 p0 (.inr (2, fs_31.set 6 (.int (v_28 + 1)))) = X_34 at hP hw
  exact h_vret hF hr hlocks hP hS ⟨Nat.le_refl _, Nat.le_refl _⟩ dX2_addsPair_30 hw
def wpX2_drive (post : Option Nat → hX → Prop) (E : Nat) (mc ms : Nat) (X : hX) (p0 : Nat) : Prop := newO X 3 [.null, .null, .null, .null, .null, .null, .int 0, .int 0, .int 0] 9 0 0 mc ms (fun a_1 X_2 => (∃ mc_5 ms_6 : Nat, (0 + 1) + mc_5 ≤ mc ∧ (0 + 9) + ms_6 ≤ ms ∧ wpX6_init (fun X_4 => post (some a_1) X_4) E mc_5 ms_6 X_2 a_1 p0))
abbrev wsX2_drive : List Cond := ws_ yX2_drive cX2_drive 1 (some (.object "ClockworkOrreries$Drive"))
set_option maxHeartbeats 8000000 in
theorem metX2_drive (l : Launch) (K : HK) (mc ms : Nat) (sz : Nat) (post : Option Nat → hX → Prop) (X0 : hX) (p0 : Nat) : Met l yX2_drive wsX2_drive (rmh 4 103 mc ms) (hPc K X0 sz [.ref p0] (wpX2_drive post (K.2.2 0) mc ms X0 p0)) (hQq post K X0 sz) mc ms (hA X0 sz) := by
  refine Met.ofW (cc := cX2_drive) (maxL := 1) (ret := (some (.object "ClockworkOrreries$Drive"))) (by decide) rfl ?_
  intro p e s m args below meth c s₁ B hml hv
  obtain ⟨rfl, hv⟩ := hv
  obtain ⟨hC, hP, hw⟩ := HC.of hv
  have hsz : s.heap.size = sz := hv.1
  subst hsz
  clear hv
  have hr := B.returns
  have hts := atoms_spec (ws := wsX2_drive) B.pre
  have hts : ∀ w ∈ lw_all, w.before _ s = true := fun w h => hts w (List.mem_cons_of_mem _ h)
  have hF : CallFix p m c cX2_drive 1 s ([.ref p0] : List Value).toArray lw_all RX2 := ⟨B.exec, B.bytes, hml, findClass_of_methodNamed B.named, hts⟩
  have hlocks := B.notSynchronized
  have hl := lv_entry ([.ref p0]) (n := 1) (Nat.le_of_ble_eq_true rfl)
  rw [lg_entry_eq]
  generalize (lg_sl ([.ref p0]) ++ List.replicate (1 - (lg_sl ([.ref p0])).length) Slot.unset).toArray = ls at hl ⊢
  have hl : lv_has ls 1 [(0, .ref p0)] := hl
  have hS : va_S (hA X0 s.heap.size) s.heap s.heap [] := va_S.rf
  unfold wpX2_drive at hw
  show W p l e (rmh 4 103 mc ms) s m _ below meth c _ _ _ _ _ _
  refine x_new hF hC hP hS in_X6 rfl tyX6 tyX6_ok q340 q341 q96 (nfsX6) hw ⟨rfl, rfl⟩ dX2_drive_0 (fun a_1 X_2 H pk_3c pk_3s hw hP hS => ?_)
  refine lv_dup hF.1 hF.2.1 dX2_drive_3 rfl ?_
  refine lv_aload_n hF.1 hF.2.1 dX2_drive_4 rfl (lv_at hl 0 rfl) ?_
  obtain ⟨mc_5, ms_6, hc_7, hs_8, hw⟩ := hw
  refine hk_v (hr_I (As := [.ref p0]) (rest := [.ref a_1]) hF hl.1 hC hP hS (metX6_init l K mc_5 ms_6 _ _ X_2 a_1 p0) (cwI 1 hF.2.2.2.2 (lw_meth q344) rfl rfl rfl (hF.2.2.2.2 _ q96) (hF.2.2.2.2 _ q342) (hF.2.2.2.2 _ q343) rfl (by decide +kernel) ⟨Nat.le_of_ble_eq_true rfl, Nat.le_of_ble_eq_true rfl⟩) hw rfl rfl (Nat.le_of_ble_eq_true rfl) dX2_drive_5 ⟨hc_7, hs_8⟩) hP hS (fun X_4 H locs hw hP hS => ?_)
  exact h_aret (r := (some a_1)) hF hr (Or.inl ⟨_, rfl⟩) hlocks hP hS ⟨hc_7, hs_8⟩ dX2_drive_8 hw
def wpX2_whyMesh (post : Int32 → hX → Prop) (E : Nat) (mc ms : Nat) (X : hX) (p0 : Nat) (p1 : Int32) (p2 : Int32) : Prop := gfA X p0 2 0 (fun v_2 => isO X v_2 8 (wpJ2_get (fun r_5 X_6 => (∃ a_8 : Nat, r_5 = some a_8 ∧ ((∃ fs, X_6 a_8 = some (.inr (5, fs))) ∧ gfI X_6 a_8 5 0 (fun v_12 => gfA X_6 p0 2 0 (fun v_16 => isO X_6 v_16 8 (wpJ2_get (fun r_19 X_20 => (∃ a_22 : Nat, r_19 = some a_22 ∧ ((∃ fs, X_20 a_22 = some (.inr (5, fs))) ∧ gfI X_20 a_22 5 0 (fun v_26 => ((v_12 = v_26 → post 1 X_20) ∧ (¬ v_12 = v_26 → isO X_20 p0 2 (wpX2_areMeshed (fun r_30 X_31 => ((r_30 = 0 → gfI X_31 p0 2 6 (fun v_35 => ((v_35 = 16 → post 3 X_31) ∧ (¬ v_35 = 16 → newO X_31 2 [.null, .null, .null, .null, .null, .int 0, .int 0, .int 0, .int 0] 9 0 0 mc ms (fun a_39 X_40 => (∃ mc_43 ms_44 : Nat, (0 + 1) + mc_43 ≤ mc ∧ (0 + 9) + ms_44 ≤ ms ∧ wpX2_init_2 (fun X_42 => isO X_42 a_39 2 (wpX2_addsPair (fun X_47 => isO X_47 a_39 2 ((∃ mc_52 ms_53 : Nat, ((0 + 1) + mc_43) + mc_52 ≤ mc ∧ ((0 + 9) + ms_44) + ms_53 ≤ ms ∧ wpX2_drive (fun r_49 X_50 => (∃ a_56 : Nat, r_49 = some a_56 ∧ gfI X_50 a_56 3 8 (fun v_59 => ((v_59 = 0 → gfI X_50 a_56 3 7 (fun v_64 => ((v_64 = 0 → post 0 X_50) ∧ (¬ v_64 = 0 → post 5 X_50)))) ∧ (¬ v_59 = 0 → post 4 X_50))))) E mc_52 ms_53 X_47 a_39))) E X_42 a_39 p1 p2)) E mc_43 ms_44 X_40 a_39 p0)))))) ∧ (¬ r_30 = 0 → post 2 X_31))) E X_20 p0 p1 p2))))))) E X_6 v_16 p2)))))) E X v_2 p1))
abbrev wsX2_whyMesh : List Cond := ws_ yX2_whyMesh cX2_whyMesh 5 (some .int)
set_option maxHeartbeats 8000000 in
theorem metX2_whyMesh (l : Launch) (K : HK) (mc ms : Nat) (sz : Nat) (post : Int32 → hX → Prop) (X0 : hX) (p0 : Nat) (p1 : Int32) (p2 : Int32) : Met l yX2_whyMesh wsX2_whyMesh (rmh 8 213 mc ms) (hPc K X0 sz [.ref p0, .int p1, .int p2] (wpX2_whyMesh post (K.2.2 0) mc ms X0 p0 p1 p2)) (hQi post K X0 sz) mc ms (hA X0 sz) := by
  refine Met.ofW (cc := cX2_whyMesh) (maxL := 5) (ret := (some .int)) (by decide) rfl ?_
  intro p e s m args below meth c s₁ B hml hv
  obtain ⟨rfl, hv⟩ := hv
  obtain ⟨hC, hP, hw⟩ := HC.of hv
  have hsz : s.heap.size = sz := hv.1
  subst hsz
  clear hv
  have hr := B.returns
  have hts := atoms_spec (ws := wsX2_whyMesh) B.pre
  have hts : ∀ w ∈ lw_all, w.before _ s = true := fun w h => hts w (List.mem_cons_of_mem _ h)
  have hF : CallFix p m c cX2_whyMesh 5 s ([.ref p0, .int p1, .int p2] : List Value).toArray lw_all RX2 := ⟨B.exec, B.bytes, hml, findClass_of_methodNamed B.named, hts⟩
  have hlocks := B.notSynchronized
  have hl := lv_entry ([.ref p0, .int p1, .int p2]) (n := 5) (Nat.le_of_ble_eq_true rfl)
  rw [lg_entry_eq]
  generalize (lg_sl ([.ref p0, .int p1, .int p2]) ++ List.replicate (5 - (lg_sl ([.ref p0, .int p1, .int p2])).length) Slot.unset).toArray = ls at hl ⊢
  have hl : lv_has ls 5 [(0, .ref p0), (1, .int p1), (2, .int p2)] := hl
  have hS : va_S (hA X0 s.heap.size) s.heap s.heap [] := va_S.rf
  unfold wpX2_whyMesh at hw
  show W p l e (rmh 8 213 mc ms) s m _ below meth c _ _ _ _ _ _
  refine lv_aload_n hF.1 hF.2.1 dX2_whyMesh_0 rfl (lv_at hl 0 rfl) ?_
  obtain ⟨fs_1, v_2, hx_3, hv_4, hw⟩ := hw
  refine x_get hF hC hP in_X2 rfl 0 (by decide) q150 (fun _ z => z) hx_3 hv_4 dX2_whyMesh_1 ?_
  refine lv_iload_n hF.1 hF.2.1 dX2_whyMesh_4 rfl (lv_at hl 1 rfl) ?_
  obtain ⟨ho_7, hw⟩ := hw
  refine hk_q (hr_V (As := [.int p1]) (rest := []) (T := TJ2) (N := 3) (ci := 8) hF hl.1 hC hP hS (metJ2_get l K _ _ X0 v_2 p1) rfl (cwV 1 hF.2.2.2.2 (lw_V q758 q347 q348 q79 q349) rfl rfl rfl (by decide +kernel) ⟨Nat.le_of_ble_eq_true rfl, Nat.le_of_ble_eq_true rfl⟩) ho_7 hw rfl rfl (Nat.le_of_ble_eq_true rfl) dX2_whyMesh_5 ⟨Nat.zero_le _, Nat.zero_le _⟩) hP hS (fun r_5 X_6 H locs hw hP hS => ?_)
  obtain ⟨a_8, e_9, hw⟩ := hw
  subst e_9
  rw [va_rf_some]
  obtain ⟨h_10, hw⟩ := hw
  refine x_cast (T := TX5) (N := 2) (ci := 5) hF hC hP rfl q759 h_10 dX2_whyMesh_8 ?_
  obtain ⟨fs_11, v_12, hx_13, hv_14, hw⟩ := hw
  refine x_getN hF hC hP in_X5 rfl 0 (by decide) q859 (fun _ z => z) hx_13 hv_14 dX2_whyMesh_11 ?_
  refine lv_aload_n hF.1 hF.2.1 dX2_whyMesh_14 rfl (lv_at hl 0 rfl) ?_
  obtain ⟨fs_15, v_16, hx_17, hv_18, hw⟩ := hw
  refine x_get hF hC hP in_X2 rfl 0 (by decide) q150 (fun _ z => z) hx_17 hv_18 dX2_whyMesh_15 ?_
  refine lv_iload_n hF.1 hF.2.1 dX2_whyMesh_18 rfl (lv_at hl 2 rfl) ?_
  obtain ⟨ho_21, hw⟩ := hw
  refine hk_q (hr_V (As := [.int p2]) (rest := [.int v_12]) (T := TJ2) (N := 3) (ci := 8) hF hl.1 hC hP hS (metJ2_get l K _ _ X_6 v_16 p2) rfl (cwV 1 hF.2.2.2.2 (lw_V q758 q347 q348 q79 q349) rfl rfl rfl (by decide +kernel) ⟨Nat.le_of_ble_eq_true rfl, Nat.le_of_ble_eq_true rfl⟩) ho_21 hw rfl rfl (Nat.le_of_ble_eq_true rfl) dX2_whyMesh_19 ⟨Nat.zero_le _, Nat.zero_le _⟩) hP hS (fun r_19 X_20 H locs hw hP hS => ?_)
  obtain ⟨a_22, e_23, hw⟩ := hw
  subst e_23
  rw [va_rf_some]
  obtain ⟨h_24, hw⟩ := hw
  refine x_cast (T := TX5) (N := 2) (ci := 5) hF hC hP rfl q759 h_24 dX2_whyMesh_22 ?_
  obtain ⟨fs_25, v_26, hx_27, hv_28, hw⟩ := hw
  refine x_getN hF hC hP in_X5 rfl 0 (by decide) q859 (fun _ z => z) hx_27 hv_28 dX2_whyMesh_25 ?_
  refine lv_icmp_ne (tgt := 33) hF.1 hF.2.1 dX2_whyMesh_28 (by decide) (fun c_29 => ?_) (fun c_29 => ?_)
  · have hw := hw.2 c_29
    refine lv_aload_n hF.1 hF.2.1 dX2_whyMesh_33 rfl (lv_at hl 0 rfl) ?_
    refine lv_iload_n hF.1 hF.2.1 dX2_whyMesh_34 rfl (lv_at hl 1 rfl) ?_
    refine lv_iload_n hF.1 hF.2.1 dX2_whyMesh_35 rfl (lv_at hl 2 rfl) ?_
    obtain ⟨ho_32, hw⟩ := hw
    refine hk_i (hr_V (As := [.int p1, .int p2]) (rest := []) (T := TX2) (N := 9) (ci := 2) hF hl.1 hC hP hS (metX2_areMeshed l K _ _ X_20 p0 p1 p2) rfl (cwV 2 hF.2.2.2.2 (lw_V q886 q888 qs6 q76 q889) rfl rfl rfl (by decide +kernel) ⟨Nat.le_of_ble_eq_true rfl, Nat.le_of_ble_eq_true rfl⟩) ho_32 hw rfl rfl (Nat.le_of_ble_eq_true rfl) dX2_whyMesh_36 ⟨Nat.zero_le _, Nat.zero_le _⟩) hP hS (fun r_30 X_31 H locs hw hP hS => ?_)
    refine lv_if_eq (tgt := 44) hF.1 hF.2.1 dX2_whyMesh_39 (by decide) (fun c_33 => ?_) (fun c_33 => ?_)
    · have hw := hw.1 c_33
      refine lv_aload_n hF.1 hF.2.1 dX2_whyMesh_44 rfl (lv_at hl 0 rfl) ?_
      obtain ⟨fs_34, v_35, hx_36, hv_37, hw⟩ := hw
      refine x_get hF hC hP in_X2 rfl 6 (by decide) q166 (fun _ z => z) hx_36 hv_37 dX2_whyMesh_45 ?_
      refine lv_bipush (v := 16) hF.1 hF.2.1 dX2_whyMesh_48 (by decide) ?_
      refine lv_icmp_ne (tgt := 55) hF.1 hF.2.1 dX2_whyMesh_50 (by decide) (fun c_38 => ?_) (fun c_38 => ?_)
      · have hw := hw.2 c_38
        refine x_new hF hC hP hS in_X2 rfl tyX2 tyX2_ok q890 q119 q76 (nfsX2) hw ⟨rfl, rfl⟩ dX2_whyMesh_55 (fun a_39 X_40 H pk_41c pk_41s hw hP hS => ?_)
        refine lv_dup hF.1 hF.2.1 dX2_whyMesh_58 rfl ?_
        refine lv_aload_n hF.1 hF.2.1 dX2_whyMesh_59 rfl (lv_at hl 0 rfl) ?_
        obtain ⟨mc_43, ms_44, hc_45, hs_46, hw⟩ := hw
        refine hk_v (hr_I (As := [.ref p0]) (rest := [.ref a_39]) hF hl.1 hC hP hS (metX2_init_2 l K mc_43 ms_44 _ _ X_40 a_39 p0) (cwI 1 hF.2.2.2.2 (lw_meth q751) rfl rfl rfl (hF.2.2.2.2 _ q76) (hF.2.2.2.2 _ q891) (hF.2.2.2.2 _ q750) rfl (by decide +kernel) ⟨Nat.le_of_ble_eq_true rfl, Nat.le_of_ble_eq_true rfl⟩) hw rfl rfl (Nat.le_of_ble_eq_true rfl) dX2_whyMesh_60 ⟨hc_45, hs_46⟩) hP hS (fun X_42 H locs hw hP hS => ?_)
        refine lv_astore_n (lv' := [(3, .ref a_39), (0, .ref p0), (1, .int p1), (2, .int p2)]) hF.1 hF.2.1 dX2_whyMesh_63 rfl hl (by decide) rfl (fun ls hl => ?_)
        refine lv_aload_n hF.1 hF.2.1 dX2_whyMesh_64 rfl (lv_at hl 0 rfl) ?_
        refine lv_iload_n hF.1 hF.2.1 dX2_whyMesh_65 rfl (lv_at hl 2 rfl) ?_
        refine lv_iload_n hF.1 hF.2.1 dX2_whyMesh_66 rfl (lv_at hl 3 rfl) ?_
        obtain ⟨ho_48, hw⟩ := hw
        refine hk_v (hr_V (As := [.int p1, .int p2]) (rest := []) (T := TX2) (N := 9) (ci := 2) hF hl.1 hC hP hS (metX2_addsPair l K _ _ X_42 a_39 p1 p2) rfl (cwV 2 hF.2.2.2.2 (lw_V q892 q894 qs7 q76 q895) rfl rfl rfl (by decide +kernel) ⟨Nat.le_of_ble_eq_true rfl, Nat.le_of_ble_eq_true rfl⟩) ho_48 hw rfl rfl (Nat.le_of_ble_eq_true rfl) dX2_whyMesh_67 ⟨hc_45, hs_46⟩) hP hS (fun X_47 H locs hw hP hS => ?_)
        refine lv_aload_n hF.1 hF.2.1 dX2_whyMesh_70 rfl (lv_at hl 0 rfl) ?_
        obtain ⟨ho_51, hw⟩ := hw
        obtain ⟨mc_52, ms_53, hc_54, hs_55, hw⟩ := hw
        refine hk_q (hr_V (As := []) (rest := []) (T := TX2) (N := 9) (ci := 2) hF hl.1 hC hP hS (metX2_drive l K mc_52 ms_53 _ _ X_47 a_39) rfl (cwV 0 hF.2.2.2.2 (lw_V q896 q337 q338 q76 q339) rfl rfl rfl (by decide +kernel) ⟨Nat.le_of_ble_eq_true rfl, Nat.le_of_ble_eq_true rfl⟩) ho_51 hw rfl rfl (Nat.le_of_ble_eq_true rfl) dX2_whyMesh_71 ⟨hc_54, hs_55⟩) hP hS (fun r_49 X_50 H locs hw hP hS => ?_)
        obtain ⟨a_56, e_57, hw⟩ := hw
        subst e_57
        rw [va_rf_some]
        refine lv_astore (lv' := [(4, .ref a_56), (3, .ref a_39), (0, .ref p0), (1, .int p1), (2, .int p2)]) hF.1 hF.2.1 dX2_whyMesh_74 hl (by decide) rfl (fun ls hl => ?_)
        refine lv_aload hF.1 hF.2.1 dX2_whyMesh_76 (lv_at hl 0 rfl) ?_
        obtain ⟨fs_58, v_59, hx_60, hv_61, hw⟩ := hw
        refine x_getN hF hC hP in_X6 rfl 8 (by decide) q394 (fun _ z => z) hx_60 hv_61 dX2_whyMesh_78 ?_
        refine lv_if_eq (tgt := 88) hF.1 hF.2.1 dX2_whyMesh_81 (by decide) (fun c_62 => ?_) (fun c_62 => ?_)
        · have hw := hw.1 c_62
          refine lv_aload hF.1 hF.2.1 dX2_whyMesh_88 (lv_at hl 0 rfl) ?_
          obtain ⟨fs_63, v_64, hx_65, hv_66, hw⟩ := hw
          refine x_getN hF hC hP in_X6 rfl 7 (by decide) q392 (fun _ z => z) hx_65 hv_66 dX2_whyMesh_90 ?_
          refine lv_if_eq (tgt := 100) hF.1 hF.2.1 dX2_whyMesh_93 (by decide) (fun c_67 => ?_) (fun c_67 => ?_)
          · have hw := hw.1 c_67
            refine lv_iconst (v := 0) hF.1 hF.2.1 dX2_whyMesh_100 (by decide) ?_
            exact h_iret hF hr hlocks hP hS ⟨hc_54, hs_55⟩ dX2_whyMesh_101 hw
          · have hw := hw.2 c_67
            refine lv_iconst (v := 5) hF.1 hF.2.1 dX2_whyMesh_96 (by decide) ?_
            refine lv_goto (tgt := 101) hF.1 hF.2.1 dX2_whyMesh_97 (by decide) ?_
            exact h_iret hF hr hlocks hP hS ⟨hc_54, hs_55⟩ dX2_whyMesh_101 hw
        · have hw := hw.2 c_62
          refine lv_iconst (v := 4) hF.1 hF.2.1 dX2_whyMesh_84 (by decide) ?_
          refine lv_goto (tgt := 101) hF.1 hF.2.1 dX2_whyMesh_85 (by decide) ?_
          exact h_iret hF hr hlocks hP hS ⟨hc_54, hs_55⟩ dX2_whyMesh_101 hw
      · have hw := hw.1 c_38
        refine lv_iconst (v := 3) hF.1 hF.2.1 dX2_whyMesh_53 (by decide) ?_
        exact h_iret hF hr hlocks hP hS ⟨Nat.zero_le _, Nat.zero_le _⟩ dX2_whyMesh_54 hw
    · have hw := hw.2 c_33
      refine lv_iconst (v := 2) hF.1 hF.2.1 dX2_whyMesh_42 (by decide) ?_
      exact h_iret hF hr hlocks hP hS ⟨Nat.zero_le _, Nat.zero_le _⟩ dX2_whyMesh_43 hw
  · have hw := hw.1 c_29
    refine lv_iconst (v := 1) hF.1 hF.2.1 dX2_whyMesh_31 (by decide) ?_
    exact h_iret hF hr hlocks hP hS ⟨Nat.zero_le _, Nat.zero_le _⟩ dX2_whyMesh_32 hw
def wpX2_armAngle (post : Int32 → hX → Prop) (E : Nat) (X : hX) (p0 : Nat) (p1 : Int32) (p2 : Nat) (p3 : Int32) : Prop := gfA X p0 2 1 (fun v_2 => isO X v_2 8 (wpJ2_get (fun r_5 X_6 => (∃ a_8 : Nat, r_5 = some a_8 ∧ ((∃ fs, X_6 a_8 = some (.inr (6, fs))) ∧ gfA X_6 p2 3 0 (fun v_12 => gfI X_6 a_8 6 0 (fun v_16 => alJ X_6 v_12 v_16 (fun v_23 => gfA X_6 p2 3 1 (fun v_25 => gfI X_6 a_8 6 0 (fun v_29 => alJ X_6 v_25 v_29 (fun v_36 => wpX1_angle (fun r_37 => gfI X_6 a_8 6 1 (fun v_39 => wpX1_around (fun r_42 => post r_42 X_6) (Int32.toInt64 (r_37 + (60 * v_39))))) (Int32.toInt64 p3) v_23 v_36))))))))) E X v_2 p1))
abbrev wsX2_armAngle : List Cond := ws_ yX2_armAngle cX2_armAngle 6 (some .int)
set_option maxHeartbeats 8000000 in
theorem metX2_armAngle (l : Launch) (K : HK) (sz : Nat) (post : Int32 → hX → Prop) (X0 : hX) (p0 : Nat) (p1 : Int32) (p2 : Nat) (p3 : Int32) : Met l yX2_armAngle wsX2_armAngle (rmh 3 64 0 0) (hPc K X0 sz [.ref p0, .int p1, .ref p2, .int p3] (wpX2_armAngle post (K.2.2 0) X0 p0 p1 p2 p3)) (hQi post K X0 sz) 0 0 (hA X0 sz) := by
  refine Met.ofW (cc := cX2_armAngle) (maxL := 6) (ret := (some .int)) (by decide) rfl ?_
  intro p e s m args below meth c s₁ B hml hv
  obtain ⟨rfl, hv⟩ := hv
  obtain ⟨hC, hP, hw⟩ := HC.of hv
  have hsz : s.heap.size = sz := hv.1
  subst hsz
  clear hv
  have hr := B.returns
  have hts := atoms_spec (ws := wsX2_armAngle) B.pre
  have hts : ∀ w ∈ lw_all, w.before _ s = true := fun w h => hts w (List.mem_cons_of_mem _ h)
  have hF : CallFix p m c cX2_armAngle 6 s ([.ref p0, .int p1, .ref p2, .int p3] : List Value).toArray lw_all RX2 := ⟨B.exec, B.bytes, hml, findClass_of_methodNamed B.named, hts⟩
  have hlocks := B.notSynchronized
  have hl := lv_entry ([.ref p0, .int p1, .ref p2, .int p3]) (n := 6) (Nat.le_of_ble_eq_true rfl)
  rw [lg_entry_eq]
  generalize (lg_sl ([.ref p0, .int p1, .ref p2, .int p3]) ++ List.replicate (6 - (lg_sl ([.ref p0, .int p1, .ref p2, .int p3])).length) Slot.unset).toArray = ls at hl ⊢
  have hl : lv_has ls 6 [(0, .ref p0), (1, .int p1), (2, .ref p2), (3, .int p3)] := hl
  have hS : va_S (hA X0 s.heap.size) s.heap s.heap [] := va_S.rf
  unfold wpX2_armAngle at hw
  show W p l e (rmh 3 64 0 0) s m _ below meth c _ _ _ _ _ _
  refine lv_aload_n hF.1 hF.2.1 dX2_armAngle_0 rfl (lv_at hl 0 rfl) ?_
  obtain ⟨fs_1, v_2, hx_3, hv_4, hw⟩ := hw
  refine x_get hF hC hP in_X2 rfl 1 (by decide) q153 (fun _ z => z) hx_3 hv_4 dX2_armAngle_1 ?_
  refine lv_iload_n hF.1 hF.2.1 dX2_armAngle_4 rfl (lv_at hl 1 rfl) ?_
  obtain ⟨ho_7, hw⟩ := hw
  refine hk_q (hr_V (As := [.int p1]) (rest := []) (T := TJ2) (N := 3) (ci := 8) hF hl.1 hC hP hS (metJ2_get l K _ _ X0 v_2 p1) rfl (cwV 1 hF.2.2.2.2 (lw_V q758 q347 q348 q79 q349) rfl rfl rfl (by decide +kernel) ⟨Nat.le_of_ble_eq_true rfl, Nat.le_of_ble_eq_true rfl⟩) ho_7 hw rfl rfl (Nat.le_of_ble_eq_true rfl) dX2_armAngle_5 ⟨Nat.le_refl _, Nat.le_refl _⟩) hP hS (fun r_5 X_6 H locs hw hP hS => ?_)
  obtain ⟨a_8, e_9, hw⟩ := hw
  subst e_9
  rw [va_rf_some]
  obtain ⟨h_10, hw⟩ := hw
  refine x_cast (T := TX7) (N := 3) (ci := 6) hF hC hP rfl q807 h_10 dX2_armAngle_8 ?_
  refine lv_astore (lv' := [(4, .ref a_8), (0, .ref p0), (1, .int p1), (2, .ref p2), (3, .int p3)]) hF.1 hF.2.1 dX2_armAngle_11 hl (by decide) rfl (fun ls hl => ?_)
  refine lv_iload_n hF.1 hF.2.1 dX2_armAngle_13 rfl (lv_at hl 4 rfl) ?_
  refine lv_i2l hF.1 hF.2.1 dX2_armAngle_14 rfl ?_
  refine lv_aload_n hF.1 hF.2.1 dX2_armAngle_15 rfl (lv_at hl 3 rfl) ?_
  obtain ⟨fs_11, v_12, hx_13, hv_14, hw⟩ := hw
  refine x_getN hF hC hP in_X6 rfl 0 (by decide) q376 (fun _ z => z) hx_13 hv_14 dX2_armAngle_16 ?_
  refine lv_aload hF.1 hF.2.1 dX2_armAngle_19 (lv_at hl 0 rfl) ?_
  obtain ⟨fs_15, v_16, hx_17, hv_18, hw⟩ := hw
  refine x_getN hF hC hP in_X7 rfl 0 (by decide) q921 (fun _ z => z) hx_17 hv_18 dX2_armAngle_21 ?_
  obtain ⟨n_19, f_20, hx_21, hi_22, hw⟩ := hw
  refine x_lald hF hC hP hx_21 hi_22 dX2_armAngle_24 ?_
  generalize f_20 (Int32.toNatClampNeg v_16) = v_23 at hw ⊢
  refine lv_aload_n hF.1 hF.2.1 dX2_armAngle_25 rfl (lv_at hl 3 rfl) ?_
  obtain ⟨fs_24, v_25, hx_26, hv_27, hw⟩ := hw
  refine x_getN hF hC hP in_X6 rfl 1 (by decide) q379 (fun _ z => z) hx_26 hv_27 dX2_armAngle_26 ?_
  refine lv_aload hF.1 hF.2.1 dX2_armAngle_29 (lv_at hl 0 rfl) ?_
  obtain ⟨fs_28, v_29, hx_30, hv_31, hw⟩ := hw
  refine x_getN hF hC hP in_X7 rfl 0 (by decide) q921 (fun _ z => z) hx_30 hv_31 dX2_armAngle_31 ?_
  obtain ⟨n_32, f_33, hx_34, hi_35, hw⟩ := hw
  refine x_lald hF hC hP hx_34 hi_35 dX2_armAngle_34 ?_
  generalize f_33 (Int32.toNatClampNeg v_29) = v_36 at hw ⊢
  refine hp_i (hrp_SN (As := [.long (Int32.toInt64 p3), .long v_23, .long v_36]) (rest := []) hF hl.1 (metX1_angle l _ (Int32.toInt64 p3) v_23 v_36) (va_cnB 3 hF.2.2.2.2 (lw_meth q1288) rfl rfl rfl (hC.2.2.1.2.2.2.2.2.1 _ q1286 rfl) (hF.2.2.2.2 _ q75) (by decide +kernel) ⟨Nat.le_of_ble_eq_true rfl, Nat.le_of_ble_eq_true rfl⟩) q1287 hw rfl rfl (Nat.le_of_ble_eq_true rfl) dX2_armAngle_35 ⟨Nat.le_refl _, Nat.le_refl _⟩) (fun r_37 hw => ?_)
  refine lv_istore (lv' := [(5, .int r_37), (4, .ref a_8), (0, .ref p0), (1, .int p1), (2, .ref p2), (3, .int p3)]) hF.1 hF.2.1 dX2_armAngle_38 hl (by decide) rfl (fun ls hl => ?_)
  refine lv_iload hF.1 hF.2.1 dX2_armAngle_40 (lv_at hl 0 rfl) ?_
  refine lv_bipush (v := 60) hF.1 hF.2.1 dX2_armAngle_42 (by decide) ?_
  refine lv_aload hF.1 hF.2.1 dX2_armAngle_44 (lv_at hl 1 rfl) ?_
  obtain ⟨fs_38, v_39, hx_40, hv_41, hw⟩ := hw
  refine x_getN hF hC hP in_X7 rfl 1 (by decide) q924 (fun _ z => z) hx_40 hv_41 dX2_armAngle_46 ?_
  refine lv_imul hF.1 hF.2.1 dX2_armAngle_49 ?_
  refine lv_iadd hF.1 hF.2.1 dX2_armAngle_50 ?_
  refine lv_i2l hF.1 hF.2.1 dX2_armAngle_51 rfl ?_
  refine hp_i (hrp_SN (As := [.long (Int32.toInt64 (r_37 + (60 * v_39)))]) (rest := []) hF hl.1 (metX1_around l _ (Int32.toInt64 (r_37 + (60 * v_39)))) (va_cnB 1 hF.2.2.2.2 (lw_meth q1295) rfl rfl rfl (hC.2.2.1.2.2.2.2.2.1 _ q1296 rfl) (hF.2.2.2.2 _ q75) (by decide +kernel) ⟨Nat.le_of_ble_eq_true rfl, Nat.le_of_ble_eq_true rfl⟩) q1294 hw rfl rfl (Nat.le_of_ble_eq_true rfl) dX2_armAngle_52 ⟨Nat.le_refl _, Nat.le_refl _⟩) (fun r_42 hw => ?_)
  exact h_iret hF hr hlocks hP hS ⟨Nat.le_refl _, Nat.le_refl _⟩ dX2_armAngle_55 hw
def wpX2_armAngleByTeeth (post : Int32 → hX → Prop) (E : Nat) (X : hX) (p0 : Nat) (p1 : Int32) (p2 : Nat) : Prop := gfA X p0 2 1 (fun v_2 => isO X v_2 8 (wpJ2_get (fun r_5 X_6 => (∃ a_8 : Nat, r_5 = some a_8 ∧ ((∃ fs, X_6 a_8 = some (.inr (6, fs))) ∧ gfI X_6 p0 2 7 (fun v_12 => gfA X_6 p2 3 2 (fun v_16 => gfI X_6 a_8 6 0 (fun v_20 => alJ X_6 v_16 v_20 (fun v_27 => gfA X_6 p2 3 3 (fun v_29 => gfI X_6 a_8 6 0 (fun v_33 => alJ X_6 v_29 v_33 (fun v_40 => wpX1_angle (fun r_41 => gfI X_6 a_8 6 1 (fun v_43 => wpX1_around (fun r_46 => post r_46 X_6) (Int32.toInt64 (r_41 + (60 * v_43))))) (Int32.toInt64 v_12) v_27 v_40)))))))))) E X v_2 p1))
abbrev wsX2_armAngleByTeeth : List Cond := ws_ yX2_armAngleByTeeth cX2_armAngleByTeeth 5 (some .int)
set_option maxHeartbeats 8000000 in
theorem metX2_armAngleByTeeth (l : Launch) (K : HK) (sz : Nat) (post : Int32 → hX → Prop) (X0 : hX) (p0 : Nat) (p1 : Int32) (p2 : Nat) : Met l yX2_armAngleByTeeth wsX2_armAngleByTeeth (rmh 3 64 0 0) (hPc K X0 sz [.ref p0, .int p1, .ref p2] (wpX2_armAngleByTeeth post (K.2.2 0) X0 p0 p1 p2)) (hQi post K X0 sz) 0 0 (hA X0 sz) := by
  refine Met.ofW (cc := cX2_armAngleByTeeth) (maxL := 5) (ret := (some .int)) (by decide) rfl ?_
  intro p e s m args below meth c s₁ B hml hv
  obtain ⟨rfl, hv⟩ := hv
  obtain ⟨hC, hP, hw⟩ := HC.of hv
  have hsz : s.heap.size = sz := hv.1
  subst hsz
  clear hv
  have hr := B.returns
  have hts := atoms_spec (ws := wsX2_armAngleByTeeth) B.pre
  have hts : ∀ w ∈ lw_all, w.before _ s = true := fun w h => hts w (List.mem_cons_of_mem _ h)
  have hF : CallFix p m c cX2_armAngleByTeeth 5 s ([.ref p0, .int p1, .ref p2] : List Value).toArray lw_all RX2 := ⟨B.exec, B.bytes, hml, findClass_of_methodNamed B.named, hts⟩
  have hlocks := B.notSynchronized
  have hl := lv_entry ([.ref p0, .int p1, .ref p2]) (n := 5) (Nat.le_of_ble_eq_true rfl)
  rw [lg_entry_eq]
  generalize (lg_sl ([.ref p0, .int p1, .ref p2]) ++ List.replicate (5 - (lg_sl ([.ref p0, .int p1, .ref p2])).length) Slot.unset).toArray = ls at hl ⊢
  have hl : lv_has ls 5 [(0, .ref p0), (1, .int p1), (2, .ref p2)] := hl
  have hS : va_S (hA X0 s.heap.size) s.heap s.heap [] := va_S.rf
  unfold wpX2_armAngleByTeeth at hw
  show W p l e (rmh 3 64 0 0) s m _ below meth c _ _ _ _ _ _
  refine lv_aload_n hF.1 hF.2.1 dX2_armAngleByTeeth_0 rfl (lv_at hl 0 rfl) ?_
  obtain ⟨fs_1, v_2, hx_3, hv_4, hw⟩ := hw
  refine x_get hF hC hP in_X2 rfl 1 (by decide) q153 (fun _ z => z) hx_3 hv_4 dX2_armAngleByTeeth_1 ?_
  refine lv_iload_n hF.1 hF.2.1 dX2_armAngleByTeeth_4 rfl (lv_at hl 1 rfl) ?_
  obtain ⟨ho_7, hw⟩ := hw
  refine hk_q (hr_V (As := [.int p1]) (rest := []) (T := TJ2) (N := 3) (ci := 8) hF hl.1 hC hP hS (metJ2_get l K _ _ X0 v_2 p1) rfl (cwV 1 hF.2.2.2.2 (lw_V q758 q347 q348 q79 q349) rfl rfl rfl (by decide +kernel) ⟨Nat.le_of_ble_eq_true rfl, Nat.le_of_ble_eq_true rfl⟩) ho_7 hw rfl rfl (Nat.le_of_ble_eq_true rfl) dX2_armAngleByTeeth_5 ⟨Nat.le_refl _, Nat.le_refl _⟩) hP hS (fun r_5 X_6 H locs hw hP hS => ?_)
  obtain ⟨a_8, e_9, hw⟩ := hw
  subst e_9
  rw [va_rf_some]
  obtain ⟨h_10, hw⟩ := hw
  refine x_cast (T := TX7) (N := 3) (ci := 6) hF hC hP rfl q807 h_10 dX2_armAngleByTeeth_8 ?_
  refine lv_astore_n (lv' := [(3, .ref a_8), (0, .ref p0), (1, .int p1), (2, .ref p2)]) hF.1 hF.2.1 dX2_armAngleByTeeth_11 rfl hl (by decide) rfl (fun ls hl => ?_)
  refine lv_aload_n hF.1 hF.2.1 dX2_armAngleByTeeth_12 rfl (lv_at hl 1 rfl) ?_
  obtain ⟨fs_11, v_12, hx_13, hv_14, hw⟩ := hw
  refine x_get hF hC hP in_X2 rfl 7 (by decide) q168 (fun _ z => z) hx_13 hv_14 dX2_armAngleByTeeth_13 ?_
  refine lv_i2l hF.1 hF.2.1 dX2_armAngleByTeeth_16 rfl ?_
  refine lv_aload_n hF.1 hF.2.1 dX2_armAngleByTeeth_17 rfl (lv_at hl 3 rfl) ?_
  obtain ⟨fs_15, v_16, hx_17, hv_18, hw⟩ := hw
  refine x_getN hF hC hP in_X6 rfl 2 (by decide) q382 (fun _ z => z) hx_17 hv_18 dX2_armAngleByTeeth_18 ?_
  refine lv_aload_n hF.1 hF.2.1 dX2_armAngleByTeeth_21 rfl (lv_at hl 0 rfl) ?_
  obtain ⟨fs_19, v_20, hx_21, hv_22, hw⟩ := hw
  refine x_getN hF hC hP in_X7 rfl 0 (by decide) q921 (fun _ z => z) hx_21 hv_22 dX2_armAngleByTeeth_22 ?_
  obtain ⟨n_23, f_24, hx_25, hi_26, hw⟩ := hw
  refine x_lald hF hC hP hx_25 hi_26 dX2_armAngleByTeeth_25 ?_
  generalize f_24 (Int32.toNatClampNeg v_20) = v_27 at hw ⊢
  refine lv_aload_n hF.1 hF.2.1 dX2_armAngleByTeeth_26 rfl (lv_at hl 3 rfl) ?_
  obtain ⟨fs_28, v_29, hx_30, hv_31, hw⟩ := hw
  refine x_getN hF hC hP in_X6 rfl 3 (by decide) q384 (fun _ z => z) hx_30 hv_31 dX2_armAngleByTeeth_27 ?_
  refine lv_aload_n hF.1 hF.2.1 dX2_armAngleByTeeth_30 rfl (lv_at hl 0 rfl) ?_
  obtain ⟨fs_32, v_33, hx_34, hv_35, hw⟩ := hw
  refine x_getN hF hC hP in_X7 rfl 0 (by decide) q921 (fun _ z => z) hx_34 hv_35 dX2_armAngleByTeeth_31 ?_
  obtain ⟨n_36, f_37, hx_38, hi_39, hw⟩ := hw
  refine x_lald hF hC hP hx_38 hi_39 dX2_armAngleByTeeth_34 ?_
  generalize f_37 (Int32.toNatClampNeg v_33) = v_40 at hw ⊢
  refine hp_i (hrp_SN (As := [.long (Int32.toInt64 v_12), .long v_27, .long v_40]) (rest := []) hF hl.1 (metX1_angle l _ (Int32.toInt64 v_12) v_27 v_40) (va_cnB 3 hF.2.2.2.2 (lw_meth q1288) rfl rfl rfl (hC.2.2.1.2.2.2.2.2.1 _ q1286 rfl) (hF.2.2.2.2 _ q75) (by decide +kernel) ⟨Nat.le_of_ble_eq_true rfl, Nat.le_of_ble_eq_true rfl⟩) q1287 hw rfl rfl (Nat.le_of_ble_eq_true rfl) dX2_armAngleByTeeth_35 ⟨Nat.le_refl _, Nat.le_refl _⟩) (fun r_41 hw => ?_)
  refine lv_istore (lv' := [(4, .int r_41), (3, .ref a_8), (0, .ref p0), (1, .int p1), (2, .ref p2)]) hF.1 hF.2.1 dX2_armAngleByTeeth_38 hl (by decide) rfl (fun ls hl => ?_)
  refine lv_iload hF.1 hF.2.1 dX2_armAngleByTeeth_40 (lv_at hl 0 rfl) ?_
  refine lv_bipush (v := 60) hF.1 hF.2.1 dX2_armAngleByTeeth_42 (by decide) ?_
  refine lv_aload_n hF.1 hF.2.1 dX2_armAngleByTeeth_44 rfl (lv_at hl 1 rfl) ?_
  obtain ⟨fs_42, v_43, hx_44, hv_45, hw⟩ := hw
  refine x_getN hF hC hP in_X7 rfl 1 (by decide) q924 (fun _ z => z) hx_44 hv_45 dX2_armAngleByTeeth_45 ?_
  refine lv_imul hF.1 hF.2.1 dX2_armAngleByTeeth_48 ?_
  refine lv_iadd hF.1 hF.2.1 dX2_armAngleByTeeth_49 ?_
  refine lv_i2l hF.1 hF.2.1 dX2_armAngleByTeeth_50 rfl ?_
  refine hp_i (hrp_SN (As := [.long (Int32.toInt64 (r_41 + (60 * v_43)))]) (rest := []) hF hl.1 (metX1_around l _ (Int32.toInt64 (r_41 + (60 * v_43)))) (va_cnB 1 hF.2.2.2.2 (lw_meth q1295) rfl rfl rfl (hC.2.2.1.2.2.2.2.2.1 _ q1296 rfl) (hF.2.2.2.2 _ q75) (by decide +kernel) ⟨Nat.le_of_ble_eq_true rfl, Nat.le_of_ble_eq_true rfl⟩) q1294 hw rfl rfl (Nat.le_of_ble_eq_true rfl) dX2_armAngleByTeeth_51 ⟨Nat.le_refl _, Nat.le_refl _⟩) (fun r_46 hw => ?_)
  exact h_iret hF hr hlocks hP hS ⟨Nat.le_refl _, Nat.le_refl _⟩ dX2_armAngleByTeeth_54 hw
def wpX2_moonAngleOf (post : Int32 → hX → Prop) (E : Nat) (X : hX) (p0 : Nat) (p1 : Int32) (p2 : Nat) : Prop := gfA X p0 2 2 (fun v_2 => isO X v_2 8 (wpJ2_get (fun r_5 X_6 => (∃ a_8 : Nat, r_5 = some a_8 ∧ ((∃ fs, X_6 a_8 = some (.inr (7, fs))) ∧ gfI X_6 a_8 7 1 (fun v_12 => gfA X_6 p0 2 1 (fun v_16 => gfA X_6 p0 2 2 (fun v_20 => isO X_6 v_20 8 (wpJ2_get (fun r_23 X_24 => (∃ a_26 : Nat, r_23 = some a_26 ∧ ((∃ fs, X_24 a_26 = some (.inr (7, fs))) ∧ gfI X_24 a_26 7 0 (fun v_30 => isO X_24 v_16 8 (wpJ2_get (fun r_33 X_34 => (∃ a_36 : Nat, r_33 = some a_36 ∧ ((∃ fs, X_34 a_36 = some (.inr (6, fs))) ∧ gfI X_34 a_36 6 0 (fun v_40 => gfI X_34 p0 2 7 (fun v_44 => gfA X_34 p2 3 0 (fun v_48 => alJ X_34 v_48 v_12 (fun v_55 => gfA X_34 p2 3 1 (fun v_57 => alJ X_34 v_57 v_12 (fun v_64 => wpX1_angle (fun r_65 => gfI X_34 p0 2 7 (fun v_67 => gfA X_34 p2 3 0 (fun v_71 => alJ X_34 v_71 v_40 (fun v_78 => gfA X_34 p2 3 1 (fun v_80 => alJ X_34 v_80 v_40 (fun v_87 => wpX1_angle (fun r_88 => wpX1_around (fun r_89 => post r_89 X_34) (Int32.toInt64 (r_65 - r_88))) (Int32.toInt64 v_67) v_78 v_87)))))) (Int32.toInt64 v_44) v_55 v_64))))))))) E X_24 v_16 v_30))))) E X_6 v_20 p1))))))) E X v_2 p1))
abbrev wsX2_moonAngleOf : List Cond := ws_ yX2_moonAngleOf cX2_moonAngleOf 6 (some .int)
set_option maxHeartbeats 8000000 in
theorem metX2_moonAngleOf (l : Launch) (K : HK) (sz : Nat) (post : Int32 → hX → Prop) (X0 : hX) (p0 : Nat) (p1 : Int32) (p2 : Nat) : Met l yX2_moonAngleOf wsX2_moonAngleOf (rmh 3 64 0 0) (hPc K X0 sz [.ref p0, .int p1, .ref p2] (wpX2_moonAngleOf post (K.2.2 0) X0 p0 p1 p2)) (hQi post K X0 sz) 0 0 (hA X0 sz) := by
  refine Met.ofW (cc := cX2_moonAngleOf) (maxL := 6) (ret := (some .int)) (by decide) rfl ?_
  intro p e s m args below meth c s₁ B hml hv
  obtain ⟨rfl, hv⟩ := hv
  obtain ⟨hC, hP, hw⟩ := HC.of hv
  have hsz : s.heap.size = sz := hv.1
  subst hsz
  clear hv
  have hr := B.returns
  have hts := atoms_spec (ws := wsX2_moonAngleOf) B.pre
  have hts : ∀ w ∈ lw_all, w.before _ s = true := fun w h => hts w (List.mem_cons_of_mem _ h)
  have hF : CallFix p m c cX2_moonAngleOf 6 s ([.ref p0, .int p1, .ref p2] : List Value).toArray lw_all RX2 := ⟨B.exec, B.bytes, hml, findClass_of_methodNamed B.named, hts⟩
  have hlocks := B.notSynchronized
  have hl := lv_entry ([.ref p0, .int p1, .ref p2]) (n := 6) (Nat.le_of_ble_eq_true rfl)
  rw [lg_entry_eq]
  generalize (lg_sl ([.ref p0, .int p1, .ref p2]) ++ List.replicate (6 - (lg_sl ([.ref p0, .int p1, .ref p2])).length) Slot.unset).toArray = ls at hl ⊢
  have hl : lv_has ls 6 [(0, .ref p0), (1, .int p1), (2, .ref p2)] := hl
  have hS : va_S (hA X0 s.heap.size) s.heap s.heap [] := va_S.rf
  unfold wpX2_moonAngleOf at hw
  show W p l e (rmh 3 64 0 0) s m _ below meth c _ _ _ _ _ _
  refine lv_aload_n hF.1 hF.2.1 dX2_moonAngleOf_0 rfl (lv_at hl 0 rfl) ?_
  obtain ⟨fs_1, v_2, hx_3, hv_4, hw⟩ := hw
  refine x_get hF hC hP in_X2 rfl 2 (by decide) q155 (fun _ z => z) hx_3 hv_4 dX2_moonAngleOf_1 ?_
  refine lv_iload_n hF.1 hF.2.1 dX2_moonAngleOf_4 rfl (lv_at hl 1 rfl) ?_
  obtain ⟨ho_7, hw⟩ := hw
  refine hk_q (hr_V (As := [.int p1]) (rest := []) (T := TJ2) (N := 3) (ci := 8) hF hl.1 hC hP hS (metJ2_get l K _ _ X0 v_2 p1) rfl (cwV 1 hF.2.2.2.2 (lw_V q758 q347 q348 q79 q349) rfl rfl rfl (by decide +kernel) ⟨Nat.le_of_ble_eq_true rfl, Nat.le_of_ble_eq_true rfl⟩) ho_7 hw rfl rfl (Nat.le_of_ble_eq_true rfl) dX2_moonAngleOf_5 ⟨Nat.le_refl _, Nat.le_refl _⟩) hP hS (fun r_5 X_6 H locs hw hP hS => ?_)
  obtain ⟨a_8, e_9, hw⟩ := hw
  subst e_9
  rw [va_rf_some]
  obtain ⟨h_10, hw⟩ := hw
  refine x_cast (T := TX8) (N := 2) (ci := 7) hF hC hP rfl q808 h_10 dX2_moonAngleOf_8 ?_
  obtain ⟨fs_11, v_12, hx_13, hv_14, hw⟩ := hw
  refine x_getN hF hC hP in_X8 rfl 1 (by decide) q957 (fun _ z => z) hx_13 hv_14 dX2_moonAngleOf_11 ?_
  refine lv_istore_n (lv' := [(3, .int v_12), (0, .ref p0), (1, .int p1), (2, .ref p2)]) hF.1 hF.2.1 dX2_moonAngleOf_14 rfl hl (by decide) rfl (fun ls hl => ?_)
  refine lv_aload_n hF.1 hF.2.1 dX2_moonAngleOf_15 rfl (lv_at hl 1 rfl) ?_
  obtain ⟨fs_15, v_16, hx_17, hv_18, hw⟩ := hw
  refine x_get hF hC hP in_X2 rfl 1 (by decide) q153 (fun _ z => z) hx_17 hv_18 dX2_moonAngleOf_16 ?_
  refine lv_aload_n hF.1 hF.2.1 dX2_moonAngleOf_19 rfl (lv_at hl 1 rfl) ?_
  obtain ⟨fs_19, v_20, hx_21, hv_22, hw⟩ := hw
  refine x_get hF hC hP in_X2 rfl 2 (by decide) q155 (fun _ z => z) hx_21 hv_22 dX2_moonAngleOf_20 ?_
  refine lv_iload_n hF.1 hF.2.1 dX2_moonAngleOf_23 rfl (lv_at hl 2 rfl) ?_
  obtain ⟨ho_25, hw⟩ := hw
  refine hk_q (hr_V (As := [.int p1]) (rest := [.ref v_16]) (T := TJ2) (N := 3) (ci := 8) hF hl.1 hC hP hS (metJ2_get l K _ _ X_6 v_20 p1) rfl (cwV 1 hF.2.2.2.2 (lw_V q758 q347 q348 q79 q349) rfl rfl rfl (by decide +kernel) ⟨Nat.le_of_ble_eq_true rfl, Nat.le_of_ble_eq_true rfl⟩) ho_25 hw rfl rfl (Nat.le_of_ble_eq_true rfl) dX2_moonAngleOf_24 ⟨Nat.le_refl _, Nat.le_refl _⟩) hP hS (fun r_23 X_24 H locs hw hP hS => ?_)
  obtain ⟨a_26, e_27, hw⟩ := hw
  subst e_27
  rw [va_rf_some]
  obtain ⟨h_28, hw⟩ := hw
  refine x_cast (T := TX8) (N := 2) (ci := 7) hF hC hP rfl q808 h_28 dX2_moonAngleOf_27 ?_
  obtain ⟨fs_29, v_30, hx_31, hv_32, hw⟩ := hw
  refine x_getN hF hC hP in_X8 rfl 0 (by decide) q954 (fun _ z => z) hx_31 hv_32 dX2_moonAngleOf_30 ?_
  obtain ⟨ho_35, hw⟩ := hw
  refine hk_q (hr_V (As := [.int v_30]) (rest := []) (T := TJ2) (N := 3) (ci := 8) hF hl.1 hC hP hS (metJ2_get l K _ _ X_24 v_16 v_30) rfl (cwV 1 hF.2.2.2.2 (lw_V q758 q347 q348 q79 q349) rfl rfl rfl (by decide +kernel) ⟨Nat.le_of_ble_eq_true rfl, Nat.le_of_ble_eq_true rfl⟩) ho_35 hw rfl rfl (Nat.le_of_ble_eq_true rfl) dX2_moonAngleOf_33 ⟨Nat.le_refl _, Nat.le_refl _⟩) hP hS (fun r_33 X_34 H locs hw hP hS => ?_)
  obtain ⟨a_36, e_37, hw⟩ := hw
  subst e_37
  rw [va_rf_some]
  obtain ⟨h_38, hw⟩ := hw
  refine x_cast (T := TX7) (N := 3) (ci := 6) hF hC hP rfl q807 h_38 dX2_moonAngleOf_36 ?_
  obtain ⟨fs_39, v_40, hx_41, hv_42, hw⟩ := hw
  refine x_getN hF hC hP in_X7 rfl 0 (by decide) q921 (fun _ z => z) hx_41 hv_42 dX2_moonAngleOf_39 ?_
  refine lv_istore (lv' := [(4, .int v_40), (3, .int v_12), (0, .ref p0), (1, .int p1), (2, .ref p2)]) hF.1 hF.2.1 dX2_moonAngleOf_42 hl (by decide) rfl (fun ls hl => ?_)
  refine lv_aload_n hF.1 hF.2.1 dX2_moonAngleOf_44 rfl (lv_at hl 2 rfl) ?_
  obtain ⟨fs_43, v_44, hx_45, hv_46, hw⟩ := hw
  refine x_get hF hC hP in_X2 rfl 7 (by decide) q168 (fun _ z => z) hx_45 hv_46 dX2_moonAngleOf_45 ?_
  refine lv_i2l hF.1 hF.2.1 dX2_moonAngleOf_48 rfl ?_
  refine lv_aload_n hF.1 hF.2.1 dX2_moonAngleOf_49 rfl (lv_at hl 4 rfl) ?_
  obtain ⟨fs_47, v_48, hx_49, hv_50, hw⟩ := hw
  refine x_getN hF hC hP in_X6 rfl 0 (by decide) q376 (fun _ z => z) hx_49 hv_50 dX2_moonAngleOf_50 ?_
  refine lv_iload_n hF.1 hF.2.1 dX2_moonAngleOf_53 rfl (lv_at hl 1 rfl) ?_
  obtain ⟨n_51, f_52, hx_53, hi_54, hw⟩ := hw
  refine x_lald hF hC hP hx_53 hi_54 dX2_moonAngleOf_54 ?_
  generalize f_52 (Int32.toNatClampNeg v_12) = v_55 at hw ⊢
  refine lv_aload_n hF.1 hF.2.1 dX2_moonAngleOf_55 rfl (lv_at hl 4 rfl) ?_
  obtain ⟨fs_56, v_57, hx_58, hv_59, hw⟩ := hw
  refine x_getN hF hC hP in_X6 rfl 1 (by decide) q379 (fun _ z => z) hx_58 hv_59 dX2_moonAngleOf_56 ?_
  refine lv_iload_n hF.1 hF.2.1 dX2_moonAngleOf_59 rfl (lv_at hl 1 rfl) ?_
  obtain ⟨n_60, f_61, hx_62, hi_63, hw⟩ := hw
  refine x_lald hF hC hP hx_62 hi_63 dX2_moonAngleOf_60 ?_
  generalize f_61 (Int32.toNatClampNeg v_12) = v_64 at hw ⊢
  refine hp_i (hrp_SN (As := [.long (Int32.toInt64 v_44), .long v_55, .long v_64]) (rest := []) hF hl.1 (metX1_angle l _ (Int32.toInt64 v_44) v_55 v_64) (va_cnB 3 hF.2.2.2.2 (lw_meth q1288) rfl rfl rfl (hC.2.2.1.2.2.2.2.2.1 _ q1286 rfl) (hF.2.2.2.2 _ q75) (by decide +kernel) ⟨Nat.le_of_ble_eq_true rfl, Nat.le_of_ble_eq_true rfl⟩) q1287 hw rfl rfl (Nat.le_of_ble_eq_true rfl) dX2_moonAngleOf_61 ⟨Nat.le_refl _, Nat.le_refl _⟩) (fun r_65 hw => ?_)
  refine lv_istore (lv' := [(5, .int r_65), (4, .int v_40), (3, .int v_12), (0, .ref p0), (1, .int p1), (2, .ref p2)]) hF.1 hF.2.1 dX2_moonAngleOf_64 hl (by decide) rfl (fun ls hl => ?_)
  refine lv_iload hF.1 hF.2.1 dX2_moonAngleOf_66 (lv_at hl 0 rfl) ?_
  refine lv_aload_n hF.1 hF.2.1 dX2_moonAngleOf_68 rfl (lv_at hl 3 rfl) ?_
  obtain ⟨fs_66, v_67, hx_68, hv_69, hw⟩ := hw
  refine x_get hF hC hP in_X2 rfl 7 (by decide) q168 (fun _ z => z) hx_68 hv_69 dX2_moonAngleOf_69 ?_
  refine lv_i2l hF.1 hF.2.1 dX2_moonAngleOf_72 rfl ?_
  refine lv_aload_n hF.1 hF.2.1 dX2_moonAngleOf_73 rfl (lv_at hl 5 rfl) ?_
  obtain ⟨fs_70, v_71, hx_72, hv_73, hw⟩ := hw
  refine x_getN hF hC hP in_X6 rfl 0 (by decide) q376 (fun _ z => z) hx_72 hv_73 dX2_moonAngleOf_74 ?_
  refine lv_iload hF.1 hF.2.1 dX2_moonAngleOf_77 (lv_at hl 1 rfl) ?_
  obtain ⟨n_74, f_75, hx_76, hi_77, hw⟩ := hw
  refine x_lald hF hC hP hx_76 hi_77 dX2_moonAngleOf_79 ?_
  generalize f_75 (Int32.toNatClampNeg v_40) = v_78 at hw ⊢
  refine lv_aload_n hF.1 hF.2.1 dX2_moonAngleOf_80 rfl (lv_at hl 5 rfl) ?_
  obtain ⟨fs_79, v_80, hx_81, hv_82, hw⟩ := hw
  refine x_getN hF hC hP in_X6 rfl 1 (by decide) q379 (fun _ z => z) hx_81 hv_82 dX2_moonAngleOf_81 ?_
  refine lv_iload hF.1 hF.2.1 dX2_moonAngleOf_84 (lv_at hl 1 rfl) ?_
  obtain ⟨n_83, f_84, hx_85, hi_86, hw⟩ := hw
  refine x_lald hF hC hP hx_85 hi_86 dX2_moonAngleOf_86 ?_
  generalize f_84 (Int32.toNatClampNeg v_40) = v_87 at hw ⊢
  refine hp_i (hrp_SN (As := [.long (Int32.toInt64 v_67), .long v_78, .long v_87]) (rest := [.int r_65]) hF hl.1 (metX1_angle l _ (Int32.toInt64 v_67) v_78 v_87) (va_cnB 3 hF.2.2.2.2 (lw_meth q1288) rfl rfl rfl (hC.2.2.1.2.2.2.2.2.1 _ q1286 rfl) (hF.2.2.2.2 _ q75) (by decide +kernel) ⟨Nat.le_of_ble_eq_true rfl, Nat.le_of_ble_eq_true rfl⟩) q1287 hw rfl rfl (Nat.le_of_ble_eq_true rfl) dX2_moonAngleOf_87 ⟨Nat.le_refl _, Nat.le_refl _⟩) (fun r_88 hw => ?_)
  refine lv_isub hF.1 hF.2.1 dX2_moonAngleOf_90 ?_
  refine lv_i2l hF.1 hF.2.1 dX2_moonAngleOf_91 rfl ?_
  refine hp_i (hrp_SN (As := [.long (Int32.toInt64 (r_65 - r_88))]) (rest := []) hF hl.1 (metX1_around l _ (Int32.toInt64 (r_65 - r_88))) (va_cnB 1 hF.2.2.2.2 (lw_meth q1295) rfl rfl rfl (hC.2.2.1.2.2.2.2.2.1 _ q1296 rfl) (hF.2.2.2.2 _ q75) (by decide +kernel) ⟨Nat.le_of_ble_eq_true rfl, Nat.le_of_ble_eq_true rfl⟩) q1294 hw rfl rfl (Nat.le_of_ble_eq_true rfl) dX2_moonAngleOf_92 ⟨Nat.le_refl _, Nat.le_refl _⟩) (fun r_89 hw => ?_)
  exact h_iret hF hr hlocks hP hS ⟨Nat.le_refl _, Nat.le_refl _⟩ dX2_moonAngleOf_95 hw
def wpX2_isSlower (post : Int32 → hX → Prop) (E : Nat) (X : hX) (p0 : Nat) (p1 : Int32) (p2 : Nat) : Prop := gfA X p0 2 2 (fun v_2 => isO X v_2 8 (wpJ2_get (fun r_5 X_6 => (∃ a_8 : Nat, r_5 = some a_8 ∧ ((∃ fs, X_6 a_8 = some (.inr (7, fs))) ∧ gfI X_6 a_8 7 1 (fun v_12 => gfA X_6 p0 2 1 (fun v_16 => gfA X_6 p0 2 2 (fun v_20 => isO X_6 v_20 8 (wpJ2_get (fun r_23 X_24 => (∃ a_26 : Nat, r_23 = some a_26 ∧ ((∃ fs, X_24 a_26 = some (.inr (7, fs))) ∧ gfI X_24 a_26 7 0 (fun v_30 => isO X_24 v_16 8 (wpJ2_get (fun r_33 X_34 => (∃ a_36 : Nat, r_33 = some a_36 ∧ ((∃ fs, X_34 a_36 = some (.inr (6, fs))) ∧ gfI X_34 a_36 6 0 (fun v_40 => gfA X_34 p2 3 0 (fun v_44 => alJ X_34 v_44 v_12 (fun v_51 => wpJ11_abs (fun r_52 => gfA X_34 p2 3 1 (fun v_54 => alJ X_34 v_54 v_40 (fun v_61 => gfA X_34 p2 3 0 (fun v_63 => alJ X_34 v_63 v_40 (fun v_70 => wpJ11_abs (fun r_71 => gfA X_34 p2 3 1 (fun v_73 => alJ X_34 v_73 v_12 (fun v_80 => (((r_71 * v_80) ≤ (r_52 * v_61) → post 0 X_34) ∧ (¬ (r_71 * v_80) ≤ (r_52 * v_61) → post 1 X_34))))) v_70))))) v_51)))))) E X_24 v_16 v_30))))) E X_6 v_20 p1))))))) E X v_2 p1))
abbrev wsX2_isSlower : List Cond := ws_ yX2_isSlower cX2_isSlower 5 (some .boolean)
set_option maxHeartbeats 8000000 in
theorem metX2_isSlower (l : Launch) (K : HK) (sz : Nat) (post : Int32 → hX → Prop) (X0 : hX) (p0 : Nat) (p1 : Int32) (p2 : Nat) : Met l yX2_isSlower wsX2_isSlower (rmh 3 64 0 0) (hPc K X0 sz [.ref p0, .int p1, .ref p2] (wpX2_isSlower post (K.2.2 0) X0 p0 p1 p2)) (hQi post K X0 sz) 0 0 (hA X0 sz) := by
  refine Met.ofW (cc := cX2_isSlower) (maxL := 5) (ret := (some .boolean)) (by decide) rfl ?_
  intro p e s m args below meth c s₁ B hml hv
  obtain ⟨rfl, hv⟩ := hv
  obtain ⟨hC, hP, hw⟩ := HC.of hv
  have hsz : s.heap.size = sz := hv.1
  subst hsz
  clear hv
  have hr := B.returns
  have hts := atoms_spec (ws := wsX2_isSlower) B.pre
  have hts : ∀ w ∈ lw_all, w.before _ s = true := fun w h => hts w (List.mem_cons_of_mem _ h)
  have hF : CallFix p m c cX2_isSlower 5 s ([.ref p0, .int p1, .ref p2] : List Value).toArray lw_all RX2 := ⟨B.exec, B.bytes, hml, findClass_of_methodNamed B.named, hts⟩
  have hlocks := B.notSynchronized
  have hl := lv_entry ([.ref p0, .int p1, .ref p2]) (n := 5) (Nat.le_of_ble_eq_true rfl)
  rw [lg_entry_eq]
  generalize (lg_sl ([.ref p0, .int p1, .ref p2]) ++ List.replicate (5 - (lg_sl ([.ref p0, .int p1, .ref p2])).length) Slot.unset).toArray = ls at hl ⊢
  have hl : lv_has ls 5 [(0, .ref p0), (1, .int p1), (2, .ref p2)] := hl
  have hS : va_S (hA X0 s.heap.size) s.heap s.heap [] := va_S.rf
  unfold wpX2_isSlower at hw
  show W p l e (rmh 3 64 0 0) s m _ below meth c _ _ _ _ _ _
  refine lv_aload_n hF.1 hF.2.1 dX2_isSlower_0 rfl (lv_at hl 0 rfl) ?_
  obtain ⟨fs_1, v_2, hx_3, hv_4, hw⟩ := hw
  refine x_get hF hC hP in_X2 rfl 2 (by decide) q155 (fun _ z => z) hx_3 hv_4 dX2_isSlower_1 ?_
  refine lv_iload_n hF.1 hF.2.1 dX2_isSlower_4 rfl (lv_at hl 1 rfl) ?_
  obtain ⟨ho_7, hw⟩ := hw
  refine hk_q (hr_V (As := [.int p1]) (rest := []) (T := TJ2) (N := 3) (ci := 8) hF hl.1 hC hP hS (metJ2_get l K _ _ X0 v_2 p1) rfl (cwV 1 hF.2.2.2.2 (lw_V q758 q347 q348 q79 q349) rfl rfl rfl (by decide +kernel) ⟨Nat.le_of_ble_eq_true rfl, Nat.le_of_ble_eq_true rfl⟩) ho_7 hw rfl rfl (Nat.le_of_ble_eq_true rfl) dX2_isSlower_5 ⟨Nat.le_refl _, Nat.le_refl _⟩) hP hS (fun r_5 X_6 H locs hw hP hS => ?_)
  obtain ⟨a_8, e_9, hw⟩ := hw
  subst e_9
  rw [va_rf_some]
  obtain ⟨h_10, hw⟩ := hw
  refine x_cast (T := TX8) (N := 2) (ci := 7) hF hC hP rfl q808 h_10 dX2_isSlower_8 ?_
  obtain ⟨fs_11, v_12, hx_13, hv_14, hw⟩ := hw
  refine x_getN hF hC hP in_X8 rfl 1 (by decide) q957 (fun _ z => z) hx_13 hv_14 dX2_isSlower_11 ?_
  refine lv_istore_n (lv' := [(3, .int v_12), (0, .ref p0), (1, .int p1), (2, .ref p2)]) hF.1 hF.2.1 dX2_isSlower_14 rfl hl (by decide) rfl (fun ls hl => ?_)
  refine lv_aload_n hF.1 hF.2.1 dX2_isSlower_15 rfl (lv_at hl 1 rfl) ?_
  obtain ⟨fs_15, v_16, hx_17, hv_18, hw⟩ := hw
  refine x_get hF hC hP in_X2 rfl 1 (by decide) q153 (fun _ z => z) hx_17 hv_18 dX2_isSlower_16 ?_
  refine lv_aload_n hF.1 hF.2.1 dX2_isSlower_19 rfl (lv_at hl 1 rfl) ?_
  obtain ⟨fs_19, v_20, hx_21, hv_22, hw⟩ := hw
  refine x_get hF hC hP in_X2 rfl 2 (by decide) q155 (fun _ z => z) hx_21 hv_22 dX2_isSlower_20 ?_
  refine lv_iload_n hF.1 hF.2.1 dX2_isSlower_23 rfl (lv_at hl 2 rfl) ?_
  obtain ⟨ho_25, hw⟩ := hw
  refine hk_q (hr_V (As := [.int p1]) (rest := [.ref v_16]) (T := TJ2) (N := 3) (ci := 8) hF hl.1 hC hP hS (metJ2_get l K _ _ X_6 v_20 p1) rfl (cwV 1 hF.2.2.2.2 (lw_V q758 q347 q348 q79 q349) rfl rfl rfl (by decide +kernel) ⟨Nat.le_of_ble_eq_true rfl, Nat.le_of_ble_eq_true rfl⟩) ho_25 hw rfl rfl (Nat.le_of_ble_eq_true rfl) dX2_isSlower_24 ⟨Nat.le_refl _, Nat.le_refl _⟩) hP hS (fun r_23 X_24 H locs hw hP hS => ?_)
  obtain ⟨a_26, e_27, hw⟩ := hw
  subst e_27
  rw [va_rf_some]
  obtain ⟨h_28, hw⟩ := hw
  refine x_cast (T := TX8) (N := 2) (ci := 7) hF hC hP rfl q808 h_28 dX2_isSlower_27 ?_
  obtain ⟨fs_29, v_30, hx_31, hv_32, hw⟩ := hw
  refine x_getN hF hC hP in_X8 rfl 0 (by decide) q954 (fun _ z => z) hx_31 hv_32 dX2_isSlower_30 ?_
  obtain ⟨ho_35, hw⟩ := hw
  refine hk_q (hr_V (As := [.int v_30]) (rest := []) (T := TJ2) (N := 3) (ci := 8) hF hl.1 hC hP hS (metJ2_get l K _ _ X_24 v_16 v_30) rfl (cwV 1 hF.2.2.2.2 (lw_V q758 q347 q348 q79 q349) rfl rfl rfl (by decide +kernel) ⟨Nat.le_of_ble_eq_true rfl, Nat.le_of_ble_eq_true rfl⟩) ho_35 hw rfl rfl (Nat.le_of_ble_eq_true rfl) dX2_isSlower_33 ⟨Nat.le_refl _, Nat.le_refl _⟩) hP hS (fun r_33 X_34 H locs hw hP hS => ?_)
  obtain ⟨a_36, e_37, hw⟩ := hw
  subst e_37
  rw [va_rf_some]
  obtain ⟨h_38, hw⟩ := hw
  refine x_cast (T := TX7) (N := 3) (ci := 6) hF hC hP rfl q807 h_38 dX2_isSlower_36 ?_
  obtain ⟨fs_39, v_40, hx_41, hv_42, hw⟩ := hw
  refine x_getN hF hC hP in_X7 rfl 0 (by decide) q921 (fun _ z => z) hx_41 hv_42 dX2_isSlower_39 ?_
  refine lv_istore (lv' := [(4, .int v_40), (3, .int v_12), (0, .ref p0), (1, .int p1), (2, .ref p2)]) hF.1 hF.2.1 dX2_isSlower_42 hl (by decide) rfl (fun ls hl => ?_)
  refine lv_aload_n hF.1 hF.2.1 dX2_isSlower_44 rfl (lv_at hl 4 rfl) ?_
  obtain ⟨fs_43, v_44, hx_45, hv_46, hw⟩ := hw
  refine x_getN hF hC hP in_X6 rfl 0 (by decide) q376 (fun _ z => z) hx_45 hv_46 dX2_isSlower_45 ?_
  refine lv_iload_n hF.1 hF.2.1 dX2_isSlower_48 rfl (lv_at hl 1 rfl) ?_
  obtain ⟨n_47, f_48, hx_49, hi_50, hw⟩ := hw
  refine x_lald hF hC hP hx_49 hi_50 dX2_isSlower_49 ?_
  generalize f_48 (Int32.toNatClampNeg v_12) = v_51 at hw ⊢
  refine hp_l (hrp_S (As := [.long v_51]) (rest := []) hF hl.1 (metJ11_abs l _ v_51) (va_cwS 1 hF.2.2.2.2 (lw_S q1335 q369 q89 q370) rfl rfl rfl (by decide +kernel) ⟨Nat.le_of_ble_eq_true rfl, Nat.le_of_ble_eq_true rfl⟩) hw rfl rfl (Nat.le_of_ble_eq_true rfl) dX2_isSlower_50 ⟨Nat.le_refl _, Nat.le_refl _⟩) (fun r_52 hw => ?_)
  refine lv_aload_n hF.1 hF.2.1 dX2_isSlower_53 rfl (lv_at hl 4 rfl) ?_
  obtain ⟨fs_53, v_54, hx_55, hv_56, hw⟩ := hw
  refine x_getN hF hC hP in_X6 rfl 1 (by decide) q379 (fun _ z => z) hx_55 hv_56 dX2_isSlower_54 ?_
  refine lv_iload hF.1 hF.2.1 dX2_isSlower_57 (lv_at hl 0 rfl) ?_
  obtain ⟨n_57, f_58, hx_59, hi_60, hw⟩ := hw
  refine x_lald hF hC hP hx_59 hi_60 dX2_isSlower_59 ?_
  generalize f_58 (Int32.toNatClampNeg v_40) = v_61 at hw ⊢
  refine lv_lmul hF.1 hF.2.1 dX2_isSlower_60 ?_
  refine lv_aload_n hF.1 hF.2.1 dX2_isSlower_61 rfl (lv_at hl 4 rfl) ?_
  obtain ⟨fs_62, v_63, hx_64, hv_65, hw⟩ := hw
  refine x_getN hF hC hP in_X6 rfl 0 (by decide) q376 (fun _ z => z) hx_64 hv_65 dX2_isSlower_62 ?_
  refine lv_iload hF.1 hF.2.1 dX2_isSlower_65 (lv_at hl 0 rfl) ?_
  obtain ⟨n_66, f_67, hx_68, hi_69, hw⟩ := hw
  refine x_lald hF hC hP hx_68 hi_69 dX2_isSlower_67 ?_
  generalize f_67 (Int32.toNatClampNeg v_40) = v_70 at hw ⊢
  refine hp_l (hrp_S (As := [.long v_70]) (rest := [.long (r_52 * v_61)]) hF hl.1 (metJ11_abs l _ v_70) (va_cwS 1 hF.2.2.2.2 (lw_S q1335 q369 q89 q370) rfl rfl rfl (by decide +kernel) ⟨Nat.le_of_ble_eq_true rfl, Nat.le_of_ble_eq_true rfl⟩) hw rfl rfl (Nat.le_of_ble_eq_true rfl) dX2_isSlower_68 ⟨Nat.le_refl _, Nat.le_refl _⟩) (fun r_71 hw => ?_)
  refine lv_aload_n hF.1 hF.2.1 dX2_isSlower_71 rfl (lv_at hl 4 rfl) ?_
  obtain ⟨fs_72, v_73, hx_74, hv_75, hw⟩ := hw
  refine x_getN hF hC hP in_X6 rfl 1 (by decide) q379 (fun _ z => z) hx_74 hv_75 dX2_isSlower_72 ?_
  refine lv_iload_n hF.1 hF.2.1 dX2_isSlower_75 rfl (lv_at hl 1 rfl) ?_
  obtain ⟨n_76, f_77, hx_78, hi_79, hw⟩ := hw
  refine x_lald hF hC hP hx_78 hi_79 dX2_isSlower_76 ?_
  generalize f_77 (Int32.toNatClampNeg v_12) = v_80 at hw ⊢
  refine lv_lmul hF.1 hF.2.1 dX2_isSlower_77 ?_
  refine W.lcmp hF.1 hF.2.1 dX2_isSlower_78 ?_
  refine lv_if_ge (tgt := 86) hF.1 hF.2.1 dX2_isSlower_79 (by decide) (fun c_81 => ?_) (fun c_81 => ?_)
  · rw [lc_ge] at c_81
    have hw := hw.1 c_81
    refine lv_iconst (v := 0) hF.1 hF.2.1 dX2_isSlower_86 (by decide) ?_
    exact h_zret hF hr hlocks hP hS ⟨Nat.le_refl _, Nat.le_refl _⟩ dX2_isSlower_87 (Or.inl rfl) hw
  · rw [lc_ge] at c_81
    have hw := hw.2 c_81
    refine lv_iconst (v := 1) hF.1 hF.2.1 dX2_isSlower_82 (by decide) ?_
    refine lv_goto (tgt := 87) hF.1 hF.2.1 dX2_isSlower_83 (by decide) ?_
    exact h_zret hF hr hlocks hP hS ⟨Nat.le_refl _, Nat.le_refl _⟩ dX2_isSlower_87 (Or.inr rfl) hw
def wpX2_doMeet (post : Int32 → hX → Prop) (E : Nat) (X : hX) (p0 : Nat) (p1 : Int32) (p2 : Int32) (p3 : Int32) (p4 : Nat) (p5 : Int32) : Prop := gfI X p0 2 7 (fun v_2 => isO X p0 2 (wpX2_armAngle (fun r_5 X_6 => gfI X_6 p0 2 7 (fun v_9 => isO X_6 p0 2 (wpX2_armAngle (fun r_12 X_13 => wpX1_apart (fun r_15 => ((p3 < r_15 → post 0 X_13) ∧ (¬ p3 < r_15 → post 1 X_13))) r_5 r_12) E X_6 p0 p2 p4 (v_9 + p5)))) E X p0 p1 p4 (v_2 + p5)))
abbrev wsX2_doMeet : List Cond := ws_ yX2_doMeet cX2_doMeet 6 (some .boolean)
set_option maxHeartbeats 8000000 in
theorem metX2_doMeet (l : Launch) (K : HK) (sz : Nat) (post : Int32 → hX → Prop) (X0 : hX) (p0 : Nat) (p1 : Int32) (p2 : Int32) (p3 : Int32) (p4 : Nat) (p5 : Int32) : Met l yX2_doMeet wsX2_doMeet (rmh 4 89 0 0) (hPc K X0 sz [.ref p0, .int p1, .int p2, .int p3, .ref p4, .int p5] (wpX2_doMeet post (K.2.2 0) X0 p0 p1 p2 p3 p4 p5)) (hQi post K X0 sz) 0 0 (hA X0 sz) := by
  refine Met.ofW (cc := cX2_doMeet) (maxL := 6) (ret := (some .boolean)) (by decide) rfl ?_
  intro p e s m args below meth c s₁ B hml hv
  obtain ⟨rfl, hv⟩ := hv
  obtain ⟨hC, hP, hw⟩ := HC.of hv
  have hsz : s.heap.size = sz := hv.1
  subst hsz
  clear hv
  have hr := B.returns
  have hts := atoms_spec (ws := wsX2_doMeet) B.pre
  have hts : ∀ w ∈ lw_all, w.before _ s = true := fun w h => hts w (List.mem_cons_of_mem _ h)
  have hF : CallFix p m c cX2_doMeet 6 s ([.ref p0, .int p1, .int p2, .int p3, .ref p4, .int p5] : List Value).toArray lw_all RX2 := ⟨B.exec, B.bytes, hml, findClass_of_methodNamed B.named, hts⟩
  have hlocks := B.notSynchronized
  have hl := lv_entry ([.ref p0, .int p1, .int p2, .int p3, .ref p4, .int p5]) (n := 6) (Nat.le_of_ble_eq_true rfl)
  rw [lg_entry_eq]
  generalize (lg_sl ([.ref p0, .int p1, .int p2, .int p3, .ref p4, .int p5]) ++ List.replicate (6 - (lg_sl ([.ref p0, .int p1, .int p2, .int p3, .ref p4, .int p5])).length) Slot.unset).toArray = ls at hl ⊢
  have hl : lv_has ls 6 [(0, .ref p0), (1, .int p1), (2, .int p2), (3, .int p3), (4, .ref p4), (5, .int p5)] := hl
  have hS : va_S (hA X0 s.heap.size) s.heap s.heap [] := va_S.rf
  unfold wpX2_doMeet at hw
  show W p l e (rmh 4 89 0 0) s m _ below meth c _ _ _ _ _ _
  refine lv_aload_n hF.1 hF.2.1 dX2_doMeet_0 rfl (lv_at hl 0 rfl) ?_
  refine lv_iload_n hF.1 hF.2.1 dX2_doMeet_1 rfl (lv_at hl 1 rfl) ?_
  refine lv_aload hF.1 hF.2.1 dX2_doMeet_2 (lv_at hl 4 rfl) ?_
  refine lv_aload_n hF.1 hF.2.1 dX2_doMeet_4 rfl (lv_at hl 0 rfl) ?_
  obtain ⟨fs_1, v_2, hx_3, hv_4, hw⟩ := hw
  refine x_get hF hC hP in_X2 rfl 7 (by decide) q168 (fun _ z => z) hx_3 hv_4 dX2_doMeet_5 ?_
  refine lv_iload hF.1 hF.2.1 dX2_doMeet_8 (lv_at hl 5 rfl) ?_
  refine lv_iadd hF.1 hF.2.1 dX2_doMeet_10 ?_
  obtain ⟨ho_7, hw⟩ := hw
  refine hk_i (hr_V (As := [.int p1, .ref p4, .int (v_2 + p5)]) (rest := []) (T := TX2) (N := 9) (ci := 2) hF hl.1 hC hP hS (metX2_armAngle l K _ _ X0 p0 p1 p4 (v_2 + p5)) rfl (cwV 3 hF.2.2.2.2 (lw_V q1352 q1283 q1284 q76 q1285) rfl rfl rfl (by decide +kernel) ⟨Nat.le_of_ble_eq_true rfl, Nat.le_of_ble_eq_true rfl⟩) ho_7 hw rfl rfl (Nat.le_of_ble_eq_true rfl) dX2_doMeet_11 ⟨Nat.le_refl _, Nat.le_refl _⟩) hP hS (fun r_5 X_6 H locs hw hP hS => ?_)
  refine lv_aload_n hF.1 hF.2.1 dX2_doMeet_14 rfl (lv_at hl 0 rfl) ?_
  refine lv_iload_n hF.1 hF.2.1 dX2_doMeet_15 rfl (lv_at hl 2 rfl) ?_
  refine lv_aload hF.1 hF.2.1 dX2_doMeet_16 (lv_at hl 4 rfl) ?_
  refine lv_aload_n hF.1 hF.2.1 dX2_doMeet_18 rfl (lv_at hl 0 rfl) ?_
  obtain ⟨fs_8, v_9, hx_10, hv_11, hw⟩ := hw
  refine x_get hF hC hP in_X2 rfl 7 (by decide) q168 (fun _ z => z) hx_10 hv_11 dX2_doMeet_19 ?_
  refine lv_iload hF.1 hF.2.1 dX2_doMeet_22 (lv_at hl 5 rfl) ?_
  refine lv_iadd hF.1 hF.2.1 dX2_doMeet_24 ?_
  obtain ⟨ho_14, hw⟩ := hw
  refine hk_i (hr_V (As := [.int p2, .ref p4, .int (v_9 + p5)]) (rest := [.int r_5]) (T := TX2) (N := 9) (ci := 2) hF hl.1 hC hP hS (metX2_armAngle l K _ _ X_6 p0 p2 p4 (v_9 + p5)) rfl (cwV 3 hF.2.2.2.2 (lw_V q1352 q1283 q1284 q76 q1285) rfl rfl rfl (by decide +kernel) ⟨Nat.le_of_ble_eq_true rfl, Nat.le_of_ble_eq_true rfl⟩) ho_14 hw rfl rfl (Nat.le_of_ble_eq_true rfl) dX2_doMeet_25 ⟨Nat.le_refl _, Nat.le_refl _⟩) hP hS (fun r_12 X_13 H locs hw hP hS => ?_)
  refine hp_i (hrp_SN (As := [.int r_5, .int r_12]) (rest := []) hF hl.1 (metX1_apart l _ r_5 r_12) (va_cnB 2 hF.2.2.2.2 (lw_meth q1355) rfl rfl rfl (hC.2.2.1.2.2.2.2.2.1 _ q1353 rfl) (hF.2.2.2.2 _ q75) (by decide +kernel) ⟨Nat.le_of_ble_eq_true rfl, Nat.le_of_ble_eq_true rfl⟩) q1354 hw rfl rfl (Nat.le_of_ble_eq_true rfl) dX2_doMeet_28 ⟨Nat.le_refl _, Nat.le_refl _⟩) (fun r_15 hw => ?_)
  refine lv_iload_n hF.1 hF.2.1 dX2_doMeet_31 rfl (lv_at hl 3 rfl) ?_
  refine lv_icmp_gt (tgt := 39) hF.1 hF.2.1 dX2_doMeet_32 (by decide) (fun c_16 => ?_) (fun c_16 => ?_)
  · have hw := hw.1 c_16
    refine lv_iconst (v := 0) hF.1 hF.2.1 dX2_doMeet_39 (by decide) ?_
    exact h_zret hF hr hlocks hP hS ⟨Nat.le_refl _, Nat.le_refl _⟩ dX2_doMeet_40 (Or.inl rfl) hw
  · have hw := hw.2 c_16
    refine lv_iconst (v := 1) hF.1 hF.2.1 dX2_doMeet_35 (by decide) ?_
    refine lv_goto (tgt := 40) hF.1 hF.2.1 dX2_doMeet_36 (by decide) ?_
    exact h_zret hF hr hlocks hP hS ⟨Nat.le_refl _, Nat.le_refl _⟩ dX2_doMeet_40 (Or.inr rfl) hw

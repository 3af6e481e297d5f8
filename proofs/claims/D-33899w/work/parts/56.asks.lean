/-! ClockworkOrreries: what it tells (1), walked by program -/
set_option maxRecDepth 100000
def wpX1_axles (post : Int32 → hX → Prop) (E : Nat) (X : hX) (p0 : Nat) : Prop := gfA X p0 1 0 (fun v_2 => gfI X v_2 2 5 (fun v_6 => post v_6 X))
abbrev wsX1_axles : List Cond := ws_ yX1_axles cX1_axles 1 (some .int)
set_option maxHeartbeats 8000000 in
theorem metX1_axles (l : Launch) (K : HK) (sz : Nat) (post : Int32 → hX → Prop) (X0 : hX) (p0 : Nat) : Met l yX1_axles wsX1_axles (rmh 0 0 0 0) (hPc K X0 sz [.ref p0] (wpX1_axles post (K.2.2 0) X0 p0)) (hQi post K X0 sz) 0 0 (hA X0 sz) := by
  refine Met.ofW (cc := cX1_axles) (maxL := 1) (ret := (some .int)) (by decide) rfl ?_
  intro p e s m args below meth c s₁ B hml hv
  obtain ⟨rfl, hv⟩ := hv
  obtain ⟨hC, hP, hw⟩ := HC.of hv
  have hsz : s.heap.size = sz := hv.1
  subst hsz
  clear hv
  have hr := B.returns
  have hts := atoms_spec (ws := wsX1_axles) B.pre
  have hts : ∀ w ∈ lw_all, w.before _ s = true := fun w h => hts w (List.mem_cons_of_mem _ h)
  have hF : CallFix p m c cX1_axles 1 s ([.ref p0] : List Value).toArray lw_all RX1 := ⟨B.exec, B.bytes, hml, findClass_of_methodNamed B.named, hts⟩
  have hlocks := B.notSynchronized
  have hl := lv_entry ([.ref p0]) (n := 1) (Nat.le_of_ble_eq_true rfl)
  rw [lg_entry_eq]
  generalize (lg_sl ([.ref p0]) ++ List.replicate (1 - (lg_sl ([.ref p0])).length) Slot.unset).toArray = ls at hl ⊢
  have hl : lv_has ls 1 [(0, .ref p0)] := hl
  have hS : va_S (hA X0 s.heap.size) s.heap s.heap [] := va_S.rf
  unfold wpX1_axles at hw
  show W p l e (rmh 0 0 0 0) s m _ below meth c _ _ _ _ _ _
  refine lv_aload_n hF.1 hF.2.1 dX1_axles_0 rfl (lv_at hl 0 rfl) ?_
  obtain ⟨fs_1, v_2, hx_3, hv_4, hw⟩ := hw
  refine x_get hF hC hP in_X1 rfl 0 (by decide) q244 (fun _ z => z) hx_3 hv_4 dX1_axles_1 ?_
  obtain ⟨fs_5, v_6, hx_7, hv_8, hw⟩ := hw
  refine x_getN hF hC hP in_X2 rfl 5 (by decide) q164 (fun _ z => z) hx_7 hv_8 dX1_axles_4 ?_
  exact h_iret hF hr hlocks hP hS ⟨Nat.le_refl _, Nat.le_refl _⟩ dX1_axles_7 hw
def wpX1_wheels (post : Int32 → hX → Prop) (E : Nat) (X : hX) (p0 : Nat) : Prop := gfA X p0 1 0 (fun v_2 => gfA X v_2 2 0 (fun v_6 => isO X v_6 8 (wpJ2_size (fun r_9 X_10 => post r_9 X_10) E X v_6)))
abbrev wsX1_wheels : List Cond := ws_ yX1_wheels cX1_wheels 1 (some .int)
set_option maxHeartbeats 8000000 in
theorem metX1_wheels (l : Launch) (K : HK) (sz : Nat) (post : Int32 → hX → Prop) (X0 : hX) (p0 : Nat) : Met l yX1_wheels wsX1_wheels (rmh 1 20 0 0) (hPc K X0 sz [.ref p0] (wpX1_wheels post (K.2.2 0) X0 p0)) (hQi post K X0 sz) 0 0 (hA X0 sz) := by
  refine Met.ofW (cc := cX1_wheels) (maxL := 1) (ret := (some .int)) (by decide) rfl ?_
  intro p e s m args below meth c s₁ B hml hv
  obtain ⟨rfl, hv⟩ := hv
  obtain ⟨hC, hP, hw⟩ := HC.of hv
  have hsz : s.heap.size = sz := hv.1
  subst hsz
  clear hv
  have hr := B.returns
  have hts := atoms_spec (ws := wsX1_wheels) B.pre
  have hts : ∀ w ∈ lw_all, w.before _ s = true := fun w h => hts w (List.mem_cons_of_mem _ h)
  have hF : CallFix p m c cX1_wheels 1 s ([.ref p0] : List Value).toArray lw_all RX1 := ⟨B.exec, B.bytes, hml, findClass_of_methodNamed B.named, hts⟩
  have hlocks := B.notSynchronized
  have hl := lv_entry ([.ref p0]) (n := 1) (Nat.le_of_ble_eq_true rfl)
  rw [lg_entry_eq]
  generalize (lg_sl ([.ref p0]) ++ List.replicate (1 - (lg_sl ([.ref p0])).length) Slot.unset).toArray = ls at hl ⊢
  have hl : lv_has ls 1 [(0, .ref p0)] := hl
  have hS : va_S (hA X0 s.heap.size) s.heap s.heap [] := va_S.rf
  unfold wpX1_wheels at hw
  show W p l e (rmh 1 20 0 0) s m _ below meth c _ _ _ _ _ _
  refine lv_aload_n hF.1 hF.2.1 dX1_wheels_0 rfl (lv_at hl 0 rfl) ?_
  obtain ⟨fs_1, v_2, hx_3, hv_4, hw⟩ := hw
  refine x_get hF hC hP in_X1 rfl 0 (by decide) q244 (fun _ z => z) hx_3 hv_4 dX1_wheels_1 ?_
  obtain ⟨fs_5, v_6, hx_7, hv_8, hw⟩ := hw
  refine x_getN hF hC hP in_X2 rfl 0 (by decide) q152 (fun _ z => z) hx_7 hv_8 dX1_wheels_4 ?_
  obtain ⟨ho_11, hw⟩ := hw
  refine hk_i (hr_V (As := []) (rest := []) (T := TJ2) (N := 3) (ci := 8) hF hl.1 hC hP hS (metJ2_size l K _ _ X0 v_6) rfl (cwV 0 hF.2.2.2.2 (lw_V q266 q267 q268 q79 q269) rfl rfl rfl (by decide +kernel) ⟨Nat.le_of_ble_eq_true rfl, Nat.le_of_ble_eq_true rfl⟩) ho_11 hw rfl rfl (Nat.le_of_ble_eq_true rfl) dX1_wheels_7 ⟨Nat.le_refl _, Nat.le_refl _⟩) hP hS (fun r_9 X_10 H locs hw hP hS => ?_)
  exact h_iret hF hr hlocks hP hS ⟨Nat.le_refl _, Nat.le_refl _⟩ dX1_wheels_10 hw
def wpX1_pairs (post : Int32 → hX → Prop) (E : Nat) (X : hX) (p0 : Nat) : Prop := gfA X p0 1 0 (fun v_2 => gfI X v_2 2 6 (fun v_6 => post v_6 X))
abbrev wsX1_pairs : List Cond := ws_ yX1_pairs cX1_pairs 1 (some .int)
set_option maxHeartbeats 8000000 in
theorem metX1_pairs (l : Launch) (K : HK) (sz : Nat) (post : Int32 → hX → Prop) (X0 : hX) (p0 : Nat) : Met l yX1_pairs wsX1_pairs (rmh 0 0 0 0) (hPc K X0 sz [.ref p0] (wpX1_pairs post (K.2.2 0) X0 p0)) (hQi post K X0 sz) 0 0 (hA X0 sz) := by
  refine Met.ofW (cc := cX1_pairs) (maxL := 1) (ret := (some .int)) (by decide) rfl ?_
  intro p e s m args below meth c s₁ B hml hv
  obtain ⟨rfl, hv⟩ := hv
  obtain ⟨hC, hP, hw⟩ := HC.of hv
  have hsz : s.heap.size = sz := hv.1
  subst hsz
  clear hv
  have hr := B.returns
  have hts := atoms_spec (ws := wsX1_pairs) B.pre
  have hts : ∀ w ∈ lw_all, w.before _ s = true := fun w h => hts w (List.mem_cons_of_mem _ h)
  have hF : CallFix p m c cX1_pairs 1 s ([.ref p0] : List Value).toArray lw_all RX1 := ⟨B.exec, B.bytes, hml, findClass_of_methodNamed B.named, hts⟩
  have hlocks := B.notSynchronized
  have hl := lv_entry ([.ref p0]) (n := 1) (Nat.le_of_ble_eq_true rfl)
  rw [lg_entry_eq]
  generalize (lg_sl ([.ref p0]) ++ List.replicate (1 - (lg_sl ([.ref p0])).length) Slot.unset).toArray = ls at hl ⊢
  have hl : lv_has ls 1 [(0, .ref p0)] := hl
  have hS : va_S (hA X0 s.heap.size) s.heap s.heap [] := va_S.rf
  unfold wpX1_pairs at hw
  show W p l e (rmh 0 0 0 0) s m _ below meth c _ _ _ _ _ _
  refine lv_aload_n hF.1 hF.2.1 dX1_pairs_0 rfl (lv_at hl 0 rfl) ?_
  obtain ⟨fs_1, v_2, hx_3, hv_4, hw⟩ := hw
  refine x_get hF hC hP in_X1 rfl 0 (by decide) q244 (fun _ z => z) hx_3 hv_4 dX1_pairs_1 ?_
  obtain ⟨fs_5, v_6, hx_7, hv_8, hw⟩ := hw
  refine x_getN hF hC hP in_X2 rfl 6 (by decide) q167 (fun _ z => z) hx_7 hv_8 dX1_pairs_4 ?_
  exact h_iret hF hr hlocks hP hS ⟨Nat.le_refl _, Nat.le_refl _⟩ dX1_pairs_7 hw
def wpX1_arms (post : Int32 → hX → Prop) (E : Nat) (X : hX) (p0 : Nat) : Prop := gfA X p0 1 0 (fun v_2 => gfA X v_2 2 1 (fun v_6 => isO X v_6 8 (wpJ2_size (fun r_9 X_10 => post r_9 X_10) E X v_6)))
abbrev wsX1_arms : List Cond := ws_ yX1_arms cX1_arms 1 (some .int)
set_option maxHeartbeats 8000000 in
theorem metX1_arms (l : Launch) (K : HK) (sz : Nat) (post : Int32 → hX → Prop) (X0 : hX) (p0 : Nat) : Met l yX1_arms wsX1_arms (rmh 1 20 0 0) (hPc K X0 sz [.ref p0] (wpX1_arms post (K.2.2 0) X0 p0)) (hQi post K X0 sz) 0 0 (hA X0 sz) := by
  refine Met.ofW (cc := cX1_arms) (maxL := 1) (ret := (some .int)) (by decide) rfl ?_
  intro p e s m args below meth c s₁ B hml hv
  obtain ⟨rfl, hv⟩ := hv
  obtain ⟨hC, hP, hw⟩ := HC.of hv
  have hsz : s.heap.size = sz := hv.1
  subst hsz
  clear hv
  have hr := B.returns
  have hts := atoms_spec (ws := wsX1_arms) B.pre
  have hts : ∀ w ∈ lw_all, w.before _ s = true := fun w h => hts w (List.mem_cons_of_mem _ h)
  have hF : CallFix p m c cX1_arms 1 s ([.ref p0] : List Value).toArray lw_all RX1 := ⟨B.exec, B.bytes, hml, findClass_of_methodNamed B.named, hts⟩
  have hlocks := B.notSynchronized
  have hl := lv_entry ([.ref p0]) (n := 1) (Nat.le_of_ble_eq_true rfl)
  rw [lg_entry_eq]
  generalize (lg_sl ([.ref p0]) ++ List.replicate (1 - (lg_sl ([.ref p0])).length) Slot.unset).toArray = ls at hl ⊢
  have hl : lv_has ls 1 [(0, .ref p0)] := hl
  have hS : va_S (hA X0 s.heap.size) s.heap s.heap [] := va_S.rf
  unfold wpX1_arms at hw
  show W p l e (rmh 1 20 0 0) s m _ below meth c _ _ _ _ _ _
  refine lv_aload_n hF.1 hF.2.1 dX1_arms_0 rfl (lv_at hl 0 rfl) ?_
  obtain ⟨fs_1, v_2, hx_3, hv_4, hw⟩ := hw
  refine x_get hF hC hP in_X1 rfl 0 (by decide) q244 (fun _ z => z) hx_3 hv_4 dX1_arms_1 ?_
  obtain ⟨fs_5, v_6, hx_7, hv_8, hw⟩ := hw
  refine x_getN hF hC hP in_X2 rfl 1 (by decide) q154 (fun _ z => z) hx_7 hv_8 dX1_arms_4 ?_
  obtain ⟨ho_11, hw⟩ := hw
  refine hk_i (hr_V (As := []) (rest := []) (T := TJ2) (N := 3) (ci := 8) hF hl.1 hC hP hS (metJ2_size l K _ _ X0 v_6) rfl (cwV 0 hF.2.2.2.2 (lw_V q266 q267 q268 q79 q269) rfl rfl rfl (by decide +kernel) ⟨Nat.le_of_ble_eq_true rfl, Nat.le_of_ble_eq_true rfl⟩) ho_11 hw rfl rfl (Nat.le_of_ble_eq_true rfl) dX1_arms_7 ⟨Nat.le_refl _, Nat.le_refl _⟩) hP hS (fun r_9 X_10 H locs hw hP hS => ?_)
  exact h_iret hF hr hlocks hP hS ⟨Nat.le_refl _, Nat.le_refl _⟩ dX1_arms_10 hw
def wpX1_moons (post : Int32 → hX → Prop) (E : Nat) (X : hX) (p0 : Nat) : Prop := gfA X p0 1 0 (fun v_2 => gfA X v_2 2 2 (fun v_6 => isO X v_6 8 (wpJ2_size (fun r_9 X_10 => post r_9 X_10) E X v_6)))
abbrev wsX1_moons : List Cond := ws_ yX1_moons cX1_moons 1 (some .int)
set_option maxHeartbeats 8000000 in
theorem metX1_moons (l : Launch) (K : HK) (sz : Nat) (post : Int32 → hX → Prop) (X0 : hX) (p0 : Nat) : Met l yX1_moons wsX1_moons (rmh 1 20 0 0) (hPc K X0 sz [.ref p0] (wpX1_moons post (K.2.2 0) X0 p0)) (hQi post K X0 sz) 0 0 (hA X0 sz) := by
  refine Met.ofW (cc := cX1_moons) (maxL := 1) (ret := (some .int)) (by decide) rfl ?_
  intro p e s m args below meth c s₁ B hml hv
  obtain ⟨rfl, hv⟩ := hv
  obtain ⟨hC, hP, hw⟩ := HC.of hv
  have hsz : s.heap.size = sz := hv.1
  subst hsz
  clear hv
  have hr := B.returns
  have hts := atoms_spec (ws := wsX1_moons) B.pre
  have hts : ∀ w ∈ lw_all, w.before _ s = true := fun w h => hts w (List.mem_cons_of_mem _ h)
  have hF : CallFix p m c cX1_moons 1 s ([.ref p0] : List Value).toArray lw_all RX1 := ⟨B.exec, B.bytes, hml, findClass_of_methodNamed B.named, hts⟩
  have hlocks := B.notSynchronized
  have hl := lv_entry ([.ref p0]) (n := 1) (Nat.le_of_ble_eq_true rfl)
  rw [lg_entry_eq]
  generalize (lg_sl ([.ref p0]) ++ List.replicate (1 - (lg_sl ([.ref p0])).length) Slot.unset).toArray = ls at hl ⊢
  have hl : lv_has ls 1 [(0, .ref p0)] := hl
  have hS : va_S (hA X0 s.heap.size) s.heap s.heap [] := va_S.rf
  unfold wpX1_moons at hw
  show W p l e (rmh 1 20 0 0) s m _ below meth c _ _ _ _ _ _
  refine lv_aload_n hF.1 hF.2.1 dX1_moons_0 rfl (lv_at hl 0 rfl) ?_
  obtain ⟨fs_1, v_2, hx_3, hv_4, hw⟩ := hw
  refine x_get hF hC hP in_X1 rfl 0 (by decide) q244 (fun _ z => z) hx_3 hv_4 dX1_moons_1 ?_
  obtain ⟨fs_5, v_6, hx_7, hv_8, hw⟩ := hw
  refine x_getN hF hC hP in_X2 rfl 2 (by decide) q156 (fun _ z => z) hx_7 hv_8 dX1_moons_4 ?_
  obtain ⟨ho_11, hw⟩ := hw
  refine hk_i (hr_V (As := []) (rest := []) (T := TJ2) (N := 3) (ci := 8) hF hl.1 hC hP hS (metJ2_size l K _ _ X0 v_6) rfl (cwV 0 hF.2.2.2.2 (lw_V q266 q267 q268 q79 q269) rfl rfl rfl (by decide +kernel) ⟨Nat.le_of_ble_eq_true rfl, Nat.le_of_ble_eq_true rfl⟩) ho_11 hw rfl rfl (Nat.le_of_ble_eq_true rfl) dX1_moons_7 ⟨Nat.le_refl _, Nat.le_refl _⟩) hP hS (fun r_9 X_10 H locs hw hP hS => ?_)
  exact h_iret hF hr hlocks hP hS ⟨Nat.le_refl _, Nat.le_refl _⟩ dX1_moons_10 hw
def wpX1_day (post : Int32 → hX → Prop) (E : Nat) (X : hX) (p0 : Nat) : Prop := gfA X p0 1 0 (fun v_2 => gfI X v_2 2 7 (fun v_6 => post v_6 X))
abbrev wsX1_day : List Cond := ws_ yX1_day cX1_day 1 (some .int)
set_option maxHeartbeats 8000000 in
theorem metX1_day (l : Launch) (K : HK) (sz : Nat) (post : Int32 → hX → Prop) (X0 : hX) (p0 : Nat) : Met l yX1_day wsX1_day (rmh 0 0 0 0) (hPc K X0 sz [.ref p0] (wpX1_day post (K.2.2 0) X0 p0)) (hQi post K X0 sz) 0 0 (hA X0 sz) := by
  refine Met.ofW (cc := cX1_day) (maxL := 1) (ret := (some .int)) (by decide) rfl ?_
  intro p e s m args below meth c s₁ B hml hv
  obtain ⟨rfl, hv⟩ := hv
  obtain ⟨hC, hP, hw⟩ := HC.of hv
  have hsz : s.heap.size = sz := hv.1
  subst hsz
  clear hv
  have hr := B.returns
  have hts := atoms_spec (ws := wsX1_day) B.pre
  have hts : ∀ w ∈ lw_all, w.before _ s = true := fun w h => hts w (List.mem_cons_of_mem _ h)
  have hF : CallFix p m c cX1_day 1 s ([.ref p0] : List Value).toArray lw_all RX1 := ⟨B.exec, B.bytes, hml, findClass_of_methodNamed B.named, hts⟩
  have hlocks := B.notSynchronized
  have hl := lv_entry ([.ref p0]) (n := 1) (Nat.le_of_ble_eq_true rfl)
  rw [lg_entry_eq]
  generalize (lg_sl ([.ref p0]) ++ List.replicate (1 - (lg_sl ([.ref p0])).length) Slot.unset).toArray = ls at hl ⊢
  have hl : lv_has ls 1 [(0, .ref p0)] := hl
  have hS : va_S (hA X0 s.heap.size) s.heap s.heap [] := va_S.rf
  unfold wpX1_day at hw
  show W p l e (rmh 0 0 0 0) s m _ below meth c _ _ _ _ _ _
  refine lv_aload_n hF.1 hF.2.1 dX1_day_0 rfl (lv_at hl 0 rfl) ?_
  obtain ⟨fs_1, v_2, hx_3, hv_4, hw⟩ := hw
  refine x_get hF hC hP in_X1 rfl 0 (by decide) q244 (fun _ z => z) hx_3 hv_4 dX1_day_1 ?_
  obtain ⟨fs_5, v_6, hx_7, hv_8, hw⟩ := hw
  refine x_getN hF hC hP in_X2 rfl 7 (by decide) q169 (fun _ z => z) hx_7 hv_8 dX1_day_4 ?_
  exact h_iret hF hr hlocks hP hS ⟨Nat.le_refl _, Nat.le_refl _⟩ dX1_day_7 hw
def wpX1_date (post : Int32 → hX → Prop) (E : Nat) (X : hX) (p0 : Nat) : Prop := gfA X p0 1 0 (fun v_2 => gfI X v_2 2 7 (fun v_6 => wpX1_counted (fun r_9 => post r_9 X) v_6))
abbrev wsX1_date : List Cond := ws_ yX1_date cX1_date 1 (some .int)
set_option maxHeartbeats 8000000 in
theorem metX1_date (l : Launch) (K : HK) (sz : Nat) (post : Int32 → hX → Prop) (X0 : hX) (p0 : Nat) : Met l yX1_date wsX1_date (rmh 3 64 0 0) (hPc K X0 sz [.ref p0] (wpX1_date post (K.2.2 0) X0 p0)) (hQi post K X0 sz) 0 0 (hA X0 sz) := by
  refine Met.ofW (cc := cX1_date) (maxL := 1) (ret := (some .int)) (by decide) rfl ?_
  intro p e s m args below meth c s₁ B hml hv
  obtain ⟨rfl, hv⟩ := hv
  obtain ⟨hC, hP, hw⟩ := HC.of hv
  have hsz : s.heap.size = sz := hv.1
  subst hsz
  clear hv
  have hr := B.returns
  have hts := atoms_spec (ws := wsX1_date) B.pre
  have hts : ∀ w ∈ lw_all, w.before _ s = true := fun w h => hts w (List.mem_cons_of_mem _ h)
  have hF : CallFix p m c cX1_date 1 s ([.ref p0] : List Value).toArray lw_all RX1 := ⟨B.exec, B.bytes, hml, findClass_of_methodNamed B.named, hts⟩
  have hlocks := B.notSynchronized
  have hl := lv_entry ([.ref p0]) (n := 1) (Nat.le_of_ble_eq_true rfl)
  rw [lg_entry_eq]
  generalize (lg_sl ([.ref p0]) ++ List.replicate (1 - (lg_sl ([.ref p0])).length) Slot.unset).toArray = ls at hl ⊢
  have hl : lv_has ls 1 [(0, .ref p0)] := hl
  have hS : va_S (hA X0 s.heap.size) s.heap s.heap [] := va_S.rf
  unfold wpX1_date at hw
  show W p l e (rmh 3 64 0 0) s m _ below meth c _ _ _ _ _ _
  refine lv_aload_n hF.1 hF.2.1 dX1_date_0 rfl (lv_at hl 0 rfl) ?_
  obtain ⟨fs_1, v_2, hx_3, hv_4, hw⟩ := hw
  refine x_get hF hC hP in_X1 rfl 0 (by decide) q244 (fun _ z => z) hx_3 hv_4 dX1_date_1 ?_
  obtain ⟨fs_5, v_6, hx_7, hv_8, hw⟩ := hw
  refine x_getN hF hC hP in_X2 rfl 7 (by decide) q169 (fun _ z => z) hx_7 hv_8 dX1_date_4 ?_
  refine hp_i (hrp_S (As := [.int v_6]) (rest := []) hF hl.1 (metX1_counted l _ v_6) (va_cwS 1 hF.2.2.2.2 (lw_S q290 q291 q75 q292) rfl rfl rfl (by decide +kernel) ⟨Nat.le_of_ble_eq_true rfl, Nat.le_of_ble_eq_true rfl⟩) hw rfl rfl (Nat.le_of_ble_eq_true rfl) dX1_date_7 ⟨Nat.le_refl _, Nat.le_refl _⟩) (fun r_9 hw => ?_)
  exact h_iret hF hr hlocks hP hS ⟨Nat.le_refl _, Nat.le_refl _⟩ dX1_date_10 hw
def wpX1_aheadOf (post : Int32 → hX → Prop) (E : Nat) (X : hX) (p0 : Int32) : Prop := post (((153 * p0) + 2) / 5) X
abbrev wsX1_aheadOf : List Cond := ws_ yX1_aheadOf cX1_aheadOf 1 (some .int)
set_option maxHeartbeats 8000000 in
theorem metX1_aheadOf (l : Launch) (K : HK) (sz : Nat) (post : Int32 → hX → Prop) (X0 : hX) (p0 : Int32) : Met l yX1_aheadOf wsX1_aheadOf (rmh 0 0 0 0) (hPc K X0 sz [.int p0] (wpX1_aheadOf post (K.2.2 0) X0 p0)) (hQi post K X0 sz) 0 0 (hA X0 sz) := by
  refine Met.ofW (cc := cX1_aheadOf) (maxL := 1) (ret := (some .int)) (by decide) rfl ?_
  intro p e s m args below meth c s₁ B hml hv
  obtain ⟨rfl, hv⟩ := hv
  obtain ⟨hC, hP, hw⟩ := HC.of hv
  have hsz : s.heap.size = sz := hv.1
  subst hsz
  clear hv
  have hr := B.returns
  have hts := atoms_spec (ws := wsX1_aheadOf) B.pre
  have hts : ∀ w ∈ lw_all, w.before _ s = true := fun w h => hts w (List.mem_cons_of_mem _ h)
  have hF : CallFix p m c cX1_aheadOf 1 s ([.int p0] : List Value).toArray lw_all RX1 := ⟨B.exec, B.bytes, hml, findClass_of_methodNamed B.named, hts⟩
  have hlocks := B.notSynchronized
  have hl := lv_entry ([.int p0]) (n := 1) (Nat.le_of_ble_eq_true rfl)
  rw [lg_entry_eq]
  generalize (lg_sl ([.int p0]) ++ List.replicate (1 - (lg_sl ([.int p0])).length) Slot.unset).toArray = ls at hl ⊢
  have hl : lv_has ls 1 [(0, .int p0)] := hl
  have hS : va_S (hA X0 s.heap.size) s.heap s.heap [] := va_S.rf
  unfold wpX1_aheadOf at hw
  show W p l e (rmh 0 0 0 0) s m _ below meth c _ _ _ _ _ _
  refine lv_sipush (v := 153) hF.1 hF.2.1 dX1_aheadOf_0 (by decide) ?_
  refine lv_iload_n hF.1 hF.2.1 dX1_aheadOf_3 rfl (lv_at hl 0 rfl) ?_
  refine lv_imul hF.1 hF.2.1 dX1_aheadOf_4 ?_
  refine lv_iconst (v := 2) hF.1 hF.2.1 dX1_aheadOf_5 (by decide) ?_
  refine lv_iadd hF.1 hF.2.1 dX1_aheadOf_6 ?_
  refine lv_iconst (v := 5) hF.1 hF.2.1 dX1_aheadOf_7 (by decide) ?_
  refine lv_idiv hF.1 hF.2.1 dX1_aheadOf_8 (by decide) ?_
  exact h_iret hF hr hlocks hP hS ⟨Nat.le_refl _, Nat.le_refl _⟩ dX1_aheadOf_9 hw
def wpX1_ruled_136 (post : Int32 → hX → Prop) (E : Nat) (z0 : Int32) (z1 : Int32) (z2 : Int32) (X : hX) : Prop := wpX1_code (fun r_1 => post r_1 X) z0 z1 z2
def wpX1_ruled_120 (post : Int32 → hX → Prop) (E : Nat) (x1 : Int32) (z0 : Int32) (z1 : Int32) (X : hX) : Prop := ((31 ≤ x1 → wpX1_ruled_136 post E z0 z1 (x1 - 30) X) ∧ (¬ 31 ≤ x1 → wpX1_ruled_136 post E z0 z1 (x1 + 1) X))
def wpX1_ruled_99 (post : Int32 → hX → Prop) (E : Nat) (x1 : Int32) (x2 : Int32) (z0 : Int32) (z1 : Int32) (X : hX) : Prop := (∀ x6_3 : Int32, x6_3 = z0 + z1 → ((x6_3 ≤ x1 → (∀ x7_5 : Int32, x7_5 = x1 - x6_3 → (∀ x8_6 : Int32, x8_6 = ((5 * x7_5) + 2) / 153 → wpX1_aheadOf (fun r_7 X_8 => wpX1_code (fun r_9 => post r_9 X_8) x2 (x8_6 + 3) ((x7_5 - r_7) + 1)) E X x8_6))) ∧ (¬ x6_3 ≤ x1 → ((31 ≤ x1 → wpX1_ruled_120 post E x1 x2 2 X) ∧ (¬ 31 ≤ x1 → wpX1_ruled_120 post E x1 x2 1 X)))))
def wpX1_ruled (post : Int32 → hX → Prop) (E : Nat) (X : hX) (p0 : Int32) : Prop := (∀ x2_11 : Int32, x2_11 = 1 + (400 * (p0 / 146097)) → (∀ x1_12 : Int32, x1_12 = iRem p0 146097 → wpJ11_min (fun r_13 => (∀ x1_14 : Int32, x1_14 = x1_12 - (36524 * r_13) → (∀ x4_15 : Int32, x4_15 = x1_14 / 1461 → (∀ x1_16 : Int32, x1_16 = x1_14 - (1461 * x4_15) → wpJ11_min (fun r_17 => (∀ x1_18 : Int32, x1_18 = x1_16 - (365 * r_17) → (∀ x2_19 : Int32, x2_19 = x2_11 + (((100 * r_13) + (4 * x4_15)) + r_17) → wpX1_isLong (fun r_20 => ((r_20 = 0 → wpX1_ruled_99 post E x1_18 x2_19 59 0 X) ∧ (¬ r_20 = 0 → wpX1_ruled_99 post E x1_18 x2_19 59 1 X))) x2_19))) 3 (x1_16 / 365))))) 3 (x1_12 / 36524)))
abbrev wsX1_ruled : List Cond := ws_ yX1_ruled cX1_ruled 9 (some .int)
set_option maxHeartbeats 8000000 in
theorem metX1_ruled (l : Launch) (K : HK) (sz : Nat) (post : Int32 → hX → Prop) (X0 : hX) (p0 : Int32) : Met l yX1_ruled wsX1_ruled (rmh 1 22 0 0) (hPc K X0 sz [.int p0] (wpX1_ruled post (K.2.2 0) X0 p0)) (hQi post K X0 sz) 0 0 (hA X0 sz) := by
  refine Met.ofW (cc := cX1_ruled) (maxL := 9) (ret := (some .int)) (by decide) rfl ?_
  intro p e s m args below meth c s₁ B hml hv
  obtain ⟨rfl, hv⟩ := hv
  obtain ⟨hC, hP, hw⟩ := HC.of hv
  have hsz : s.heap.size = sz := hv.1
  subst hsz
  clear hv
  have hr := B.returns
  have hts := atoms_spec (ws := wsX1_ruled) B.pre
  have hts : ∀ w ∈ lw_all, w.before _ s = true := fun w h => hts w (List.mem_cons_of_mem _ h)
  have hF : CallFix p m c cX1_ruled 9 s ([.int p0] : List Value).toArray lw_all RX1 := ⟨B.exec, B.bytes, hml, findClass_of_methodNamed B.named, hts⟩
  have hlocks := B.notSynchronized
  have hl := lv_entry ([.int p0]) (n := 9) (Nat.le_of_ble_eq_true rfl)
  rw [lg_entry_eq]
  generalize (lg_sl ([.int p0]) ++ List.replicate (9 - (lg_sl ([.int p0])).length) Slot.unset).toArray = ls at hl ⊢
  have hl : lv_has ls 9 [(0, .int p0)] := hl
  have hS : va_S (hA X0 s.heap.size) s.heap s.heap [] := va_S.rf
  have T136 : ∀ (z0 : Int32) (z1 : Int32) (z2 : Int32) (X : hX) (H : Heap) (locs : List Loc) (ls : Array Slot), hI K X0 s.heap.size X H → va_S (hA X0 s.heap.size) s.heap H locs → lv_has ls 9 [] → wpX1_ruled_136 post (K.2.2 0) z0 z1 z2 X → W p l e (rmh 1 22 0 0) s m ([.int p0] : List Value).toArray below meth c H locs 0 0 (MQ below (hQi post K X0 s.heap.size) ([.int p0] : List Value).toArray s 0 0 (hA X0 s.heap.size)) (F0 m 136 ls [.int z2, .int z1, .int z0]) := by
    intro z0 z1 z2 X H locs ls hP hS hl hw
    unfold wpX1_ruled_136 at hw
    refine hp_i (hrp_S (As := [.int z0, .int z1, .int z2]) (rest := []) hF hl.1 (metX1_code l _ z0 z1 z2) (va_cwS 3 hF.2.2.2.2 (lw_S q299 q300 q75 q301) rfl rfl rfl (by decide +kernel) ⟨Nat.le_of_ble_eq_true rfl, Nat.le_of_ble_eq_true rfl⟩) hw rfl rfl (Nat.le_of_ble_eq_true rfl) dX1_ruled_136 ⟨Nat.le_refl _, Nat.le_refl _⟩) (fun r_1 hw => ?_)
    exact h_iret hF hr hlocks hP hS ⟨Nat.le_refl _, Nat.le_refl _⟩ dX1_ruled_139 hw
  have T120 : ∀ (x1 : Int32) (z0 : Int32) (z1 : Int32) (X : hX) (H : Heap) (locs : List Loc) (ls : Array Slot), hI K X0 s.heap.size X H → va_S (hA X0 s.heap.size) s.heap H locs → lv_has ls 9 [(1, .int x1)] → wpX1_ruled_120 post (K.2.2 0) x1 z0 z1 X → W p l e (rmh 1 22 0 0) s m ([.int p0] : List Value).toArray below meth c H locs 0 0 (MQ below (hQi post K X0 s.heap.size) ([.int p0] : List Value).toArray s 0 0 (hA X0 s.heap.size)) (F0 m 120 ls [.int z1, .int z0]) := by
    intro x1 z0 z1 X H locs ls hP hS hl hw
    unfold wpX1_ruled_120 at hw
    refine lv_iload_n hF.1 hF.2.1 dX1_ruled_120 rfl (lv_at hl 0 rfl) ?_
    refine lv_bipush (v := 31) hF.1 hF.2.1 dX1_ruled_121 (by decide) ?_
    refine lv_icmp_ge (tgt := 132) hF.1 hF.2.1 dX1_ruled_123 (by decide) (fun c_2 => ?_) (fun c_2 => ?_)
    · have hw := hw.1 c_2
      refine lv_iload_n hF.1 hF.2.1 dX1_ruled_132 rfl (lv_at hl 0 rfl) ?_
      refine lv_bipush (v := 30) hF.1 hF.2.1 dX1_ruled_133 (by decide) ?_
      refine lv_isub hF.1 hF.2.1 dX1_ruled_135 ?_
      exact T136 z0 z1 (x1 - 30) X _ _ ls hP hS (lv_sub hl [] rfl) hw
    · have hw := hw.2 c_2
      refine lv_iload_n hF.1 hF.2.1 dX1_ruled_126 rfl (lv_at hl 0 rfl) ?_
      refine lv_iconst (v := 1) hF.1 hF.2.1 dX1_ruled_127 (by decide) ?_
      refine lv_iadd hF.1 hF.2.1 dX1_ruled_128 ?_
      refine lv_goto (tgt := 136) hF.1 hF.2.1 dX1_ruled_129 (by decide) ?_
      exact T136 z0 z1 (x1 + 1) X _ _ ls hP hS (lv_sub hl [] rfl) hw
  have T99 : ∀ (x1 : Int32) (x2 : Int32) (z0 : Int32) (z1 : Int32) (X : hX) (H : Heap) (locs : List Loc) (ls : Array Slot), hI K X0 s.heap.size X H → va_S (hA X0 s.heap.size) s.heap H locs → lv_has ls 9 [(1, .int x1), (2, .int x2)] → wpX1_ruled_99 post (K.2.2 0) x1 x2 z0 z1 X → W p l e (rmh 1 22 0 0) s m ([.int p0] : List Value).toArray below meth c H locs 0 0 (MQ below (hQi post K X0 s.heap.size) ([.int p0] : List Value).toArray s 0 0 (hA X0 s.heap.size)) (F0 m 99 ls [.int z1, .int z0]) := by
    intro x1 x2 z0 z1 X H locs ls hP hS hl hw
    unfold wpX1_ruled_99 at hw
    refine lv_iadd hF.1 hF.2.1 dX1_ruled_99 ?_
    refine lv_topi (fun x6_3 ex6_3 => ?_)
    have hw := hw x6_3 ex6_3
    refine lv_istore (lv' := [(6, .int x6_3), (1, .int x1), (2, .int x2)]) hF.1 hF.2.1 dX1_ruled_100 hl (by decide) rfl (fun ls hl => ?_)
    refine lv_iload_n hF.1 hF.2.1 dX1_ruled_102 rfl (lv_at hl 1 rfl) ?_
    refine lv_iload hF.1 hF.2.1 dX1_ruled_103 (lv_at hl 0 rfl) ?_
    refine lv_icmp_ge (tgt := 140) hF.1 hF.2.1 dX1_ruled_105 (by decide) (fun c_4 => ?_) (fun c_4 => ?_)
    · have hw := hw.1 c_4
      refine lv_iload_n hF.1 hF.2.1 dX1_ruled_140 rfl (lv_at hl 1 rfl) ?_
      refine lv_iload hF.1 hF.2.1 dX1_ruled_141 (lv_at hl 0 rfl) ?_
      refine lv_isub hF.1 hF.2.1 dX1_ruled_143 ?_
      refine lv_topi (fun x7_5 ex7_5 => ?_)
      have hw := hw x7_5 ex7_5
      refine lv_istore (lv' := [(7, .int x7_5), (6, .int x6_3), (1, .int x1), (2, .int x2)]) hF.1 hF.2.1 dX1_ruled_144 hl (by decide) rfl (fun ls hl => ?_)
      refine lv_iconst (v := 5) hF.1 hF.2.1 dX1_ruled_146 (by decide) ?_
      refine lv_iload hF.1 hF.2.1 dX1_ruled_147 (lv_at hl 0 rfl) ?_
      refine lv_imul hF.1 hF.2.1 dX1_ruled_149 ?_
      refine lv_iconst (v := 2) hF.1 hF.2.1 dX1_ruled_150 (by decide) ?_
      refine lv_iadd hF.1 hF.2.1 dX1_ruled_151 ?_
      refine lv_sipush (v := 153) hF.1 hF.2.1 dX1_ruled_152 (by decide) ?_
      refine lv_idiv hF.1 hF.2.1 dX1_ruled_155 (by decide) ?_
      refine lv_topi (fun x8_6 ex8_6 => ?_)
      have hw := hw x8_6 ex8_6
      refine lv_istore (lv' := [(8, .int x8_6), (7, .int x7_5), (6, .int x6_3), (1, .int x1), (2, .int x2)]) hF.1 hF.2.1 dX1_ruled_156 hl (by decide) rfl (fun ls hl => ?_)
      refine lv_iload_n hF.1 hF.2.1 dX1_ruled_158 rfl (lv_at hl 4 rfl) ?_
      refine lv_iload hF.1 hF.2.1 dX1_ruled_159 (lv_at hl 0 rfl) ?_
      refine lv_iconst (v := 3) hF.1 hF.2.1 dX1_ruled_161 (by decide) ?_
      refine lv_iadd hF.1 hF.2.1 dX1_ruled_162 ?_
      refine lv_iload hF.1 hF.2.1 dX1_ruled_163 (lv_at hl 1 rfl) ?_
      refine lv_iload hF.1 hF.2.1 dX1_ruled_165 (lv_at hl 0 rfl) ?_
      refine hk_i (hr_S (As := [.int x8_6]) (rest := [.int x7_5, .int (x8_6 + 3), .int x2]) hF hl.1 hC hP hS (metX1_aheadOf l K _ _ X x8_6) (va_cwS 1 hF.2.2.2.2 (lw_S q314 q315 q75 q316) rfl rfl rfl (by decide +kernel) ⟨Nat.le_of_ble_eq_true rfl, Nat.le_of_ble_eq_true rfl⟩) hw rfl rfl (Nat.le_of_ble_eq_true rfl) dX1_ruled_167 ⟨Nat.le_refl _, Nat.le_refl _⟩) hP hS (fun r_7 X_8 H locs hw hP hS => ?_)
      refine lv_isub hF.1 hF.2.1 dX1_ruled_170 ?_
      refine lv_iconst (v := 1) hF.1 hF.2.1 dX1_ruled_171 (by decide) ?_
      refine lv_iadd hF.1 hF.2.1 dX1_ruled_172 ?_
      refine hp_i (hrp_S (As := [.int x2, .int (x8_6 + 3), .int ((x7_5 - r_7) + 1)]) (rest := []) hF hl.1 (metX1_code l _ x2 (x8_6 + 3) ((x7_5 - r_7) + 1)) (va_cwS 3 hF.2.2.2.2 (lw_S q299 q300 q75 q301) rfl rfl rfl (by decide +kernel) ⟨Nat.le_of_ble_eq_true rfl, Nat.le_of_ble_eq_true rfl⟩) hw rfl rfl (Nat.le_of_ble_eq_true rfl) dX1_ruled_173 ⟨Nat.le_refl _, Nat.le_refl _⟩) (fun r_9 hw => ?_)
      exact h_iret hF hr hlocks hP hS ⟨Nat.le_refl _, Nat.le_refl _⟩ dX1_ruled_176 hw
    · have hw := hw.2 c_4
      refine lv_iload_n hF.1 hF.2.1 dX1_ruled_108 rfl (lv_at hl 2 rfl) ?_
      refine lv_iload_n hF.1 hF.2.1 dX1_ruled_109 rfl (lv_at hl 1 rfl) ?_
      refine lv_bipush (v := 31) hF.1 hF.2.1 dX1_ruled_110 (by decide) ?_
      refine lv_icmp_ge (tgt := 119) hF.1 hF.2.1 dX1_ruled_112 (by decide) (fun c_10 => ?_) (fun c_10 => ?_)
      · have hw := hw.1 c_10
        refine lv_iconst (v := 2) hF.1 hF.2.1 dX1_ruled_119 (by decide) ?_
        exact T120 x1 x2 2 X _ _ ls hP hS (lv_sub hl [1] rfl) hw
      · have hw := hw.2 c_10
        refine lv_iconst (v := 1) hF.1 hF.2.1 dX1_ruled_115 (by decide) ?_
        refine lv_goto (tgt := 120) hF.1 hF.2.1 dX1_ruled_116 (by decide) ?_
        exact T120 x1 x2 1 X _ _ ls hP hS (lv_sub hl [1] rfl) hw
  unfold wpX1_ruled at hw
  show W p l e (rmh 1 22 0 0) s m _ below meth c _ _ _ _ _ _
  refine lv_iload_n hF.1 hF.2.1 dX1_ruled_0 rfl (lv_at hl 0 rfl) ?_
  refine lv_istore_n (lv' := [(1, .int p0), (0, .int p0)]) hF.1 hF.2.1 dX1_ruled_1 rfl hl (by decide) rfl (fun ls hl => ?_)
  refine lv_iconst (v := 1) hF.1 hF.2.1 dX1_ruled_2 (by decide) ?_
  refine lv_sipush (v := 400) hF.1 hF.2.1 dX1_ruled_3 (by decide) ?_
  refine lv_iload_n hF.1 hF.2.1 dX1_ruled_6 rfl (lv_at hl 0 rfl) ?_
  refine lv_ldc hF.1 hF.2.1 hF.2.2.2.1 (hF.2.2.2.2 _ q309) dX1_ruled_7 ?_
  refine lv_idiv hF.1 hF.2.1 dX1_ruled_9 (by decide) ?_
  refine lv_imul hF.1 hF.2.1 dX1_ruled_10 ?_
  refine lv_iadd hF.1 hF.2.1 dX1_ruled_11 ?_
  refine lv_topi (fun x2_11 ex2_11 => ?_)
  have hw := hw x2_11 ex2_11
  refine lv_istore_n (lv' := [(2, .int x2_11), (1, .int p0), (0, .int p0)]) hF.1 hF.2.1 dX1_ruled_12 rfl hl (by decide) rfl (fun ls hl => ?_)
  refine lv_iload_n hF.1 hF.2.1 dX1_ruled_13 rfl (lv_at hl 1 rfl) ?_
  refine lv_ldc hF.1 hF.2.1 hF.2.2.2.1 (hF.2.2.2.2 _ q309) dX1_ruled_14 ?_
  refine lv_irem hF.1 hF.2.1 dX1_ruled_16 (by decide) ?_
  refine lv_topi (fun x1_12 ex1_12 => ?_)
  have hw := hw x1_12 ex1_12
  refine lv_istore_n (lv' := [(1, .int x1_12), (2, .int x2_11), (0, .int p0)]) hF.1 hF.2.1 dX1_ruled_17 rfl hl (by decide) rfl (fun ls hl => ?_)
  refine lv_iconst (v := 3) hF.1 hF.2.1 dX1_ruled_18 (by decide) ?_
  refine lv_iload_n hF.1 hF.2.1 dX1_ruled_19 rfl (lv_at hl 0 rfl) ?_
  refine lv_ldc hF.1 hF.2.1 hF.2.2.2.1 (hF.2.2.2.2 _ q310) dX1_ruled_20 ?_
  refine lv_idiv hF.1 hF.2.1 dX1_ruled_22 (by decide) ?_
  refine hp_i (hrp_S (As := [.int 3, .int (x1_12 / 36524)]) (rest := []) hF hl.1 (metJ11_min l _ 3 (x1_12 / 36524)) (va_cwS 2 hF.2.2.2.2 (lw_S q311 q312 q89 q313) rfl rfl rfl (by decide +kernel) ⟨Nat.le_of_ble_eq_true rfl, Nat.le_of_ble_eq_true rfl⟩) hw rfl rfl (Nat.le_of_ble_eq_true rfl) dX1_ruled_23 ⟨Nat.le_refl _, Nat.le_refl _⟩) (fun r_13 hw => ?_)
  refine lv_istore_n (lv' := [(3, .int r_13), (1, .int x1_12), (2, .int x2_11), (0, .int p0)]) hF.1 hF.2.1 dX1_ruled_26 rfl hl (by decide) rfl (fun ls hl => ?_)
  refine lv_iload_n hF.1 hF.2.1 dX1_ruled_27 rfl (lv_at hl 1 rfl) ?_
  refine lv_ldc hF.1 hF.2.1 hF.2.2.2.1 (hF.2.2.2.2 _ q310) dX1_ruled_28 ?_
  refine lv_iload_n hF.1 hF.2.1 dX1_ruled_30 rfl (lv_at hl 0 rfl) ?_
  refine lv_imul hF.1 hF.2.1 dX1_ruled_31 ?_
  refine lv_isub hF.1 hF.2.1 dX1_ruled_32 ?_
  refine lv_topi (fun x1_14 ex1_14 => ?_)
  have hw := hw x1_14 ex1_14
  refine lv_istore_n (lv' := [(1, .int x1_14), (3, .int r_13), (2, .int x2_11), (0, .int p0)]) hF.1 hF.2.1 dX1_ruled_33 rfl hl (by decide) rfl (fun ls hl => ?_)
  refine lv_iload_n hF.1 hF.2.1 dX1_ruled_34 rfl (lv_at hl 0 rfl) ?_
  refine lv_sipush (v := 1461) hF.1 hF.2.1 dX1_ruled_35 (by decide) ?_
  refine lv_idiv hF.1 hF.2.1 dX1_ruled_38 (by decide) ?_
  refine lv_topi (fun x4_15 ex4_15 => ?_)
  have hw := hw x4_15 ex4_15
  refine lv_istore (lv' := [(4, .int x4_15), (1, .int x1_14), (3, .int r_13), (2, .int x2_11), (0, .int p0)]) hF.1 hF.2.1 dX1_ruled_39 hl (by decide) rfl (fun ls hl => ?_)
  refine lv_iload_n hF.1 hF.2.1 dX1_ruled_41 rfl (lv_at hl 1 rfl) ?_
  refine lv_sipush (v := 1461) hF.1 hF.2.1 dX1_ruled_42 (by decide) ?_
  refine lv_iload hF.1 hF.2.1 dX1_ruled_45 (lv_at hl 0 rfl) ?_
  refine lv_imul hF.1 hF.2.1 dX1_ruled_47 ?_
  refine lv_isub hF.1 hF.2.1 dX1_ruled_48 ?_
  refine lv_topi (fun x1_16 ex1_16 => ?_)
  have hw := hw x1_16 ex1_16
  refine lv_istore_n (lv' := [(1, .int x1_16), (4, .int x4_15), (3, .int r_13), (2, .int x2_11), (0, .int p0)]) hF.1 hF.2.1 dX1_ruled_49 rfl hl (by decide) rfl (fun ls hl => ?_)
  refine lv_iconst (v := 3) hF.1 hF.2.1 dX1_ruled_50 (by decide) ?_
  refine lv_iload_n hF.1 hF.2.1 dX1_ruled_51 rfl (lv_at hl 0 rfl) ?_
  refine lv_sipush (v := 365) hF.1 hF.2.1 dX1_ruled_52 (by decide) ?_
  refine lv_idiv hF.1 hF.2.1 dX1_ruled_55 (by decide) ?_
  refine hp_i (hrp_S (As := [.int 3, .int (x1_16 / 365)]) (rest := []) hF hl.1 (metJ11_min l _ 3 (x1_16 / 365)) (va_cwS 2 hF.2.2.2.2 (lw_S q311 q312 q89 q313) rfl rfl rfl (by decide +kernel) ⟨Nat.le_of_ble_eq_true rfl, Nat.le_of_ble_eq_true rfl⟩) hw rfl rfl (Nat.le_of_ble_eq_true rfl) dX1_ruled_56 ⟨Nat.le_refl _, Nat.le_refl _⟩) (fun r_17 hw => ?_)
  refine lv_istore (lv' := [(5, .int r_17), (1, .int x1_16), (4, .int x4_15), (3, .int r_13), (2, .int x2_11), (0, .int p0)]) hF.1 hF.2.1 dX1_ruled_59 hl (by decide) rfl (fun ls hl => ?_)
  refine lv_iload_n hF.1 hF.2.1 dX1_ruled_61 rfl (lv_at hl 1 rfl) ?_
  refine lv_sipush (v := 365) hF.1 hF.2.1 dX1_ruled_62 (by decide) ?_
  refine lv_iload hF.1 hF.2.1 dX1_ruled_65 (lv_at hl 0 rfl) ?_
  refine lv_imul hF.1 hF.2.1 dX1_ruled_67 ?_
  refine lv_isub hF.1 hF.2.1 dX1_ruled_68 ?_
  refine lv_topi (fun x1_18 ex1_18 => ?_)
  have hw := hw x1_18 ex1_18
  refine lv_istore_n (lv' := [(1, .int x1_18), (5, .int r_17), (4, .int x4_15), (3, .int r_13), (2, .int x2_11), (0, .int p0)]) hF.1 hF.2.1 dX1_ruled_69 rfl hl (by decide) rfl (fun ls hl => ?_)
  refine lv_iload_n hF.1 hF.2.1 dX1_ruled_70 rfl (lv_at hl 4 rfl) ?_
  refine lv_bipush (v := 100) hF.1 hF.2.1 dX1_ruled_71 (by decide) ?_
  refine lv_iload_n hF.1 hF.2.1 dX1_ruled_73 rfl (lv_at hl 3 rfl) ?_
  refine lv_imul hF.1 hF.2.1 dX1_ruled_74 ?_
  refine lv_iconst (v := 4) hF.1 hF.2.1 dX1_ruled_75 (by decide) ?_
  refine lv_iload hF.1 hF.2.1 dX1_ruled_76 (lv_at hl 2 rfl) ?_
  refine lv_imul hF.1 hF.2.1 dX1_ruled_78 ?_
  refine lv_iadd hF.1 hF.2.1 dX1_ruled_79 ?_
  refine lv_iload hF.1 hF.2.1 dX1_ruled_80 (lv_at hl 1 rfl) ?_
  refine lv_iadd hF.1 hF.2.1 dX1_ruled_82 ?_
  refine lv_iadd hF.1 hF.2.1 dX1_ruled_83 ?_
  refine lv_topi (fun x2_19 ex2_19 => ?_)
  have hw := hw x2_19 ex2_19
  refine lv_istore_n (lv' := [(2, .int x2_19), (1, .int x1_18), (5, .int r_17), (4, .int x4_15), (3, .int r_13), (0, .int p0)]) hF.1 hF.2.1 dX1_ruled_84 rfl hl (by decide) rfl (fun ls hl => ?_)
  refine lv_bipush (v := 59) hF.1 hF.2.1 dX1_ruled_85 (by decide) ?_
  refine lv_iload_n hF.1 hF.2.1 dX1_ruled_87 rfl (lv_at hl 0 rfl) ?_
  refine hp_i (hrp_S (As := [.int x2_19]) (rest := [.int 59]) hF hl.1 (metX1_isLong l _ x2_19) (va_cwS 1 hF.2.2.2.2 (lw_S q293 q294 q75 q295) rfl rfl rfl (by decide +kernel) ⟨Nat.le_of_ble_eq_true rfl, Nat.le_of_ble_eq_true rfl⟩) hw rfl rfl (Nat.le_of_ble_eq_true rfl) dX1_ruled_88 ⟨Nat.le_refl _, Nat.le_refl _⟩) (fun r_20 hw => ?_)
  refine lv_if_eq (tgt := 98) hF.1 hF.2.1 dX1_ruled_91 (by decide) (fun c_21 => ?_) (fun c_21 => ?_)
  · have hw := hw.1 c_21
    refine lv_iconst (v := 0) hF.1 hF.2.1 dX1_ruled_98 (by decide) ?_
    exact T99 x1_18 x2_19 59 0 X0 _ _ ls hP hS (lv_sub hl [1, 0] rfl) hw
  · have hw := hw.2 c_21
    refine lv_iconst (v := 1) hF.1 hF.2.1 dX1_ruled_94 (by decide) ?_
    refine lv_goto (tgt := 99) hF.1 hF.2.1 dX1_ruled_95 (by decide) ?_
    exact T99 x1_18 x2_19 59 1 X0 _ _ ls hP hS (lv_sub hl [1, 0] rfl) hw
def wpX1_dateByRule (post : Int32 → hX → Prop) (E : Nat) (X : hX) (p0 : Nat) : Prop := gfA X p0 1 0 (fun v_2 => gfI X v_2 2 7 (fun v_6 => wpX1_ruled (fun r_9 X_10 => post r_9 X_10) E X v_6))
abbrev wsX1_dateByRule : List Cond := ws_ yX1_dateByRule cX1_dateByRule 1 (some .int)
set_option maxHeartbeats 8000000 in
theorem metX1_dateByRule (l : Launch) (K : HK) (sz : Nat) (post : Int32 → hX → Prop) (X0 : hX) (p0 : Nat) : Met l yX1_dateByRule wsX1_dateByRule (rmh 2 50 0 0) (hPc K X0 sz [.ref p0] (wpX1_dateByRule post (K.2.2 0) X0 p0)) (hQi post K X0 sz) 0 0 (hA X0 sz) := by
  refine Met.ofW (cc := cX1_dateByRule) (maxL := 1) (ret := (some .int)) (by decide) rfl ?_
  intro p e s m args below meth c s₁ B hml hv
  obtain ⟨rfl, hv⟩ := hv
  obtain ⟨hC, hP, hw⟩ := HC.of hv
  have hsz : s.heap.size = sz := hv.1
  subst hsz
  clear hv
  have hr := B.returns
  have hts := atoms_spec (ws := wsX1_dateByRule) B.pre
  have hts : ∀ w ∈ lw_all, w.before _ s = true := fun w h => hts w (List.mem_cons_of_mem _ h)
  have hF : CallFix p m c cX1_dateByRule 1 s ([.ref p0] : List Value).toArray lw_all RX1 := ⟨B.exec, B.bytes, hml, findClass_of_methodNamed B.named, hts⟩
  have hlocks := B.notSynchronized
  have hl := lv_entry ([.ref p0]) (n := 1) (Nat.le_of_ble_eq_true rfl)
  rw [lg_entry_eq]
  generalize (lg_sl ([.ref p0]) ++ List.replicate (1 - (lg_sl ([.ref p0])).length) Slot.unset).toArray = ls at hl ⊢
  have hl : lv_has ls 1 [(0, .ref p0)] := hl
  have hS : va_S (hA X0 s.heap.size) s.heap s.heap [] := va_S.rf
  unfold wpX1_dateByRule at hw
  show W p l e (rmh 2 50 0 0) s m _ below meth c _ _ _ _ _ _
  refine lv_aload_n hF.1 hF.2.1 dX1_dateByRule_0 rfl (lv_at hl 0 rfl) ?_
  obtain ⟨fs_1, v_2, hx_3, hv_4, hw⟩ := hw
  refine x_get hF hC hP in_X1 rfl 0 (by decide) q244 (fun _ z => z) hx_3 hv_4 dX1_dateByRule_1 ?_
  obtain ⟨fs_5, v_6, hx_7, hv_8, hw⟩ := hw
  refine x_getN hF hC hP in_X2 rfl 7 (by decide) q169 (fun _ z => z) hx_7 hv_8 dX1_dateByRule_4 ?_
  refine hk_i (hr_S (As := [.int v_6]) (rest := []) hF hl.1 hC hP hS (metX1_ruled l K _ _ X0 v_6) (va_cwS 1 hF.2.2.2.2 (lw_S q306 q307 q75 q308) rfl rfl rfl (by decide +kernel) ⟨Nat.le_of_ble_eq_true rfl, Nat.le_of_ble_eq_true rfl⟩) hw rfl rfl (Nat.le_of_ble_eq_true rfl) dX1_dateByRule_7 ⟨Nat.le_refl _, Nat.le_refl _⟩) hP hS (fun r_9 X_10 H locs hw hP hS => ?_)
  exact h_iret hF hr hlocks hP hS ⟨Nat.le_refl _, Nat.le_refl _⟩ dX1_dateByRule_10 hw
def wpX1_weekday (post : Int32 → hX → Prop) (E : Nat) (X : hX) (p0 : Nat) : Prop := gfA X p0 1 0 (fun v_2 => gfI X v_2 2 7 (fun v_6 => post (iRem v_6 7) X))
abbrev wsX1_weekday : List Cond := ws_ yX1_weekday cX1_weekday 1 (some .int)
set_option maxHeartbeats 8000000 in
theorem metX1_weekday (l : Launch) (K : HK) (sz : Nat) (post : Int32 → hX → Prop) (X0 : hX) (p0 : Nat) : Met l yX1_weekday wsX1_weekday (rmh 0 0 0 0) (hPc K X0 sz [.ref p0] (wpX1_weekday post (K.2.2 0) X0 p0)) (hQi post K X0 sz) 0 0 (hA X0 sz) := by
  refine Met.ofW (cc := cX1_weekday) (maxL := 1) (ret := (some .int)) (by decide) rfl ?_
  intro p e s m args below meth c s₁ B hml hv
  obtain ⟨rfl, hv⟩ := hv
  obtain ⟨hC, hP, hw⟩ := HC.of hv
  have hsz : s.heap.size = sz := hv.1
  subst hsz
  clear hv
  have hr := B.returns
  have hts := atoms_spec (ws := wsX1_weekday) B.pre
  have hts : ∀ w ∈ lw_all, w.before _ s = true := fun w h => hts w (List.mem_cons_of_mem _ h)
  have hF : CallFix p m c cX1_weekday 1 s ([.ref p0] : List Value).toArray lw_all RX1 := ⟨B.exec, B.bytes, hml, findClass_of_methodNamed B.named, hts⟩
  have hlocks := B.notSynchronized
  have hl := lv_entry ([.ref p0]) (n := 1) (Nat.le_of_ble_eq_true rfl)
  rw [lg_entry_eq]
  generalize (lg_sl ([.ref p0]) ++ List.replicate (1 - (lg_sl ([.ref p0])).length) Slot.unset).toArray = ls at hl ⊢
  have hl : lv_has ls 1 [(0, .ref p0)] := hl
  have hS : va_S (hA X0 s.heap.size) s.heap s.heap [] := va_S.rf
  unfold wpX1_weekday at hw
  show W p l e (rmh 0 0 0 0) s m _ below meth c _ _ _ _ _ _
  refine lv_aload_n hF.1 hF.2.1 dX1_weekday_0 rfl (lv_at hl 0 rfl) ?_
  obtain ⟨fs_1, v_2, hx_3, hv_4, hw⟩ := hw
  refine x_get hF hC hP in_X1 rfl 0 (by decide) q244 (fun _ z => z) hx_3 hv_4 dX1_weekday_1 ?_
  obtain ⟨fs_5, v_6, hx_7, hv_8, hw⟩ := hw
  refine x_getN hF hC hP in_X2 rfl 7 (by decide) q169 (fun _ z => z) hx_7 hv_8 dX1_weekday_4 ?_
  refine lv_bipush (v := 7) hF.1 hF.2.1 dX1_weekday_7 (by decide) ?_
  refine lv_irem hF.1 hF.2.1 dX1_weekday_9 (by decide) ?_
  exact h_iret hF hr hlocks hP hS ⟨Nat.le_refl _, Nat.le_refl _⟩ dX1_weekday_10 hw
def wpX1_dayOfYear (post : Int32 → hX → Prop) (E : Nat) (X : hX) (p0 : Nat) : Prop := gfA X p0 1 0 (fun v_2 => gfI X v_2 2 7 (fun v_6 => wpX1_counted (fun r_9 => (∀ x1_10 : Int32, x1_10 = r_9 / 10000 → gfA X p0 1 0 (fun v_12 => gfI X v_12 2 7 (fun v_16 => wpX1_dayBefore (fun r_19 => post ((v_16 - r_19) + 1) X) x1_10 1)))) v_6))
abbrev wsX1_dayOfYear : List Cond := ws_ yX1_dayOfYear cX1_dayOfYear 2 (some .int)
set_option maxHeartbeats 8000000 in
theorem metX1_dayOfYear (l : Launch) (K : HK) (sz : Nat) (post : Int32 → hX → Prop) (X0 : hX) (p0 : Nat) : Met l yX1_dayOfYear wsX1_dayOfYear (rmh 3 64 0 0) (hPc K X0 sz [.ref p0] (wpX1_dayOfYear post (K.2.2 0) X0 p0)) (hQi post K X0 sz) 0 0 (hA X0 sz) := by
  refine Met.ofW (cc := cX1_dayOfYear) (maxL := 2) (ret := (some .int)) (by decide) rfl ?_
  intro p e s m args below meth c s₁ B hml hv
  obtain ⟨rfl, hv⟩ := hv
  obtain ⟨hC, hP, hw⟩ := HC.of hv
  have hsz : s.heap.size = sz := hv.1
  subst hsz
  clear hv
  have hr := B.returns
  have hts := atoms_spec (ws := wsX1_dayOfYear) B.pre
  have hts : ∀ w ∈ lw_all, w.before _ s = true := fun w h => hts w (List.mem_cons_of_mem _ h)
  have hF : CallFix p m c cX1_dayOfYear 2 s ([.ref p0] : List Value).toArray lw_all RX1 := ⟨B.exec, B.bytes, hml, findClass_of_methodNamed B.named, hts⟩
  have hlocks := B.notSynchronized
  have hl := lv_entry ([.ref p0]) (n := 2) (Nat.le_of_ble_eq_true rfl)
  rw [lg_entry_eq]
  generalize (lg_sl ([.ref p0]) ++ List.replicate (2 - (lg_sl ([.ref p0])).length) Slot.unset).toArray = ls at hl ⊢
  have hl : lv_has ls 2 [(0, .ref p0)] := hl
  have hS : va_S (hA X0 s.heap.size) s.heap s.heap [] := va_S.rf
  unfold wpX1_dayOfYear at hw
  show W p l e (rmh 3 64 0 0) s m _ below meth c _ _ _ _ _ _
  refine lv_aload_n hF.1 hF.2.1 dX1_dayOfYear_0 rfl (lv_at hl 0 rfl) ?_
  obtain ⟨fs_1, v_2, hx_3, hv_4, hw⟩ := hw
  refine x_get hF hC hP in_X1 rfl 0 (by decide) q244 (fun _ z => z) hx_3 hv_4 dX1_dayOfYear_1 ?_
  obtain ⟨fs_5, v_6, hx_7, hv_8, hw⟩ := hw
  refine x_getN hF hC hP in_X2 rfl 7 (by decide) q169 (fun _ z => z) hx_7 hv_8 dX1_dayOfYear_4 ?_
  refine hp_i (hrp_S (As := [.int v_6]) (rest := []) hF hl.1 (metX1_counted l _ v_6) (va_cwS 1 hF.2.2.2.2 (lw_S q290 q291 q75 q292) rfl rfl rfl (by decide +kernel) ⟨Nat.le_of_ble_eq_true rfl, Nat.le_of_ble_eq_true rfl⟩) hw rfl rfl (Nat.le_of_ble_eq_true rfl) dX1_dayOfYear_7 ⟨Nat.le_refl _, Nat.le_refl _⟩) (fun r_9 hw => ?_)
  refine lv_sipush (v := 10000) hF.1 hF.2.1 dX1_dayOfYear_10 (by decide) ?_
  refine lv_idiv hF.1 hF.2.1 dX1_dayOfYear_13 (by decide) ?_
  refine lv_topi (fun x1_10 ex1_10 => ?_)
  have hw := hw x1_10 ex1_10
  refine lv_istore_n (lv' := [(1, .int x1_10), (0, .ref p0)]) hF.1 hF.2.1 dX1_dayOfYear_14 rfl hl (by decide) rfl (fun ls hl => ?_)
  refine lv_aload_n hF.1 hF.2.1 dX1_dayOfYear_15 rfl (lv_at hl 1 rfl) ?_
  obtain ⟨fs_11, v_12, hx_13, hv_14, hw⟩ := hw
  refine x_get hF hC hP in_X1 rfl 0 (by decide) q244 (fun _ z => z) hx_13 hv_14 dX1_dayOfYear_16 ?_
  obtain ⟨fs_15, v_16, hx_17, hv_18, hw⟩ := hw
  refine x_getN hF hC hP in_X2 rfl 7 (by decide) q169 (fun _ z => z) hx_17 hv_18 dX1_dayOfYear_19 ?_
  refine lv_iload_n hF.1 hF.2.1 dX1_dayOfYear_22 rfl (lv_at hl 0 rfl) ?_
  refine lv_iconst (v := 1) hF.1 hF.2.1 dX1_dayOfYear_23 (by decide) ?_
  refine hp_i (hrp_S (As := [.int x1_10, .int 1]) (rest := [.int v_16]) hF hl.1 (metX1_dayBefore l _ x1_10 1) (va_cwS 2 hF.2.2.2.2 (lw_S q325 q326 q75 q327) rfl rfl rfl (by decide +kernel) ⟨Nat.le_of_ble_eq_true rfl, Nat.le_of_ble_eq_true rfl⟩) hw rfl rfl (Nat.le_of_ble_eq_true rfl) dX1_dayOfYear_24 ⟨Nat.le_refl _, Nat.le_refl _⟩) (fun r_19 hw => ?_)
  refine lv_isub hF.1 hF.2.1 dX1_dayOfYear_27 ?_
  refine lv_iconst (v := 1) hF.1 hF.2.1 dX1_dayOfYear_28 (by decide) ?_
  refine lv_iadd hF.1 hF.2.1 dX1_dayOfYear_29 ?_
  exact h_iret hF hr hlocks hP hS ⟨Nat.le_refl _, Nat.le_refl _⟩ dX1_dayOfYear_30 hw
def wpX1_passed (post : Int32 → hX → Prop) (E : Nat) (X : hX) (p0 : Nat) : Prop := gfA X p0 1 0 (fun v_2 => gfI X v_2 2 8 (fun v_6 => post v_6 X))
abbrev wsX1_passed : List Cond := ws_ yX1_passed cX1_passed 1 (some .int)
set_option maxHeartbeats 8000000 in
theorem metX1_passed (l : Launch) (K : HK) (sz : Nat) (post : Int32 → hX → Prop) (X0 : hX) (p0 : Nat) : Met l yX1_passed wsX1_passed (rmh 0 0 0 0) (hPc K X0 sz [.ref p0] (wpX1_passed post (K.2.2 0) X0 p0)) (hQi post K X0 sz) 0 0 (hA X0 sz) := by
  refine Met.ofW (cc := cX1_passed) (maxL := 1) (ret := (some .int)) (by decide) rfl ?_
  intro p e s m args below meth c s₁ B hml hv
  obtain ⟨rfl, hv⟩ := hv
  obtain ⟨hC, hP, hw⟩ := HC.of hv
  have hsz : s.heap.size = sz := hv.1
  subst hsz
  clear hv
  have hr := B.returns
  have hts := atoms_spec (ws := wsX1_passed) B.pre
  have hts : ∀ w ∈ lw_all, w.before _ s = true := fun w h => hts w (List.mem_cons_of_mem _ h)
  have hF : CallFix p m c cX1_passed 1 s ([.ref p0] : List Value).toArray lw_all RX1 := ⟨B.exec, B.bytes, hml, findClass_of_methodNamed B.named, hts⟩
  have hlocks := B.notSynchronized
  have hl := lv_entry ([.ref p0]) (n := 1) (Nat.le_of_ble_eq_true rfl)
  rw [lg_entry_eq]
  generalize (lg_sl ([.ref p0]) ++ List.replicate (1 - (lg_sl ([.ref p0])).length) Slot.unset).toArray = ls at hl ⊢
  have hl : lv_has ls 1 [(0, .ref p0)] := hl
  have hS : va_S (hA X0 s.heap.size) s.heap s.heap [] := va_S.rf
  unfold wpX1_passed at hw
  show W p l e (rmh 0 0 0 0) s m _ below meth c _ _ _ _ _ _
  refine lv_aload_n hF.1 hF.2.1 dX1_passed_0 rfl (lv_at hl 0 rfl) ?_
  obtain ⟨fs_1, v_2, hx_3, hv_4, hw⟩ := hw
  refine x_get hF hC hP in_X1 rfl 0 (by decide) q244 (fun _ z => z) hx_3 hv_4 dX1_passed_1 ?_
  obtain ⟨fs_5, v_6, hx_7, hv_8, hw⟩ := hw
  refine x_getN hF hC hP in_X2 rfl 8 (by decide) q171 (fun _ z => z) hx_7 hv_8 dX1_passed_4 ?_
  exact h_iret hF hr hlocks hP hS ⟨Nat.le_refl _, Nat.le_refl _⟩ dX1_passed_7 hw
def wpX1_allTeeth_4 (post : Int32 → hX → Prop) (E : Nat) : Nat → Nat → Int32 → Int32 → hX → Prop
  | 0 => fun _ _ _ _ => False
  | n + 1 => fun x0 x1 x2 X => gfA X x0 1 0 (fun v_2 => gfA X v_2 2 0 (fun v_6 => isO X v_6 8 (wpJ2_size (fun r_9 X_10 => ((r_9 ≤ x2 → post x1 X_10) ∧ (¬ r_9 ≤ x2 → gfA X_10 x0 1 0 (fun v_14 => gfA X_10 v_14 2 0 (fun v_18 => isO X_10 v_18 8 (wpJ2_get (fun r_21 X_22 => (∃ a_24 : Nat, r_21 = some a_24 ∧ ((∃ fs, X_22 a_24 = some (.inr (5, fs))) ∧ gfI X_22 a_24 5 1 (fun v_28 => (∀ x1_31 : Int32, x1_31 = x1 + v_28 → (∀ x2_32 : Int32, x2_32 = x2 + 1 → wpX1_allTeeth_4 post E n x0 x1_31 x2_32 X_22)))))) E X_10 v_18 x2)))))) E X v_6)))
def wpX1_allTeeth (post : Int32 → hX → Prop) (E : Nat) (X : hX) (p0 : Nat) : Prop := ∃ fu : Nat, wpX1_allTeeth_4 post E fu p0 0 0 X
abbrev wsX1_allTeeth : List Cond := ws_ yX1_allTeeth cX1_allTeeth 3 (some .int)
set_option maxHeartbeats 8000000 in
theorem metX1_allTeeth (l : Launch) (K : HK) (sz : Nat) (post : Int32 → hX → Prop) (X0 : hX) (p0 : Nat) : Met l yX1_allTeeth wsX1_allTeeth (rmh 3 64 0 0) (hPc K X0 sz [.ref p0] (wpX1_allTeeth post (K.2.2 0) X0 p0)) (hQi post K X0 sz) 0 0 (hA X0 sz) := by
  refine Met.ofW (cc := cX1_allTeeth) (maxL := 3) (ret := (some .int)) (by decide) rfl ?_
  intro p e s m args below meth c s₁ B hml hv
  obtain ⟨rfl, hv⟩ := hv
  obtain ⟨hC, hP, hw⟩ := HC.of hv
  have hsz : s.heap.size = sz := hv.1
  subst hsz
  clear hv
  have hr := B.returns
  have hts := atoms_spec (ws := wsX1_allTeeth) B.pre
  have hts : ∀ w ∈ lw_all, w.before _ s = true := fun w h => hts w (List.mem_cons_of_mem _ h)
  have hF : CallFix p m c cX1_allTeeth 3 s ([.ref p0] : List Value).toArray lw_all RX1 := ⟨B.exec, B.bytes, hml, findClass_of_methodNamed B.named, hts⟩
  have hlocks := B.notSynchronized
  have hl := lv_entry ([.ref p0]) (n := 3) (Nat.le_of_ble_eq_true rfl)
  rw [lg_entry_eq]
  generalize (lg_sl ([.ref p0]) ++ List.replicate (3 - (lg_sl ([.ref p0])).length) Slot.unset).toArray = ls at hl ⊢
  have hl : lv_has ls 3 [(0, .ref p0)] := hl
  have hS : va_S (hA X0 s.heap.size) s.heap s.heap [] := va_S.rf
  have T4 : ∀ (n : Nat), ∀ (x0 : Nat) (x1 : Int32) (x2 : Int32) (X : hX) (H : Heap) (locs : List Loc) (ls : Array Slot), hI K X0 s.heap.size X H → va_S (hA X0 s.heap.size) s.heap H locs → lv_has ls 3 [(0, .ref x0), (1, .int x1), (2, .int x2)] → wpX1_allTeeth_4 post (K.2.2 0) n x0 x1 x2 X → W p l e (rmh 3 64 0 0) s m ([.ref p0] : List Value).toArray below meth c H locs 0 0 (MQ below (hQi post K X0 s.heap.size) ([.ref p0] : List Value).toArray s 0 0 (hA X0 s.heap.size)) (F0 m 4 ls []) := by
    intro n
    induction n with
    | zero =>
      intro x0 x1 x2 X H locs ls hP hS hl hw
      exact False.elim hw
    | succ n ih =>
      intro x0 x1 x2 X H locs ls hP hS hl hw
      unfold wpX1_allTeeth_4 at hw
      refine lv_iload_n hF.1 hF.2.1 dX1_allTeeth_4 rfl (lv_at hl 2 rfl) ?_
      refine lv_aload_n hF.1 hF.2.1 dX1_allTeeth_5 rfl (lv_at hl 0 rfl) ?_
      obtain ⟨fs_1, v_2, hx_3, hv_4, hw⟩ := hw
      refine x_get hF hC hP in_X1 rfl 0 (by decide) q244 (fun _ z => z) hx_3 hv_4 dX1_allTeeth_6 ?_
      obtain ⟨fs_5, v_6, hx_7, hv_8, hw⟩ := hw
      refine x_getN hF hC hP in_X2 rfl 0 (by decide) q152 (fun _ z => z) hx_7 hv_8 dX1_allTeeth_9 ?_
      obtain ⟨ho_11, hw⟩ := hw
      refine hk_i (hr_V (As := []) (rest := [.int x2]) (T := TJ2) (N := 3) (ci := 8) hF hl.1 hC hP hS (metJ2_size l K _ _ X v_6) rfl (cwV 0 hF.2.2.2.2 (lw_V q266 q267 q268 q79 q269) rfl rfl rfl (by decide +kernel) ⟨Nat.le_of_ble_eq_true rfl, Nat.le_of_ble_eq_true rfl⟩) ho_11 hw rfl rfl (Nat.le_of_ble_eq_true rfl) dX1_allTeeth_12 ⟨Nat.le_refl _, Nat.le_refl _⟩) hP hS (fun r_9 X_10 H locs hw hP hS => ?_)
      refine lv_icmp_ge (tgt := 44) hF.1 hF.2.1 dX1_allTeeth_15 (by decide) (fun c_12 => ?_) (fun c_12 => ?_)
      · have hw := hw.1 c_12
        refine lv_iload_n hF.1 hF.2.1 dX1_allTeeth_44 rfl (lv_at hl 1 rfl) ?_
        exact h_iret hF hr hlocks hP hS ⟨Nat.le_refl _, Nat.le_refl _⟩ dX1_allTeeth_45 hw
      · have hw := hw.2 c_12
        refine lv_iload_n hF.1 hF.2.1 dX1_allTeeth_18 rfl (lv_at hl 1 rfl) ?_
        refine lv_aload_n hF.1 hF.2.1 dX1_allTeeth_19 rfl (lv_at hl 0 rfl) ?_
        obtain ⟨fs_13, v_14, hx_15, hv_16, hw⟩ := hw
        refine x_get hF hC hP in_X1 rfl 0 (by decide) q244 (fun _ z => z) hx_15 hv_16 dX1_allTeeth_20 ?_
        obtain ⟨fs_17, v_18, hx_19, hv_20, hw⟩ := hw
        refine x_getN hF hC hP in_X2 rfl 0 (by decide) q152 (fun _ z => z) hx_19 hv_20 dX1_allTeeth_23 ?_
        refine lv_iload_n hF.1 hF.2.1 dX1_allTeeth_26 rfl (lv_at hl 2 rfl) ?_
        obtain ⟨ho_23, hw⟩ := hw
        refine hk_q (hr_V (As := [.int x2]) (rest := [.int x1]) (T := TJ2) (N := 3) (ci := 8) hF hl.1 hC hP hS (metJ2_get l K _ _ X_10 v_18 x2) rfl (cwV 1 hF.2.2.2.2 (lw_V q419 q347 q348 q79 q349) rfl rfl rfl (by decide +kernel) ⟨Nat.le_of_ble_eq_true rfl, Nat.le_of_ble_eq_true rfl⟩) ho_23 hw rfl rfl (Nat.le_of_ble_eq_true rfl) dX1_allTeeth_27 ⟨Nat.le_refl _, Nat.le_refl _⟩) hP hS (fun r_21 X_22 H locs hw hP hS => ?_)
        obtain ⟨a_24, e_25, hw⟩ := hw
        subst e_25
        rw [va_rf_some]
        obtain ⟨h_26, hw⟩ := hw
        refine x_cast (T := TX5) (N := 2) (ci := 5) hF hC hP rfl q420 h_26 dX1_allTeeth_30 ?_
        obtain ⟨fs_27, v_28, hx_29, hv_30, hw⟩ := hw
        refine x_getN hF hC hP in_X5 rfl 1 (by decide) q864 (fun _ z => z) hx_29 hv_30 dX1_allTeeth_33 ?_
        refine lv_iadd hF.1 hF.2.1 dX1_allTeeth_36 ?_
        refine lv_topi (fun x1_31 ex1_31 => ?_)
        have hw := hw x1_31 ex1_31
        refine lv_istore_n (lv' := [(1, .int x1_31), (0, .ref x0), (2, .int x2)]) hF.1 hF.2.1 dX1_allTeeth_37 rfl hl (by decide) rfl (fun ls hl => ?_)
        obtain ⟨x2_32, ex2_32⟩ : ∃ y : Int32, y = x2 + 1 := ⟨_, rfl⟩
        have hw := hw x2_32 ex2_32
        refine lv_iinc (v := x2_32) (lv' := [(2, .int x2_32), (1, .int x1_31), (0, .ref x0)]) hF.1 hF.2.1 dX1_allTeeth_38 hl (k := 2) rfl (by rw [ex2_32]; rfl) (by decide) rfl (fun ls hl => ?_)
        refine lv_goto (tgt := 4) hF.1 hF.2.1 dX1_allTeeth_41 (by decide) ?_
        exact ih x0 x1_31 x2_32 X_22 _ _ ls hP hS (lv_sub hl [2, 1, 0] rfl) hw
  unfold wpX1_allTeeth at hw
  show W p l e (rmh 3 64 0 0) s m _ below meth c _ _ _ _ _ _
  refine lv_iconst (v := 0) hF.1 hF.2.1 dX1_allTeeth_0 (by decide) ?_
  refine lv_istore_n (lv' := [(1, .int 0), (0, .ref p0)]) hF.1 hF.2.1 dX1_allTeeth_1 rfl hl (by decide) rfl (fun ls hl => ?_)
  refine lv_iconst (v := 0) hF.1 hF.2.1 dX1_allTeeth_2 (by decide) ?_
  refine lv_istore_n (lv' := [(2, .int 0), (1, .int 0), (0, .ref p0)]) hF.1 hF.2.1 dX1_allTeeth_3 rfl hl (by decide) rfl (fun ls hl => ?_)
  obtain ⟨fu, hw⟩ := hw
  exact T4 fu p0 0 0 X0 _ _ ls hP hS (lv_sub hl [2, 1, 0] rfl) hw
def wpX1_driven (post : Int32 → hX → Prop) (E : Nat) (mc ms : Nat) (X : hX) (p0 : Nat) : Prop := gfA X p0 1 0 (fun v_2 => isO X v_2 2 ((∃ mc_8 ms_9 : Nat, 0 + mc_8 ≤ mc ∧ 0 + ms_9 ≤ ms ∧ wpX2_drive (fun r_5 X_6 => (∃ a_12 : Nat, r_5 = some a_12 ∧ gfI X_6 a_12 3 6 (fun v_15 => post v_15 X_6))) E mc_8 ms_9 X v_2)))
abbrev wsX1_driven : List Cond := ws_ yX1_driven cX1_driven 1 (some .int)
set_option maxHeartbeats 8000000 in
theorem metX1_driven (l : Launch) (K : HK) (mc ms : Nat) (sz : Nat) (post : Int32 → hX → Prop) (X0 : hX) (p0 : Nat) : Met l yX1_driven wsX1_driven (rmh 5 123 mc ms) (hPc K X0 sz [.ref p0] (wpX1_driven post (K.2.2 0) mc ms X0 p0)) (hQi post K X0 sz) mc ms (hA X0 sz) := by
  refine Met.ofW (cc := cX1_driven) (maxL := 1) (ret := (some .int)) (by decide) rfl ?_
  intro p e s m args below meth c s₁ B hml hv
  obtain ⟨rfl, hv⟩ := hv
  obtain ⟨hC, hP, hw⟩ := HC.of hv
  have hsz : s.heap.size = sz := hv.1
  subst hsz
  clear hv
  have hr := B.returns
  have hts := atoms_spec (ws := wsX1_driven) B.pre
  have hts : ∀ w ∈ lw_all, w.before _ s = true := fun w h => hts w (List.mem_cons_of_mem _ h)
  have hF : CallFix p m c cX1_driven 1 s ([.ref p0] : List Value).toArray lw_all RX1 := ⟨B.exec, B.bytes, hml, findClass_of_methodNamed B.named, hts⟩
  have hlocks := B.notSynchronized
  have hl := lv_entry ([.ref p0]) (n := 1) (Nat.le_of_ble_eq_true rfl)
  rw [lg_entry_eq]
  generalize (lg_sl ([.ref p0]) ++ List.replicate (1 - (lg_sl ([.ref p0])).length) Slot.unset).toArray = ls at hl ⊢
  have hl : lv_has ls 1 [(0, .ref p0)] := hl
  have hS : va_S (hA X0 s.heap.size) s.heap s.heap [] := va_S.rf
  unfold wpX1_driven at hw
  show W p l e (rmh 5 123 mc ms) s m _ below meth c _ _ _ _ _ _
  refine lv_aload_n hF.1 hF.2.1 dX1_driven_0 rfl (lv_at hl 0 rfl) ?_
  obtain ⟨fs_1, v_2, hx_3, hv_4, hw⟩ := hw
  refine x_get hF hC hP in_X1 rfl 0 (by decide) q244 (fun _ z => z) hx_3 hv_4 dX1_driven_1 ?_
  obtain ⟨ho_7, hw⟩ := hw
  obtain ⟨mc_8, ms_9, hc_10, hs_11, hw⟩ := hw
  refine hk_q (hr_V (As := []) (rest := []) (T := TX2) (N := 9) (ci := 2) hF hl.1 hC hP hS (metX2_drive l K mc_8 ms_9 _ _ X0 v_2) rfl (cwV 0 hF.2.2.2.2 (lw_V q336 q337 q338 q76 q339) rfl rfl rfl (by decide +kernel) ⟨Nat.le_of_ble_eq_true rfl, Nat.le_of_ble_eq_true rfl⟩) ho_7 hw rfl rfl (Nat.le_of_ble_eq_true rfl) dX1_driven_4 ⟨hc_10, hs_11⟩) hP hS (fun r_5 X_6 H locs hw hP hS => ?_)
  obtain ⟨a_12, e_13, hw⟩ := hw
  subst e_13
  rw [va_rf_some]
  obtain ⟨fs_14, v_15, hx_16, hv_17, hw⟩ := hw
  refine x_getN hF hC hP in_X6 rfl 6 (by decide) q390 (fun _ z => z) hx_16 hv_17 dX1_driven_7 ?_
  exact h_iret hF hr hlocks hP hS ⟨hc_10, hs_11⟩ dX1_driven_10 hw
def wpX1_wheelAt (post : Option Nat → hX → Prop) (xpost : String → Nat → hX → Prop) (E : Nat) (mc ms : Nat) (X : hX) (p0 : Nat) (p1 : Int32) : Prop := gfA X p0 1 0 (fun v_2 => isO X v_2 2 (wpX2_isWheel (fun r_5 X_6 => (∃ mc_9 ms_10 : Nat, 0 + mc_9 ≤ mc ∧ 0 + ms_10 ≤ ms ∧ wpX1_needArgument (fun X_8 => gfA X_8 p0 1 0 (fun v_14 => gfA X_8 v_14 2 0 (fun v_18 => isO X_8 v_18 8 (wpJ2_get (fun r_21 X_22 => (∃ a_24 : Nat, r_21 = some a_24 ∧ ((∃ fs, X_22 a_24 = some (.inr (5, fs))) ∧ post (some a_24) X_22))) E X_8 v_18 p1)))) xpost E mc_9 ms_10 X_6 r_5)) E X v_2 p1))
abbrev wsX1_wheelAt : List Cond := ws_ yX1_wheelAt cX1_wheelAt 2 (some (.object "ClockworkOrreries$Wheel"))
set_option maxHeartbeats 8000000 in
theorem metX1_wheelAt (l : Launch) (hlt : l.stackTraces = false) (K : HK) (mc ms : Nat) (sz : Nat) (post : Option Nat → hX → Prop) (xpost : String → Nat → hX → Prop) (X0 : hX) (p0 : Nat) (p1 : Int32) : vx_Met l yX1_wheelAt wsX1_wheelAt (rmh 7 115 mc ms) (hPc K X0 sz [.ref p0, .int p1] (wpX1_wheelAt post xpost (K.2.2 0) mc ms X0 p0 p1)) (hQq post K X0 sz) (hXC xpost K X0 sz) mc ms (hA X0 sz) := by
  refine vx_ofW (cc := cX1_wheelAt) (maxL := 2) (ret := (some (.object "ClockworkOrreries$Wheel"))) (by decide) rfl ?_
  intro p e s m args below meth c s₁ B hml hno hv
  obtain ⟨rfl, hv⟩ := hv
  obtain ⟨hC, hP, hw⟩ := HC.of hv
  have hsz : s.heap.size = sz := hv.1
  subst hsz
  clear hv
  have hout : ∀ {pc : Nat}, ∀ x ∈ c.exceptionTable.toList, covers x pc = false := fun x hx => (hno x hx).elim
  have hr := B.returns
  have hts := atoms_spec (ws := wsX1_wheelAt) B.pre
  have hts : ∀ w ∈ lw_all, w.before _ s = true := fun w h => hts w (List.mem_cons_of_mem _ h)
  have hF : CallFix p m c cX1_wheelAt 2 s ([.ref p0, .int p1] : List Value).toArray lw_all RX1 := ⟨B.exec, B.bytes, hml, findClass_of_methodNamed B.named, hts⟩
  have hlocks := B.notSynchronized
  have hl := lv_entry ([.ref p0, .int p1]) (n := 2) (Nat.le_of_ble_eq_true rfl)
  rw [lg_entry_eq]
  generalize (lg_sl ([.ref p0, .int p1]) ++ List.replicate (2 - (lg_sl ([.ref p0, .int p1])).length) Slot.unset).toArray = ls at hl ⊢
  have hl : lv_has ls 2 [(0, .ref p0), (1, .int p1)] := hl
  have hS : va_S (hA X0 s.heap.size) s.heap s.heap [] := va_S.rf
  unfold wpX1_wheelAt at hw
  show W p l e (rmh 7 115 mc ms) s m _ below meth c _ _ _ _ _ _
  refine lv_aload_n hF.1 hF.2.1 dX1_wheelAt_0 rfl (lv_at hl 0 rfl) ?_
  obtain ⟨fs_1, v_2, hx_3, hv_4, hw⟩ := hw
  refine x_get hF hC hP in_X1 rfl 0 (by decide) q244 (fun _ z => z) hx_3 hv_4 dX1_wheelAt_1 ?_
  refine lv_iload_n hF.1 hF.2.1 dX1_wheelAt_4 rfl (lv_at hl 1 rfl) ?_
  obtain ⟨ho_7, hw⟩ := hw
  refine hk_i (hr_V (As := [.int p1]) (rest := []) (T := TX2) (N := 9) (ci := 2) hF hl.1 hC hP hS (metX2_isWheel l K _ _ X0 v_2 p1) rfl (cwV 1 hF.2.2.2.2 (lw_V q1139 q879 q880 q76 q881) rfl rfl rfl (by decide +kernel) ⟨Nat.le_of_ble_eq_true rfl, Nat.le_of_ble_eq_true rfl⟩) ho_7 hw rfl rfl (Nat.le_of_ble_eq_true rfl) dX1_wheelAt_5 ⟨Nat.zero_le _, Nat.zero_le _⟩) hP hS (fun r_5 X_6 H locs hw hP hS => ?_)
  obtain ⟨mc_9, ms_10, hc_11, hs_12, hw⟩ := hw
  refine hkx_v (hrx_S (As := [.int r_5]) (rest := []) hF hl.1 hC hP hS (metX1_needArgument l hlt K mc_9 ms_10 _ _ _ X_6 r_5) (va_cwS 1 hF.2.2.2.2 (lw_S q1140 q1141 q75 q1142) rfl rfl rfl (by decide +kernel) ⟨Nat.le_of_ble_eq_true rfl, Nat.le_of_ble_eq_true rfl⟩) hw rfl rfl (Nat.le_of_ble_eq_true rfl) dX1_wheelAt_8 ⟨hc_11, hs_12⟩) hP hS (fun E9 q9 X9 H locs hw hcl hP hS => ?_) (fun X_8 H locs hw hP hS => ?_)
  · exact h_out hout hlocks hcl hP hS ⟨hc_11, hs_12⟩ hw
  refine lv_aload_n hF.1 hF.2.1 dX1_wheelAt_11 rfl (lv_at hl 0 rfl) ?_
  obtain ⟨fs_13, v_14, hx_15, hv_16, hw⟩ := hw
  refine x_get hF hC hP in_X1 rfl 0 (by decide) q244 (fun _ z => z) hx_15 hv_16 dX1_wheelAt_12 ?_
  obtain ⟨fs_17, v_18, hx_19, hv_20, hw⟩ := hw
  refine x_getN hF hC hP in_X2 rfl 0 (by decide) q152 (fun _ z => z) hx_19 hv_20 dX1_wheelAt_15 ?_
  refine lv_iload_n hF.1 hF.2.1 dX1_wheelAt_18 rfl (lv_at hl 1 rfl) ?_
  obtain ⟨ho_23, hw⟩ := hw
  refine hk_q (hr_V (As := [.int p1]) (rest := []) (T := TJ2) (N := 3) (ci := 8) hF hl.1 hC hP hS (metJ2_get l K _ _ X_8 v_18 p1) rfl (cwV 1 hF.2.2.2.2 (lw_V q419 q347 q348 q79 q349) rfl rfl rfl (by decide +kernel) ⟨Nat.le_of_ble_eq_true rfl, Nat.le_of_ble_eq_true rfl⟩) ho_23 hw rfl rfl (Nat.le_of_ble_eq_true rfl) dX1_wheelAt_19 ⟨hc_11, hs_12⟩) hP hS (fun r_21 X_22 H locs hw hP hS => ?_)
  obtain ⟨a_24, e_25, hw⟩ := hw
  subst e_25
  rw [va_rf_some]
  obtain ⟨h_26, hw⟩ := hw
  refine x_cast (T := TX5) (N := 2) (ci := 5) hF hC hP rfl q420 h_26 dX1_wheelAt_22 ?_
  exact vx_ret (h_aret (r := (some a_24)) hF hr (Or.inl ⟨_, rfl⟩) hlocks hP hS ⟨hc_11, hs_12⟩ dX1_wheelAt_25 hw)
def wpX1_teethOf (post : Int32 → hX → Prop) (xpost : String → Nat → hX → Prop) (E : Nat) (mc ms : Nat) (X : hX) (p0 : Nat) (p1 : Int32) : Prop := isO X p0 1 ((∃ mc_4 ms_5 : Nat, 0 + mc_4 ≤ mc ∧ 0 + ms_5 ≤ ms ∧ wpX1_wheelAt (fun r_1 X_2 => (∃ a_8 : Nat, r_1 = some a_8 ∧ gfI X_2 a_8 5 1 (fun v_11 => post v_11 X_2))) xpost E mc_4 ms_5 X p0 p1))
abbrev wsX1_teethOf : List Cond := ws_ yX1_teethOf cX1_teethOf 2 (some .int)
set_option maxHeartbeats 8000000 in
theorem metX1_teethOf (l : Launch) (hlt : l.stackTraces = false) (K : HK) (mc ms : Nat) (sz : Nat) (post : Int32 → hX → Prop) (xpost : String → Nat → hX → Prop) (X0 : hX) (p0 : Nat) (p1 : Int32) : vx_Met l yX1_teethOf wsX1_teethOf (rmh 8 136 mc ms) (hPc K X0 sz [.ref p0, .int p1] (wpX1_teethOf post xpost (K.2.2 0) mc ms X0 p0 p1)) (hQi post K X0 sz) (hXC xpost K X0 sz) mc ms (hA X0 sz) := by
  refine vx_ofW (cc := cX1_teethOf) (maxL := 2) (ret := (some .int)) (by decide) rfl ?_
  intro p e s m args below meth c s₁ B hml hno hv
  obtain ⟨rfl, hv⟩ := hv
  obtain ⟨hC, hP, hw⟩ := HC.of hv
  have hsz : s.heap.size = sz := hv.1
  subst hsz
  clear hv
  have hout : ∀ {pc : Nat}, ∀ x ∈ c.exceptionTable.toList, covers x pc = false := fun x hx => (hno x hx).elim
  have hr := B.returns
  have hts := atoms_spec (ws := wsX1_teethOf) B.pre
  have hts : ∀ w ∈ lw_all, w.before _ s = true := fun w h => hts w (List.mem_cons_of_mem _ h)
  have hF : CallFix p m c cX1_teethOf 2 s ([.ref p0, .int p1] : List Value).toArray lw_all RX1 := ⟨B.exec, B.bytes, hml, findClass_of_methodNamed B.named, hts⟩
  have hlocks := B.notSynchronized
  have hl := lv_entry ([.ref p0, .int p1]) (n := 2) (Nat.le_of_ble_eq_true rfl)
  rw [lg_entry_eq]
  generalize (lg_sl ([.ref p0, .int p1]) ++ List.replicate (2 - (lg_sl ([.ref p0, .int p1])).length) Slot.unset).toArray = ls at hl ⊢
  have hl : lv_has ls 2 [(0, .ref p0), (1, .int p1)] := hl
  have hS : va_S (hA X0 s.heap.size) s.heap s.heap [] := va_S.rf
  unfold wpX1_teethOf at hw
  show W p l e (rmh 8 136 mc ms) s m _ below meth c _ _ _ _ _ _
  refine lv_aload_n hF.1 hF.2.1 dX1_teethOf_0 rfl (lv_at hl 0 rfl) ?_
  refine lv_iload_n hF.1 hF.2.1 dX1_teethOf_1 rfl (lv_at hl 1 rfl) ?_
  obtain ⟨ho_3, hw⟩ := hw
  obtain ⟨mc_4, ms_5, hc_6, hs_7, hw⟩ := hw
  refine hkx_q (hrx_V (As := [.int p1]) (rest := []) (T := TX1) (N := 4) (ci := 1) hF hl.1 hC hP hS (metX1_wheelAt l hlt K mc_4 ms_5 _ _ _ X0 p0 p1) rfl (cwV 1 hF.2.2.2.2 (lw_V q1135 q1137 qs11 q75 q1138) rfl rfl rfl (by decide +kernel) ⟨Nat.le_of_ble_eq_true rfl, Nat.le_of_ble_eq_true rfl⟩) ho_3 hw rfl rfl (Nat.le_of_ble_eq_true rfl) dX1_teethOf_2 ⟨hc_6, hs_7⟩) hP hS (fun E9 q9 X9 H locs hw hcl hP hS => ?_) (fun r_1 X_2 H locs hw hP hS => ?_)
  · exact h_out hout hlocks hcl hP hS ⟨hc_6, hs_7⟩ hw
  obtain ⟨a_8, e_9, hw⟩ := hw
  subst e_9
  rw [va_rf_some]
  obtain ⟨fs_10, v_11, hx_12, hv_13, hw⟩ := hw
  refine x_getN hF hC hP in_X5 rfl 1 (by decide) q864 (fun _ z => z) hx_12 hv_13 dX1_teethOf_5 ?_
  exact vx_ret (h_iret hF hr hlocks hP hS ⟨hc_6, hs_7⟩ dX1_teethOf_8 hw)
def wpX1_axleOf (post : Int32 → hX → Prop) (xpost : String → Nat → hX → Prop) (E : Nat) (mc ms : Nat) (X : hX) (p0 : Nat) (p1 : Int32) : Prop := isO X p0 1 ((∃ mc_4 ms_5 : Nat, 0 + mc_4 ≤ mc ∧ 0 + ms_5 ≤ ms ∧ wpX1_wheelAt (fun r_1 X_2 => (∃ a_8 : Nat, r_1 = some a_8 ∧ gfI X_2 a_8 5 0 (fun v_11 => post v_11 X_2))) xpost E mc_4 ms_5 X p0 p1))
abbrev wsX1_axleOf : List Cond := ws_ yX1_axleOf cX1_axleOf 2 (some .int)
set_option maxHeartbeats 8000000 in
theorem metX1_axleOf (l : Launch) (hlt : l.stackTraces = false) (K : HK) (mc ms : Nat) (sz : Nat) (post : Int32 → hX → Prop) (xpost : String → Nat → hX → Prop) (X0 : hX) (p0 : Nat) (p1 : Int32) : vx_Met l yX1_axleOf wsX1_axleOf (rmh 8 136 mc ms) (hPc K X0 sz [.ref p0, .int p1] (wpX1_axleOf post xpost (K.2.2 0) mc ms X0 p0 p1)) (hQi post K X0 sz) (hXC xpost K X0 sz) mc ms (hA X0 sz) := by
  refine vx_ofW (cc := cX1_axleOf) (maxL := 2) (ret := (some .int)) (by decide) rfl ?_
  intro p e s m args below meth c s₁ B hml hno hv
  obtain ⟨rfl, hv⟩ := hv
  obtain ⟨hC, hP, hw⟩ := HC.of hv
  have hsz : s.heap.size = sz := hv.1
  subst hsz
  clear hv
  have hout : ∀ {pc : Nat}, ∀ x ∈ c.exceptionTable.toList, covers x pc = false := fun x hx => (hno x hx).elim
  have hr := B.returns
  have hts := atoms_spec (ws := wsX1_axleOf) B.pre
  have hts : ∀ w ∈ lw_all, w.before _ s = true := fun w h => hts w (List.mem_cons_of_mem _ h)
  have hF : CallFix p m c cX1_axleOf 2 s ([.ref p0, .int p1] : List Value).toArray lw_all RX1 := ⟨B.exec, B.bytes, hml, findClass_of_methodNamed B.named, hts⟩
  have hlocks := B.notSynchronized
  have hl := lv_entry ([.ref p0, .int p1]) (n := 2) (Nat.le_of_ble_eq_true rfl)
  rw [lg_entry_eq]
  generalize (lg_sl ([.ref p0, .int p1]) ++ List.replicate (2 - (lg_sl ([.ref p0, .int p1])).length) Slot.unset).toArray = ls at hl ⊢
  have hl : lv_has ls 2 [(0, .ref p0), (1, .int p1)] := hl
  have hS : va_S (hA X0 s.heap.size) s.heap s.heap [] := va_S.rf
  unfold wpX1_axleOf at hw
  show W p l e (rmh 8 136 mc ms) s m _ below meth c _ _ _ _ _ _
  refine lv_aload_n hF.1 hF.2.1 dX1_axleOf_0 rfl (lv_at hl 0 rfl) ?_
  refine lv_iload_n hF.1 hF.2.1 dX1_axleOf_1 rfl (lv_at hl 1 rfl) ?_
  obtain ⟨ho_3, hw⟩ := hw
  obtain ⟨mc_4, ms_5, hc_6, hs_7, hw⟩ := hw
  refine hkx_q (hrx_V (As := [.int p1]) (rest := []) (T := TX1) (N := 4) (ci := 1) hF hl.1 hC hP hS (metX1_wheelAt l hlt K mc_4 ms_5 _ _ _ X0 p0 p1) rfl (cwV 1 hF.2.2.2.2 (lw_V q1135 q1137 qs11 q75 q1138) rfl rfl rfl (by decide +kernel) ⟨Nat.le_of_ble_eq_true rfl, Nat.le_of_ble_eq_true rfl⟩) ho_3 hw rfl rfl (Nat.le_of_ble_eq_true rfl) dX1_axleOf_2 ⟨hc_6, hs_7⟩) hP hS (fun E9 q9 X9 H locs hw hcl hP hS => ?_) (fun r_1 X_2 H locs hw hP hS => ?_)
  · exact h_out hout hlocks hcl hP hS ⟨hc_6, hs_7⟩ hw
  obtain ⟨a_8, e_9, hw⟩ := hw
  subst e_9
  rw [va_rf_some]
  obtain ⟨fs_10, v_11, hx_12, hv_13, hw⟩ := hw
  refine x_getN hF hC hP in_X5 rfl 0 (by decide) q860 (fun _ z => z) hx_12 hv_13 dX1_axleOf_5 ?_
  exact vx_ret (h_iret hF hr hlocks hP hS ⟨hc_6, hs_7⟩ dX1_axleOf_8 hw)
def wpX1_whyNotMesh (post : Int32 → hX → Prop) (xpost : String → Nat → hX → Prop) (E : Nat) (mc ms : Nat) (X : hX) (p0 : Nat) (p1 : Int32) (p2 : Int32) : Prop := gfA X p0 1 0 (fun v_2 => isO X v_2 2 (wpX2_areTwo (fun r_5 X_6 => (∃ mc_9 ms_10 : Nat, 0 + mc_9 ≤ mc ∧ 0 + ms_10 ≤ ms ∧ wpX1_needArgument (fun X_8 => gfA X_8 p0 1 0 (fun v_14 => isO X_8 v_14 2 ((∃ mc_20 ms_21 : Nat, (0 + mc_9) + mc_20 ≤ mc ∧ (0 + ms_10) + ms_21 ≤ ms ∧ wpX2_whyMesh (fun r_17 X_18 => post r_17 X_18) E mc_20 ms_21 X_8 v_14 p1 p2)))) xpost E mc_9 ms_10 X_6 r_5)) E X v_2 p1 p2))
abbrev wsX1_whyNotMesh : List Cond := ws_ yX1_whyNotMesh cX1_whyNotMesh 3 (some .int)
set_option maxHeartbeats 8000000 in
theorem metX1_whyNotMesh (l : Launch) (hlt : l.stackTraces = false) (K : HK) (mc ms : Nat) (sz : Nat) (post : Int32 → hX → Prop) (xpost : String → Nat → hX → Prop) (X0 : hX) (p0 : Nat) (p1 : Int32) (p2 : Int32) : vx_Met l yX1_whyNotMesh wsX1_whyNotMesh (rmh 9 237 mc ms) (hPc K X0 sz [.ref p0, .int p1, .int p2] (wpX1_whyNotMesh post xpost (K.2.2 0) mc ms X0 p0 p1 p2)) (hQi post K X0 sz) (hXC xpost K X0 sz) mc ms (hA X0 sz) := by
  refine vx_ofW (cc := cX1_whyNotMesh) (maxL := 3) (ret := (some .int)) (by decide) rfl ?_
  intro p e s m args below meth c s₁ B hml hno hv
  obtain ⟨rfl, hv⟩ := hv
  obtain ⟨hC, hP, hw⟩ := HC.of hv
  have hsz : s.heap.size = sz := hv.1
  subst hsz
  clear hv
  have hout : ∀ {pc : Nat}, ∀ x ∈ c.exceptionTable.toList, covers x pc = false := fun x hx => (hno x hx).elim
  have hr := B.returns
  have hts := atoms_spec (ws := wsX1_whyNotMesh) B.pre
  have hts : ∀ w ∈ lw_all, w.before _ s = true := fun w h => hts w (List.mem_cons_of_mem _ h)
  have hF : CallFix p m c cX1_whyNotMesh 3 s ([.ref p0, .int p1, .int p2] : List Value).toArray lw_all RX1 := ⟨B.exec, B.bytes, hml, findClass_of_methodNamed B.named, hts⟩
  have hlocks := B.notSynchronized
  have hl := lv_entry ([.ref p0, .int p1, .int p2]) (n := 3) (Nat.le_of_ble_eq_true rfl)
  rw [lg_entry_eq]
  generalize (lg_sl ([.ref p0, .int p1, .int p2]) ++ List.replicate (3 - (lg_sl ([.ref p0, .int p1, .int p2])).length) Slot.unset).toArray = ls at hl ⊢
  have hl : lv_has ls 3 [(0, .ref p0), (1, .int p1), (2, .int p2)] := hl
  have hS : va_S (hA X0 s.heap.size) s.heap s.heap [] := va_S.rf
  unfold wpX1_whyNotMesh at hw
  show W p l e (rmh 9 237 mc ms) s m _ below meth c _ _ _ _ _ _
  refine lv_aload_n hF.1 hF.2.1 dX1_whyNotMesh_0 rfl (lv_at hl 0 rfl) ?_
  obtain ⟨fs_1, v_2, hx_3, hv_4, hw⟩ := hw
  refine x_get hF hC hP in_X1 rfl 0 (by decide) q244 (fun _ z => z) hx_3 hv_4 dX1_whyNotMesh_1 ?_
  refine lv_iload_n hF.1 hF.2.1 dX1_whyNotMesh_4 rfl (lv_at hl 1 rfl) ?_
  refine lv_iload_n hF.1 hF.2.1 dX1_whyNotMesh_5 rfl (lv_at hl 2 rfl) ?_
  obtain ⟨ho_7, hw⟩ := hw
  refine hk_i (hr_V (As := [.int p1, .int p2]) (rest := []) (T := TX2) (N := 9) (ci := 2) hF hl.1 hC hP hS (metX2_areTwo l K _ _ X0 v_2 p1 p2) rfl (cwV 2 hF.2.2.2.2 (lw_V q1157 q875 q876 q76 q877) rfl rfl rfl (by decide +kernel) ⟨Nat.le_of_ble_eq_true rfl, Nat.le_of_ble_eq_true rfl⟩) ho_7 hw rfl rfl (Nat.le_of_ble_eq_true rfl) dX1_whyNotMesh_6 ⟨Nat.zero_le _, Nat.zero_le _⟩) hP hS (fun r_5 X_6 H locs hw hP hS => ?_)
  obtain ⟨mc_9, ms_10, hc_11, hs_12, hw⟩ := hw
  refine hkx_v (hrx_S (As := [.int r_5]) (rest := []) hF hl.1 hC hP hS (metX1_needArgument l hlt K mc_9 ms_10 _ _ _ X_6 r_5) (va_cwS 1 hF.2.2.2.2 (lw_S q1140 q1141 q75 q1142) rfl rfl rfl (by decide +kernel) ⟨Nat.le_of_ble_eq_true rfl, Nat.le_of_ble_eq_true rfl⟩) hw rfl rfl (Nat.le_of_ble_eq_true rfl) dX1_whyNotMesh_9 ⟨hc_11, hs_12⟩) hP hS (fun E9 q9 X9 H locs hw hcl hP hS => ?_) (fun X_8 H locs hw hP hS => ?_)
  · exact h_out hout hlocks hcl hP hS ⟨hc_11, hs_12⟩ hw
  refine lv_aload_n hF.1 hF.2.1 dX1_whyNotMesh_12 rfl (lv_at hl 0 rfl) ?_
  obtain ⟨fs_13, v_14, hx_15, hv_16, hw⟩ := hw
  refine x_get hF hC hP in_X1 rfl 0 (by decide) q244 (fun _ z => z) hx_15 hv_16 dX1_whyNotMesh_13 ?_
  refine lv_iload_n hF.1 hF.2.1 dX1_whyNotMesh_16 rfl (lv_at hl 1 rfl) ?_
  refine lv_iload_n hF.1 hF.2.1 dX1_whyNotMesh_17 rfl (lv_at hl 2 rfl) ?_
  obtain ⟨ho_19, hw⟩ := hw
  obtain ⟨mc_20, ms_21, hc_22, hs_23, hw⟩ := hw
  refine hk_i (hr_V (As := [.int p1, .int p2]) (rest := []) (T := TX2) (N := 9) (ci := 2) hF hl.1 hC hP hS (metX2_whyMesh l K mc_20 ms_21 _ _ X_8 v_14 p1 p2) rfl (cwV 2 hF.2.2.2.2 (lw_V q1158 q883 q884 q76 q885) rfl rfl rfl (by decide +kernel) ⟨Nat.le_of_ble_eq_true rfl, Nat.le_of_ble_eq_true rfl⟩) ho_19 hw rfl rfl (Nat.le_of_ble_eq_true rfl) dX1_whyNotMesh_18 ⟨hc_22, hs_23⟩) hP hS (fun r_17 X_18 H locs hw hP hS => ?_)
  exact vx_ret (h_iret hF hr hlocks hP hS ⟨hc_22, hs_23⟩ dX1_whyNotMesh_21 hw)
def wpX1_isDriven (post : Int32 → hX → Prop) (xpost : String → Nat → hX → Prop) (E : Nat) (mc ms : Nat) (X : hX) (p0 : Nat) (p1 : Int32) : Prop := gfA X p0 1 0 (fun v_2 => isO X v_2 2 (wpX2_isAxle (fun r_5 X_6 => (∃ mc_9 ms_10 : Nat, 0 + mc_9 ≤ mc ∧ 0 + ms_10 ≤ ms ∧ wpX1_needArgument (fun X_8 => gfA X_8 p0 1 0 (fun v_14 => isO X_8 v_14 2 ((∃ mc_20 ms_21 : Nat, (0 + mc_9) + mc_20 ≤ mc ∧ (0 + ms_10) + ms_21 ≤ ms ∧ wpX2_drive (fun r_17 X_18 => (∃ a_24 : Nat, r_17 = some a_24 ∧ isO X_18 a_24 3 (wpX6_has (fun r_26 X_27 => ((r_26 = 0 ∨ r_26 = 1) ∧ post r_26 X_27)) E X_18 a_24 p1))) E mc_20 ms_21 X_8 v_14)))) xpost E mc_9 ms_10 X_6 r_5)) E X v_2 p1))
abbrev wsX1_isDriven : List Cond := ws_ yX1_isDriven cX1_isDriven 2 (some .boolean)
set_option maxHeartbeats 8000000 in
theorem metX1_isDriven (l : Launch) (hlt : l.stackTraces = false) (K : HK) (mc ms : Nat) (sz : Nat) (post : Int32 → hX → Prop) (xpost : String → Nat → hX → Prop) (X0 : hX) (p0 : Nat) (p1 : Int32) : vx_Met l yX1_isDriven wsX1_isDriven (rmh 7 123 mc ms) (hPc K X0 sz [.ref p0, .int p1] (wpX1_isDriven post xpost (K.2.2 0) mc ms X0 p0 p1)) (hQi post K X0 sz) (hXC xpost K X0 sz) mc ms (hA X0 sz) := by
  refine vx_ofW (cc := cX1_isDriven) (maxL := 2) (ret := (some .boolean)) (by decide) rfl ?_
  intro p e s m args below meth c s₁ B hml hno hv
  obtain ⟨rfl, hv⟩ := hv
  obtain ⟨hC, hP, hw⟩ := HC.of hv
  have hsz : s.heap.size = sz := hv.1
  subst hsz
  clear hv
  have hout : ∀ {pc : Nat}, ∀ x ∈ c.exceptionTable.toList, covers x pc = false := fun x hx => (hno x hx).elim
  have hr := B.returns
  have hts := atoms_spec (ws := wsX1_isDriven) B.pre
  have hts : ∀ w ∈ lw_all, w.before _ s = true := fun w h => hts w (List.mem_cons_of_mem _ h)
  have hF : CallFix p m c cX1_isDriven 2 s ([.ref p0, .int p1] : List Value).toArray lw_all RX1 := ⟨B.exec, B.bytes, hml, findClass_of_methodNamed B.named, hts⟩
  have hlocks := B.notSynchronized
  have hl := lv_entry ([.ref p0, .int p1]) (n := 2) (Nat.le_of_ble_eq_true rfl)
  rw [lg_entry_eq]
  generalize (lg_sl ([.ref p0, .int p1]) ++ List.replicate (2 - (lg_sl ([.ref p0, .int p1])).length) Slot.unset).toArray = ls at hl ⊢
  have hl : lv_has ls 2 [(0, .ref p0), (1, .int p1)] := hl
  have hS : va_S (hA X0 s.heap.size) s.heap s.heap [] := va_S.rf
  unfold wpX1_isDriven at hw
  show W p l e (rmh 7 123 mc ms) s m _ below meth c _ _ _ _ _ _
  refine lv_aload_n hF.1 hF.2.1 dX1_isDriven_0 rfl (lv_at hl 0 rfl) ?_
  obtain ⟨fs_1, v_2, hx_3, hv_4, hw⟩ := hw
  refine x_get hF hC hP in_X1 rfl 0 (by decide) q244 (fun _ z => z) hx_3 hv_4 dX1_isDriven_1 ?_
  refine lv_iload_n hF.1 hF.2.1 dX1_isDriven_4 rfl (lv_at hl 1 rfl) ?_
  obtain ⟨ho_7, hw⟩ := hw
  refine hk_i (hr_V (As := [.int p1]) (rest := []) (T := TX2) (N := 9) (ci := 2) hF hl.1 hC hP hS (metX2_isAxle l K _ _ X0 v_2 p1) rfl (cwV 1 hF.2.2.2.2 (lw_V q1166 q844 q845 q76 q846) rfl rfl rfl (by decide +kernel) ⟨Nat.le_of_ble_eq_true rfl, Nat.le_of_ble_eq_true rfl⟩) ho_7 hw rfl rfl (Nat.le_of_ble_eq_true rfl) dX1_isDriven_5 ⟨Nat.zero_le _, Nat.zero_le _⟩) hP hS (fun r_5 X_6 H locs hw hP hS => ?_)
  obtain ⟨mc_9, ms_10, hc_11, hs_12, hw⟩ := hw
  refine hkx_v (hrx_S (As := [.int r_5]) (rest := []) hF hl.1 hC hP hS (metX1_needArgument l hlt K mc_9 ms_10 _ _ _ X_6 r_5) (va_cwS 1 hF.2.2.2.2 (lw_S q1140 q1141 q75 q1142) rfl rfl rfl (by decide +kernel) ⟨Nat.le_of_ble_eq_true rfl, Nat.le_of_ble_eq_true rfl⟩) hw rfl rfl (Nat.le_of_ble_eq_true rfl) dX1_isDriven_8 ⟨hc_11, hs_12⟩) hP hS (fun E9 q9 X9 H locs hw hcl hP hS => ?_) (fun X_8 H locs hw hP hS => ?_)
  · exact h_out hout hlocks hcl hP hS ⟨hc_11, hs_12⟩ hw
  refine lv_aload_n hF.1 hF.2.1 dX1_isDriven_11 rfl (lv_at hl 0 rfl) ?_
  obtain ⟨fs_13, v_14, hx_15, hv_16, hw⟩ := hw
  refine x_get hF hC hP in_X1 rfl 0 (by decide) q244 (fun _ z => z) hx_15 hv_16 dX1_isDriven_12 ?_
  obtain ⟨ho_19, hw⟩ := hw
  obtain ⟨mc_20, ms_21, hc_22, hs_23, hw⟩ := hw
  refine hk_q (hr_V (As := []) (rest := []) (T := TX2) (N := 9) (ci := 2) hF hl.1 hC hP hS (metX2_drive l K mc_20 ms_21 _ _ X_8 v_14) rfl (cwV 0 hF.2.2.2.2 (lw_V q336 q337 q338 q76 q339) rfl rfl rfl (by decide +kernel) ⟨Nat.le_of_ble_eq_true rfl, Nat.le_of_ble_eq_true rfl⟩) ho_19 hw rfl rfl (Nat.le_of_ble_eq_true rfl) dX1_isDriven_15 ⟨hc_22, hs_23⟩) hP hS (fun r_17 X_18 H locs hw hP hS => ?_)
  obtain ⟨a_24, e_25, hw⟩ := hw
  subst e_25
  rw [va_rf_some]
  refine lv_iload_n hF.1 hF.2.1 dX1_isDriven_18 rfl (lv_at hl 1 rfl) ?_
  obtain ⟨ho_28, hw⟩ := hw
  refine hk_i (hr_V (As := [.int p1]) (rest := []) (T := TX6) (N := 9) (ci := 3) hF hl.1 hC hP hS (metX6_has l K _ _ X_18 a_24 p1) rfl (cwV 1 hF.2.2.2.2 (lw_V q1167 q372 q373 q96 q374) rfl rfl rfl (by decide +kernel) ⟨Nat.le_of_ble_eq_true rfl, Nat.le_of_ble_eq_true rfl⟩) ho_28 hw rfl rfl (Nat.le_of_ble_eq_true rfl) dX1_isDriven_19 ⟨hc_22, hs_23⟩) hP hS (fun r_26 X_27 H locs hw hP hS => ?_)
  obtain ⟨h_29, hw⟩ := hw
  exact vx_ret (h_zret hF hr hlocks hP hS ⟨hc_22, hs_23⟩ dX1_isDriven_22 h_29 hw)
def wpX1_driving (post : Option Nat → hX → Prop) (xpost : String → Nat → hX → Prop) (E : Nat) (mc ms : Nat) (X : hX) (p0 : Nat) (p1 : Int32) : Prop := gfA X p0 1 0 (fun v_2 => isO X v_2 2 (wpX2_isAxle (fun r_5 X_6 => (∃ mc_9 ms_10 : Nat, 0 + mc_9 ≤ mc ∧ 0 + ms_10 ≤ ms ∧ wpX1_needArgument (fun X_8 => gfA X_8 p0 1 0 (fun v_14 => isO X_8 v_14 2 ((∃ mc_20 ms_21 : Nat, (0 + mc_9) + mc_20 ≤ mc ∧ (0 + ms_10) + ms_21 ≤ ms ∧ wpX2_drive (fun r_17 X_18 => (∃ a_24 : Nat, r_17 = some a_24 ∧ isO X_18 a_24 3 (wpX6_has (fun r_26 X_27 => (∃ mc_30 ms_31 : Nat, ((0 + mc_9) + mc_20) + mc_30 ≤ mc ∧ ((0 + ms_10) + ms_21) + ms_31 ≤ ms ∧ wpX1_needSuch (fun X_29 => post (some a_24) X_29) xpost E mc_30 ms_31 X_27 r_26)) E X_18 a_24 p1))) E mc_20 ms_21 X_8 v_14)))) xpost E mc_9 ms_10 X_6 r_5)) E X v_2 p1))
abbrev wsX1_driving : List Cond := ws_ yX1_driving cX1_driving 3 (some (.object "ClockworkOrreries$Drive"))
set_option maxHeartbeats 8000000 in
theorem metX1_driving (l : Launch) (hlt : l.stackTraces = false) (K : HK) (mc ms : Nat) (sz : Nat) (post : Option Nat → hX → Prop) (xpost : String → Nat → hX → Prop) (X0 : hX) (p0 : Nat) (p1 : Int32) : vx_Met l yX1_driving wsX1_driving (rmh 7 123 mc ms) (hPc K X0 sz [.ref p0, .int p1] (wpX1_driving post xpost (K.2.2 0) mc ms X0 p0 p1)) (hQq post K X0 sz) (hXC xpost K X0 sz) mc ms (hA X0 sz) := by
  refine vx_ofW (cc := cX1_driving) (maxL := 3) (ret := (some (.object "ClockworkOrreries$Drive"))) (by decide) rfl ?_
  intro p e s m args below meth c s₁ B hml hno hv
  obtain ⟨rfl, hv⟩ := hv
  obtain ⟨hC, hP, hw⟩ := HC.of hv
  have hsz : s.heap.size = sz := hv.1
  subst hsz
  clear hv
  have hout : ∀ {pc : Nat}, ∀ x ∈ c.exceptionTable.toList, covers x pc = false := fun x hx => (hno x hx).elim
  have hr := B.returns
  have hts := atoms_spec (ws := wsX1_driving) B.pre
  have hts : ∀ w ∈ lw_all, w.before _ s = true := fun w h => hts w (List.mem_cons_of_mem _ h)
  have hF : CallFix p m c cX1_driving 3 s ([.ref p0, .int p1] : List Value).toArray lw_all RX1 := ⟨B.exec, B.bytes, hml, findClass_of_methodNamed B.named, hts⟩
  have hlocks := B.notSynchronized
  have hl := lv_entry ([.ref p0, .int p1]) (n := 3) (Nat.le_of_ble_eq_true rfl)
  rw [lg_entry_eq]
  generalize (lg_sl ([.ref p0, .int p1]) ++ List.replicate (3 - (lg_sl ([.ref p0, .int p1])).length) Slot.unset).toArray = ls at hl ⊢
  have hl : lv_has ls 3 [(0, .ref p0), (1, .int p1)] := hl
  have hS : va_S (hA X0 s.heap.size) s.heap s.heap [] := va_S.rf
  unfold wpX1_driving at hw
  show W p l e (rmh 7 123 mc ms) s m _ below meth c _ _ _ _ _ _
  refine lv_aload_n hF.1 hF.2.1 dX1_driving_0 rfl (lv_at hl 0 rfl) ?_
  obtain ⟨fs_1, v_2, hx_3, hv_4, hw⟩ := hw
  refine x_get hF hC hP in_X1 rfl 0 (by decide) q244 (fun _ z => z) hx_3 hv_4 dX1_driving_1 ?_
  refine lv_iload_n hF.1 hF.2.1 dX1_driving_4 rfl (lv_at hl 1 rfl) ?_
  obtain ⟨ho_7, hw⟩ := hw
  refine hk_i (hr_V (As := [.int p1]) (rest := []) (T := TX2) (N := 9) (ci := 2) hF hl.1 hC hP hS (metX2_isAxle l K _ _ X0 v_2 p1) rfl (cwV 1 hF.2.2.2.2 (lw_V q1166 q844 q845 q76 q846) rfl rfl rfl (by decide +kernel) ⟨Nat.le_of_ble_eq_true rfl, Nat.le_of_ble_eq_true rfl⟩) ho_7 hw rfl rfl (Nat.le_of_ble_eq_true rfl) dX1_driving_5 ⟨Nat.zero_le _, Nat.zero_le _⟩) hP hS (fun r_5 X_6 H locs hw hP hS => ?_)
  obtain ⟨mc_9, ms_10, hc_11, hs_12, hw⟩ := hw
  refine hkx_v (hrx_S (As := [.int r_5]) (rest := []) hF hl.1 hC hP hS (metX1_needArgument l hlt K mc_9 ms_10 _ _ _ X_6 r_5) (va_cwS 1 hF.2.2.2.2 (lw_S q1140 q1141 q75 q1142) rfl rfl rfl (by decide +kernel) ⟨Nat.le_of_ble_eq_true rfl, Nat.le_of_ble_eq_true rfl⟩) hw rfl rfl (Nat.le_of_ble_eq_true rfl) dX1_driving_8 ⟨hc_11, hs_12⟩) hP hS (fun E9 q9 X9 H locs hw hcl hP hS => ?_) (fun X_8 H locs hw hP hS => ?_)
  · exact h_out hout hlocks hcl hP hS ⟨hc_11, hs_12⟩ hw
  refine lv_aload_n hF.1 hF.2.1 dX1_driving_11 rfl (lv_at hl 0 rfl) ?_
  obtain ⟨fs_13, v_14, hx_15, hv_16, hw⟩ := hw
  refine x_get hF hC hP in_X1 rfl 0 (by decide) q244 (fun _ z => z) hx_15 hv_16 dX1_driving_12 ?_
  obtain ⟨ho_19, hw⟩ := hw
  obtain ⟨mc_20, ms_21, hc_22, hs_23, hw⟩ := hw
  refine hk_q (hr_V (As := []) (rest := []) (T := TX2) (N := 9) (ci := 2) hF hl.1 hC hP hS (metX2_drive l K mc_20 ms_21 _ _ X_8 v_14) rfl (cwV 0 hF.2.2.2.2 (lw_V q336 q337 q338 q76 q339) rfl rfl rfl (by decide +kernel) ⟨Nat.le_of_ble_eq_true rfl, Nat.le_of_ble_eq_true rfl⟩) ho_19 hw rfl rfl (Nat.le_of_ble_eq_true rfl) dX1_driving_15 ⟨hc_22, hs_23⟩) hP hS (fun r_17 X_18 H locs hw hP hS => ?_)
  obtain ⟨a_24, e_25, hw⟩ := hw
  subst e_25
  rw [va_rf_some]
  refine lv_astore_n (lv' := [(2, .ref a_24), (0, .ref p0), (1, .int p1)]) hF.1 hF.2.1 dX1_driving_18 rfl hl (by decide) rfl (fun ls hl => ?_)
  refine lv_aload_n hF.1 hF.2.1 dX1_driving_19 rfl (lv_at hl 0 rfl) ?_
  refine lv_iload_n hF.1 hF.2.1 dX1_driving_20 rfl (lv_at hl 2 rfl) ?_
  obtain ⟨ho_28, hw⟩ := hw
  refine hk_i (hr_V (As := [.int p1]) (rest := []) (T := TX6) (N := 9) (ci := 3) hF hl.1 hC hP hS (metX6_has l K _ _ X_18 a_24 p1) rfl (cwV 1 hF.2.2.2.2 (lw_V q1167 q372 q373 q96 q374) rfl rfl rfl (by decide +kernel) ⟨Nat.le_of_ble_eq_true rfl, Nat.le_of_ble_eq_true rfl⟩) ho_28 hw rfl rfl (Nat.le_of_ble_eq_true rfl) dX1_driving_21 ⟨hc_22, hs_23⟩) hP hS (fun r_26 X_27 H locs hw hP hS => ?_)
  obtain ⟨mc_30, ms_31, hc_32, hs_33, hw⟩ := hw
  refine hkx_v (hrx_S (As := [.int r_26]) (rest := []) hF hl.1 hC hP hS (metX1_needSuch l hlt K mc_30 ms_31 _ _ _ X_27 r_26) (va_cwS 1 hF.2.2.2.2 (lw_S q1180 q1181 q75 q1182) rfl rfl rfl (by decide +kernel) ⟨Nat.le_of_ble_eq_true rfl, Nat.le_of_ble_eq_true rfl⟩) hw rfl rfl (Nat.le_of_ble_eq_true rfl) dX1_driving_24 ⟨hc_32, hs_33⟩) hP hS (fun E9 q9 X9 H locs hw hcl hP hS => ?_) (fun X_29 H locs hw hP hS => ?_)
  · exact h_out hout hlocks hcl hP hS ⟨hc_32, hs_33⟩ hw
  refine lv_aload_n hF.1 hF.2.1 dX1_driving_27 rfl (lv_at hl 0 rfl) ?_
  exact vx_ret (h_aret (r := (some a_24)) hF hr (Or.inl ⟨_, rfl⟩) hlocks hP hS ⟨hc_32, hs_33⟩ dX1_driving_28 hw)
def wpX1_wayTo (post : Int32 → hX → Prop) (xpost : String → Nat → hX → Prop) (E : Nat) (mc ms : Nat) (X : hX) (p0 : Nat) (p1 : Int32) : Prop := isO X p0 1 ((∃ mc_4 ms_5 : Nat, 0 + mc_4 ≤ mc ∧ 0 + ms_5 ≤ ms ∧ wpX1_driving (fun r_1 X_2 => (∃ a_8 : Nat, r_1 = some a_8 ∧ gfA X_2 a_8 3 4 (fun v_11 => alI X_2 0 v_11 p1 (fun v_18 => post v_18 X_2)))) xpost E mc_4 ms_5 X p0 p1))
abbrev wsX1_wayTo : List Cond := ws_ yX1_wayTo cX1_wayTo 2 (some .int)
set_option maxHeartbeats 8000000 in
theorem metX1_wayTo (l : Launch) (hlt : l.stackTraces = false) (K : HK) (mc ms : Nat) (sz : Nat) (post : Int32 → hX → Prop) (xpost : String → Nat → hX → Prop) (X0 : hX) (p0 : Nat) (p1 : Int32) : vx_Met l yX1_wayTo wsX1_wayTo (rmh 8 145 mc ms) (hPc K X0 sz [.ref p0, .int p1] (wpX1_wayTo post xpost (K.2.2 0) mc ms X0 p0 p1)) (hQi post K X0 sz) (hXC xpost K X0 sz) mc ms (hA X0 sz) := by
  refine vx_ofW (cc := cX1_wayTo) (maxL := 2) (ret := (some .int)) (by decide) rfl ?_
  intro p e s m args below meth c s₁ B hml hno hv
  obtain ⟨rfl, hv⟩ := hv
  obtain ⟨hC, hP, hw⟩ := HC.of hv
  have hsz : s.heap.size = sz := hv.1
  subst hsz
  clear hv
  have hout : ∀ {pc : Nat}, ∀ x ∈ c.exceptionTable.toList, covers x pc = false := fun x hx => (hno x hx).elim
  have hr := B.returns
  have hts := atoms_spec (ws := wsX1_wayTo) B.pre
  have hts : ∀ w ∈ lw_all, w.before _ s = true := fun w h => hts w (List.mem_cons_of_mem _ h)
  have hF : CallFix p m c cX1_wayTo 2 s ([.ref p0, .int p1] : List Value).toArray lw_all RX1 := ⟨B.exec, B.bytes, hml, findClass_of_methodNamed B.named, hts⟩
  have hlocks := B.notSynchronized
  have hl := lv_entry ([.ref p0, .int p1]) (n := 2) (Nat.le_of_ble_eq_true rfl)
  rw [lg_entry_eq]
  generalize (lg_sl ([.ref p0, .int p1]) ++ List.replicate (2 - (lg_sl ([.ref p0, .int p1])).length) Slot.unset).toArray = ls at hl ⊢
  have hl : lv_has ls 2 [(0, .ref p0), (1, .int p1)] := hl
  have hS : va_S (hA X0 s.heap.size) s.heap s.heap [] := va_S.rf
  unfold wpX1_wayTo at hw
  show W p l e (rmh 8 145 mc ms) s m _ below meth c _ _ _ _ _ _
  refine lv_aload_n hF.1 hF.2.1 dX1_wayTo_0 rfl (lv_at hl 0 rfl) ?_
  refine lv_iload_n hF.1 hF.2.1 dX1_wayTo_1 rfl (lv_at hl 1 rfl) ?_
  obtain ⟨ho_3, hw⟩ := hw
  obtain ⟨mc_4, ms_5, hc_6, hs_7, hw⟩ := hw
  refine hkx_q (hrx_V (As := [.int p1]) (rest := []) (T := TX1) (N := 4) (ci := 1) hF hl.1 hC hP hS (metX1_driving l hlt K mc_4 ms_5 _ _ _ X0 p0 p1) rfl (cwV 1 hF.2.2.2.2 (lw_V q1176 q1178 qs12 q75 q1179) rfl rfl rfl (by decide +kernel) ⟨Nat.le_of_ble_eq_true rfl, Nat.le_of_ble_eq_true rfl⟩) ho_3 hw rfl rfl (Nat.le_of_ble_eq_true rfl) dX1_wayTo_2 ⟨hc_6, hs_7⟩) hP hS (fun E9 q9 X9 H locs hw hcl hP hS => ?_) (fun r_1 X_2 H locs hw hP hS => ?_)
  · exact h_out hout hlocks hcl hP hS ⟨hc_6, hs_7⟩ hw
  obtain ⟨a_8, e_9, hw⟩ := hw
  subst e_9
  rw [va_rf_some]
  obtain ⟨fs_10, v_11, hx_12, hv_13, hw⟩ := hw
  refine x_getN hF hC hP in_X6 rfl 4 (by decide) q386 (fun _ z => z) hx_12 hv_13 dX1_wayTo_5 ?_
  refine lv_iload_n hF.1 hF.2.1 dX1_wayTo_8 rfl (lv_at hl 1 rfl) ?_
  obtain ⟨n_14, f_15, hx_16, hi_17, hw⟩ := hw
  refine x_iald hF hC hP hx_16 hi_17 dX1_wayTo_9 ?_
  generalize f_15 (Int32.toNatClampNeg p1) = v_18 at hw ⊢
  exact vx_ret (h_iret hF hr hlocks hP hS ⟨hc_6, hs_7⟩ dX1_wayTo_10 hw)
def wpX1_ratioAbove (post : Int64 → hX → Prop) (xpost : String → Nat → hX → Prop) (E : Nat) (mc ms : Nat) (X : hX) (p0 : Nat) (p1 : Int32) : Prop := isO X p0 1 ((∃ mc_4 ms_5 : Nat, 0 + mc_4 ≤ mc ∧ 0 + ms_5 ≤ ms ∧ wpX1_driving (fun r_1 X_2 => (∃ a_8 : Nat, r_1 = some a_8 ∧ gfA X_2 a_8 3 0 (fun v_11 => alJ X_2 v_11 p1 (fun v_18 => post v_18 X_2)))) xpost E mc_4 ms_5 X p0 p1))
abbrev wsX1_ratioAbove : List Cond := ws_ yX1_ratioAbove cX1_ratioAbove 2 (some .long)
set_option maxHeartbeats 8000000 in
theorem metX1_ratioAbove (l : Launch) (hlt : l.stackTraces = false) (K : HK) (mc ms : Nat) (sz : Nat) (post : Int64 → hX → Prop) (xpost : String → Nat → hX → Prop) (X0 : hX) (p0 : Nat) (p1 : Int32) : vx_Met l yX1_ratioAbove wsX1_ratioAbove (rmh 8 145 mc ms) (hPc K X0 sz [.ref p0, .int p1] (wpX1_ratioAbove post xpost (K.2.2 0) mc ms X0 p0 p1)) (hQl post K X0 sz) (hXC xpost K X0 sz) mc ms (hA X0 sz) := by
  refine vx_ofW (cc := cX1_ratioAbove) (maxL := 2) (ret := (some .long)) (by decide) rfl ?_
  intro p e s m args below meth c s₁ B hml hno hv
  obtain ⟨rfl, hv⟩ := hv
  obtain ⟨hC, hP, hw⟩ := HC.of hv
  have hsz : s.heap.size = sz := hv.1
  subst hsz
  clear hv
  have hout : ∀ {pc : Nat}, ∀ x ∈ c.exceptionTable.toList, covers x pc = false := fun x hx => (hno x hx).elim
  have hr := B.returns
  have hts := atoms_spec (ws := wsX1_ratioAbove) B.pre
  have hts : ∀ w ∈ lw_all, w.before _ s = true := fun w h => hts w (List.mem_cons_of_mem _ h)
  have hF : CallFix p m c cX1_ratioAbove 2 s ([.ref p0, .int p1] : List Value).toArray lw_all RX1 := ⟨B.exec, B.bytes, hml, findClass_of_methodNamed B.named, hts⟩
  have hlocks := B.notSynchronized
  have hl := lv_entry ([.ref p0, .int p1]) (n := 2) (Nat.le_of_ble_eq_true rfl)
  rw [lg_entry_eq]
  generalize (lg_sl ([.ref p0, .int p1]) ++ List.replicate (2 - (lg_sl ([.ref p0, .int p1])).length) Slot.unset).toArray = ls at hl ⊢
  have hl : lv_has ls 2 [(0, .ref p0), (1, .int p1)] := hl
  have hS : va_S (hA X0 s.heap.size) s.heap s.heap [] := va_S.rf
  unfold wpX1_ratioAbove at hw
  show W p l e (rmh 8 145 mc ms) s m _ below meth c _ _ _ _ _ _
  refine lv_aload_n hF.1 hF.2.1 dX1_ratioAbove_0 rfl (lv_at hl 0 rfl) ?_
  refine lv_iload_n hF.1 hF.2.1 dX1_ratioAbove_1 rfl (lv_at hl 1 rfl) ?_
  obtain ⟨ho_3, hw⟩ := hw
  obtain ⟨mc_4, ms_5, hc_6, hs_7, hw⟩ := hw
  refine hkx_q (hrx_V (As := [.int p1]) (rest := []) (T := TX1) (N := 4) (ci := 1) hF hl.1 hC hP hS (metX1_driving l hlt K mc_4 ms_5 _ _ _ X0 p0 p1) rfl (cwV 1 hF.2.2.2.2 (lw_V q1176 q1178 qs12 q75 q1179) rfl rfl rfl (by decide +kernel) ⟨Nat.le_of_ble_eq_true rfl, Nat.le_of_ble_eq_true rfl⟩) ho_3 hw rfl rfl (Nat.le_of_ble_eq_true rfl) dX1_ratioAbove_2 ⟨hc_6, hs_7⟩) hP hS (fun E9 q9 X9 H locs hw hcl hP hS => ?_) (fun r_1 X_2 H locs hw hP hS => ?_)
  · exact h_out hout hlocks hcl hP hS ⟨hc_6, hs_7⟩ hw
  obtain ⟨a_8, e_9, hw⟩ := hw
  subst e_9
  rw [va_rf_some]
  obtain ⟨fs_10, v_11, hx_12, hv_13, hw⟩ := hw
  refine x_getN hF hC hP in_X6 rfl 0 (by decide) q377 (fun _ z => z) hx_12 hv_13 dX1_ratioAbove_5 ?_
  refine lv_iload_n hF.1 hF.2.1 dX1_ratioAbove_8 rfl (lv_at hl 1 rfl) ?_
  obtain ⟨n_14, f_15, hx_16, hi_17, hw⟩ := hw
  refine x_lald hF hC hP hx_16 hi_17 dX1_ratioAbove_9 ?_
  generalize f_15 (Int32.toNatClampNeg p1) = v_18 at hw ⊢
  exact vx_ret (h_lret hF hr hlocks hP hS ⟨hc_6, hs_7⟩ dX1_ratioAbove_10 hw)
def wpX1_ratioBelow (post : Int64 → hX → Prop) (xpost : String → Nat → hX → Prop) (E : Nat) (mc ms : Nat) (X : hX) (p0 : Nat) (p1 : Int32) : Prop := isO X p0 1 ((∃ mc_4 ms_5 : Nat, 0 + mc_4 ≤ mc ∧ 0 + ms_5 ≤ ms ∧ wpX1_driving (fun r_1 X_2 => (∃ a_8 : Nat, r_1 = some a_8 ∧ gfA X_2 a_8 3 1 (fun v_11 => alJ X_2 v_11 p1 (fun v_18 => post v_18 X_2)))) xpost E mc_4 ms_5 X p0 p1))
abbrev wsX1_ratioBelow : List Cond := ws_ yX1_ratioBelow cX1_ratioBelow 2 (some .long)
set_option maxHeartbeats 8000000 in
theorem metX1_ratioBelow (l : Launch) (hlt : l.stackTraces = false) (K : HK) (mc ms : Nat) (sz : Nat) (post : Int64 → hX → Prop) (xpost : String → Nat → hX → Prop) (X0 : hX) (p0 : Nat) (p1 : Int32) : vx_Met l yX1_ratioBelow wsX1_ratioBelow (rmh 8 145 mc ms) (hPc K X0 sz [.ref p0, .int p1] (wpX1_ratioBelow post xpost (K.2.2 0) mc ms X0 p0 p1)) (hQl post K X0 sz) (hXC xpost K X0 sz) mc ms (hA X0 sz) := by
  refine vx_ofW (cc := cX1_ratioBelow) (maxL := 2) (ret := (some .long)) (by decide) rfl ?_
  intro p e s m args below meth c s₁ B hml hno hv
  obtain ⟨rfl, hv⟩ := hv
  obtain ⟨hC, hP, hw⟩ := HC.of hv
  have hsz : s.heap.size = sz := hv.1
  subst hsz
  clear hv
  have hout : ∀ {pc : Nat}, ∀ x ∈ c.exceptionTable.toList, covers x pc = false := fun x hx => (hno x hx).elim
  have hr := B.returns
  have hts := atoms_spec (ws := wsX1_ratioBelow) B.pre
  have hts : ∀ w ∈ lw_all, w.before _ s = true := fun w h => hts w (List.mem_cons_of_mem _ h)
  have hF : CallFix p m c cX1_ratioBelow 2 s ([.ref p0, .int p1] : List Value).toArray lw_all RX1 := ⟨B.exec, B.bytes, hml, findClass_of_methodNamed B.named, hts⟩
  have hlocks := B.notSynchronized
  have hl := lv_entry ([.ref p0, .int p1]) (n := 2) (Nat.le_of_ble_eq_true rfl)
  rw [lg_entry_eq]
  generalize (lg_sl ([.ref p0, .int p1]) ++ List.replicate (2 - (lg_sl ([.ref p0, .int p1])).length) Slot.unset).toArray = ls at hl ⊢
  have hl : lv_has ls 2 [(0, .ref p0), (1, .int p1)] := hl
  have hS : va_S (hA X0 s.heap.size) s.heap s.heap [] := va_S.rf
  unfold wpX1_ratioBelow at hw
  show W p l e (rmh 8 145 mc ms) s m _ below meth c _ _ _ _ _ _
  refine lv_aload_n hF.1 hF.2.1 dX1_ratioBelow_0 rfl (lv_at hl 0 rfl) ?_
  refine lv_iload_n hF.1 hF.2.1 dX1_ratioBelow_1 rfl (lv_at hl 1 rfl) ?_
  obtain ⟨ho_3, hw⟩ := hw
  obtain ⟨mc_4, ms_5, hc_6, hs_7, hw⟩ := hw
  refine hkx_q (hrx_V (As := [.int p1]) (rest := []) (T := TX1) (N := 4) (ci := 1) hF hl.1 hC hP hS (metX1_driving l hlt K mc_4 ms_5 _ _ _ X0 p0 p1) rfl (cwV 1 hF.2.2.2.2 (lw_V q1176 q1178 qs12 q75 q1179) rfl rfl rfl (by decide +kernel) ⟨Nat.le_of_ble_eq_true rfl, Nat.le_of_ble_eq_true rfl⟩) ho_3 hw rfl rfl (Nat.le_of_ble_eq_true rfl) dX1_ratioBelow_2 ⟨hc_6, hs_7⟩) hP hS (fun E9 q9 X9 H locs hw hcl hP hS => ?_) (fun r_1 X_2 H locs hw hP hS => ?_)
  · exact h_out hout hlocks hcl hP hS ⟨hc_6, hs_7⟩ hw
  obtain ⟨a_8, e_9, hw⟩ := hw
  subst e_9
  rw [va_rf_some]
  obtain ⟨fs_10, v_11, hx_12, hv_13, hw⟩ := hw
  refine x_getN hF hC hP in_X6 rfl 1 (by decide) q380 (fun _ z => z) hx_12 hv_13 dX1_ratioBelow_5 ?_
  refine lv_iload_n hF.1 hF.2.1 dX1_ratioBelow_8 rfl (lv_at hl 1 rfl) ?_
  obtain ⟨n_14, f_15, hx_16, hi_17, hw⟩ := hw
  refine x_lald hF hC hP hx_16 hi_17 dX1_ratioBelow_9 ?_
  generalize f_15 (Int32.toNatClampNeg p1) = v_18 at hw ⊢
  exact vx_ret (h_lret hF hr hlocks hP hS ⟨hc_6, hs_7⟩ dX1_ratioBelow_10 hw)
def wpX1_isRatioByTeeth (post : Int32 → hX → Prop) (xpost : String → Nat → hX → Prop) (E : Nat) (mc ms : Nat) (X : hX) (p0 : Nat) (p1 : Int32) : Prop := isO X p0 1 ((∃ mc_4 ms_5 : Nat, 0 + mc_4 ≤ mc ∧ 0 + ms_5 ≤ ms ∧ wpX1_driving (fun r_1 X_2 => (∃ a_8 : Nat, r_1 = some a_8 ∧ isO X_2 a_8 3 (wpX6_isSame (fun r_10 X_11 => ((r_10 = 0 ∨ r_10 = 1) ∧ post r_10 X_11)) E X_2 a_8 p1))) xpost E mc_4 ms_5 X p0 p1))
abbrev wsX1_isRatioByTeeth : List Cond := ws_ yX1_isRatioByTeeth cX1_isRatioByTeeth 2 (some .boolean)
set_option maxHeartbeats 8000000 in
theorem metX1_isRatioByTeeth (l : Launch) (hlt : l.stackTraces = false) (K : HK) (mc ms : Nat) (sz : Nat) (post : Int32 → hX → Prop) (xpost : String → Nat → hX → Prop) (X0 : hX) (p0 : Nat) (p1 : Int32) : vx_Met l yX1_isRatioByTeeth wsX1_isRatioByTeeth (rmh 8 145 mc ms) (hPc K X0 sz [.ref p0, .int p1] (wpX1_isRatioByTeeth post xpost (K.2.2 0) mc ms X0 p0 p1)) (hQi post K X0 sz) (hXC xpost K X0 sz) mc ms (hA X0 sz) := by
  refine vx_ofW (cc := cX1_isRatioByTeeth) (maxL := 2) (ret := (some .boolean)) (by decide) rfl ?_
  intro p e s m args below meth c s₁ B hml hno hv
  obtain ⟨rfl, hv⟩ := hv
  obtain ⟨hC, hP, hw⟩ := HC.of hv
  have hsz : s.heap.size = sz := hv.1
  subst hsz
  clear hv
  have hout : ∀ {pc : Nat}, ∀ x ∈ c.exceptionTable.toList, covers x pc = false := fun x hx => (hno x hx).elim
  have hr := B.returns
  have hts := atoms_spec (ws := wsX1_isRatioByTeeth) B.pre
  have hts : ∀ w ∈ lw_all, w.before _ s = true := fun w h => hts w (List.mem_cons_of_mem _ h)
  have hF : CallFix p m c cX1_isRatioByTeeth 2 s ([.ref p0, .int p1] : List Value).toArray lw_all RX1 := ⟨B.exec, B.bytes, hml, findClass_of_methodNamed B.named, hts⟩
  have hlocks := B.notSynchronized
  have hl := lv_entry ([.ref p0, .int p1]) (n := 2) (Nat.le_of_ble_eq_true rfl)
  rw [lg_entry_eq]
  generalize (lg_sl ([.ref p0, .int p1]) ++ List.replicate (2 - (lg_sl ([.ref p0, .int p1])).length) Slot.unset).toArray = ls at hl ⊢
  have hl : lv_has ls 2 [(0, .ref p0), (1, .int p1)] := hl
  have hS : va_S (hA X0 s.heap.size) s.heap s.heap [] := va_S.rf
  unfold wpX1_isRatioByTeeth at hw
  show W p l e (rmh 8 145 mc ms) s m _ below meth c _ _ _ _ _ _
  refine lv_aload_n hF.1 hF.2.1 dX1_isRatioByTeeth_0 rfl (lv_at hl 0 rfl) ?_
  refine lv_iload_n hF.1 hF.2.1 dX1_isRatioByTeeth_1 rfl (lv_at hl 1 rfl) ?_
  obtain ⟨ho_3, hw⟩ := hw
  obtain ⟨mc_4, ms_5, hc_6, hs_7, hw⟩ := hw
  refine hkx_q (hrx_V (As := [.int p1]) (rest := []) (T := TX1) (N := 4) (ci := 1) hF hl.1 hC hP hS (metX1_driving l hlt K mc_4 ms_5 _ _ _ X0 p0 p1) rfl (cwV 1 hF.2.2.2.2 (lw_V q1176 q1178 qs12 q75 q1179) rfl rfl rfl (by decide +kernel) ⟨Nat.le_of_ble_eq_true rfl, Nat.le_of_ble_eq_true rfl⟩) ho_3 hw rfl rfl (Nat.le_of_ble_eq_true rfl) dX1_isRatioByTeeth_2 ⟨hc_6, hs_7⟩) hP hS (fun E9 q9 X9 H locs hw hcl hP hS => ?_) (fun r_1 X_2 H locs hw hP hS => ?_)
  · exact h_out hout hlocks hcl hP hS ⟨hc_6, hs_7⟩ hw
  obtain ⟨a_8, e_9, hw⟩ := hw
  subst e_9
  rw [va_rf_some]
  refine lv_iload_n hF.1 hF.2.1 dX1_isRatioByTeeth_5 rfl (lv_at hl 1 rfl) ?_
  obtain ⟨ho_12, hw⟩ := hw
  refine hk_i (hr_V (As := [.int p1]) (rest := []) (T := TX6) (N := 9) (ci := 3) hF hl.1 hC hP hS (metX6_isSame l K _ _ X_2 a_8 p1) rfl (cwV 1 hF.2.2.2.2 (lw_V q1210 q1211 q1212 q96 q1213) rfl rfl rfl (by decide +kernel) ⟨Nat.le_of_ble_eq_true rfl, Nat.le_of_ble_eq_true rfl⟩) ho_12 hw rfl rfl (Nat.le_of_ble_eq_true rfl) dX1_isRatioByTeeth_6 ⟨hc_6, hs_7⟩) hP hS (fun r_10 X_11 H locs hw hP hS => ?_)
  obtain ⟨h_13, hw⟩ := hw
  exact vx_ret (h_zret hF hr hlocks hP hS ⟨hc_6, hs_7⟩ dX1_isRatioByTeeth_9 h_13 hw)
def wpX1_turnsOf (post : Int64 → hX → Prop) (xpost : String → Nat → hX → Prop) (E : Nat) (mc ms : Nat) (X : hX) (p0 : Nat) (p1 : Int32) : Prop := isO X p0 1 ((∃ mc_4 ms_5 : Nat, 0 + mc_4 ≤ mc ∧ 0 + ms_5 ≤ ms ∧ wpX1_driving (fun r_1 X_2 => (∃ a_8 : Nat, r_1 = some a_8 ∧ gfA X_2 p0 1 0 (fun v_11 => gfI X_2 v_11 2 7 (fun v_15 => gfA X_2 a_8 3 0 (fun v_19 => alJ X_2 v_19 p1 (fun v_26 => wpJ11_abs (fun r_27 => gfA X_2 a_8 3 1 (fun v_29 => alJ X_2 v_29 p1 (fun v_36 => (¬ v_36 = 0 ∧ post (((Int32.toInt64 v_15) * r_27) / v_36) X_2)))) v_26)))))) xpost E mc_4 ms_5 X p0 p1))
abbrev wsX1_turnsOf : List Cond := ws_ yX1_turnsOf cX1_turnsOf 3 (some .long)
set_option maxHeartbeats 8000000 in
theorem metX1_turnsOf (l : Launch) (hlt : l.stackTraces = false) (K : HK) (mc ms : Nat) (sz : Nat) (post : Int64 → hX → Prop) (xpost : String → Nat → hX → Prop) (X0 : hX) (p0 : Nat) (p1 : Int32) : vx_Met l yX1_turnsOf wsX1_turnsOf (rmh 8 145 mc ms) (hPc K X0 sz [.ref p0, .int p1] (wpX1_turnsOf post xpost (K.2.2 0) mc ms X0 p0 p1)) (hQl post K X0 sz) (hXC xpost K X0 sz) mc ms (hA X0 sz) := by
  refine vx_ofW (cc := cX1_turnsOf) (maxL := 3) (ret := (some .long)) (by decide) rfl ?_
  intro p e s m args below meth c s₁ B hml hno hv
  obtain ⟨rfl, hv⟩ := hv
  obtain ⟨hC, hP, hw⟩ := HC.of hv
  have hsz : s.heap.size = sz := hv.1
  subst hsz
  clear hv
  have hout : ∀ {pc : Nat}, ∀ x ∈ c.exceptionTable.toList, covers x pc = false := fun x hx => (hno x hx).elim
  have hr := B.returns
  have hts := atoms_spec (ws := wsX1_turnsOf) B.pre
  have hts : ∀ w ∈ lw_all, w.before _ s = true := fun w h => hts w (List.mem_cons_of_mem _ h)
  have hF : CallFix p m c cX1_turnsOf 3 s ([.ref p0, .int p1] : List Value).toArray lw_all RX1 := ⟨B.exec, B.bytes, hml, findClass_of_methodNamed B.named, hts⟩
  have hlocks := B.notSynchronized
  have hl := lv_entry ([.ref p0, .int p1]) (n := 3) (Nat.le_of_ble_eq_true rfl)
  rw [lg_entry_eq]
  generalize (lg_sl ([.ref p0, .int p1]) ++ List.replicate (3 - (lg_sl ([.ref p0, .int p1])).length) Slot.unset).toArray = ls at hl ⊢
  have hl : lv_has ls 3 [(0, .ref p0), (1, .int p1)] := hl
  have hS : va_S (hA X0 s.heap.size) s.heap s.heap [] := va_S.rf
  unfold wpX1_turnsOf at hw
  show W p l e (rmh 8 145 mc ms) s m _ below meth c _ _ _ _ _ _
  refine lv_aload_n hF.1 hF.2.1 dX1_turnsOf_0 rfl (lv_at hl 0 rfl) ?_
  refine lv_iload_n hF.1 hF.2.1 dX1_turnsOf_1 rfl (lv_at hl 1 rfl) ?_
  obtain ⟨ho_3, hw⟩ := hw
  obtain ⟨mc_4, ms_5, hc_6, hs_7, hw⟩ := hw
  refine hkx_q (hrx_V (As := [.int p1]) (rest := []) (T := TX1) (N := 4) (ci := 1) hF hl.1 hC hP hS (metX1_driving l hlt K mc_4 ms_5 _ _ _ X0 p0 p1) rfl (cwV 1 hF.2.2.2.2 (lw_V q1176 q1178 qs12 q75 q1179) rfl rfl rfl (by decide +kernel) ⟨Nat.le_of_ble_eq_true rfl, Nat.le_of_ble_eq_true rfl⟩) ho_3 hw rfl rfl (Nat.le_of_ble_eq_true rfl) dX1_turnsOf_2 ⟨hc_6, hs_7⟩) hP hS (fun E9 q9 X9 H locs hw hcl hP hS => ?_) (fun r_1 X_2 H locs hw hP hS => ?_)
  · exact h_out hout hlocks hcl hP hS ⟨hc_6, hs_7⟩ hw
  obtain ⟨a_8, e_9, hw⟩ := hw
  subst e_9
  rw [va_rf_some]
  refine lv_astore_n (lv' := [(2, .ref a_8), (0, .ref p0), (1, .int p1)]) hF.1 hF.2.1 dX1_turnsOf_5 rfl hl (by decide) rfl (fun ls hl => ?_)
  refine lv_aload_n hF.1 hF.2.1 dX1_turnsOf_6 rfl (lv_at hl 1 rfl) ?_
  obtain ⟨fs_10, v_11, hx_12, hv_13, hw⟩ := hw
  refine x_get hF hC hP in_X1 rfl 0 (by decide) q244 (fun _ z => z) hx_12 hv_13 dX1_turnsOf_7 ?_
  obtain ⟨fs_14, v_15, hx_16, hv_17, hw⟩ := hw
  refine x_getN hF hC hP in_X2 rfl 7 (by decide) q169 (fun _ z => z) hx_16 hv_17 dX1_turnsOf_10 ?_
  refine lv_i2l hF.1 hF.2.1 dX1_turnsOf_13 rfl ?_
  refine lv_aload_n hF.1 hF.2.1 dX1_turnsOf_14 rfl (lv_at hl 0 rfl) ?_
  obtain ⟨fs_18, v_19, hx_20, hv_21, hw⟩ := hw
  refine x_getN hF hC hP in_X6 rfl 0 (by decide) q377 (fun _ z => z) hx_20 hv_21 dX1_turnsOf_15 ?_
  refine lv_iload_n hF.1 hF.2.1 dX1_turnsOf_18 rfl (lv_at hl 2 rfl) ?_
  obtain ⟨n_22, f_23, hx_24, hi_25, hw⟩ := hw
  refine x_lald hF hC hP hx_24 hi_25 dX1_turnsOf_19 ?_
  generalize f_23 (Int32.toNatClampNeg p1) = v_26 at hw ⊢
  refine hp_l (hrp_S (As := [.long v_26]) (rest := [.long (Int32.toInt64 v_15)]) hF hl.1 (metJ11_abs l _ v_26) (va_cwS 1 hF.2.2.2.2 (lw_S q368 q369 q89 q370) rfl rfl rfl (by decide +kernel) ⟨Nat.le_of_ble_eq_true rfl, Nat.le_of_ble_eq_true rfl⟩) hw rfl rfl (Nat.le_of_ble_eq_true rfl) dX1_turnsOf_20 ⟨hc_6, hs_7⟩) (fun r_27 hw => ?_)
  refine lv_lmul hF.1 hF.2.1 dX1_turnsOf_23 ?_
  refine lv_aload_n hF.1 hF.2.1 dX1_turnsOf_24 rfl (lv_at hl 0 rfl) ?_
  obtain ⟨fs_28, v_29, hx_30, hv_31, hw⟩ := hw
  refine x_getN hF hC hP in_X6 rfl 1 (by decide) q380 (fun _ z => z) hx_30 hv_31 dX1_turnsOf_25 ?_
  refine lv_iload_n hF.1 hF.2.1 dX1_turnsOf_28 rfl (lv_at hl 2 rfl) ?_
  obtain ⟨n_32, f_33, hx_34, hi_35, hw⟩ := hw
  refine x_lald hF hC hP hx_34 hi_35 dX1_turnsOf_29 ?_
  generalize f_33 (Int32.toNatClampNeg p1) = v_36 at hw ⊢
  obtain ⟨h_37, hw⟩ := hw
  refine lv_ldiv hF.1 hF.2.1 dX1_turnsOf_30 h_37 ?_
  exact vx_ret (h_lret hF hr hlocks hP hS ⟨hc_6, hs_7⟩ dX1_turnsOf_31 hw)
def wpX1_wheelOf (post : Int32 → hX → Prop) (xpost : String → Nat → hX → Prop) (E : Nat) (mc ms : Nat) (X : hX) (p0 : Nat) (p1 : Int32) (p2 : Int32) : Prop := gfA X p0 1 0 (fun v_2 => gfI X v_2 2 6 (fun v_6 => wpX1_isBetween (fun r_9 => (∃ mc_11 ms_12 : Nat, 0 + mc_11 ≤ mc ∧ 0 + ms_12 ≤ ms ∧ wpX1_needArgument (fun X_10 => ((p2 = 0 → gfA X_10 p0 1 0 (fun v_17 => gfA X_10 v_17 2 4 (fun v_21 => alI X_10 0 v_21 p1 (fun v_28 => post v_28 X_10)))) ∧ (¬ p2 = 0 → gfA X_10 p0 1 0 (fun v_30 => gfA X_10 v_30 2 3 (fun v_34 => alI X_10 0 v_34 p1 (fun v_41 => post v_41 X_10)))))) xpost E mc_11 ms_12 X r_9)) (Int32.toInt64 p1) 0 (Int32.toInt64 (v_6 - 1))))
abbrev wsX1_wheelOf : List Cond := ws_ yX1_wheelOf cX1_wheelOf 3 (some .int)
set_option maxHeartbeats 8000000 in
theorem metX1_wheelOf (l : Launch) (hlt : l.stackTraces = false) (K : HK) (mc ms : Nat) (sz : Nat) (post : Int32 → hX → Prop) (xpost : String → Nat → hX → Prop) (X0 : hX) (p0 : Nat) (p1 : Int32) (p2 : Int32) : vx_Met l yX1_wheelOf wsX1_wheelOf (rmh 7 115 mc ms) (hPc K X0 sz [.ref p0, .int p1, .int p2] (wpX1_wheelOf post xpost (K.2.2 0) mc ms X0 p0 p1 p2)) (hQi post K X0 sz) (hXC xpost K X0 sz) mc ms (hA X0 sz) := by
  refine vx_ofW (cc := cX1_wheelOf) (maxL := 3) (ret := (some .int)) (by decide) rfl ?_
  intro p e s m args below meth c s₁ B hml hno hv
  obtain ⟨rfl, hv⟩ := hv
  obtain ⟨hC, hP, hw⟩ := HC.of hv
  have hsz : s.heap.size = sz := hv.1
  subst hsz
  clear hv
  have hout : ∀ {pc : Nat}, ∀ x ∈ c.exceptionTable.toList, covers x pc = false := fun x hx => (hno x hx).elim
  have hr := B.returns
  have hts := atoms_spec (ws := wsX1_wheelOf) B.pre
  have hts : ∀ w ∈ lw_all, w.before _ s = true := fun w h => hts w (List.mem_cons_of_mem _ h)
  have hF : CallFix p m c cX1_wheelOf 3 s ([.ref p0, .int p1, .int p2] : List Value).toArray lw_all RX1 := ⟨B.exec, B.bytes, hml, findClass_of_methodNamed B.named, hts⟩
  have hlocks := B.notSynchronized
  have hl := lv_entry ([.ref p0, .int p1, .int p2]) (n := 3) (Nat.le_of_ble_eq_true rfl)
  rw [lg_entry_eq]
  generalize (lg_sl ([.ref p0, .int p1, .int p2]) ++ List.replicate (3 - (lg_sl ([.ref p0, .int p1, .int p2])).length) Slot.unset).toArray = ls at hl ⊢
  have hl : lv_has ls 3 [(0, .ref p0), (1, .int p1), (2, .int p2)] := hl
  have hS : va_S (hA X0 s.heap.size) s.heap s.heap [] := va_S.rf
  unfold wpX1_wheelOf at hw
  show W p l e (rmh 7 115 mc ms) s m _ below meth c _ _ _ _ _ _
  refine lv_iload_n hF.1 hF.2.1 dX1_wheelOf_0 rfl (lv_at hl 1 rfl) ?_
  refine lv_i2l hF.1 hF.2.1 dX1_wheelOf_1 rfl ?_
  refine lv_lconst (v := 0) hF.1 hF.2.1 dX1_wheelOf_2 (by decide) ?_
  refine lv_aload_n hF.1 hF.2.1 dX1_wheelOf_3 rfl (lv_at hl 0 rfl) ?_
  obtain ⟨fs_1, v_2, hx_3, hv_4, hw⟩ := hw
  refine x_get hF hC hP in_X1 rfl 0 (by decide) q244 (fun _ z => z) hx_3 hv_4 dX1_wheelOf_4 ?_
  obtain ⟨fs_5, v_6, hx_7, hv_8, hw⟩ := hw
  refine x_getN hF hC hP in_X2 rfl 6 (by decide) q167 (fun _ z => z) hx_7 hv_8 dX1_wheelOf_7 ?_
  refine lv_iconst (v := 1) hF.1 hF.2.1 dX1_wheelOf_10 (by decide) ?_
  refine lv_isub hF.1 hF.2.1 dX1_wheelOf_11 ?_
  refine lv_i2l hF.1 hF.2.1 dX1_wheelOf_12 rfl ?_
  refine hp_i (hrp_S (As := [.long (Int32.toInt64 p1), .long 0, .long (Int32.toInt64 (v_6 - 1))]) (rest := []) hF hl.1 (metX1_isBetween l _ (Int32.toInt64 p1) 0 (Int32.toInt64 (v_6 - 1))) (va_cwS 3 hF.2.2.2.2 (lw_S q1228 q848 q75 q849) rfl rfl rfl (by decide +kernel) ⟨Nat.le_of_ble_eq_true rfl, Nat.le_of_ble_eq_true rfl⟩) hw rfl rfl (Nat.le_of_ble_eq_true rfl) dX1_wheelOf_13 ⟨Nat.zero_le _, Nat.zero_le _⟩) (fun r_9 hw => ?_)
  obtain ⟨mc_11, ms_12, hc_13, hs_14, hw⟩ := hw
  refine hkx_v (hrx_S (As := [.int r_9]) (rest := []) hF hl.1 hC hP hS (metX1_needArgument l hlt K mc_11 ms_12 _ _ _ X0 r_9) (va_cwS 1 hF.2.2.2.2 (lw_S q1140 q1141 q75 q1142) rfl rfl rfl (by decide +kernel) ⟨Nat.le_of_ble_eq_true rfl, Nat.le_of_ble_eq_true rfl⟩) hw rfl rfl (Nat.le_of_ble_eq_true rfl) dX1_wheelOf_16 ⟨hc_13, hs_14⟩) hP hS (fun E9 q9 X9 H locs hw hcl hP hS => ?_) (fun X_10 H locs hw hP hS => ?_)
  · exact h_out hout hlocks hcl hP hS ⟨hc_13, hs_14⟩ hw
  refine lv_iload_n hF.1 hF.2.1 dX1_wheelOf_19 rfl (lv_at hl 2 rfl) ?_
  refine lv_if_eq (tgt := 35) hF.1 hF.2.1 dX1_wheelOf_20 (by decide) (fun c_15 => ?_) (fun c_15 => ?_)
  · have hw := hw.1 c_15
    refine lv_aload_n hF.1 hF.2.1 dX1_wheelOf_35 rfl (lv_at hl 0 rfl) ?_
    obtain ⟨fs_16, v_17, hx_18, hv_19, hw⟩ := hw
    refine x_get hF hC hP in_X1 rfl 0 (by decide) q244 (fun _ z => z) hx_18 hv_19 dX1_wheelOf_36 ?_
    obtain ⟨fs_20, v_21, hx_22, hv_23, hw⟩ := hw
    refine x_getN hF hC hP in_X2 rfl 4 (by decide) q162 (fun _ z => z) hx_22 hv_23 dX1_wheelOf_39 ?_
    refine lv_iload_n hF.1 hF.2.1 dX1_wheelOf_42 rfl (lv_at hl 1 rfl) ?_
    obtain ⟨n_24, f_25, hx_26, hi_27, hw⟩ := hw
    refine x_iald hF hC hP hx_26 hi_27 dX1_wheelOf_43 ?_
    generalize f_25 (Int32.toNatClampNeg p1) = v_28 at hw ⊢
    exact vx_ret (h_iret hF hr hlocks hP hS ⟨hc_13, hs_14⟩ dX1_wheelOf_44 hw)
  · have hw := hw.2 c_15
    refine lv_aload_n hF.1 hF.2.1 dX1_wheelOf_23 rfl (lv_at hl 0 rfl) ?_
    obtain ⟨fs_29, v_30, hx_31, hv_32, hw⟩ := hw
    refine x_get hF hC hP in_X1 rfl 0 (by decide) q244 (fun _ z => z) hx_31 hv_32 dX1_wheelOf_24 ?_
    obtain ⟨fs_33, v_34, hx_35, hv_36, hw⟩ := hw
    refine x_getN hF hC hP in_X2 rfl 3 (by decide) q159 (fun _ z => z) hx_35 hv_36 dX1_wheelOf_27 ?_
    refine lv_iload_n hF.1 hF.2.1 dX1_wheelOf_30 rfl (lv_at hl 1 rfl) ?_
    obtain ⟨n_37, f_38, hx_39, hi_40, hw⟩ := hw
    refine x_iald hF hC hP hx_39 hi_40 dX1_wheelOf_31 ?_
    generalize f_38 (Int32.toNatClampNeg p1) = v_41 at hw ⊢
    refine lv_goto (tgt := 44) hF.1 hF.2.1 dX1_wheelOf_32 (by decide) ?_
    exact vx_ret (h_iret hF hr hlocks hP hS ⟨hc_13, hs_14⟩ dX1_wheelOf_44 hw)
def wpX1_ofPair_51 (post : Option Nat → hX → Prop) (xpost : String → Nat → hX → Prop) (E : Nat) (mc ms : Nat) (z0 : Nat) (z1 : Int32) (X : hX) (kc ks : Nat) : Prop := isO X z0 8 (wpJ2_get (fun r_1 X_2 => (∃ a_4 : Nat, r_1 = some a_4 ∧ ((∃ fs, X_2 a_4 = some (.inr (5, fs))) ∧ post (some a_4) X_2))) E X z0 z1)
def wpX1_ofPair (post : Option Nat → hX → Prop) (xpost : String → Nat → hX → Prop) (E : Nat) (mc ms : Nat) (X : hX) (p0 : Nat) (p1 : Int32) (p2 : Int32) : Prop := gfA X p0 1 0 (fun v_8 => gfI X v_8 2 6 (fun v_12 => wpX1_isBetween (fun r_15 => (∃ mc_17 ms_18 : Nat, 0 + mc_17 ≤ mc ∧ 0 + ms_18 ≤ ms ∧ wpX1_needArgument (fun X_16 => gfA X_16 p0 1 0 (fun v_22 => gfA X_16 v_22 2 0 (fun v_26 => ((p2 = 0 → gfA X_16 p0 1 0 (fun v_31 => gfA X_16 v_31 2 4 (fun v_35 => alI X_16 0 v_35 p1 (fun v_42 => wpX1_ofPair_51 post xpost E mc ms v_26 v_42 X_16 (0 + mc_17) (0 + ms_18))))) ∧ (¬ p2 = 0 → gfA X_16 p0 1 0 (fun v_44 => gfA X_16 v_44 2 3 (fun v_48 => alI X_16 0 v_48 p1 (fun v_55 => wpX1_ofPair_51 post xpost E mc ms v_26 v_55 X_16 (0 + mc_17) (0 + ms_18))))))))) xpost E mc_17 ms_18 X r_15)) (Int32.toInt64 p1) 0 (Int32.toInt64 (v_12 - 1))))
abbrev wsX1_ofPair : List Cond := ws_ yX1_ofPair cX1_ofPair 3 (some (.object "ClockworkOrreries$Wheel"))
set_option maxHeartbeats 8000000 in
theorem metX1_ofPair (l : Launch) (hlt : l.stackTraces = false) (K : HK) (mc ms : Nat) (sz : Nat) (post : Option Nat → hX → Prop) (xpost : String → Nat → hX → Prop) (X0 : hX) (p0 : Nat) (p1 : Int32) (p2 : Int32) : vx_Met l yX1_ofPair wsX1_ofPair (rmh 7 115 mc ms) (hPc K X0 sz [.ref p0, .int p1, .int p2] (wpX1_ofPair post xpost (K.2.2 0) mc ms X0 p0 p1 p2)) (hQq post K X0 sz) (hXC xpost K X0 sz) mc ms (hA X0 sz) := by
  refine vx_ofW (cc := cX1_ofPair) (maxL := 3) (ret := (some (.object "ClockworkOrreries$Wheel"))) (by decide) rfl ?_
  intro p e s m args below meth c s₁ B hml hno hv
  obtain ⟨rfl, hv⟩ := hv
  obtain ⟨hC, hP, hw⟩ := HC.of hv
  have hsz : s.heap.size = sz := hv.1
  subst hsz
  clear hv
  have hout : ∀ {pc : Nat}, ∀ x ∈ c.exceptionTable.toList, covers x pc = false := fun x hx => (hno x hx).elim
  have hr := B.returns
  have hts := atoms_spec (ws := wsX1_ofPair) B.pre
  have hts : ∀ w ∈ lw_all, w.before _ s = true := fun w h => hts w (List.mem_cons_of_mem _ h)
  have hF : CallFix p m c cX1_ofPair 3 s ([.ref p0, .int p1, .int p2] : List Value).toArray lw_all RX1 := ⟨B.exec, B.bytes, hml, findClass_of_methodNamed B.named, hts⟩
  have hlocks := B.notSynchronized
  have hl := lv_entry ([.ref p0, .int p1, .int p2]) (n := 3) (Nat.le_of_ble_eq_true rfl)
  rw [lg_entry_eq]
  generalize (lg_sl ([.ref p0, .int p1, .int p2]) ++ List.replicate (3 - (lg_sl ([.ref p0, .int p1, .int p2])).length) Slot.unset).toArray = ls at hl ⊢
  have hl : lv_has ls 3 [(0, .ref p0), (1, .int p1), (2, .int p2)] := hl
  have hS : va_S (hA X0 s.heap.size) s.heap s.heap [] := va_S.rf
  have T51 : ∀ (z0 : Nat) (z1 : Int32) (X : hX) (kc ks : Nat) (H : Heap) (locs : List Loc) (ls : Array Slot), hI K X0 s.heap.size X H → va_S (hA X0 s.heap.size) s.heap H locs → kc ≤ mc ∧ ks ≤ ms → lv_has ls 3 [] → wpX1_ofPair_51 post xpost (K.2.2 0) mc ms z0 z1 X kc ks → W p l e (rmh 7 115 mc ms) s m ([.ref p0, .int p1, .int p2] : List Value).toArray below meth c H locs kc ks (vx_MQ below (hQq post K X0 s.heap.size) (hXC xpost K X0 s.heap.size) ([.ref p0, .int p1, .int p2] : List Value).toArray s mc ms (hA X0 s.heap.size)) (F0 m 51 ls [.int z1, .ref z0]) := by
    intro z0 z1 X kc ks H locs ls hP hS hk hl hw
    unfold wpX1_ofPair_51 at hw
    obtain ⟨ho_3, hw⟩ := hw
    refine hk_q (hr_V (As := [.int z1]) (rest := []) (T := TJ2) (N := 3) (ci := 8) hF hl.1 hC hP hS (metJ2_get l K _ _ X z0 z1) rfl (cwV 1 hF.2.2.2.2 (lw_V q419 q347 q348 q79 q349) rfl rfl rfl (by decide +kernel) ⟨Nat.le_of_ble_eq_true rfl, Nat.le_of_ble_eq_true rfl⟩) ho_3 hw rfl rfl (Nat.le_of_ble_eq_true rfl) dX1_ofPair_51 hk) hP hS (fun r_1 X_2 H locs hw hP hS => ?_)
    obtain ⟨a_4, e_5, hw⟩ := hw
    subst e_5
    rw [va_rf_some]
    obtain ⟨h_6, hw⟩ := hw
    refine x_cast (T := TX5) (N := 2) (ci := 5) hF hC hP rfl q420 h_6 dX1_ofPair_54 ?_
    exact vx_ret (h_aret (r := (some a_4)) hF hr (Or.inl ⟨_, rfl⟩) hlocks hP hS hk dX1_ofPair_57 hw)
  unfold wpX1_ofPair at hw
  show W p l e (rmh 7 115 mc ms) s m _ below meth c _ _ _ _ _ _
  refine lv_iload_n hF.1 hF.2.1 dX1_ofPair_0 rfl (lv_at hl 1 rfl) ?_
  refine lv_i2l hF.1 hF.2.1 dX1_ofPair_1 rfl ?_
  refine lv_lconst (v := 0) hF.1 hF.2.1 dX1_ofPair_2 (by decide) ?_
  refine lv_aload_n hF.1 hF.2.1 dX1_ofPair_3 rfl (lv_at hl 0 rfl) ?_
  obtain ⟨fs_7, v_8, hx_9, hv_10, hw⟩ := hw
  refine x_get hF hC hP in_X1 rfl 0 (by decide) q244 (fun _ z => z) hx_9 hv_10 dX1_ofPair_4 ?_
  obtain ⟨fs_11, v_12, hx_13, hv_14, hw⟩ := hw
  refine x_getN hF hC hP in_X2 rfl 6 (by decide) q167 (fun _ z => z) hx_13 hv_14 dX1_ofPair_7 ?_
  refine lv_iconst (v := 1) hF.1 hF.2.1 dX1_ofPair_10 (by decide) ?_
  refine lv_isub hF.1 hF.2.1 dX1_ofPair_11 ?_
  refine lv_i2l hF.1 hF.2.1 dX1_ofPair_12 rfl ?_
  refine hp_i (hrp_S (As := [.long (Int32.toInt64 p1), .long 0, .long (Int32.toInt64 (v_12 - 1))]) (rest := []) hF hl.1 (metX1_isBetween l _ (Int32.toInt64 p1) 0 (Int32.toInt64 (v_12 - 1))) (va_cwS 3 hF.2.2.2.2 (lw_S q1228 q848 q75 q849) rfl rfl rfl (by decide +kernel) ⟨Nat.le_of_ble_eq_true rfl, Nat.le_of_ble_eq_true rfl⟩) hw rfl rfl (Nat.le_of_ble_eq_true rfl) dX1_ofPair_13 ⟨Nat.zero_le _, Nat.zero_le _⟩) (fun r_15 hw => ?_)
  obtain ⟨mc_17, ms_18, hc_19, hs_20, hw⟩ := hw
  refine hkx_v (hrx_S (As := [.int r_15]) (rest := []) hF hl.1 hC hP hS (metX1_needArgument l hlt K mc_17 ms_18 _ _ _ X0 r_15) (va_cwS 1 hF.2.2.2.2 (lw_S q1140 q1141 q75 q1142) rfl rfl rfl (by decide +kernel) ⟨Nat.le_of_ble_eq_true rfl, Nat.le_of_ble_eq_true rfl⟩) hw rfl rfl (Nat.le_of_ble_eq_true rfl) dX1_ofPair_16 ⟨hc_19, hs_20⟩) hP hS (fun E9 q9 X9 H locs hw hcl hP hS => ?_) (fun X_16 H locs hw hP hS => ?_)
  · exact h_out hout hlocks hcl hP hS ⟨hc_19, hs_20⟩ hw
  refine lv_aload_n hF.1 hF.2.1 dX1_ofPair_19 rfl (lv_at hl 0 rfl) ?_
  obtain ⟨fs_21, v_22, hx_23, hv_24, hw⟩ := hw
  refine x_get hF hC hP in_X1 rfl 0 (by decide) q244 (fun _ z => z) hx_23 hv_24 dX1_ofPair_20 ?_
  obtain ⟨fs_25, v_26, hx_27, hv_28, hw⟩ := hw
  refine x_getN hF hC hP in_X2 rfl 0 (by decide) q152 (fun _ z => z) hx_27 hv_28 dX1_ofPair_23 ?_
  refine lv_iload_n hF.1 hF.2.1 dX1_ofPair_26 rfl (lv_at hl 2 rfl) ?_
  refine lv_if_eq (tgt := 42) hF.1 hF.2.1 dX1_ofPair_27 (by decide) (fun c_29 => ?_) (fun c_29 => ?_)
  · have hw := hw.1 c_29
    refine lv_aload_n hF.1 hF.2.1 dX1_ofPair_42 rfl (lv_at hl 0 rfl) ?_
    obtain ⟨fs_30, v_31, hx_32, hv_33, hw⟩ := hw
    refine x_get hF hC hP in_X1 rfl 0 (by decide) q244 (fun _ z => z) hx_32 hv_33 dX1_ofPair_43 ?_
    obtain ⟨fs_34, v_35, hx_36, hv_37, hw⟩ := hw
    refine x_getN hF hC hP in_X2 rfl 4 (by decide) q162 (fun _ z => z) hx_36 hv_37 dX1_ofPair_46 ?_
    refine lv_iload_n hF.1 hF.2.1 dX1_ofPair_49 rfl (lv_at hl 1 rfl) ?_
    obtain ⟨n_38, f_39, hx_40, hi_41, hw⟩ := hw
    refine x_iald hF hC hP hx_40 hi_41 dX1_ofPair_50 ?_
    generalize f_39 (Int32.toNatClampNeg p1) = v_42 at hw ⊢
    exact T51 v_26 v_42 X_16 (0 + mc_17) (0 + ms_18) _ _ ls hP hS ⟨hc_19, hs_20⟩ (lv_sub hl [] rfl) hw
  · have hw := hw.2 c_29
    refine lv_aload_n hF.1 hF.2.1 dX1_ofPair_30 rfl (lv_at hl 0 rfl) ?_
    obtain ⟨fs_43, v_44, hx_45, hv_46, hw⟩ := hw
    refine x_get hF hC hP in_X1 rfl 0 (by decide) q244 (fun _ z => z) hx_45 hv_46 dX1_ofPair_31 ?_
    obtain ⟨fs_47, v_48, hx_49, hv_50, hw⟩ := hw
    refine x_getN hF hC hP in_X2 rfl 3 (by decide) q159 (fun _ z => z) hx_49 hv_50 dX1_ofPair_34 ?_
    refine lv_iload_n hF.1 hF.2.1 dX1_ofPair_37 rfl (lv_at hl 1 rfl) ?_
    obtain ⟨n_51, f_52, hx_53, hi_54, hw⟩ := hw
    refine x_iald hF hC hP hx_53 hi_54 dX1_ofPair_38 ?_
    generalize f_52 (Int32.toNatClampNeg p1) = v_55 at hw ⊢
    refine lv_goto (tgt := 51) hF.1 hF.2.1 dX1_ofPair_39 (by decide) ?_
    exact T51 v_26 v_55 X_16 (0 + mc_17) (0 + ms_18) _ _ ls hP hS ⟨hc_19, hs_20⟩ (lv_sub hl [] rfl) hw
def wpX1_sameTeethIn (post : Int32 → hX → Prop) (xpost : String → Nat → hX → Prop) (E : Nat) (mc ms : Nat) (X : hX) (p0 : Nat) (p1 : Int32) : Prop := isO X p0 1 ((∃ mc_4 ms_5 : Nat, 0 + mc_4 ≤ mc ∧ 0 + ms_5 ≤ ms ∧ wpX1_ofPair (fun r_1 X_2 => (∃ a_8 : Nat, r_1 = some a_8 ∧ gfI X_2 a_8 5 1 (fun v_11 => isO X_2 p0 1 ((∃ mc_17 ms_18 : Nat, (0 + mc_4) + mc_17 ≤ mc ∧ (0 + ms_5) + ms_18 ≤ ms ∧ wpX1_ofPair (fun r_14 X_15 => (∃ a_21 : Nat, r_14 = some a_21 ∧ gfI X_15 a_21 5 1 (fun v_24 => wpX1_divisor (fun r_27 => (¬ (Int64.toInt32 r_27) = 0 ∧ post ((v_11 / (Int64.toInt32 r_27)) * v_24) X_15)) (Int32.toInt64 v_11) (Int32.toInt64 v_24)))) xpost E mc_17 ms_18 X_2 p0 p1 0))))) xpost E mc_4 ms_5 X p0 p1 1))
abbrev wsX1_sameTeethIn : List Cond := ws_ yX1_sameTeethIn cX1_sameTeethIn 4 (some .int)
set_option maxHeartbeats 8000000 in
theorem metX1_sameTeethIn (l : Launch) (hlt : l.stackTraces = false) (K : HK) (mc ms : Nat) (sz : Nat) (post : Int32 → hX → Prop) (xpost : String → Nat → hX → Prop) (X0 : hX) (p0 : Nat) (p1 : Int32) : vx_Met l yX1_sameTeethIn wsX1_sameTeethIn (rmh 8 137 mc ms) (hPc K X0 sz [.ref p0, .int p1] (wpX1_sameTeethIn post xpost (K.2.2 0) mc ms X0 p0 p1)) (hQi post K X0 sz) (hXC xpost K X0 sz) mc ms (hA X0 sz) := by
  refine vx_ofW (cc := cX1_sameTeethIn) (maxL := 4) (ret := (some .int)) (by decide) rfl ?_
  intro p e s m args below meth c s₁ B hml hno hv
  obtain ⟨rfl, hv⟩ := hv
  obtain ⟨hC, hP, hw⟩ := HC.of hv
  have hsz : s.heap.size = sz := hv.1
  subst hsz
  clear hv
  have hout : ∀ {pc : Nat}, ∀ x ∈ c.exceptionTable.toList, covers x pc = false := fun x hx => (hno x hx).elim
  have hr := B.returns
  have hts := atoms_spec (ws := wsX1_sameTeethIn) B.pre
  have hts : ∀ w ∈ lw_all, w.before _ s = true := fun w h => hts w (List.mem_cons_of_mem _ h)
  have hF : CallFix p m c cX1_sameTeethIn 4 s ([.ref p0, .int p1] : List Value).toArray lw_all RX1 := ⟨B.exec, B.bytes, hml, findClass_of_methodNamed B.named, hts⟩
  have hlocks := B.notSynchronized
  have hl := lv_entry ([.ref p0, .int p1]) (n := 4) (Nat.le_of_ble_eq_true rfl)
  rw [lg_entry_eq]
  generalize (lg_sl ([.ref p0, .int p1]) ++ List.replicate (4 - (lg_sl ([.ref p0, .int p1])).length) Slot.unset).toArray = ls at hl ⊢
  have hl : lv_has ls 4 [(0, .ref p0), (1, .int p1)] := hl
  have hS : va_S (hA X0 s.heap.size) s.heap s.heap [] := va_S.rf
  unfold wpX1_sameTeethIn at hw
  show W p l e (rmh 8 137 mc ms) s m _ below meth c _ _ _ _ _ _
  refine lv_aload_n hF.1 hF.2.1 dX1_sameTeethIn_0 rfl (lv_at hl 0 rfl) ?_
  refine lv_iload_n hF.1 hF.2.1 dX1_sameTeethIn_1 rfl (lv_at hl 1 rfl) ?_
  refine lv_iconst (v := 1) hF.1 hF.2.1 dX1_sameTeethIn_2 (by decide) ?_
  obtain ⟨ho_3, hw⟩ := hw
  obtain ⟨mc_4, ms_5, hc_6, hs_7, hw⟩ := hw
  refine hkx_q (hrx_V (As := [.int p1, .int 1]) (rest := []) (T := TX1) (N := 4) (ci := 1) hF hl.1 hC hP hS (metX1_ofPair l hlt K mc_4 ms_5 _ _ _ X0 p0 p1 1) rfl (cwV 2 hF.2.2.2.2 (lw_V q1236 q1238 qs13 q75 q1239) rfl rfl rfl (by decide +kernel) ⟨Nat.le_of_ble_eq_true rfl, Nat.le_of_ble_eq_true rfl⟩) ho_3 hw rfl rfl (Nat.le_of_ble_eq_true rfl) dX1_sameTeethIn_3 ⟨hc_6, hs_7⟩) hP hS (fun E9 q9 X9 H locs hw hcl hP hS => ?_) (fun r_1 X_2 H locs hw hP hS => ?_)
  · exact h_out hout hlocks hcl hP hS ⟨hc_6, hs_7⟩ hw
  obtain ⟨a_8, e_9, hw⟩ := hw
  subst e_9
  rw [va_rf_some]
  obtain ⟨fs_10, v_11, hx_12, hv_13, hw⟩ := hw
  refine x_getN hF hC hP in_X5 rfl 1 (by decide) q864 (fun _ z => z) hx_12 hv_13 dX1_sameTeethIn_6 ?_
  refine lv_istore_n (lv' := [(2, .int v_11), (0, .ref p0), (1, .int p1)]) hF.1 hF.2.1 dX1_sameTeethIn_9 rfl hl (by decide) rfl (fun ls hl => ?_)
  refine lv_aload_n hF.1 hF.2.1 dX1_sameTeethIn_10 rfl (lv_at hl 1 rfl) ?_
  refine lv_iload_n hF.1 hF.2.1 dX1_sameTeethIn_11 rfl (lv_at hl 2 rfl) ?_
  refine lv_iconst (v := 0) hF.1 hF.2.1 dX1_sameTeethIn_12 (by decide) ?_
  obtain ⟨ho_16, hw⟩ := hw
  obtain ⟨mc_17, ms_18, hc_19, hs_20, hw⟩ := hw
  refine hkx_q (hrx_V (As := [.int p1, .int 0]) (rest := []) (T := TX1) (N := 4) (ci := 1) hF hl.1 hC hP hS (metX1_ofPair l hlt K mc_17 ms_18 _ _ _ X_2 p0 p1 0) rfl (cwV 2 hF.2.2.2.2 (lw_V q1236 q1238 qs13 q75 q1239) rfl rfl rfl (by decide +kernel) ⟨Nat.le_of_ble_eq_true rfl, Nat.le_of_ble_eq_true rfl⟩) ho_16 hw rfl rfl (Nat.le_of_ble_eq_true rfl) dX1_sameTeethIn_13 ⟨hc_19, hs_20⟩) hP hS (fun E9 q9 X9 H locs hw hcl hP hS => ?_) (fun r_14 X_15 H locs hw hP hS => ?_)
  · exact h_out hout hlocks hcl hP hS ⟨hc_19, hs_20⟩ hw
  obtain ⟨a_21, e_22, hw⟩ := hw
  subst e_22
  rw [va_rf_some]
  obtain ⟨fs_23, v_24, hx_25, hv_26, hw⟩ := hw
  refine x_getN hF hC hP in_X5 rfl 1 (by decide) q864 (fun _ z => z) hx_25 hv_26 dX1_sameTeethIn_16 ?_
  refine lv_istore_n (lv' := [(3, .int v_24), (2, .int v_11), (0, .ref p0), (1, .int p1)]) hF.1 hF.2.1 dX1_sameTeethIn_19 rfl hl (by decide) rfl (fun ls hl => ?_)
  refine lv_iload_n hF.1 hF.2.1 dX1_sameTeethIn_20 rfl (lv_at hl 1 rfl) ?_
  refine lv_iload_n hF.1 hF.2.1 dX1_sameTeethIn_21 rfl (lv_at hl 1 rfl) ?_
  refine lv_i2l hF.1 hF.2.1 dX1_sameTeethIn_22 rfl ?_
  refine lv_iload_n hF.1 hF.2.1 dX1_sameTeethIn_23 rfl (lv_at hl 0 rfl) ?_
  refine lv_i2l hF.1 hF.2.1 dX1_sameTeethIn_24 rfl ?_
  refine hp_l (hrp_S (As := [.long (Int32.toInt64 v_11), .long (Int32.toInt64 v_24)]) (rest := [.int v_11]) hF hl.1 (metX1_divisor l _ (Int32.toInt64 v_11) (Int32.toInt64 v_24)) (va_cwS 2 hF.2.2.2.2 (lw_S q1240 q366 q75 q367) rfl rfl rfl (by decide +kernel) ⟨Nat.le_of_ble_eq_true rfl, Nat.le_of_ble_eq_true rfl⟩) hw rfl rfl (Nat.le_of_ble_eq_true rfl) dX1_sameTeethIn_25 ⟨hc_19, hs_20⟩) (fun r_27 hw => ?_)
  refine lv_l2i hF.1 hF.2.1 dX1_sameTeethIn_28 rfl ?_
  obtain ⟨h_28, hw⟩ := hw
  refine lv_idiv hF.1 hF.2.1 dX1_sameTeethIn_29 h_28 ?_
  refine lv_iload_n hF.1 hF.2.1 dX1_sameTeethIn_30 rfl (lv_at hl 0 rfl) ?_
  refine lv_imul hF.1 hF.2.1 dX1_sameTeethIn_31 ?_
  exact vx_ret (h_iret hF hr hlocks hP hS ⟨hc_19, hs_20⟩ dX1_sameTeethIn_32 hw)
def wpX1_sameTeethByGoing_63 (post : Int32 → hX → Prop) (xpost : String → Nat → hX → Prop) (E : Nat) (mc ms : Nat) (J29 : Int32 → Int32 → Int32 → Int32 → Int32 → hX → Nat → Nat → Prop) (x2 : Int32) (x3 : Int32) (x4 : Int32) (x6 : Int32) (z0 : Int32) (X : hX) (kc ks : Nat) : Prop := (∀ x6_1 : Int32, x6_1 = x6 + 1 → ((0 < x4 → J29 x2 x3 x4 z0 x6_1 X kc ks) ∧ (¬ 0 < x4 → ((0 < z0 → J29 x2 x3 x4 z0 x6_1 X kc ks) ∧ (¬ 0 < z0 → post x6_1 X)))))
def wpX1_sameTeethByGoing_45 (post : Int32 → hX → Prop) (xpost : String → Nat → hX → Prop) (E : Nat) (mc ms : Nat) (J29 : Int32 → Int32 → Int32 → Int32 → Int32 → hX → Nat → Nat → Prop) (x2 : Int32) (x3 : Int32) (x5 : Int32) (x6 : Int32) (z0 : Int32) (X : hX) (kc ks : Nat) : Prop := (((x5 + 1) = x3 → wpX1_sameTeethByGoing_63 post xpost E mc ms J29 x2 x3 z0 x6 0 X kc ks) ∧ (¬ (x5 + 1) = x3 → wpX1_sameTeethByGoing_63 post xpost E mc ms J29 x2 x3 z0 x6 (x5 + 1) X kc ks))
def wpX1_sameTeethByGoing_29 (post : Int32 → hX → Prop) (xpost : String → Nat → hX → Prop) (E : Nat) (mc ms : Nat) : Nat → Int32 → Int32 → Int32 → Int32 → Int32 → hX → Nat → Nat → Prop
  | 0 => fun _ _ _ _ _ _ _ _ => False
  | n + 1 => fun x2 x3 x4 x5 x6 X kc ks => (((x4 + 1) = x2 → wpX1_sameTeethByGoing_45 post xpost E mc ms (wpX1_sameTeethByGoing_29 post xpost E mc ms n) x2 x3 x5 x6 0 X kc ks) ∧ (¬ (x4 + 1) = x2 → wpX1_sameTeethByGoing_45 post xpost E mc ms (wpX1_sameTeethByGoing_29 post xpost E mc ms n) x2 x3 x5 x6 (x4 + 1) X kc ks))
def wpX1_sameTeethByGoing (post : Int32 → hX → Prop) (xpost : String → Nat → hX → Prop) (E : Nat) (mc ms : Nat) (X : hX) (p0 : Nat) (p1 : Int32) : Prop := isO X p0 1 ((∃ mc_9 ms_10 : Nat, 0 + mc_9 ≤ mc ∧ 0 + ms_10 ≤ ms ∧ wpX1_ofPair (fun r_6 X_7 => (∃ a_13 : Nat, r_6 = some a_13 ∧ gfI X_7 a_13 5 1 (fun v_16 => isO X_7 p0 1 ((∃ mc_22 ms_23 : Nat, (0 + mc_9) + mc_22 ≤ mc ∧ (0 + ms_10) + ms_23 ≤ ms ∧ wpX1_ofPair (fun r_19 X_20 => (∃ a_26 : Nat, r_19 = some a_26 ∧ gfI X_20 a_26 5 1 (fun v_29 => ∃ fu : Nat, wpX1_sameTeethByGoing_29 post xpost E mc ms fu v_16 v_29 0 0 0 X_20 ((0 + mc_9) + mc_22) ((0 + ms_10) + ms_23)))) xpost E mc_22 ms_23 X_7 p0 p1 0))))) xpost E mc_9 ms_10 X p0 p1 1))
abbrev wsX1_sameTeethByGoing : List Cond := ws_ yX1_sameTeethByGoing cX1_sameTeethByGoing 7 (some .int)
set_option maxHeartbeats 8000000 in
theorem metX1_sameTeethByGoing (l : Launch) (hlt : l.stackTraces = false) (K : HK) (mc ms : Nat) (sz : Nat) (post : Int32 → hX → Prop) (xpost : String → Nat → hX → Prop) (X0 : hX) (p0 : Nat) (p1 : Int32) : vx_Met l yX1_sameTeethByGoing wsX1_sameTeethByGoing (rmh 8 137 mc ms) (hPc K X0 sz [.ref p0, .int p1] (wpX1_sameTeethByGoing post xpost (K.2.2 0) mc ms X0 p0 p1)) (hQi post K X0 sz) (hXC xpost K X0 sz) mc ms (hA X0 sz) := by
  refine vx_ofW (cc := cX1_sameTeethByGoing) (maxL := 7) (ret := (some .int)) (by decide) rfl ?_
  intro p e s m args below meth c s₁ B hml hno hv
  obtain ⟨rfl, hv⟩ := hv
  obtain ⟨hC, hP, hw⟩ := HC.of hv
  have hsz : s.heap.size = sz := hv.1
  subst hsz
  clear hv
  have hout : ∀ {pc : Nat}, ∀ x ∈ c.exceptionTable.toList, covers x pc = false := fun x hx => (hno x hx).elim
  have hr := B.returns
  have hts := atoms_spec (ws := wsX1_sameTeethByGoing) B.pre
  have hts : ∀ w ∈ lw_all, w.before _ s = true := fun w h => hts w (List.mem_cons_of_mem _ h)
  have hF : CallFix p m c cX1_sameTeethByGoing 7 s ([.ref p0, .int p1] : List Value).toArray lw_all RX1 := ⟨B.exec, B.bytes, hml, findClass_of_methodNamed B.named, hts⟩
  have hlocks := B.notSynchronized
  have hl := lv_entry ([.ref p0, .int p1]) (n := 7) (Nat.le_of_ble_eq_true rfl)
  rw [lg_entry_eq]
  generalize (lg_sl ([.ref p0, .int p1]) ++ List.replicate (7 - (lg_sl ([.ref p0, .int p1])).length) Slot.unset).toArray = ls at hl ⊢
  have hl : lv_has ls 7 [(0, .ref p0), (1, .int p1)] := hl
  have hS : va_S (hA X0 s.heap.size) s.heap s.heap [] := va_S.rf
  have T63 : ∀ (J29 : Int32 → Int32 → Int32 → Int32 → Int32 → hX → Nat → Nat → Prop) (hJ29 : ∀ (x2 : Int32) (x3 : Int32) (x4 : Int32) (x5 : Int32) (x6 : Int32) (X : hX) (kc ks : Nat) (H : Heap) (locs : List Loc) (ls : Array Slot), hI K X0 s.heap.size X H → va_S (hA X0 s.heap.size) s.heap H locs → kc ≤ mc ∧ ks ≤ ms → lv_has ls 7 [(2, .int x2), (3, .int x3), (4, .int x4), (5, .int x5), (6, .int x6)] → J29 x2 x3 x4 x5 x6 X kc ks → W p l e (rmh 8 137 mc ms) s m ([.ref p0, .int p1] : List Value).toArray below meth c H locs kc ks (vx_MQ below (hQi post K X0 s.heap.size) (hXC xpost K X0 s.heap.size) ([.ref p0, .int p1] : List Value).toArray s mc ms (hA X0 s.heap.size)) (F0 m 29 ls [])), ∀ (x2 : Int32) (x3 : Int32) (x4 : Int32) (x6 : Int32) (z0 : Int32) (X : hX) (kc ks : Nat) (H : Heap) (locs : List Loc) (ls : Array Slot), hI K X0 s.heap.size X H → va_S (hA X0 s.heap.size) s.heap H locs → kc ≤ mc ∧ ks ≤ ms → lv_has ls 7 [(2, .int x2), (3, .int x3), (4, .int x4), (6, .int x6)] → wpX1_sameTeethByGoing_63 post xpost (K.2.2 0) mc ms J29 x2 x3 x4 x6 z0 X kc ks → W p l e (rmh 8 137 mc ms) s m ([.ref p0, .int p1] : List Value).toArray below meth c H locs kc ks (vx_MQ below (hQi post K X0 s.heap.size) (hXC xpost K X0 s.heap.size) ([.ref p0, .int p1] : List Value).toArray s mc ms (hA X0 s.heap.size)) (F0 m 63 ls [.int z0]) := by
    intro J29 hJ29
    intro x2 x3 x4 x6 z0 X kc ks H locs ls hP hS hk hl hw
    unfold wpX1_sameTeethByGoing_63 at hw
    refine lv_istore (lv' := [(5, .int z0), (2, .int x2), (3, .int x3), (4, .int x4), (6, .int x6)]) hF.1 hF.2.1 dX1_sameTeethByGoing_63 hl (by decide) rfl (fun ls hl => ?_)
    obtain ⟨x6_1, ex6_1⟩ : ∃ y : Int32, y = x6 + 1 := ⟨_, rfl⟩
    have hw := hw x6_1 ex6_1
    refine lv_iinc (v := x6_1) (lv' := [(6, .int x6_1), (5, .int z0), (2, .int x2), (3, .int x3), (4, .int x4)]) hF.1 hF.2.1 dX1_sameTeethByGoing_65 hl (k := 4) rfl (by rw [ex6_1]; rfl) (by decide) rfl (fun ls hl => ?_)
    refine lv_iload hF.1 hF.2.1 dX1_sameTeethByGoing_68 (lv_at hl 4 rfl) ?_
    refine lv_if_gt (tgt := 29) hF.1 hF.2.1 dX1_sameTeethByGoing_70 (by decide) (fun c_2 => ?_) (fun c_2 => ?_)
    · have hw := hw.1 c_2
      exact hJ29 x2 x3 x4 z0 x6_1 X kc ks _ _ ls hP hS hk (lv_sub hl [2, 3, 4, 1, 0] rfl) hw
    · have hw := hw.2 c_2
      refine lv_iload hF.1 hF.2.1 dX1_sameTeethByGoing_73 (lv_at hl 1 rfl) ?_
      refine lv_if_gt (tgt := 29) hF.1 hF.2.1 dX1_sameTeethByGoing_75 (by decide) (fun c_3 => ?_) (fun c_3 => ?_)
      · have hw := hw.1 c_3
        exact hJ29 x2 x3 x4 z0 x6_1 X kc ks _ _ ls hP hS hk (lv_sub hl [2, 3, 4, 1, 0] rfl) hw
      · have hw := hw.2 c_3
        refine lv_iload hF.1 hF.2.1 dX1_sameTeethByGoing_78 (lv_at hl 0 rfl) ?_
        exact vx_ret (h_iret hF hr hlocks hP hS hk dX1_sameTeethByGoing_80 hw)
  have T45 : ∀ (J29 : Int32 → Int32 → Int32 → Int32 → Int32 → hX → Nat → Nat → Prop) (hJ29 : ∀ (x2 : Int32) (x3 : Int32) (x4 : Int32) (x5 : Int32) (x6 : Int32) (X : hX) (kc ks : Nat) (H : Heap) (locs : List Loc) (ls : Array Slot), hI K X0 s.heap.size X H → va_S (hA X0 s.heap.size) s.heap H locs → kc ≤ mc ∧ ks ≤ ms → lv_has ls 7 [(2, .int x2), (3, .int x3), (4, .int x4), (5, .int x5), (6, .int x6)] → J29 x2 x3 x4 x5 x6 X kc ks → W p l e (rmh 8 137 mc ms) s m ([.ref p0, .int p1] : List Value).toArray below meth c H locs kc ks (vx_MQ below (hQi post K X0 s.heap.size) (hXC xpost K X0 s.heap.size) ([.ref p0, .int p1] : List Value).toArray s mc ms (hA X0 s.heap.size)) (F0 m 29 ls [])), ∀ (x2 : Int32) (x3 : Int32) (x5 : Int32) (x6 : Int32) (z0 : Int32) (X : hX) (kc ks : Nat) (H : Heap) (locs : List Loc) (ls : Array Slot), hI K X0 s.heap.size X H → va_S (hA X0 s.heap.size) s.heap H locs → kc ≤ mc ∧ ks ≤ ms → lv_has ls 7 [(2, .int x2), (3, .int x3), (5, .int x5), (6, .int x6)] → wpX1_sameTeethByGoing_45 post xpost (K.2.2 0) mc ms J29 x2 x3 x5 x6 z0 X kc ks → W p l e (rmh 8 137 mc ms) s m ([.ref p0, .int p1] : List Value).toArray below meth c H locs kc ks (vx_MQ below (hQi post K X0 s.heap.size) (hXC xpost K X0 s.heap.size) ([.ref p0, .int p1] : List Value).toArray s mc ms (hA X0 s.heap.size)) (F0 m 45 ls [.int z0]) := by
    intro J29 hJ29
    intro x2 x3 x5 x6 z0 X kc ks H locs ls hP hS hk hl hw
    unfold wpX1_sameTeethByGoing_45 at hw
    refine lv_istore (lv' := [(4, .int z0), (2, .int x2), (3, .int x3), (5, .int x5), (6, .int x6)]) hF.1 hF.2.1 dX1_sameTeethByGoing_45 hl (by decide) rfl (fun ls hl => ?_)
    refine lv_iload hF.1 hF.2.1 dX1_sameTeethByGoing_47 (lv_at hl 3 rfl) ?_
    refine lv_iconst (v := 1) hF.1 hF.2.1 dX1_sameTeethByGoing_49 (by decide) ?_
    refine lv_iadd hF.1 hF.2.1 dX1_sameTeethByGoing_50 ?_
    refine lv_iload_n hF.1 hF.2.1 dX1_sameTeethByGoing_51 rfl (lv_at hl 2 rfl) ?_
    refine lv_icmp_ne (tgt := 59) hF.1 hF.2.1 dX1_sameTeethByGoing_52 (by decide) (fun c_4 => ?_) (fun c_4 => ?_)
    · have hw := hw.2 c_4
      refine lv_iload hF.1 hF.2.1 dX1_sameTeethByGoing_59 (lv_at hl 3 rfl) ?_
      refine lv_iconst (v := 1) hF.1 hF.2.1 dX1_sameTeethByGoing_61 (by decide) ?_
      refine lv_iadd hF.1 hF.2.1 dX1_sameTeethByGoing_62 ?_
      exact T63 _ hJ29 x2 x3 z0 x6 (x5 + 1) X kc ks _ _ ls hP hS hk (lv_sub hl [1, 2, 0, 4] rfl) hw
    · have hw := hw.1 c_4
      refine lv_iconst (v := 0) hF.1 hF.2.1 dX1_sameTeethByGoing_55 (by decide) ?_
      refine lv_goto (tgt := 63) hF.1 hF.2.1 dX1_sameTeethByGoing_56 (by decide) ?_
      exact T63 _ hJ29 x2 x3 z0 x6 0 X kc ks _ _ ls hP hS hk (lv_sub hl [1, 2, 0, 4] rfl) hw
  have T29 : ∀ (n : Nat), ∀ (x2 : Int32) (x3 : Int32) (x4 : Int32) (x5 : Int32) (x6 : Int32) (X : hX) (kc ks : Nat) (H : Heap) (locs : List Loc) (ls : Array Slot), hI K X0 s.heap.size X H → va_S (hA X0 s.heap.size) s.heap H locs → kc ≤ mc ∧ ks ≤ ms → lv_has ls 7 [(2, .int x2), (3, .int x3), (4, .int x4), (5, .int x5), (6, .int x6)] → wpX1_sameTeethByGoing_29 post xpost (K.2.2 0) mc ms n x2 x3 x4 x5 x6 X kc ks → W p l e (rmh 8 137 mc ms) s m ([.ref p0, .int p1] : List Value).toArray below meth c H locs kc ks (vx_MQ below (hQi post K X0 s.heap.size) (hXC xpost K X0 s.heap.size) ([.ref p0, .int p1] : List Value).toArray s mc ms (hA X0 s.heap.size)) (F0 m 29 ls []) := by
    intro n
    induction n with
    | zero =>
      intro x2 x3 x4 x5 x6 X kc ks H locs ls hP hS hk hl hw
      exact False.elim hw
    | succ n ih =>
      intro x2 x3 x4 x5 x6 X kc ks H locs ls hP hS hk hl hw
      unfold wpX1_sameTeethByGoing_29 at hw
      refine lv_iload hF.1 hF.2.1 dX1_sameTeethByGoing_29 (lv_at hl 2 rfl) ?_
      refine lv_iconst (v := 1) hF.1 hF.2.1 dX1_sameTeethByGoing_31 (by decide) ?_
      refine lv_iadd hF.1 hF.2.1 dX1_sameTeethByGoing_32 ?_
      refine lv_iload_n hF.1 hF.2.1 dX1_sameTeethByGoing_33 rfl (lv_at hl 0 rfl) ?_
      refine lv_icmp_ne (tgt := 41) hF.1 hF.2.1 dX1_sameTeethByGoing_34 (by decide) (fun c_5 => ?_) (fun c_5 => ?_)
      · have hw := hw.2 c_5
        refine lv_iload hF.1 hF.2.1 dX1_sameTeethByGoing_41 (lv_at hl 2 rfl) ?_
        refine lv_iconst (v := 1) hF.1 hF.2.1 dX1_sameTeethByGoing_43 (by decide) ?_
        refine lv_iadd hF.1 hF.2.1 dX1_sameTeethByGoing_44 ?_
        exact T45 _ ih x2 x3 x5 x6 (x4 + 1) X kc ks _ _ ls hP hS hk (lv_sub hl [0, 1, 3, 4] rfl) hw
      · have hw := hw.1 c_5
        refine lv_iconst (v := 0) hF.1 hF.2.1 dX1_sameTeethByGoing_37 (by decide) ?_
        refine lv_goto (tgt := 45) hF.1 hF.2.1 dX1_sameTeethByGoing_38 (by decide) ?_
        exact T45 _ ih x2 x3 x5 x6 0 X kc ks _ _ ls hP hS hk (lv_sub hl [0, 1, 3, 4] rfl) hw
  unfold wpX1_sameTeethByGoing at hw
  show W p l e (rmh 8 137 mc ms) s m _ below meth c _ _ _ _ _ _
  refine lv_aload_n hF.1 hF.2.1 dX1_sameTeethByGoing_0 rfl (lv_at hl 0 rfl) ?_
  refine lv_iload_n hF.1 hF.2.1 dX1_sameTeethByGoing_1 rfl (lv_at hl 1 rfl) ?_
  refine lv_iconst (v := 1) hF.1 hF.2.1 dX1_sameTeethByGoing_2 (by decide) ?_
  obtain ⟨ho_8, hw⟩ := hw
  obtain ⟨mc_9, ms_10, hc_11, hs_12, hw⟩ := hw
  refine hkx_q (hrx_V (As := [.int p1, .int 1]) (rest := []) (T := TX1) (N := 4) (ci := 1) hF hl.1 hC hP hS (metX1_ofPair l hlt K mc_9 ms_10 _ _ _ X0 p0 p1 1) rfl (cwV 2 hF.2.2.2.2 (lw_V q1236 q1238 qs13 q75 q1239) rfl rfl rfl (by decide +kernel) ⟨Nat.le_of_ble_eq_true rfl, Nat.le_of_ble_eq_true rfl⟩) ho_8 hw rfl rfl (Nat.le_of_ble_eq_true rfl) dX1_sameTeethByGoing_3 ⟨hc_11, hs_12⟩) hP hS (fun E9 q9 X9 H locs hw hcl hP hS => ?_) (fun r_6 X_7 H locs hw hP hS => ?_)
  · exact h_out hout hlocks hcl hP hS ⟨hc_11, hs_12⟩ hw
  obtain ⟨a_13, e_14, hw⟩ := hw
  subst e_14
  rw [va_rf_some]
  obtain ⟨fs_15, v_16, hx_17, hv_18, hw⟩ := hw
  refine x_getN hF hC hP in_X5 rfl 1 (by decide) q864 (fun _ z => z) hx_17 hv_18 dX1_sameTeethByGoing_6 ?_
  refine lv_istore_n (lv' := [(2, .int v_16), (0, .ref p0), (1, .int p1)]) hF.1 hF.2.1 dX1_sameTeethByGoing_9 rfl hl (by decide) rfl (fun ls hl => ?_)
  refine lv_aload_n hF.1 hF.2.1 dX1_sameTeethByGoing_10 rfl (lv_at hl 1 rfl) ?_
  refine lv_iload_n hF.1 hF.2.1 dX1_sameTeethByGoing_11 rfl (lv_at hl 2 rfl) ?_
  refine lv_iconst (v := 0) hF.1 hF.2.1 dX1_sameTeethByGoing_12 (by decide) ?_
  obtain ⟨ho_21, hw⟩ := hw
  obtain ⟨mc_22, ms_23, hc_24, hs_25, hw⟩ := hw
  refine hkx_q (hrx_V (As := [.int p1, .int 0]) (rest := []) (T := TX1) (N := 4) (ci := 1) hF hl.1 hC hP hS (metX1_ofPair l hlt K mc_22 ms_23 _ _ _ X_7 p0 p1 0) rfl (cwV 2 hF.2.2.2.2 (lw_V q1236 q1238 qs13 q75 q1239) rfl rfl rfl (by decide +kernel) ⟨Nat.le_of_ble_eq_true rfl, Nat.le_of_ble_eq_true rfl⟩) ho_21 hw rfl rfl (Nat.le_of_ble_eq_true rfl) dX1_sameTeethByGoing_13 ⟨hc_24, hs_25⟩) hP hS (fun E9 q9 X9 H locs hw hcl hP hS => ?_) (fun r_19 X_20 H locs hw hP hS => ?_)
  · exact h_out hout hlocks hcl hP hS ⟨hc_24, hs_25⟩ hw
  obtain ⟨a_26, e_27, hw⟩ := hw
  subst e_27
  rw [va_rf_some]
  obtain ⟨fs_28, v_29, hx_30, hv_31, hw⟩ := hw
  refine x_getN hF hC hP in_X5 rfl 1 (by decide) q864 (fun _ z => z) hx_30 hv_31 dX1_sameTeethByGoing_16 ?_
  refine lv_istore_n (lv' := [(3, .int v_29), (2, .int v_16), (0, .ref p0), (1, .int p1)]) hF.1 hF.2.1 dX1_sameTeethByGoing_19 rfl hl (by decide) rfl (fun ls hl => ?_)
  refine lv_iconst (v := 0) hF.1 hF.2.1 dX1_sameTeethByGoing_20 (by decide) ?_
  refine lv_istore (lv' := [(4, .int 0), (3, .int v_29), (2, .int v_16), (0, .ref p0), (1, .int p1)]) hF.1 hF.2.1 dX1_sameTeethByGoing_21 hl (by decide) rfl (fun ls hl => ?_)
  refine lv_iconst (v := 0) hF.1 hF.2.1 dX1_sameTeethByGoing_23 (by decide) ?_
  refine lv_istore (lv' := [(5, .int 0), (4, .int 0), (3, .int v_29), (2, .int v_16), (0, .ref p0), (1, .int p1)]) hF.1 hF.2.1 dX1_sameTeethByGoing_24 hl (by decide) rfl (fun ls hl => ?_)
  refine lv_iconst (v := 0) hF.1 hF.2.1 dX1_sameTeethByGoing_26 (by decide) ?_
  refine lv_istore (lv' := [(6, .int 0), (5, .int 0), (4, .int 0), (3, .int v_29), (2, .int v_16), (0, .ref p0), (1, .int p1)]) hF.1 hF.2.1 dX1_sameTeethByGoing_27 hl (by decide) rfl (fun ls hl => ?_)
  obtain ⟨fu, hw⟩ := hw
  exact T29 fu v_16 v_29 0 0 0 X_20 ((0 + mc_9) + mc_22) ((0 + ms_10) + ms_23) _ _ ls hP hS ⟨hc_24, hs_25⟩ (lv_sub hl [4, 3, 2, 1, 0] rfl) hw
def wpX1_isEven (post : Int32 → hX → Prop) (xpost : String → Nat → hX → Prop) (E : Nat) (mc ms : Nat) (X : hX) (p0 : Nat) (p1 : Int32) : Prop := isO X p0 1 ((∃ mc_4 ms_5 : Nat, 0 + mc_4 ≤ mc ∧ 0 + ms_5 ≤ ms ∧ wpX1_ofPair (fun r_1 X_2 => (∃ a_8 : Nat, r_1 = some a_8 ∧ gfI X_2 a_8 5 1 (fun v_11 => isO X_2 p0 1 ((∃ mc_17 ms_18 : Nat, (0 + mc_4) + mc_17 ≤ mc ∧ (0 + ms_5) + ms_18 ≤ ms ∧ wpX1_ofPair (fun r_14 X_15 => (∃ a_21 : Nat, r_14 = some a_21 ∧ gfI X_15 a_21 5 1 (fun v_24 => wpX1_divisor (fun r_27 => ((r_27 = 1 → post 1 X_15) ∧ (¬ r_27 = 1 → post 0 X_15))) (Int32.toInt64 v_11) (Int32.toInt64 v_24)))) xpost E mc_17 ms_18 X_2 p0 p1 0))))) xpost E mc_4 ms_5 X p0 p1 1))
abbrev wsX1_isEven : List Cond := ws_ yX1_isEven cX1_isEven 2 (some .boolean)
set_option maxHeartbeats 8000000 in
theorem metX1_isEven (l : Launch) (hlt : l.stackTraces = false) (K : HK) (mc ms : Nat) (sz : Nat) (post : Int32 → hX → Prop) (xpost : String → Nat → hX → Prop) (X0 : hX) (p0 : Nat) (p1 : Int32) : vx_Met l yX1_isEven wsX1_isEven (rmh 8 137 mc ms) (hPc K X0 sz [.ref p0, .int p1] (wpX1_isEven post xpost (K.2.2 0) mc ms X0 p0 p1)) (hQi post K X0 sz) (hXC xpost K X0 sz) mc ms (hA X0 sz) := by
  refine vx_ofW (cc := cX1_isEven) (maxL := 2) (ret := (some .boolean)) (by decide) rfl ?_
  intro p e s m args below meth c s₁ B hml hno hv
  obtain ⟨rfl, hv⟩ := hv
  obtain ⟨hC, hP, hw⟩ := HC.of hv
  have hsz : s.heap.size = sz := hv.1
  subst hsz
  clear hv
  have hout : ∀ {pc : Nat}, ∀ x ∈ c.exceptionTable.toList, covers x pc = false := fun x hx => (hno x hx).elim
  have hr := B.returns
  have hts := atoms_spec (ws := wsX1_isEven) B.pre
  have hts : ∀ w ∈ lw_all, w.before _ s = true := fun w h => hts w (List.mem_cons_of_mem _ h)
  have hF : CallFix p m c cX1_isEven 2 s ([.ref p0, .int p1] : List Value).toArray lw_all RX1 := ⟨B.exec, B.bytes, hml, findClass_of_methodNamed B.named, hts⟩
  have hlocks := B.notSynchronized
  have hl := lv_entry ([.ref p0, .int p1]) (n := 2) (Nat.le_of_ble_eq_true rfl)
  rw [lg_entry_eq]
  generalize (lg_sl ([.ref p0, .int p1]) ++ List.replicate (2 - (lg_sl ([.ref p0, .int p1])).length) Slot.unset).toArray = ls at hl ⊢
  have hl : lv_has ls 2 [(0, .ref p0), (1, .int p1)] := hl
  have hS : va_S (hA X0 s.heap.size) s.heap s.heap [] := va_S.rf
  unfold wpX1_isEven at hw
  show W p l e (rmh 8 137 mc ms) s m _ below meth c _ _ _ _ _ _
  refine lv_aload_n hF.1 hF.2.1 dX1_isEven_0 rfl (lv_at hl 0 rfl) ?_
  refine lv_iload_n hF.1 hF.2.1 dX1_isEven_1 rfl (lv_at hl 1 rfl) ?_
  refine lv_iconst (v := 1) hF.1 hF.2.1 dX1_isEven_2 (by decide) ?_
  obtain ⟨ho_3, hw⟩ := hw
  obtain ⟨mc_4, ms_5, hc_6, hs_7, hw⟩ := hw
  refine hkx_q (hrx_V (As := [.int p1, .int 1]) (rest := []) (T := TX1) (N := 4) (ci := 1) hF hl.1 hC hP hS (metX1_ofPair l hlt K mc_4 ms_5 _ _ _ X0 p0 p1 1) rfl (cwV 2 hF.2.2.2.2 (lw_V q1236 q1238 qs13 q75 q1239) rfl rfl rfl (by decide +kernel) ⟨Nat.le_of_ble_eq_true rfl, Nat.le_of_ble_eq_true rfl⟩) ho_3 hw rfl rfl (Nat.le_of_ble_eq_true rfl) dX1_isEven_3 ⟨hc_6, hs_7⟩) hP hS (fun E9 q9 X9 H locs hw hcl hP hS => ?_) (fun r_1 X_2 H locs hw hP hS => ?_)
  · exact h_out hout hlocks hcl hP hS ⟨hc_6, hs_7⟩ hw
  obtain ⟨a_8, e_9, hw⟩ := hw
  subst e_9
  rw [va_rf_some]
  obtain ⟨fs_10, v_11, hx_12, hv_13, hw⟩ := hw
  refine x_getN hF hC hP in_X5 rfl 1 (by decide) q864 (fun _ z => z) hx_12 hv_13 dX1_isEven_6 ?_
  refine lv_i2l hF.1 hF.2.1 dX1_isEven_9 rfl ?_
  refine lv_aload_n hF.1 hF.2.1 dX1_isEven_10 rfl (lv_at hl 0 rfl) ?_
  refine lv_iload_n hF.1 hF.2.1 dX1_isEven_11 rfl (lv_at hl 1 rfl) ?_
  refine lv_iconst (v := 0) hF.1 hF.2.1 dX1_isEven_12 (by decide) ?_
  obtain ⟨ho_16, hw⟩ := hw
  obtain ⟨mc_17, ms_18, hc_19, hs_20, hw⟩ := hw
  refine hkx_q (hrx_V (As := [.int p1, .int 0]) (rest := [.long (Int32.toInt64 v_11)]) (T := TX1) (N := 4) (ci := 1) hF hl.1 hC hP hS (metX1_ofPair l hlt K mc_17 ms_18 _ _ _ X_2 p0 p1 0) rfl (cwV 2 hF.2.2.2.2 (lw_V q1236 q1238 qs13 q75 q1239) rfl rfl rfl (by decide +kernel) ⟨Nat.le_of_ble_eq_true rfl, Nat.le_of_ble_eq_true rfl⟩) ho_16 hw rfl rfl (Nat.le_of_ble_eq_true rfl) dX1_isEven_13 ⟨hc_19, hs_20⟩) hP hS (fun E9 q9 X9 H locs hw hcl hP hS => ?_) (fun r_14 X_15 H locs hw hP hS => ?_)
  · exact h_out hout hlocks hcl hP hS ⟨hc_19, hs_20⟩ hw
  obtain ⟨a_21, e_22, hw⟩ := hw
  subst e_22
  rw [va_rf_some]
  obtain ⟨fs_23, v_24, hx_25, hv_26, hw⟩ := hw
  refine x_getN hF hC hP in_X5 rfl 1 (by decide) q864 (fun _ z => z) hx_25 hv_26 dX1_isEven_16 ?_
  refine lv_i2l hF.1 hF.2.1 dX1_isEven_19 rfl ?_
  refine hp_l (hrp_S (As := [.long (Int32.toInt64 v_11), .long (Int32.toInt64 v_24)]) (rest := []) hF hl.1 (metX1_divisor l _ (Int32.toInt64 v_11) (Int32.toInt64 v_24)) (va_cwS 2 hF.2.2.2.2 (lw_S q1240 q366 q75 q367) rfl rfl rfl (by decide +kernel) ⟨Nat.le_of_ble_eq_true rfl, Nat.le_of_ble_eq_true rfl⟩) hw rfl rfl (Nat.le_of_ble_eq_true rfl) dX1_isEven_20 ⟨hc_19, hs_20⟩) (fun r_27 hw => ?_)
  refine lv_lconst (v := 1) hF.1 hF.2.1 dX1_isEven_23 (by decide) ?_
  refine W.lcmp hF.1 hF.2.1 dX1_isEven_24 ?_
  refine lv_if_ne (tgt := 32) hF.1 hF.2.1 dX1_isEven_25 (by decide) (fun c_28 => ?_) (fun c_28 => ?_)
  · rw [lc_eq] at c_28
    have hw := hw.2 c_28
    refine lv_iconst (v := 0) hF.1 hF.2.1 dX1_isEven_32 (by decide) ?_
    exact vx_ret (h_zret hF hr hlocks hP hS ⟨hc_19, hs_20⟩ dX1_isEven_33 (Or.inl rfl) hw)
  · rw [lc_eq] at c_28
    have hw := hw.1 c_28
    refine lv_iconst (v := 1) hF.1 hF.2.1 dX1_isEven_28 (by decide) ?_
    refine lv_goto (tgt := 33) hF.1 hF.2.1 dX1_isEven_29 (by decide) ?_
    exact vx_ret (h_zret hF hr hlocks hP hS ⟨hc_19, hs_20⟩ dX1_isEven_33 (Or.inr rfl) hw)
def wpX1_teethGone (post : Int64 → hX → Prop) (xpost : String → Nat → hX → Prop) (E : Nat) (mc ms : Nat) (X : hX) (p0 : Nat) (p1 : Int32) : Prop := isO X p0 1 ((∃ mc_4 ms_5 : Nat, 0 + mc_4 ≤ mc ∧ 0 + ms_5 ≤ ms ∧ wpX1_wheelAt (fun r_1 X_2 => (∃ a_8 : Nat, r_1 = some a_8 ∧ gfI X_2 a_8 5 0 (fun v_11 => isO X_2 p0 1 ((∃ mc_17 ms_18 : Nat, (0 + mc_4) + mc_17 ≤ mc ∧ (0 + ms_5) + ms_18 ≤ ms ∧ wpX1_driving (fun r_14 X_15 => (∃ a_21 : Nat, r_14 = some a_21 ∧ gfA X_15 p0 1 0 (fun v_24 => gfI X_15 v_24 2 7 (fun v_28 => gfA X_15 a_21 3 0 (fun v_32 => gfI X_15 a_8 5 0 (fun v_36 => alJ X_15 v_32 v_36 (fun v_43 => wpJ11_abs (fun r_44 => gfI X_15 a_8 5 1 (fun v_46 => gfA X_15 a_21 3 1 (fun v_50 => gfI X_15 a_8 5 0 (fun v_54 => alJ X_15 v_50 v_54 (fun v_61 => (¬ v_61 = 0 ∧ post ((((Int32.toInt64 v_28) * r_44) * (Int32.toInt64 v_46)) / v_61) X_15)))))) v_43))))))) xpost E mc_17 ms_18 X_2 p0 v_11))))) xpost E mc_4 ms_5 X p0 p1))
abbrev wsX1_teethGone : List Cond := ws_ yX1_teethGone cX1_teethGone 4 (some .long)
set_option maxHeartbeats 8000000 in
theorem metX1_teethGone (l : Launch) (hlt : l.stackTraces = false) (K : HK) (mc ms : Nat) (sz : Nat) (post : Int64 → hX → Prop) (xpost : String → Nat → hX → Prop) (X0 : hX) (p0 : Nat) (p1 : Int32) : vx_Met l yX1_teethGone wsX1_teethGone (rmh 8 145 mc ms) (hPc K X0 sz [.ref p0, .int p1] (wpX1_teethGone post xpost (K.2.2 0) mc ms X0 p0 p1)) (hQl post K X0 sz) (hXC xpost K X0 sz) mc ms (hA X0 sz) := by
  refine vx_ofW (cc := cX1_teethGone) (maxL := 4) (ret := (some .long)) (by decide) rfl ?_
  intro p e s m args below meth c s₁ B hml hno hv
  obtain ⟨rfl, hv⟩ := hv
  obtain ⟨hC, hP, hw⟩ := HC.of hv
  have hsz : s.heap.size = sz := hv.1
  subst hsz
  clear hv
  have hout : ∀ {pc : Nat}, ∀ x ∈ c.exceptionTable.toList, covers x pc = false := fun x hx => (hno x hx).elim
  have hr := B.returns
  have hts := atoms_spec (ws := wsX1_teethGone) B.pre
  have hts : ∀ w ∈ lw_all, w.before _ s = true := fun w h => hts w (List.mem_cons_of_mem _ h)
  have hF : CallFix p m c cX1_teethGone 4 s ([.ref p0, .int p1] : List Value).toArray lw_all RX1 := ⟨B.exec, B.bytes, hml, findClass_of_methodNamed B.named, hts⟩
  have hlocks := B.notSynchronized
  have hl := lv_entry ([.ref p0, .int p1]) (n := 4) (Nat.le_of_ble_eq_true rfl)
  rw [lg_entry_eq]
  generalize (lg_sl ([.ref p0, .int p1]) ++ List.replicate (4 - (lg_sl ([.ref p0, .int p1])).length) Slot.unset).toArray = ls at hl ⊢
  have hl : lv_has ls 4 [(0, .ref p0), (1, .int p1)] := hl
  have hS : va_S (hA X0 s.heap.size) s.heap s.heap [] := va_S.rf
  unfold wpX1_teethGone at hw
  show W p l e (rmh 8 145 mc ms) s m _ below meth c _ _ _ _ _ _
  refine lv_aload_n hF.1 hF.2.1 dX1_teethGone_0 rfl (lv_at hl 0 rfl) ?_
  refine lv_iload_n hF.1 hF.2.1 dX1_teethGone_1 rfl (lv_at hl 1 rfl) ?_
  obtain ⟨ho_3, hw⟩ := hw
  obtain ⟨mc_4, ms_5, hc_6, hs_7, hw⟩ := hw
  refine hkx_q (hrx_V (As := [.int p1]) (rest := []) (T := TX1) (N := 4) (ci := 1) hF hl.1 hC hP hS (metX1_wheelAt l hlt K mc_4 ms_5 _ _ _ X0 p0 p1) rfl (cwV 1 hF.2.2.2.2 (lw_V q1135 q1137 qs11 q75 q1138) rfl rfl rfl (by decide +kernel) ⟨Nat.le_of_ble_eq_true rfl, Nat.le_of_ble_eq_true rfl⟩) ho_3 hw rfl rfl (Nat.le_of_ble_eq_true rfl) dX1_teethGone_2 ⟨hc_6, hs_7⟩) hP hS (fun E9 q9 X9 H locs hw hcl hP hS => ?_) (fun r_1 X_2 H locs hw hP hS => ?_)
  · exact h_out hout hlocks hcl hP hS ⟨hc_6, hs_7⟩ hw
  obtain ⟨a_8, e_9, hw⟩ := hw
  subst e_9
  rw [va_rf_some]
  refine lv_astore_n (lv' := [(2, .ref a_8), (0, .ref p0), (1, .int p1)]) hF.1 hF.2.1 dX1_teethGone_5 rfl hl (by decide) rfl (fun ls hl => ?_)
  refine lv_aload_n hF.1 hF.2.1 dX1_teethGone_6 rfl (lv_at hl 1 rfl) ?_
  refine lv_aload_n hF.1 hF.2.1 dX1_teethGone_7 rfl (lv_at hl 0 rfl) ?_
  obtain ⟨fs_10, v_11, hx_12, hv_13, hw⟩ := hw
  refine x_getN hF hC hP in_X5 rfl 0 (by decide) q860 (fun _ z => z) hx_12 hv_13 dX1_teethGone_8 ?_
  obtain ⟨ho_16, hw⟩ := hw
  obtain ⟨mc_17, ms_18, hc_19, hs_20, hw⟩ := hw
  refine hkx_q (hrx_V (As := [.int v_11]) (rest := []) (T := TX1) (N := 4) (ci := 1) hF hl.1 hC hP hS (metX1_driving l hlt K mc_17 ms_18 _ _ _ X_2 p0 v_11) rfl (cwV 1 hF.2.2.2.2 (lw_V q1176 q1178 qs12 q75 q1179) rfl rfl rfl (by decide +kernel) ⟨Nat.le_of_ble_eq_true rfl, Nat.le_of_ble_eq_true rfl⟩) ho_16 hw rfl rfl (Nat.le_of_ble_eq_true rfl) dX1_teethGone_11 ⟨hc_19, hs_20⟩) hP hS (fun E9 q9 X9 H locs hw hcl hP hS => ?_) (fun r_14 X_15 H locs hw hP hS => ?_)
  · exact h_out hout hlocks hcl hP hS ⟨hc_19, hs_20⟩ hw
  obtain ⟨a_21, e_22, hw⟩ := hw
  subst e_22
  rw [va_rf_some]
  refine lv_astore_n (lv' := [(3, .ref a_21), (2, .ref a_8), (0, .ref p0), (1, .int p1)]) hF.1 hF.2.1 dX1_teethGone_14 rfl hl (by decide) rfl (fun ls hl => ?_)
  refine lv_aload_n hF.1 hF.2.1 dX1_teethGone_15 rfl (lv_at hl 2 rfl) ?_
  obtain ⟨fs_23, v_24, hx_25, hv_26, hw⟩ := hw
  refine x_get hF hC hP in_X1 rfl 0 (by decide) q244 (fun _ z => z) hx_25 hv_26 dX1_teethGone_16 ?_
  obtain ⟨fs_27, v_28, hx_29, hv_30, hw⟩ := hw
  refine x_getN hF hC hP in_X2 rfl 7 (by decide) q169 (fun _ z => z) hx_29 hv_30 dX1_teethGone_19 ?_
  refine lv_i2l hF.1 hF.2.1 dX1_teethGone_22 rfl ?_
  refine lv_aload_n hF.1 hF.2.1 dX1_teethGone_23 rfl (lv_at hl 0 rfl) ?_
  obtain ⟨fs_31, v_32, hx_33, hv_34, hw⟩ := hw
  refine x_getN hF hC hP in_X6 rfl 0 (by decide) q377 (fun _ z => z) hx_33 hv_34 dX1_teethGone_24 ?_
  refine lv_aload_n hF.1 hF.2.1 dX1_teethGone_27 rfl (lv_at hl 1 rfl) ?_
  obtain ⟨fs_35, v_36, hx_37, hv_38, hw⟩ := hw
  refine x_getN hF hC hP in_X5 rfl 0 (by decide) q860 (fun _ z => z) hx_37 hv_38 dX1_teethGone_28 ?_
  obtain ⟨n_39, f_40, hx_41, hi_42, hw⟩ := hw
  refine x_lald hF hC hP hx_41 hi_42 dX1_teethGone_31 ?_
  generalize f_40 (Int32.toNatClampNeg v_36) = v_43 at hw ⊢
  refine hp_l (hrp_S (As := [.long v_43]) (rest := [.long (Int32.toInt64 v_28)]) hF hl.1 (metJ11_abs l _ v_43) (va_cwS 1 hF.2.2.2.2 (lw_S q368 q369 q89 q370) rfl rfl rfl (by decide +kernel) ⟨Nat.le_of_ble_eq_true rfl, Nat.le_of_ble_eq_true rfl⟩) hw rfl rfl (Nat.le_of_ble_eq_true rfl) dX1_teethGone_32 ⟨hc_19, hs_20⟩) (fun r_44 hw => ?_)
  refine lv_lmul hF.1 hF.2.1 dX1_teethGone_35 ?_
  refine lv_aload_n hF.1 hF.2.1 dX1_teethGone_36 rfl (lv_at hl 1 rfl) ?_
  obtain ⟨fs_45, v_46, hx_47, hv_48, hw⟩ := hw
  refine x_getN hF hC hP in_X5 rfl 1 (by decide) q864 (fun _ z => z) hx_47 hv_48 dX1_teethGone_37 ?_
  refine lv_i2l hF.1 hF.2.1 dX1_teethGone_40 rfl ?_
  refine lv_lmul hF.1 hF.2.1 dX1_teethGone_41 ?_
  refine lv_aload_n hF.1 hF.2.1 dX1_teethGone_42 rfl (lv_at hl 0 rfl) ?_
  obtain ⟨fs_49, v_50, hx_51, hv_52, hw⟩ := hw
  refine x_getN hF hC hP in_X6 rfl 1 (by decide) q380 (fun _ z => z) hx_51 hv_52 dX1_teethGone_43 ?_
  refine lv_aload_n hF.1 hF.2.1 dX1_teethGone_46 rfl (lv_at hl 1 rfl) ?_
  obtain ⟨fs_53, v_54, hx_55, hv_56, hw⟩ := hw
  refine x_getN hF hC hP in_X5 rfl 0 (by decide) q860 (fun _ z => z) hx_55 hv_56 dX1_teethGone_47 ?_
  obtain ⟨n_57, f_58, hx_59, hi_60, hw⟩ := hw
  refine x_lald hF hC hP hx_59 hi_60 dX1_teethGone_50 ?_
  generalize f_58 (Int32.toNatClampNeg v_54) = v_61 at hw ⊢
  obtain ⟨h_62, hw⟩ := hw
  refine lv_ldiv hF.1 hF.2.1 dX1_teethGone_51 h_62 ?_
  exact vx_ret (h_lret hF hr hlocks hP hS ⟨hc_19, hs_20⟩ dX1_teethGone_52 hw)
def wpX1_armAt (post : Option Nat → hX → Prop) (xpost : String → Nat → hX → Prop) (E : Nat) (mc ms : Nat) (X : hX) (p0 : Nat) (p1 : Int32) : Prop := gfA X p0 1 0 (fun v_2 => isO X v_2 2 (wpX2_isArm (fun r_5 X_6 => (∃ mc_9 ms_10 : Nat, 0 + mc_9 ≤ mc ∧ 0 + ms_10 ≤ ms ∧ wpX1_needArgument (fun X_8 => gfA X_8 p0 1 0 (fun v_14 => gfA X_8 v_14 2 1 (fun v_18 => isO X_8 v_18 8 (wpJ2_get (fun r_21 X_22 => (∃ a_24 : Nat, r_21 = some a_24 ∧ ((∃ fs, X_22 a_24 = some (.inr (6, fs))) ∧ post (some a_24) X_22))) E X_8 v_18 p1)))) xpost E mc_9 ms_10 X_6 r_5)) E X v_2 p1))
abbrev wsX1_armAt : List Cond := ws_ yX1_armAt cX1_armAt 2 (some (.object "ClockworkOrreries$Arm"))
set_option maxHeartbeats 8000000 in
theorem metX1_armAt (l : Launch) (hlt : l.stackTraces = false) (K : HK) (mc ms : Nat) (sz : Nat) (post : Option Nat → hX → Prop) (xpost : String → Nat → hX → Prop) (X0 : hX) (p0 : Nat) (p1 : Int32) : vx_Met l yX1_armAt wsX1_armAt (rmh 7 115 mc ms) (hPc K X0 sz [.ref p0, .int p1] (wpX1_armAt post xpost (K.2.2 0) mc ms X0 p0 p1)) (hQq post K X0 sz) (hXC xpost K X0 sz) mc ms (hA X0 sz) := by
  refine vx_ofW (cc := cX1_armAt) (maxL := 2) (ret := (some (.object "ClockworkOrreries$Arm"))) (by decide) rfl ?_
  intro p e s m args below meth c s₁ B hml hno hv
  obtain ⟨rfl, hv⟩ := hv
  obtain ⟨hC, hP, hw⟩ := HC.of hv
  have hsz : s.heap.size = sz := hv.1
  subst hsz
  clear hv
  have hout : ∀ {pc : Nat}, ∀ x ∈ c.exceptionTable.toList, covers x pc = false := fun x hx => (hno x hx).elim
  have hr := B.returns
  have hts := atoms_spec (ws := wsX1_armAt) B.pre
  have hts : ∀ w ∈ lw_all, w.before _ s = true := fun w h => hts w (List.mem_cons_of_mem _ h)
  have hF : CallFix p m c cX1_armAt 2 s ([.ref p0, .int p1] : List Value).toArray lw_all RX1 := ⟨B.exec, B.bytes, hml, findClass_of_methodNamed B.named, hts⟩
  have hlocks := B.notSynchronized
  have hl := lv_entry ([.ref p0, .int p1]) (n := 2) (Nat.le_of_ble_eq_true rfl)
  rw [lg_entry_eq]
  generalize (lg_sl ([.ref p0, .int p1]) ++ List.replicate (2 - (lg_sl ([.ref p0, .int p1])).length) Slot.unset).toArray = ls at hl ⊢
  have hl : lv_has ls 2 [(0, .ref p0), (1, .int p1)] := hl
  have hS : va_S (hA X0 s.heap.size) s.heap s.heap [] := va_S.rf
  unfold wpX1_armAt at hw
  show W p l e (rmh 7 115 mc ms) s m _ below meth c _ _ _ _ _ _
  refine lv_aload_n hF.1 hF.2.1 dX1_armAt_0 rfl (lv_at hl 0 rfl) ?_
  obtain ⟨fs_1, v_2, hx_3, hv_4, hw⟩ := hw
  refine x_get hF hC hP in_X1 rfl 0 (by decide) q244 (fun _ z => z) hx_3 hv_4 dX1_armAt_1 ?_
  refine lv_iload_n hF.1 hF.2.1 dX1_armAt_4 rfl (lv_at hl 1 rfl) ?_
  obtain ⟨ho_7, hw⟩ := hw
  refine hk_i (hr_V (As := [.int p1]) (rest := []) (T := TX2) (N := 9) (ci := 2) hF hl.1 hC hP hS (metX2_isArm l K _ _ X0 v_2 p1) rfl (cwV 1 hF.2.2.2.2 (lw_V q1273 q941 q942 q76 q943) rfl rfl rfl (by decide +kernel) ⟨Nat.le_of_ble_eq_true rfl, Nat.le_of_ble_eq_true rfl⟩) ho_7 hw rfl rfl (Nat.le_of_ble_eq_true rfl) dX1_armAt_5 ⟨Nat.zero_le _, Nat.zero_le _⟩) hP hS (fun r_5 X_6 H locs hw hP hS => ?_)
  obtain ⟨mc_9, ms_10, hc_11, hs_12, hw⟩ := hw
  refine hkx_v (hrx_S (As := [.int r_5]) (rest := []) hF hl.1 hC hP hS (metX1_needArgument l hlt K mc_9 ms_10 _ _ _ X_6 r_5) (va_cwS 1 hF.2.2.2.2 (lw_S q1140 q1141 q75 q1142) rfl rfl rfl (by decide +kernel) ⟨Nat.le_of_ble_eq_true rfl, Nat.le_of_ble_eq_true rfl⟩) hw rfl rfl (Nat.le_of_ble_eq_true rfl) dX1_armAt_8 ⟨hc_11, hs_12⟩) hP hS (fun E9 q9 X9 H locs hw hcl hP hS => ?_) (fun X_8 H locs hw hP hS => ?_)
  · exact h_out hout hlocks hcl hP hS ⟨hc_11, hs_12⟩ hw
  refine lv_aload_n hF.1 hF.2.1 dX1_armAt_11 rfl (lv_at hl 0 rfl) ?_
  obtain ⟨fs_13, v_14, hx_15, hv_16, hw⟩ := hw
  refine x_get hF hC hP in_X1 rfl 0 (by decide) q244 (fun _ z => z) hx_15 hv_16 dX1_armAt_12 ?_
  obtain ⟨fs_17, v_18, hx_19, hv_20, hw⟩ := hw
  refine x_getN hF hC hP in_X2 rfl 1 (by decide) q154 (fun _ z => z) hx_19 hv_20 dX1_armAt_15 ?_
  refine lv_iload_n hF.1 hF.2.1 dX1_armAt_18 rfl (lv_at hl 1 rfl) ?_
  obtain ⟨ho_23, hw⟩ := hw
  refine hk_q (hr_V (As := [.int p1]) (rest := []) (T := TJ2) (N := 3) (ci := 8) hF hl.1 hC hP hS (metJ2_get l K _ _ X_8 v_18 p1) rfl (cwV 1 hF.2.2.2.2 (lw_V q419 q347 q348 q79 q349) rfl rfl rfl (by decide +kernel) ⟨Nat.le_of_ble_eq_true rfl, Nat.le_of_ble_eq_true rfl⟩) ho_23 hw rfl rfl (Nat.le_of_ble_eq_true rfl) dX1_armAt_19 ⟨hc_11, hs_12⟩) hP hS (fun r_21 X_22 H locs hw hP hS => ?_)
  obtain ⟨a_24, e_25, hw⟩ := hw
  subst e_25
  rw [va_rf_some]
  obtain ⟨h_26, hw⟩ := hw
  refine x_cast (T := TX7) (N := 3) (ci := 6) hF hC hP rfl q1274 h_26 dX1_armAt_22 ?_
  exact vx_ret (h_aret (r := (some a_24)) hF hr (Or.inl ⟨_, rfl⟩) hlocks hP hS ⟨hc_11, hs_12⟩ dX1_armAt_25 hw)
def wpX1_bendOf (post : Int32 → hX → Prop) (xpost : String → Nat → hX → Prop) (E : Nat) (mc ms : Nat) (X : hX) (p0 : Nat) (p1 : Int32) : Prop := isO X p0 1 ((∃ mc_4 ms_5 : Nat, 0 + mc_4 ≤ mc ∧ 0 + ms_5 ≤ ms ∧ wpX1_armAt (fun r_1 X_2 => (∃ a_8 : Nat, r_1 = some a_8 ∧ gfI X_2 a_8 6 1 (fun v_11 => post v_11 X_2))) xpost E mc_4 ms_5 X p0 p1))
abbrev wsX1_bendOf : List Cond := ws_ yX1_bendOf cX1_bendOf 2 (some .int)
set_option maxHeartbeats 8000000 in
theorem metX1_bendOf (l : Launch) (hlt : l.stackTraces = false) (K : HK) (mc ms : Nat) (sz : Nat) (post : Int32 → hX → Prop) (xpost : String → Nat → hX → Prop) (X0 : hX) (p0 : Nat) (p1 : Int32) : vx_Met l yX1_bendOf wsX1_bendOf (rmh 8 136 mc ms) (hPc K X0 sz [.ref p0, .int p1] (wpX1_bendOf post xpost (K.2.2 0) mc ms X0 p0 p1)) (hQi post K X0 sz) (hXC xpost K X0 sz) mc ms (hA X0 sz) := by
  refine vx_ofW (cc := cX1_bendOf) (maxL := 2) (ret := (some .int)) (by decide) rfl ?_
  intro p e s m args below meth c s₁ B hml hno hv
  obtain ⟨rfl, hv⟩ := hv
  obtain ⟨hC, hP, hw⟩ := HC.of hv
  have hsz : s.heap.size = sz := hv.1
  subst hsz
  clear hv
  have hout : ∀ {pc : Nat}, ∀ x ∈ c.exceptionTable.toList, covers x pc = false := fun x hx => (hno x hx).elim
  have hr := B.returns
  have hts := atoms_spec (ws := wsX1_bendOf) B.pre
  have hts : ∀ w ∈ lw_all, w.before _ s = true := fun w h => hts w (List.mem_cons_of_mem _ h)
  have hF : CallFix p m c cX1_bendOf 2 s ([.ref p0, .int p1] : List Value).toArray lw_all RX1 := ⟨B.exec, B.bytes, hml, findClass_of_methodNamed B.named, hts⟩
  have hlocks := B.notSynchronized
  have hl := lv_entry ([.ref p0, .int p1]) (n := 2) (Nat.le_of_ble_eq_true rfl)
  rw [lg_entry_eq]
  generalize (lg_sl ([.ref p0, .int p1]) ++ List.replicate (2 - (lg_sl ([.ref p0, .int p1])).length) Slot.unset).toArray = ls at hl ⊢
  have hl : lv_has ls 2 [(0, .ref p0), (1, .int p1)] := hl
  have hS : va_S (hA X0 s.heap.size) s.heap s.heap [] := va_S.rf
  unfold wpX1_bendOf at hw
  show W p l e (rmh 8 136 mc ms) s m _ below meth c _ _ _ _ _ _
  refine lv_aload_n hF.1 hF.2.1 dX1_bendOf_0 rfl (lv_at hl 0 rfl) ?_
  refine lv_iload_n hF.1 hF.2.1 dX1_bendOf_1 rfl (lv_at hl 1 rfl) ?_
  obtain ⟨ho_3, hw⟩ := hw
  obtain ⟨mc_4, ms_5, hc_6, hs_7, hw⟩ := hw
  refine hkx_q (hrx_V (As := [.int p1]) (rest := []) (T := TX1) (N := 4) (ci := 1) hF hl.1 hC hP hS (metX1_armAt l hlt K mc_4 ms_5 _ _ _ X0 p0 p1) rfl (cwV 1 hF.2.2.2.2 (lw_V q1269 q1271 qs14 q75 q1272) rfl rfl rfl (by decide +kernel) ⟨Nat.le_of_ble_eq_true rfl, Nat.le_of_ble_eq_true rfl⟩) ho_3 hw rfl rfl (Nat.le_of_ble_eq_true rfl) dX1_bendOf_2 ⟨hc_6, hs_7⟩) hP hS (fun E9 q9 X9 H locs hw hcl hP hS => ?_) (fun r_1 X_2 H locs hw hP hS => ?_)
  · exact h_out hout hlocks hcl hP hS ⟨hc_6, hs_7⟩ hw
  obtain ⟨a_8, e_9, hw⟩ := hw
  subst e_9
  rw [va_rf_some]
  obtain ⟨fs_10, v_11, hx_12, hv_13, hw⟩ := hw
  refine x_getN hF hC hP in_X7 rfl 1 (by decide) q925 (fun _ z => z) hx_12 hv_13 dX1_bendOf_5 ?_
  exact vx_ret (h_iret hF hr hlocks hP hS ⟨hc_6, hs_7⟩ dX1_bendOf_8 hw)
def wpX1_angleOf (post : Int32 → hX → Prop) (xpost : String → Nat → hX → Prop) (E : Nat) (mc ms : Nat) (X : hX) (p0 : Nat) (p1 : Int32) : Prop := gfA X p0 1 0 (fun v_2 => isO X p0 1 ((∃ mc_8 ms_9 : Nat, 0 + mc_8 ≤ mc ∧ 0 + ms_9 ≤ ms ∧ wpX1_armAt (fun r_5 X_6 => (∃ a_12 : Nat, r_5 = some a_12 ∧ gfI X_6 a_12 6 0 (fun v_15 => isO X_6 p0 1 ((∃ mc_21 ms_22 : Nat, (0 + mc_8) + mc_21 ≤ mc ∧ (0 + ms_9) + ms_22 ≤ ms ∧ wpX1_driving (fun r_18 X_19 => (∃ a_25 : Nat, r_18 = some a_25 ∧ gfA X_19 p0 1 0 (fun v_28 => gfI X_19 v_28 2 7 (fun v_32 => isO X_19 v_2 2 (wpX2_armAngle (fun r_35 X_36 => post r_35 X_36) E X_19 v_2 p1 a_25 v_32))))) xpost E mc_21 ms_22 X_6 p0 v_15))))) xpost E mc_8 ms_9 X p0 p1)))
abbrev wsX1_angleOf : List Cond := ws_ yX1_angleOf cX1_angleOf 2 (some .int)
set_option maxHeartbeats 8000000 in
theorem metX1_angleOf (l : Launch) (hlt : l.stackTraces = false) (K : HK) (mc ms : Nat) (sz : Nat) (post : Int32 → hX → Prop) (xpost : String → Nat → hX → Prop) (X0 : hX) (p0 : Nat) (p1 : Int32) : vx_Met l yX1_angleOf wsX1_angleOf (rmh 8 145 mc ms) (hPc K X0 sz [.ref p0, .int p1] (wpX1_angleOf post xpost (K.2.2 0) mc ms X0 p0 p1)) (hQi post K X0 sz) (hXC xpost K X0 sz) mc ms (hA X0 sz) := by
  refine vx_ofW (cc := cX1_angleOf) (maxL := 2) (ret := (some .int)) (by decide) rfl ?_
  intro p e s m args below meth c s₁ B hml hno hv
  obtain ⟨rfl, hv⟩ := hv
  obtain ⟨hC, hP, hw⟩ := HC.of hv
  have hsz : s.heap.size = sz := hv.1
  subst hsz
  clear hv
  have hout : ∀ {pc : Nat}, ∀ x ∈ c.exceptionTable.toList, covers x pc = false := fun x hx => (hno x hx).elim
  have hr := B.returns
  have hts := atoms_spec (ws := wsX1_angleOf) B.pre
  have hts : ∀ w ∈ lw_all, w.before _ s = true := fun w h => hts w (List.mem_cons_of_mem _ h)
  have hF : CallFix p m c cX1_angleOf 2 s ([.ref p0, .int p1] : List Value).toArray lw_all RX1 := ⟨B.exec, B.bytes, hml, findClass_of_methodNamed B.named, hts⟩
  have hlocks := B.notSynchronized
  have hl := lv_entry ([.ref p0, .int p1]) (n := 2) (Nat.le_of_ble_eq_true rfl)
  rw [lg_entry_eq]
  generalize (lg_sl ([.ref p0, .int p1]) ++ List.replicate (2 - (lg_sl ([.ref p0, .int p1])).length) Slot.unset).toArray = ls at hl ⊢
  have hl : lv_has ls 2 [(0, .ref p0), (1, .int p1)] := hl
  have hS : va_S (hA X0 s.heap.size) s.heap s.heap [] := va_S.rf
  unfold wpX1_angleOf at hw
  show W p l e (rmh 8 145 mc ms) s m _ below meth c _ _ _ _ _ _
  refine lv_aload_n hF.1 hF.2.1 dX1_angleOf_0 rfl (lv_at hl 0 rfl) ?_
  obtain ⟨fs_1, v_2, hx_3, hv_4, hw⟩ := hw
  refine x_get hF hC hP in_X1 rfl 0 (by decide) q244 (fun _ z => z) hx_3 hv_4 dX1_angleOf_1 ?_
  refine lv_iload_n hF.1 hF.2.1 dX1_angleOf_4 rfl (lv_at hl 1 rfl) ?_
  refine lv_aload_n hF.1 hF.2.1 dX1_angleOf_5 rfl (lv_at hl 0 rfl) ?_
  refine lv_aload_n hF.1 hF.2.1 dX1_angleOf_6 rfl (lv_at hl 0 rfl) ?_
  refine lv_iload_n hF.1 hF.2.1 dX1_angleOf_7 rfl (lv_at hl 1 rfl) ?_
  obtain ⟨ho_7, hw⟩ := hw
  obtain ⟨mc_8, ms_9, hc_10, hs_11, hw⟩ := hw
  refine hkx_q (hrx_V (As := [.int p1]) (rest := [.ref p0, .int p1, .ref v_2]) (T := TX1) (N := 4) (ci := 1) hF hl.1 hC hP hS (metX1_armAt l hlt K mc_8 ms_9 _ _ _ X0 p0 p1) rfl (cwV 1 hF.2.2.2.2 (lw_V q1269 q1271 qs14 q75 q1272) rfl rfl rfl (by decide +kernel) ⟨Nat.le_of_ble_eq_true rfl, Nat.le_of_ble_eq_true rfl⟩) ho_7 hw rfl rfl (Nat.le_of_ble_eq_true rfl) dX1_angleOf_8 ⟨hc_10, hs_11⟩) hP hS (fun E9 q9 X9 H locs hw hcl hP hS => ?_) (fun r_5 X_6 H locs hw hP hS => ?_)
  · exact h_out hout hlocks hcl hP hS ⟨hc_10, hs_11⟩ hw
  obtain ⟨a_12, e_13, hw⟩ := hw
  subst e_13
  rw [va_rf_some]
  obtain ⟨fs_14, v_15, hx_16, hv_17, hw⟩ := hw
  refine x_getN hF hC hP in_X7 rfl 0 (by decide) q922 (fun _ z => z) hx_16 hv_17 dX1_angleOf_11 ?_
  obtain ⟨ho_20, hw⟩ := hw
  obtain ⟨mc_21, ms_22, hc_23, hs_24, hw⟩ := hw
  refine hkx_q (hrx_V (As := [.int v_15]) (rest := [.int p1, .ref v_2]) (T := TX1) (N := 4) (ci := 1) hF hl.1 hC hP hS (metX1_driving l hlt K mc_21 ms_22 _ _ _ X_6 p0 v_15) rfl (cwV 1 hF.2.2.2.2 (lw_V q1176 q1178 qs12 q75 q1179) rfl rfl rfl (by decide +kernel) ⟨Nat.le_of_ble_eq_true rfl, Nat.le_of_ble_eq_true rfl⟩) ho_20 hw rfl rfl (Nat.le_of_ble_eq_true rfl) dX1_angleOf_14 ⟨hc_23, hs_24⟩) hP hS (fun E9 q9 X9 H locs hw hcl hP hS => ?_) (fun r_18 X_19 H locs hw hP hS => ?_)
  · exact h_out hout hlocks hcl hP hS ⟨hc_23, hs_24⟩ hw
  obtain ⟨a_25, e_26, hw⟩ := hw
  subst e_26
  rw [va_rf_some]
  refine lv_aload_n hF.1 hF.2.1 dX1_angleOf_17 rfl (lv_at hl 0 rfl) ?_
  obtain ⟨fs_27, v_28, hx_29, hv_30, hw⟩ := hw
  refine x_get hF hC hP in_X1 rfl 0 (by decide) q244 (fun _ z => z) hx_29 hv_30 dX1_angleOf_18 ?_
  obtain ⟨fs_31, v_32, hx_33, hv_34, hw⟩ := hw
  refine x_getN hF hC hP in_X2 rfl 7 (by decide) q169 (fun _ z => z) hx_33 hv_34 dX1_angleOf_21 ?_
  obtain ⟨ho_37, hw⟩ := hw
  refine hk_i (hr_V (As := [.int p1, .ref a_25, .int v_32]) (rest := []) (T := TX2) (N := 9) (ci := 2) hF hl.1 hC hP hS (metX2_armAngle l K _ _ X_19 v_2 p1 a_25 v_32) rfl (cwV 3 hF.2.2.2.2 (lw_V q1282 q1283 q1284 q76 q1285) rfl rfl rfl (by decide +kernel) ⟨Nat.le_of_ble_eq_true rfl, Nat.le_of_ble_eq_true rfl⟩) ho_37 hw rfl rfl (Nat.le_of_ble_eq_true rfl) dX1_angleOf_24 ⟨hc_23, hs_24⟩) hP hS (fun r_35 X_36 H locs hw hP hS => ?_)
  exact vx_ret (h_iret hF hr hlocks hP hS ⟨hc_23, hs_24⟩ dX1_angleOf_27 hw)
def wpX1_angleByTeeth (post : Int32 → hX → Prop) (xpost : String → Nat → hX → Prop) (E : Nat) (mc ms : Nat) (X : hX) (p0 : Nat) (p1 : Int32) : Prop := gfA X p0 1 0 (fun v_2 => isO X p0 1 ((∃ mc_8 ms_9 : Nat, 0 + mc_8 ≤ mc ∧ 0 + ms_9 ≤ ms ∧ wpX1_armAt (fun r_5 X_6 => (∃ a_12 : Nat, r_5 = some a_12 ∧ gfI X_6 a_12 6 0 (fun v_15 => isO X_6 p0 1 ((∃ mc_21 ms_22 : Nat, (0 + mc_8) + mc_21 ≤ mc ∧ (0 + ms_9) + ms_22 ≤ ms ∧ wpX1_driving (fun r_18 X_19 => (∃ a_25 : Nat, r_18 = some a_25 ∧ isO X_19 v_2 2 (wpX2_armAngleByTeeth (fun r_27 X_28 => post r_27 X_28) E X_19 v_2 p1 a_25))) xpost E mc_21 ms_22 X_6 p0 v_15))))) xpost E mc_8 ms_9 X p0 p1)))
abbrev wsX1_angleByTeeth : List Cond := ws_ yX1_angleByTeeth cX1_angleByTeeth 2 (some .int)
set_option maxHeartbeats 8000000 in
theorem metX1_angleByTeeth (l : Launch) (hlt : l.stackTraces = false) (K : HK) (mc ms : Nat) (sz : Nat) (post : Int32 → hX → Prop) (xpost : String → Nat → hX → Prop) (X0 : hX) (p0 : Nat) (p1 : Int32) : vx_Met l yX1_angleByTeeth wsX1_angleByTeeth (rmh 8 145 mc ms) (hPc K X0 sz [.ref p0, .int p1] (wpX1_angleByTeeth post xpost (K.2.2 0) mc ms X0 p0 p1)) (hQi post K X0 sz) (hXC xpost K X0 sz) mc ms (hA X0 sz) := by
  refine vx_ofW (cc := cX1_angleByTeeth) (maxL := 2) (ret := (some .int)) (by decide) rfl ?_
  intro p e s m args below meth c s₁ B hml hno hv
  obtain ⟨rfl, hv⟩ := hv
  obtain ⟨hC, hP, hw⟩ := HC.of hv
  have hsz : s.heap.size = sz := hv.1
  subst hsz
  clear hv
  have hout : ∀ {pc : Nat}, ∀ x ∈ c.exceptionTable.toList, covers x pc = false := fun x hx => (hno x hx).elim
  have hr := B.returns
  have hts := atoms_spec (ws := wsX1_angleByTeeth) B.pre
  have hts : ∀ w ∈ lw_all, w.before _ s = true := fun w h => hts w (List.mem_cons_of_mem _ h)
  have hF : CallFix p m c cX1_angleByTeeth 2 s ([.ref p0, .int p1] : List Value).toArray lw_all RX1 := ⟨B.exec, B.bytes, hml, findClass_of_methodNamed B.named, hts⟩
  have hlocks := B.notSynchronized
  have hl := lv_entry ([.ref p0, .int p1]) (n := 2) (Nat.le_of_ble_eq_true rfl)
  rw [lg_entry_eq]
  generalize (lg_sl ([.ref p0, .int p1]) ++ List.replicate (2 - (lg_sl ([.ref p0, .int p1])).length) Slot.unset).toArray = ls at hl ⊢
  have hl : lv_has ls 2 [(0, .ref p0), (1, .int p1)] := hl
  have hS : va_S (hA X0 s.heap.size) s.heap s.heap [] := va_S.rf
  unfold wpX1_angleByTeeth at hw
  show W p l e (rmh 8 145 mc ms) s m _ below meth c _ _ _ _ _ _
  refine lv_aload_n hF.1 hF.2.1 dX1_angleByTeeth_0 rfl (lv_at hl 0 rfl) ?_
  obtain ⟨fs_1, v_2, hx_3, hv_4, hw⟩ := hw
  refine x_get hF hC hP in_X1 rfl 0 (by decide) q244 (fun _ z => z) hx_3 hv_4 dX1_angleByTeeth_1 ?_
  refine lv_iload_n hF.1 hF.2.1 dX1_angleByTeeth_4 rfl (lv_at hl 1 rfl) ?_
  refine lv_aload_n hF.1 hF.2.1 dX1_angleByTeeth_5 rfl (lv_at hl 0 rfl) ?_
  refine lv_aload_n hF.1 hF.2.1 dX1_angleByTeeth_6 rfl (lv_at hl 0 rfl) ?_
  refine lv_iload_n hF.1 hF.2.1 dX1_angleByTeeth_7 rfl (lv_at hl 1 rfl) ?_
  obtain ⟨ho_7, hw⟩ := hw
  obtain ⟨mc_8, ms_9, hc_10, hs_11, hw⟩ := hw
  refine hkx_q (hrx_V (As := [.int p1]) (rest := [.ref p0, .int p1, .ref v_2]) (T := TX1) (N := 4) (ci := 1) hF hl.1 hC hP hS (metX1_armAt l hlt K mc_8 ms_9 _ _ _ X0 p0 p1) rfl (cwV 1 hF.2.2.2.2 (lw_V q1269 q1271 qs14 q75 q1272) rfl rfl rfl (by decide +kernel) ⟨Nat.le_of_ble_eq_true rfl, Nat.le_of_ble_eq_true rfl⟩) ho_7 hw rfl rfl (Nat.le_of_ble_eq_true rfl) dX1_angleByTeeth_8 ⟨hc_10, hs_11⟩) hP hS (fun E9 q9 X9 H locs hw hcl hP hS => ?_) (fun r_5 X_6 H locs hw hP hS => ?_)
  · exact h_out hout hlocks hcl hP hS ⟨hc_10, hs_11⟩ hw
  obtain ⟨a_12, e_13, hw⟩ := hw
  subst e_13
  rw [va_rf_some]
  obtain ⟨fs_14, v_15, hx_16, hv_17, hw⟩ := hw
  refine x_getN hF hC hP in_X7 rfl 0 (by decide) q922 (fun _ z => z) hx_16 hv_17 dX1_angleByTeeth_11 ?_
  obtain ⟨ho_20, hw⟩ := hw
  obtain ⟨mc_21, ms_22, hc_23, hs_24, hw⟩ := hw
  refine hkx_q (hrx_V (As := [.int v_15]) (rest := [.int p1, .ref v_2]) (T := TX1) (N := 4) (ci := 1) hF hl.1 hC hP hS (metX1_driving l hlt K mc_21 ms_22 _ _ _ X_6 p0 v_15) rfl (cwV 1 hF.2.2.2.2 (lw_V q1176 q1178 qs12 q75 q1179) rfl rfl rfl (by decide +kernel) ⟨Nat.le_of_ble_eq_true rfl, Nat.le_of_ble_eq_true rfl⟩) ho_20 hw rfl rfl (Nat.le_of_ble_eq_true rfl) dX1_angleByTeeth_14 ⟨hc_23, hs_24⟩) hP hS (fun E9 q9 X9 H locs hw hcl hP hS => ?_) (fun r_18 X_19 H locs hw hP hS => ?_)
  · exact h_out hout hlocks hcl hP hS ⟨hc_23, hs_24⟩ hw
  obtain ⟨a_25, e_26, hw⟩ := hw
  subst e_26
  rw [va_rf_some]
  obtain ⟨ho_29, hw⟩ := hw
  refine hk_i (hr_V (As := [.int p1, .ref a_25]) (rest := []) (T := TX2) (N := 9) (ci := 2) hF hl.1 hC hP hS (metX2_armAngleByTeeth l K _ _ X_19 v_2 p1 a_25) rfl (cwV 2 hF.2.2.2.2 (lw_V q1304 q1305 q1306 q76 q1307) rfl rfl rfl (by decide +kernel) ⟨Nat.le_of_ble_eq_true rfl, Nat.le_of_ble_eq_true rfl⟩) ho_29 hw rfl rfl (Nat.le_of_ble_eq_true rfl) dX1_angleByTeeth_17 ⟨hc_23, hs_24⟩) hP hS (fun r_27 X_28 H locs hw hP hS => ?_)
  exact vx_ret (h_iret hF hr hlocks hP hS ⟨hc_23, hs_24⟩ dX1_angleByTeeth_20 hw)

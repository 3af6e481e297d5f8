/-! StringBuilder, walked by program -/
set_option maxRecDepth 100000
def wpJ6_checkIndex (post : hX → Prop) (E : Nat) (X : hX) (p0 : Int32) (p1 : Int32) : Prop := (∀ r_1 : Option Nat, wpJ9_checkIndex (fun r_2 X_3 => post X_3) E X p0 p1 r_1)
abbrev wsJ6_checkIndex : List Cond := ws_ yJ6_checkIndex cJ6_checkIndex 2 none
set_option maxHeartbeats 8000000 in
theorem metJ6_checkIndex (l : Launch) (K : HK) (sz : Nat) (post : hX → Prop) (X0 : hX) (p0 : Int32) (p1 : Int32) : Met l yJ6_checkIndex wsJ6_checkIndex (rmh 1 22 0 0) (hPc K X0 sz [.int p0, .int p1] (wpJ6_checkIndex post (K.2.2 0) X0 p0 p1)) (hQv post K X0 sz) 0 0 (hA X0 sz) := by
  refine Met.ofW (cc := cJ6_checkIndex) (maxL := 2) (ret := none) (by decide) rfl ?_
  intro p e s m args below meth c s₁ B hml hv
  obtain ⟨rfl, hv⟩ := hv
  obtain ⟨hC, hP, hw⟩ := HC.of hv
  have hsz : s.heap.size = sz := hv.1
  subst hsz
  clear hv
  have hr := B.returns
  have hts := atoms_spec (ws := wsJ6_checkIndex) B.pre
  have hts : ∀ w ∈ lw_all, w.before _ s = true := fun w h => hts w (List.mem_cons_of_mem _ h)
  have hF : CallFix p m c cJ6_checkIndex 2 s ([.int p0, .int p1] : List Value).toArray lw_all RJ6 := ⟨B.exec, B.bytes, hml, findClass_of_methodNamed B.named, hts⟩
  have hlocks := B.notSynchronized
  have hl := lv_entry ([.int p0, .int p1]) (n := 2) (Nat.le_of_ble_eq_true rfl)
  rw [lg_entry_eq]
  generalize (lg_sl ([.int p0, .int p1]) ++ List.replicate (2 - (lg_sl ([.int p0, .int p1])).length) Slot.unset).toArray = ls at hl ⊢
  have hl : lv_has ls 2 [(0, .int p0), (1, .int p1)] := hl
  have hS : va_S (hA X0 s.heap.size) s.heap s.heap [] := va_S.rf
  unfold wpJ6_checkIndex at hw
  show W p l e (rmh 1 22 0 0) s m _ below meth c _ _ _ _ _ _
  refine lv_iload_n hF.1 hF.2.1 dJ6_checkIndex_0 rfl (lv_at hl 0 rfl) ?_
  refine lv_iload_n hF.1 hF.2.1 dJ6_checkIndex_1 rfl (lv_at hl 1 rfl) ?_
  refine x_gsF hF hC hS q569 dJ6_checkIndex_2 (fun r_1 => ?_)
  have hw := hw r_1
  refine hk_i (hr_S (As := [.int p0, .int p1, va_rf r_1]) (rest := []) hF hl.1 hC hP hS (metJ9_checkIndex l K _ _ X0 p0 p1 r_1) (va_cwS 3 hF.2.2.2.2 (lw_S q1563 q354 q87 q355) rfl rfl rfl (by decide +kernel) ⟨Nat.le_of_ble_eq_true rfl, Nat.le_of_ble_eq_true rfl⟩) hw rfl rfl (Nat.le_of_ble_eq_true rfl) dJ6_checkIndex_5 ⟨Nat.le_refl _, Nat.le_refl _⟩) hP hS (fun r_2 X_3 H locs hw hP hS => ?_)
  refine lv_pop hF.1 hF.2.1 dJ6_checkIndex_8 rfl ?_
  exact h_vret hF hr hlocks hP hS ⟨Nat.le_refl _, Nat.le_refl _⟩ dJ6_checkIndex_9 hw
def wpJ4_init (post : hX → Prop) (E : Nat) (mc ms : Nat) (X : hX) (p0 : Nat) (p1 : Int32) : Prop := newA X 2 (.inl (fun _ => 0)) p1 1 0 0 mc ms (fun a_1 X_2 => pfV X_2 p0 10 0 (.ref a_1) (fun X_7 => pfV X_7 p0 10 1 (.int 0) (fun X_11 => post X_11)))
abbrev wsJ4_init : List Cond := ws_ yJ4_init cJ4_init 2 none
set_option maxHeartbeats 8000000 in
theorem metJ4_init (l : Launch) (K : HK) (mc ms : Nat) (sz : Nat) (post : hX → Prop) (X0 : hX) (p0 : Nat) (p1 : Int32) : Met l yJ4_init wsJ4_init (rmh 1 20 mc ms) (hPc K X0 sz [.ref p0, .int p1] (wpJ4_init post (K.2.2 0) mc ms X0 p0 p1)) (hQv post K X0 sz) mc ms (hA X0 sz) := by
  refine Met.ofW (cc := cJ4_init) (maxL := 2) (ret := none) (by decide) rfl ?_
  intro p e s m args below meth c s₁ B hml hv
  obtain ⟨rfl, hv⟩ := hv
  obtain ⟨hC, hP, hw⟩ := HC.of hv
  have hsz : s.heap.size = sz := hv.1
  subst hsz
  clear hv
  have hr := B.returns
  have hts := atoms_spec (ws := wsJ4_init) B.pre
  have hts : ∀ w ∈ lw_all, w.before _ s = true := fun w h => hts w (List.mem_cons_of_mem _ h)
  have hF : CallFix p m c cJ4_init 2 s ([.ref p0, .int p1] : List Value).toArray lw_all RJ4 := ⟨B.exec, B.bytes, hml, findClass_of_methodNamed B.named, hts⟩
  have hlocks := B.notSynchronized
  have hin : meth.name = "<init>" := (name_of_methodNamed B.named B.method).1
  have hl := lv_entry ([.ref p0, .int p1]) (n := 2) (Nat.le_of_ble_eq_true rfl)
  rw [lg_entry_eq]
  generalize (lg_sl ([.ref p0, .int p1]) ++ List.replicate (2 - (lg_sl ([.ref p0, .int p1])).length) Slot.unset).toArray = ls at hl ⊢
  have hl : lv_has ls 2 [(0, .ref p0), (1, .int p1)] := hl
  have hS : va_S (hA X0 s.heap.size) s.heap s.heap [] := va_S.rf
  unfold wpJ4_init at hw
  show W p l e (rmh 1 20 mc ms) s m _ below meth c _ _ _ _ _ _
  refine lv_aload_n hF.1 hF.2.1 dJ4_init_0 rfl (lv_at hl 0 rfl) ?_
  refine W.objInit hF.1 hF.2.1 hF.2.2.2.1 (hF.2.2.2.2 _ q218) (hF.2.2.2.2 _ q116) (hF.2.2.2.2 _ q117) rfl (by rw [hF.2.2.1]; exact hl.1) rfl dJ4_init_1 (Nat.le_of_ble_eq_true rfl) (Nat.le_of_ble_eq_true rfl) ?_
  refine W.eq (g2 := F0 m 4 ls []) rfl ?_
  refine x_gsC hF hC hS q219 dJ4_init_4 ?_
  refine lv_if_eq (tgt := 25) hF.1 hF.2.1 dJ4_init_7 (by decide) (fun z => absurd z (by decide)) (fun _ => ?_)
  refine lv_aload_n hF.1 hF.2.1 dJ4_init_10 rfl (lv_at hl 0 rfl) ?_
  refine lv_iload_n hF.1 hF.2.1 dJ4_init_11 rfl (lv_at hl 1 rfl) ?_
  refine x_newa (atype := .byte) (t := 2) hF hC hP hS q242 rfl rfl rfl (Or.inr (Or.inr (Or.inl rfl))) (fun _ _ => rfl) hw ⟨rfl, rfl⟩ dJ4_init_12 (fun a_1 X_2 H pk_3c pk_3s hw hP hS => ?_)
  obtain ⟨fs_4, hx_5, hl_6, hw⟩ := hw
  refine x_put hF hC hP hS in_J5 rfl tyJ5 tyJ5_ok nmJ5 0 (by decide) q228 (fun _ z => z) rfl rfl rfl hx_5 hl_6 dJ4_init_14 (fun H locs hP hS => ?_)
  generalize hup X_2 p0 (.inr (10, fs_4.set 0 (.ref a_1))) = X_7 at hP hw
  refine lv_aload_n hF.1 hF.2.1 dJ4_init_17 rfl (lv_at hl 0 rfl) ?_
  refine lv_iconst (v := 0) hF.1 hF.2.1 dJ4_init_18 (by decide) ?_
  obtain ⟨fs_8, hx_9, hl_10, hw⟩ := hw
  refine x_put hF hC hP hS in_J5 rfl tyJ5 tyJ5_ok nmJ5 1 (by decide) q229 (fun _ z => z) rfl (by decide) (by decide) hx_9 hl_10 dJ4_init_19 (fun H locs hP hS => ?_)
  generalize hup X_7 p0 (.inr (10, fs_8.set 1 (.int 0))) = X_11 at hP hw
  refine lv_goto (tgt := 38) hF.1 hF.2.1 dJ4_init_22 (by decide) ?_
  exact h_vret hF hr hlocks hP hS ⟨pk_3c, pk_3s⟩ dJ4_init_38 hw
def wpJ5_init (post : hX → Prop) (E : Nat) (mc ms : Nat) (X : hX) (p0 : Nat) : Prop := (∃ mc_2 ms_3 : Nat, 0 + mc_2 ≤ mc ∧ 0 + ms_3 ≤ ms ∧ wpJ4_init (fun X_1 => post X_1) E mc_2 ms_3 X p0 16)
abbrev wsJ5_init : List Cond := ws_ yJ5_init cJ5_init 1 none
set_option maxHeartbeats 8000000 in
theorem metJ5_init (l : Launch) (K : HK) (mc ms : Nat) (sz : Nat) (post : hX → Prop) (X0 : hX) (p0 : Nat) : Met l yJ5_init wsJ5_init (rmh 2 41 mc ms) (hPc K X0 sz [.ref p0] (wpJ5_init post (K.2.2 0) mc ms X0 p0)) (hQv post K X0 sz) mc ms (hA X0 sz) := by
  refine Met.ofW (cc := cJ5_init) (maxL := 1) (ret := none) (by decide) rfl ?_
  intro p e s m args below meth c s₁ B hml hv
  obtain ⟨rfl, hv⟩ := hv
  obtain ⟨hC, hP, hw⟩ := HC.of hv
  have hsz : s.heap.size = sz := hv.1
  subst hsz
  clear hv
  have hr := B.returns
  have hts := atoms_spec (ws := wsJ5_init) B.pre
  have hts : ∀ w ∈ lw_all, w.before _ s = true := fun w h => hts w (List.mem_cons_of_mem _ h)
  have hF : CallFix p m c cJ5_init 1 s ([.ref p0] : List Value).toArray lw_all RJ5 := ⟨B.exec, B.bytes, hml, findClass_of_methodNamed B.named, hts⟩
  have hlocks := B.notSynchronized
  have hin : meth.name = "<init>" := (name_of_methodNamed B.named B.method).1
  have hl := lv_entry ([.ref p0]) (n := 1) (Nat.le_of_ble_eq_true rfl)
  rw [lg_entry_eq]
  generalize (lg_sl ([.ref p0]) ++ List.replicate (1 - (lg_sl ([.ref p0])).length) Slot.unset).toArray = ls at hl ⊢
  have hl : lv_has ls 1 [(0, .ref p0)] := hl
  have hS : va_S (hA X0 s.heap.size) s.heap s.heap [] := va_S.rf
  unfold wpJ5_init at hw
  show W p l e (rmh 2 41 mc ms) s m _ below meth c _ _ _ _ _ _
  refine lv_aload_n hF.1 hF.2.1 dJ5_init_0 rfl (lv_at hl 0 rfl) ?_
  refine lv_bipush (v := 16) hF.1 hF.2.1 dJ5_init_1 (by decide) ?_
  obtain ⟨mc_2, ms_3, hc_4, hs_5, hw⟩ := hw
  refine hk_v (hr_I (As := [.int 16]) (rest := []) hF hl.1 hC hP hS (metJ4_init l K mc_2 ms_3 _ _ X0 p0 16) (cwI 1 hF.2.2.2.2 (lw_meth q217) rfl rfl rfl (hF.2.2.2.2 _ q81) (hF.2.2.2.2 _ q215) (hF.2.2.2.2 _ q216) rfl (by decide +kernel) ⟨Nat.le_of_ble_eq_true rfl, Nat.le_of_ble_eq_true rfl⟩) hw rfl rfl (Nat.le_of_ble_eq_true rfl) dJ5_init_3 ⟨hc_4, hs_5⟩) hP hS (fun X_1 H locs hw hP hS => ?_)
  exact h_vret hF hr hlocks hP hS ⟨hc_4, hs_5⟩ dJ5_init_6 hw
def wpJ4_length (post : Int32 → hX → Prop) (E : Nat) (X : hX) (p0 : Nat) : Prop := gfI X p0 10 3 (fun v_2 => post v_2 X)
abbrev wsJ4_length : List Cond := ws_ yJ4_length cJ4_length 1 (some .int)
set_option maxHeartbeats 8000000 in
theorem metJ4_length (l : Launch) (K : HK) (sz : Nat) (post : Int32 → hX → Prop) (X0 : hX) (p0 : Nat) : Met l yJ4_length wsJ4_length (rmh 0 0 0 0) (hPc K X0 sz [.ref p0] (wpJ4_length post (K.2.2 0) X0 p0)) (hQi post K X0 sz) 0 0 (hA X0 sz) := by
  refine Met.ofW (cc := cJ4_length) (maxL := 1) (ret := (some .int)) (by decide) rfl ?_
  intro p e s m args below meth c s₁ B hml hv
  obtain ⟨rfl, hv⟩ := hv
  obtain ⟨hC, hP, hw⟩ := HC.of hv
  have hsz : s.heap.size = sz := hv.1
  subst hsz
  clear hv
  have hr := B.returns
  have hts := atoms_spec (ws := wsJ4_length) B.pre
  have hts : ∀ w ∈ lw_all, w.before _ s = true := fun w h => hts w (List.mem_cons_of_mem _ h)
  have hF : CallFix p m c cJ4_length 1 s ([.ref p0] : List Value).toArray lw_all RJ4 := ⟨B.exec, B.bytes, hml, findClass_of_methodNamed B.named, hts⟩
  have hlocks := B.notSynchronized
  have hl := lv_entry ([.ref p0]) (n := 1) (Nat.le_of_ble_eq_true rfl)
  rw [lg_entry_eq]
  generalize (lg_sl ([.ref p0]) ++ List.replicate (1 - (lg_sl ([.ref p0])).length) Slot.unset).toArray = ls at hl ⊢
  have hl : lv_has ls 1 [(0, .ref p0)] := hl
  have hS : va_S (hA X0 s.heap.size) s.heap s.heap [] := va_S.rf
  unfold wpJ4_length at hw
  show W p l e (rmh 0 0 0 0) s m _ below meth c _ _ _ _ _ _
  refine lv_aload_n hF.1 hF.2.1 dJ4_length_0 rfl (lv_at hl 0 rfl) ?_
  obtain ⟨fs_1, v_2, hx_3, hv_4, hw⟩ := hw
  refine x_get hF hC hP in_J5 rfl 3 (by decide) q232 (fun _ z => z) hx_3 hv_4 dJ4_length_1 ?_
  exact h_iret hF hr hlocks hP hS ⟨Nat.le_refl _, Nat.le_refl _⟩ dJ4_length_4 hw
def wpJ5_length (post : Int32 → hX → Prop) (E : Nat) (X : hX) (p0 : Nat) : Prop := isO X p0 10 (wpJ4_length (fun r_1 X_2 => post r_1 X_2) E X p0)
abbrev wsJ5_length : List Cond := ws_ yJ5_length cJ5_length 1 (some .int)
set_option maxHeartbeats 8000000 in
theorem metJ5_length (l : Launch) (K : HK) (sz : Nat) (post : Int32 → hX → Prop) (X0 : hX) (p0 : Nat) : Met l yJ5_length wsJ5_length (rmh 1 20 0 0) (hPc K X0 sz [.ref p0] (wpJ5_length post (K.2.2 0) X0 p0)) (hQi post K X0 sz) 0 0 (hA X0 sz) := by
  refine Met.ofW (cc := cJ5_length) (maxL := 1) (ret := (some .int)) (by decide) rfl ?_
  intro p e s m args below meth c s₁ B hml hv
  obtain ⟨rfl, hv⟩ := hv
  obtain ⟨hC, hP, hw⟩ := HC.of hv
  have hsz : s.heap.size = sz := hv.1
  subst hsz
  clear hv
  have hr := B.returns
  have hts := atoms_spec (ws := wsJ5_length) B.pre
  have hts : ∀ w ∈ lw_all, w.before _ s = true := fun w h => hts w (List.mem_cons_of_mem _ h)
  have hF : CallFix p m c cJ5_length 1 s ([.ref p0] : List Value).toArray lw_all RJ5 := ⟨B.exec, B.bytes, hml, findClass_of_methodNamed B.named, hts⟩
  have hlocks := B.notSynchronized
  have hl := lv_entry ([.ref p0]) (n := 1) (Nat.le_of_ble_eq_true rfl)
  rw [lg_entry_eq]
  generalize (lg_sl ([.ref p0]) ++ List.replicate (1 - (lg_sl ([.ref p0])).length) Slot.unset).toArray = ls at hl ⊢
  have hl : lv_has ls 1 [(0, .ref p0)] := hl
  have hS : va_S (hA X0 s.heap.size) s.heap s.heap [] := va_S.rf
  unfold wpJ5_length at hw
  show W p l e (rmh 1 20 0 0) s m _ below meth c _ _ _ _ _ _
  refine lv_aload_n hF.1 hF.2.1 dJ5_length_0 rfl (lv_at hl 0 rfl) ?_
  obtain ⟨ho_3, hw⟩ := hw
  refine hk_i (hr_SU (As := []) (rest := []) (C := RJ5) (T := TJ5) (N := 4) (ci := 10) hF hl.1 hC hP hS (metJ4_length l K _ _ X0 p0) rfl (va_cwSU 0 hF.2.2.2.2 (lw_CSU q444 q2327 q241 q445 q81 q446) rfl rfl rfl (by decide +kernel) ⟨Nat.le_of_ble_eq_true rfl, Nat.le_of_ble_eq_true rfl⟩) ho_3 hw rfl rfl (Nat.le_of_ble_eq_true rfl) dJ5_length_1 ⟨Nat.le_refl _, Nat.le_refl _⟩) hP hS (fun r_1 X_2 H locs hw hP hS => ?_)
  exact h_iret hF hr hlocks hP hS ⟨Nat.le_refl _, Nat.le_refl _⟩ dJ5_length_4 hw
def wpJ4_isLatin1 (post : Int32 → hX → Prop) (E : Nat) (X : hX) (p0 : Nat) : Prop := gfI X p0 10 1 (fun v_2 => ((v_2 = 0 → post 1 X) ∧ (¬ v_2 = 0 → post 0 X)))
abbrev wsJ4_isLatin1 : List Cond := ws_ yJ4_isLatin1 cJ4_isLatin1 1 (some .boolean)
set_option maxHeartbeats 8000000 in
theorem metJ4_isLatin1 (l : Launch) (K : HK) (sz : Nat) (post : Int32 → hX → Prop) (X0 : hX) (p0 : Nat) : Met l yJ4_isLatin1 wsJ4_isLatin1 (rmh 0 0 0 0) (hPc K X0 sz [.ref p0] (wpJ4_isLatin1 post (K.2.2 0) X0 p0)) (hQi post K X0 sz) 0 0 (hA X0 sz) := by
  refine Met.ofW (cc := cJ4_isLatin1) (maxL := 1) (ret := (some .boolean)) (by decide) rfl ?_
  intro p e s m args below meth c s₁ B hml hv
  obtain ⟨rfl, hv⟩ := hv
  obtain ⟨hC, hP, hw⟩ := HC.of hv
  have hsz : s.heap.size = sz := hv.1
  subst hsz
  clear hv
  have hr := B.returns
  have hts := atoms_spec (ws := wsJ4_isLatin1) B.pre
  have hts : ∀ w ∈ lw_all, w.before _ s = true := fun w h => hts w (List.mem_cons_of_mem _ h)
  have hF : CallFix p m c cJ4_isLatin1 1 s ([.ref p0] : List Value).toArray lw_all RJ4 := ⟨B.exec, B.bytes, hml, findClass_of_methodNamed B.named, hts⟩
  have hlocks := B.notSynchronized
  have hl := lv_entry ([.ref p0]) (n := 1) (Nat.le_of_ble_eq_true rfl)
  rw [lg_entry_eq]
  generalize (lg_sl ([.ref p0]) ++ List.replicate (1 - (lg_sl ([.ref p0])).length) Slot.unset).toArray = ls at hl ⊢
  have hl : lv_has ls 1 [(0, .ref p0)] := hl
  have hS : va_S (hA X0 s.heap.size) s.heap s.heap [] := va_S.rf
  unfold wpJ4_isLatin1 at hw
  show W p l e (rmh 0 0 0 0) s m _ below meth c _ _ _ _ _ _
  refine x_gsC hF hC hS q219 dJ4_isLatin1_0 ?_
  refine lv_if_eq (tgt := 17) hF.1 hF.2.1 dJ4_isLatin1_3 (by decide) (fun z => absurd z (by decide)) (fun _ => ?_)
  refine lv_aload_n hF.1 hF.2.1 dJ4_isLatin1_6 rfl (lv_at hl 0 rfl) ?_
  obtain ⟨fs_1, v_2, hx_3, hv_4, hw⟩ := hw
  refine x_get hF hC hP in_J5 rfl 1 (by decide) q229 (fun _ z => z) hx_3 hv_4 dJ4_isLatin1_7 ?_
  refine lv_if_ne (tgt := 17) hF.1 hF.2.1 dJ4_isLatin1_10 (by decide) (fun c_5 => ?_) (fun c_5 => ?_)
  · have hw := hw.2 c_5
    refine lv_iconst (v := 0) hF.1 hF.2.1 dJ4_isLatin1_17 (by decide) ?_
    exact h_zret hF hr hlocks hP hS ⟨Nat.le_refl _, Nat.le_refl _⟩ dJ4_isLatin1_18 (Or.inl rfl) hw
  · have hw := hw.1 c_5
    refine lv_iconst (v := 1) hF.1 hF.2.1 dJ4_isLatin1_13 (by decide) ?_
    refine lv_goto (tgt := 18) hF.1 hF.2.1 dJ4_isLatin1_14 (by decide) ?_
    exact h_zret hF hr hlocks hP hS ⟨Nat.le_refl _, Nat.le_refl _⟩ dJ4_isLatin1_18 (Or.inr rfl) hw
def wpJ21_canEncode (post : Int32 → Prop) (p0 : Int32) : Prop := ((255 < p0 → post 0) ∧ (¬ 255 < p0 → post 1))
abbrev wsJ21_canEncode : List Cond := ws_ yJ21_canEncode cJ21_canEncode 1 (some .boolean)
set_option maxHeartbeats 8000000 in
theorem metJ21_canEncode (l : Launch) (post : Int32 → Prop) (p0 : Int32) : Met l yJ21_canEncode wsJ21_canEncode (rmo 0 0) (sPre [.int p0] (wpJ21_canEncode post p0)) (vp_Si post) 0 0 (fun _ => False) := by
  refine Met.ofW (cc := cJ21_canEncode) (maxL := 1) (ret := (some .boolean)) (by decide) rfl ?_
  intro p e s m args below meth c s₁ B hml hv
  obtain ⟨rfl, hw⟩ := hv
  have hx := B.exec
  have hb := B.bytes
  have hr := B.returns
  have hts := atoms_spec (ws := wsJ21_canEncode) B.pre
  have hts : ∀ w ∈ lw_all, w.before _ s = true := fun w h => hts w (List.mem_cons_of_mem _ h)
  have hown : s.vm.findClass RJ21 = some m.cls := findClass_of_methodNamed B.named
  have hlocks := B.notSynchronized
  have hl := lv_entry ([.int p0]) (n := 1) (Nat.le_of_ble_eq_true rfl)
  rw [lg_entry_eq]
  generalize (lg_sl ([.int p0]) ++ List.replicate (1 - (lg_sl ([.int p0])).length) Slot.unset).toArray = ls at hl ⊢
  have hl : lv_has ls 1 [(0, .int p0)] := hl
  unfold wpJ21_canEncode at hw
  refine lv_iload_n hx hb dJ21_canEncode_0 rfl (lv_at hl 0 rfl) ?_
  refine lv_sipush (v := 255) hx hb dJ21_canEncode_1 (by decide) ?_
  refine lv_icmp_gt (tgt := 11) hx hb dJ21_canEncode_4 (by decide) (fun c_1 => ?_) (fun c_1 => ?_)
  · have hw := hw.1 c_1
    refine lv_iconst (v := 0) hx hb dJ21_canEncode_11 (by decide) ?_
    exact s_zret hx hb hr hlocks dJ21_canEncode_12 (Or.inl rfl) hw
  · have hw := hw.2 c_1
    refine lv_iconst (v := 1) hx hb dJ21_canEncode_7 (by decide) ?_
    refine lv_goto (tgt := 12) hx hb dJ21_canEncode_8 (by decide) ?_
    exact s_zret hx hb hr hlocks dJ21_canEncode_12 (Or.inr rfl) hw
def wpJ12_copyOf (post : Option Nat → hX → Prop) (E : Nat) (mc ms : Nat) (X : hX) (p0 : Nat) (p1 : Int32) : Prop := alen E X p0 (fun v_1 => ((p1 = v_1 → False) ∧ (¬ p1 = v_1 → newA X 2 (.inl (fun _ => 0)) p1 1 0 0 mc ms (fun a_3 X_4 => alen E X_4 p0 (fun v_6 => wpJ11_min (fun r_7 => cpyB X_4 p0 0 a_3 0 r_7 (fun X_8 => post (some a_3) X_8)) v_6 p1)))))
abbrev wsJ12_copyOf : List Cond := ws_ yJ12_copyOf cJ12_copyOf 3 (some (.array .byte))
set_option maxHeartbeats 8000000 in
theorem metJ12_copyOf (l : Launch) (K : HK) (mc ms : Nat) (sz : Nat) (post : Option Nat → hX → Prop) (X0 : hX) (p0 : Nat) (p1 : Int32) : Met l yJ12_copyOf wsJ12_copyOf (rmh 1 60 mc ms) (hPc K X0 sz [.ref p0, .int p1] (wpJ12_copyOf post (K.2.2 0) mc ms X0 p0 p1)) (hQq post K X0 sz) mc ms (hA X0 sz) := by
  refine Met.ofW (cc := cJ12_copyOf) (maxL := 3) (ret := (some (.array .byte))) (by decide) rfl ?_
  intro p e s m args below meth c s₁ B hml hv
  obtain ⟨rfl, hv⟩ := hv
  obtain ⟨hC, hP, hw⟩ := HC.of hv
  have hsz : s.heap.size = sz := hv.1
  subst hsz
  clear hv
  have hr := B.returns
  have hts := atoms_spec (ws := wsJ12_copyOf) B.pre
  have hts : ∀ w ∈ lw_all, w.before _ s = true := fun w h => hts w (List.mem_cons_of_mem _ h)
  have hF : CallFix p m c cJ12_copyOf 3 s ([.ref p0, .int p1] : List Value).toArray lw_all RJ12 := ⟨B.exec, B.bytes, hml, findClass_of_methodNamed B.named, hts⟩
  have hlocks := B.notSynchronized
  have hl := lv_entry ([.ref p0, .int p1]) (n := 3) (Nat.le_of_ble_eq_true rfl)
  rw [lg_entry_eq]
  generalize (lg_sl ([.ref p0, .int p1]) ++ List.replicate (3 - (lg_sl ([.ref p0, .int p1])).length) Slot.unset).toArray = ls at hl ⊢
  have hl : lv_has ls 3 [(0, .ref p0), (1, .int p1)] := hl
  have hS : va_S (hA X0 s.heap.size) s.heap s.heap [] := va_S.rf
  unfold wpJ12_copyOf at hw
  show W p l e (rmh 1 60 mc ms) s m _ below meth c _ _ _ _ _ _
  refine lv_iload_n hF.1 hF.2.1 dJ12_copyOf_0 rfl (lv_at hl 1 rfl) ?_
  refine lv_aload_n hF.1 hF.2.1 dJ12_copyOf_1 rfl (lv_at hl 0 rfl) ?_
  refine x_alen hF hC hP hS hw dJ12_copyOf_2 (fun v_1 hw => ?_)
  refine lv_icmp_ne (tgt := 14) hF.1 hF.2.1 dJ12_copyOf_3 (by decide) (fun c_2 => ?_) (fun c_2 => ?_)
  · have hw := hw.2 c_2
    refine lv_iload_n hF.1 hF.2.1 dJ12_copyOf_14 rfl (lv_at hl 1 rfl) ?_
    refine x_newa (atype := .byte) (t := 2) hF hC hP hS q242 rfl rfl rfl (Or.inr (Or.inr (Or.inl rfl))) (fun _ _ => rfl) hw ⟨rfl, rfl⟩ dJ12_copyOf_15 (fun a_3 X_4 H pk_5c pk_5s hw hP hS => ?_)
    refine lv_astore_n (lv' := [(2, .ref a_3), (0, .ref p0), (1, .int p1)]) hF.1 hF.2.1 dJ12_copyOf_17 rfl hl (by decide) rfl (fun ls hl => ?_)
    refine lv_aload_n hF.1 hF.2.1 dJ12_copyOf_18 rfl (lv_at hl 1 rfl) ?_
    refine lv_iconst (v := 0) hF.1 hF.2.1 dJ12_copyOf_19 (by decide) ?_
    refine lv_aload_n hF.1 hF.2.1 dJ12_copyOf_20 rfl (lv_at hl 0 rfl) ?_
    refine lv_iconst (v := 0) hF.1 hF.2.1 dJ12_copyOf_21 (by decide) ?_
    refine lv_aload_n hF.1 hF.2.1 dJ12_copyOf_22 rfl (lv_at hl 1 rfl) ?_
    refine x_alen hF hC hP hS hw dJ12_copyOf_23 (fun v_6 hw => ?_)
    refine lv_iload_n hF.1 hF.2.1 dJ12_copyOf_24 rfl (lv_at hl 2 rfl) ?_
    refine hp_i (hrp_S (As := [.int v_6, .int p1]) (rest := [.int 0, .ref a_3, .int 0, .ref p0]) hF hl.1 (metJ11_min l _ v_6 p1) (va_cwS 2 hF.2.2.2.2 (lw_S q483 q312 q89 q313) rfl rfl rfl (by decide +kernel) ⟨Nat.le_of_ble_eq_true rfl, Nat.le_of_ble_eq_true rfl⟩) hw rfl rfl (Nat.le_of_ble_eq_true rfl) dJ12_copyOf_25 ⟨pk_5c, pk_5s⟩) (fun r_7 hw => ?_)
    refine x_cpyB hF hl.1 hC hP hS q484 hw (Nat.le_of_ble_eq_true rfl) (Nat.le_of_ble_eq_true rfl) dJ12_copyOf_28 (fun X_8 H locs hw hP hS => ?_)
    refine lv_aload_n hF.1 hF.2.1 dJ12_copyOf_31 rfl (lv_at hl 0 rfl) ?_
    exact h_aret (r := (some a_3)) hF hr (Or.inr ⟨_, rfl⟩) hlocks hP hS ⟨pk_5c, pk_5s⟩ dJ12_copyOf_32 hw
  · have hw := hw.1 c_2
    refine lv_aload_n hF.1 hF.2.1 dJ12_copyOf_6 rfl (lv_at hl 0 rfl) ?_
    exact False.elim hw
def wpJ4_newCapacity (post : Int32 → hX → Prop) (E : Nat) (X : hX) (p0 : Nat) (p1 : Int32) : Prop := gfA X p0 10 0 (fun v_2 => alen E X v_2 (fun v_5 => gfI X p0 10 1 (fun v_7 => (∀ x3_10 : Int32, x3_10 = p1 <<< (v_7 &&& 31) → (∀ x4_11 : Int32, x4_11 = x3_10 - v_5 → gfI X p0 10 1 (fun v_13 => wpJ10_newLength (fun r_16 X_17 => ((r_16 = 2147483647 → False) ∧ (¬ r_16 = 2147483647 → gfI X_17 p0 10 1 (fun v_20 => post (r_16 >>> (v_20 &&& 31)) X_17)))) E X v_5 x4_11 (v_5 + (2 <<< (v_13 &&& 31)))))))))
abbrev wsJ4_newCapacity : List Cond := ws_ yJ4_newCapacity cJ4_newCapacity 6 (some .int)
set_option maxHeartbeats 8000000 in
theorem metJ4_newCapacity (l : Launch) (K : HK) (sz : Nat) (post : Int32 → hX → Prop) (X0 : hX) (p0 : Nat) (p1 : Int32) : Met l yJ4_newCapacity wsJ4_newCapacity (rmh 2 44 0 0) (hPc K X0 sz [.ref p0, .int p1] (wpJ4_newCapacity post (K.2.2 0) X0 p0 p1)) (hQi post K X0 sz) 0 0 (hA X0 sz) := by
  refine Met.ofW (cc := cJ4_newCapacity) (maxL := 6) (ret := (some .int)) (by decide) rfl ?_
  intro p e s m args below meth c s₁ B hml hv
  obtain ⟨rfl, hv⟩ := hv
  obtain ⟨hC, hP, hw⟩ := HC.of hv
  have hsz : s.heap.size = sz := hv.1
  subst hsz
  clear hv
  have hr := B.returns
  have hts := atoms_spec (ws := wsJ4_newCapacity) B.pre
  have hts : ∀ w ∈ lw_all, w.before _ s = true := fun w h => hts w (List.mem_cons_of_mem _ h)
  have hF : CallFix p m c cJ4_newCapacity 6 s ([.ref p0, .int p1] : List Value).toArray lw_all RJ4 := ⟨B.exec, B.bytes, hml, findClass_of_methodNamed B.named, hts⟩
  have hlocks := B.notSynchronized
  have hl := lv_entry ([.ref p0, .int p1]) (n := 6) (Nat.le_of_ble_eq_true rfl)
  rw [lg_entry_eq]
  generalize (lg_sl ([.ref p0, .int p1]) ++ List.replicate (6 - (lg_sl ([.ref p0, .int p1])).length) Slot.unset).toArray = ls at hl ⊢
  have hl : lv_has ls 6 [(0, .ref p0), (1, .int p1)] := hl
  have hS : va_S (hA X0 s.heap.size) s.heap s.heap [] := va_S.rf
  unfold wpJ4_newCapacity at hw
  show W p l e (rmh 2 44 0 0) s m _ below meth c _ _ _ _ _ _
  refine lv_aload_n hF.1 hF.2.1 dJ4_newCapacity_0 rfl (lv_at hl 0 rfl) ?_
  obtain ⟨fs_1, v_2, hx_3, hv_4, hw⟩ := hw
  refine x_get hF hC hP in_J5 rfl 0 (by decide) q228 (fun _ z => z) hx_3 hv_4 dJ4_newCapacity_1 ?_
  refine x_alen hF hC hP hS hw dJ4_newCapacity_4 (fun v_5 hw => ?_)
  refine lv_istore_n (lv' := [(2, .int v_5), (0, .ref p0), (1, .int p1)]) hF.1 hF.2.1 dJ4_newCapacity_5 rfl hl (by decide) rfl (fun ls hl => ?_)
  refine lv_iload_n hF.1 hF.2.1 dJ4_newCapacity_6 rfl (lv_at hl 2 rfl) ?_
  refine lv_aload_n hF.1 hF.2.1 dJ4_newCapacity_7 rfl (lv_at hl 1 rfl) ?_
  obtain ⟨fs_6, v_7, hx_8, hv_9, hw⟩ := hw
  refine x_get hF hC hP in_J5 rfl 1 (by decide) q229 (fun _ z => z) hx_8 hv_9 dJ4_newCapacity_8 ?_
  refine lv_ishl hF.1 hF.2.1 dJ4_newCapacity_11 ?_
  refine lv_topi (fun x3_10 ex3_10 => ?_)
  have hw := hw x3_10 ex3_10
  refine lv_istore_n (lv' := [(3, .int x3_10), (2, .int v_5), (0, .ref p0), (1, .int p1)]) hF.1 hF.2.1 dJ4_newCapacity_12 rfl hl (by decide) rfl (fun ls hl => ?_)
  refine lv_iload_n hF.1 hF.2.1 dJ4_newCapacity_13 rfl (lv_at hl 0 rfl) ?_
  refine lv_iload_n hF.1 hF.2.1 dJ4_newCapacity_14 rfl (lv_at hl 1 rfl) ?_
  refine lv_isub hF.1 hF.2.1 dJ4_newCapacity_15 ?_
  refine lv_topi (fun x4_11 ex4_11 => ?_)
  have hw := hw x4_11 ex4_11
  refine lv_istore (lv' := [(4, .int x4_11), (3, .int x3_10), (2, .int v_5), (0, .ref p0), (1, .int p1)]) hF.1 hF.2.1 dJ4_newCapacity_16 hl (by decide) rfl (fun ls hl => ?_)
  refine lv_iload_n hF.1 hF.2.1 dJ4_newCapacity_18 rfl (lv_at hl 2 rfl) ?_
  refine lv_iload hF.1 hF.2.1 dJ4_newCapacity_19 (lv_at hl 0 rfl) ?_
  refine lv_iload_n hF.1 hF.2.1 dJ4_newCapacity_21 rfl (lv_at hl 2 rfl) ?_
  refine lv_iconst (v := 2) hF.1 hF.2.1 dJ4_newCapacity_22 (by decide) ?_
  refine lv_aload_n hF.1 hF.2.1 dJ4_newCapacity_23 rfl (lv_at hl 3 rfl) ?_
  obtain ⟨fs_12, v_13, hx_14, hv_15, hw⟩ := hw
  refine x_get hF hC hP in_J5 rfl 1 (by decide) q229 (fun _ z => z) hx_14 hv_15 dJ4_newCapacity_24 ?_
  refine lv_ishl hF.1 hF.2.1 dJ4_newCapacity_27 ?_
  refine lv_iadd hF.1 hF.2.1 dJ4_newCapacity_28 ?_
  refine hk_i (hr_S (As := [.int v_5, .int x4_11, .int (v_5 + (2 <<< (v_13 &&& 31)))]) (rest := []) hF hl.1 hC hP hS (metJ10_newLength l K _ _ X0 v_5 x4_11 (v_5 + (2 <<< (v_13 &&& 31)))) (va_cwS 3 hF.2.2.2.2 (lw_S q462 q463 q88 q464) rfl rfl rfl (by decide +kernel) ⟨Nat.le_of_ble_eq_true rfl, Nat.le_of_ble_eq_true rfl⟩) hw rfl rfl (Nat.le_of_ble_eq_true rfl) dJ4_newCapacity_29 ⟨Nat.le_refl _, Nat.le_refl _⟩) hP hS (fun r_16 X_17 H locs hw hP hS => ?_)
  refine lv_istore (lv' := [(5, .int r_16), (4, .int x4_11), (3, .int x3_10), (2, .int v_5), (0, .ref p0), (1, .int p1)]) hF.1 hF.2.1 dJ4_newCapacity_32 hl (by decide) rfl (fun ls hl => ?_)
  refine lv_iload hF.1 hF.2.1 dJ4_newCapacity_34 (lv_at hl 0 rfl) ?_
  refine lv_ldc hF.1 hF.2.1 hF.2.2.2.1 (hF.2.2.2.2 _ q472) dJ4_newCapacity_36 ?_
  refine lv_icmp_ne (tgt := 51) hF.1 hF.2.1 dJ4_newCapacity_38 (by decide) (fun c_18 => ?_) (fun c_18 => ?_)
  · have hw := hw.2 c_18
    refine lv_iload hF.1 hF.2.1 dJ4_newCapacity_51 (lv_at hl 0 rfl) ?_
    refine lv_aload_n hF.1 hF.2.1 dJ4_newCapacity_53 rfl (lv_at hl 4 rfl) ?_
    obtain ⟨fs_19, v_20, hx_21, hv_22, hw⟩ := hw
    refine x_get hF hC hP in_J5 rfl 1 (by decide) q229 (fun _ z => z) hx_21 hv_22 dJ4_newCapacity_54 ?_
    refine lv_ishr hF.1 hF.2.1 dJ4_newCapacity_57 ?_
    exact h_iret hF hr hlocks hP hS ⟨Nat.le_refl _, Nat.le_refl _⟩ dJ4_newCapacity_58 hw
  · have hw := hw.1 c_18
    exact False.elim hw
def wpJ4_ensureCapacityInternal (post : hX → Prop) (E : Nat) (mc ms : Nat) (X : hX) (p0 : Nat) (p1 : Int32) : Prop := gfA X p0 10 0 (fun v_2 => alen E X v_2 (fun v_5 => gfI X p0 10 1 (fun v_7 => (∀ x2_10 : Int32, x2_10 = v_5 >>> (v_7 &&& 31) → (((p1 - x2_10) ≤ 0 → post X) ∧ (¬ (p1 - x2_10) ≤ 0 → gfA X p0 10 0 (fun v_13 => isO X p0 10 (wpJ4_newCapacity (fun r_16 X_17 => gfI X_17 p0 10 1 (fun v_20 => (∃ mc_25 ms_26 : Nat, 0 + mc_25 ≤ mc ∧ 0 + ms_26 ≤ ms ∧ wpJ12_copyOf (fun r_23 X_24 => (∃ a_29 : Nat, r_23 = some a_29 ∧ pfV X_24 p0 10 0 (.ref a_29) (fun X_34 => post X_34))) E mc_25 ms_26 X_17 v_13 (r_16 <<< (v_20 &&& 31))))) E X p0 p1))))))))
abbrev wsJ4_ensureCapacityInternal : List Cond := ws_ yJ4_ensureCapacityInternal cJ4_ensureCapacityInternal 3 none
set_option maxHeartbeats 8000000 in
theorem metJ4_ensureCapacityInternal (l : Launch) (K : HK) (mc ms : Nat) (sz : Nat) (post : hX → Prop) (X0 : hX) (p0 : Nat) (p1 : Int32) : Met l yJ4_ensureCapacityInternal wsJ4_ensureCapacityInternal (rmh 3 82 mc ms) (hPc K X0 sz [.ref p0, .int p1] (wpJ4_ensureCapacityInternal post (K.2.2 0) mc ms X0 p0 p1)) (hQv post K X0 sz) mc ms (hA X0 sz) := by
  refine Met.ofW (cc := cJ4_ensureCapacityInternal) (maxL := 3) (ret := none) (by decide) rfl ?_
  intro p e s m args below meth c s₁ B hml hv
  obtain ⟨rfl, hv⟩ := hv
  obtain ⟨hC, hP, hw⟩ := HC.of hv
  have hsz : s.heap.size = sz := hv.1
  subst hsz
  clear hv
  have hr := B.returns
  have hts := atoms_spec (ws := wsJ4_ensureCapacityInternal) B.pre
  have hts : ∀ w ∈ lw_all, w.before _ s = true := fun w h => hts w (List.mem_cons_of_mem _ h)
  have hF : CallFix p m c cJ4_ensureCapacityInternal 3 s ([.ref p0, .int p1] : List Value).toArray lw_all RJ4 := ⟨B.exec, B.bytes, hml, findClass_of_methodNamed B.named, hts⟩
  have hlocks := B.notSynchronized
  have hl := lv_entry ([.ref p0, .int p1]) (n := 3) (Nat.le_of_ble_eq_true rfl)
  rw [lg_entry_eq]
  generalize (lg_sl ([.ref p0, .int p1]) ++ List.replicate (3 - (lg_sl ([.ref p0, .int p1])).length) Slot.unset).toArray = ls at hl ⊢
  have hl : lv_has ls 3 [(0, .ref p0), (1, .int p1)] := hl
  have hS : va_S (hA X0 s.heap.size) s.heap s.heap [] := va_S.rf
  unfold wpJ4_ensureCapacityInternal at hw
  show W p l e (rmh 3 82 mc ms) s m _ below meth c _ _ _ _ _ _
  refine lv_aload_n hF.1 hF.2.1 dJ4_ensureCapacityInternal_0 rfl (lv_at hl 0 rfl) ?_
  obtain ⟨fs_1, v_2, hx_3, hv_4, hw⟩ := hw
  refine x_get hF hC hP in_J5 rfl 0 (by decide) q228 (fun _ z => z) hx_3 hv_4 dJ4_ensureCapacityInternal_1 ?_
  refine x_alen hF hC hP hS hw dJ4_ensureCapacityInternal_4 (fun v_5 hw => ?_)
  refine lv_aload_n hF.1 hF.2.1 dJ4_ensureCapacityInternal_5 rfl (lv_at hl 0 rfl) ?_
  obtain ⟨fs_6, v_7, hx_8, hv_9, hw⟩ := hw
  refine x_get hF hC hP in_J5 rfl 1 (by decide) q229 (fun _ z => z) hx_8 hv_9 dJ4_ensureCapacityInternal_6 ?_
  refine lv_ishr hF.1 hF.2.1 dJ4_ensureCapacityInternal_9 ?_
  refine lv_topi (fun x2_10 ex2_10 => ?_)
  have hw := hw x2_10 ex2_10
  refine lv_istore_n (lv' := [(2, .int x2_10), (0, .ref p0), (1, .int p1)]) hF.1 hF.2.1 dJ4_ensureCapacityInternal_10 rfl hl (by decide) rfl (fun ls hl => ?_)
  refine lv_iload_n hF.1 hF.2.1 dJ4_ensureCapacityInternal_11 rfl (lv_at hl 2 rfl) ?_
  refine lv_iload_n hF.1 hF.2.1 dJ4_ensureCapacityInternal_12 rfl (lv_at hl 0 rfl) ?_
  refine lv_isub hF.1 hF.2.1 dJ4_ensureCapacityInternal_13 ?_
  refine lv_if_le (tgt := 38) hF.1 hF.2.1 dJ4_ensureCapacityInternal_14 (by decide) (fun c_11 => ?_) (fun c_11 => ?_)
  · have hw := hw.1 c_11
    exact h_vret hF hr hlocks hP hS ⟨Nat.zero_le _, Nat.zero_le _⟩ dJ4_ensureCapacityInternal_38 hw
  · have hw := hw.2 c_11
    refine lv_aload_n hF.1 hF.2.1 dJ4_ensureCapacityInternal_17 rfl (lv_at hl 1 rfl) ?_
    refine lv_aload_n hF.1 hF.2.1 dJ4_ensureCapacityInternal_18 rfl (lv_at hl 1 rfl) ?_
    obtain ⟨fs_12, v_13, hx_14, hv_15, hw⟩ := hw
    refine x_get hF hC hP in_J5 rfl 0 (by decide) q228 (fun _ z => z) hx_14 hv_15 dJ4_ensureCapacityInternal_19 ?_
    refine lv_aload_n hF.1 hF.2.1 dJ4_ensureCapacityInternal_22 rfl (lv_at hl 1 rfl) ?_
    refine lv_iload_n hF.1 hF.2.1 dJ4_ensureCapacityInternal_23 rfl (lv_at hl 2 rfl) ?_
    obtain ⟨ho_18, hw⟩ := hw
    refine hk_i (hr_U (As := [.int p1]) (rest := [.ref v_13, .ref p0]) (T := TJ5) (N := 4) (ci := 10) hF hl.1 hC hP hS (metJ4_newCapacity l K _ _ X0 p0 p1) rfl (va_cwU (C := RJ5) (owner := "java/lang/AbstractStringBuilder") 1 (List.forall_mem_cons.mpr ⟨hC.up List.mem_cons_self, hF.2.2.2.2⟩) (lw_CUP q458 q2330 q460 q81 q461) rfl rfl rfl rfl (by decide +kernel) ⟨Nat.le_of_ble_eq_true rfl, Nat.le_of_ble_eq_true rfl⟩) ho_18 hw rfl rfl (Nat.le_of_ble_eq_true rfl) dJ4_ensureCapacityInternal_24 ⟨Nat.zero_le _, Nat.zero_le _⟩) hP hS (fun r_16 X_17 H locs hw hP hS => ?_)
    refine lv_aload_n hF.1 hF.2.1 dJ4_ensureCapacityInternal_27 rfl (lv_at hl 1 rfl) ?_
    obtain ⟨fs_19, v_20, hx_21, hv_22, hw⟩ := hw
    refine x_get hF hC hP in_J5 rfl 1 (by decide) q229 (fun _ z => z) hx_21 hv_22 dJ4_ensureCapacityInternal_28 ?_
    refine lv_ishl hF.1 hF.2.1 dJ4_ensureCapacityInternal_31 ?_
    obtain ⟨mc_25, ms_26, hc_27, hs_28, hw⟩ := hw
    refine hk_q (hr_S (As := [.ref v_13, .int (r_16 <<< (v_20 &&& 31))]) (rest := [.ref p0]) hF hl.1 hC hP hS (metJ12_copyOf l K mc_25 ms_26 _ _ X_17 v_13 (r_16 <<< (v_20 &&& 31))) (va_cwS 2 hF.2.2.2.2 (lw_S q473 q474 q90 q475) rfl rfl rfl (by decide +kernel) ⟨Nat.le_of_ble_eq_true rfl, Nat.le_of_ble_eq_true rfl⟩) hw rfl rfl (Nat.le_of_ble_eq_true rfl) dJ4_ensureCapacityInternal_32 ⟨hc_27, hs_28⟩) hP hS (fun r_23 X_24 H locs hw hP hS => ?_)
    obtain ⟨a_29, e_30, hw⟩ := hw
    subst e_30
    rw [va_rf_some]
    obtain ⟨fs_31, hx_32, hl_33, hw⟩ := hw
    refine x_put hF hC hP hS in_J5 rfl tyJ5 tyJ5_ok nmJ5 0 (by decide) q228 (fun _ z => z) rfl rfl rfl hx_32 hl_33 dJ4_ensureCapacityInternal_35 (fun H locs hP hS => ?_)
    generalize hup X_24 p0 (.inr (10, fs_31.set 0 (.ref a_29))) = X_34 at hP hw
    exact h_vret hF hr hlocks hP hS ⟨hc_27, hs_28⟩ dJ4_ensureCapacityInternal_38 hw
def wpJ4_append_3_56 (post : Option Nat → hX → Prop) (E : Nat) (mc ms : Nat) (x0 : Nat) (x1 : Int32) (X : hX) (kc ks : Nat) : Prop := gfA X x0 10 0 (fun v_2 => gfI X x0 10 3 (fun v_6 => pfV X x0 10 3 (.int (v_6 + 1)) (fun X_12 => False)))
def wpJ4_append_3_45 (post : Option Nat → hX → Prop) (E : Nat) (mc ms : Nat) (x0 : Nat) (x1 : Int32) (X : hX) (kc ks : Nat) : Prop := isO X x0 10 (wpJ4_isLatin1 (fun r_13 X_14 => ((r_13 = 0 → wpJ4_append_3_56 post E mc ms x0 x1 X_14 kc ks) ∧ (¬ r_13 = 0 → False))) E X x0)
def wpJ4_append_3 (post : Option Nat → hX → Prop) (E : Nat) (mc ms : Nat) (X : hX) (p0 : Nat) (p1 : Int32) : Prop := gfI X p0 10 3 (fun v_18 => isO X p0 10 ((∃ mc_23 ms_24 : Nat, 0 + mc_23 ≤ mc ∧ 0 + ms_24 ≤ ms ∧ wpJ4_ensureCapacityInternal (fun X_21 => isO X_21 p0 10 (wpJ4_isLatin1 (fun r_27 X_28 => ((r_27 = 0 → wpJ4_append_3_45 post E mc ms p0 p1 X_28 (0 + mc_23) (0 + ms_24)) ∧ (¬ r_27 = 0 → wpJ21_canEncode (fun r_31 => ((r_31 = 0 → wpJ4_append_3_45 post E mc ms p0 p1 X_28 (0 + mc_23) (0 + ms_24)) ∧ (¬ r_31 = 0 → gfA X_28 p0 10 0 (fun v_34 => gfI X_28 p0 10 3 (fun v_38 => pfV X_28 p0 10 3 (.int (v_38 + 1)) (fun X_44 => asB X_44 v_34 v_38 (Int8.toInt32 (Int32.toInt8 p1)) (fun X_49 => post (some p0) X_49))))))) p1))) E X_21 p0)) E mc_23 ms_24 X p0 (v_18 + 1))))
abbrev wsJ4_append_3 : List Cond := ws_ yJ4_append_3 cJ4_append_3 2 (some (.object "java/lang/AbstractStringBuilder"))
set_option maxHeartbeats 8000000 in
theorem metJ4_append_3 (l : Launch) (K : HK) (mc ms : Nat) (sz : Nat) (post : Option Nat → hX → Prop) (X0 : hX) (p0 : Nat) (p1 : Int32) : Met l yJ4_append_3 wsJ4_append_3 (rmh 4 104 mc ms) (hPc K X0 sz [.ref p0, .int p1] (wpJ4_append_3 post (K.2.2 0) mc ms X0 p0 p1)) (hQq post K X0 sz) mc ms (hA X0 sz) := by
  refine Met.ofW (cc := cJ4_append_3) (maxL := 2) (ret := (some (.object "java/lang/AbstractStringBuilder"))) (by decide) rfl ?_
  intro p e s m args below meth c s₁ B hml hv
  obtain ⟨rfl, hv⟩ := hv
  obtain ⟨hC, hP, hw⟩ := HC.of hv
  have hsz : s.heap.size = sz := hv.1
  subst hsz
  clear hv
  have hr := B.returns
  have hts := atoms_spec (ws := wsJ4_append_3) B.pre
  have hts : ∀ w ∈ lw_all, w.before _ s = true := fun w h => hts w (List.mem_cons_of_mem _ h)
  have hF : CallFix p m c cJ4_append_3 2 s ([.ref p0, .int p1] : List Value).toArray lw_all RJ4 := ⟨B.exec, B.bytes, hml, findClass_of_methodNamed B.named, hts⟩
  have hlocks := B.notSynchronized
  have hl := lv_entry ([.ref p0, .int p1]) (n := 2) (Nat.le_of_ble_eq_true rfl)
  rw [lg_entry_eq]
  generalize (lg_sl ([.ref p0, .int p1]) ++ List.replicate (2 - (lg_sl ([.ref p0, .int p1])).length) Slot.unset).toArray = ls at hl ⊢
  have hl : lv_has ls 2 [(0, .ref p0), (1, .int p1)] := hl
  have hS : va_S (hA X0 s.heap.size) s.heap s.heap [] := va_S.rf
  have T56 : ∀ (x0 : Nat) (x1 : Int32) (X : hX) (kc ks : Nat) (H : Heap) (locs : List Loc) (ls : Array Slot), hI K X0 s.heap.size X H → va_S (hA X0 s.heap.size) s.heap H locs → kc ≤ mc ∧ ks ≤ ms → lv_has ls 2 [(0, .ref x0), (1, .int x1)] → wpJ4_append_3_56 post (K.2.2 0) mc ms x0 x1 X kc ks → W p l e (rmh 4 104 mc ms) s m ([.ref p0, .int p1] : List Value).toArray below meth c H locs kc ks (MQ below (hQq post K X0 s.heap.size) ([.ref p0, .int p1] : List Value).toArray s mc ms (hA X0 s.heap.size)) (F0 m 56 ls []) := by
    intro x0 x1 X kc ks H locs ls hP hS hk hl hw
    unfold wpJ4_append_3_56 at hw
    refine lv_aload_n hF.1 hF.2.1 dJ4_append_3_56 rfl (lv_at hl 0 rfl) ?_
    obtain ⟨fs_1, v_2, hx_3, hv_4, hw⟩ := hw
    refine x_get hF hC hP in_J5 rfl 0 (by decide) q228 (fun _ z => z) hx_3 hv_4 dJ4_append_3_57 ?_
    refine lv_aload_n hF.1 hF.2.1 dJ4_append_3_60 rfl (lv_at hl 0 rfl) ?_
    refine lv_dup hF.1 hF.2.1 dJ4_append_3_61 rfl ?_
    obtain ⟨fs_5, v_6, hx_7, hv_8, hw⟩ := hw
    refine x_get hF hC hP in_J5 rfl 3 (by decide) q232 (fun _ z => z) hx_7 hv_8 dJ4_append_3_62 ?_
    refine lv_dup_x1 hF.1 hF.2.1 dJ4_append_3_65 rfl rfl ?_
    refine lv_iconst (v := 1) hF.1 hF.2.1 dJ4_append_3_66 (by decide) ?_
    refine lv_iadd hF.1 hF.2.1 dJ4_append_3_67 ?_
    obtain ⟨fs_9, hx_10, hl_11, hw⟩ := hw
    refine x_put hF hC hP hS in_J5 rfl tyJ5 tyJ5_ok nmJ5 3 (by decide) q232 (fun _ z => z) rfl rfl rfl hx_10 hl_11 dJ4_append_3_68 (fun H locs hP hS => ?_)
    generalize hup X x0 (.inr (10, fs_9.set 3 (.int (v_6 + 1)))) = X_12 at hP hw
    refine lv_iload_n hF.1 hF.2.1 dJ4_append_3_71 rfl (lv_at hl 1 rfl) ?_
    exact False.elim hw
  have T45 : ∀ (x0 : Nat) (x1 : Int32) (X : hX) (kc ks : Nat) (H : Heap) (locs : List Loc) (ls : Array Slot), hI K X0 s.heap.size X H → va_S (hA X0 s.heap.size) s.heap H locs → kc ≤ mc ∧ ks ≤ ms → lv_has ls 2 [(0, .ref x0), (1, .int x1)] → wpJ4_append_3_45 post (K.2.2 0) mc ms x0 x1 X kc ks → W p l e (rmh 4 104 mc ms) s m ([.ref p0, .int p1] : List Value).toArray below meth c H locs kc ks (MQ below (hQq post K X0 s.heap.size) ([.ref p0, .int p1] : List Value).toArray s mc ms (hA X0 s.heap.size)) (F0 m 45 ls []) := by
    intro x0 x1 X kc ks H locs ls hP hS hk hl hw
    unfold wpJ4_append_3_45 at hw
    refine lv_aload_n hF.1 hF.2.1 dJ4_append_3_45 rfl (lv_at hl 0 rfl) ?_
    obtain ⟨ho_15, hw⟩ := hw
    refine hk_i (hr_U (As := []) (rest := []) (T := TJ5) (N := 4) (ci := 10) hF hl.1 hC hP hS (metJ4_isLatin1 l K _ _ X x0) rfl (va_cwU (C := RJ5) (owner := "java/lang/AbstractStringBuilder") 0 hF.2.2.2.2 (lw_CU q487 q489 q490 q488 q81 q491) rfl rfl rfl rfl (by decide +kernel) ⟨Nat.le_of_ble_eq_true rfl, Nat.le_of_ble_eq_true rfl⟩) ho_15 hw rfl rfl (Nat.le_of_ble_eq_true rfl) dJ4_append_3_46 hk) hP hS (fun r_13 X_14 H locs hw hP hS => ?_)
    refine lv_if_eq (tgt := 56) hF.1 hF.2.1 dJ4_append_3_49 (by decide) (fun c_16 => ?_) (fun c_16 => ?_)
    · have hw := hw.1 c_16
      exact T56 x0 x1 X_14 kc ks _ _ ls hP hS hk (lv_sub hl [0, 1] rfl) hw
    · have hw := hw.2 c_16
      refine lv_aload_n hF.1 hF.2.1 dJ4_append_3_52 rfl (lv_at hl 0 rfl) ?_
      exact False.elim hw
  unfold wpJ4_append_3 at hw
  show W p l e (rmh 4 104 mc ms) s m _ below meth c _ _ _ _ _ _
  refine lv_aload_n hF.1 hF.2.1 dJ4_append_3_0 rfl (lv_at hl 0 rfl) ?_
  refine lv_aload_n hF.1 hF.2.1 dJ4_append_3_1 rfl (lv_at hl 0 rfl) ?_
  obtain ⟨fs_17, v_18, hx_19, hv_20, hw⟩ := hw
  refine x_get hF hC hP in_J5 rfl 3 (by decide) q232 (fun _ z => z) hx_19 hv_20 dJ4_append_3_2 ?_
  refine lv_iconst (v := 1) hF.1 hF.2.1 dJ4_append_3_5 (by decide) ?_
  refine lv_iadd hF.1 hF.2.1 dJ4_append_3_6 ?_
  obtain ⟨ho_22, hw⟩ := hw
  obtain ⟨mc_23, ms_24, hc_25, hs_26, hw⟩ := hw
  refine hk_v (hr_U (As := [.int (v_18 + 1)]) (rest := []) (T := TJ5) (N := 4) (ci := 10) hF hl.1 hC hP hS (metJ4_ensureCapacityInternal l K mc_23 ms_24 _ _ X0 p0 (v_18 + 1)) rfl (va_cwU (C := RJ5) (owner := "java/lang/AbstractStringBuilder") 1 (List.forall_mem_cons.mpr ⟨hC.up (List.mem_cons_of_mem _ List.mem_cons_self), hF.2.2.2.2⟩) (lw_CUP q454 q2329 q456 q81 q457) rfl rfl rfl rfl (by decide +kernel) ⟨Nat.le_of_ble_eq_true rfl, Nat.le_of_ble_eq_true rfl⟩) ho_22 hw rfl rfl (Nat.le_of_ble_eq_true rfl) dJ4_append_3_7 ⟨hc_25, hs_26⟩) hP hS (fun X_21 H locs hw hP hS => ?_)
  refine lv_aload_n hF.1 hF.2.1 dJ4_append_3_10 rfl (lv_at hl 0 rfl) ?_
  obtain ⟨ho_29, hw⟩ := hw
  refine hk_i (hr_U (As := []) (rest := []) (T := TJ5) (N := 4) (ci := 10) hF hl.1 hC hP hS (metJ4_isLatin1 l K _ _ X_21 p0) rfl (va_cwU (C := RJ5) (owner := "java/lang/AbstractStringBuilder") 0 hF.2.2.2.2 (lw_CU q487 q489 q490 q488 q81 q491) rfl rfl rfl rfl (by decide +kernel) ⟨Nat.le_of_ble_eq_true rfl, Nat.le_of_ble_eq_true rfl⟩) ho_29 hw rfl rfl (Nat.le_of_ble_eq_true rfl) dJ4_append_3_11 ⟨hc_25, hs_26⟩) hP hS (fun r_27 X_28 H locs hw hP hS => ?_)
  refine lv_if_eq (tgt := 45) hF.1 hF.2.1 dJ4_append_3_14 (by decide) (fun c_30 => ?_) (fun c_30 => ?_)
  · have hw := hw.1 c_30
    exact T45 p0 p1 X_28 (0 + mc_23) (0 + ms_24) _ _ ls hP hS ⟨hc_25, hs_26⟩ (lv_sub hl [0, 1] rfl) hw
  · have hw := hw.2 c_30
    refine lv_iload_n hF.1 hF.2.1 dJ4_append_3_17 rfl (lv_at hl 1 rfl) ?_
    refine hp_i (hrp_S (As := [.int p1]) (rest := []) hF hl.1 (metJ21_canEncode l _ p1) (va_cwS 1 hF.2.2.2.2 (lw_S q1551 q1552 q106 q1553) rfl rfl rfl (by decide +kernel) ⟨Nat.le_of_ble_eq_true rfl, Nat.le_of_ble_eq_true rfl⟩) hw rfl rfl (Nat.le_of_ble_eq_true rfl) dJ4_append_3_18 ⟨hc_25, hs_26⟩) (fun r_31 hw => ?_)
    refine lv_if_eq (tgt := 45) hF.1 hF.2.1 dJ4_append_3_21 (by decide) (fun c_32 => ?_) (fun c_32 => ?_)
    · have hw := hw.1 c_32
      exact T45 p0 p1 X_28 (0 + mc_23) (0 + ms_24) _ _ ls hP hS ⟨hc_25, hs_26⟩ (lv_sub hl [0, 1] rfl) hw
    · have hw := hw.2 c_32
      refine lv_aload_n hF.1 hF.2.1 dJ4_append_3_24 rfl (lv_at hl 0 rfl) ?_
      obtain ⟨fs_33, v_34, hx_35, hv_36, hw⟩ := hw
      refine x_get hF hC hP in_J5 rfl 0 (by decide) q228 (fun _ z => z) hx_35 hv_36 dJ4_append_3_25 ?_
      refine lv_aload_n hF.1 hF.2.1 dJ4_append_3_28 rfl (lv_at hl 0 rfl) ?_
      refine lv_dup hF.1 hF.2.1 dJ4_append_3_29 rfl ?_
      obtain ⟨fs_37, v_38, hx_39, hv_40, hw⟩ := hw
      refine x_get hF hC hP in_J5 rfl 3 (by decide) q232 (fun _ z => z) hx_39 hv_40 dJ4_append_3_30 ?_
      refine lv_dup_x1 hF.1 hF.2.1 dJ4_append_3_33 rfl rfl ?_
      refine lv_iconst (v := 1) hF.1 hF.2.1 dJ4_append_3_34 (by decide) ?_
      refine lv_iadd hF.1 hF.2.1 dJ4_append_3_35 ?_
      obtain ⟨fs_41, hx_42, hl_43, hw⟩ := hw
      refine x_put hF hC hP hS in_J5 rfl tyJ5 tyJ5_ok nmJ5 3 (by decide) q232 (fun _ z => z) rfl rfl rfl hx_42 hl_43 dJ4_append_3_36 (fun H locs hP hS => ?_)
      generalize hup X_28 p0 (.inr (10, fs_41.set 3 (.int (v_38 + 1)))) = X_44 at hP hw
      refine lv_iload_n hF.1 hF.2.1 dJ4_append_3_39 rfl (lv_at hl 1 rfl) ?_
      refine lv_i2b hF.1 hF.2.1 dJ4_append_3_40 rfl ?_
      obtain ⟨n_45, f_46, hx_47, hi_48, hw⟩ := hw
      refine x_bast hF hC hP hS hx_47 hi_48 dJ4_append_3_41 (fun H locs hP hS => ?_)
      generalize hup X_44 v_34 (.inl (2, n_45, .inl (upd f_46 (Int32.toNatClampNeg v_38) (vp_nar .byte (Int8.toInt32 (Int32.toInt8 p1)))))) = X_49 at hP hw
      refine lv_goto (tgt := 75) hF.1 hF.2.1 dJ4_append_3_42 (by decide) ?_
      refine lv_aload_n hF.1 hF.2.1 dJ4_append_3_75 rfl (lv_at hl 0 rfl) ?_
      exact h_aret (r := (some p0)) hF hr (Or.inl ⟨_, rfl⟩) hlocks hP hS ⟨hc_25, hs_26⟩ dJ4_append_3_76 hw
def wpJ5_append_3 (post : Option Nat → hX → Prop) (E : Nat) (mc ms : Nat) (X : hX) (p0 : Nat) (p1 : Int32) : Prop := isO X p0 10 ((∃ mc_4 ms_5 : Nat, 0 + mc_4 ≤ mc ∧ 0 + ms_5 ≤ ms ∧ wpJ4_append_3 (fun r_1 X_2 => (∃ a_8 : Nat, r_1 = some a_8 ∧ post (some p0) X_2)) E mc_4 ms_5 X p0 p1))
abbrev wsJ5_append_3 : List Cond := ws_ yJ5_append_3 cJ5_append_3 2 (some (.object "java/lang/StringBuilder"))
set_option maxHeartbeats 8000000 in
theorem metJ5_append_3 (l : Launch) (K : HK) (mc ms : Nat) (sz : Nat) (post : Option Nat → hX → Prop) (X0 : hX) (p0 : Nat) (p1 : Int32) : Met l yJ5_append_3 wsJ5_append_3 (rmh 5 125 mc ms) (hPc K X0 sz [.ref p0, .int p1] (wpJ5_append_3 post (K.2.2 0) mc ms X0 p0 p1)) (hQq post K X0 sz) mc ms (hA X0 sz) := by
  refine Met.ofW (cc := cJ5_append_3) (maxL := 2) (ret := (some (.object "java/lang/StringBuilder"))) (by decide) rfl ?_
  intro p e s m args below meth c s₁ B hml hv
  obtain ⟨rfl, hv⟩ := hv
  obtain ⟨hC, hP, hw⟩ := HC.of hv
  have hsz : s.heap.size = sz := hv.1
  subst hsz
  clear hv
  have hr := B.returns
  have hts := atoms_spec (ws := wsJ5_append_3) B.pre
  have hts : ∀ w ∈ lw_all, w.before _ s = true := fun w h => hts w (List.mem_cons_of_mem _ h)
  have hF : CallFix p m c cJ5_append_3 2 s ([.ref p0, .int p1] : List Value).toArray lw_all RJ5 := ⟨B.exec, B.bytes, hml, findClass_of_methodNamed B.named, hts⟩
  have hlocks := B.notSynchronized
  have hl := lv_entry ([.ref p0, .int p1]) (n := 2) (Nat.le_of_ble_eq_true rfl)
  rw [lg_entry_eq]
  generalize (lg_sl ([.ref p0, .int p1]) ++ List.replicate (2 - (lg_sl ([.ref p0, .int p1])).length) Slot.unset).toArray = ls at hl ⊢
  have hl : lv_has ls 2 [(0, .ref p0), (1, .int p1)] := hl
  have hS : va_S (hA X0 s.heap.size) s.heap s.heap [] := va_S.rf
  unfold wpJ5_append_3 at hw
  show W p l e (rmh 5 125 mc ms) s m _ below meth c _ _ _ _ _ _
  refine lv_aload_n hF.1 hF.2.1 dJ5_append_3_0 rfl (lv_at hl 0 rfl) ?_
  refine lv_iload_n hF.1 hF.2.1 dJ5_append_3_1 rfl (lv_at hl 1 rfl) ?_
  obtain ⟨ho_3, hw⟩ := hw
  obtain ⟨mc_4, ms_5, hc_6, hs_7, hw⟩ := hw
  refine hk_q (hr_SU (As := [.int p1]) (rest := []) (C := RJ5) (T := TJ5) (N := 4) (ci := 10) hF hl.1 hC hP hS (metJ4_append_3 l K mc_4 ms_5 _ _ X0 p0 p1) rfl (va_cwSU 1 hF.2.2.2.2 (lw_CSU q1548 q2339 q241 q1549 q81 q1550) rfl rfl rfl (by decide +kernel) ⟨Nat.le_of_ble_eq_true rfl, Nat.le_of_ble_eq_true rfl⟩) ho_3 hw rfl rfl (Nat.le_of_ble_eq_true rfl) dJ5_append_3_2 ⟨hc_6, hs_7⟩) hP hS (fun r_1 X_2 H locs hw hP hS => ?_)
  obtain ⟨a_8, e_9, hw⟩ := hw
  subst e_9
  rw [va_rf_some]
  refine lv_pop hF.1 hF.2.1 dJ5_append_3_5 rfl ?_
  refine lv_aload_n hF.1 hF.2.1 dJ5_append_3_6 rfl (lv_at hl 0 rfl) ?_
  exact h_aret (r := (some p0)) hF hr (Or.inl ⟨_, rfl⟩) hlocks hP hS ⟨hc_6, hs_7⟩ dJ5_append_3_7 hw
def wpJ4_charAt (post : Int32 → hX → Prop) (E : Nat) (X : hX) (p0 : Nat) (p1 : Int32) : Prop := gfI X p0 10 1 (fun v_2 => gfA X p0 10 0 (fun v_6 => gfI X p0 10 3 (fun v_10 => alen E X v_6 (fun v_13 => wpJ11_min (fun r_14 => wpJ6_checkIndex (fun X_15 => ((v_2 = 0 → alI X_15 2 v_6 p1 (fun v_21 => (narrow .char (.int (iChr (v_21 &&& 255))) = .int (iChr (v_21 &&& 255)) ∧ post (iChr (v_21 &&& 255)) X_15))) ∧ (¬ v_2 = 0 → False))) E X p1 r_14) v_10 (v_13 >>> (v_2 &&& 31))))))
abbrev wsJ4_charAt : List Cond := ws_ yJ4_charAt cJ4_charAt 5 (some .char)
set_option maxHeartbeats 8000000 in
theorem metJ4_charAt (l : Launch) (K : HK) (sz : Nat) (post : Int32 → hX → Prop) (X0 : hX) (p0 : Nat) (p1 : Int32) : Met l yJ4_charAt wsJ4_charAt (rmh 2 43 0 0) (hPc K X0 sz [.ref p0, .int p1] (wpJ4_charAt post (K.2.2 0) X0 p0 p1)) (hQi post K X0 sz) 0 0 (hA X0 sz) := by
  refine Met.ofW (cc := cJ4_charAt) (maxL := 5) (ret := (some .char)) (by decide) rfl ?_
  intro p e s m args below meth c s₁ B hml hv
  obtain ⟨rfl, hv⟩ := hv
  obtain ⟨hC, hP, hw⟩ := HC.of hv
  have hsz : s.heap.size = sz := hv.1
  subst hsz
  clear hv
  have hr := B.returns
  have hts := atoms_spec (ws := wsJ4_charAt) B.pre
  have hts : ∀ w ∈ lw_all, w.before _ s = true := fun w h => hts w (List.mem_cons_of_mem _ h)
  have hF : CallFix p m c cJ4_charAt 5 s ([.ref p0, .int p1] : List Value).toArray lw_all RJ4 := ⟨B.exec, B.bytes, hml, findClass_of_methodNamed B.named, hts⟩
  have hlocks := B.notSynchronized
  have hl := lv_entry ([.ref p0, .int p1]) (n := 5) (Nat.le_of_ble_eq_true rfl)
  rw [lg_entry_eq]
  generalize (lg_sl ([.ref p0, .int p1]) ++ List.replicate (5 - (lg_sl ([.ref p0, .int p1])).length) Slot.unset).toArray = ls at hl ⊢
  have hl : lv_has ls 5 [(0, .ref p0), (1, .int p1)] := hl
  have hS : va_S (hA X0 s.heap.size) s.heap s.heap [] := va_S.rf
  unfold wpJ4_charAt at hw
  show W p l e (rmh 2 43 0 0) s m _ below meth c _ _ _ _ _ _
  refine lv_aload_n hF.1 hF.2.1 dJ4_charAt_0 rfl (lv_at hl 0 rfl) ?_
  obtain ⟨fs_1, v_2, hx_3, hv_4, hw⟩ := hw
  refine x_get hF hC hP in_J5 rfl 1 (by decide) q229 (fun _ z => z) hx_3 hv_4 dJ4_charAt_1 ?_
  refine lv_istore_n (lv' := [(2, .int v_2), (0, .ref p0), (1, .int p1)]) hF.1 hF.2.1 dJ4_charAt_4 rfl hl (by decide) rfl (fun ls hl => ?_)
  refine lv_aload_n hF.1 hF.2.1 dJ4_charAt_5 rfl (lv_at hl 1 rfl) ?_
  obtain ⟨fs_5, v_6, hx_7, hv_8, hw⟩ := hw
  refine x_get hF hC hP in_J5 rfl 0 (by decide) q228 (fun _ z => z) hx_7 hv_8 dJ4_charAt_6 ?_
  refine lv_astore_n (lv' := [(3, .ref v_6), (2, .int v_2), (0, .ref p0), (1, .int p1)]) hF.1 hF.2.1 dJ4_charAt_9 rfl hl (by decide) rfl (fun ls hl => ?_)
  refine lv_aload_n hF.1 hF.2.1 dJ4_charAt_10 rfl (lv_at hl 2 rfl) ?_
  obtain ⟨fs_9, v_10, hx_11, hv_12, hw⟩ := hw
  refine x_get hF hC hP in_J5 rfl 3 (by decide) q232 (fun _ z => z) hx_11 hv_12 dJ4_charAt_11 ?_
  refine lv_aload_n hF.1 hF.2.1 dJ4_charAt_14 rfl (lv_at hl 0 rfl) ?_
  refine x_alen hF hC hP hS hw dJ4_charAt_15 (fun v_13 hw => ?_)
  refine lv_iload_n hF.1 hF.2.1 dJ4_charAt_16 rfl (lv_at hl 1 rfl) ?_
  refine lv_ishr hF.1 hF.2.1 dJ4_charAt_17 ?_
  refine hp_i (hrp_S (As := [.int v_10, .int (v_13 >>> (v_2 &&& 31))]) (rest := []) hF hl.1 (metJ11_min l _ v_10 (v_13 >>> (v_2 &&& 31))) (va_cwS 2 hF.2.2.2.2 (lw_S q1628 q312 q89 q313) rfl rfl rfl (by decide +kernel) ⟨Nat.le_of_ble_eq_true rfl, Nat.le_of_ble_eq_true rfl⟩) hw rfl rfl (Nat.le_of_ble_eq_true rfl) dJ4_charAt_18 ⟨Nat.le_refl _, Nat.le_refl _⟩) (fun r_14 hw => ?_)
  refine lv_istore (lv' := [(4, .int r_14), (3, .ref v_6), (2, .int v_2), (0, .ref p0), (1, .int p1)]) hF.1 hF.2.1 dJ4_charAt_21 hl (by decide) rfl (fun ls hl => ?_)
  refine lv_iload_n hF.1 hF.2.1 dJ4_charAt_23 rfl (lv_at hl 4 rfl) ?_
  refine lv_iload hF.1 hF.2.1 dJ4_charAt_24 (lv_at hl 0 rfl) ?_
  refine hk_v (hr_S (As := [.int p1, .int r_14]) (rest := []) hF hl.1 hC hP hS (metJ6_checkIndex l K _ _ X0 p1 r_14) (va_cwS 2 hF.2.2.2.2 (lw_S q1629 q1561 q83 q1562) rfl rfl rfl (by decide +kernel) ⟨Nat.le_of_ble_eq_true rfl, Nat.le_of_ble_eq_true rfl⟩) hw rfl rfl (Nat.le_of_ble_eq_true rfl) dJ4_charAt_26 ⟨Nat.le_refl _, Nat.le_refl _⟩) hP hS (fun X_15 H locs hw hP hS => ?_)
  refine lv_iload_n hF.1 hF.2.1 dJ4_charAt_29 rfl (lv_at hl 2 rfl) ?_
  refine lv_if_ne (tgt := 42) hF.1 hF.2.1 dJ4_charAt_30 (by decide) (fun c_16 => ?_) (fun c_16 => ?_)
  · have hw := hw.2 c_16
    refine lv_aload_n hF.1 hF.2.1 dJ4_charAt_42 rfl (lv_at hl 1 rfl) ?_
    refine lv_iload_n hF.1 hF.2.1 dJ4_charAt_43 rfl (lv_at hl 4 rfl) ?_
    exact False.elim hw
  · have hw := hw.1 c_16
    refine lv_aload_n hF.1 hF.2.1 dJ4_charAt_33 rfl (lv_at hl 1 rfl) ?_
    refine lv_iload_n hF.1 hF.2.1 dJ4_charAt_34 rfl (lv_at hl 4 rfl) ?_
    obtain ⟨n_17, f_18, hx_19, hi_20, hw⟩ := hw
    refine x_bald hF hC hP hx_19 hi_20 dJ4_charAt_35 ?_
    generalize f_18 (Int32.toNatClampNeg p1) = v_21 at hw ⊢
    refine lv_sipush (v := 255) hF.1 hF.2.1 dJ4_charAt_36 (by decide) ?_
    refine lv_iand hF.1 hF.2.1 dJ4_charAt_39 ?_
    refine lv_i2c hF.1 hF.2.1 dJ4_charAt_40 rfl ?_
    obtain ⟨h_22, hw⟩ := hw
    exact h_cret hF hr hlocks hP hS ⟨Nat.le_refl _, Nat.le_refl _⟩ dJ4_charAt_41 h_22 hw
def wpJ5_charAt (post : Int32 → hX → Prop) (E : Nat) (X : hX) (p0 : Nat) (p1 : Int32) : Prop := isO X p0 10 (wpJ4_charAt (fun r_1 X_2 => (narrow .char (.int r_1) = .int r_1 ∧ post r_1 X_2)) E X p0 p1)
abbrev wsJ5_charAt : List Cond := ws_ yJ5_charAt cJ5_charAt 2 (some .char)
set_option maxHeartbeats 8000000 in
theorem metJ5_charAt (l : Launch) (K : HK) (sz : Nat) (post : Int32 → hX → Prop) (X0 : hX) (p0 : Nat) (p1 : Int32) : Met l yJ5_charAt wsJ5_charAt (rmh 3 67 0 0) (hPc K X0 sz [.ref p0, .int p1] (wpJ5_charAt post (K.2.2 0) X0 p0 p1)) (hQi post K X0 sz) 0 0 (hA X0 sz) := by
  refine Met.ofW (cc := cJ5_charAt) (maxL := 2) (ret := (some .char)) (by decide) rfl ?_
  intro p e s m args below meth c s₁ B hml hv
  obtain ⟨rfl, hv⟩ := hv
  obtain ⟨hC, hP, hw⟩ := HC.of hv
  have hsz : s.heap.size = sz := hv.1
  subst hsz
  clear hv
  have hr := B.returns
  have hts := atoms_spec (ws := wsJ5_charAt) B.pre
  have hts : ∀ w ∈ lw_all, w.before _ s = true := fun w h => hts w (List.mem_cons_of_mem _ h)
  have hF : CallFix p m c cJ5_charAt 2 s ([.ref p0, .int p1] : List Value).toArray lw_all RJ5 := ⟨B.exec, B.bytes, hml, findClass_of_methodNamed B.named, hts⟩
  have hlocks := B.notSynchronized
  have hl := lv_entry ([.ref p0, .int p1]) (n := 2) (Nat.le_of_ble_eq_true rfl)
  rw [lg_entry_eq]
  generalize (lg_sl ([.ref p0, .int p1]) ++ List.replicate (2 - (lg_sl ([.ref p0, .int p1])).length) Slot.unset).toArray = ls at hl ⊢
  have hl : lv_has ls 2 [(0, .ref p0), (1, .int p1)] := hl
  have hS : va_S (hA X0 s.heap.size) s.heap s.heap [] := va_S.rf
  unfold wpJ5_charAt at hw
  show W p l e (rmh 3 67 0 0) s m _ below meth c _ _ _ _ _ _
  refine lv_aload_n hF.1 hF.2.1 dJ5_charAt_0 rfl (lv_at hl 0 rfl) ?_
  refine lv_iload_n hF.1 hF.2.1 dJ5_charAt_1 rfl (lv_at hl 1 rfl) ?_
  obtain ⟨ho_3, hw⟩ := hw
  refine hk_i (hr_SU (As := [.int p1]) (rest := []) (C := RJ5) (T := TJ5) (N := 4) (ci := 10) hF hl.1 hC hP hS (metJ4_charAt l K _ _ X0 p0 p1) rfl (va_cwSU 1 hF.2.2.2.2 (lw_CSU q1625 q2340 q241 q1626 q81 q1627) rfl rfl rfl (by decide +kernel) ⟨Nat.le_of_ble_eq_true rfl, Nat.le_of_ble_eq_true rfl⟩) ho_3 hw rfl rfl (Nat.le_of_ble_eq_true rfl) dJ5_charAt_2 ⟨Nat.le_refl _, Nat.le_refl _⟩) hP hS (fun r_1 X_2 H locs hw hP hS => ?_)
  obtain ⟨h_4, hw⟩ := hw
  exact h_cret hF hr hlocks hP hS ⟨Nat.le_refl _, Nat.le_refl _⟩ dJ5_charAt_5 h_4 hw
def wpJ4_setLength (post : hX → Prop) (E : Nat) (mc ms : Nat) (X : hX) (p0 : Nat) (p1 : Int32) : Prop := ((0 ≤ p1 → isO X p0 10 ((∃ mc_4 ms_5 : Nat, 0 + mc_4 ≤ mc ∧ 0 + ms_5 ≤ ms ∧ wpJ4_ensureCapacityInternal (fun X_2 => gfI X_2 p0 10 3 (fun v_9 => ((p1 ≤ v_9 → gfI X_2 p0 10 3 (fun v_14 => ((v_14 ≤ p1 → pfV X_2 p0 10 3 (.int p1) (fun X_21 => post X_21)) ∧ (¬ v_14 ≤ p1 → pfV X_2 p0 10 2 (.int 1) (fun X_25 => pfV X_25 p0 10 3 (.int p1) (fun X_29 => post X_29)))))) ∧ (¬ p1 ≤ v_9 → isO X_2 p0 10 (wpJ4_isLatin1 (fun r_30 X_31 => ((r_30 = 0 → gfA X_31 p0 10 0 (fun v_35 => gfI X_31 p0 10 3 (fun v_39 => False))) ∧ (¬ r_30 = 0 → gfA X_31 p0 10 0 (fun v_43 => gfI X_31 p0 10 3 (fun v_47 => False))))) E X_2 p0))))) E mc_4 ms_5 X p0 p1))) ∧ (¬ 0 ≤ p1 → False))
abbrev wsJ4_setLength : List Cond := ws_ yJ4_setLength cJ4_setLength 2 none
set_option maxHeartbeats 8000000 in
theorem metJ4_setLength (l : Launch) (K : HK) (mc ms : Nat) (sz : Nat) (post : hX → Prop) (X0 : hX) (p0 : Nat) (p1 : Int32) : Met l yJ4_setLength wsJ4_setLength (rmh 4 104 mc ms) (hPc K X0 sz [.ref p0, .int p1] (wpJ4_setLength post (K.2.2 0) mc ms X0 p0 p1)) (hQv post K X0 sz) mc ms (hA X0 sz) := by
  refine Met.ofW (cc := cJ4_setLength) (maxL := 2) (ret := none) (by decide) rfl ?_
  intro p e s m args below meth c s₁ B hml hv
  obtain ⟨rfl, hv⟩ := hv
  obtain ⟨hC, hP, hw⟩ := HC.of hv
  have hsz : s.heap.size = sz := hv.1
  subst hsz
  clear hv
  have hr := B.returns
  have hts := atoms_spec (ws := wsJ4_setLength) B.pre
  have hts : ∀ w ∈ lw_all, w.before _ s = true := fun w h => hts w (List.mem_cons_of_mem _ h)
  have hF : CallFix p m c cJ4_setLength 2 s ([.ref p0, .int p1] : List Value).toArray lw_all RJ4 := ⟨B.exec, B.bytes, hml, findClass_of_methodNamed B.named, hts⟩
  have hlocks := B.notSynchronized
  have hl := lv_entry ([.ref p0, .int p1]) (n := 2) (Nat.le_of_ble_eq_true rfl)
  rw [lg_entry_eq]
  generalize (lg_sl ([.ref p0, .int p1]) ++ List.replicate (2 - (lg_sl ([.ref p0, .int p1])).length) Slot.unset).toArray = ls at hl ⊢
  have hl : lv_has ls 2 [(0, .ref p0), (1, .int p1)] := hl
  have hS : va_S (hA X0 s.heap.size) s.heap s.heap [] := va_S.rf
  unfold wpJ4_setLength at hw
  show W p l e (rmh 4 104 mc ms) s m _ below meth c _ _ _ _ _ _
  refine lv_iload_n hF.1 hF.2.1 dJ4_setLength_0 rfl (lv_at hl 1 rfl) ?_
  refine lv_if_ge (tgt := 13) hF.1 hF.2.1 dJ4_setLength_1 (by decide) (fun c_1 => ?_) (fun c_1 => ?_)
  · have hw := hw.1 c_1
    refine lv_aload_n hF.1 hF.2.1 dJ4_setLength_13 rfl (lv_at hl 0 rfl) ?_
    refine lv_iload_n hF.1 hF.2.1 dJ4_setLength_14 rfl (lv_at hl 1 rfl) ?_
    obtain ⟨ho_3, hw⟩ := hw
    obtain ⟨mc_4, ms_5, hc_6, hs_7, hw⟩ := hw
    refine hk_v (hr_U (As := [.int p1]) (rest := []) (T := TJ5) (N := 4) (ci := 10) hF hl.1 hC hP hS (metJ4_ensureCapacityInternal l K mc_4 ms_5 _ _ X0 p0 p1) rfl (va_cwU (C := RJ5) (owner := "java/lang/AbstractStringBuilder") 1 (List.forall_mem_cons.mpr ⟨hC.up (List.mem_cons_of_mem _ List.mem_cons_self), hF.2.2.2.2⟩) (lw_CUP q454 q2329 q456 q81 q457) rfl rfl rfl rfl (by decide +kernel) ⟨Nat.le_of_ble_eq_true rfl, Nat.le_of_ble_eq_true rfl⟩) ho_3 hw rfl rfl (Nat.le_of_ble_eq_true rfl) dJ4_setLength_15 ⟨hc_6, hs_7⟩) hP hS (fun X_2 H locs hw hP hS => ?_)
    refine lv_aload_n hF.1 hF.2.1 dJ4_setLength_18 rfl (lv_at hl 0 rfl) ?_
    obtain ⟨fs_8, v_9, hx_10, hv_11, hw⟩ := hw
    refine x_get hF hC hP in_J5 rfl 3 (by decide) q232 (fun _ z => z) hx_10 hv_11 dJ4_setLength_19 ?_
    refine lv_iload_n hF.1 hF.2.1 dJ4_setLength_22 rfl (lv_at hl 1 rfl) ?_
    refine lv_icmp_ge (tgt := 63) hF.1 hF.2.1 dJ4_setLength_23 (by decide) (fun c_12 => ?_) (fun c_12 => ?_)
    · have hw := hw.1 c_12
      refine lv_aload_n hF.1 hF.2.1 dJ4_setLength_63 rfl (lv_at hl 0 rfl) ?_
      obtain ⟨fs_13, v_14, hx_15, hv_16, hw⟩ := hw
      refine x_get hF hC hP in_J5 rfl 3 (by decide) q232 (fun _ z => z) hx_15 hv_16 dJ4_setLength_64 ?_
      refine lv_iload_n hF.1 hF.2.1 dJ4_setLength_67 rfl (lv_at hl 1 rfl) ?_
      refine lv_icmp_le (tgt := 76) hF.1 hF.2.1 dJ4_setLength_68 (by decide) (fun c_17 => ?_) (fun c_17 => ?_)
      · have hw := hw.1 c_17
        refine lv_aload_n hF.1 hF.2.1 dJ4_setLength_76 rfl (lv_at hl 0 rfl) ?_
        refine lv_iload_n hF.1 hF.2.1 dJ4_setLength_77 rfl (lv_at hl 1 rfl) ?_
        obtain ⟨fs_18, hx_19, hl_20, hw⟩ := hw
        refine x_put hF hC hP hS in_J5 rfl tyJ5 tyJ5_ok nmJ5 3 (by decide) q232 (fun _ z => z) rfl rfl rfl hx_19 hl_20 dJ4_setLength_78 (fun H locs hP hS => ?_)
        generalize hup X_2 p0 (.inr (10, fs_18.set 3 (.int p1))) = X_21 at hP hw
        exact h_vret hF hr hlocks hP hS ⟨hc_6, hs_7⟩ dJ4_setLength_81 hw
      · have hw := hw.2 c_17
        refine lv_aload_n hF.1 hF.2.1 dJ4_setLength_71 rfl (lv_at hl 0 rfl) ?_
        refine lv_iconst (v := 1) hF.1 hF.2.1 dJ4_setLength_72 (by decide) ?_
        obtain ⟨fs_22, hx_23, hl_24, hw⟩ := hw
        refine x_put hF hC hP hS in_J5 rfl tyJ5 tyJ5_ok nmJ5 2 (by decide) q230 (fun _ z => z) rfl rfl rfl hx_23 hl_24 dJ4_setLength_73 (fun H locs hP hS => ?_)
        generalize hup X_2 p0 (.inr (10, fs_22.set 2 (.int 1))) = X_25 at hP hw
        refine lv_aload_n hF.1 hF.2.1 dJ4_setLength_76 rfl (lv_at hl 0 rfl) ?_
        refine lv_iload_n hF.1 hF.2.1 dJ4_setLength_77 rfl (lv_at hl 1 rfl) ?_
        obtain ⟨fs_26, hx_27, hl_28, hw⟩ := hw
        refine x_put hF hC hP hS in_J5 rfl tyJ5 tyJ5_ok nmJ5 3 (by decide) q232 (fun _ z => z) rfl rfl rfl hx_27 hl_28 dJ4_setLength_78 (fun H locs hP hS => ?_)
        generalize hup X_25 p0 (.inr (10, fs_26.set 3 (.int p1))) = X_29 at hP hw
        exact h_vret hF hr hlocks hP hS ⟨hc_6, hs_7⟩ dJ4_setLength_81 hw
    · have hw := hw.2 c_12
      refine lv_aload_n hF.1 hF.2.1 dJ4_setLength_26 rfl (lv_at hl 0 rfl) ?_
      obtain ⟨ho_32, hw⟩ := hw
      refine hk_i (hr_U (As := []) (rest := []) (T := TJ5) (N := 4) (ci := 10) hF hl.1 hC hP hS (metJ4_isLatin1 l K _ _ X_2 p0) rfl (va_cwU (C := RJ5) (owner := "java/lang/AbstractStringBuilder") 0 hF.2.2.2.2 (lw_CU q487 q489 q490 q488 q81 q491) rfl rfl rfl rfl (by decide +kernel) ⟨Nat.le_of_ble_eq_true rfl, Nat.le_of_ble_eq_true rfl⟩) ho_32 hw rfl rfl (Nat.le_of_ble_eq_true rfl) dJ4_setLength_27 ⟨hc_6, hs_7⟩) hP hS (fun r_30 X_31 H locs hw hP hS => ?_)
      refine lv_if_eq (tgt := 48) hF.1 hF.2.1 dJ4_setLength_30 (by decide) (fun c_33 => ?_) (fun c_33 => ?_)
      · have hw := hw.1 c_33
        refine lv_aload_n hF.1 hF.2.1 dJ4_setLength_48 rfl (lv_at hl 0 rfl) ?_
        obtain ⟨fs_34, v_35, hx_36, hv_37, hw⟩ := hw
        refine x_get hF hC hP in_J5 rfl 0 (by decide) q228 (fun _ z => z) hx_36 hv_37 dJ4_setLength_49 ?_
        refine lv_aload_n hF.1 hF.2.1 dJ4_setLength_52 rfl (lv_at hl 0 rfl) ?_
        obtain ⟨fs_38, v_39, hx_40, hv_41, hw⟩ := hw
        refine x_get hF hC hP in_J5 rfl 3 (by decide) q232 (fun _ z => z) hx_40 hv_41 dJ4_setLength_53 ?_
        refine lv_iload_n hF.1 hF.2.1 dJ4_setLength_56 rfl (lv_at hl 1 rfl) ?_
        exact False.elim hw
      · have hw := hw.2 c_33
        refine lv_aload_n hF.1 hF.2.1 dJ4_setLength_33 rfl (lv_at hl 0 rfl) ?_
        obtain ⟨fs_42, v_43, hx_44, hv_45, hw⟩ := hw
        refine x_get hF hC hP in_J5 rfl 0 (by decide) q228 (fun _ z => z) hx_44 hv_45 dJ4_setLength_34 ?_
        refine lv_aload_n hF.1 hF.2.1 dJ4_setLength_37 rfl (lv_at hl 0 rfl) ?_
        obtain ⟨fs_46, v_47, hx_48, hv_49, hw⟩ := hw
        refine x_get hF hC hP in_J5 rfl 3 (by decide) q232 (fun _ z => z) hx_48 hv_49 dJ4_setLength_38 ?_
        refine lv_iload_n hF.1 hF.2.1 dJ4_setLength_41 rfl (lv_at hl 1 rfl) ?_
        exact False.elim hw
  · have hw := hw.2 c_1
    exact False.elim hw
def wpJ5_setLength (post : hX → Prop) (E : Nat) (mc ms : Nat) (X : hX) (p0 : Nat) (p1 : Int32) : Prop := isO X p0 10 ((∃ mc_3 ms_4 : Nat, 0 + mc_3 ≤ mc ∧ 0 + ms_4 ≤ ms ∧ wpJ4_setLength (fun X_1 => post X_1) E mc_3 ms_4 X p0 p1))
abbrev wsJ5_setLength : List Cond := ws_ yJ5_setLength cJ5_setLength 2 none
set_option maxHeartbeats 8000000 in
theorem metJ5_setLength (l : Launch) (K : HK) (mc ms : Nat) (sz : Nat) (post : hX → Prop) (X0 : hX) (p0 : Nat) (p1 : Int32) : Met l yJ5_setLength wsJ5_setLength (rmh 5 125 mc ms) (hPc K X0 sz [.ref p0, .int p1] (wpJ5_setLength post (K.2.2 0) mc ms X0 p0 p1)) (hQv post K X0 sz) mc ms (hA X0 sz) := by
  refine Met.ofW (cc := cJ5_setLength) (maxL := 2) (ret := none) (by decide) rfl ?_
  intro p e s m args below meth c s₁ B hml hv
  obtain ⟨rfl, hv⟩ := hv
  obtain ⟨hC, hP, hw⟩ := HC.of hv
  have hsz : s.heap.size = sz := hv.1
  subst hsz
  clear hv
  have hr := B.returns
  have hts := atoms_spec (ws := wsJ5_setLength) B.pre
  have hts : ∀ w ∈ lw_all, w.before _ s = true := fun w h => hts w (List.mem_cons_of_mem _ h)
  have hF : CallFix p m c cJ5_setLength 2 s ([.ref p0, .int p1] : List Value).toArray lw_all RJ5 := ⟨B.exec, B.bytes, hml, findClass_of_methodNamed B.named, hts⟩
  have hlocks := B.notSynchronized
  have hl := lv_entry ([.ref p0, .int p1]) (n := 2) (Nat.le_of_ble_eq_true rfl)
  rw [lg_entry_eq]
  generalize (lg_sl ([.ref p0, .int p1]) ++ List.replicate (2 - (lg_sl ([.ref p0, .int p1])).length) Slot.unset).toArray = ls at hl ⊢
  have hl : lv_has ls 2 [(0, .ref p0), (1, .int p1)] := hl
  have hS : va_S (hA X0 s.heap.size) s.heap s.heap [] := va_S.rf
  unfold wpJ5_setLength at hw
  show W p l e (rmh 5 125 mc ms) s m _ below meth c _ _ _ _ _ _
  refine lv_aload_n hF.1 hF.2.1 dJ5_setLength_0 rfl (lv_at hl 0 rfl) ?_
  refine lv_iload_n hF.1 hF.2.1 dJ5_setLength_1 rfl (lv_at hl 1 rfl) ?_
  obtain ⟨ho_2, hw⟩ := hw
  obtain ⟨mc_3, ms_4, hc_5, hs_6, hw⟩ := hw
  refine hk_v (hr_SU (As := [.int p1]) (rest := []) (C := RJ5) (T := TJ5) (N := 4) (ci := 10) hF hl.1 hC hP hS (metJ4_setLength l K mc_3 ms_4 _ _ X0 p0 p1) rfl (va_cwSU 1 hF.2.2.2.2 (lw_CSU q451 q2328 q241 q452 q81 q453) rfl rfl rfl (by decide +kernel) ⟨Nat.le_of_ble_eq_true rfl, Nat.le_of_ble_eq_true rfl⟩) ho_2 hw rfl rfl (Nat.le_of_ble_eq_true rfl) dJ5_setLength_2 ⟨hc_5, hs_6⟩) hP hS (fun X_1 H locs hw hP hS => ?_)
  exact h_vret hF hr hlocks hP hS ⟨hc_5, hs_6⟩ dJ5_setLength_5 hw

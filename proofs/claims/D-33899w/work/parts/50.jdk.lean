/-! ArrayList, ArrayDeque, walked by program -/
set_option maxRecDepth 100000
def wpJ11_max (post : Int32 → Prop) (p0 : Int32) (p1 : Int32) : Prop := ((p0 < p1 → post p1) ∧ (¬ p0 < p1 → post p0))
abbrev wsJ11_max : List Cond := ws_ yJ11_max cJ11_max 2 (some .int)
set_option maxHeartbeats 8000000 in
theorem metJ11_max (l : Launch) (post : Int32 → Prop) (p0 : Int32) (p1 : Int32) : Met l yJ11_max wsJ11_max (rmo 0 0) (sPre [.int p0, .int p1] (wpJ11_max post p0 p1)) (vp_Si post) 0 0 (fun _ => False) := by
  refine va_MetF (cc := cJ11_max) (maxL := 2) (ret := (some .int)) (by decide +kernel) rfl ?_
  intro p e s m args below meth c s₁ B hml hv
  obtain ⟨rfl, hw⟩ := hv
  have hx := B.exec
  have hb := B.bytes
  have hr := B.returns
  have hts := atoms_spec (ws := wsJ11_max) B.pre
  have hts : ∀ w ∈ lw_all, w.before _ s = true := fun w h => hts w (List.mem_cons_of_mem _ h)
  have hown : s.vm.findClass RJ11 = some m.cls := findClass_of_methodNamed B.named
  have hlocks := B.notSynchronized
  have hl := lv_entry ([.int p0, .int p1]) (n := 2) (Nat.le_of_ble_eq_true rfl)
  rw [lg_entry_eq]
  generalize (lg_sl ([.int p0, .int p1]) ++ List.replicate (2 - (lg_sl ([.int p0, .int p1])).length) Slot.unset).toArray = ls at hl ⊢
  have hl : lv_has ls 2 [(0, .int p0), (1, .int p1)] := hl
  unfold wpJ11_max at hw
  refine lv_iload_n hx hb dJ11_max_0 rfl (lv_at hl 0 rfl) ?_
  refine lv_iload_n hx hb dJ11_max_1 rfl (lv_at hl 1 rfl) ?_
  refine lv_icmp_lt (tgt := 9) hx hb dJ11_max_2 (by decide) (fun c_1 => ?_) (fun c_1 => ?_)
  · have hw := hw.1 c_1
    refine lv_iload_n hx hb dJ11_max_9 rfl (lv_at hl 1 rfl) ?_
    exact s_iret hx hb hr hlocks dJ11_max_10 hw
  · have hw := hw.2 c_1
    refine lv_iload_n hx hb dJ11_max_5 rfl (lv_at hl 0 rfl) ?_
    refine lv_goto (tgt := 10) hx hb dJ11_max_6 (by decide) ?_
    exact s_iret hx hb hr hlocks dJ11_max_10 hw
def wpJ11_min (post : Int32 → Prop) (p0 : Int32) (p1 : Int32) : Prop := ((p1 < p0 → post p1) ∧ (¬ p1 < p0 → post p0))
abbrev wsJ11_min : List Cond := ws_ yJ11_min cJ11_min 2 (some .int)
set_option maxHeartbeats 8000000 in
theorem metJ11_min (l : Launch) (post : Int32 → Prop) (p0 : Int32) (p1 : Int32) : Met l yJ11_min wsJ11_min (rmo 0 0) (sPre [.int p0, .int p1] (wpJ11_min post p0 p1)) (vp_Si post) 0 0 (fun _ => False) := by
  refine va_MetF (cc := cJ11_min) (maxL := 2) (ret := (some .int)) (by decide +kernel) rfl ?_
  intro p e s m args below meth c s₁ B hml hv
  obtain ⟨rfl, hw⟩ := hv
  have hx := B.exec
  have hb := B.bytes
  have hr := B.returns
  have hts := atoms_spec (ws := wsJ11_min) B.pre
  have hts : ∀ w ∈ lw_all, w.before _ s = true := fun w h => hts w (List.mem_cons_of_mem _ h)
  have hown : s.vm.findClass RJ11 = some m.cls := findClass_of_methodNamed B.named
  have hlocks := B.notSynchronized
  have hl := lv_entry ([.int p0, .int p1]) (n := 2) (Nat.le_of_ble_eq_true rfl)
  rw [lg_entry_eq]
  generalize (lg_sl ([.int p0, .int p1]) ++ List.replicate (2 - (lg_sl ([.int p0, .int p1])).length) Slot.unset).toArray = ls at hl ⊢
  have hl : lv_has ls 2 [(0, .int p0), (1, .int p1)] := hl
  unfold wpJ11_min at hw
  refine lv_iload_n hx hb dJ11_min_0 rfl (lv_at hl 0 rfl) ?_
  refine lv_iload_n hx hb dJ11_min_1 rfl (lv_at hl 1 rfl) ?_
  refine lv_icmp_gt (tgt := 9) hx hb dJ11_min_2 (by decide) (fun c_1 => ?_) (fun c_1 => ?_)
  · have hw := hw.1 c_1
    refine lv_iload_n hx hb dJ11_min_9 rfl (lv_at hl 1 rfl) ?_
    exact s_iret hx hb hr hlocks dJ11_min_10 hw
  · have hw := hw.2 c_1
    refine lv_iload_n hx hb dJ11_min_5 rfl (lv_at hl 0 rfl) ?_
    refine lv_goto (tgt := 10) hx hb dJ11_min_6 (by decide) ?_
    exact s_iret hx hb hr hlocks dJ11_min_10 hw
def wpJ11_abs (post : Int64 → Prop) (p0 : Int64) : Prop := ((0 ≤ p0 → post p0) ∧ (¬ 0 ≤ p0 → post (-p0)))
abbrev wsJ11_abs : List Cond := ws_ yJ11_abs cJ11_abs 2 (some .long)
set_option maxHeartbeats 8000000 in
theorem metJ11_abs (l : Launch) (post : Int64 → Prop) (p0 : Int64) : Met l yJ11_abs wsJ11_abs (rmo 0 0) (sPre [.long p0] (wpJ11_abs post p0)) (vp_Sl post) 0 0 (fun _ => False) := by
  refine va_MetF (cc := cJ11_abs) (maxL := 2) (ret := (some .long)) (by decide +kernel) rfl ?_
  intro p e s m args below meth c s₁ B hml hv
  obtain ⟨rfl, hw⟩ := hv
  have hx := B.exec
  have hb := B.bytes
  have hr := B.returns
  have hts := atoms_spec (ws := wsJ11_abs) B.pre
  have hts : ∀ w ∈ lw_all, w.before _ s = true := fun w h => hts w (List.mem_cons_of_mem _ h)
  have hown : s.vm.findClass RJ11 = some m.cls := findClass_of_methodNamed B.named
  have hlocks := B.notSynchronized
  have hl := lv_entry ([.long p0]) (n := 2) (Nat.le_of_ble_eq_true rfl)
  rw [lg_entry_eq]
  generalize (lg_sl ([.long p0]) ++ List.replicate (2 - (lg_sl ([.long p0])).length) Slot.unset).toArray = ls at hl ⊢
  have hl : lv_has ls 2 [(0, .long p0)] := hl
  unfold wpJ11_abs at hw
  refine lv_lload_n hx hb dJ11_abs_0 rfl (lv_at hl 0 rfl) ?_
  refine lv_lconst (v := 0) hx hb dJ11_abs_1 (by decide) ?_
  refine W.lcmp hx hb dJ11_abs_2 ?_
  refine lv_if_ge (tgt := 11) hx hb dJ11_abs_3 (by decide) (fun c_1 => ?_) (fun c_1 => ?_)
  · rw [lc_ge] at c_1
    have hw := hw.1 c_1
    refine lv_lload_n hx hb dJ11_abs_11 rfl (lv_at hl 0 rfl) ?_
    exact s_lret hx hb hr hlocks dJ11_abs_12 hw
  · rw [lc_ge] at c_1
    have hw := hw.2 c_1
    refine lv_lload_n hx hb dJ11_abs_6 rfl (lv_at hl 0 rfl) ?_
    refine lv_lneg hx hb dJ11_abs_7 ?_
    refine lv_goto (tgt := 12) hx hb dJ11_abs_8 (by decide) ?_
    exact s_lret hx hb hr hlocks dJ11_abs_12 hw
def wpJ11_abs_2 (post : Int32 → Prop) (p0 : Int32) : Prop := ((0 ≤ p0 → post p0) ∧ (¬ 0 ≤ p0 → post (-p0)))
abbrev wsJ11_abs_2 : List Cond := ws_ yJ11_abs_2 cJ11_abs_2 1 (some .int)
set_option maxHeartbeats 8000000 in
theorem metJ11_abs_2 (l : Launch) (post : Int32 → Prop) (p0 : Int32) : Met l yJ11_abs_2 wsJ11_abs_2 (rmo 0 0) (sPre [.int p0] (wpJ11_abs_2 post p0)) (vp_Si post) 0 0 (fun _ => False) := by
  refine va_MetF (cc := cJ11_abs_2) (maxL := 1) (ret := (some .int)) (by decide +kernel) rfl ?_
  intro p e s m args below meth c s₁ B hml hv
  obtain ⟨rfl, hw⟩ := hv
  have hx := B.exec
  have hb := B.bytes
  have hr := B.returns
  have hts := atoms_spec (ws := wsJ11_abs_2) B.pre
  have hts : ∀ w ∈ lw_all, w.before _ s = true := fun w h => hts w (List.mem_cons_of_mem _ h)
  have hown : s.vm.findClass RJ11 = some m.cls := findClass_of_methodNamed B.named
  have hlocks := B.notSynchronized
  have hl := lv_entry ([.int p0]) (n := 1) (Nat.le_of_ble_eq_true rfl)
  rw [lg_entry_eq]
  generalize (lg_sl ([.int p0]) ++ List.replicate (1 - (lg_sl ([.int p0])).length) Slot.unset).toArray = ls at hl ⊢
  have hl : lv_has ls 1 [(0, .int p0)] := hl
  unfold wpJ11_abs_2 at hw
  refine lv_iload_n hx hb dJ11_abs_2_0 rfl (lv_at hl 0 rfl) ?_
  refine lv_if_ge (tgt := 9) hx hb dJ11_abs_2_1 (by decide) (fun c_1 => ?_) (fun c_1 => ?_)
  · have hw := hw.1 c_1
    refine lv_iload_n hx hb dJ11_abs_2_9 rfl (lv_at hl 0 rfl) ?_
    exact s_iret hx hb hr hlocks dJ11_abs_2_10 hw
  · have hw := hw.2 c_1
    refine lv_iload_n hx hb dJ11_abs_2_4 rfl (lv_at hl 0 rfl) ?_
    refine lv_ineg hx hb dJ11_abs_2_5 ?_
    refine lv_goto (tgt := 10) hx hb dJ11_abs_2_6 (by decide) ?_
    exact s_iret hx hb hr hlocks dJ11_abs_2_10 hw
def wpJ0_init (post : hX → Prop) (E : Nat) (X : hX) (p0 : Nat) : Prop := post X
abbrev wsJ0_init : List Cond := ws_ yJ0_init cJ0_init 1 none
set_option maxHeartbeats 8000000 in
theorem metJ0_init (l : Launch) (K : HK) (sz : Nat) (post : hX → Prop) (X0 : hX) (p0 : Nat) : Met l yJ0_init wsJ0_init (rmh 1 20 0 0) (hPc K X0 sz [.ref p0] (wpJ0_init post (K.2.2 0) X0 p0)) (hQv post K X0 sz) 0 0 (hA X0 sz) := by
  refine Met.ofW (cc := cJ0_init) (maxL := 1) (ret := none) (by decide) rfl ?_
  intro p e s m args below meth c s₁ B hml hv
  obtain ⟨rfl, hv⟩ := hv
  obtain ⟨hC, hP, hw⟩ := HC.of hv
  have hsz : s.heap.size = sz := hv.1
  subst hsz
  clear hv
  have hr := B.returns
  have hts := atoms_spec (ws := wsJ0_init) B.pre
  have hts : ∀ w ∈ lw_all, w.before _ s = true := fun w h => hts w (List.mem_cons_of_mem _ h)
  have hF : CallFix p m c cJ0_init 1 s ([.ref p0] : List Value).toArray lw_all RJ0 := ⟨B.exec, B.bytes, hml, findClass_of_methodNamed B.named, hts⟩
  have hlocks := B.notSynchronized
  have hin : meth.name = "<init>" := (name_of_methodNamed B.named B.method).1
  have hl := lv_entry ([.ref p0]) (n := 1) (Nat.le_of_ble_eq_true rfl)
  rw [lg_entry_eq]
  generalize (lg_sl ([.ref p0]) ++ List.replicate (1 - (lg_sl ([.ref p0])).length) Slot.unset).toArray = ls at hl ⊢
  have hl : lv_has ls 1 [(0, .ref p0)] := hl
  have hS : va_S (hA X0 s.heap.size) s.heap s.heap [] := va_S.rf
  unfold wpJ0_init at hw
  show W p l e (rmh 1 20 0 0) s m _ below meth c _ _ _ _ _ _
  refine lv_aload_n hF.1 hF.2.1 dJ0_init_0 rfl (lv_at hl 0 rfl) ?_
  refine W.objInit hF.1 hF.2.1 hF.2.2.2.1 (hF.2.2.2.2 _ q135) (hF.2.2.2.2 _ q116) (hF.2.2.2.2 _ q117) rfl (by rw [hF.2.2.1]; exact hl.1) rfl dJ0_init_1 (Nat.le_of_ble_eq_true rfl) (Nat.le_of_ble_eq_true rfl) ?_
  refine W.eq (g2 := F0 m 4 ls []) rfl ?_
  exact h_vret hF hr hlocks hP hS ⟨Nat.le_refl _, Nat.le_refl _⟩ dJ0_init_4 hw
def wpJ1_init (post : hX → Prop) (E : Nat) (X : hX) (p0 : Nat) : Prop := wpJ0_init (fun X_1 => pfV X_1 p0 8 0 (.int 0) (fun X_5 => post X_5)) E X p0
abbrev wsJ1_init : List Cond := ws_ yJ1_init cJ1_init 1 none
set_option maxHeartbeats 8000000 in
theorem metJ1_init (l : Launch) (K : HK) (sz : Nat) (post : hX → Prop) (X0 : hX) (p0 : Nat) : Met l yJ1_init wsJ1_init (rmh 2 40 0 0) (hPc K X0 sz [.ref p0] (wpJ1_init post (K.2.2 0) X0 p0)) (hQv post K X0 sz) 0 0 (hA X0 sz) := by
  refine Met.ofW (cc := cJ1_init) (maxL := 1) (ret := none) (by decide) rfl ?_
  intro p e s m args below meth c s₁ B hml hv
  obtain ⟨rfl, hv⟩ := hv
  obtain ⟨hC, hP, hw⟩ := HC.of hv
  have hsz : s.heap.size = sz := hv.1
  subst hsz
  clear hv
  have hr := B.returns
  have hts := atoms_spec (ws := wsJ1_init) B.pre
  have hts : ∀ w ∈ lw_all, w.before _ s = true := fun w h => hts w (List.mem_cons_of_mem _ h)
  have hF : CallFix p m c cJ1_init 1 s ([.ref p0] : List Value).toArray lw_all RJ1 := ⟨B.exec, B.bytes, hml, findClass_of_methodNamed B.named, hts⟩
  have hlocks := B.notSynchronized
  have hin : meth.name = "<init>" := (name_of_methodNamed B.named B.method).1
  have hl := lv_entry ([.ref p0]) (n := 1) (Nat.le_of_ble_eq_true rfl)
  rw [lg_entry_eq]
  generalize (lg_sl ([.ref p0]) ++ List.replicate (1 - (lg_sl ([.ref p0])).length) Slot.unset).toArray = ls at hl ⊢
  have hl : lv_has ls 1 [(0, .ref p0)] := hl
  have hS : va_S (hA X0 s.heap.size) s.heap s.heap [] := va_S.rf
  unfold wpJ1_init at hw
  show W p l e (rmh 2 40 0 0) s m _ below meth c _ _ _ _ _ _
  refine lv_aload_n hF.1 hF.2.1 dJ1_init_0 rfl (lv_at hl 0 rfl) ?_
  refine hk_v (hr_I (As := []) (rest := []) hF hl.1 hC hP hS (metJ0_init l K _ _ X0 p0) (cwI 0 hF.2.2.2.2 (lw_meth q134) rfl rfl rfl (hF.2.2.2.2 _ q77) (hF.2.2.2.2 _ q132) (hF.2.2.2.2 _ q133) rfl (by decide +kernel) ⟨Nat.le_of_ble_eq_true rfl, Nat.le_of_ble_eq_true rfl⟩) hw rfl rfl (Nat.le_of_ble_eq_true rfl) dJ1_init_1 ⟨Nat.le_refl _, Nat.le_refl _⟩) hP hS (fun X_1 H locs hw hP hS => ?_)
  refine lv_aload_n hF.1 hF.2.1 dJ1_init_4 rfl (lv_at hl 0 rfl) ?_
  refine lv_iconst (v := 0) hF.1 hF.2.1 dJ1_init_5 (by decide) ?_
  obtain ⟨fs_2, hx_3, hl_4, hw⟩ := hw
  refine x_put hF hC hP hS in_J2 rfl tyJ2 tyJ2_ok nmJ2 0 (by decide) q140 (fun _ z => z) rfl rfl rfl hx_3 hl_4 dJ1_init_6 (fun H locs hP hS => ?_)
  generalize hup X_1 p0 (.inr (8, fs_2.set 0 (.int 0))) = X_5 at hP hw
  exact h_vret hF hr hlocks hP hS ⟨Nat.le_refl _, Nat.le_refl _⟩ dJ1_init_9 hw
def wpJ9_checkIndex_9 (post : Int32 → hX → Prop) (E : Nat) (x0 : Int32) (x1 : Int32) (x2 : Option Nat) (X : hX) : Prop := False
def wpJ9_checkIndex (post : Int32 → hX → Prop) (E : Nat) (X : hX) (p0 : Int32) (p1 : Int32) (p2 : Option Nat) : Prop := ((p0 < 0 → wpJ9_checkIndex_9 post E p0 p1 p2 X) ∧ (¬ p0 < 0 → ((p0 < p1 → post p0 X) ∧ (¬ p0 < p1 → wpJ9_checkIndex_9 post E p0 p1 p2 X))))
abbrev wsJ9_checkIndex : List Cond := ws_ yJ9_checkIndex cJ9_checkIndex 3 (some .int)
set_option maxHeartbeats 8000000 in
theorem metJ9_checkIndex (l : Launch) (K : HK) (sz : Nat) (post : Int32 → hX → Prop) (X0 : hX) (p0 : Int32) (p1 : Int32) (p2 : Option Nat) : Met l yJ9_checkIndex wsJ9_checkIndex (rmh 0 0 0 0) (hPc K X0 sz [.int p0, .int p1, va_rf p2] (wpJ9_checkIndex post (K.2.2 0) X0 p0 p1 p2)) (hQi post K X0 sz) 0 0 (hA X0 sz) := by
  refine Met.ofW (cc := cJ9_checkIndex) (maxL := 3) (ret := (some .int)) (by decide) rfl ?_
  intro p e s m args below meth c s₁ B hml hv
  obtain ⟨rfl, hv⟩ := hv
  obtain ⟨hC, hP, hw⟩ := HC.of hv
  have hsz : s.heap.size = sz := hv.1
  subst hsz
  clear hv
  have hr := B.returns
  have hts := atoms_spec (ws := wsJ9_checkIndex) B.pre
  have hts : ∀ w ∈ lw_all, w.before _ s = true := fun w h => hts w (List.mem_cons_of_mem _ h)
  have hF : CallFix p m c cJ9_checkIndex 3 s ([.int p0, .int p1, va_rf p2] : List Value).toArray lw_all RJ9 := ⟨B.exec, B.bytes, hml, findClass_of_methodNamed B.named, hts⟩
  have hlocks := B.notSynchronized
  have hl : lv_has (lg_sl ([.int p0, .int p1, va_rf p2]) ++ List.replicate (3 - (lg_sl ([.int p0, .int p1, va_rf p2])).length) Slot.unset).toArray 3 [(0, .int p0), (1, .int p1), (2, va_rf p2)] := by cases p2 <;> exact lv_entry _ (n := 3) (Nat.le_of_ble_eq_true rfl)
  rw [lg_entry_eq]
  generalize (lg_sl ([.int p0, .int p1, va_rf p2]) ++ List.replicate (3 - (lg_sl ([.int p0, .int p1, va_rf p2])).length) Slot.unset).toArray = ls at hl ⊢
  have hl : lv_has ls 3 [(0, .int p0), (1, .int p1), (2, va_rf p2)] := hl
  have hS : va_S (hA X0 s.heap.size) s.heap s.heap [] := va_S.rf
  have T9 : ∀ (x0 : Int32) (x1 : Int32) (x2 : Option Nat) (X : hX) (H : Heap) (locs : List Loc) (ls : Array Slot), hI K X0 s.heap.size X H → va_S (hA X0 s.heap.size) s.heap H locs → lv_has ls 3 [(0, .int x0), (1, .int x1), (2, va_rf x2)] → wpJ9_checkIndex_9 post (K.2.2 0) x0 x1 x2 X → W p l e (rmh 0 0 0 0) s m ([.int p0, .int p1, va_rf p2] : List Value).toArray below meth c H locs 0 0 (MQ below (hQi post K X0 s.heap.size) ([.int p0, .int p1, va_rf p2] : List Value).toArray s 0 0 (hA X0 s.heap.size)) (F0 m 9 ls []) := by
    intro x0 x1 x2 X H locs ls hP hS hl hw
    unfold wpJ9_checkIndex_9 at hw
    refine lv_aloadQ_n hF.1 hF.2.1 dJ9_checkIndex_9 rfl (lv_at hl 2 rfl) ?_
    refine lv_iload_n hF.1 hF.2.1 dJ9_checkIndex_10 rfl (lv_at hl 0 rfl) ?_
    refine lv_iload_n hF.1 hF.2.1 dJ9_checkIndex_11 rfl (lv_at hl 1 rfl) ?_
    exact False.elim hw
  unfold wpJ9_checkIndex at hw
  show W p l e (rmh 0 0 0 0) s m _ below meth c _ _ _ _ _ _
  refine lv_iload_n hF.1 hF.2.1 dJ9_checkIndex_0 rfl (lv_at hl 0 rfl) ?_
  refine lv_if_lt (tgt := 9) hF.1 hF.2.1 dJ9_checkIndex_1 (by decide) (fun c_1 => ?_) (fun c_1 => ?_)
  · have hw := hw.1 c_1
    exact T9 p0 p1 p2 X0 _ _ ls hP hS (lv_sub hl [0, 1, 2] rfl) hw
  · have hw := hw.2 c_1
    refine lv_iload_n hF.1 hF.2.1 dJ9_checkIndex_4 rfl (lv_at hl 0 rfl) ?_
    refine lv_iload_n hF.1 hF.2.1 dJ9_checkIndex_5 rfl (lv_at hl 1 rfl) ?_
    refine lv_icmp_lt (tgt := 16) hF.1 hF.2.1 dJ9_checkIndex_6 (by decide) (fun c_2 => ?_) (fun c_2 => ?_)
    · have hw := hw.1 c_2
      refine lv_iload_n hF.1 hF.2.1 dJ9_checkIndex_16 rfl (lv_at hl 0 rfl) ?_
      exact h_iret hF hr hlocks hP hS ⟨Nat.le_refl _, Nat.le_refl _⟩ dJ9_checkIndex_17 hw
    · have hw := hw.2 c_2
      exact T9 p0 p1 p2 X0 _ _ ls hP hS (lv_sub hl [0, 1, 2] rfl) hw
def wpJ8_checkIndex (post : Int32 → hX → Prop) (E : Nat) (X : hX) (p0 : Int32) (p1 : Int32) : Prop := wpJ9_checkIndex (fun r_1 X_2 => post r_1 X_2) E X p0 p1 none
abbrev wsJ8_checkIndex : List Cond := ws_ yJ8_checkIndex cJ8_checkIndex 2 (some .int)
set_option maxHeartbeats 8000000 in
theorem metJ8_checkIndex (l : Launch) (K : HK) (sz : Nat) (post : Int32 → hX → Prop) (X0 : hX) (p0 : Int32) (p1 : Int32) : Met l yJ8_checkIndex wsJ8_checkIndex (rmh 1 22 0 0) (hPc K X0 sz [.int p0, .int p1] (wpJ8_checkIndex post (K.2.2 0) X0 p0 p1)) (hQi post K X0 sz) 0 0 (hA X0 sz) := by
  refine Met.ofW (cc := cJ8_checkIndex) (maxL := 2) (ret := (some .int)) (by decide) rfl ?_
  intro p e s m args below meth c s₁ B hml hv
  obtain ⟨rfl, hv⟩ := hv
  obtain ⟨hC, hP, hw⟩ := HC.of hv
  have hsz : s.heap.size = sz := hv.1
  subst hsz
  clear hv
  have hr := B.returns
  have hts := atoms_spec (ws := wsJ8_checkIndex) B.pre
  have hts : ∀ w ∈ lw_all, w.before _ s = true := fun w h => hts w (List.mem_cons_of_mem _ h)
  have hF : CallFix p m c cJ8_checkIndex 2 s ([.int p0, .int p1] : List Value).toArray lw_all RJ8 := ⟨B.exec, B.bytes, hml, findClass_of_methodNamed B.named, hts⟩
  have hlocks := B.notSynchronized
  have hl := lv_entry ([.int p0, .int p1]) (n := 2) (Nat.le_of_ble_eq_true rfl)
  rw [lg_entry_eq]
  generalize (lg_sl ([.int p0, .int p1]) ++ List.replicate (2 - (lg_sl ([.int p0, .int p1])).length) Slot.unset).toArray = ls at hl ⊢
  have hl : lv_has ls 2 [(0, .int p0), (1, .int p1)] := hl
  have hS : va_S (hA X0 s.heap.size) s.heap s.heap [] := va_S.rf
  unfold wpJ8_checkIndex at hw
  show W p l e (rmh 1 22 0 0) s m _ below meth c _ _ _ _ _ _
  refine lv_iload_n hF.1 hF.2.1 dJ8_checkIndex_0 rfl (lv_at hl 0 rfl) ?_
  refine lv_iload_n hF.1 hF.2.1 dJ8_checkIndex_1 rfl (lv_at hl 1 rfl) ?_
  refine lv_null hF.1 hF.2.1 dJ8_checkIndex_2 ?_
  refine hk_i (hr_S (As := [.int p0, .int p1, va_rf none]) (rest := []) hF hl.1 hC hP hS (metJ9_checkIndex l K _ _ X0 p0 p1 none) (va_cwS 3 hF.2.2.2.2 (lw_S q353 q354 q87 q355) rfl rfl rfl (by decide +kernel) ⟨Nat.le_of_ble_eq_true rfl, Nat.le_of_ble_eq_true rfl⟩) hw rfl rfl (Nat.le_of_ble_eq_true rfl) dJ8_checkIndex_3 ⟨Nat.le_refl _, Nat.le_refl _⟩) hP hS (fun r_1 X_2 H locs hw hP hS => ?_)
  exact h_iret hF hr hlocks hP hS ⟨Nat.le_refl _, Nat.le_refl _⟩ dJ8_checkIndex_6 hw
def wpJ2_init (post : hX → Prop) (E : Nat) (X : hX) (p0 : Nat) : Prop := wpJ1_init (fun X_1 => pfV X_1 p0 8 1 (.ref E) (fun X_5 => post X_5)) E X p0
abbrev wsJ2_init : List Cond := ws_ yJ2_init cJ2_init 1 none
set_option maxHeartbeats 8000000 in
theorem metJ2_init (l : Launch) (K : HK) (sz : Nat) (post : hX → Prop) (X0 : hX) (p0 : Nat) : Met l yJ2_init wsJ2_init (rmh 3 60 0 0) (hPc K X0 sz [.ref p0] (wpJ2_init post (K.2.2 0) X0 p0)) (hQv post K X0 sz) 0 0 (hA X0 sz) := by
  refine Met.ofW (cc := cJ2_init) (maxL := 1) (ret := none) (by decide) rfl ?_
  intro p e s m args below meth c s₁ B hml hv
  obtain ⟨rfl, hv⟩ := hv
  obtain ⟨hC, hP, hw⟩ := HC.of hv
  have hsz : s.heap.size = sz := hv.1
  subst hsz
  clear hv
  have hr := B.returns
  have hts := atoms_spec (ws := wsJ2_init) B.pre
  have hts : ∀ w ∈ lw_all, w.before _ s = true := fun w h => hts w (List.mem_cons_of_mem _ h)
  have hF : CallFix p m c cJ2_init 1 s ([.ref p0] : List Value).toArray lw_all RJ2 := ⟨B.exec, B.bytes, hml, findClass_of_methodNamed B.named, hts⟩
  have hlocks := B.notSynchronized
  have hin : meth.name = "<init>" := (name_of_methodNamed B.named B.method).1
  have hl := lv_entry ([.ref p0]) (n := 1) (Nat.le_of_ble_eq_true rfl)
  rw [lg_entry_eq]
  generalize (lg_sl ([.ref p0]) ++ List.replicate (1 - (lg_sl ([.ref p0])).length) Slot.unset).toArray = ls at hl ⊢
  have hl : lv_has ls 1 [(0, .ref p0)] := hl
  have hS : va_S (hA X0 s.heap.size) s.heap s.heap [] := va_S.rf
  unfold wpJ2_init at hw
  show W p l e (rmh 3 60 0 0) s m _ below meth c _ _ _ _ _ _
  refine lv_aload_n hF.1 hF.2.1 dJ2_init_0 rfl (lv_at hl 0 rfl) ?_
  refine hk_v (hr_I (As := []) (rest := []) hF hl.1 hC hP hS (metJ1_init l K _ _ X0 p0) (cwI 0 hF.2.2.2.2 (lw_meth q131) rfl rfl rfl (hF.2.2.2.2 _ q78) (hF.2.2.2.2 _ q129) (hF.2.2.2.2 _ q130) rfl (by decide +kernel) ⟨Nat.le_of_ble_eq_true rfl, Nat.le_of_ble_eq_true rfl⟩) hw rfl rfl (Nat.le_of_ble_eq_true rfl) dJ2_init_1 ⟨Nat.le_refl _, Nat.le_refl _⟩) hP hS (fun X_1 H locs hw hP hS => ?_)
  refine lv_aload_n hF.1 hF.2.1 dJ2_init_4 rfl (lv_at hl 0 rfl) ?_
  refine x_gsE hF hC hS q136 dJ2_init_5 ?_
  obtain ⟨fs_2, hx_3, hl_4, hw⟩ := hw
  refine x_put hF hC hP hS in_J2 rfl tyJ2 tyJ2_ok nmJ2 1 (by decide) q138 (fun _ z => z) rfl rfl rfl hx_3 hl_4 dJ2_init_8 (fun H locs hP hS => ?_)
  generalize hup X_1 p0 (.inr (8, fs_2.set 1 (.ref (K.2.2 0)))) = X_5 at hP hw
  exact h_vret hF hr hlocks hP hS ⟨Nat.le_refl _, Nat.le_refl _⟩ dJ2_init_11 hw
def wpJ2_size (post : Int32 → hX → Prop) (E : Nat) (X : hX) (p0 : Nat) : Prop := gfI X p0 8 2 (fun v_2 => post v_2 X)
abbrev wsJ2_size : List Cond := ws_ yJ2_size cJ2_size 1 (some .int)
set_option maxHeartbeats 8000000 in
theorem metJ2_size (l : Launch) (K : HK) (sz : Nat) (post : Int32 → hX → Prop) (X0 : hX) (p0 : Nat) : Met l yJ2_size wsJ2_size (rmh 0 0 0 0) (hPc K X0 sz [.ref p0] (wpJ2_size post (K.2.2 0) X0 p0)) (hQi post K X0 sz) 0 0 (hA X0 sz) := by
  refine Met.ofW (cc := cJ2_size) (maxL := 1) (ret := (some .int)) (by decide) rfl ?_
  intro p e s m args below meth c s₁ B hml hv
  obtain ⟨rfl, hv⟩ := hv
  obtain ⟨hC, hP, hw⟩ := HC.of hv
  have hsz : s.heap.size = sz := hv.1
  subst hsz
  clear hv
  have hr := B.returns
  have hts := atoms_spec (ws := wsJ2_size) B.pre
  have hts : ∀ w ∈ lw_all, w.before _ s = true := fun w h => hts w (List.mem_cons_of_mem _ h)
  have hF : CallFix p m c cJ2_size 1 s ([.ref p0] : List Value).toArray lw_all RJ2 := ⟨B.exec, B.bytes, hml, findClass_of_methodNamed B.named, hts⟩
  have hlocks := B.notSynchronized
  have hl := lv_entry ([.ref p0]) (n := 1) (Nat.le_of_ble_eq_true rfl)
  rw [lg_entry_eq]
  generalize (lg_sl ([.ref p0]) ++ List.replicate (1 - (lg_sl ([.ref p0])).length) Slot.unset).toArray = ls at hl ⊢
  have hl : lv_has ls 1 [(0, .ref p0)] := hl
  have hS : va_S (hA X0 s.heap.size) s.heap s.heap [] := va_S.rf
  unfold wpJ2_size at hw
  show W p l e (rmh 0 0 0 0) s m _ below meth c _ _ _ _ _ _
  refine lv_aload_n hF.1 hF.2.1 dJ2_size_0 rfl (lv_at hl 0 rfl) ?_
  obtain ⟨fs_1, v_2, hx_3, hv_4, hw⟩ := hw
  refine x_get hF hC hP in_J2 rfl 2 (by decide) q139 (fun _ z => z) hx_3 hv_4 dJ2_size_1 ?_
  exact h_iret hF hr hlocks hP hS ⟨Nat.le_refl _, Nat.le_refl _⟩ dJ2_size_4 hw
def wpJ2_elementData (post : Option Nat → hX → Prop) (E : Nat) (X : hX) (p0 : Nat) (p1 : Int32) : Prop := gfA X p0 8 1 (fun v_2 => alQ X v_2 p1 (fun v_9 => post v_9 X))
abbrev wsJ2_elementData : List Cond := ws_ yJ2_elementData cJ2_elementData 2 (some (.object "java/lang/Object"))
set_option maxHeartbeats 8000000 in
theorem metJ2_elementData (l : Launch) (K : HK) (sz : Nat) (post : Option Nat → hX → Prop) (X0 : hX) (p0 : Nat) (p1 : Int32) : Met l yJ2_elementData wsJ2_elementData (rmh 0 0 0 0) (hPc K X0 sz [.ref p0, .int p1] (wpJ2_elementData post (K.2.2 0) X0 p0 p1)) (hQq post K X0 sz) 0 0 (hA X0 sz) := by
  refine Met.ofW (cc := cJ2_elementData) (maxL := 2) (ret := (some (.object "java/lang/Object"))) (by decide) rfl ?_
  intro p e s m args below meth c s₁ B hml hv
  obtain ⟨rfl, hv⟩ := hv
  obtain ⟨hC, hP, hw⟩ := HC.of hv
  have hsz : s.heap.size = sz := hv.1
  subst hsz
  clear hv
  have hr := B.returns
  have hts := atoms_spec (ws := wsJ2_elementData) B.pre
  have hts : ∀ w ∈ lw_all, w.before _ s = true := fun w h => hts w (List.mem_cons_of_mem _ h)
  have hF : CallFix p m c cJ2_elementData 2 s ([.ref p0, .int p1] : List Value).toArray lw_all RJ2 := ⟨B.exec, B.bytes, hml, findClass_of_methodNamed B.named, hts⟩
  have hlocks := B.notSynchronized
  have hl := lv_entry ([.ref p0, .int p1]) (n := 2) (Nat.le_of_ble_eq_true rfl)
  rw [lg_entry_eq]
  generalize (lg_sl ([.ref p0, .int p1]) ++ List.replicate (2 - (lg_sl ([.ref p0, .int p1])).length) Slot.unset).toArray = ls at hl ⊢
  have hl : lv_has ls 2 [(0, .ref p0), (1, .int p1)] := hl
  have hS : va_S (hA X0 s.heap.size) s.heap s.heap [] := va_S.rf
  unfold wpJ2_elementData at hw
  show W p l e (rmh 0 0 0 0) s m _ below meth c _ _ _ _ _ _
  refine lv_aload_n hF.1 hF.2.1 dJ2_elementData_0 rfl (lv_at hl 0 rfl) ?_
  obtain ⟨fs_1, v_2, hx_3, hv_4, hw⟩ := hw
  refine x_get hF hC hP in_J2 rfl 1 (by decide) q138 (fun _ z => z) hx_3 hv_4 dJ2_elementData_1 ?_
  refine lv_iload_n hF.1 hF.2.1 dJ2_elementData_4 rfl (lv_at hl 1 rfl) ?_
  obtain ⟨n_5, f_6, hx_7, hi_8, hw⟩ := hw
  refine x_aald hF hC hP hx_7 hi_8 dJ2_elementData_5 ?_
  generalize f_6 (Int32.toNatClampNeg p1) = v_9 at hw ⊢
  exact h_aret (r := v_9) hF hr (Or.inl ⟨_, rfl⟩) hlocks hP hS ⟨Nat.le_refl _, Nat.le_refl _⟩ dJ2_elementData_6 hw
def wpJ2_get (post : Option Nat → hX → Prop) (E : Nat) (X : hX) (p0 : Nat) (p1 : Int32) : Prop := gfI X p0 8 2 (fun v_2 => wpJ8_checkIndex (fun r_5 X_6 => isO X_6 p0 8 (wpJ2_elementData (fun r_7 X_8 => (∃ a_10 : Nat, r_7 = some a_10 ∧ post (some a_10) X_8)) E X_6 p0 p1)) E X p1 v_2)
abbrev wsJ2_get : List Cond := ws_ yJ2_get cJ2_get 2 (some (.object "java/lang/Object"))
set_option maxHeartbeats 8000000 in
theorem metJ2_get (l : Launch) (K : HK) (sz : Nat) (post : Option Nat → hX → Prop) (X0 : hX) (p0 : Nat) (p1 : Int32) : Met l yJ2_get wsJ2_get (rmh 2 43 0 0) (hPc K X0 sz [.ref p0, .int p1] (wpJ2_get post (K.2.2 0) X0 p0 p1)) (hQq post K X0 sz) 0 0 (hA X0 sz) := by
  refine Met.ofW (cc := cJ2_get) (maxL := 2) (ret := (some (.object "java/lang/Object"))) (by decide) rfl ?_
  intro p e s m args below meth c s₁ B hml hv
  obtain ⟨rfl, hv⟩ := hv
  obtain ⟨hC, hP, hw⟩ := HC.of hv
  have hsz : s.heap.size = sz := hv.1
  subst hsz
  clear hv
  have hr := B.returns
  have hts := atoms_spec (ws := wsJ2_get) B.pre
  have hts : ∀ w ∈ lw_all, w.before _ s = true := fun w h => hts w (List.mem_cons_of_mem _ h)
  have hF : CallFix p m c cJ2_get 2 s ([.ref p0, .int p1] : List Value).toArray lw_all RJ2 := ⟨B.exec, B.bytes, hml, findClass_of_methodNamed B.named, hts⟩
  have hlocks := B.notSynchronized
  have hl := lv_entry ([.ref p0, .int p1]) (n := 2) (Nat.le_of_ble_eq_true rfl)
  rw [lg_entry_eq]
  generalize (lg_sl ([.ref p0, .int p1]) ++ List.replicate (2 - (lg_sl ([.ref p0, .int p1])).length) Slot.unset).toArray = ls at hl ⊢
  have hl : lv_has ls 2 [(0, .ref p0), (1, .int p1)] := hl
  have hS : va_S (hA X0 s.heap.size) s.heap s.heap [] := va_S.rf
  unfold wpJ2_get at hw
  show W p l e (rmh 2 43 0 0) s m _ below meth c _ _ _ _ _ _
  refine lv_iload_n hF.1 hF.2.1 dJ2_get_0 rfl (lv_at hl 1 rfl) ?_
  refine lv_aload_n hF.1 hF.2.1 dJ2_get_1 rfl (lv_at hl 0 rfl) ?_
  obtain ⟨fs_1, v_2, hx_3, hv_4, hw⟩ := hw
  refine x_get hF hC hP in_J2 rfl 2 (by decide) q139 (fun _ z => z) hx_3 hv_4 dJ2_get_2 ?_
  refine hk_i (hr_S (As := [.int p1, .int v_2]) (rest := []) hF hl.1 hC hP hS (metJ8_checkIndex l K _ _ X0 p1 v_2) (va_cwS 2 hF.2.2.2.2 (lw_S q350 q351 q86 q352) rfl rfl rfl (by decide +kernel) ⟨Nat.le_of_ble_eq_true rfl, Nat.le_of_ble_eq_true rfl⟩) hw rfl rfl (Nat.le_of_ble_eq_true rfl) dJ2_get_5 ⟨Nat.le_refl _, Nat.le_refl _⟩) hP hS (fun r_5 X_6 H locs hw hP hS => ?_)
  refine lv_pop hF.1 hF.2.1 dJ2_get_8 rfl ?_
  refine lv_aload_n hF.1 hF.2.1 dJ2_get_9 rfl (lv_at hl 0 rfl) ?_
  refine lv_iload_n hF.1 hF.2.1 dJ2_get_10 rfl (lv_at hl 1 rfl) ?_
  obtain ⟨ho_9, hw⟩ := hw
  refine hk_q (hr_V (As := [.int p1]) (rest := []) (T := TJ2) (N := 3) (ci := 8) hF hl.1 hC hP hS (metJ2_elementData l K _ _ X_6 p0 p1) rfl (cwV 1 hF.2.2.2.2 (lw_V q356 q357 q358 q79 q359) rfl rfl rfl (by decide +kernel) ⟨Nat.le_of_ble_eq_true rfl, Nat.le_of_ble_eq_true rfl⟩) ho_9 hw rfl rfl (Nat.le_of_ble_eq_true rfl) dJ2_get_11 ⟨Nat.le_refl _, Nat.le_refl _⟩) hP hS (fun r_7 X_8 H locs hw hP hS => ?_)
  obtain ⟨a_10, e_11, hw⟩ := hw
  subst e_11
  rw [va_rf_some]
  exact h_aret (r := (some a_10)) hF hr (Or.inl ⟨_, rfl⟩) hlocks hP hS ⟨Nat.le_refl _, Nat.le_refl _⟩ dJ2_get_14 hw
def wpJ10_newLength_21 (post : Int32 → hX → Prop) (E : Nat) (x0 : Int32) (x1 : Int32) (X : hX) : Prop := False
def wpJ10_newLength (post : Int32 → hX → Prop) (E : Nat) (X : hX) (p0 : Int32) (p1 : Int32) (p2 : Int32) : Prop := wpJ11_max (fun r_1 => (∀ x3_2 : Int32, x3_2 = p0 + r_1 → ((x3_2 ≤ 0 → wpJ10_newLength_21 post E p0 p1 X) ∧ (¬ x3_2 ≤ 0 → ((2147483639 < x3_2 → wpJ10_newLength_21 post E p0 p1 X) ∧ (¬ 2147483639 < x3_2 → post x3_2 X)))))) p1 p2
abbrev wsJ10_newLength : List Cond := ws_ yJ10_newLength cJ10_newLength 4 (some .int)
set_option maxHeartbeats 8000000 in
theorem metJ10_newLength (l : Launch) (K : HK) (sz : Nat) (post : Int32 → hX → Prop) (X0 : hX) (p0 : Int32) (p1 : Int32) (p2 : Int32) : Met l yJ10_newLength wsJ10_newLength (rmh 1 21 0 0) (hPc K X0 sz [.int p0, .int p1, .int p2] (wpJ10_newLength post (K.2.2 0) X0 p0 p1 p2)) (hQi post K X0 sz) 0 0 (hA X0 sz) := by
  refine Met.ofW (cc := cJ10_newLength) (maxL := 4) (ret := (some .int)) (by decide) rfl ?_
  intro p e s m args below meth c s₁ B hml hv
  obtain ⟨rfl, hv⟩ := hv
  obtain ⟨hC, hP, hw⟩ := HC.of hv
  have hsz : s.heap.size = sz := hv.1
  subst hsz
  clear hv
  have hr := B.returns
  have hts := atoms_spec (ws := wsJ10_newLength) B.pre
  have hts : ∀ w ∈ lw_all, w.before _ s = true := fun w h => hts w (List.mem_cons_of_mem _ h)
  have hF : CallFix p m c cJ10_newLength 4 s ([.int p0, .int p1, .int p2] : List Value).toArray lw_all RJ10 := ⟨B.exec, B.bytes, hml, findClass_of_methodNamed B.named, hts⟩
  have hlocks := B.notSynchronized
  have hl := lv_entry ([.int p0, .int p1, .int p2]) (n := 4) (Nat.le_of_ble_eq_true rfl)
  rw [lg_entry_eq]
  generalize (lg_sl ([.int p0, .int p1, .int p2]) ++ List.replicate (4 - (lg_sl ([.int p0, .int p1, .int p2])).length) Slot.unset).toArray = ls at hl ⊢
  have hl : lv_has ls 4 [(0, .int p0), (1, .int p1), (2, .int p2)] := hl
  have hS : va_S (hA X0 s.heap.size) s.heap s.heap [] := va_S.rf
  have T21 : ∀ (x0 : Int32) (x1 : Int32) (X : hX) (H : Heap) (locs : List Loc) (ls : Array Slot), hI K X0 s.heap.size X H → va_S (hA X0 s.heap.size) s.heap H locs → lv_has ls 4 [(0, .int x0), (1, .int x1)] → wpJ10_newLength_21 post (K.2.2 0) x0 x1 X → W p l e (rmh 1 21 0 0) s m ([.int p0, .int p1, .int p2] : List Value).toArray below meth c H locs 0 0 (MQ below (hQi post K X0 s.heap.size) ([.int p0, .int p1, .int p2] : List Value).toArray s 0 0 (hA X0 s.heap.size)) (F0 m 21 ls []) := by
    intro x0 x1 X H locs ls hP hS hl hw
    unfold wpJ10_newLength_21 at hw
    refine lv_iload_n hF.1 hF.2.1 dJ10_newLength_21 rfl (lv_at hl 0 rfl) ?_
    refine lv_iload_n hF.1 hF.2.1 dJ10_newLength_22 rfl (lv_at hl 1 rfl) ?_
    exact False.elim hw
  unfold wpJ10_newLength at hw
  show W p l e (rmh 1 21 0 0) s m _ below meth c _ _ _ _ _ _
  refine lv_iload_n hF.1 hF.2.1 dJ10_newLength_0 rfl (lv_at hl 0 rfl) ?_
  refine lv_iload_n hF.1 hF.2.1 dJ10_newLength_1 rfl (lv_at hl 1 rfl) ?_
  refine lv_iload_n hF.1 hF.2.1 dJ10_newLength_2 rfl (lv_at hl 2 rfl) ?_
  refine hp_i (hrp_S (As := [.int p1, .int p2]) (rest := [.int p0]) hF hl.1 (metJ11_max l _ p1 p2) (va_cwS 2 hF.2.2.2.2 (lw_S q465 q466 q89 q467) rfl rfl rfl (by decide +kernel) ⟨Nat.le_of_ble_eq_true rfl, Nat.le_of_ble_eq_true rfl⟩) hw rfl rfl (Nat.le_of_ble_eq_true rfl) dJ10_newLength_3 ⟨Nat.le_refl _, Nat.le_refl _⟩) (fun r_1 hw => ?_)
  refine lv_iadd hF.1 hF.2.1 dJ10_newLength_6 ?_
  refine lv_topi (fun x3_2 ex3_2 => ?_)
  have hw := hw x3_2 ex3_2
  refine lv_istore_n (lv' := [(3, .int x3_2), (0, .int p0), (1, .int p1), (2, .int p2)]) hF.1 hF.2.1 dJ10_newLength_7 rfl hl (by decide) rfl (fun ls hl => ?_)
  refine lv_iconst (v := 0) hF.1 hF.2.1 dJ10_newLength_8 (by decide) ?_
  refine lv_iload_n hF.1 hF.2.1 dJ10_newLength_9 rfl (lv_at hl 0 rfl) ?_
  refine lv_icmp_ge (tgt := 21) hF.1 hF.2.1 dJ10_newLength_10 (by decide) (fun c_3 => ?_) (fun c_3 => ?_)
  · have hw := hw.1 c_3
    exact T21 p0 p1 X0 _ _ ls hP hS (lv_sub hl [1, 2] rfl) hw
  · have hw := hw.2 c_3
    refine lv_iload_n hF.1 hF.2.1 dJ10_newLength_13 rfl (lv_at hl 0 rfl) ?_
    refine lv_ldc hF.1 hF.2.1 hF.2.2.2.1 (hF.2.2.2.2 _ q468) dJ10_newLength_14 ?_
    refine lv_icmp_gt (tgt := 21) hF.1 hF.2.1 dJ10_newLength_16 (by decide) (fun c_4 => ?_) (fun c_4 => ?_)
    · have hw := hw.1 c_4
      exact T21 p0 p1 X0 _ _ ls hP hS (lv_sub hl [1, 2] rfl) hw
    · have hw := hw.2 c_4
      refine lv_iload_n hF.1 hF.2.1 dJ10_newLength_19 rfl (lv_at hl 0 rfl) ?_
      exact h_iret hF hr hlocks hP hS ⟨Nat.le_refl _, Nat.le_refl _⟩ dJ10_newLength_20 hw
def wpJ12_copyOf_3 (post : Option Nat → hX → Prop) (E : Nat) (mc ms : Nat) (X : hX) (p0 : Nat) (p1 : Int32) : Prop := newA X 4 (.inr (.inr (.inr (.inr (fun _ => none))))) p1 4 0 0 mc ms (fun a_1 X_2 => alen E X_2 p0 (fun v_4 => wpJ11_min (fun r_5 => cpyQ X_2 p0 0 a_1 0 r_5 (fun X_6 => post (some a_1) X_6)) v_4 p1))
abbrev wsJ12_copyOf_3 : List Cond := ws_ yJ12_copyOf_3 cJ12_copyOf_3 4 (some (.array (.object "java/lang/Object")))
set_option maxHeartbeats 8000000 in
theorem metJ12_copyOf_3 (l : Launch) (K : HK) (mc ms : Nat) (sz : Nat) (post : Option Nat → hX → Prop) (X0 : hX) (p0 : Nat) (p1 : Int32) : Met l yJ12_copyOf_3 wsJ12_copyOf_3 (rmh 1 60 mc ms) (hPc K X0 sz [.ref p0, .int p1, .ref (K.2.2 7)] (wpJ12_copyOf_3 post (K.2.2 0) mc ms X0 p0 p1)) (hQq post K X0 sz) mc ms (hA X0 sz) := by
  refine Met.ofW (cc := cJ12_copyOf_3) (maxL := 4) (ret := (some (.array (.object "java/lang/Object")))) (by decide) rfl ?_
  intro p e s m args below meth c s₁ B hml hv
  obtain ⟨rfl, hv⟩ := hv
  obtain ⟨hC, hP, hw⟩ := HC.of hv
  have hsz : s.heap.size = sz := hv.1
  subst hsz
  clear hv
  have hr := B.returns
  have hts := atoms_spec (ws := wsJ12_copyOf_3) B.pre
  have hts : ∀ w ∈ lw_all, w.before _ s = true := fun w h => hts w (List.mem_cons_of_mem _ h)
  have hF : CallFix p m c cJ12_copyOf_3 4 s ([.ref p0, .int p1, .ref (K.2.2 7)] : List Value).toArray lw_all RJ12 := ⟨B.exec, B.bytes, hml, findClass_of_methodNamed B.named, hts⟩
  have hlocks := B.notSynchronized
  have hl := lv_entry ([.ref p0, .int p1, .ref (K.2.2 7)]) (n := 4) (Nat.le_of_ble_eq_true rfl)
  rw [lg_entry_eq]
  generalize (lg_sl ([.ref p0, .int p1, .ref (K.2.2 7)]) ++ List.replicate (4 - (lg_sl ([.ref p0, .int p1, .ref (K.2.2 7)])).length) Slot.unset).toArray = ls at hl ⊢
  have hl : lv_has ls 4 [(0, .ref p0), (1, .int p1), (2, .ref (K.2.2 7))] := hl
  have hS : va_S (hA X0 s.heap.size) s.heap s.heap [] := va_S.rf
  unfold wpJ12_copyOf_3 at hw
  show W p l e (rmh 1 60 mc ms) s m _ below meth c _ _ _ _ _ _
  refine lv_aload_n hF.1 hF.2.1 dJ12_copyOf_3_0 rfl (lv_at hl 2 rfl) ?_
  refine va_ldcM hF.1 hF.2.1 hF.2.2.2.1 (hF.2.2.2.2 _ q803) hC.2.2.1.2.2.1 dJ12_copyOf_3_1 ?_
  refine lv_acmpA_ne (tgt := 13) hF.1 hF.2.1 dJ12_copyOf_3_3 (by decide) (fun z => absurd rfl z) (fun _ => ?_)
  refine lv_iload_n hF.1 hF.2.1 dJ12_copyOf_3_6 rfl (lv_at hl 1 rfl) ?_
  refine x_newq hF hC hP hS q804 hw ⟨rfl, rfl⟩ dJ12_copyOf_3_7 (fun a_1 X_2 H pk_3c pk_3s hw hP hS => ?_)
  refine lv_goto (tgt := 24) hF.1 hF.2.1 dJ12_copyOf_3_10 (by decide) ?_
  refine lv_astore_n (lv' := [(3, .ref a_1), (0, .ref p0), (1, .int p1), (2, .ref (K.2.2 7))]) hF.1 hF.2.1 dJ12_copyOf_3_24 rfl hl (by decide) rfl (fun ls hl => ?_)
  refine lv_aload_n hF.1 hF.2.1 dJ12_copyOf_3_25 rfl (lv_at hl 1 rfl) ?_
  refine lv_iconst (v := 0) hF.1 hF.2.1 dJ12_copyOf_3_26 (by decide) ?_
  refine lv_aload_n hF.1 hF.2.1 dJ12_copyOf_3_27 rfl (lv_at hl 0 rfl) ?_
  refine lv_iconst (v := 0) hF.1 hF.2.1 dJ12_copyOf_3_28 (by decide) ?_
  refine lv_aload_n hF.1 hF.2.1 dJ12_copyOf_3_29 rfl (lv_at hl 1 rfl) ?_
  refine x_alen hF hC hP hS hw dJ12_copyOf_3_30 (fun v_4 hw => ?_)
  refine lv_iload_n hF.1 hF.2.1 dJ12_copyOf_3_31 rfl (lv_at hl 2 rfl) ?_
  refine hp_i (hrp_S (As := [.int v_4, .int p1]) (rest := [.int 0, .ref a_1, .int 0, .ref p0]) hF hl.1 (metJ11_min l _ v_4 p1) (va_cwS 2 hF.2.2.2.2 (lw_S q483 q312 q89 q313) rfl rfl rfl (by decide +kernel) ⟨Nat.le_of_ble_eq_true rfl, Nat.le_of_ble_eq_true rfl⟩) hw rfl rfl (Nat.le_of_ble_eq_true rfl) dJ12_copyOf_3_32 ⟨pk_3c, pk_3s⟩) (fun r_5 hw => ?_)
  refine x_cpyQ hF hl.1 hC hP hS q484 hw (Nat.le_of_ble_eq_true rfl) (Nat.le_of_ble_eq_true rfl) dJ12_copyOf_3_35 (fun X_6 H locs hw hP hS => ?_)
  refine lv_aload_n hF.1 hF.2.1 dJ12_copyOf_3_38 rfl (lv_at hl 0 rfl) ?_
  exact h_aret (r := (some a_1)) hF hr (Or.inr ⟨_, rfl⟩) hlocks hP hS ⟨pk_3c, pk_3s⟩ dJ12_copyOf_3_39 hw
def wpJ12_copyOf_2 (post : Option Nat → hX → Prop) (E : Nat) (mc ms : Nat) (X : hX) (p0 : Nat) (p1 : Int32) : Prop := ((∃ w, X p0 = some (.inl (4, w))) ∧ (∃ mc_4 ms_5 : Nat, 0 + mc_4 ≤ mc ∧ 0 + ms_5 ≤ ms ∧ wpJ12_copyOf_3 (fun r_2 X_3 => (∃ a_8 : Nat, r_2 = some a_8 ∧ post (some a_8) X_3)) E mc_4 ms_5 X p0 p1))
abbrev wsJ12_copyOf_2 : List Cond := ws_ yJ12_copyOf_2 cJ12_copyOf_2 2 (some (.array (.object "java/lang/Object")))
set_option maxHeartbeats 8000000 in
theorem metJ12_copyOf_2 (l : Launch) (K : HK) (mc ms : Nat) (sz : Nat) (post : Option Nat → hX → Prop) (X0 : hX) (p0 : Nat) (p1 : Int32) : Met l yJ12_copyOf_2 wsJ12_copyOf_2 (rmh 2 83 mc ms) (hPc K X0 sz [.ref p0, .int p1] (wpJ12_copyOf_2 post (K.2.2 0) mc ms X0 p0 p1)) (hQq post K X0 sz) mc ms (hA X0 sz) := by
  refine Met.ofW (cc := cJ12_copyOf_2) (maxL := 2) (ret := (some (.array (.object "java/lang/Object")))) (by decide) rfl ?_
  intro p e s m args below meth c s₁ B hml hv
  obtain ⟨rfl, hv⟩ := hv
  obtain ⟨hC, hP, hw⟩ := HC.of hv
  have hsz : s.heap.size = sz := hv.1
  subst hsz
  clear hv
  have hr := B.returns
  have hts := atoms_spec (ws := wsJ12_copyOf_2) B.pre
  have hts : ∀ w ∈ lw_all, w.before _ s = true := fun w h => hts w (List.mem_cons_of_mem _ h)
  have hF : CallFix p m c cJ12_copyOf_2 2 s ([.ref p0, .int p1] : List Value).toArray lw_all RJ12 := ⟨B.exec, B.bytes, hml, findClass_of_methodNamed B.named, hts⟩
  have hlocks := B.notSynchronized
  have hl := lv_entry ([.ref p0, .int p1]) (n := 2) (Nat.le_of_ble_eq_true rfl)
  rw [lg_entry_eq]
  generalize (lg_sl ([.ref p0, .int p1]) ++ List.replicate (2 - (lg_sl ([.ref p0, .int p1])).length) Slot.unset).toArray = ls at hl ⊢
  have hl : lv_has ls 2 [(0, .ref p0), (1, .int p1)] := hl
  have hS : va_S (hA X0 s.heap.size) s.heap s.heap [] := va_S.rf
  unfold wpJ12_copyOf_2 at hw
  show W p l e (rmh 2 83 mc ms) s m _ below meth c _ _ _ _ _ _
  refine lv_aload_n hF.1 hF.2.1 dJ12_copyOf_2_0 rfl (lv_at hl 0 rfl) ?_
  refine lv_iload_n hF.1 hF.2.1 dJ12_copyOf_2_1 rfl (lv_at hl 1 rfl) ?_
  refine lv_aload_n hF.1 hF.2.1 dJ12_copyOf_2_2 rfl (lv_at hl 0 rfl) ?_
  obtain ⟨h_1, hw⟩ := hw
  refine x_getC hF hl.1 hC hP q780 q781 q799 h_1 (Nat.le_of_ble_eq_true rfl) (Nat.le_of_ble_eq_true rfl) dJ12_copyOf_2_3 ?_
  obtain ⟨mc_4, ms_5, hc_6, hs_7, hw⟩ := hw
  refine hk_q (hr_S (As := [.ref p0, .int p1, .ref (K.2.2 7)]) (rest := []) hF hl.1 hC hP hS (metJ12_copyOf_3 l K mc_4 ms_5 _ _ X0 p0 p1) (va_cwS 3 hF.2.2.2.2 (lw_S q800 q801 q90 q802) rfl rfl rfl (by decide +kernel) ⟨Nat.le_of_ble_eq_true rfl, Nat.le_of_ble_eq_true rfl⟩) hw rfl rfl (Nat.le_of_ble_eq_true rfl) dJ12_copyOf_2_6 ⟨hc_6, hs_7⟩) hP hS (fun r_2 X_3 H locs hw hP hS => ?_)
  obtain ⟨a_8, e_9, hw⟩ := hw
  subst e_9
  rw [va_rf_some]
  exact h_aret (r := (some a_8)) hF hr (Or.inr ⟨_, rfl⟩) hlocks hP hS ⟨hc_6, hs_7⟩ dJ12_copyOf_2_9 hw
def wpJ2_grow_2_20 (post : Option Nat → hX → Prop) (E : Nat) (mc ms : Nat) (x0 : Nat) (x1 : Int32) (x2 : Int32) (X : hX) (kc ks : Nat) : Prop := wpJ10_newLength (fun r_1 X_2 => gfA X_2 x0 8 1 (fun v_4 => (∃ mc_9 ms_10 : Nat, kc + mc_9 ≤ mc ∧ ks + ms_10 ≤ ms ∧ wpJ12_copyOf_2 (fun r_7 X_8 => (∃ a_13 : Nat, r_7 = some a_13 ∧ pfV X_8 x0 8 1 (.ref a_13) (fun X_18 => post (some a_13) X_18))) E mc_9 ms_10 X_2 v_4 r_1))) E X x2 (x1 - x2) (x2 >>> (1 &&& 31))
def wpJ2_grow_2 (post : Option Nat → hX → Prop) (E : Nat) (mc ms : Nat) (X : hX) (p0 : Nat) (p1 : Int32) : Prop := gfA X p0 8 1 (fun v_20 => alen E X v_20 (fun v_23 => ((0 < v_23 → wpJ2_grow_2_20 post E mc ms p0 p1 v_23 X 0 0) ∧ (¬ 0 < v_23 → gfA X p0 8 1 (fun v_26 => ((v_26 = E → wpJ11_max (fun r_30 => newA X 4 (.inr (.inr (.inr (.inr (fun _ => none))))) r_30 4 0 0 mc ms (fun a_31 X_32 => pfV X_32 p0 8 1 (.ref a_31) (fun X_37 => post (some a_31) X_37))) 10 p1) ∧ (¬ v_26 = E → wpJ2_grow_2_20 post E mc ms p0 p1 v_23 X 0 0)))))))
abbrev wsJ2_grow_2 : List Cond := ws_ yJ2_grow_2 cJ2_grow_2 4 (some (.array (.object "java/lang/Object")))
set_option maxHeartbeats 8000000 in
theorem metJ2_grow_2 (l : Launch) (K : HK) (mc ms : Nat) (sz : Nat) (post : Option Nat → hX → Prop) (X0 : hX) (p0 : Nat) (p1 : Int32) : Met l yJ2_grow_2 wsJ2_grow_2 (rmh 3 104 mc ms) (hPc K X0 sz [.ref p0, .int p1] (wpJ2_grow_2 post (K.2.2 0) mc ms X0 p0 p1)) (hQq post K X0 sz) mc ms (hA X0 sz) := by
  refine Met.ofW (cc := cJ2_grow_2) (maxL := 4) (ret := (some (.array (.object "java/lang/Object")))) (by decide) rfl ?_
  intro p e s m args below meth c s₁ B hml hv
  obtain ⟨rfl, hv⟩ := hv
  obtain ⟨hC, hP, hw⟩ := HC.of hv
  have hsz : s.heap.size = sz := hv.1
  subst hsz
  clear hv
  have hr := B.returns
  have hts := atoms_spec (ws := wsJ2_grow_2) B.pre
  have hts : ∀ w ∈ lw_all, w.before _ s = true := fun w h => hts w (List.mem_cons_of_mem _ h)
  have hF : CallFix p m c cJ2_grow_2 4 s ([.ref p0, .int p1] : List Value).toArray lw_all RJ2 := ⟨B.exec, B.bytes, hml, findClass_of_methodNamed B.named, hts⟩
  have hlocks := B.notSynchronized
  have hl := lv_entry ([.ref p0, .int p1]) (n := 4) (Nat.le_of_ble_eq_true rfl)
  rw [lg_entry_eq]
  generalize (lg_sl ([.ref p0, .int p1]) ++ List.replicate (4 - (lg_sl ([.ref p0, .int p1])).length) Slot.unset).toArray = ls at hl ⊢
  have hl : lv_has ls 4 [(0, .ref p0), (1, .int p1)] := hl
  have hS : va_S (hA X0 s.heap.size) s.heap s.heap [] := va_S.rf
  have T20 : ∀ (x0 : Nat) (x1 : Int32) (x2 : Int32) (X : hX) (kc ks : Nat) (H : Heap) (locs : List Loc) (ls : Array Slot), hI K X0 s.heap.size X H → va_S (hA X0 s.heap.size) s.heap H locs → kc ≤ mc ∧ ks ≤ ms → lv_has ls 4 [(0, .ref x0), (1, .int x1), (2, .int x2)] → wpJ2_grow_2_20 post (K.2.2 0) mc ms x0 x1 x2 X kc ks → W p l e (rmh 3 104 mc ms) s m ([.ref p0, .int p1] : List Value).toArray below meth c H locs kc ks (MQ below (hQq post K X0 s.heap.size) ([.ref p0, .int p1] : List Value).toArray s mc ms (hA X0 s.heap.size)) (F0 m 20 ls []) := by
    intro x0 x1 x2 X kc ks H locs ls hP hS hk hl hw
    unfold wpJ2_grow_2_20 at hw
    refine lv_iload_n hF.1 hF.2.1 dJ2_grow_2_20 rfl (lv_at hl 2 rfl) ?_
    refine lv_iload_n hF.1 hF.2.1 dJ2_grow_2_21 rfl (lv_at hl 1 rfl) ?_
    refine lv_iload_n hF.1 hF.2.1 dJ2_grow_2_22 rfl (lv_at hl 2 rfl) ?_
    refine lv_isub hF.1 hF.2.1 dJ2_grow_2_23 ?_
    refine lv_iload_n hF.1 hF.2.1 dJ2_grow_2_24 rfl (lv_at hl 2 rfl) ?_
    refine lv_iconst (v := 1) hF.1 hF.2.1 dJ2_grow_2_25 (by decide) ?_
    refine lv_ishr hF.1 hF.2.1 dJ2_grow_2_26 ?_
    refine hk_i (hr_S (As := [.int x2, .int (x1 - x2), .int (x2 >>> (1 &&& 31))]) (rest := []) hF hl.1 hC hP hS (metJ10_newLength l K _ _ X x2 (x1 - x2) (x2 >>> (1 &&& 31))) (va_cwS 3 hF.2.2.2.2 (lw_S q776 q463 q88 q464) rfl rfl rfl (by decide +kernel) ⟨Nat.le_of_ble_eq_true rfl, Nat.le_of_ble_eq_true rfl⟩) hw rfl rfl (Nat.le_of_ble_eq_true rfl) dJ2_grow_2_27 hk) hP hS (fun r_1 X_2 H locs hw hP hS => ?_)
    refine lv_istore_n (lv' := [(3, .int r_1), (0, .ref x0), (1, .int x1), (2, .int x2)]) hF.1 hF.2.1 dJ2_grow_2_30 rfl hl (by decide) rfl (fun ls hl => ?_)
    refine lv_aload_n hF.1 hF.2.1 dJ2_grow_2_31 rfl (lv_at hl 1 rfl) ?_
    refine lv_aload_n hF.1 hF.2.1 dJ2_grow_2_32 rfl (lv_at hl 1 rfl) ?_
    obtain ⟨fs_3, v_4, hx_5, hv_6, hw⟩ := hw
    refine x_get hF hC hP in_J2 rfl 1 (by decide) q138 (fun _ z => z) hx_5 hv_6 dJ2_grow_2_33 ?_
    refine lv_iload_n hF.1 hF.2.1 dJ2_grow_2_36 rfl (lv_at hl 0 rfl) ?_
    obtain ⟨mc_9, ms_10, hc_11, hs_12, hw⟩ := hw
    refine hk_q (hr_S (As := [.ref v_4, .int r_1]) (rest := [.ref x0]) hF hl.1 hC hP hS (metJ12_copyOf_2 l K mc_9 ms_10 _ _ X_2 v_4 r_1) (va_cwS 2 hF.2.2.2.2 (lw_S q777 q778 q90 q779) rfl rfl rfl (by decide +kernel) ⟨Nat.le_of_ble_eq_true rfl, Nat.le_of_ble_eq_true rfl⟩) hw rfl rfl (Nat.le_of_ble_eq_true rfl) dJ2_grow_2_37 ⟨hc_11, hs_12⟩) hP hS (fun r_7 X_8 H locs hw hP hS => ?_)
    obtain ⟨a_13, e_14, hw⟩ := hw
    subst e_14
    rw [va_rf_some]
    refine lv_dup_x1 hF.1 hF.2.1 dJ2_grow_2_40 rfl rfl ?_
    obtain ⟨fs_15, hx_16, hl_17, hw⟩ := hw
    refine x_put hF hC hP hS in_J2 rfl tyJ2 tyJ2_ok nmJ2 1 (by decide) q138 (fun _ z => z) rfl rfl rfl hx_16 hl_17 dJ2_grow_2_41 (fun H locs hP hS => ?_)
    generalize hup X_8 x0 (.inr (8, fs_15.set 1 (.ref a_13))) = X_18 at hP hw
    exact h_aret (r := (some a_13)) hF hr (Or.inr ⟨_, rfl⟩) hlocks hP hS ⟨hc_11, hs_12⟩ dJ2_grow_2_44 hw
  unfold wpJ2_grow_2 at hw
  show W p l e (rmh 3 104 mc ms) s m _ below meth c _ _ _ _ _ _
  refine lv_aload_n hF.1 hF.2.1 dJ2_grow_2_0 rfl (lv_at hl 0 rfl) ?_
  obtain ⟨fs_19, v_20, hx_21, hv_22, hw⟩ := hw
  refine x_get hF hC hP in_J2 rfl 1 (by decide) q138 (fun _ z => z) hx_21 hv_22 dJ2_grow_2_1 ?_
  refine x_alen hF hC hP hS hw dJ2_grow_2_4 (fun v_23 hw => ?_)
  refine lv_istore_n (lv' := [(2, .int v_23), (0, .ref p0), (1, .int p1)]) hF.1 hF.2.1 dJ2_grow_2_5 rfl hl (by decide) rfl (fun ls hl => ?_)
  refine lv_iload_n hF.1 hF.2.1 dJ2_grow_2_6 rfl (lv_at hl 0 rfl) ?_
  refine lv_if_gt (tgt := 20) hF.1 hF.2.1 dJ2_grow_2_7 (by decide) (fun c_24 => ?_) (fun c_24 => ?_)
  · have hw := hw.1 c_24
    exact T20 p0 p1 v_23 X0 0 0 _ _ ls hP hS ⟨Nat.zero_le _, Nat.zero_le _⟩ (lv_sub hl [1, 2, 0] rfl) hw
  · have hw := hw.2 c_24
    refine lv_aload_n hF.1 hF.2.1 dJ2_grow_2_10 rfl (lv_at hl 1 rfl) ?_
    obtain ⟨fs_25, v_26, hx_27, hv_28, hw⟩ := hw
    refine x_get hF hC hP in_J2 rfl 1 (by decide) q138 (fun _ z => z) hx_27 hv_28 dJ2_grow_2_11 ?_
    refine x_gsE hF hC hS q136 dJ2_grow_2_14 ?_
    refine lv_acmpA_eq (tgt := 45) hF.1 hF.2.1 dJ2_grow_2_17 (by decide) (fun c_29 => ?_) (fun c_29 => ?_)
    · have hw := hw.1 c_29
      refine lv_aload_n hF.1 hF.2.1 dJ2_grow_2_45 rfl (lv_at hl 1 rfl) ?_
      refine lv_bipush (v := 10) hF.1 hF.2.1 dJ2_grow_2_46 (by decide) ?_
      refine lv_iload_n hF.1 hF.2.1 dJ2_grow_2_48 rfl (lv_at hl 2 rfl) ?_
      refine hp_i (hrp_S (As := [.int 10, .int p1]) (rest := [.ref p0]) hF hl.1 (metJ11_max l _ 10 p1) (va_cwS 2 hF.2.2.2.2 (lw_S q805 q466 q89 q467) rfl rfl rfl (by decide +kernel) ⟨Nat.le_of_ble_eq_true rfl, Nat.le_of_ble_eq_true rfl⟩) hw rfl rfl (Nat.le_of_ble_eq_true rfl) dJ2_grow_2_49 ⟨Nat.zero_le _, Nat.zero_le _⟩) (fun r_30 hw => ?_)
      refine x_newq hF hC hP hS q806 hw ⟨rfl, rfl⟩ dJ2_grow_2_52 (fun a_31 X_32 H pk_33c pk_33s hw hP hS => ?_)
      refine lv_dup_x1 hF.1 hF.2.1 dJ2_grow_2_55 rfl rfl ?_
      obtain ⟨fs_34, hx_35, hl_36, hw⟩ := hw
      refine x_put hF hC hP hS in_J2 rfl tyJ2 tyJ2_ok nmJ2 1 (by decide) q138 (fun _ z => z) rfl rfl rfl hx_35 hl_36 dJ2_grow_2_56 (fun H locs hP hS => ?_)
      generalize hup X_32 p0 (.inr (8, fs_34.set 1 (.ref a_31))) = X_37 at hP hw
      exact h_aret (r := (some a_31)) hF hr (Or.inr ⟨_, rfl⟩) hlocks hP hS ⟨pk_33c, pk_33s⟩ dJ2_grow_2_59 hw
    · have hw := hw.2 c_29
      exact T20 p0 p1 v_23 X0 0 0 _ _ ls hP hS ⟨Nat.zero_le _, Nat.zero_le _⟩ (lv_sub hl [1, 2, 0] rfl) hw
def wpJ2_grow (post : Option Nat → hX → Prop) (E : Nat) (mc ms : Nat) (X : hX) (p0 : Nat) : Prop := gfI X p0 8 2 (fun v_2 => isO X p0 8 ((∃ mc_8 ms_9 : Nat, 0 + mc_8 ≤ mc ∧ 0 + ms_9 ≤ ms ∧ wpJ2_grow_2 (fun r_5 X_6 => (∃ a_12 : Nat, r_5 = some a_12 ∧ post (some a_12) X_6)) E mc_8 ms_9 X p0 (v_2 + 1))))
abbrev wsJ2_grow : List Cond := ws_ yJ2_grow cJ2_grow 1 (some (.array (.object "java/lang/Object")))
set_option maxHeartbeats 8000000 in
theorem metJ2_grow (l : Launch) (K : HK) (mc ms : Nat) (sz : Nat) (post : Option Nat → hX → Prop) (X0 : hX) (p0 : Nat) : Met l yJ2_grow wsJ2_grow (rmh 4 127 mc ms) (hPc K X0 sz [.ref p0] (wpJ2_grow post (K.2.2 0) mc ms X0 p0)) (hQq post K X0 sz) mc ms (hA X0 sz) := by
  refine Met.ofW (cc := cJ2_grow) (maxL := 1) (ret := (some (.array (.object "java/lang/Object")))) (by decide) rfl ?_
  intro p e s m args below meth c s₁ B hml hv
  obtain ⟨rfl, hv⟩ := hv
  obtain ⟨hC, hP, hw⟩ := HC.of hv
  have hsz : s.heap.size = sz := hv.1
  subst hsz
  clear hv
  have hr := B.returns
  have hts := atoms_spec (ws := wsJ2_grow) B.pre
  have hts : ∀ w ∈ lw_all, w.before _ s = true := fun w h => hts w (List.mem_cons_of_mem _ h)
  have hF : CallFix p m c cJ2_grow 1 s ([.ref p0] : List Value).toArray lw_all RJ2 := ⟨B.exec, B.bytes, hml, findClass_of_methodNamed B.named, hts⟩
  have hlocks := B.notSynchronized
  have hl := lv_entry ([.ref p0]) (n := 1) (Nat.le_of_ble_eq_true rfl)
  rw [lg_entry_eq]
  generalize (lg_sl ([.ref p0]) ++ List.replicate (1 - (lg_sl ([.ref p0])).length) Slot.unset).toArray = ls at hl ⊢
  have hl : lv_has ls 1 [(0, .ref p0)] := hl
  have hS : va_S (hA X0 s.heap.size) s.heap s.heap [] := va_S.rf
  unfold wpJ2_grow at hw
  show W p l e (rmh 4 127 mc ms) s m _ below meth c _ _ _ _ _ _
  refine lv_aload_n hF.1 hF.2.1 dJ2_grow_0 rfl (lv_at hl 0 rfl) ?_
  refine lv_aload_n hF.1 hF.2.1 dJ2_grow_1 rfl (lv_at hl 0 rfl) ?_
  obtain ⟨fs_1, v_2, hx_3, hv_4, hw⟩ := hw
  refine x_get hF hC hP in_J2 rfl 2 (by decide) q139 (fun _ z => z) hx_3 hv_4 dJ2_grow_2 ?_
  refine lv_iconst (v := 1) hF.1 hF.2.1 dJ2_grow_5 (by decide) ?_
  refine lv_iadd hF.1 hF.2.1 dJ2_grow_6 ?_
  obtain ⟨ho_7, hw⟩ := hw
  obtain ⟨mc_8, ms_9, hc_10, hs_11, hw⟩ := hw
  refine hk_q (hr_V (As := [.int (v_2 + 1)]) (rest := []) (T := TJ2) (N := 3) (ci := 8) hF hl.1 hC hP hS (metJ2_grow_2 l K mc_8 ms_9 _ _ X0 p0 (v_2 + 1)) rfl (cwV 1 hF.2.2.2.2 (lw_V q772 q774 qs5 q79 q775) rfl rfl rfl (by decide +kernel) ⟨Nat.le_of_ble_eq_true rfl, Nat.le_of_ble_eq_true rfl⟩) ho_7 hw rfl rfl (Nat.le_of_ble_eq_true rfl) dJ2_grow_7 ⟨hc_10, hs_11⟩) hP hS (fun r_5 X_6 H locs hw hP hS => ?_)
  obtain ⟨a_12, e_13, hw⟩ := hw
  subst e_13
  rw [va_rf_some]
  exact h_aret (r := (some a_12)) hF hr (Or.inr ⟨_, rfl⟩) hlocks hP hS ⟨hc_10, hs_11⟩ dJ2_grow_10 hw
def wpJ2_add_2_11 (post : hX → Prop) (E : Nat) (mc ms : Nat) (x0 : Nat) (x1 : Nat) (x2 : Nat) (x3 : Int32) (X : hX) (kc ks : Nat) : Prop := asQ X x2 x3 x1 (fun X_5 => pfV X_5 x0 8 2 (.int (x3 + 1)) (fun X_10 => post X_10))
def wpJ2_add_2 (post : hX → Prop) (E : Nat) (mc ms : Nat) (X : hX) (p0 : Nat) (p1 : Nat) (p2 : Nat) (p3 : Int32) : Prop := alen E X p2 (fun v_11 => ((p3 = v_11 → isO X p0 8 ((∃ mc_16 ms_17 : Nat, 0 + mc_16 ≤ mc ∧ 0 + ms_17 ≤ ms ∧ wpJ2_grow (fun r_13 X_14 => (∃ a_20 : Nat, r_13 = some a_20 ∧ wpJ2_add_2_11 post E mc ms p0 p1 a_20 p3 X_14 (0 + mc_16) (0 + ms_17))) E mc_16 ms_17 X p0))) ∧ (¬ p3 = v_11 → wpJ2_add_2_11 post E mc ms p0 p1 p2 p3 X 0 0)))
abbrev wsJ2_add_2 : List Cond := ws_ yJ2_add_2 cJ2_add_2 4 none
set_option maxHeartbeats 8000000 in
theorem metJ2_add_2 (l : Launch) (K : HK) (mc ms : Nat) (sz : Nat) (post : hX → Prop) (X0 : hX) (p0 : Nat) (p1 : Nat) (p2 : Nat) (p3 : Int32) : Met l yJ2_add_2 wsJ2_add_2 (rmh 5 147 mc ms) (hPc K X0 sz [.ref p0, .ref p1, .ref p2, .int p3] (wpJ2_add_2 post (K.2.2 0) mc ms X0 p0 p1 p2 p3)) (hQv post K X0 sz) mc ms (hA X0 sz) := by
  refine Met.ofW (cc := cJ2_add_2) (maxL := 4) (ret := none) (by decide) rfl ?_
  intro p e s m args below meth c s₁ B hml hv
  obtain ⟨rfl, hv⟩ := hv
  obtain ⟨hC, hP, hw⟩ := HC.of hv
  have hsz : s.heap.size = sz := hv.1
  subst hsz
  clear hv
  have hr := B.returns
  have hts := atoms_spec (ws := wsJ2_add_2) B.pre
  have hts : ∀ w ∈ lw_all, w.before _ s = true := fun w h => hts w (List.mem_cons_of_mem _ h)
  have hF : CallFix p m c cJ2_add_2 4 s ([.ref p0, .ref p1, .ref p2, .int p3] : List Value).toArray lw_all RJ2 := ⟨B.exec, B.bytes, hml, findClass_of_methodNamed B.named, hts⟩
  have hlocks := B.notSynchronized
  have hl := lv_entry ([.ref p0, .ref p1, .ref p2, .int p3]) (n := 4) (Nat.le_of_ble_eq_true rfl)
  rw [lg_entry_eq]
  generalize (lg_sl ([.ref p0, .ref p1, .ref p2, .int p3]) ++ List.replicate (4 - (lg_sl ([.ref p0, .ref p1, .ref p2, .int p3])).length) Slot.unset).toArray = ls at hl ⊢
  have hl : lv_has ls 4 [(0, .ref p0), (1, .ref p1), (2, .ref p2), (3, .int p3)] := hl
  have hS : va_S (hA X0 s.heap.size) s.heap s.heap [] := va_S.rf
  have T11 : ∀ (x0 : Nat) (x1 : Nat) (x2 : Nat) (x3 : Int32) (X : hX) (kc ks : Nat) (H : Heap) (locs : List Loc) (ls : Array Slot), hI K X0 s.heap.size X H → va_S (hA X0 s.heap.size) s.heap H locs → kc ≤ mc ∧ ks ≤ ms → lv_has ls 4 [(0, .ref x0), (1, .ref x1), (2, .ref x2), (3, .int x3)] → wpJ2_add_2_11 post (K.2.2 0) mc ms x0 x1 x2 x3 X kc ks → W p l e (rmh 5 147 mc ms) s m ([.ref p0, .ref p1, .ref p2, .int p3] : List Value).toArray below meth c H locs kc ks (MQ below (hQv post K X0 s.heap.size) ([.ref p0, .ref p1, .ref p2, .int p3] : List Value).toArray s mc ms (hA X0 s.heap.size)) (F0 m 11 ls []) := by
    intro x0 x1 x2 x3 X kc ks H locs ls hP hS hk hl hw
    unfold wpJ2_add_2_11 at hw
    refine lv_aload_n hF.1 hF.2.1 dJ2_add_2_11 rfl (lv_at hl 2 rfl) ?_
    refine lv_iload_n hF.1 hF.2.1 dJ2_add_2_12 rfl (lv_at hl 3 rfl) ?_
    refine lv_aload_n hF.1 hF.2.1 dJ2_add_2_13 rfl (lv_at hl 1 rfl) ?_
    obtain ⟨n_1, f_2, hx_3, hi_4, hv_6, hw⟩ := hw
    refine x_aast hF hC hP hS hx_3 hi_4 hv_6 dJ2_add_2_14 (fun H locs hP hS => ?_)
    generalize hup X x2 (.inl (4, n_1, .inr (.inr (.inr (.inr (va_up f_2 (Int32.toNatClampNeg x3) (some x1))))))) = X_5 at hP hw
    refine lv_aload_n hF.1 hF.2.1 dJ2_add_2_15 rfl (lv_at hl 0 rfl) ?_
    refine lv_iload_n hF.1 hF.2.1 dJ2_add_2_16 rfl (lv_at hl 3 rfl) ?_
    refine lv_iconst (v := 1) hF.1 hF.2.1 dJ2_add_2_17 (by decide) ?_
    refine lv_iadd hF.1 hF.2.1 dJ2_add_2_18 ?_
    obtain ⟨fs_7, hx_8, hl_9, hw⟩ := hw
    refine x_put hF hC hP hS in_J2 rfl tyJ2 tyJ2_ok nmJ2 2 (by decide) q139 (fun _ z => z) rfl rfl rfl hx_8 hl_9 dJ2_add_2_19 (fun H locs hP hS => ?_)
    generalize hup X_5 x0 (.inr (8, fs_7.set 2 (.int (x3 + 1)))) = X_10 at hP hw
    exact h_vret hF hr hlocks hP hS hk dJ2_add_2_22 hw
  unfold wpJ2_add_2 at hw
  show W p l e (rmh 5 147 mc ms) s m _ below meth c _ _ _ _ _ _
  refine lv_iload_n hF.1 hF.2.1 dJ2_add_2_0 rfl (lv_at hl 3 rfl) ?_
  refine lv_aload_n hF.1 hF.2.1 dJ2_add_2_1 rfl (lv_at hl 2 rfl) ?_
  refine x_alen hF hC hP hS hw dJ2_add_2_2 (fun v_11 hw => ?_)
  refine lv_icmp_ne (tgt := 11) hF.1 hF.2.1 dJ2_add_2_3 (by decide) (fun c_12 => ?_) (fun c_12 => ?_)
  · have hw := hw.2 c_12
    exact T11 p0 p1 p2 p3 X0 0 0 _ _ ls hP hS ⟨Nat.zero_le _, Nat.zero_le _⟩ (lv_sub hl [0, 1, 2, 3] rfl) hw
  · have hw := hw.1 c_12
    refine lv_aload_n hF.1 hF.2.1 dJ2_add_2_6 rfl (lv_at hl 0 rfl) ?_
    obtain ⟨ho_15, hw⟩ := hw
    obtain ⟨mc_16, ms_17, hc_18, hs_19, hw⟩ := hw
    refine hk_q (hr_V (As := []) (rest := []) (T := TJ2) (N := 3) (ci := 8) hF hl.1 hC hP hS (metJ2_grow l K mc_16 ms_17 _ _ X0 p0) rfl (cwV 0 hF.2.2.2.2 (lw_V q768 q770 qs4 q79 q771) rfl rfl rfl (by decide +kernel) ⟨Nat.le_of_ble_eq_true rfl, Nat.le_of_ble_eq_true rfl⟩) ho_15 hw rfl rfl (Nat.le_of_ble_eq_true rfl) dJ2_add_2_7 ⟨hc_18, hs_19⟩) hP hS (fun r_13 X_14 H locs hw hP hS => ?_)
    obtain ⟨a_20, e_21, hw⟩ := hw
    subst e_21
    rw [va_rf_some]
    refine lv_astore_n (lv' := [(2, .ref a_20), (0, .ref p0), (1, .ref p1), (3, .int p3)]) hF.1 hF.2.1 dJ2_add_2_10 rfl hl (by decide) rfl (fun ls hl => ?_)
    exact T11 p0 p1 a_20 p3 X_14 (0 + mc_16) (0 + ms_17) _ _ ls hP hS ⟨hc_18, hs_19⟩ (lv_sub hl [1, 2, 0, 3] rfl) hw
def wpJ2_add (post : Int32 → hX → Prop) (E : Nat) (mc ms : Nat) (X : hX) (p0 : Nat) (p1 : Nat) : Prop := gfI X p0 8 0 (fun v_2 => pfV X p0 8 0 (.int (v_2 + 1)) (fun X_8 => gfA X_8 p0 8 1 (fun v_10 => gfI X_8 p0 8 2 (fun v_14 => isO X_8 p0 8 ((∃ mc_19 ms_20 : Nat, 0 + mc_19 ≤ mc ∧ 0 + ms_20 ≤ ms ∧ wpJ2_add_2 (fun X_17 => post 1 X_17) E mc_19 ms_20 X_8 p0 p1 v_10 v_14))))))
abbrev wsJ2_add : List Cond := ws_ yJ2_add cJ2_add 2 (some .boolean)
set_option maxHeartbeats 8000000 in
theorem metJ2_add (l : Launch) (K : HK) (mc ms : Nat) (sz : Nat) (post : Int32 → hX → Prop) (X0 : hX) (p0 : Nat) (p1 : Nat) : Met l yJ2_add wsJ2_add (rmh 6 170 mc ms) (hPc K X0 sz [.ref p0, .ref p1] (wpJ2_add post (K.2.2 0) mc ms X0 p0 p1)) (hQi post K X0 sz) mc ms (hA X0 sz) := by
  refine Met.ofW (cc := cJ2_add) (maxL := 2) (ret := (some .boolean)) (by decide) rfl ?_
  intro p e s m args below meth c s₁ B hml hv
  obtain ⟨rfl, hv⟩ := hv
  obtain ⟨hC, hP, hw⟩ := HC.of hv
  have hsz : s.heap.size = sz := hv.1
  subst hsz
  clear hv
  have hr := B.returns
  have hts := atoms_spec (ws := wsJ2_add) B.pre
  have hts : ∀ w ∈ lw_all, w.before _ s = true := fun w h => hts w (List.mem_cons_of_mem _ h)
  have hF : CallFix p m c cJ2_add 2 s ([.ref p0, .ref p1] : List Value).toArray lw_all RJ2 := ⟨B.exec, B.bytes, hml, findClass_of_methodNamed B.named, hts⟩
  have hlocks := B.notSynchronized
  have hl := lv_entry ([.ref p0, .ref p1]) (n := 2) (Nat.le_of_ble_eq_true rfl)
  rw [lg_entry_eq]
  generalize (lg_sl ([.ref p0, .ref p1]) ++ List.replicate (2 - (lg_sl ([.ref p0, .ref p1])).length) Slot.unset).toArray = ls at hl ⊢
  have hl : lv_has ls 2 [(0, .ref p0), (1, .ref p1)] := hl
  have hS : va_S (hA X0 s.heap.size) s.heap s.heap [] := va_S.rf
  unfold wpJ2_add at hw
  show W p l e (rmh 6 170 mc ms) s m _ below meth c _ _ _ _ _ _
  refine lv_aload_n hF.1 hF.2.1 dJ2_add_0 rfl (lv_at hl 0 rfl) ?_
  refine lv_dup hF.1 hF.2.1 dJ2_add_1 rfl ?_
  obtain ⟨fs_1, v_2, hx_3, hv_4, hw⟩ := hw
  refine x_get hF hC hP in_J2 rfl 0 (by decide) q141 (fun x z => u_same (hF.2.2.2.2 _ q142) x z) hx_3 hv_4 dJ2_add_2 ?_
  refine lv_iconst (v := 1) hF.1 hF.2.1 dJ2_add_5 (by decide) ?_
  refine lv_iadd hF.1 hF.2.1 dJ2_add_6 ?_
  obtain ⟨fs_5, hx_6, hl_7, hw⟩ := hw
  refine x_put hF hC hP hS in_J2 rfl tyJ2 tyJ2_ok nmJ2 0 (by decide) q141 (fun x z => u_same (hF.2.2.2.2 _ q142) x z) rfl rfl rfl hx_6 hl_7 dJ2_add_7 (fun H locs hP hS => ?_)
  generalize hup X0 p0 (.inr (8, fs_5.set 0 (.int (v_2 + 1)))) = X_8 at hP hw
  refine lv_aload_n hF.1 hF.2.1 dJ2_add_10 rfl (lv_at hl 0 rfl) ?_
  refine lv_aload_n hF.1 hF.2.1 dJ2_add_11 rfl (lv_at hl 1 rfl) ?_
  refine lv_aload_n hF.1 hF.2.1 dJ2_add_12 rfl (lv_at hl 0 rfl) ?_
  obtain ⟨fs_9, v_10, hx_11, hv_12, hw⟩ := hw
  refine x_get hF hC hP in_J2 rfl 1 (by decide) q138 (fun _ z => z) hx_11 hv_12 dJ2_add_13 ?_
  refine lv_aload_n hF.1 hF.2.1 dJ2_add_16 rfl (lv_at hl 0 rfl) ?_
  obtain ⟨fs_13, v_14, hx_15, hv_16, hw⟩ := hw
  refine x_get hF hC hP in_J2 rfl 2 (by decide) q139 (fun _ z => z) hx_15 hv_16 dJ2_add_17 ?_
  obtain ⟨ho_18, hw⟩ := hw
  obtain ⟨mc_19, ms_20, hc_21, hs_22, hw⟩ := hw
  refine hk_v (hr_V (As := [.ref p1, .ref v_10, .int v_14]) (rest := []) (T := TJ2) (N := 3) (ci := 8) hF hl.1 hC hP hS (metJ2_add_2 l K mc_19 ms_20 _ _ X_8 p0 p1 v_10 v_14) rfl (cwV 3 hF.2.2.2.2 (lw_V q764 q766 qs3 q79 q767) rfl rfl rfl (by decide +kernel) ⟨Nat.le_of_ble_eq_true rfl, Nat.le_of_ble_eq_true rfl⟩) ho_18 hw rfl rfl (Nat.le_of_ble_eq_true rfl) dJ2_add_20 ⟨hc_21, hs_22⟩) hP hS (fun X_17 H locs hw hP hS => ?_)
  refine lv_iconst (v := 1) hF.1 hF.2.1 dJ2_add_23 (by decide) ?_
  exact h_zret hF hr hlocks hP hS ⟨hc_21, hs_22⟩ dJ2_add_24 (Or.inr rfl) hw
def wpJ2_set (post : Option Nat → hX → Prop) (E : Nat) (X : hX) (p0 : Nat) (p1 : Int32) (p2 : Nat) : Prop := gfI X p0 8 2 (fun v_2 => wpJ8_checkIndex (fun r_5 X_6 => isO X_6 p0 8 (wpJ2_elementData (fun r_7 X_8 => (∃ a_10 : Nat, r_7 = some a_10 ∧ gfA X_8 p0 8 1 (fun v_13 => asQ X_8 v_13 p1 p2 (fun X_20 => post (some a_10) X_20)))) E X_6 p0 p1)) E X p1 v_2)
abbrev wsJ2_set : List Cond := ws_ yJ2_set cJ2_set 4 (some (.object "java/lang/Object"))
set_option maxHeartbeats 8000000 in
theorem metJ2_set (l : Launch) (K : HK) (sz : Nat) (post : Option Nat → hX → Prop) (X0 : hX) (p0 : Nat) (p1 : Int32) (p2 : Nat) : Met l yJ2_set wsJ2_set (rmh 2 43 0 0) (hPc K X0 sz [.ref p0, .int p1, .ref p2] (wpJ2_set post (K.2.2 0) X0 p0 p1 p2)) (hQq post K X0 sz) 0 0 (hA X0 sz) := by
  refine Met.ofW (cc := cJ2_set) (maxL := 4) (ret := (some (.object "java/lang/Object"))) (by decide) rfl ?_
  intro p e s m args below meth c s₁ B hml hv
  obtain ⟨rfl, hv⟩ := hv
  obtain ⟨hC, hP, hw⟩ := HC.of hv
  have hsz : s.heap.size = sz := hv.1
  subst hsz
  clear hv
  have hr := B.returns
  have hts := atoms_spec (ws := wsJ2_set) B.pre
  have hts : ∀ w ∈ lw_all, w.before _ s = true := fun w h => hts w (List.mem_cons_of_mem _ h)
  have hF : CallFix p m c cJ2_set 4 s ([.ref p0, .int p1, .ref p2] : List Value).toArray lw_all RJ2 := ⟨B.exec, B.bytes, hml, findClass_of_methodNamed B.named, hts⟩
  have hlocks := B.notSynchronized
  have hl := lv_entry ([.ref p0, .int p1, .ref p2]) (n := 4) (Nat.le_of_ble_eq_true rfl)
  rw [lg_entry_eq]
  generalize (lg_sl ([.ref p0, .int p1, .ref p2]) ++ List.replicate (4 - (lg_sl ([.ref p0, .int p1, .ref p2])).length) Slot.unset).toArray = ls at hl ⊢
  have hl : lv_has ls 4 [(0, .ref p0), (1, .int p1), (2, .ref p2)] := hl
  have hS : va_S (hA X0 s.heap.size) s.heap s.heap [] := va_S.rf
  unfold wpJ2_set at hw
  show W p l e (rmh 2 43 0 0) s m _ below meth c _ _ _ _ _ _
  refine lv_iload_n hF.1 hF.2.1 dJ2_set_0 rfl (lv_at hl 1 rfl) ?_
  refine lv_aload_n hF.1 hF.2.1 dJ2_set_1 rfl (lv_at hl 0 rfl) ?_
  obtain ⟨fs_1, v_2, hx_3, hv_4, hw⟩ := hw
  refine x_get hF hC hP in_J2 rfl 2 (by decide) q139 (fun _ z => z) hx_3 hv_4 dJ2_set_2 ?_
  refine hk_i (hr_S (As := [.int p1, .int v_2]) (rest := []) hF hl.1 hC hP hS (metJ8_checkIndex l K _ _ X0 p1 v_2) (va_cwS 2 hF.2.2.2.2 (lw_S q350 q351 q86 q352) rfl rfl rfl (by decide +kernel) ⟨Nat.le_of_ble_eq_true rfl, Nat.le_of_ble_eq_true rfl⟩) hw rfl rfl (Nat.le_of_ble_eq_true rfl) dJ2_set_5 ⟨Nat.le_refl _, Nat.le_refl _⟩) hP hS (fun r_5 X_6 H locs hw hP hS => ?_)
  refine lv_pop hF.1 hF.2.1 dJ2_set_8 rfl ?_
  refine lv_aload_n hF.1 hF.2.1 dJ2_set_9 rfl (lv_at hl 0 rfl) ?_
  refine lv_iload_n hF.1 hF.2.1 dJ2_set_10 rfl (lv_at hl 1 rfl) ?_
  obtain ⟨ho_9, hw⟩ := hw
  refine hk_q (hr_V (As := [.int p1]) (rest := []) (T := TJ2) (N := 3) (ci := 8) hF hl.1 hC hP hS (metJ2_elementData l K _ _ X_6 p0 p1) rfl (cwV 1 hF.2.2.2.2 (lw_V q356 q357 q358 q79 q359) rfl rfl rfl (by decide +kernel) ⟨Nat.le_of_ble_eq_true rfl, Nat.le_of_ble_eq_true rfl⟩) ho_9 hw rfl rfl (Nat.le_of_ble_eq_true rfl) dJ2_set_11 ⟨Nat.le_refl _, Nat.le_refl _⟩) hP hS (fun r_7 X_8 H locs hw hP hS => ?_)
  obtain ⟨a_10, e_11, hw⟩ := hw
  subst e_11
  rw [va_rf_some]
  refine lv_astore_n (lv' := [(3, .ref a_10), (0, .ref p0), (1, .int p1), (2, .ref p2)]) hF.1 hF.2.1 dJ2_set_14 rfl hl (by decide) rfl (fun ls hl => ?_)
  refine lv_aload_n hF.1 hF.2.1 dJ2_set_15 rfl (lv_at hl 1 rfl) ?_
  obtain ⟨fs_12, v_13, hx_14, hv_15, hw⟩ := hw
  refine x_get hF hC hP in_J2 rfl 1 (by decide) q138 (fun _ z => z) hx_14 hv_15 dJ2_set_16 ?_
  refine lv_iload_n hF.1 hF.2.1 dJ2_set_19 rfl (lv_at hl 2 rfl) ?_
  refine lv_aload_n hF.1 hF.2.1 dJ2_set_20 rfl (lv_at hl 3 rfl) ?_
  obtain ⟨n_16, f_17, hx_18, hi_19, hv_21, hw⟩ := hw
  refine x_aast hF hC hP hS hx_18 hi_19 hv_21 dJ2_set_21 (fun H locs hP hS => ?_)
  generalize hup X_8 v_13 (.inl (4, n_16, .inr (.inr (.inr (.inr (va_up f_17 (Int32.toNatClampNeg p1) (some p2))))))) = X_20 at hP hw
  refine lv_aload_n hF.1 hF.2.1 dJ2_set_22 rfl (lv_at hl 0 rfl) ?_
  exact h_aret (r := (some a_10)) hF hr (Or.inl ⟨_, rfl⟩) hlocks hP hS ⟨Nat.le_refl _, Nat.le_refl _⟩ dJ2_set_23 hw
def wpJ3_inc (post : Int32 → hX → Prop) (E : Nat) (X : hX) (p0 : Int32) (p1 : Int32) : Prop := (∀ x0_1 : Int32, x0_1 = p0 + 1 → ((x0_1 < p1 → post x0_1 X) ∧ (¬ x0_1 < p1 → post 0 X)))
abbrev wsJ3_inc : List Cond := ws_ yJ3_inc cJ3_inc 2 (some .int)
set_option maxHeartbeats 8000000 in
theorem metJ3_inc (l : Launch) (K : HK) (sz : Nat) (post : Int32 → hX → Prop) (X0 : hX) (p0 : Int32) (p1 : Int32) : Met l yJ3_inc wsJ3_inc (rmh 0 0 0 0) (hPc K X0 sz [.int p0, .int p1] (wpJ3_inc post (K.2.2 0) X0 p0 p1)) (hQi post K X0 sz) 0 0 (hA X0 sz) := by
  refine Met.ofW (cc := cJ3_inc) (maxL := 2) (ret := (some .int)) (by decide) rfl ?_
  intro p e s m args below meth c s₁ B hml hv
  obtain ⟨rfl, hv⟩ := hv
  obtain ⟨hC, hP, hw⟩ := HC.of hv
  have hsz : s.heap.size = sz := hv.1
  subst hsz
  clear hv
  have hr := B.returns
  have hts := atoms_spec (ws := wsJ3_inc) B.pre
  have hts : ∀ w ∈ lw_all, w.before _ s = true := fun w h => hts w (List.mem_cons_of_mem _ h)
  have hF : CallFix p m c cJ3_inc 2 s ([.int p0, .int p1] : List Value).toArray lw_all RJ3 := ⟨B.exec, B.bytes, hml, findClass_of_methodNamed B.named, hts⟩
  have hlocks := B.notSynchronized
  have hl := lv_entry ([.int p0, .int p1]) (n := 2) (Nat.le_of_ble_eq_true rfl)
  rw [lg_entry_eq]
  generalize (lg_sl ([.int p0, .int p1]) ++ List.replicate (2 - (lg_sl ([.int p0, .int p1])).length) Slot.unset).toArray = ls at hl ⊢
  have hl : lv_has ls 2 [(0, .int p0), (1, .int p1)] := hl
  have hS : va_S (hA X0 s.heap.size) s.heap s.heap [] := va_S.rf
  unfold wpJ3_inc at hw
  show W p l e (rmh 0 0 0 0) s m _ below meth c _ _ _ _ _ _
  obtain ⟨x0_1, ex0_1⟩ : ∃ y : Int32, y = p0 + 1 := ⟨_, rfl⟩
  have hw := hw x0_1 ex0_1
  refine lv_iinc (v := x0_1) (lv' := [(0, .int x0_1), (1, .int p1)]) hF.1 hF.2.1 dJ3_inc_0 hl (k := 0) rfl (by rw [ex0_1]; rfl) (by decide) rfl (fun ls hl => ?_)
  refine lv_iload_n hF.1 hF.2.1 dJ3_inc_3 rfl (lv_at hl 0 rfl) ?_
  refine lv_iload_n hF.1 hF.2.1 dJ3_inc_4 rfl (lv_at hl 1 rfl) ?_
  refine lv_icmp_lt (tgt := 10) hF.1 hF.2.1 dJ3_inc_5 (by decide) (fun c_2 => ?_) (fun c_2 => ?_)
  · have hw := hw.1 c_2
    refine lv_iload_n hF.1 hF.2.1 dJ3_inc_10 rfl (lv_at hl 0 rfl) ?_
    exact h_iret hF hr hlocks hP hS ⟨Nat.le_refl _, Nat.le_refl _⟩ dJ3_inc_11 hw
  · have hw := hw.2 c_2
    refine lv_iconst (v := 0) hF.1 hF.2.1 dJ3_inc_8 (by decide) ?_
    refine lv_istore_n (lv' := [(0, .int 0), (1, .int p1)]) hF.1 hF.2.1 dJ3_inc_9 rfl hl (by decide) rfl (fun ls hl => ?_)
    refine lv_iload_n hF.1 hF.2.1 dJ3_inc_10 rfl (lv_at hl 0 rfl) ?_
    exact h_iret hF hr hlocks hP hS ⟨Nat.le_refl _, Nat.le_refl _⟩ dJ3_inc_11 hw
def wpJ3_dec (post : Int32 → hX → Prop) (E : Nat) (X : hX) (p0 : Int32) (p1 : Int32) : Prop := (∀ x0_1 : Int32, x0_1 = p0 + (-1) → ((0 ≤ x0_1 → post x0_1 X) ∧ (¬ 0 ≤ x0_1 → (∀ x0_3 : Int32, x0_3 = p1 - 1 → post x0_3 X))))
abbrev wsJ3_dec : List Cond := ws_ yJ3_dec cJ3_dec 2 (some .int)
set_option maxHeartbeats 8000000 in
theorem metJ3_dec (l : Launch) (K : HK) (sz : Nat) (post : Int32 → hX → Prop) (X0 : hX) (p0 : Int32) (p1 : Int32) : Met l yJ3_dec wsJ3_dec (rmh 0 0 0 0) (hPc K X0 sz [.int p0, .int p1] (wpJ3_dec post (K.2.2 0) X0 p0 p1)) (hQi post K X0 sz) 0 0 (hA X0 sz) := by
  refine Met.ofW (cc := cJ3_dec) (maxL := 2) (ret := (some .int)) (by decide) rfl ?_
  intro p e s m args below meth c s₁ B hml hv
  obtain ⟨rfl, hv⟩ := hv
  obtain ⟨hC, hP, hw⟩ := HC.of hv
  have hsz : s.heap.size = sz := hv.1
  subst hsz
  clear hv
  have hr := B.returns
  have hts := atoms_spec (ws := wsJ3_dec) B.pre
  have hts : ∀ w ∈ lw_all, w.before _ s = true := fun w h => hts w (List.mem_cons_of_mem _ h)
  have hF : CallFix p m c cJ3_dec 2 s ([.int p0, .int p1] : List Value).toArray lw_all RJ3 := ⟨B.exec, B.bytes, hml, findClass_of_methodNamed B.named, hts⟩
  have hlocks := B.notSynchronized
  have hl := lv_entry ([.int p0, .int p1]) (n := 2) (Nat.le_of_ble_eq_true rfl)
  rw [lg_entry_eq]
  generalize (lg_sl ([.int p0, .int p1]) ++ List.replicate (2 - (lg_sl ([.int p0, .int p1])).length) Slot.unset).toArray = ls at hl ⊢
  have hl : lv_has ls 2 [(0, .int p0), (1, .int p1)] := hl
  have hS : va_S (hA X0 s.heap.size) s.heap s.heap [] := va_S.rf
  unfold wpJ3_dec at hw
  show W p l e (rmh 0 0 0 0) s m _ below meth c _ _ _ _ _ _
  obtain ⟨x0_1, ex0_1⟩ : ∃ y : Int32, y = p0 + (-1) := ⟨_, rfl⟩
  have hw := hw x0_1 ex0_1
  refine lv_iinc (v := x0_1) (lv' := [(0, .int x0_1), (1, .int p1)]) hF.1 hF.2.1 dJ3_dec_0 hl (k := 0) rfl (by rw [ex0_1]; rfl) (by decide) rfl (fun ls hl => ?_)
  refine lv_iload_n hF.1 hF.2.1 dJ3_dec_3 rfl (lv_at hl 0 rfl) ?_
  refine lv_if_ge (tgt := 11) hF.1 hF.2.1 dJ3_dec_4 (by decide) (fun c_2 => ?_) (fun c_2 => ?_)
  · have hw := hw.1 c_2
    refine lv_iload_n hF.1 hF.2.1 dJ3_dec_11 rfl (lv_at hl 0 rfl) ?_
    exact h_iret hF hr hlocks hP hS ⟨Nat.le_refl _, Nat.le_refl _⟩ dJ3_dec_12 hw
  · have hw := hw.2 c_2
    refine lv_iload_n hF.1 hF.2.1 dJ3_dec_7 rfl (lv_at hl 1 rfl) ?_
    refine lv_iconst (v := 1) hF.1 hF.2.1 dJ3_dec_8 (by decide) ?_
    refine lv_isub hF.1 hF.2.1 dJ3_dec_9 ?_
    refine lv_topi (fun x0_3 ex0_3 => ?_)
    have hw := hw x0_3 ex0_3
    refine lv_istore_n (lv' := [(0, .int x0_3), (1, .int p1)]) hF.1 hF.2.1 dJ3_dec_10 rfl hl (by decide) rfl (fun ls hl => ?_)
    refine lv_iload_n hF.1 hF.2.1 dJ3_dec_11 rfl (lv_at hl 0 rfl) ?_
    exact h_iret hF hr hlocks hP hS ⟨Nat.le_refl _, Nat.le_refl _⟩ dJ3_dec_12 hw
def wpJ3_sub (post : Int32 → hX → Prop) (E : Nat) (X : hX) (p0 : Int32) (p1 : Int32) (p2 : Int32) : Prop := (∀ x0_1 : Int32, x0_1 = p0 - p1 → ((0 ≤ (p0 - p1) → post x0_1 X) ∧ (¬ 0 ≤ (p0 - p1) → (∀ x0_3 : Int32, x0_3 = x0_1 + p2 → post x0_3 X))))
abbrev wsJ3_sub : List Cond := ws_ yJ3_sub cJ3_sub 3 (some .int)
set_option maxHeartbeats 8000000 in
theorem metJ3_sub (l : Launch) (K : HK) (sz : Nat) (post : Int32 → hX → Prop) (X0 : hX) (p0 : Int32) (p1 : Int32) (p2 : Int32) : Met l yJ3_sub wsJ3_sub (rmh 0 0 0 0) (hPc K X0 sz [.int p0, .int p1, .int p2] (wpJ3_sub post (K.2.2 0) X0 p0 p1 p2)) (hQi post K X0 sz) 0 0 (hA X0 sz) := by
  refine Met.ofW (cc := cJ3_sub) (maxL := 3) (ret := (some .int)) (by decide) rfl ?_
  intro p e s m args below meth c s₁ B hml hv
  obtain ⟨rfl, hv⟩ := hv
  obtain ⟨hC, hP, hw⟩ := HC.of hv
  have hsz : s.heap.size = sz := hv.1
  subst hsz
  clear hv
  have hr := B.returns
  have hts := atoms_spec (ws := wsJ3_sub) B.pre
  have hts : ∀ w ∈ lw_all, w.before _ s = true := fun w h => hts w (List.mem_cons_of_mem _ h)
  have hF : CallFix p m c cJ3_sub 3 s ([.int p0, .int p1, .int p2] : List Value).toArray lw_all RJ3 := ⟨B.exec, B.bytes, hml, findClass_of_methodNamed B.named, hts⟩
  have hlocks := B.notSynchronized
  have hl := lv_entry ([.int p0, .int p1, .int p2]) (n := 3) (Nat.le_of_ble_eq_true rfl)
  rw [lg_entry_eq]
  generalize (lg_sl ([.int p0, .int p1, .int p2]) ++ List.replicate (3 - (lg_sl ([.int p0, .int p1, .int p2])).length) Slot.unset).toArray = ls at hl ⊢
  have hl : lv_has ls 3 [(0, .int p0), (1, .int p1), (2, .int p2)] := hl
  have hS : va_S (hA X0 s.heap.size) s.heap s.heap [] := va_S.rf
  unfold wpJ3_sub at hw
  show W p l e (rmh 0 0 0 0) s m _ below meth c _ _ _ _ _ _
  refine lv_iload_n hF.1 hF.2.1 dJ3_sub_0 rfl (lv_at hl 0 rfl) ?_
  refine lv_iload_n hF.1 hF.2.1 dJ3_sub_1 rfl (lv_at hl 1 rfl) ?_
  refine lv_isub hF.1 hF.2.1 dJ3_sub_2 ?_
  refine lv_dup hF.1 hF.2.1 dJ3_sub_3 rfl ?_
  refine lv_topi (fun x0_1 ex0_1 => ?_)
  have hw := hw x0_1 ex0_1
  refine lv_istore_n (lv' := [(0, .int x0_1), (1, .int p1), (2, .int p2)]) hF.1 hF.2.1 dJ3_sub_4 rfl hl (by decide) rfl (fun ls hl => ?_)
  refine lv_if_ge (tgt := 12) hF.1 hF.2.1 dJ3_sub_5 (by decide) (fun c_2 => ?_) (fun c_2 => ?_)
  · have hw := hw.1 c_2
    refine lv_iload_n hF.1 hF.2.1 dJ3_sub_12 rfl (lv_at hl 0 rfl) ?_
    exact h_iret hF hr hlocks hP hS ⟨Nat.le_refl _, Nat.le_refl _⟩ dJ3_sub_13 hw
  · have hw := hw.2 c_2
    refine lv_iload_n hF.1 hF.2.1 dJ3_sub_8 rfl (lv_at hl 0 rfl) ?_
    refine lv_iload_n hF.1 hF.2.1 dJ3_sub_9 rfl (lv_at hl 2 rfl) ?_
    refine lv_iadd hF.1 hF.2.1 dJ3_sub_10 ?_
    refine lv_topi (fun x0_3 ex0_3 => ?_)
    have hw := hw x0_3 ex0_3
    refine lv_istore_n (lv' := [(0, .int x0_3), (1, .int p1), (2, .int p2)]) hF.1 hF.2.1 dJ3_sub_11 rfl hl (by decide) rfl (fun ls hl => ?_)
    refine lv_iload_n hF.1 hF.2.1 dJ3_sub_12 rfl (lv_at hl 0 rfl) ?_
    exact h_iret hF hr hlocks hP hS ⟨Nat.le_refl _, Nat.le_refl _⟩ dJ3_sub_13 hw
def wpJ3_init (post : hX → Prop) (E : Nat) (mc ms : Nat) (X : hX) (p0 : Nat) : Prop := wpJ0_init (fun X_1 => newA X_1 4 (.inr (.inr (.inr (.inr (fun _ => none))))) 17 4 0 0 mc ms (fun a_2 X_3 => pfV X_3 p0 9 0 (.ref a_2) (fun X_8 => post X_8))) E X p0
abbrev wsJ3_init : List Cond := ws_ yJ3_init cJ3_init 1 none
set_option maxHeartbeats 8000000 in
theorem metJ3_init (l : Launch) (K : HK) (mc ms : Nat) (sz : Nat) (post : hX → Prop) (X0 : hX) (p0 : Nat) : Met l yJ3_init wsJ3_init (rmh 2 40 mc ms) (hPc K X0 sz [.ref p0] (wpJ3_init post (K.2.2 0) mc ms X0 p0)) (hQv post K X0 sz) mc ms (hA X0 sz) := by
  refine Met.ofW (cc := cJ3_init) (maxL := 1) (ret := none) (by decide) rfl ?_
  intro p e s m args below meth c s₁ B hml hv
  obtain ⟨rfl, hv⟩ := hv
  obtain ⟨hC, hP, hw⟩ := HC.of hv
  have hsz : s.heap.size = sz := hv.1
  subst hsz
  clear hv
  have hr := B.returns
  have hts := atoms_spec (ws := wsJ3_init) B.pre
  have hts : ∀ w ∈ lw_all, w.before _ s = true := fun w h => hts w (List.mem_cons_of_mem _ h)
  have hF : CallFix p m c cJ3_init 1 s ([.ref p0] : List Value).toArray lw_all RJ3 := ⟨B.exec, B.bytes, hml, findClass_of_methodNamed B.named, hts⟩
  have hlocks := B.notSynchronized
  have hin : meth.name = "<init>" := (name_of_methodNamed B.named B.method).1
  have hl := lv_entry ([.ref p0]) (n := 1) (Nat.le_of_ble_eq_true rfl)
  rw [lg_entry_eq]
  generalize (lg_sl ([.ref p0]) ++ List.replicate (1 - (lg_sl ([.ref p0])).length) Slot.unset).toArray = ls at hl ⊢
  have hl : lv_has ls 1 [(0, .ref p0)] := hl
  have hS : va_S (hA X0 s.heap.size) s.heap s.heap [] := va_S.rf
  unfold wpJ3_init at hw
  show W p l e (rmh 2 40 mc ms) s m _ below meth c _ _ _ _ _ _
  refine lv_aload_n hF.1 hF.2.1 dJ3_init_0 rfl (lv_at hl 0 rfl) ?_
  refine hk_v (hr_I (As := []) (rest := []) hF hl.1 hC hP hS (metJ0_init l K _ _ X0 p0) (cwI 0 hF.2.2.2.2 (lw_meth q134) rfl rfl rfl (hF.2.2.2.2 _ q77) (hF.2.2.2.2 _ q197) (hF.2.2.2.2 _ q133) rfl (by decide +kernel) ⟨Nat.le_of_ble_eq_true rfl, Nat.le_of_ble_eq_true rfl⟩) hw rfl rfl (Nat.le_of_ble_eq_true rfl) dJ3_init_1 ⟨Nat.zero_le _, Nat.zero_le _⟩) hP hS (fun X_1 H locs hw hP hS => ?_)
  refine lv_aload_n hF.1 hF.2.1 dJ3_init_4 rfl (lv_at hl 0 rfl) ?_
  refine lv_bipush (v := 17) hF.1 hF.2.1 dJ3_init_5 (by decide) ?_
  refine x_newq hF hC hP hS q198 hw ⟨rfl, rfl⟩ dJ3_init_7 (fun a_2 X_3 H pk_4c pk_4s hw hP hS => ?_)
  obtain ⟨fs_5, hx_6, hl_7, hw⟩ := hw
  refine x_put hF hC hP hS in_J3 rfl tyJ3 tyJ3_ok nmJ3 0 (by decide) q200 (fun _ z => z) rfl rfl rfl hx_6 hl_7 dJ3_init_10 (fun H locs hP hS => ?_)
  generalize hup X_3 p0 (.inr (9, fs_5.set 0 (.ref a_2))) = X_8 at hP hw
  exact h_vret hF hr hlocks hP hS ⟨pk_4c, pk_4s⟩ dJ3_init_13 hw
def wpJ3_addLast (post : hX → Prop) (E : Nat) (X : hX) (p0 : Nat) (p1 : Nat) : Prop := gfA X p0 9 0 (fun v_2 => gfI X p0 9 2 (fun v_6 => asQ X v_2 v_6 p1 (fun X_13 => gfI X_13 p0 9 1 (fun v_16 => gfI X_13 p0 9 2 (fun v_20 => alen E X_13 v_2 (fun v_23 => wpJ3_inc (fun r_24 X_25 => pfV X_25 p0 9 2 (.int r_24) (fun X_29 => ((v_16 = r_24 → False) ∧ (¬ v_16 = r_24 → post X_29)))) E X_13 v_20 v_23))))))
abbrev wsJ3_addLast : List Cond := ws_ yJ3_addLast cJ3_addLast 3 none
set_option maxHeartbeats 8000000 in
theorem metJ3_addLast (l : Launch) (K : HK) (sz : Nat) (post : hX → Prop) (X0 : hX) (p0 : Nat) (p1 : Nat) : Met l yJ3_addLast wsJ3_addLast (rmh 1 21 0 0) (hPc K X0 sz [.ref p0, .ref p1] (wpJ3_addLast post (K.2.2 0) X0 p0 p1)) (hQv post K X0 sz) 0 0 (hA X0 sz) := by
  refine Met.ofW (cc := cJ3_addLast) (maxL := 3) (ret := none) (by decide) rfl ?_
  intro p e s m args below meth c s₁ B hml hv
  obtain ⟨rfl, hv⟩ := hv
  obtain ⟨hC, hP, hw⟩ := HC.of hv
  have hsz : s.heap.size = sz := hv.1
  subst hsz
  clear hv
  have hr := B.returns
  have hts := atoms_spec (ws := wsJ3_addLast) B.pre
  have hts : ∀ w ∈ lw_all, w.before _ s = true := fun w h => hts w (List.mem_cons_of_mem _ h)
  have hF : CallFix p m c cJ3_addLast 3 s ([.ref p0, .ref p1] : List Value).toArray lw_all RJ3 := ⟨B.exec, B.bytes, hml, findClass_of_methodNamed B.named, hts⟩
  have hlocks := B.notSynchronized
  have hl := lv_entry ([.ref p0, .ref p1]) (n := 3) (Nat.le_of_ble_eq_true rfl)
  rw [lg_entry_eq]
  generalize (lg_sl ([.ref p0, .ref p1]) ++ List.replicate (3 - (lg_sl ([.ref p0, .ref p1])).length) Slot.unset).toArray = ls at hl ⊢
  have hl : lv_has ls 3 [(0, .ref p0), (1, .ref p1)] := hl
  have hS : va_S (hA X0 s.heap.size) s.heap s.heap [] := va_S.rf
  unfold wpJ3_addLast at hw
  show W p l e (rmh 1 21 0 0) s m _ below meth c _ _ _ _ _ _
  refine lv_aload_n hF.1 hF.2.1 dJ3_addLast_0 rfl (lv_at hl 1 rfl) ?_
  refine lv_ifnonnull (tgt := 12) hF.1 hF.2.1 dJ3_addLast_1 (by decide) ?_
  refine lv_aload_n hF.1 hF.2.1 dJ3_addLast_12 rfl (lv_at hl 0 rfl) ?_
  obtain ⟨fs_1, v_2, hx_3, hv_4, hw⟩ := hw
  refine x_get hF hC hP in_J3 rfl 0 (by decide) q200 (fun _ z => z) hx_3 hv_4 dJ3_addLast_13 ?_
  refine lv_astore_n (lv' := [(2, .ref v_2), (0, .ref p0), (1, .ref p1)]) hF.1 hF.2.1 dJ3_addLast_16 rfl hl (by decide) rfl (fun ls hl => ?_)
  refine lv_aload_n hF.1 hF.2.1 dJ3_addLast_17 rfl (lv_at hl 0 rfl) ?_
  refine lv_aload_n hF.1 hF.2.1 dJ3_addLast_18 rfl (lv_at hl 1 rfl) ?_
  obtain ⟨fs_5, v_6, hx_7, hv_8, hw⟩ := hw
  refine x_get hF hC hP in_J3 rfl 2 (by decide) q202 (fun _ z => z) hx_7 hv_8 dJ3_addLast_19 ?_
  refine lv_aload_n hF.1 hF.2.1 dJ3_addLast_22 rfl (lv_at hl 2 rfl) ?_
  obtain ⟨n_9, f_10, hx_11, hi_12, hv_14, hw⟩ := hw
  refine x_aast hF hC hP hS hx_11 hi_12 hv_14 dJ3_addLast_23 (fun H locs hP hS => ?_)
  generalize hup X0 v_2 (.inl (4, n_9, .inr (.inr (.inr (.inr (va_up f_10 (Int32.toNatClampNeg v_6) (some p1))))))) = X_13 at hP hw
  refine lv_aload_n hF.1 hF.2.1 dJ3_addLast_24 rfl (lv_at hl 1 rfl) ?_
  obtain ⟨fs_15, v_16, hx_17, hv_18, hw⟩ := hw
  refine x_get hF hC hP in_J3 rfl 1 (by decide) q201 (fun _ z => z) hx_17 hv_18 dJ3_addLast_25 ?_
  refine lv_aload_n hF.1 hF.2.1 dJ3_addLast_28 rfl (lv_at hl 1 rfl) ?_
  refine lv_aload_n hF.1 hF.2.1 dJ3_addLast_29 rfl (lv_at hl 1 rfl) ?_
  obtain ⟨fs_19, v_20, hx_21, hv_22, hw⟩ := hw
  refine x_get hF hC hP in_J3 rfl 2 (by decide) q202 (fun _ z => z) hx_21 hv_22 dJ3_addLast_30 ?_
  refine lv_aload_n hF.1 hF.2.1 dJ3_addLast_33 rfl (lv_at hl 0 rfl) ?_
  refine x_alen hF hC hP hS hw dJ3_addLast_34 (fun v_23 hw => ?_)
  refine hk_i (hr_S (As := [.int v_20, .int v_23]) (rest := [.ref p0, .int v_16]) hF hl.1 hC hP hS (metJ3_inc l K _ _ X_13 v_20 v_23) (va_cwS 2 hF.2.2.2.2 (lw_S q988 q989 q80 q990) rfl rfl rfl (by decide +kernel) ⟨Nat.le_of_ble_eq_true rfl, Nat.le_of_ble_eq_true rfl⟩) hw rfl rfl (Nat.le_of_ble_eq_true rfl) dJ3_addLast_35 ⟨Nat.le_refl _, Nat.le_refl _⟩) hP hS (fun r_24 X_25 H locs hw hP hS => ?_)
  refine lv_dup_x1 hF.1 hF.2.1 dJ3_addLast_38 rfl rfl ?_
  obtain ⟨fs_26, hx_27, hl_28, hw⟩ := hw
  refine x_put hF hC hP hS in_J3 rfl tyJ3 tyJ3_ok nmJ3 2 (by decide) q202 (fun _ z => z) rfl rfl rfl hx_27 hl_28 dJ3_addLast_39 (fun H locs hP hS => ?_)
  generalize hup X_25 p0 (.inr (9, fs_26.set 2 (.int r_24))) = X_29 at hP hw
  refine lv_icmp_ne (tgt := 50) hF.1 hF.2.1 dJ3_addLast_42 (by decide) (fun c_30 => ?_) (fun c_30 => ?_)
  · have hw := hw.2 c_30
    exact h_vret hF hr hlocks hP hS ⟨Nat.le_refl _, Nat.le_refl _⟩ dJ3_addLast_50 hw
  · have hw := hw.1 c_30
    refine lv_aload_n hF.1 hF.2.1 dJ3_addLast_45 rfl (lv_at hl 1 rfl) ?_
    refine lv_iconst (v := 1) hF.1 hF.2.1 dJ3_addLast_46 (by decide) ?_
    exact False.elim hw
def wpJ3_size (post : Int32 → hX → Prop) (E : Nat) (X : hX) (p0 : Nat) : Prop := gfI X p0 9 2 (fun v_2 => gfI X p0 9 1 (fun v_6 => gfA X p0 9 0 (fun v_10 => alen E X v_10 (fun v_13 => wpJ3_sub (fun r_14 X_15 => post r_14 X_15) E X v_2 v_6 v_13))))
abbrev wsJ3_size : List Cond := ws_ yJ3_size cJ3_size 1 (some .int)
set_option maxHeartbeats 8000000 in
theorem metJ3_size (l : Launch) (K : HK) (sz : Nat) (post : Int32 → hX → Prop) (X0 : hX) (p0 : Nat) : Met l yJ3_size wsJ3_size (rmh 1 22 0 0) (hPc K X0 sz [.ref p0] (wpJ3_size post (K.2.2 0) X0 p0)) (hQi post K X0 sz) 0 0 (hA X0 sz) := by
  refine Met.ofW (cc := cJ3_size) (maxL := 1) (ret := (some .int)) (by decide) rfl ?_
  intro p e s m args below meth c s₁ B hml hv
  obtain ⟨rfl, hv⟩ := hv
  obtain ⟨hC, hP, hw⟩ := HC.of hv
  have hsz : s.heap.size = sz := hv.1
  subst hsz
  clear hv
  have hr := B.returns
  have hts := atoms_spec (ws := wsJ3_size) B.pre
  have hts : ∀ w ∈ lw_all, w.before _ s = true := fun w h => hts w (List.mem_cons_of_mem _ h)
  have hF : CallFix p m c cJ3_size 1 s ([.ref p0] : List Value).toArray lw_all RJ3 := ⟨B.exec, B.bytes, hml, findClass_of_methodNamed B.named, hts⟩
  have hlocks := B.notSynchronized
  have hl := lv_entry ([.ref p0]) (n := 1) (Nat.le_of_ble_eq_true rfl)
  rw [lg_entry_eq]
  generalize (lg_sl ([.ref p0]) ++ List.replicate (1 - (lg_sl ([.ref p0])).length) Slot.unset).toArray = ls at hl ⊢
  have hl : lv_has ls 1 [(0, .ref p0)] := hl
  have hS : va_S (hA X0 s.heap.size) s.heap s.heap [] := va_S.rf
  unfold wpJ3_size at hw
  show W p l e (rmh 1 22 0 0) s m _ below meth c _ _ _ _ _ _
  refine lv_aload_n hF.1 hF.2.1 dJ3_size_0 rfl (lv_at hl 0 rfl) ?_
  obtain ⟨fs_1, v_2, hx_3, hv_4, hw⟩ := hw
  refine x_get hF hC hP in_J3 rfl 2 (by decide) q202 (fun _ z => z) hx_3 hv_4 dJ3_size_1 ?_
  refine lv_aload_n hF.1 hF.2.1 dJ3_size_4 rfl (lv_at hl 0 rfl) ?_
  obtain ⟨fs_5, v_6, hx_7, hv_8, hw⟩ := hw
  refine x_get hF hC hP in_J3 rfl 1 (by decide) q201 (fun _ z => z) hx_7 hv_8 dJ3_size_5 ?_
  refine lv_aload_n hF.1 hF.2.1 dJ3_size_8 rfl (lv_at hl 0 rfl) ?_
  obtain ⟨fs_9, v_10, hx_11, hv_12, hw⟩ := hw
  refine x_get hF hC hP in_J3 rfl 0 (by decide) q200 (fun _ z => z) hx_11 hv_12 dJ3_size_9 ?_
  refine x_alen hF hC hP hS hw dJ3_size_12 (fun v_13 hw => ?_)
  refine hk_i (hr_S (As := [.int v_2, .int v_6, .int v_13]) (rest := []) hF hl.1 hC hP hS (metJ3_sub l K _ _ X0 v_2 v_6 v_13) (va_cwS 3 hF.2.2.2.2 (lw_S q433 q434 q80 q435) rfl rfl rfl (by decide +kernel) ⟨Nat.le_of_ble_eq_true rfl, Nat.le_of_ble_eq_true rfl⟩) hw rfl rfl (Nat.le_of_ble_eq_true rfl) dJ3_size_13 ⟨Nat.le_refl _, Nat.le_refl _⟩) hP hS (fun r_14 X_15 H locs hw hP hS => ?_)
  exact h_iret hF hr hlocks hP hS ⟨Nat.le_refl _, Nat.le_refl _⟩ dJ3_size_16 hw
def wpJ3_isEmpty (post : Int32 → hX → Prop) (E : Nat) (X : hX) (p0 : Nat) : Prop := gfI X p0 9 1 (fun v_2 => gfI X p0 9 2 (fun v_6 => ((v_2 = v_6 → post 1 X) ∧ (¬ v_2 = v_6 → post 0 X))))
abbrev wsJ3_isEmpty : List Cond := ws_ yJ3_isEmpty cJ3_isEmpty 1 (some .boolean)
set_option maxHeartbeats 8000000 in
theorem metJ3_isEmpty (l : Launch) (K : HK) (sz : Nat) (post : Int32 → hX → Prop) (X0 : hX) (p0 : Nat) : Met l yJ3_isEmpty wsJ3_isEmpty (rmh 0 0 0 0) (hPc K X0 sz [.ref p0] (wpJ3_isEmpty post (K.2.2 0) X0 p0)) (hQi post K X0 sz) 0 0 (hA X0 sz) := by
  refine Met.ofW (cc := cJ3_isEmpty) (maxL := 1) (ret := (some .boolean)) (by decide) rfl ?_
  intro p e s m args below meth c s₁ B hml hv
  obtain ⟨rfl, hv⟩ := hv
  obtain ⟨hC, hP, hw⟩ := HC.of hv
  have hsz : s.heap.size = sz := hv.1
  subst hsz
  clear hv
  have hr := B.returns
  have hts := atoms_spec (ws := wsJ3_isEmpty) B.pre
  have hts : ∀ w ∈ lw_all, w.before _ s = true := fun w h => hts w (List.mem_cons_of_mem _ h)
  have hF : CallFix p m c cJ3_isEmpty 1 s ([.ref p0] : List Value).toArray lw_all RJ3 := ⟨B.exec, B.bytes, hml, findClass_of_methodNamed B.named, hts⟩
  have hlocks := B.notSynchronized
  have hl := lv_entry ([.ref p0]) (n := 1) (Nat.le_of_ble_eq_true rfl)
  rw [lg_entry_eq]
  generalize (lg_sl ([.ref p0]) ++ List.replicate (1 - (lg_sl ([.ref p0])).length) Slot.unset).toArray = ls at hl ⊢
  have hl : lv_has ls 1 [(0, .ref p0)] := hl
  have hS : va_S (hA X0 s.heap.size) s.heap s.heap [] := va_S.rf
  unfold wpJ3_isEmpty at hw
  show W p l e (rmh 0 0 0 0) s m _ below meth c _ _ _ _ _ _
  refine lv_aload_n hF.1 hF.2.1 dJ3_isEmpty_0 rfl (lv_at hl 0 rfl) ?_
  obtain ⟨fs_1, v_2, hx_3, hv_4, hw⟩ := hw
  refine x_get hF hC hP in_J3 rfl 1 (by decide) q201 (fun _ z => z) hx_3 hv_4 dJ3_isEmpty_1 ?_
  refine lv_aload_n hF.1 hF.2.1 dJ3_isEmpty_4 rfl (lv_at hl 0 rfl) ?_
  obtain ⟨fs_5, v_6, hx_7, hv_8, hw⟩ := hw
  refine x_get hF hC hP in_J3 rfl 2 (by decide) q202 (fun _ z => z) hx_7 hv_8 dJ3_isEmpty_5 ?_
  refine lv_icmp_ne (tgt := 15) hF.1 hF.2.1 dJ3_isEmpty_8 (by decide) (fun c_9 => ?_) (fun c_9 => ?_)
  · have hw := hw.2 c_9
    refine lv_iconst (v := 0) hF.1 hF.2.1 dJ3_isEmpty_15 (by decide) ?_
    exact h_zret hF hr hlocks hP hS ⟨Nat.le_refl _, Nat.le_refl _⟩ dJ3_isEmpty_16 (Or.inl rfl) hw
  · have hw := hw.1 c_9
    refine lv_iconst (v := 1) hF.1 hF.2.1 dJ3_isEmpty_11 (by decide) ?_
    refine lv_goto (tgt := 16) hF.1 hF.2.1 dJ3_isEmpty_12 (by decide) ?_
    exact h_zret hF hr hlocks hP hS ⟨Nat.le_refl _, Nat.le_refl _⟩ dJ3_isEmpty_16 (Or.inr rfl) hw
def wpJ3_elementAt (post : Option Nat → hX → Prop) (E : Nat) (X : hX) (p0 : Nat) (p1 : Int32) : Prop := alQ X p0 p1 (fun v_5 => post v_5 X)
abbrev wsJ3_elementAt : List Cond := ws_ yJ3_elementAt cJ3_elementAt 2 (some (.object "java/lang/Object"))
set_option maxHeartbeats 8000000 in
theorem metJ3_elementAt (l : Launch) (K : HK) (sz : Nat) (post : Option Nat → hX → Prop) (X0 : hX) (p0 : Nat) (p1 : Int32) : Met l yJ3_elementAt wsJ3_elementAt (rmh 0 0 0 0) (hPc K X0 sz [.ref p0, .int p1] (wpJ3_elementAt post (K.2.2 0) X0 p0 p1)) (hQq post K X0 sz) 0 0 (hA X0 sz) := by
  refine Met.ofW (cc := cJ3_elementAt) (maxL := 2) (ret := (some (.object "java/lang/Object"))) (by decide) rfl ?_
  intro p e s m args below meth c s₁ B hml hv
  obtain ⟨rfl, hv⟩ := hv
  obtain ⟨hC, hP, hw⟩ := HC.of hv
  have hsz : s.heap.size = sz := hv.1
  subst hsz
  clear hv
  have hr := B.returns
  have hts := atoms_spec (ws := wsJ3_elementAt) B.pre
  have hts : ∀ w ∈ lw_all, w.before _ s = true := fun w h => hts w (List.mem_cons_of_mem _ h)
  have hF : CallFix p m c cJ3_elementAt 2 s ([.ref p0, .int p1] : List Value).toArray lw_all RJ3 := ⟨B.exec, B.bytes, hml, findClass_of_methodNamed B.named, hts⟩
  have hlocks := B.notSynchronized
  have hl := lv_entry ([.ref p0, .int p1]) (n := 2) (Nat.le_of_ble_eq_true rfl)
  rw [lg_entry_eq]
  generalize (lg_sl ([.ref p0, .int p1]) ++ List.replicate (2 - (lg_sl ([.ref p0, .int p1])).length) Slot.unset).toArray = ls at hl ⊢
  have hl : lv_has ls 2 [(0, .ref p0), (1, .int p1)] := hl
  have hS : va_S (hA X0 s.heap.size) s.heap s.heap [] := va_S.rf
  unfold wpJ3_elementAt at hw
  show W p l e (rmh 0 0 0 0) s m _ below meth c _ _ _ _ _ _
  refine lv_aload_n hF.1 hF.2.1 dJ3_elementAt_0 rfl (lv_at hl 0 rfl) ?_
  refine lv_iload_n hF.1 hF.2.1 dJ3_elementAt_1 rfl (lv_at hl 1 rfl) ?_
  obtain ⟨n_1, f_2, hx_3, hi_4, hw⟩ := hw
  refine x_aald hF hC hP hx_3 hi_4 dJ3_elementAt_2 ?_
  generalize f_2 (Int32.toNatClampNeg p1) = v_5 at hw ⊢
  exact h_aret (r := v_5) hF hr (Or.inl ⟨_, rfl⟩) hlocks hP hS ⟨Nat.le_refl _, Nat.le_refl _⟩ dJ3_elementAt_3 hw
def wpJ3_pollFirst (post : Option Nat → hX → Prop) (E : Nat) (X : hX) (p0 : Nat) : Prop := gfA X p0 9 0 (fun v_2 => gfI X p0 9 1 (fun v_6 => wpJ3_elementAt (fun r_9 X_10 => ((∀ a_12 : Nat, r_9 = some a_12 → asN X_10 v_2 v_6 (fun X_17 => alen E X_17 v_2 (fun v_18 => wpJ3_inc (fun r_19 X_20 => pfV X_20 p0 9 1 (.int r_19) (fun X_24 => post (some a_12) X_24)) E X_17 v_6 v_18))) ∧ (r_9 = none → post none X_10))) E X v_2 v_6))
abbrev wsJ3_pollFirst : List Cond := ws_ yJ3_pollFirst cJ3_pollFirst 4 (some (.object "java/lang/Object"))
set_option maxHeartbeats 8000000 in
theorem metJ3_pollFirst (l : Launch) (K : HK) (sz : Nat) (post : Option Nat → hX → Prop) (X0 : hX) (p0 : Nat) : Met l yJ3_pollFirst wsJ3_pollFirst (rmh 1 21 0 0) (hPc K X0 sz [.ref p0] (wpJ3_pollFirst post (K.2.2 0) X0 p0)) (hQq post K X0 sz) 0 0 (hA X0 sz) := by
  refine Met.ofW (cc := cJ3_pollFirst) (maxL := 4) (ret := (some (.object "java/lang/Object"))) (by decide) rfl ?_
  intro p e s m args below meth c s₁ B hml hv
  obtain ⟨rfl, hv⟩ := hv
  obtain ⟨hC, hP, hw⟩ := HC.of hv
  have hsz : s.heap.size = sz := hv.1
  subst hsz
  clear hv
  have hr := B.returns
  have hts := atoms_spec (ws := wsJ3_pollFirst) B.pre
  have hts : ∀ w ∈ lw_all, w.before _ s = true := fun w h => hts w (List.mem_cons_of_mem _ h)
  have hF : CallFix p m c cJ3_pollFirst 4 s ([.ref p0] : List Value).toArray lw_all RJ3 := ⟨B.exec, B.bytes, hml, findClass_of_methodNamed B.named, hts⟩
  have hlocks := B.notSynchronized
  have hl := lv_entry ([.ref p0]) (n := 4) (Nat.le_of_ble_eq_true rfl)
  rw [lg_entry_eq]
  generalize (lg_sl ([.ref p0]) ++ List.replicate (4 - (lg_sl ([.ref p0])).length) Slot.unset).toArray = ls at hl ⊢
  have hl : lv_has ls 4 [(0, .ref p0)] := hl
  have hS : va_S (hA X0 s.heap.size) s.heap s.heap [] := va_S.rf
  unfold wpJ3_pollFirst at hw
  show W p l e (rmh 1 21 0 0) s m _ below meth c _ _ _ _ _ _
  refine lv_aload_n hF.1 hF.2.1 dJ3_pollFirst_0 rfl (lv_at hl 0 rfl) ?_
  obtain ⟨fs_1, v_2, hx_3, hv_4, hw⟩ := hw
  refine x_get hF hC hP in_J3 rfl 0 (by decide) q200 (fun _ z => z) hx_3 hv_4 dJ3_pollFirst_1 ?_
  refine lv_dup hF.1 hF.2.1 dJ3_pollFirst_4 rfl ?_
  refine lv_astore_n (lv' := [(1, .ref v_2), (0, .ref p0)]) hF.1 hF.2.1 dJ3_pollFirst_5 rfl hl (by decide) rfl (fun ls hl => ?_)
  refine lv_aload_n hF.1 hF.2.1 dJ3_pollFirst_6 rfl (lv_at hl 1 rfl) ?_
  obtain ⟨fs_5, v_6, hx_7, hv_8, hw⟩ := hw
  refine x_get hF hC hP in_J3 rfl 1 (by decide) q201 (fun _ z => z) hx_7 hv_8 dJ3_pollFirst_7 ?_
  refine lv_dup hF.1 hF.2.1 dJ3_pollFirst_10 rfl ?_
  refine lv_istore_n (lv' := [(2, .int v_6), (1, .ref v_2), (0, .ref p0)]) hF.1 hF.2.1 dJ3_pollFirst_11 rfl hl (by decide) rfl (fun ls hl => ?_)
  refine hk_q (hr_S (As := [.ref v_2, .int v_6]) (rest := []) hF hl.1 hC hP hS (metJ3_elementAt l K _ _ X0 v_2 v_6) (va_cwS 2 hF.2.2.2.2 (lw_S q1027 q1028 q80 q1029) rfl rfl rfl (by decide +kernel) ⟨Nat.le_of_ble_eq_true rfl, Nat.le_of_ble_eq_true rfl⟩) hw rfl rfl (Nat.le_of_ble_eq_true rfl) dJ3_pollFirst_12 ⟨Nat.le_refl _, Nat.le_refl _⟩) hP hS (fun r_9 X_10 H locs hw hP hS => ?_)
  refine lv_astoreQ_n (lv' := [(3, va_rf r_9), (2, .int v_6), (1, .ref v_2), (0, .ref p0)]) hF.1 hF.2.1 dJ3_pollFirst_15 rfl hl (by decide) rfl (fun ls hl => ?_)
  refine lv_aloadQ_n hF.1 hF.2.1 dJ3_pollFirst_16 rfl (lv_at hl 0 rfl) ?_
  refine lv_ifnullQ (tgt := 34) hF.1 hF.2.1 dJ3_pollFirst_17 (by decide) (fun c_11 => ?_) (fun a_12 c_11 => ?_)
  · subst c_11
    have hw := hw.2 rfl
    refine lv_aloadQ_n hF.1 hF.2.1 dJ3_pollFirst_34 rfl (lv_at hl 0 rfl) ?_
    exact h_aret (r := none) hF hr (Or.inl ⟨_, rfl⟩) hlocks hP hS ⟨Nat.le_refl _, Nat.le_refl _⟩ dJ3_pollFirst_35 hw
  · subst c_11
    have hw := hw.1 a_12 rfl
    refine lv_aload_n hF.1 hF.2.1 dJ3_pollFirst_20 rfl (lv_at hl 2 rfl) ?_
    refine lv_iload_n hF.1 hF.2.1 dJ3_pollFirst_21 rfl (lv_at hl 1 rfl) ?_
    refine lv_null hF.1 hF.2.1 dJ3_pollFirst_22 ?_
    obtain ⟨n_13, f_14, hx_15, hi_16, hw⟩ := hw
    refine x_aasN hF hC hP hS hx_15 hi_16 dJ3_pollFirst_23 (fun H locs hP hS => ?_)
    generalize hup X_10 v_2 (.inl (4, n_13, .inr (.inr (.inr (.inr (va_up f_14 (Int32.toNatClampNeg v_6) none)))))) = X_17 at hP hw
    refine lv_aload_n hF.1 hF.2.1 dJ3_pollFirst_24 rfl (lv_at hl 3 rfl) ?_
    refine lv_iload_n hF.1 hF.2.1 dJ3_pollFirst_25 rfl (lv_at hl 1 rfl) ?_
    refine lv_aload_n hF.1 hF.2.1 dJ3_pollFirst_26 rfl (lv_at hl 2 rfl) ?_
    refine x_alen hF hC hP hS hw dJ3_pollFirst_27 (fun v_18 hw => ?_)
    refine hk_i (hr_S (As := [.int v_6, .int v_18]) (rest := [.ref p0]) hF hl.1 hC hP hS (metJ3_inc l K _ _ X_17 v_6 v_18) (va_cwS 2 hF.2.2.2.2 (lw_S q988 q989 q80 q990) rfl rfl rfl (by decide +kernel) ⟨Nat.le_of_ble_eq_true rfl, Nat.le_of_ble_eq_true rfl⟩) hw rfl rfl (Nat.le_of_ble_eq_true rfl) dJ3_pollFirst_28 ⟨Nat.le_refl _, Nat.le_refl _⟩) hP hS (fun r_19 X_20 H locs hw hP hS => ?_)
    obtain ⟨fs_21, hx_22, hl_23, hw⟩ := hw
    refine x_put hF hC hP hS in_J3 rfl tyJ3 tyJ3_ok nmJ3 1 (by decide) q201 (fun _ z => z) rfl rfl rfl hx_22 hl_23 dJ3_pollFirst_31 (fun H locs hP hS => ?_)
    generalize hup X_20 p0 (.inr (9, fs_21.set 1 (.int r_19))) = X_24 at hP hw
    refine lv_aload_n hF.1 hF.2.1 dJ3_pollFirst_34 rfl (lv_at hl 0 rfl) ?_
    exact h_aret (r := (some a_12)) hF hr (Or.inl ⟨_, rfl⟩) hlocks hP hS ⟨Nat.le_refl _, Nat.le_refl _⟩ dJ3_pollFirst_35 hw
def wpJ3_pollLast (post : Option Nat → hX → Prop) (E : Nat) (X : hX) (p0 : Nat) : Prop := gfA X p0 9 0 (fun v_2 => gfI X p0 9 2 (fun v_6 => alen E X v_2 (fun v_9 => wpJ3_dec (fun r_10 X_11 => wpJ3_elementAt (fun r_12 X_13 => ((∀ a_15 : Nat, r_12 = some a_15 → pfV X_13 p0 9 2 (.int r_10) (fun X_19 => asN X_19 v_2 r_10 (fun X_24 => post (some a_15) X_24))) ∧ (r_12 = none → post none X_13))) E X_11 v_2 r_10) E X v_6 v_9)))
abbrev wsJ3_pollLast : List Cond := ws_ yJ3_pollLast cJ3_pollLast 4 (some (.object "java/lang/Object"))
set_option maxHeartbeats 8000000 in
theorem metJ3_pollLast (l : Launch) (K : HK) (sz : Nat) (post : Option Nat → hX → Prop) (X0 : hX) (p0 : Nat) : Met l yJ3_pollLast wsJ3_pollLast (rmh 1 21 0 0) (hPc K X0 sz [.ref p0] (wpJ3_pollLast post (K.2.2 0) X0 p0)) (hQq post K X0 sz) 0 0 (hA X0 sz) := by
  refine Met.ofW (cc := cJ3_pollLast) (maxL := 4) (ret := (some (.object "java/lang/Object"))) (by decide) rfl ?_
  intro p e s m args below meth c s₁ B hml hv
  obtain ⟨rfl, hv⟩ := hv
  obtain ⟨hC, hP, hw⟩ := HC.of hv
  have hsz : s.heap.size = sz := hv.1
  subst hsz
  clear hv
  have hr := B.returns
  have hts := atoms_spec (ws := wsJ3_pollLast) B.pre
  have hts : ∀ w ∈ lw_all, w.before _ s = true := fun w h => hts w (List.mem_cons_of_mem _ h)
  have hF : CallFix p m c cJ3_pollLast 4 s ([.ref p0] : List Value).toArray lw_all RJ3 := ⟨B.exec, B.bytes, hml, findClass_of_methodNamed B.named, hts⟩
  have hlocks := B.notSynchronized
  have hl := lv_entry ([.ref p0]) (n := 4) (Nat.le_of_ble_eq_true rfl)
  rw [lg_entry_eq]
  generalize (lg_sl ([.ref p0]) ++ List.replicate (4 - (lg_sl ([.ref p0])).length) Slot.unset).toArray = ls at hl ⊢
  have hl : lv_has ls 4 [(0, .ref p0)] := hl
  have hS : va_S (hA X0 s.heap.size) s.heap s.heap [] := va_S.rf
  unfold wpJ3_pollLast at hw
  show W p l e (rmh 1 21 0 0) s m _ below meth c _ _ _ _ _ _
  refine lv_aload_n hF.1 hF.2.1 dJ3_pollLast_0 rfl (lv_at hl 0 rfl) ?_
  obtain ⟨fs_1, v_2, hx_3, hv_4, hw⟩ := hw
  refine x_get hF hC hP in_J3 rfl 0 (by decide) q200 (fun _ z => z) hx_3 hv_4 dJ3_pollLast_1 ?_
  refine lv_dup hF.1 hF.2.1 dJ3_pollLast_4 rfl ?_
  refine lv_astore_n (lv' := [(1, .ref v_2), (0, .ref p0)]) hF.1 hF.2.1 dJ3_pollLast_5 rfl hl (by decide) rfl (fun ls hl => ?_)
  refine lv_aload_n hF.1 hF.2.1 dJ3_pollLast_6 rfl (lv_at hl 1 rfl) ?_
  obtain ⟨fs_5, v_6, hx_7, hv_8, hw⟩ := hw
  refine x_get hF hC hP in_J3 rfl 2 (by decide) q202 (fun _ z => z) hx_7 hv_8 dJ3_pollLast_7 ?_
  refine lv_aload_n hF.1 hF.2.1 dJ3_pollLast_10 rfl (lv_at hl 0 rfl) ?_
  refine x_alen hF hC hP hS hw dJ3_pollLast_11 (fun v_9 hw => ?_)
  refine hk_i (hr_S (As := [.int v_6, .int v_9]) (rest := [.ref v_2]) hF hl.1 hC hP hS (metJ3_dec l K _ _ X0 v_6 v_9) (va_cwS 2 hF.2.2.2.2 (lw_S q1532 q1533 q80 q1534) rfl rfl rfl (by decide +kernel) ⟨Nat.le_of_ble_eq_true rfl, Nat.le_of_ble_eq_true rfl⟩) hw rfl rfl (Nat.le_of_ble_eq_true rfl) dJ3_pollLast_12 ⟨Nat.le_refl _, Nat.le_refl _⟩) hP hS (fun r_10 X_11 H locs hw hP hS => ?_)
  refine lv_dup hF.1 hF.2.1 dJ3_pollLast_15 rfl ?_
  refine lv_istore_n (lv' := [(2, .int r_10), (1, .ref v_2), (0, .ref p0)]) hF.1 hF.2.1 dJ3_pollLast_16 rfl hl (by decide) rfl (fun ls hl => ?_)
  refine hk_q (hr_S (As := [.ref v_2, .int r_10]) (rest := []) hF hl.1 hC hP hS (metJ3_elementAt l K _ _ X_11 v_2 r_10) (va_cwS 2 hF.2.2.2.2 (lw_S q1027 q1028 q80 q1029) rfl rfl rfl (by decide +kernel) ⟨Nat.le_of_ble_eq_true rfl, Nat.le_of_ble_eq_true rfl⟩) hw rfl rfl (Nat.le_of_ble_eq_true rfl) dJ3_pollLast_17 ⟨Nat.le_refl _, Nat.le_refl _⟩) hP hS (fun r_12 X_13 H locs hw hP hS => ?_)
  refine lv_astoreQ_n (lv' := [(3, va_rf r_12), (2, .int r_10), (1, .ref v_2), (0, .ref p0)]) hF.1 hF.2.1 dJ3_pollLast_20 rfl hl (by decide) rfl (fun ls hl => ?_)
  refine lv_aloadQ_n hF.1 hF.2.1 dJ3_pollLast_21 rfl (lv_at hl 0 rfl) ?_
  refine lv_ifnullQ (tgt := 34) hF.1 hF.2.1 dJ3_pollLast_22 (by decide) (fun c_14 => ?_) (fun a_15 c_14 => ?_)
  · subst c_14
    have hw := hw.2 rfl
    refine lv_aloadQ_n hF.1 hF.2.1 dJ3_pollLast_34 rfl (lv_at hl 0 rfl) ?_
    exact h_aret (r := none) hF hr (Or.inl ⟨_, rfl⟩) hlocks hP hS ⟨Nat.le_refl _, Nat.le_refl _⟩ dJ3_pollLast_35 hw
  · subst c_14
    have hw := hw.1 a_15 rfl
    refine lv_aload_n hF.1 hF.2.1 dJ3_pollLast_25 rfl (lv_at hl 2 rfl) ?_
    refine lv_aload_n hF.1 hF.2.1 dJ3_pollLast_26 rfl (lv_at hl 3 rfl) ?_
    refine lv_iload_n hF.1 hF.2.1 dJ3_pollLast_27 rfl (lv_at hl 1 rfl) ?_
    refine lv_dup_x1 hF.1 hF.2.1 dJ3_pollLast_28 rfl rfl ?_
    obtain ⟨fs_16, hx_17, hl_18, hw⟩ := hw
    refine x_put hF hC hP hS in_J3 rfl tyJ3 tyJ3_ok nmJ3 2 (by decide) q202 (fun _ z => z) rfl rfl rfl hx_17 hl_18 dJ3_pollLast_29 (fun H locs hP hS => ?_)
    generalize hup X_13 p0 (.inr (9, fs_16.set 2 (.int r_10))) = X_19 at hP hw
    refine lv_null hF.1 hF.2.1 dJ3_pollLast_32 ?_
    obtain ⟨n_20, f_21, hx_22, hi_23, hw⟩ := hw
    refine x_aasN hF hC hP hS hx_22 hi_23 dJ3_pollLast_33 (fun H locs hP hS => ?_)
    generalize hup X_19 v_2 (.inl (4, n_20, .inr (.inr (.inr (.inr (va_up f_21 (Int32.toNatClampNeg r_10) none)))))) = X_24 at hP hw
    refine lv_aload_n hF.1 hF.2.1 dJ3_pollLast_34 rfl (lv_at hl 0 rfl) ?_
    exact h_aret (r := (some a_15)) hF hr (Or.inl ⟨_, rfl⟩) hlocks hP hS ⟨Nat.le_refl _, Nat.le_refl _⟩ dJ3_pollLast_35 hw
def wpJ3_removeFirst (post : Option Nat → hX → Prop) (E : Nat) (X : hX) (p0 : Nat) : Prop := isO X p0 9 (wpJ3_pollFirst (fun r_1 X_2 => ((∀ a_5 : Nat, r_1 = some a_5 → post (some a_5) X_2) ∧ (r_1 = none → False))) E X p0)
abbrev wsJ3_removeFirst : List Cond := ws_ yJ3_removeFirst cJ3_removeFirst 2 (some (.object "java/lang/Object"))
set_option maxHeartbeats 8000000 in
theorem metJ3_removeFirst (l : Launch) (K : HK) (sz : Nat) (post : Option Nat → hX → Prop) (X0 : hX) (p0 : Nat) : Met l yJ3_removeFirst wsJ3_removeFirst (rmh 2 44 0 0) (hPc K X0 sz [.ref p0] (wpJ3_removeFirst post (K.2.2 0) X0 p0)) (hQq post K X0 sz) 0 0 (hA X0 sz) := by
  refine Met.ofW (cc := cJ3_removeFirst) (maxL := 2) (ret := (some (.object "java/lang/Object"))) (by decide) rfl ?_
  intro p e s m args below meth c s₁ B hml hv
  obtain ⟨rfl, hv⟩ := hv
  obtain ⟨hC, hP, hw⟩ := HC.of hv
  have hsz : s.heap.size = sz := hv.1
  subst hsz
  clear hv
  have hr := B.returns
  have hts := atoms_spec (ws := wsJ3_removeFirst) B.pre
  have hts : ∀ w ∈ lw_all, w.before _ s = true := fun w h => hts w (List.mem_cons_of_mem _ h)
  have hF : CallFix p m c cJ3_removeFirst 2 s ([.ref p0] : List Value).toArray lw_all RJ3 := ⟨B.exec, B.bytes, hml, findClass_of_methodNamed B.named, hts⟩
  have hlocks := B.notSynchronized
  have hl := lv_entry ([.ref p0]) (n := 2) (Nat.le_of_ble_eq_true rfl)
  rw [lg_entry_eq]
  generalize (lg_sl ([.ref p0]) ++ List.replicate (2 - (lg_sl ([.ref p0])).length) Slot.unset).toArray = ls at hl ⊢
  have hl : lv_has ls 2 [(0, .ref p0)] := hl
  have hS : va_S (hA X0 s.heap.size) s.heap s.heap [] := va_S.rf
  unfold wpJ3_removeFirst at hw
  show W p l e (rmh 2 44 0 0) s m _ below meth c _ _ _ _ _ _
  refine lv_aload_n hF.1 hF.2.1 dJ3_removeFirst_0 rfl (lv_at hl 0 rfl) ?_
  obtain ⟨ho_3, hw⟩ := hw
  refine hk_q (hr_V (As := []) (rest := []) (T := TJ3) (N := 3) (ci := 9) hF hl.1 hC hP hS (metJ3_pollFirst l K _ _ X0 p0) rfl (cwV 0 hF.2.2.2.2 (lw_V q1023 q1024 q1025 q80 q1026) rfl rfl rfl (by decide +kernel) ⟨Nat.le_of_ble_eq_true rfl, Nat.le_of_ble_eq_true rfl⟩) ho_3 hw rfl rfl (Nat.le_of_ble_eq_true rfl) dJ3_removeFirst_1 ⟨Nat.le_refl _, Nat.le_refl _⟩) hP hS (fun r_1 X_2 H locs hw hP hS => ?_)
  refine lv_astoreQ_n (lv' := [(1, va_rf r_1), (0, .ref p0)]) hF.1 hF.2.1 dJ3_removeFirst_4 rfl hl (by decide) rfl (fun ls hl => ?_)
  refine lv_aloadQ_n hF.1 hF.2.1 dJ3_removeFirst_5 rfl (lv_at hl 0 rfl) ?_
  refine lv_ifnonnullQ (tgt := 17) hF.1 hF.2.1 dJ3_removeFirst_6 (by decide) (fun a_5 c_4 => ?_) (fun c_4 => ?_)
  · subst c_4
    have hw := hw.1 a_5 rfl
    refine lv_aload_n hF.1 hF.2.1 dJ3_removeFirst_17 rfl (lv_at hl 0 rfl) ?_
    exact h_aret (r := (some a_5)) hF hr (Or.inl ⟨_, rfl⟩) hlocks hP hS ⟨Nat.le_refl _, Nat.le_refl _⟩ dJ3_removeFirst_18 hw
  · subst c_4
    have hw := hw.2 rfl
    exact False.elim hw
def wpJ3_removeLast (post : Option Nat → hX → Prop) (E : Nat) (X : hX) (p0 : Nat) : Prop := isO X p0 9 (wpJ3_pollLast (fun r_1 X_2 => ((∀ a_5 : Nat, r_1 = some a_5 → post (some a_5) X_2) ∧ (r_1 = none → False))) E X p0)
abbrev wsJ3_removeLast : List Cond := ws_ yJ3_removeLast cJ3_removeLast 2 (some (.object "java/lang/Object"))
set_option maxHeartbeats 8000000 in
theorem metJ3_removeLast (l : Launch) (K : HK) (sz : Nat) (post : Option Nat → hX → Prop) (X0 : hX) (p0 : Nat) : Met l yJ3_removeLast wsJ3_removeLast (rmh 2 44 0 0) (hPc K X0 sz [.ref p0] (wpJ3_removeLast post (K.2.2 0) X0 p0)) (hQq post K X0 sz) 0 0 (hA X0 sz) := by
  refine Met.ofW (cc := cJ3_removeLast) (maxL := 2) (ret := (some (.object "java/lang/Object"))) (by decide) rfl ?_
  intro p e s m args below meth c s₁ B hml hv
  obtain ⟨rfl, hv⟩ := hv
  obtain ⟨hC, hP, hw⟩ := HC.of hv
  have hsz : s.heap.size = sz := hv.1
  subst hsz
  clear hv
  have hr := B.returns
  have hts := atoms_spec (ws := wsJ3_removeLast) B.pre
  have hts : ∀ w ∈ lw_all, w.before _ s = true := fun w h => hts w (List.mem_cons_of_mem _ h)
  have hF : CallFix p m c cJ3_removeLast 2 s ([.ref p0] : List Value).toArray lw_all RJ3 := ⟨B.exec, B.bytes, hml, findClass_of_methodNamed B.named, hts⟩
  have hlocks := B.notSynchronized
  have hl := lv_entry ([.ref p0]) (n := 2) (Nat.le_of_ble_eq_true rfl)
  rw [lg_entry_eq]
  generalize (lg_sl ([.ref p0]) ++ List.replicate (2 - (lg_sl ([.ref p0])).length) Slot.unset).toArray = ls at hl ⊢
  have hl : lv_has ls 2 [(0, .ref p0)] := hl
  have hS : va_S (hA X0 s.heap.size) s.heap s.heap [] := va_S.rf
  unfold wpJ3_removeLast at hw
  show W p l e (rmh 2 44 0 0) s m _ below meth c _ _ _ _ _ _
  refine lv_aload_n hF.1 hF.2.1 dJ3_removeLast_0 rfl (lv_at hl 0 rfl) ?_
  obtain ⟨ho_3, hw⟩ := hw
  refine hk_q (hr_V (As := []) (rest := []) (T := TJ3) (N := 3) (ci := 9) hF hl.1 hC hP hS (metJ3_pollLast l K _ _ X0 p0) rfl (cwV 0 hF.2.2.2.2 (lw_V q1528 q1529 q1530 q80 q1531) rfl rfl rfl (by decide +kernel) ⟨Nat.le_of_ble_eq_true rfl, Nat.le_of_ble_eq_true rfl⟩) ho_3 hw rfl rfl (Nat.le_of_ble_eq_true rfl) dJ3_removeLast_1 ⟨Nat.le_refl _, Nat.le_refl _⟩) hP hS (fun r_1 X_2 H locs hw hP hS => ?_)
  refine lv_astoreQ_n (lv' := [(1, va_rf r_1), (0, .ref p0)]) hF.1 hF.2.1 dJ3_removeLast_4 rfl hl (by decide) rfl (fun ls hl => ?_)
  refine lv_aloadQ_n hF.1 hF.2.1 dJ3_removeLast_5 rfl (lv_at hl 0 rfl) ?_
  refine lv_ifnonnullQ (tgt := 17) hF.1 hF.2.1 dJ3_removeLast_6 (by decide) (fun a_5 c_4 => ?_) (fun c_4 => ?_)
  · subst c_4
    have hw := hw.1 a_5 rfl
    refine lv_aload_n hF.1 hF.2.1 dJ3_removeLast_17 rfl (lv_at hl 0 rfl) ?_
    exact h_aret (r := (some a_5)) hF hr (Or.inl ⟨_, rfl⟩) hlocks hP hS ⟨Nat.le_refl _, Nat.le_refl _⟩ dJ3_removeLast_18 hw
  · subst c_4
    have hw := hw.2 rfl
    exact False.elim hw

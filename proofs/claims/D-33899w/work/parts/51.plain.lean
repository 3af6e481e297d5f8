/-! plain static methods of the component, walked by program -/
set_option maxRecDepth 100000
def wpX1_isBetween (post : Int32 → Prop) (p0 : Int64) (p2 : Int64) (p4 : Int64) : Prop := ((p0 < p2 → post 0) ∧ (¬ p0 < p2 → ((p4 < p0 → post 0) ∧ (¬ p4 < p0 → post 1))))
abbrev wsX1_isBetween : List Cond := ws_ yX1_isBetween cX1_isBetween 6 (some .boolean)
set_option maxHeartbeats 8000000 in
theorem metX1_isBetween (l : Launch) (post : Int32 → Prop) (p0 : Int64) (p2 : Int64) (p4 : Int64) : Met l yX1_isBetween wsX1_isBetween (rmo 0 0) (sPre [.long p0, .long p2, .long p4] (wpX1_isBetween post p0 p2 p4)) (vp_Si post) 0 0 (fun _ => False) := by
  refine Met.ofW (cc := cX1_isBetween) (maxL := 6) (ret := (some .boolean)) (by decide) rfl ?_
  intro p e s m args below meth c s₁ B hml hv
  obtain ⟨rfl, hw⟩ := hv
  have hx := B.exec
  have hb := B.bytes
  have hr := B.returns
  have hts := atoms_spec (ws := wsX1_isBetween) B.pre
  have hts : ∀ w ∈ lw_all, w.before _ s = true := fun w h => hts w (List.mem_cons_of_mem _ h)
  have hown : s.vm.findClass RX1 = some m.cls := findClass_of_methodNamed B.named
  have hlocks := B.notSynchronized
  have hl := lv_entry ([.long p0, .long p2, .long p4]) (n := 6) (Nat.le_of_ble_eq_true rfl)
  rw [lg_entry_eq]
  generalize (lg_sl ([.long p0, .long p2, .long p4]) ++ List.replicate (6 - (lg_sl ([.long p0, .long p2, .long p4])).length) Slot.unset).toArray = ls at hl ⊢
  have hl : lv_has ls 6 [(0, .long p0), (2, .long p2), (4, .long p4)] := hl
  unfold wpX1_isBetween at hw
  refine lv_lload_n hx hb dX1_isBetween_0 rfl (lv_at hl 0 rfl) ?_
  refine lv_lload_n hx hb dX1_isBetween_1 rfl (lv_at hl 1 rfl) ?_
  refine W.lcmp hx hb dX1_isBetween_2 ?_
  refine lv_if_lt (tgt := 17) hx hb dX1_isBetween_3 (by decide) (fun c_1 => ?_) (fun c_1 => ?_)
  · rw [lc_lt] at c_1
    have hw := hw.1 c_1
    refine lv_iconst (v := 0) hx hb dX1_isBetween_17 (by decide) ?_
    exact s_zret hx hb hr hlocks dX1_isBetween_18 (Or.inl rfl) hw
  · rw [lc_lt] at c_1
    have hw := hw.2 c_1
    refine lv_lload_n hx hb dX1_isBetween_6 rfl (lv_at hl 0 rfl) ?_
    refine lv_lload hx hb dX1_isBetween_7 (lv_at hl 2 rfl) ?_
    refine W.lcmp hx hb dX1_isBetween_9 ?_
    refine lv_if_gt (tgt := 17) hx hb dX1_isBetween_10 (by decide) (fun c_2 => ?_) (fun c_2 => ?_)
    · rw [lc_gt] at c_2
      have hw := hw.1 c_2
      refine lv_iconst (v := 0) hx hb dX1_isBetween_17 (by decide) ?_
      exact s_zret hx hb hr hlocks dX1_isBetween_18 (Or.inl rfl) hw
    · rw [lc_gt] at c_2
      have hw := hw.2 c_2
      refine lv_iconst (v := 1) hx hb dX1_isBetween_13 (by decide) ?_
      refine lv_goto (tgt := 18) hx hb dX1_isBetween_14 (by decide) ?_
      exact s_zret hx hb hr hlocks dX1_isBetween_18 (Or.inr rfl) hw
def wpX1_divisor_12 (post : Int64 → Prop) : Nat → Int64 → Int64 → Prop
  | 0 => fun _ _ => False
  | n + 1 => fun x4 x6 => ((x6 ≤ 0 → post x4) ∧ (¬ x6 ≤ 0 → (¬ x6 = 0 ∧ (∀ x8_3 : Int64, x8_3 = lRem x4 x6 → wpX1_divisor_12 post n x6 x8_3))))
def wpX1_divisor (post : Int64 → Prop) (p0 : Int64) (p2 : Int64) : Prop := wpJ11_abs (fun r_4 => wpJ11_abs (fun r_5 => ∃ fu : Nat, wpX1_divisor_12 post fu r_4 r_5) p2) p0
abbrev wsX1_divisor : List Cond := ws_ yX1_divisor cX1_divisor 10 (some .long)
set_option maxHeartbeats 8000000 in
theorem metX1_divisor (l : Launch) (post : Int64 → Prop) (p0 : Int64) (p2 : Int64) : Met l yX1_divisor wsX1_divisor (rmo 1 21) (sPre [.long p0, .long p2] (wpX1_divisor post p0 p2)) (vp_Sl post) 0 0 (fun _ => False) := by
  refine Met.ofW (cc := cX1_divisor) (maxL := 10) (ret := (some .long)) (by decide) rfl ?_
  intro p e s m args below meth c s₁ B hml hv
  obtain ⟨rfl, hw⟩ := hv
  have hx := B.exec
  have hb := B.bytes
  have hr := B.returns
  have hts := atoms_spec (ws := wsX1_divisor) B.pre
  have hts : ∀ w ∈ lw_all, w.before _ s = true := fun w h => hts w (List.mem_cons_of_mem _ h)
  have hown : s.vm.findClass RX1 = some m.cls := findClass_of_methodNamed B.named
  have hlocks := B.notSynchronized
  have hl := lv_entry ([.long p0, .long p2]) (n := 10) (Nat.le_of_ble_eq_true rfl)
  rw [lg_entry_eq]
  generalize (lg_sl ([.long p0, .long p2]) ++ List.replicate (10 - (lg_sl ([.long p0, .long p2])).length) Slot.unset).toArray = ls at hl ⊢
  have hl : lv_has ls 10 [(0, .long p0), (2, .long p2)] := hl
  have T12 : ∀ (n : Nat), ∀ (x4 : Int64) (x6 : Int64) (ls : Array Slot), lv_has ls 10 [(4, .long x4), (6, .long x6)] → wpX1_divisor_12 post n x4 x6 → W p l e (rmo 1 21) s m ([.long p0, .long p2] : List Value).toArray below meth c s.heap [] 0 0 (MQ below (vp_Sl post) ([.long p0, .long p2] : List Value).toArray s 0 0 (fun _ => False)) (F0 m 12 ls []) := by
    intro n
    induction n with
    | zero =>
      intro x4 x6 ls hl hw
      exact False.elim hw
    | succ n ih =>
      intro x4 x6 ls hl hw
      unfold wpX1_divisor_12 at hw
      refine lv_lload hx hb dX1_divisor_12 (lv_at hl 1 rfl) ?_
      refine lv_lconst (v := 0) hx hb dX1_divisor_14 (by decide) ?_
      refine W.lcmp hx hb dX1_divisor_15 ?_
      refine lv_if_le (tgt := 37) hx hb dX1_divisor_16 (by decide) (fun c_1 => ?_) (fun c_1 => ?_)
      · rw [lc_le] at c_1
        have hw := hw.1 c_1
        refine lv_lload hx hb dX1_divisor_37 (lv_at hl 0 rfl) ?_
        exact s_lret hx hb hr hlocks dX1_divisor_39 hw
      · rw [lc_le] at c_1
        have hw := hw.2 c_1
        refine lv_lload hx hb dX1_divisor_19 (lv_at hl 0 rfl) ?_
        refine lv_lload hx hb dX1_divisor_21 (lv_at hl 1 rfl) ?_
        obtain ⟨h_2, hw⟩ := hw
        refine lv_lrem hx hb dX1_divisor_23 h_2 ?_
        refine lv_topl (fun x8_3 ex8_3 => ?_)
        have hw := hw x8_3 ex8_3
        refine lv_lstore (lv' := [(8, .long x8_3), (4, .long x4), (6, .long x6)]) hx hb dX1_divisor_24 hl (by decide) rfl (fun ls hl => ?_)
        refine lv_lload hx hb dX1_divisor_26 (lv_at hl 2 rfl) ?_
        refine lv_lstore (lv' := [(4, .long x6), (8, .long x8_3), (6, .long x6)]) hx hb dX1_divisor_28 hl (by decide) rfl (fun ls hl => ?_)
        refine lv_lload hx hb dX1_divisor_30 (lv_at hl 1 rfl) ?_
        refine lv_lstore (lv' := [(6, .long x8_3), (4, .long x6), (8, .long x8_3)]) hx hb dX1_divisor_32 hl (by decide) rfl (fun ls hl => ?_)
        refine lv_goto (tgt := 12) hx hb dX1_divisor_34 (by decide) ?_
        exact ih x6 x8_3 ls (lv_sub hl [1, 0] rfl) hw
  unfold wpX1_divisor at hw
  refine lv_lload_n hx hb dX1_divisor_0 rfl (lv_at hl 0 rfl) ?_
  refine s_calll (As := [.long p0]) (rest := []) ⟨hx, hb, hml, hown, hts⟩ (metJ11_abs l _ p0) (va_cwS 1 hts (lw_S q368 q369 q89 q370) rfl rfl rfl (by decide +kernel) ⟨Nat.le_of_ble_eq_true rfl, Nat.le_of_ble_eq_true rfl⟩) hw rfl hl.1 rfl (Nat.le_of_ble_eq_true rfl) dX1_divisor_1 ⟨Nat.le_refl _, Nat.le_refl _⟩ (fun r_4 hw => ?_)
  refine lv_lstore (lv' := [(4, .long r_4), (0, .long p0), (2, .long p2)]) hx hb dX1_divisor_4 hl (by decide) rfl (fun ls hl => ?_)
  refine lv_lload_n hx hb dX1_divisor_6 rfl (lv_at hl 2 rfl) ?_
  refine s_calll (As := [.long p2]) (rest := []) ⟨hx, hb, hml, hown, hts⟩ (metJ11_abs l _ p2) (va_cwS 1 hts (lw_S q368 q369 q89 q370) rfl rfl rfl (by decide +kernel) ⟨Nat.le_of_ble_eq_true rfl, Nat.le_of_ble_eq_true rfl⟩) hw rfl hl.1 rfl (Nat.le_of_ble_eq_true rfl) dX1_divisor_7 ⟨Nat.le_refl _, Nat.le_refl _⟩ (fun r_5 hw => ?_)
  refine lv_lstore (lv' := [(6, .long r_5), (4, .long r_4), (0, .long p0), (2, .long p2)]) hx hb dX1_divisor_10 hl (by decide) rfl (fun ls hl => ?_)
  obtain ⟨fu, hw⟩ := hw
  exact T12 fu r_4 r_5 ls (lv_sub hl [1, 0] rfl) hw
def wpX1_floor (post : Int64 → Prop) (p0 : Int64) (p2 : Int64) : Prop := (¬ p2 = 0 ∧ (∀ x4_2 : Int64, x4_2 = p0 / p2 → (¬ p2 = 0 ∧ ((0 ≤ (lRem p0 p2) → post x4_2) ∧ (¬ 0 ≤ (lRem p0 p2) → post (x4_2 - 1))))))
abbrev wsX1_floor : List Cond := ws_ yX1_floor cX1_floor 6 (some .long)
set_option maxHeartbeats 8000000 in
theorem metX1_floor (l : Launch) (post : Int64 → Prop) (p0 : Int64) (p2 : Int64) : Met l yX1_floor wsX1_floor (rmo 0 0) (sPre [.long p0, .long p2] (wpX1_floor post p0 p2)) (vp_Sl post) 0 0 (fun _ => False) := by
  refine Met.ofW (cc := cX1_floor) (maxL := 6) (ret := (some .long)) (by decide) rfl ?_
  intro p e s m args below meth c s₁ B hml hv
  obtain ⟨rfl, hw⟩ := hv
  have hx := B.exec
  have hb := B.bytes
  have hr := B.returns
  have hts := atoms_spec (ws := wsX1_floor) B.pre
  have hts : ∀ w ∈ lw_all, w.before _ s = true := fun w h => hts w (List.mem_cons_of_mem _ h)
  have hown : s.vm.findClass RX1 = some m.cls := findClass_of_methodNamed B.named
  have hlocks := B.notSynchronized
  have hl := lv_entry ([.long p0, .long p2]) (n := 6) (Nat.le_of_ble_eq_true rfl)
  rw [lg_entry_eq]
  generalize (lg_sl ([.long p0, .long p2]) ++ List.replicate (6 - (lg_sl ([.long p0, .long p2])).length) Slot.unset).toArray = ls at hl ⊢
  have hl : lv_has ls 6 [(0, .long p0), (2, .long p2)] := hl
  unfold wpX1_floor at hw
  refine lv_lload_n hx hb dX1_floor_0 rfl (lv_at hl 0 rfl) ?_
  refine lv_lload_n hx hb dX1_floor_1 rfl (lv_at hl 1 rfl) ?_
  obtain ⟨h_1, hw⟩ := hw
  refine lv_ldiv hx hb dX1_floor_2 h_1 ?_
  refine lv_topl (fun x4_2 ex4_2 => ?_)
  have hw := hw x4_2 ex4_2
  refine lv_lstore (lv' := [(4, .long x4_2), (0, .long p0), (2, .long p2)]) hx hb dX1_floor_3 hl (by decide) rfl (fun ls hl => ?_)
  refine lv_lload_n hx hb dX1_floor_5 rfl (lv_at hl 1 rfl) ?_
  refine lv_lload_n hx hb dX1_floor_6 rfl (lv_at hl 2 rfl) ?_
  obtain ⟨h_3, hw⟩ := hw
  refine lv_lrem hx hb dX1_floor_7 h_3 ?_
  refine lv_lconst (v := 0) hx hb dX1_floor_8 (by decide) ?_
  refine W.lcmp hx hb dX1_floor_9 ?_
  refine lv_if_ge (tgt := 20) hx hb dX1_floor_10 (by decide) (fun c_4 => ?_) (fun c_4 => ?_)
  · rw [lc_ge] at c_4
    have hw := hw.1 c_4
    refine lv_lload hx hb dX1_floor_20 (lv_at hl 0 rfl) ?_
    exact s_lret hx hb hr hlocks dX1_floor_22 hw
  · rw [lc_ge] at c_4
    have hw := hw.2 c_4
    refine lv_lload hx hb dX1_floor_13 (lv_at hl 0 rfl) ?_
    refine lv_lconst (v := 1) hx hb dX1_floor_15 (by decide) ?_
    refine lv_lsub hx hb dX1_floor_16 ?_
    refine lv_goto (tgt := 22) hx hb dX1_floor_17 (by decide) ?_
    exact s_lret hx hb hr hlocks dX1_floor_22 hw
def wpX1_around (post : Int32 → Prop) (p0 : Int64) : Prop := (∀ x2_1 : Int64, x2_1 = lRem p0 21600 → ((0 ≤ x2_1 → post (Int64.toInt32 x2_1)) ∧ (¬ 0 ≤ x2_1 → post (Int64.toInt32 (x2_1 + 21600)))))
abbrev wsX1_around : List Cond := ws_ yX1_around cX1_around 4 (some .int)
set_option maxHeartbeats 8000000 in
theorem metX1_around (l : Launch) (post : Int32 → Prop) (p0 : Int64) : Met l yX1_around wsX1_around (rmo 0 0) (sPre [.long p0] (wpX1_around post p0)) (vp_Si post) 0 0 (fun _ => False) := by
  refine Met.ofW (cc := cX1_around) (maxL := 4) (ret := (some .int)) (by decide) rfl ?_
  intro p e s m args below meth c s₁ B hml hv
  obtain ⟨rfl, hw⟩ := hv
  have hx := B.exec
  have hb := B.bytes
  have hr := B.returns
  have hts := atoms_spec (ws := wsX1_around) B.pre
  have hts : ∀ w ∈ lw_all, w.before _ s = true := fun w h => hts w (List.mem_cons_of_mem _ h)
  have hown : s.vm.findClass RX1 = some m.cls := findClass_of_methodNamed B.named
  have hlocks := B.notSynchronized
  have hl := lv_entry ([.long p0]) (n := 4) (Nat.le_of_ble_eq_true rfl)
  rw [lg_entry_eq]
  generalize (lg_sl ([.long p0]) ++ List.replicate (4 - (lg_sl ([.long p0])).length) Slot.unset).toArray = ls at hl ⊢
  have hl : lv_has ls 4 [(0, .long p0)] := hl
  unfold wpX1_around at hw
  refine lv_lload_n hx hb dX1_around_0 rfl (lv_at hl 0 rfl) ?_
  refine lv_ldc2 hx hb hown (hts _ q1289) dX1_around_1 ?_
  refine lv_lrem hx hb dX1_around_4 (by decide) ?_
  refine lv_topl (fun x2_1 ex2_1 => ?_)
  have hw := hw x2_1 ex2_1
  refine lv_lstore_n (lv' := [(2, .long x2_1), (0, .long p0)]) hx hb dX1_around_5 rfl hl (by decide) rfl (fun ls hl => ?_)
  refine lv_lload_n hx hb dX1_around_6 rfl (lv_at hl 0 rfl) ?_
  refine lv_lconst (v := 0) hx hb dX1_around_7 (by decide) ?_
  refine W.lcmp hx hb dX1_around_8 ?_
  refine lv_if_ge (tgt := 20) hx hb dX1_around_9 (by decide) (fun c_2 => ?_) (fun c_2 => ?_)
  · rw [lc_ge] at c_2
    have hw := hw.1 c_2
    refine lv_lload_n hx hb dX1_around_20 rfl (lv_at hl 0 rfl) ?_
    refine lv_l2i hx hb dX1_around_21 rfl ?_
    exact s_iret hx hb hr hlocks dX1_around_22 hw
  · rw [lc_ge] at c_2
    have hw := hw.2 c_2
    refine lv_lload_n hx hb dX1_around_12 rfl (lv_at hl 0 rfl) ?_
    refine lv_ldc2 hx hb hown (hts _ q1289) dX1_around_13 ?_
    refine lv_ladd hx hb dX1_around_16 ?_
    refine lv_goto (tgt := 21) hx hb dX1_around_17 (by decide) ?_
    refine lv_l2i hx hb dX1_around_21 rfl ?_
    exact s_iret hx hb hr hlocks dX1_around_22 hw
def wpX1_angle (post : Int32 → Prop) (p0 : Int64) (p2 : Int64) (p4 : Int64) : Prop := (¬ p4 = 0 ∧ (∀ x6_2 : Int64, x6_2 = lRem (p0 * p2) p4 → wpX1_floor (fun r_3 => wpX1_around (fun r_4 => post r_4) r_3) (x6_2 * 21600) p4))
abbrev wsX1_angle : List Cond := ws_ yX1_angle cX1_angle 8 (some .int)
set_option maxHeartbeats 8000000 in
theorem metX1_angle (l : Launch) (post : Int32 → Prop) (p0 : Int64) (p2 : Int64) (p4 : Int64) : Met l yX1_angle wsX1_angle (rmo 1 25) (sPre [.long p0, .long p2, .long p4] (wpX1_angle post p0 p2 p4)) (vp_Si post) 0 0 (fun _ => False) := by
  refine Met.ofW (cc := cX1_angle) (maxL := 8) (ret := (some .int)) (by decide) rfl ?_
  intro p e s m args below meth c s₁ B hml hv
  obtain ⟨rfl, hw⟩ := hv
  have hx := B.exec
  have hb := B.bytes
  have hr := B.returns
  have hts := atoms_spec (ws := wsX1_angle) B.pre
  have hts : ∀ w ∈ lw_all, w.before _ s = true := fun w h => hts w (List.mem_cons_of_mem _ h)
  have hown : s.vm.findClass RX1 = some m.cls := findClass_of_methodNamed B.named
  have hlocks := B.notSynchronized
  have hl := lv_entry ([.long p0, .long p2, .long p4]) (n := 8) (Nat.le_of_ble_eq_true rfl)
  rw [lg_entry_eq]
  generalize (lg_sl ([.long p0, .long p2, .long p4]) ++ List.replicate (8 - (lg_sl ([.long p0, .long p2, .long p4])).length) Slot.unset).toArray = ls at hl ⊢
  have hl : lv_has ls 8 [(0, .long p0), (2, .long p2), (4, .long p4)] := hl
  unfold wpX1_angle at hw
  refine lv_lload_n hx hb dX1_angle_0 rfl (lv_at hl 0 rfl) ?_
  refine lv_lload_n hx hb dX1_angle_1 rfl (lv_at hl 1 rfl) ?_
  refine lv_lmul hx hb dX1_angle_2 ?_
  refine lv_lload hx hb dX1_angle_3 (lv_at hl 2 rfl) ?_
  obtain ⟨h_1, hw⟩ := hw
  refine lv_lrem hx hb dX1_angle_5 h_1 ?_
  refine lv_topl (fun x6_2 ex6_2 => ?_)
  have hw := hw x6_2 ex6_2
  refine lv_lstore (lv' := [(6, .long x6_2), (0, .long p0), (2, .long p2), (4, .long p4)]) hx hb dX1_angle_6 hl (by decide) rfl (fun ls hl => ?_)
  refine lv_lload hx hb dX1_angle_8 (lv_at hl 0 rfl) ?_
  refine lv_ldc2 hx hb hown (hts _ q1289) dX1_angle_10 ?_
  refine lv_lmul hx hb dX1_angle_13 ?_
  refine lv_lload hx hb dX1_angle_14 (lv_at hl 3 rfl) ?_
  refine s_calll (As := [.long (x6_2 * 21600), .long p4]) (rest := []) ⟨hx, hb, hml, hown, hts⟩ (metX1_floor l _ (x6_2 * 21600) p4) (va_cwS 2 hts (lw_S q1290 q1291 q75 q1292) rfl rfl rfl (by decide +kernel) ⟨Nat.le_of_ble_eq_true rfl, Nat.le_of_ble_eq_true rfl⟩) hw rfl hl.1 rfl (Nat.le_of_ble_eq_true rfl) dX1_angle_16 ⟨Nat.le_refl _, Nat.le_refl _⟩ (fun r_3 hw => ?_)
  refine s_calli (As := [.long r_3]) (rest := []) ⟨hx, hb, hml, hown, hts⟩ (metX1_around l _ r_3) (va_cwS 1 hts (lw_S q1293 q1294 q75 q1295) rfl rfl rfl (by decide +kernel) ⟨Nat.le_of_ble_eq_true rfl, Nat.le_of_ble_eq_true rfl⟩) hw rfl hl.1 rfl (Nat.le_of_ble_eq_true rfl) dX1_angle_19 ⟨Nat.le_refl _, Nat.le_refl _⟩ (fun r_4 hw => ?_)
  exact s_iret hx hb hr hlocks dX1_angle_22 hw
def wpX1_apart (post : Int32 → Prop) (p0 : Int32) (p1 : Int32) : Prop := wpJ11_abs_2 (fun r_1 => wpJ11_min (fun r_2 => post r_2) r_1 (21600 - r_1)) (p0 - p1)
abbrev wsX1_apart : List Cond := ws_ yX1_apart cX1_apart 3 (some .int)
set_option maxHeartbeats 8000000 in
theorem metX1_apart (l : Launch) (post : Int32 → Prop) (p0 : Int32) (p1 : Int32) : Met l yX1_apart wsX1_apart (rmo 1 21) (sPre [.int p0, .int p1] (wpX1_apart post p0 p1)) (vp_Si post) 0 0 (fun _ => False) := by
  refine Met.ofW (cc := cX1_apart) (maxL := 3) (ret := (some .int)) (by decide) rfl ?_
  intro p e s m args below meth c s₁ B hml hv
  obtain ⟨rfl, hw⟩ := hv
  have hx := B.exec
  have hb := B.bytes
  have hr := B.returns
  have hts := atoms_spec (ws := wsX1_apart) B.pre
  have hts : ∀ w ∈ lw_all, w.before _ s = true := fun w h => hts w (List.mem_cons_of_mem _ h)
  have hown : s.vm.findClass RX1 = some m.cls := findClass_of_methodNamed B.named
  have hlocks := B.notSynchronized
  have hl := lv_entry ([.int p0, .int p1]) (n := 3) (Nat.le_of_ble_eq_true rfl)
  rw [lg_entry_eq]
  generalize (lg_sl ([.int p0, .int p1]) ++ List.replicate (3 - (lg_sl ([.int p0, .int p1])).length) Slot.unset).toArray = ls at hl ⊢
  have hl : lv_has ls 3 [(0, .int p0), (1, .int p1)] := hl
  unfold wpX1_apart at hw
  refine lv_iload_n hx hb dX1_apart_0 rfl (lv_at hl 0 rfl) ?_
  refine lv_iload_n hx hb dX1_apart_1 rfl (lv_at hl 1 rfl) ?_
  refine lv_isub hx hb dX1_apart_2 ?_
  refine s_calli (As := [.int (p0 - p1)]) (rest := []) ⟨hx, hb, hml, hown, hts⟩ (metJ11_abs_2 l _ (p0 - p1)) (va_cwS 1 hts (lw_S q1356 q1357 q89 q1358) rfl rfl rfl (by decide +kernel) ⟨Nat.le_of_ble_eq_true rfl, Nat.le_of_ble_eq_true rfl⟩) hw rfl hl.1 rfl (Nat.le_of_ble_eq_true rfl) dX1_apart_3 ⟨Nat.le_refl _, Nat.le_refl _⟩ (fun r_1 hw => ?_)
  refine lv_istore_n (lv' := [(2, .int r_1), (0, .int p0), (1, .int p1)]) hx hb dX1_apart_6 rfl hl (by decide) rfl (fun ls hl => ?_)
  refine lv_iload_n hx hb dX1_apart_7 rfl (lv_at hl 0 rfl) ?_
  refine lv_sipush (v := 21600) hx hb dX1_apart_8 (by decide) ?_
  refine lv_iload_n hx hb dX1_apart_11 rfl (lv_at hl 0 rfl) ?_
  refine lv_isub hx hb dX1_apart_12 ?_
  refine s_calli (As := [.int r_1, .int (21600 - r_1)]) (rest := []) ⟨hx, hb, hml, hown, hts⟩ (metJ11_min l _ r_1 (21600 - r_1)) (va_cwS 2 hts (lw_S q311 q312 q89 q313) rfl rfl rfl (by decide +kernel) ⟨Nat.le_of_ble_eq_true rfl, Nat.le_of_ble_eq_true rfl⟩) hw rfl hl.1 rfl (Nat.le_of_ble_eq_true rfl) dX1_apart_13 ⟨Nat.le_refl _, Nat.le_refl _⟩ (fun r_2 hw => ?_)
  exact s_iret hx hb hr hlocks dX1_apart_16 hw
def wpX1_isLong_13 (post : Int32 → Prop) (x0 : Int32) : Prop := (((iRem x0 400) = 0 → post 1) ∧ (¬ (iRem x0 400) = 0 → post 0))
def wpX1_isLong (post : Int32 → Prop) (p0 : Int32) : Prop := (((iRem p0 4) = 0 → (((iRem p0 100) = 0 → wpX1_isLong_13 post p0) ∧ (¬ (iRem p0 100) = 0 → post 1))) ∧ (¬ (iRem p0 4) = 0 → wpX1_isLong_13 post p0))
abbrev wsX1_isLong : List Cond := ws_ yX1_isLong cX1_isLong 1 (some .boolean)
set_option maxHeartbeats 8000000 in
theorem metX1_isLong (l : Launch) (post : Int32 → Prop) (p0 : Int32) : Met l yX1_isLong wsX1_isLong (rmo 0 0) (sPre [.int p0] (wpX1_isLong post p0)) (vp_Si post) 0 0 (fun _ => False) := by
  refine Met.ofW (cc := cX1_isLong) (maxL := 1) (ret := (some .boolean)) (by decide) rfl ?_
  intro p e s m args below meth c s₁ B hml hv
  obtain ⟨rfl, hw⟩ := hv
  have hx := B.exec
  have hb := B.bytes
  have hr := B.returns
  have hts := atoms_spec (ws := wsX1_isLong) B.pre
  have hts : ∀ w ∈ lw_all, w.before _ s = true := fun w h => hts w (List.mem_cons_of_mem _ h)
  have hown : s.vm.findClass RX1 = some m.cls := findClass_of_methodNamed B.named
  have hlocks := B.notSynchronized
  have hl := lv_entry ([.int p0]) (n := 1) (Nat.le_of_ble_eq_true rfl)
  rw [lg_entry_eq]
  generalize (lg_sl ([.int p0]) ++ List.replicate (1 - (lg_sl ([.int p0])).length) Slot.unset).toArray = ls at hl ⊢
  have hl : lv_has ls 1 [(0, .int p0)] := hl
  have T13 : ∀ (x0 : Int32) (ls : Array Slot), lv_has ls 1 [(0, .int x0)] → wpX1_isLong_13 post x0 → W p l e (rmo 0 0) s m ([.int p0] : List Value).toArray below meth c s.heap [] 0 0 (MQ below (vp_Si post) ([.int p0] : List Value).toArray s 0 0 (fun _ => False)) (F0 m 13 ls []) := by
    intro x0 ls hl hw
    unfold wpX1_isLong_13 at hw
    refine lv_iload_n hx hb dX1_isLong_13 rfl (lv_at hl 0 rfl) ?_
    refine lv_sipush (v := 400) hx hb dX1_isLong_14 (by decide) ?_
    refine lv_irem hx hb dX1_isLong_17 (by decide) ?_
    refine lv_if_ne (tgt := 25) hx hb dX1_isLong_18 (by decide) (fun c_1 => ?_) (fun c_1 => ?_)
    · have hw := hw.2 (c_1)
      refine lv_iconst (v := 0) hx hb dX1_isLong_25 (by decide) ?_
      exact s_zret hx hb hr hlocks dX1_isLong_26 (Or.inl rfl) hw
    · have hw := hw.1 (c_1)
      refine lv_iconst (v := 1) hx hb dX1_isLong_21 (by decide) ?_
      refine lv_goto (tgt := 26) hx hb dX1_isLong_22 (by decide) ?_
      exact s_zret hx hb hr hlocks dX1_isLong_26 (Or.inr rfl) hw
  unfold wpX1_isLong at hw
  refine lv_iload_n hx hb dX1_isLong_0 rfl (lv_at hl 0 rfl) ?_
  refine lv_iconst (v := 4) hx hb dX1_isLong_1 (by decide) ?_
  refine lv_irem hx hb dX1_isLong_2 (by decide) ?_
  refine lv_if_ne (tgt := 13) hx hb dX1_isLong_3 (by decide) (fun c_2 => ?_) (fun c_2 => ?_)
  · have hw := hw.2 (c_2)
    exact T13 p0 ls (lv_sub hl [0] rfl) hw
  · have hw := hw.1 (c_2)
    refine lv_iload_n hx hb dX1_isLong_6 rfl (lv_at hl 0 rfl) ?_
    refine lv_bipush (v := 100) hx hb dX1_isLong_7 (by decide) ?_
    refine lv_irem hx hb dX1_isLong_9 (by decide) ?_
    refine lv_if_ne (tgt := 21) hx hb dX1_isLong_10 (by decide) (fun c_3 => ?_) (fun c_3 => ?_)
    · have hw := hw.2 (c_3)
      refine lv_iconst (v := 1) hx hb dX1_isLong_21 (by decide) ?_
      refine lv_goto (tgt := 26) hx hb dX1_isLong_22 (by decide) ?_
      exact s_zret hx hb hr hlocks dX1_isLong_26 (Or.inr rfl) hw
    · have hw := hw.1 (c_3)
      exact T13 p0 ls (lv_sub hl [0] rfl) hw
def wpX1_daysOf (post : Int32 → Prop) (p0 : Int32) (p1 : Int32) : Prop := ((p1 = 2 → wpX1_isLong (fun r_6 => ((r_6 = 0 → post 28) ∧ (¬ r_6 = 0 → post 29))) p0) ∧ (¬ p1 = 2 → ((p1 = 4 → post 30) ∧ (¬ p1 = 4 → ((p1 = 6 → post 30) ∧ (¬ p1 = 6 → ((p1 = 9 → post 30) ∧ (¬ p1 = 9 → ((p1 = 11 → post 30) ∧ (¬ p1 = 11 → post 31))))))))))
abbrev wsX1_daysOf : List Cond := ws_ yX1_daysOf cX1_daysOf 2 (some .int)
set_option maxHeartbeats 8000000 in
theorem metX1_daysOf (l : Launch) (post : Int32 → Prop) (p0 : Int32) (p1 : Int32) : Met l yX1_daysOf wsX1_daysOf (rmo 1 20) (sPre [.int p0, .int p1] (wpX1_daysOf post p0 p1)) (vp_Si post) 0 0 (fun _ => False) := by
  refine Met.ofW (cc := cX1_daysOf) (maxL := 2) (ret := (some .int)) (by decide) rfl ?_
  intro p e s m args below meth c s₁ B hml hv
  obtain ⟨rfl, hw⟩ := hv
  have hx := B.exec
  have hb := B.bytes
  have hr := B.returns
  have hts := atoms_spec (ws := wsX1_daysOf) B.pre
  have hts : ∀ w ∈ lw_all, w.before _ s = true := fun w h => hts w (List.mem_cons_of_mem _ h)
  have hown : s.vm.findClass RX1 = some m.cls := findClass_of_methodNamed B.named
  have hlocks := B.notSynchronized
  have hl := lv_entry ([.int p0, .int p1]) (n := 2) (Nat.le_of_ble_eq_true rfl)
  rw [lg_entry_eq]
  generalize (lg_sl ([.int p0, .int p1]) ++ List.replicate (2 - (lg_sl ([.int p0, .int p1])).length) Slot.unset).toArray = ls at hl ⊢
  have hl : lv_has ls 2 [(0, .int p0), (1, .int p1)] := hl
  unfold wpX1_daysOf at hw
  refine lv_iload_n hx hb dX1_daysOf_0 rfl (lv_at hl 1 rfl) ?_
  refine lv_iconst (v := 2) hx hb dX1_daysOf_1 (by decide) ?_
  refine lv_icmp_ne (tgt := 22) hx hb dX1_daysOf_2 (by decide) (fun c_1 => ?_) (fun c_1 => ?_)
  · have hw := hw.2 (c_1)
    refine lv_iload_n hx hb dX1_daysOf_22 rfl (lv_at hl 1 rfl) ?_
    refine lv_iconst (v := 4) hx hb dX1_daysOf_23 (by decide) ?_
    refine lv_icmp_eq (tgt := 45) hx hb dX1_daysOf_24 (by decide) (fun c_2 => ?_) (fun c_2 => ?_)
    · have hw := hw.1 c_2
      refine lv_bipush (v := 30) hx hb dX1_daysOf_45 (by decide) ?_
      refine lv_goto (tgt := 52) hx hb dX1_daysOf_47 (by decide) ?_
      exact s_iret hx hb hr hlocks dX1_daysOf_52 hw
    · have hw := hw.2 c_2
      refine lv_iload_n hx hb dX1_daysOf_27 rfl (lv_at hl 1 rfl) ?_
      refine lv_bipush (v := 6) hx hb dX1_daysOf_28 (by decide) ?_
      refine lv_icmp_eq (tgt := 45) hx hb dX1_daysOf_30 (by decide) (fun c_3 => ?_) (fun c_3 => ?_)
      · have hw := hw.1 c_3
        refine lv_bipush (v := 30) hx hb dX1_daysOf_45 (by decide) ?_
        refine lv_goto (tgt := 52) hx hb dX1_daysOf_47 (by decide) ?_
        exact s_iret hx hb hr hlocks dX1_daysOf_52 hw
      · have hw := hw.2 c_3
        refine lv_iload_n hx hb dX1_daysOf_33 rfl (lv_at hl 1 rfl) ?_
        refine lv_bipush (v := 9) hx hb dX1_daysOf_34 (by decide) ?_
        refine lv_icmp_eq (tgt := 45) hx hb dX1_daysOf_36 (by decide) (fun c_4 => ?_) (fun c_4 => ?_)
        · have hw := hw.1 c_4
          refine lv_bipush (v := 30) hx hb dX1_daysOf_45 (by decide) ?_
          refine lv_goto (tgt := 52) hx hb dX1_daysOf_47 (by decide) ?_
          exact s_iret hx hb hr hlocks dX1_daysOf_52 hw
        · have hw := hw.2 c_4
          refine lv_iload_n hx hb dX1_daysOf_39 rfl (lv_at hl 1 rfl) ?_
          refine lv_bipush (v := 11) hx hb dX1_daysOf_40 (by decide) ?_
          refine lv_icmp_ne (tgt := 50) hx hb dX1_daysOf_42 (by decide) (fun c_5 => ?_) (fun c_5 => ?_)
          · have hw := hw.2 (c_5)
            refine lv_bipush (v := 31) hx hb dX1_daysOf_50 (by decide) ?_
            exact s_iret hx hb hr hlocks dX1_daysOf_52 hw
          · have hw := hw.1 (c_5)
            refine lv_bipush (v := 30) hx hb dX1_daysOf_45 (by decide) ?_
            refine lv_goto (tgt := 52) hx hb dX1_daysOf_47 (by decide) ?_
            exact s_iret hx hb hr hlocks dX1_daysOf_52 hw
  · have hw := hw.1 (c_1)
    refine lv_iload_n hx hb dX1_daysOf_5 rfl (lv_at hl 0 rfl) ?_
    refine s_calli (As := [.int p0]) (rest := []) ⟨hx, hb, hml, hown, hts⟩ (metX1_isLong l _ p0) (va_cwS 1 hts (lw_S q293 q294 q75 q295) rfl rfl rfl (by decide +kernel) ⟨Nat.le_of_ble_eq_true rfl, Nat.le_of_ble_eq_true rfl⟩) hw rfl hl.1 rfl (Nat.le_of_ble_eq_true rfl) dX1_daysOf_6 ⟨Nat.le_refl _, Nat.le_refl _⟩ (fun r_6 hw => ?_)
    refine lv_if_eq (tgt := 17) hx hb dX1_daysOf_9 (by decide) (fun c_7 => ?_) (fun c_7 => ?_)
    · have hw := hw.1 c_7
      refine lv_bipush (v := 28) hx hb dX1_daysOf_17 (by decide) ?_
      refine lv_goto (tgt := 52) hx hb dX1_daysOf_19 (by decide) ?_
      exact s_iret hx hb hr hlocks dX1_daysOf_52 hw
    · have hw := hw.2 c_7
      refine lv_bipush (v := 29) hx hb dX1_daysOf_12 (by decide) ?_
      refine lv_goto (tgt := 52) hx hb dX1_daysOf_14 (by decide) ?_
      exact s_iret hx hb hr hlocks dX1_daysOf_52 hw
def wpX1_dayBefore_31 (post : Int32 → Prop) : Nat → Int32 → Int32 → Int32 → Int32 → Prop
  | 0 => fun _ _ _ _ => False
  | n + 1 => fun x0 x1 x2 x3 => ((x1 ≤ x3 → post x2) ∧ (¬ x1 ≤ x3 → wpX1_daysOf (fun r_2 => (∀ x2_3 : Int32, x2_3 = x2 + r_2 → (∀ x3_4 : Int32, x3_4 = x3 + 1 → wpX1_dayBefore_31 post n x0 x1 x2_3 x3_4))) x0 x3))
def wpX1_dayBefore (post : Int32 → Prop) (p0 : Int32) (p1 : Int32) : Prop := (∀ x2_5 : Int32, x2_5 = (((365 * (p0 - 1)) + ((p0 - 1) / 4)) - ((p0 - 1) / 100)) + ((p0 - 1) / 400) → ∃ fu : Nat, wpX1_dayBefore_31 post fu p0 p1 x2_5 1)
abbrev wsX1_dayBefore : List Cond := ws_ yX1_dayBefore cX1_dayBefore 4 (some .int)
set_option maxHeartbeats 8000000 in
theorem metX1_dayBefore (l : Launch) (post : Int32 → Prop) (p0 : Int32) (p1 : Int32) : Met l yX1_dayBefore wsX1_dayBefore (rmo 2 41) (sPre [.int p0, .int p1] (wpX1_dayBefore post p0 p1)) (vp_Si post) 0 0 (fun _ => False) := by
  refine Met.ofW (cc := cX1_dayBefore) (maxL := 4) (ret := (some .int)) (by decide) rfl ?_
  intro p e s m args below meth c s₁ B hml hv
  obtain ⟨rfl, hw⟩ := hv
  have hx := B.exec
  have hb := B.bytes
  have hr := B.returns
  have hts := atoms_spec (ws := wsX1_dayBefore) B.pre
  have hts : ∀ w ∈ lw_all, w.before _ s = true := fun w h => hts w (List.mem_cons_of_mem _ h)
  have hown : s.vm.findClass RX1 = some m.cls := findClass_of_methodNamed B.named
  have hlocks := B.notSynchronized
  have hl := lv_entry ([.int p0, .int p1]) (n := 4) (Nat.le_of_ble_eq_true rfl)
  rw [lg_entry_eq]
  generalize (lg_sl ([.int p0, .int p1]) ++ List.replicate (4 - (lg_sl ([.int p0, .int p1])).length) Slot.unset).toArray = ls at hl ⊢
  have hl : lv_has ls 4 [(0, .int p0), (1, .int p1)] := hl
  have T31 : ∀ (n : Nat), ∀ (x0 : Int32) (x1 : Int32) (x2 : Int32) (x3 : Int32) (ls : Array Slot), lv_has ls 4 [(0, .int x0), (1, .int x1), (2, .int x2), (3, .int x3)] → wpX1_dayBefore_31 post n x0 x1 x2 x3 → W p l e (rmo 2 41) s m ([.int p0, .int p1] : List Value).toArray below meth c s.heap [] 0 0 (MQ below (vp_Si post) ([.int p0, .int p1] : List Value).toArray s 0 0 (fun _ => False)) (F0 m 31 ls []) := by
    intro n
    induction n with
    | zero =>
      intro x0 x1 x2 x3 ls hl hw
      exact False.elim hw
    | succ n ih =>
      intro x0 x1 x2 x3 ls hl hw
      unfold wpX1_dayBefore_31 at hw
      refine lv_iload_n hx hb dX1_dayBefore_31 rfl (lv_at hl 3 rfl) ?_
      refine lv_iload_n hx hb dX1_dayBefore_32 rfl (lv_at hl 1 rfl) ?_
      refine lv_icmp_ge (tgt := 50) hx hb dX1_dayBefore_33 (by decide) (fun c_1 => ?_) (fun c_1 => ?_)
      · have hw := hw.1 c_1
        refine lv_iload_n hx hb dX1_dayBefore_50 rfl (lv_at hl 2 rfl) ?_
        exact s_iret hx hb hr hlocks dX1_dayBefore_51 hw
      · have hw := hw.2 c_1
        refine lv_iload_n hx hb dX1_dayBefore_36 rfl (lv_at hl 2 rfl) ?_
        refine lv_iload_n hx hb dX1_dayBefore_37 rfl (lv_at hl 0 rfl) ?_
        refine lv_iload_n hx hb dX1_dayBefore_38 rfl (lv_at hl 3 rfl) ?_
        refine s_calli (As := [.int x0, .int x3]) (rest := [.int x2]) ⟨hx, hb, hml, hown, hts⟩ (metX1_daysOf l _ x0 x3) (va_cwS 2 hts (lw_S q296 q297 q75 q298) rfl rfl rfl (by decide +kernel) ⟨Nat.le_of_ble_eq_true rfl, Nat.le_of_ble_eq_true rfl⟩) hw rfl hl.1 rfl (Nat.le_of_ble_eq_true rfl) dX1_dayBefore_39 ⟨Nat.le_refl _, Nat.le_refl _⟩ (fun r_2 hw => ?_)
        refine lv_iadd hx hb dX1_dayBefore_42 ?_
        refine lv_topi (fun x2_3 ex2_3 => ?_)
        have hw := hw x2_3 ex2_3
        refine lv_istore_n (lv' := [(2, .int x2_3), (0, .int x0), (1, .int x1), (3, .int x3)]) hx hb dX1_dayBefore_43 rfl hl (by decide) rfl (fun ls hl => ?_)
        obtain ⟨x3_4, ex3_4⟩ : ∃ y : Int32, y = x3 + 1 := ⟨_, rfl⟩
        have hw := hw x3_4 ex3_4
        refine lv_iinc (v := x3_4) (lv' := [(3, .int x3_4), (2, .int x2_3), (0, .int x0), (1, .int x1)]) hx hb dX1_dayBefore_44 hl (k := 3) rfl (by rw [ex3_4]; rfl) (by decide) rfl (fun ls hl => ?_)
        refine lv_goto (tgt := 31) hx hb dX1_dayBefore_47 (by decide) ?_
        exact ih x0 x1 x2_3 x3_4 ls (lv_sub hl [2, 3, 1, 0] rfl) hw
  unfold wpX1_dayBefore at hw
  refine lv_sipush (v := 365) hx hb dX1_dayBefore_0 (by decide) ?_
  refine lv_iload_n hx hb dX1_dayBefore_3 rfl (lv_at hl 0 rfl) ?_
  refine lv_iconst (v := 1) hx hb dX1_dayBefore_4 (by decide) ?_
  refine lv_isub hx hb dX1_dayBefore_5 ?_
  refine lv_imul hx hb dX1_dayBefore_6 ?_
  refine lv_iload_n hx hb dX1_dayBefore_7 rfl (lv_at hl 0 rfl) ?_
  refine lv_iconst (v := 1) hx hb dX1_dayBefore_8 (by decide) ?_
  refine lv_isub hx hb dX1_dayBefore_9 ?_
  refine lv_iconst (v := 4) hx hb dX1_dayBefore_10 (by decide) ?_
  refine lv_idiv hx hb dX1_dayBefore_11 (by decide) ?_
  refine lv_iadd hx hb dX1_dayBefore_12 ?_
  refine lv_iload_n hx hb dX1_dayBefore_13 rfl (lv_at hl 0 rfl) ?_
  refine lv_iconst (v := 1) hx hb dX1_dayBefore_14 (by decide) ?_
  refine lv_isub hx hb dX1_dayBefore_15 ?_
  refine lv_bipush (v := 100) hx hb dX1_dayBefore_16 (by decide) ?_
  refine lv_idiv hx hb dX1_dayBefore_18 (by decide) ?_
  refine lv_isub hx hb dX1_dayBefore_19 ?_
  refine lv_iload_n hx hb dX1_dayBefore_20 rfl (lv_at hl 0 rfl) ?_
  refine lv_iconst (v := 1) hx hb dX1_dayBefore_21 (by decide) ?_
  refine lv_isub hx hb dX1_dayBefore_22 ?_
  refine lv_sipush (v := 400) hx hb dX1_dayBefore_23 (by decide) ?_
  refine lv_idiv hx hb dX1_dayBefore_26 (by decide) ?_
  refine lv_iadd hx hb dX1_dayBefore_27 ?_
  refine lv_topi (fun x2_5 ex2_5 => ?_)
  have hw := hw x2_5 ex2_5
  refine lv_istore_n (lv' := [(2, .int x2_5), (0, .int p0), (1, .int p1)]) hx hb dX1_dayBefore_28 rfl hl (by decide) rfl (fun ls hl => ?_)
  refine lv_iconst (v := 1) hx hb dX1_dayBefore_29 (by decide) ?_
  refine lv_istore_n (lv' := [(3, .int 1), (2, .int x2_5), (0, .int p0), (1, .int p1)]) hx hb dX1_dayBefore_30 rfl hl (by decide) rfl (fun ls hl => ?_)
  obtain ⟨fu, hw⟩ := hw
  exact T31 fu p0 p1 x2_5 1 ls (lv_sub hl [2, 3, 1, 0] rfl) hw
def wpX1_code (post : Int32 → Prop) (p0 : Int32) (p1 : Int32) (p2 : Int32) : Prop := post (((10000 * p0) + (100 * p1)) + p2)
abbrev wsX1_code : List Cond := ws_ yX1_code cX1_code 3 (some .int)
set_option maxHeartbeats 8000000 in
theorem metX1_code (l : Launch) (post : Int32 → Prop) (p0 : Int32) (p1 : Int32) (p2 : Int32) : Met l yX1_code wsX1_code (rmo 0 0) (sPre [.int p0, .int p1, .int p2] (wpX1_code post p0 p1 p2)) (vp_Si post) 0 0 (fun _ => False) := by
  refine Met.ofW (cc := cX1_code) (maxL := 3) (ret := (some .int)) (by decide) rfl ?_
  intro p e s m args below meth c s₁ B hml hv
  obtain ⟨rfl, hw⟩ := hv
  have hx := B.exec
  have hb := B.bytes
  have hr := B.returns
  have hts := atoms_spec (ws := wsX1_code) B.pre
  have hts : ∀ w ∈ lw_all, w.before _ s = true := fun w h => hts w (List.mem_cons_of_mem _ h)
  have hown : s.vm.findClass RX1 = some m.cls := findClass_of_methodNamed B.named
  have hlocks := B.notSynchronized
  have hl := lv_entry ([.int p0, .int p1, .int p2]) (n := 3) (Nat.le_of_ble_eq_true rfl)
  rw [lg_entry_eq]
  generalize (lg_sl ([.int p0, .int p1, .int p2]) ++ List.replicate (3 - (lg_sl ([.int p0, .int p1, .int p2])).length) Slot.unset).toArray = ls at hl ⊢
  have hl : lv_has ls 3 [(0, .int p0), (1, .int p1), (2, .int p2)] := hl
  unfold wpX1_code at hw
  refine lv_sipush (v := 10000) hx hb dX1_code_0 (by decide) ?_
  refine lv_iload_n hx hb dX1_code_3 rfl (lv_at hl 0 rfl) ?_
  refine lv_imul hx hb dX1_code_4 ?_
  refine lv_bipush (v := 100) hx hb dX1_code_5 (by decide) ?_
  refine lv_iload_n hx hb dX1_code_7 rfl (lv_at hl 1 rfl) ?_
  refine lv_imul hx hb dX1_code_8 ?_
  refine lv_iadd hx hb dX1_code_9 ?_
  refine lv_iload_n hx hb dX1_code_10 rfl (lv_at hl 2 rfl) ?_
  refine lv_iadd hx hb dX1_code_11 ?_
  exact s_iret hx hb hr hlocks dX1_code_12 hw
def wpX1_counted_51 (post : Int32 → Prop) : Nat → Int32 → Int32 → Int32 → Prop
  | 0 => fun _ _ _ => False
  | n + 1 => fun x1 x2 x3 => wpX1_daysOf (fun r_1 => ((x1 < r_1 → wpX1_code (fun r_3 => post r_3) x2 x3 (x1 + 1)) ∧ (¬ x1 < r_1 → wpX1_daysOf (fun r_4 => (∀ x1_5 : Int32, x1_5 = x1 - r_4 → (∀ x3_6 : Int32, x3_6 = x3 + 1 → wpX1_counted_51 post n x1_5 x2 x3_6))) x2 x3))) x2 x3
def wpX1_counted_41 (post : Int32 → Prop) (J4 : Int32 → Int32 → Prop) (x2 : Int32) (z0 : Int32) (z1 : Int32) : Prop := (∀ x1_7 : Int32, x1_7 = z0 - z1 → (∀ x2_8 : Int32, x2_8 = x2 + 1 → J4 x1_7 x2_8))
def wpX1_counted_21 (post : Int32 → Prop) (J4 : Int32 → Int32 → Prop) (x1 : Int32) (x2 : Int32) (z0 : Int32) (z1 : Int32) : Prop := ((z0 < z1 → ∃ fu : Nat, wpX1_counted_51 post fu x1 x2 1) ∧ (¬ z0 < z1 → wpX1_isLong (fun r_10 => ((r_10 = 0 → wpX1_counted_41 post J4 x2 x1 365) ∧ (¬ r_10 = 0 → wpX1_counted_41 post J4 x2 x1 366))) x2))
def wpX1_counted_4 (post : Int32 → Prop) : Nat → Int32 → Int32 → Prop
  | 0 => fun _ _ => False
  | n + 1 => fun x1 x2 => wpX1_isLong (fun r_12 => ((r_12 = 0 → wpX1_counted_21 post (wpX1_counted_4 post n) x1 x2 x1 365) ∧ (¬ r_12 = 0 → wpX1_counted_21 post (wpX1_counted_4 post n) x1 x2 x1 366))) x2
def wpX1_counted (post : Int32 → Prop) (p0 : Int32) : Prop := ∃ fu : Nat, wpX1_counted_4 post fu p0 1
abbrev wsX1_counted : List Cond := ws_ yX1_counted cX1_counted 4 (some .int)
set_option maxHeartbeats 8000000 in
theorem metX1_counted (l : Launch) (post : Int32 → Prop) (p0 : Int32) : Met l yX1_counted wsX1_counted (rmo 2 41) (sPre [.int p0] (wpX1_counted post p0)) (vp_Si post) 0 0 (fun _ => False) := by
  refine Met.ofW (cc := cX1_counted) (maxL := 4) (ret := (some .int)) (by decide) rfl ?_
  intro p e s m args below meth c s₁ B hml hv
  obtain ⟨rfl, hw⟩ := hv
  have hx := B.exec
  have hb := B.bytes
  have hr := B.returns
  have hts := atoms_spec (ws := wsX1_counted) B.pre
  have hts : ∀ w ∈ lw_all, w.before _ s = true := fun w h => hts w (List.mem_cons_of_mem _ h)
  have hown : s.vm.findClass RX1 = some m.cls := findClass_of_methodNamed B.named
  have hlocks := B.notSynchronized
  have hl := lv_entry ([.int p0]) (n := 4) (Nat.le_of_ble_eq_true rfl)
  rw [lg_entry_eq]
  generalize (lg_sl ([.int p0]) ++ List.replicate (4 - (lg_sl ([.int p0])).length) Slot.unset).toArray = ls at hl ⊢
  have hl : lv_has ls 4 [(0, .int p0)] := hl
  have T51 : ∀ (n : Nat), ∀ (x1 : Int32) (x2 : Int32) (x3 : Int32) (ls : Array Slot), lv_has ls 4 [(1, .int x1), (2, .int x2), (3, .int x3)] → wpX1_counted_51 post n x1 x2 x3 → W p l e (rmo 2 41) s m ([.int p0] : List Value).toArray below meth c s.heap [] 0 0 (MQ below (vp_Si post) ([.int p0] : List Value).toArray s 0 0 (fun _ => False)) (F0 m 51 ls []) := by
    intro n
    induction n with
    | zero =>
      intro x1 x2 x3 ls hl hw
      exact False.elim hw
    | succ n ih =>
      intro x1 x2 x3 ls hl hw
      unfold wpX1_counted_51 at hw
      refine lv_iload_n hx hb dX1_counted_51 rfl (lv_at hl 0 rfl) ?_
      refine lv_iload_n hx hb dX1_counted_52 rfl (lv_at hl 1 rfl) ?_
      refine lv_iload_n hx hb dX1_counted_53 rfl (lv_at hl 2 rfl) ?_
      refine s_calli (As := [.int x2, .int x3]) (rest := [.int x1]) ⟨hx, hb, hml, hown, hts⟩ (metX1_daysOf l _ x2 x3) (va_cwS 2 hts (lw_S q296 q297 q75 q298) rfl rfl rfl (by decide +kernel) ⟨Nat.le_of_ble_eq_true rfl, Nat.le_of_ble_eq_true rfl⟩) hw rfl hl.1 rfl (Nat.le_of_ble_eq_true rfl) dX1_counted_54 ⟨Nat.le_refl _, Nat.le_refl _⟩ (fun r_1 hw => ?_)
      refine lv_icmp_lt (tgt := 74) hx hb dX1_counted_57 (by decide) (fun c_2 => ?_) (fun c_2 => ?_)
      · have hw := hw.1 c_2
        refine lv_iload_n hx hb dX1_counted_74 rfl (lv_at hl 1 rfl) ?_
        refine lv_iload_n hx hb dX1_counted_75 rfl (lv_at hl 2 rfl) ?_
        refine lv_iload_n hx hb dX1_counted_76 rfl (lv_at hl 0 rfl) ?_
        refine lv_iconst (v := 1) hx hb dX1_counted_77 (by decide) ?_
        refine lv_iadd hx hb dX1_counted_78 ?_
        refine s_calli (As := [.int x2, .int x3, .int (x1 + 1)]) (rest := []) ⟨hx, hb, hml, hown, hts⟩ (metX1_code l _ x2 x3 (x1 + 1)) (va_cwS 3 hts (lw_S q299 q300 q75 q301) rfl rfl rfl (by decide +kernel) ⟨Nat.le_of_ble_eq_true rfl, Nat.le_of_ble_eq_true rfl⟩) hw rfl hl.1 rfl (Nat.le_of_ble_eq_true rfl) dX1_counted_79 ⟨Nat.le_refl _, Nat.le_refl _⟩ (fun r_3 hw => ?_)
        exact s_iret hx hb hr hlocks dX1_counted_82 hw
      · have hw := hw.2 c_2
        refine lv_iload_n hx hb dX1_counted_60 rfl (lv_at hl 0 rfl) ?_
        refine lv_iload_n hx hb dX1_counted_61 rfl (lv_at hl 1 rfl) ?_
        refine lv_iload_n hx hb dX1_counted_62 rfl (lv_at hl 2 rfl) ?_
        refine s_calli (As := [.int x2, .int x3]) (rest := [.int x1]) ⟨hx, hb, hml, hown, hts⟩ (metX1_daysOf l _ x2 x3) (va_cwS 2 hts (lw_S q296 q297 q75 q298) rfl rfl rfl (by decide +kernel) ⟨Nat.le_of_ble_eq_true rfl, Nat.le_of_ble_eq_true rfl⟩) hw rfl hl.1 rfl (Nat.le_of_ble_eq_true rfl) dX1_counted_63 ⟨Nat.le_refl _, Nat.le_refl _⟩ (fun r_4 hw => ?_)
        refine lv_isub hx hb dX1_counted_66 ?_
        refine lv_topi (fun x1_5 ex1_5 => ?_)
        have hw := hw x1_5 ex1_5
        refine lv_istore_n (lv' := [(1, .int x1_5), (2, .int x2), (3, .int x3)]) hx hb dX1_counted_67 rfl hl (by decide) rfl (fun ls hl => ?_)
        obtain ⟨x3_6, ex3_6⟩ : ∃ y : Int32, y = x3 + 1 := ⟨_, rfl⟩
        have hw := hw x3_6 ex3_6
        refine lv_iinc (v := x3_6) (lv' := [(3, .int x3_6), (1, .int x1_5), (2, .int x2)]) hx hb dX1_counted_68 hl (k := 2) rfl (by rw [ex3_6]; rfl) (by decide) rfl (fun ls hl => ?_)
        refine lv_goto (tgt := 51) hx hb dX1_counted_71 (by decide) ?_
        exact ih x1_5 x2 x3_6 ls (lv_sub hl [1, 2, 0] rfl) hw
  have T41 : ∀ (J4 : Int32 → Int32 → Prop) (hJ4 : ∀ (x1 : Int32) (x2 : Int32) (ls : Array Slot), lv_has ls 4 [(1, .int x1), (2, .int x2)] → J4 x1 x2 → W p l e (rmo 2 41) s m ([.int p0] : List Value).toArray below meth c s.heap [] 0 0 (MQ below (vp_Si post) ([.int p0] : List Value).toArray s 0 0 (fun _ => False)) (F0 m 4 ls [])), ∀ (x2 : Int32) (z0 : Int32) (z1 : Int32) (ls : Array Slot), lv_has ls 4 [(2, .int x2)] → wpX1_counted_41 post J4 x2 z0 z1 → W p l e (rmo 2 41) s m ([.int p0] : List Value).toArray below meth c s.heap [] 0 0 (MQ below (vp_Si post) ([.int p0] : List Value).toArray s 0 0 (fun _ => False)) (F0 m 41 ls [.int z1, .int z0]) := by
    intro J4 hJ4
    intro x2 z0 z1 ls hl hw
    unfold wpX1_counted_41 at hw
    refine lv_isub hx hb dX1_counted_41 ?_
    refine lv_topi (fun x1_7 ex1_7 => ?_)
    have hw := hw x1_7 ex1_7
    refine lv_istore_n (lv' := [(1, .int x1_7), (2, .int x2)]) hx hb dX1_counted_42 rfl hl (by decide) rfl (fun ls hl => ?_)
    obtain ⟨x2_8, ex2_8⟩ : ∃ y : Int32, y = x2 + 1 := ⟨_, rfl⟩
    have hw := hw x2_8 ex2_8
    refine lv_iinc (v := x2_8) (lv' := [(2, .int x2_8), (1, .int x1_7)]) hx hb dX1_counted_43 hl (k := 1) rfl (by rw [ex2_8]; rfl) (by decide) rfl (fun ls hl => ?_)
    refine lv_goto (tgt := 4) hx hb dX1_counted_46 (by decide) ?_
    exact hJ4 x1_7 x2_8 ls (lv_sub hl [1, 0] rfl) hw
  have T21 : ∀ (J4 : Int32 → Int32 → Prop) (hJ4 : ∀ (x1 : Int32) (x2 : Int32) (ls : Array Slot), lv_has ls 4 [(1, .int x1), (2, .int x2)] → J4 x1 x2 → W p l e (rmo 2 41) s m ([.int p0] : List Value).toArray below meth c s.heap [] 0 0 (MQ below (vp_Si post) ([.int p0] : List Value).toArray s 0 0 (fun _ => False)) (F0 m 4 ls [])), ∀ (x1 : Int32) (x2 : Int32) (z0 : Int32) (z1 : Int32) (ls : Array Slot), lv_has ls 4 [(1, .int x1), (2, .int x2)] → wpX1_counted_21 post J4 x1 x2 z0 z1 → W p l e (rmo 2 41) s m ([.int p0] : List Value).toArray below meth c s.heap [] 0 0 (MQ below (vp_Si post) ([.int p0] : List Value).toArray s 0 0 (fun _ => False)) (F0 m 21 ls [.int z1, .int z0]) := by
    intro J4 hJ4
    intro x1 x2 z0 z1 ls hl hw
    unfold wpX1_counted_21 at hw
    refine lv_icmp_lt (tgt := 49) hx hb dX1_counted_21 (by decide) (fun c_9 => ?_) (fun c_9 => ?_)
    · have hw := hw.1 c_9
      refine lv_iconst (v := 1) hx hb dX1_counted_49 (by decide) ?_
      refine lv_istore_n (lv' := [(3, .int 1), (1, .int x1), (2, .int x2)]) hx hb dX1_counted_50 rfl hl (by decide) rfl (fun ls hl => ?_)
      obtain ⟨fu, hw⟩ := hw
      exact T51 fu x1 x2 1 ls (lv_sub hl [1, 2, 0] rfl) hw
    · have hw := hw.2 c_9
      refine lv_iload_n hx hb dX1_counted_24 rfl (lv_at hl 0 rfl) ?_
      refine lv_iload_n hx hb dX1_counted_25 rfl (lv_at hl 1 rfl) ?_
      refine s_calli (As := [.int x2]) (rest := [.int x1]) ⟨hx, hb, hml, hown, hts⟩ (metX1_isLong l _ x2) (va_cwS 1 hts (lw_S q293 q294 q75 q295) rfl rfl rfl (by decide +kernel) ⟨Nat.le_of_ble_eq_true rfl, Nat.le_of_ble_eq_true rfl⟩) hw rfl hl.1 rfl (Nat.le_of_ble_eq_true rfl) dX1_counted_26 ⟨Nat.le_refl _, Nat.le_refl _⟩ (fun r_10 hw => ?_)
      refine lv_if_eq (tgt := 38) hx hb dX1_counted_29 (by decide) (fun c_11 => ?_) (fun c_11 => ?_)
      · have hw := hw.1 c_11
        refine lv_sipush (v := 365) hx hb dX1_counted_38 (by decide) ?_
        exact T41 _ hJ4 x2 x1 365 ls (lv_sub hl [1] rfl) hw
      · have hw := hw.2 c_11
        refine lv_sipush (v := 366) hx hb dX1_counted_32 (by decide) ?_
        refine lv_goto (tgt := 41) hx hb dX1_counted_35 (by decide) ?_
        exact T41 _ hJ4 x2 x1 366 ls (lv_sub hl [1] rfl) hw
  have T4 : ∀ (n : Nat), ∀ (x1 : Int32) (x2 : Int32) (ls : Array Slot), lv_has ls 4 [(1, .int x1), (2, .int x2)] → wpX1_counted_4 post n x1 x2 → W p l e (rmo 2 41) s m ([.int p0] : List Value).toArray below meth c s.heap [] 0 0 (MQ below (vp_Si post) ([.int p0] : List Value).toArray s 0 0 (fun _ => False)) (F0 m 4 ls []) := by
    intro n
    induction n with
    | zero =>
      intro x1 x2 ls hl hw
      exact False.elim hw
    | succ n ih =>
      intro x1 x2 ls hl hw
      unfold wpX1_counted_4 at hw
      refine lv_iload_n hx hb dX1_counted_4 rfl (lv_at hl 0 rfl) ?_
      refine lv_iload_n hx hb dX1_counted_5 rfl (lv_at hl 1 rfl) ?_
      refine s_calli (As := [.int x2]) (rest := [.int x1]) ⟨hx, hb, hml, hown, hts⟩ (metX1_isLong l _ x2) (va_cwS 1 hts (lw_S q293 q294 q75 q295) rfl rfl rfl (by decide +kernel) ⟨Nat.le_of_ble_eq_true rfl, Nat.le_of_ble_eq_true rfl⟩) hw rfl hl.1 rfl (Nat.le_of_ble_eq_true rfl) dX1_counted_6 ⟨Nat.le_refl _, Nat.le_refl _⟩ (fun r_12 hw => ?_)
      refine lv_if_eq (tgt := 18) hx hb dX1_counted_9 (by decide) (fun c_13 => ?_) (fun c_13 => ?_)
      · have hw := hw.1 c_13
        refine lv_sipush (v := 365) hx hb dX1_counted_18 (by decide) ?_
        exact T21 _ ih x1 x2 x1 365 ls (lv_sub hl [0, 1] rfl) hw
      · have hw := hw.2 c_13
        refine lv_sipush (v := 366) hx hb dX1_counted_12 (by decide) ?_
        refine lv_goto (tgt := 21) hx hb dX1_counted_15 (by decide) ?_
        exact T21 _ ih x1 x2 x1 366 ls (lv_sub hl [0, 1] rfl) hw
  unfold wpX1_counted at hw
  refine lv_iload_n hx hb dX1_counted_0 rfl (lv_at hl 0 rfl) ?_
  refine lv_istore_n (lv' := [(1, .int p0), (0, .int p0)]) hx hb dX1_counted_1 rfl hl (by decide) rfl (fun ls hl => ?_)
  refine lv_iconst (v := 1) hx hb dX1_counted_2 (by decide) ?_
  refine lv_istore_n (lv' := [(2, .int 1), (1, .int p0), (0, .int p0)]) hx hb dX1_counted_3 rfl hl (by decide) rfl (fun ls hl => ?_)
  obtain ⟨fu, hw⟩ := hw
  exact T4 fu p0 1 ls (lv_sub hl [1, 0] rfl) hw
def wpX1_off (post : Int64 → Prop) (p0 : Int64) (p2 : Int64) (p4 : Int32) : Prop := wpJ11_abs (fun r_1 => post r_1) ((p0 * (Int32.toInt64 p4)) - (1000 * p2))
abbrev wsX1_off : List Cond := ws_ yX1_off cX1_off 5 (some .long)
set_option maxHeartbeats 8000000 in
theorem metX1_off (l : Launch) (post : Int64 → Prop) (p0 : Int64) (p2 : Int64) (p4 : Int32) : Met l yX1_off wsX1_off (rmo 1 21) (sPre [.long p0, .long p2, .int p4] (wpX1_off post p0 p2 p4)) (vp_Sl post) 0 0 (fun _ => False) := by
  refine Met.ofW (cc := cX1_off) (maxL := 5) (ret := (some .long)) (by decide) rfl ?_
  intro p e s m args below meth c s₁ B hml hv
  obtain ⟨rfl, hw⟩ := hv
  have hx := B.exec
  have hb := B.bytes
  have hr := B.returns
  have hts := atoms_spec (ws := wsX1_off) B.pre
  have hts : ∀ w ∈ lw_all, w.before _ s = true := fun w h => hts w (List.mem_cons_of_mem _ h)
  have hown : s.vm.findClass RX1 = some m.cls := findClass_of_methodNamed B.named
  have hlocks := B.notSynchronized
  have hl := lv_entry ([.long p0, .long p2, .int p4]) (n := 5) (Nat.le_of_ble_eq_true rfl)
  rw [lg_entry_eq]
  generalize (lg_sl ([.long p0, .long p2, .int p4]) ++ List.replicate (5 - (lg_sl ([.long p0, .long p2, .int p4])).length) Slot.unset).toArray = ls at hl ⊢
  have hl : lv_has ls 5 [(0, .long p0), (2, .long p2), (4, .int p4)] := hl
  unfold wpX1_off at hw
  refine lv_lload_n hx hb dX1_off_0 rfl (lv_at hl 0 rfl) ?_
  refine lv_iload hx hb dX1_off_1 (lv_at hl 2 rfl) ?_
  refine lv_i2l hx hb dX1_off_3 rfl ?_
  refine lv_lmul hx hb dX1_off_4 ?_
  refine lv_ldc2 hx hb hown (hts _ q1502) dX1_off_5 ?_
  refine lv_lload_n hx hb dX1_off_8 rfl (lv_at hl 1 rfl) ?_
  refine lv_lmul hx hb dX1_off_9 ?_
  refine lv_lsub hx hb dX1_off_10 ?_
  refine s_calll (As := [.long ((p0 * (Int32.toInt64 p4)) - (1000 * p2))]) (rest := []) ⟨hx, hb, hml, hown, hts⟩ (metJ11_abs l _ ((p0 * (Int32.toInt64 p4)) - (1000 * p2))) (va_cwS 1 hts (lw_S q368 q369 q89 q370) rfl rfl rfl (by decide +kernel) ⟨Nat.le_of_ble_eq_true rfl, Nat.le_of_ble_eq_true rfl⟩) hw rfl hl.1 rfl (Nat.le_of_ble_eq_true rfl) dX1_off_11 ⟨Nat.le_refl _, Nat.le_refl _⟩ (fun r_1 hw => ?_)
  exact s_lret hx hb hr hlocks dX1_off_14 hw
def wpX1_areOther (post : Int32 → Prop) (p0 : Int32) (p1 : Int32) (p2 : Int32) (p3 : Int32) : Prop := ((p0 = p1 → post 0) ∧ (¬ p0 = p1 → ((p0 = p2 → post 0) ∧ (¬ p0 = p2 → ((p0 = p3 → post 0) ∧ (¬ p0 = p3 → ((p1 = p2 → post 0) ∧ (¬ p1 = p2 → ((p1 = p3 → post 0) ∧ (¬ p1 = p3 → ((p2 = p3 → post 0) ∧ (¬ p2 = p3 → post 1))))))))))))
abbrev wsX1_areOther : List Cond := ws_ yX1_areOther cX1_areOther 4 (some .boolean)
set_option maxHeartbeats 8000000 in
theorem metX1_areOther (l : Launch) (post : Int32 → Prop) (p0 : Int32) (p1 : Int32) (p2 : Int32) (p3 : Int32) : Met l yX1_areOther wsX1_areOther (rmo 0 0) (sPre [.int p0, .int p1, .int p2, .int p3] (wpX1_areOther post p0 p1 p2 p3)) (vp_Si post) 0 0 (fun _ => False) := by
  refine Met.ofW (cc := cX1_areOther) (maxL := 4) (ret := (some .boolean)) (by decide) rfl ?_
  intro p e s m args below meth c s₁ B hml hv
  obtain ⟨rfl, hw⟩ := hv
  have hx := B.exec
  have hb := B.bytes
  have hr := B.returns
  have hts := atoms_spec (ws := wsX1_areOther) B.pre
  have hts : ∀ w ∈ lw_all, w.before _ s = true := fun w h => hts w (List.mem_cons_of_mem _ h)
  have hown : s.vm.findClass RX1 = some m.cls := findClass_of_methodNamed B.named
  have hlocks := B.notSynchronized
  have hl := lv_entry ([.int p0, .int p1, .int p2, .int p3]) (n := 4) (Nat.le_of_ble_eq_true rfl)
  rw [lg_entry_eq]
  generalize (lg_sl ([.int p0, .int p1, .int p2, .int p3]) ++ List.replicate (4 - (lg_sl ([.int p0, .int p1, .int p2, .int p3])).length) Slot.unset).toArray = ls at hl ⊢
  have hl : lv_has ls 4 [(0, .int p0), (1, .int p1), (2, .int p2), (3, .int p3)] := hl
  unfold wpX1_areOther at hw
  refine lv_iload_n hx hb dX1_areOther_0 rfl (lv_at hl 0 rfl) ?_
  refine lv_iload_n hx hb dX1_areOther_1 rfl (lv_at hl 1 rfl) ?_
  refine lv_icmp_eq (tgt := 34) hx hb dX1_areOther_2 (by decide) (fun c_1 => ?_) (fun c_1 => ?_)
  · have hw := hw.1 c_1
    refine lv_iconst (v := 0) hx hb dX1_areOther_34 (by decide) ?_
    exact s_zret hx hb hr hlocks dX1_areOther_35 (Or.inl rfl) hw
  · have hw := hw.2 c_1
    refine lv_iload_n hx hb dX1_areOther_5 rfl (lv_at hl 0 rfl) ?_
    refine lv_iload_n hx hb dX1_areOther_6 rfl (lv_at hl 2 rfl) ?_
    refine lv_icmp_eq (tgt := 34) hx hb dX1_areOther_7 (by decide) (fun c_2 => ?_) (fun c_2 => ?_)
    · have hw := hw.1 c_2
      refine lv_iconst (v := 0) hx hb dX1_areOther_34 (by decide) ?_
      exact s_zret hx hb hr hlocks dX1_areOther_35 (Or.inl rfl) hw
    · have hw := hw.2 c_2
      refine lv_iload_n hx hb dX1_areOther_10 rfl (lv_at hl 0 rfl) ?_
      refine lv_iload_n hx hb dX1_areOther_11 rfl (lv_at hl 3 rfl) ?_
      refine lv_icmp_eq (tgt := 34) hx hb dX1_areOther_12 (by decide) (fun c_3 => ?_) (fun c_3 => ?_)
      · have hw := hw.1 c_3
        refine lv_iconst (v := 0) hx hb dX1_areOther_34 (by decide) ?_
        exact s_zret hx hb hr hlocks dX1_areOther_35 (Or.inl rfl) hw
      · have hw := hw.2 c_3
        refine lv_iload_n hx hb dX1_areOther_15 rfl (lv_at hl 1 rfl) ?_
        refine lv_iload_n hx hb dX1_areOther_16 rfl (lv_at hl 2 rfl) ?_
        refine lv_icmp_eq (tgt := 34) hx hb dX1_areOther_17 (by decide) (fun c_4 => ?_) (fun c_4 => ?_)
        · have hw := hw.1 c_4
          refine lv_iconst (v := 0) hx hb dX1_areOther_34 (by decide) ?_
          exact s_zret hx hb hr hlocks dX1_areOther_35 (Or.inl rfl) hw
        · have hw := hw.2 c_4
          refine lv_iload_n hx hb dX1_areOther_20 rfl (lv_at hl 1 rfl) ?_
          refine lv_iload_n hx hb dX1_areOther_21 rfl (lv_at hl 3 rfl) ?_
          refine lv_icmp_eq (tgt := 34) hx hb dX1_areOther_22 (by decide) (fun c_5 => ?_) (fun c_5 => ?_)
          · have hw := hw.1 c_5
            refine lv_iconst (v := 0) hx hb dX1_areOther_34 (by decide) ?_
            exact s_zret hx hb hr hlocks dX1_areOther_35 (Or.inl rfl) hw
          · have hw := hw.2 c_5
            refine lv_iload_n hx hb dX1_areOther_25 rfl (lv_at hl 2 rfl) ?_
            refine lv_iload_n hx hb dX1_areOther_26 rfl (lv_at hl 3 rfl) ?_
            refine lv_icmp_eq (tgt := 34) hx hb dX1_areOther_27 (by decide) (fun c_6 => ?_) (fun c_6 => ?_)
            · have hw := hw.1 c_6
              refine lv_iconst (v := 0) hx hb dX1_areOther_34 (by decide) ?_
              exact s_zret hx hb hr hlocks dX1_areOther_35 (Or.inl rfl) hw
            · have hw := hw.2 c_6
              refine lv_iconst (v := 1) hx hb dX1_areOther_30 (by decide) ?_
              refine lv_goto (tgt := 35) hx hb dX1_areOther_31 (by decide) ?_
              exact s_zret hx hb hr hlocks dX1_areOther_35 (Or.inr rfl) hw

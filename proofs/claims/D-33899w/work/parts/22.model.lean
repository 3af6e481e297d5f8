/-! THE MODEL, walked by program: X3_wayTo .. X3_asksDifference -/
set_option maxRecDepth 100000
def wpX3_wayTo (post : Int32 → mF → mR → mL → mG → Prop) (F : mF) (R : mR) (L : mL) (G : mG) (p1 : Int32) : Prop := wpX3_isAxle (fun r_1 F_2 R_3 L_4 G_5 => wpX3_asksDriven (fun r_6 F_7 R_8 L_9 G_10 => ((r_6 = 0 → post 0 F_7 R_8 L_9 G_10) ∧ (¬ r_6 = 0 → (vp_in p1 12 ∧ post (R_8 9 (Int32.toNatClampNeg p1)) F_7 R_8 L_9 G_10)))) F_2 R_3 L_4 G_5 p1 r_1) F R L G p1
abbrev wsX3_wayTo : List Cond := ws_ yX3_wayTo cX3_wayTo 2 (some .int)
set_option maxHeartbeats 8000000 in
theorem metX3_wayTo (l : Launch) (K : KT) (h : Nat) (a : Nat → Nat) (hap : mAp h a) (post : Int32 → mF → mR → mL → mG → Prop) (F : mF) (R : mR) (L : mL) (G : mG) (p1 : Int32) : Met l yX3_wayTo wsX3_wayTo (rmo 4 107) (mPre K h a F R L G [.int p1] (wpX3_wayTo post F R L G p1)) (mQi post K h a) 0 0 (mA h a) := by
  refine Met.ofW (cc := cX3_wayTo) (maxL := 2) (ret := (some .int)) (by decide) rfl ?_
  intro p e s m args below meth c s₁ B hml hv
  obtain ⟨rfl, hP, hK, hw⟩ := hv
  have hx := B.exec
  have hb := B.bytes
  have hr := B.returns
  have hts := atoms_spec (ws := wsX3_wayTo) B.pre
  have hts : ∀ w ∈ lw_all, w.before _ s = true := fun w h => hts w (List.mem_cons_of_mem _ h)
  have hown : s.vm.findClass RX3 = some m.cls := findClass_of_methodNamed B.named
  have hlocks := B.notSynchronized
  have hl := lv_entry ([.ref h, .int p1]) (n := 2) (Nat.le_of_ble_eq_true rfl)
  rw [lg_entry_eq]
  generalize (lg_sl ([.ref h, .int p1]) ++ List.replicate (2 - (lg_sl ([.ref h, .int p1])).length) Slot.unset).toArray = ls at hl ⊢
  have hl : lv_has ls 2 [(0, .ref h), (1, .int p1)] := hl
  have hS : va_S (mA h a) s.heap s.heap [] := va_S.rf
  unfold wpX3_wayTo at hw
  refine lv_aload_n hx hb dX3_wayTo_0 rfl (lv_at hl 0 rfl) ?_
  refine lv_iload_n hx hb dX3_wayTo_1 rfl (lv_at hl 1 rfl) ?_
  refine lv_aload_n hx hb dX3_wayTo_2 rfl (lv_at hl 0 rfl) ?_
  refine lv_iload_n hx hb dX3_wayTo_3 rfl (lv_at hl 1 rfl) ?_
  refine m_calli (As := [.int p1]) (rest := [.int p1, .ref h]) ⟨hx, hb, hml, hown, hts⟩ (metX3_isAxle l K h a hap _ F R L G p1) (cwV 1 hts (lw_V q1854 q1856 qs30 q85 q1857) rfl rfl rfl (by decide +kernel) ⟨Nat.le_of_ble_eq_true rfl, Nat.le_of_ble_eq_true rfl⟩) hK hP hS hw rfl hl.1 rfl (Nat.le_of_ble_eq_true rfl) dX3_wayTo_4 ⟨Nat.le_refl _, Nat.le_refl _⟩ (fun r_1 F_2 R_3 L_4 G_5 H locs hw hP hS => ?_)
  refine m_calli (As := [.int p1, .int r_1]) (rest := []) ⟨hx, hb, hml, hown, hts⟩ (metX3_asksDriven l K h a hap _ F_2 R_3 L_4 G_5 p1 r_1) (cwV 2 hts (lw_V q2025 q2027 qs50 q85 q2028) rfl rfl rfl (by decide +kernel) ⟨Nat.le_of_ble_eq_true rfl, Nat.le_of_ble_eq_true rfl⟩) hK hP hS hw rfl hl.1 rfl (Nat.le_of_ble_eq_true rfl) dX3_wayTo_7 ⟨Nat.le_refl _, Nat.le_refl _⟩ (fun r_6 F_7 R_8 L_9 G_10 H locs hw hP hS => ?_)
  refine lv_if_eq (tgt := 22) hx hb dX3_wayTo_10 (by decide) (fun c_11 => ?_) (fun c_11 => ?_)
  · have hw := hw.1 c_11
    refine lv_iconst (v := 0) hx hb dX3_wayTo_22 (by decide) ?_
    exact m_iret hx hb hr hlocks hP hS dX3_wayTo_23 hw
  · have hw := hw.2 c_11
    refine lv_aload_n hx hb dX3_wayTo_13 rfl (lv_at hl 0 rfl) ?_
    refine m_get hx hb hts hown hK hP 9 (by decide) q1737 rfl dX3_wayTo_14 ?_
    refine lv_iload_n hx hb dX3_wayTo_17 rfl (lv_at hl 1 rfl) ?_
    obtain ⟨h_12, hw⟩ := hw
    refine m_iald (j := (Int32.toNatClampNeg p1)) hx hb hK hP 9 6 12 rfl rfl h_12 dX3_wayTo_18 ?_
    refine lv_goto (tgt := 23) hx hb dX3_wayTo_19 (by decide) ?_
    exact m_iret hx hb hr hlocks hP hS dX3_wayTo_23 hw
def wpX3_ratioAbove (post : Int64 → mF → mR → mL → mG → Prop) (F : mF) (R : mR) (L : mL) (G : mG) (p1 : Int32) : Prop := wpX3_isAxle (fun r_1 F_2 R_3 L_4 G_5 => wpX3_asksDriven (fun r_6 F_7 R_8 L_9 G_10 => ((r_6 = 0 → post 0 F_7 R_8 L_9 G_10) ∧ (¬ r_6 = 0 → (vp_in p1 12 ∧ post (L_9 10 (Int32.toNatClampNeg p1)) F_7 R_8 L_9 G_10)))) F_2 R_3 L_4 G_5 p1 r_1) F R L G p1
abbrev wsX3_ratioAbove : List Cond := ws_ yX3_ratioAbove cX3_ratioAbove 2 (some .long)
set_option maxHeartbeats 8000000 in
theorem metX3_ratioAbove (l : Launch) (K : KT) (h : Nat) (a : Nat → Nat) (hap : mAp h a) (post : Int64 → mF → mR → mL → mG → Prop) (F : mF) (R : mR) (L : mL) (G : mG) (p1 : Int32) : Met l yX3_ratioAbove wsX3_ratioAbove (rmo 4 107) (mPre K h a F R L G [.int p1] (wpX3_ratioAbove post F R L G p1)) (mQl post K h a) 0 0 (mA h a) := by
  refine Met.ofW (cc := cX3_ratioAbove) (maxL := 2) (ret := (some .long)) (by decide) rfl ?_
  intro p e s m args below meth c s₁ B hml hv
  obtain ⟨rfl, hP, hK, hw⟩ := hv
  have hx := B.exec
  have hb := B.bytes
  have hr := B.returns
  have hts := atoms_spec (ws := wsX3_ratioAbove) B.pre
  have hts : ∀ w ∈ lw_all, w.before _ s = true := fun w h => hts w (List.mem_cons_of_mem _ h)
  have hown : s.vm.findClass RX3 = some m.cls := findClass_of_methodNamed B.named
  have hlocks := B.notSynchronized
  have hl := lv_entry ([.ref h, .int p1]) (n := 2) (Nat.le_of_ble_eq_true rfl)
  rw [lg_entry_eq]
  generalize (lg_sl ([.ref h, .int p1]) ++ List.replicate (2 - (lg_sl ([.ref h, .int p1])).length) Slot.unset).toArray = ls at hl ⊢
  have hl : lv_has ls 2 [(0, .ref h), (1, .int p1)] := hl
  have hS : va_S (mA h a) s.heap s.heap [] := va_S.rf
  unfold wpX3_ratioAbove at hw
  refine lv_aload_n hx hb dX3_ratioAbove_0 rfl (lv_at hl 0 rfl) ?_
  refine lv_iload_n hx hb dX3_ratioAbove_1 rfl (lv_at hl 1 rfl) ?_
  refine lv_aload_n hx hb dX3_ratioAbove_2 rfl (lv_at hl 0 rfl) ?_
  refine lv_iload_n hx hb dX3_ratioAbove_3 rfl (lv_at hl 1 rfl) ?_
  refine m_calli (As := [.int p1]) (rest := [.int p1, .ref h]) ⟨hx, hb, hml, hown, hts⟩ (metX3_isAxle l K h a hap _ F R L G p1) (cwV 1 hts (lw_V q1854 q1856 qs30 q85 q1857) rfl rfl rfl (by decide +kernel) ⟨Nat.le_of_ble_eq_true rfl, Nat.le_of_ble_eq_true rfl⟩) hK hP hS hw rfl hl.1 rfl (Nat.le_of_ble_eq_true rfl) dX3_ratioAbove_4 ⟨Nat.le_refl _, Nat.le_refl _⟩ (fun r_1 F_2 R_3 L_4 G_5 H locs hw hP hS => ?_)
  refine m_calli (As := [.int p1, .int r_1]) (rest := []) ⟨hx, hb, hml, hown, hts⟩ (metX3_asksDriven l K h a hap _ F_2 R_3 L_4 G_5 p1 r_1) (cwV 2 hts (lw_V q2025 q2027 qs50 q85 q2028) rfl rfl rfl (by decide +kernel) ⟨Nat.le_of_ble_eq_true rfl, Nat.le_of_ble_eq_true rfl⟩) hK hP hS hw rfl hl.1 rfl (Nat.le_of_ble_eq_true rfl) dX3_ratioAbove_7 ⟨Nat.le_refl _, Nat.le_refl _⟩ (fun r_6 F_7 R_8 L_9 G_10 H locs hw hP hS => ?_)
  refine lv_if_eq (tgt := 22) hx hb dX3_ratioAbove_10 (by decide) (fun c_11 => ?_) (fun c_11 => ?_)
  · have hw := hw.1 c_11
    refine lv_lconst (v := 0) hx hb dX3_ratioAbove_22 (by decide) ?_
    exact m_lret hx hb hr hlocks hP hS dX3_ratioAbove_23 hw
  · have hw := hw.2 c_11
    refine lv_aload_n hx hb dX3_ratioAbove_13 rfl (lv_at hl 0 rfl) ?_
    refine m_get hx hb hts hown hK hP 10 (by decide) q1738 rfl dX3_ratioAbove_14 ?_
    refine lv_iload_n hx hb dX3_ratioAbove_17 rfl (lv_at hl 1 rfl) ?_
    obtain ⟨h_12, hw⟩ := hw
    refine m_lald (j := (Int32.toNatClampNeg p1)) hx hb hK hP 10 7 12 rfl rfl h_12 dX3_ratioAbove_18 ?_
    refine lv_goto (tgt := 23) hx hb dX3_ratioAbove_19 (by decide) ?_
    exact m_lret hx hb hr hlocks hP hS dX3_ratioAbove_23 hw
def wpX3_ratioBelow (post : Int64 → mF → mR → mL → mG → Prop) (F : mF) (R : mR) (L : mL) (G : mG) (p1 : Int32) : Prop := wpX3_isAxle (fun r_1 F_2 R_3 L_4 G_5 => wpX3_asksDriven (fun r_6 F_7 R_8 L_9 G_10 => ((r_6 = 0 → post 0 F_7 R_8 L_9 G_10) ∧ (¬ r_6 = 0 → (vp_in p1 12 ∧ post (L_9 11 (Int32.toNatClampNeg p1)) F_7 R_8 L_9 G_10)))) F_2 R_3 L_4 G_5 p1 r_1) F R L G p1
abbrev wsX3_ratioBelow : List Cond := ws_ yX3_ratioBelow cX3_ratioBelow 2 (some .long)
set_option maxHeartbeats 8000000 in
theorem metX3_ratioBelow (l : Launch) (K : KT) (h : Nat) (a : Nat → Nat) (hap : mAp h a) (post : Int64 → mF → mR → mL → mG → Prop) (F : mF) (R : mR) (L : mL) (G : mG) (p1 : Int32) : Met l yX3_ratioBelow wsX3_ratioBelow (rmo 4 107) (mPre K h a F R L G [.int p1] (wpX3_ratioBelow post F R L G p1)) (mQl post K h a) 0 0 (mA h a) := by
  refine Met.ofW (cc := cX3_ratioBelow) (maxL := 2) (ret := (some .long)) (by decide) rfl ?_
  intro p e s m args below meth c s₁ B hml hv
  obtain ⟨rfl, hP, hK, hw⟩ := hv
  have hx := B.exec
  have hb := B.bytes
  have hr := B.returns
  have hts := atoms_spec (ws := wsX3_ratioBelow) B.pre
  have hts : ∀ w ∈ lw_all, w.before _ s = true := fun w h => hts w (List.mem_cons_of_mem _ h)
  have hown : s.vm.findClass RX3 = some m.cls := findClass_of_methodNamed B.named
  have hlocks := B.notSynchronized
  have hl := lv_entry ([.ref h, .int p1]) (n := 2) (Nat.le_of_ble_eq_true rfl)
  rw [lg_entry_eq]
  generalize (lg_sl ([.ref h, .int p1]) ++ List.replicate (2 - (lg_sl ([.ref h, .int p1])).length) Slot.unset).toArray = ls at hl ⊢
  have hl : lv_has ls 2 [(0, .ref h), (1, .int p1)] := hl
  have hS : va_S (mA h a) s.heap s.heap [] := va_S.rf
  unfold wpX3_ratioBelow at hw
  refine lv_aload_n hx hb dX3_ratioBelow_0 rfl (lv_at hl 0 rfl) ?_
  refine lv_iload_n hx hb dX3_ratioBelow_1 rfl (lv_at hl 1 rfl) ?_
  refine lv_aload_n hx hb dX3_ratioBelow_2 rfl (lv_at hl 0 rfl) ?_
  refine lv_iload_n hx hb dX3_ratioBelow_3 rfl (lv_at hl 1 rfl) ?_
  refine m_calli (As := [.int p1]) (rest := [.int p1, .ref h]) ⟨hx, hb, hml, hown, hts⟩ (metX3_isAxle l K h a hap _ F R L G p1) (cwV 1 hts (lw_V q1854 q1856 qs30 q85 q1857) rfl rfl rfl (by decide +kernel) ⟨Nat.le_of_ble_eq_true rfl, Nat.le_of_ble_eq_true rfl⟩) hK hP hS hw rfl hl.1 rfl (Nat.le_of_ble_eq_true rfl) dX3_ratioBelow_4 ⟨Nat.le_refl _, Nat.le_refl _⟩ (fun r_1 F_2 R_3 L_4 G_5 H locs hw hP hS => ?_)
  refine m_calli (As := [.int p1, .int r_1]) (rest := []) ⟨hx, hb, hml, hown, hts⟩ (metX3_asksDriven l K h a hap _ F_2 R_3 L_4 G_5 p1 r_1) (cwV 2 hts (lw_V q2025 q2027 qs50 q85 q2028) rfl rfl rfl (by decide +kernel) ⟨Nat.le_of_ble_eq_true rfl, Nat.le_of_ble_eq_true rfl⟩) hK hP hS hw rfl hl.1 rfl (Nat.le_of_ble_eq_true rfl) dX3_ratioBelow_7 ⟨Nat.le_refl _, Nat.le_refl _⟩ (fun r_6 F_7 R_8 L_9 G_10 H locs hw hP hS => ?_)
  refine lv_if_eq (tgt := 22) hx hb dX3_ratioBelow_10 (by decide) (fun c_11 => ?_) (fun c_11 => ?_)
  · have hw := hw.1 c_11
    refine lv_lconst (v := 0) hx hb dX3_ratioBelow_22 (by decide) ?_
    exact m_lret hx hb hr hlocks hP hS dX3_ratioBelow_23 hw
  · have hw := hw.2 c_11
    refine lv_aload_n hx hb dX3_ratioBelow_13 rfl (lv_at hl 0 rfl) ?_
    refine m_get hx hb hts hown hK hP 11 (by decide) q1739 rfl dX3_ratioBelow_14 ?_
    refine lv_iload_n hx hb dX3_ratioBelow_17 rfl (lv_at hl 1 rfl) ?_
    obtain ⟨h_12, hw⟩ := hw
    refine m_lald (j := (Int32.toNatClampNeg p1)) hx hb hK hP 11 8 12 rfl rfl h_12 dX3_ratioBelow_18 ?_
    refine lv_goto (tgt := 23) hx hb dX3_ratioBelow_19 (by decide) ?_
    exact m_lret hx hb hr hlocks hP hS dX3_ratioBelow_23 hw
def wpX3_isRatioByTeeth (post : Int32 → mF → mR → mL → mG → Prop) (F : mF) (R : mR) (L : mL) (G : mG) (p1 : Int32) : Prop := wpX3_isAxle (fun r_1 F_2 R_3 L_4 G_5 => wpX3_asksDriven (fun r_6 F_7 R_8 L_9 G_10 => ((r_6 = 0 ∨ r_6 = 1) ∧ post r_6 F_7 R_8 L_9 G_10)) F_2 R_3 L_4 G_5 p1 r_1) F R L G p1
abbrev wsX3_isRatioByTeeth : List Cond := ws_ yX3_isRatioByTeeth cX3_isRatioByTeeth 2 (some .boolean)
set_option maxHeartbeats 8000000 in
theorem metX3_isRatioByTeeth (l : Launch) (K : KT) (h : Nat) (a : Nat → Nat) (hap : mAp h a) (post : Int32 → mF → mR → mL → mG → Prop) (F : mF) (R : mR) (L : mL) (G : mG) (p1 : Int32) : Met l yX3_isRatioByTeeth wsX3_isRatioByTeeth (rmo 4 107) (mPre K h a F R L G [.int p1] (wpX3_isRatioByTeeth post F R L G p1)) (mQi post K h a) 0 0 (mA h a) := by
  refine Met.ofW (cc := cX3_isRatioByTeeth) (maxL := 2) (ret := (some .boolean)) (by decide) rfl ?_
  intro p e s m args below meth c s₁ B hml hv
  obtain ⟨rfl, hP, hK, hw⟩ := hv
  have hx := B.exec
  have hb := B.bytes
  have hr := B.returns
  have hts := atoms_spec (ws := wsX3_isRatioByTeeth) B.pre
  have hts : ∀ w ∈ lw_all, w.before _ s = true := fun w h => hts w (List.mem_cons_of_mem _ h)
  have hown : s.vm.findClass RX3 = some m.cls := findClass_of_methodNamed B.named
  have hlocks := B.notSynchronized
  have hl := lv_entry ([.ref h, .int p1]) (n := 2) (Nat.le_of_ble_eq_true rfl)
  rw [lg_entry_eq]
  generalize (lg_sl ([.ref h, .int p1]) ++ List.replicate (2 - (lg_sl ([.ref h, .int p1])).length) Slot.unset).toArray = ls at hl ⊢
  have hl : lv_has ls 2 [(0, .ref h), (1, .int p1)] := hl
  have hS : va_S (mA h a) s.heap s.heap [] := va_S.rf
  unfold wpX3_isRatioByTeeth at hw
  refine lv_aload_n hx hb dX3_isRatioByTeeth_0 rfl (lv_at hl 0 rfl) ?_
  refine lv_iload_n hx hb dX3_isRatioByTeeth_1 rfl (lv_at hl 1 rfl) ?_
  refine lv_aload_n hx hb dX3_isRatioByTeeth_2 rfl (lv_at hl 0 rfl) ?_
  refine lv_iload_n hx hb dX3_isRatioByTeeth_3 rfl (lv_at hl 1 rfl) ?_
  refine m_calli (As := [.int p1]) (rest := [.int p1, .ref h]) ⟨hx, hb, hml, hown, hts⟩ (metX3_isAxle l K h a hap _ F R L G p1) (cwV 1 hts (lw_V q1854 q1856 qs30 q85 q1857) rfl rfl rfl (by decide +kernel) ⟨Nat.le_of_ble_eq_true rfl, Nat.le_of_ble_eq_true rfl⟩) hK hP hS hw rfl hl.1 rfl (Nat.le_of_ble_eq_true rfl) dX3_isRatioByTeeth_4 ⟨Nat.le_refl _, Nat.le_refl _⟩ (fun r_1 F_2 R_3 L_4 G_5 H locs hw hP hS => ?_)
  refine m_calli (As := [.int p1, .int r_1]) (rest := []) ⟨hx, hb, hml, hown, hts⟩ (metX3_asksDriven l K h a hap _ F_2 R_3 L_4 G_5 p1 r_1) (cwV 2 hts (lw_V q2025 q2027 qs50 q85 q2028) rfl rfl rfl (by decide +kernel) ⟨Nat.le_of_ble_eq_true rfl, Nat.le_of_ble_eq_true rfl⟩) hK hP hS hw rfl hl.1 rfl (Nat.le_of_ble_eq_true rfl) dX3_isRatioByTeeth_7 ⟨Nat.le_refl _, Nat.le_refl _⟩ (fun r_6 F_7 R_8 L_9 G_10 H locs hw hP hS => ?_)
  obtain ⟨h_11, hw⟩ := hw
  exact m_zret hx hb hr hlocks hP hS dX3_isRatioByTeeth_10 h_11 hw
def wpX3_size (post : Int64 → mF → mR → mL → mG → Prop) (F : mF) (R : mR) (L : mL) (G : mG) (p1 : Int32) : Prop := (vp_in p1 12 ∧ ((0 ≤ (L 10 (Int32.toNatClampNeg p1)) → (vp_in p1 12 ∧ post (L 10 (Int32.toNatClampNeg p1)) F R L G)) ∧ (¬ 0 ≤ (L 10 (Int32.toNatClampNeg p1)) → (vp_in p1 12 ∧ post (-(L 10 (Int32.toNatClampNeg p1))) F R L G))))
abbrev wsX3_size : List Cond := ws_ yX3_size cX3_size 2 (some .long)
set_option maxHeartbeats 8000000 in
theorem metX3_size (l : Launch) (K : KT) (h : Nat) (a : Nat → Nat) (hap : mAp h a) (post : Int64 → mF → mR → mL → mG → Prop) (F : mF) (R : mR) (L : mL) (G : mG) (p1 : Int32) : Met l yX3_size wsX3_size (rmo 0 0) (mPre K h a F R L G [.int p1] (wpX3_size post F R L G p1)) (mQl post K h a) 0 0 (mA h a) := by
  refine Met.ofW (cc := cX3_size) (maxL := 2) (ret := (some .long)) (by decide) rfl ?_
  intro p e s m args below meth c s₁ B hml hv
  obtain ⟨rfl, hP, hK, hw⟩ := hv
  have hx := B.exec
  have hb := B.bytes
  have hr := B.returns
  have hts := atoms_spec (ws := wsX3_size) B.pre
  have hts : ∀ w ∈ lw_all, w.before _ s = true := fun w h => hts w (List.mem_cons_of_mem _ h)
  have hown : s.vm.findClass RX3 = some m.cls := findClass_of_methodNamed B.named
  have hlocks := B.notSynchronized
  have hl := lv_entry ([.ref h, .int p1]) (n := 2) (Nat.le_of_ble_eq_true rfl)
  rw [lg_entry_eq]
  generalize (lg_sl ([.ref h, .int p1]) ++ List.replicate (2 - (lg_sl ([.ref h, .int p1])).length) Slot.unset).toArray = ls at hl ⊢
  have hl : lv_has ls 2 [(0, .ref h), (1, .int p1)] := hl
  have hS : va_S (mA h a) s.heap s.heap [] := va_S.rf
  unfold wpX3_size at hw
  refine lv_aload_n hx hb dX3_size_0 rfl (lv_at hl 0 rfl) ?_
  refine m_get hx hb hts hown hK hP 10 (by decide) q1738 rfl dX3_size_1 ?_
  refine lv_iload_n hx hb dX3_size_4 rfl (lv_at hl 1 rfl) ?_
  obtain ⟨h_1, hw⟩ := hw
  refine m_lald (j := (Int32.toNatClampNeg p1)) hx hb hK hP 10 7 12 rfl rfl h_1 dX3_size_5 ?_
  refine lv_lconst (v := 0) hx hb dX3_size_6 (by decide) ?_
  refine W.lcmp hx hb dX3_size_7 ?_
  refine lv_if_ge (tgt := 21) hx hb dX3_size_8 (by decide) (fun c_2 => ?_) (fun c_2 => ?_)
  · rw [lc_ge] at c_2
    have hw := hw.1 c_2
    refine lv_aload_n hx hb dX3_size_21 rfl (lv_at hl 0 rfl) ?_
    refine m_get hx hb hts hown hK hP 10 (by decide) q1738 rfl dX3_size_22 ?_
    refine lv_iload_n hx hb dX3_size_25 rfl (lv_at hl 1 rfl) ?_
    obtain ⟨h_3, hw⟩ := hw
    refine m_lald (j := (Int32.toNatClampNeg p1)) hx hb hK hP 10 7 12 rfl rfl h_3 dX3_size_26 ?_
    exact m_lret hx hb hr hlocks hP hS dX3_size_27 hw
  · rw [lc_ge] at c_2
    have hw := hw.2 c_2
    refine lv_aload_n hx hb dX3_size_11 rfl (lv_at hl 0 rfl) ?_
    refine m_get hx hb hts hown hK hP 10 (by decide) q1738 rfl dX3_size_12 ?_
    refine lv_iload_n hx hb dX3_size_15 rfl (lv_at hl 1 rfl) ?_
    obtain ⟨h_4, hw⟩ := hw
    refine m_lald (j := (Int32.toNatClampNeg p1)) hx hb hK hP 10 7 12 rfl rfl h_4 dX3_size_16 ?_
    refine lv_lneg hx hb dX3_size_17 ?_
    refine lv_goto (tgt := 27) hx hb dX3_size_18 (by decide) ?_
    exact m_lret hx hb hr hlocks hP hS dX3_size_27 hw
def wpX3_turnsOf (post : Int64 → mF → mR → mL → mG → Prop) (F : mF) (R : mR) (L : mL) (G : mG) (p1 : Int32) : Prop := wpX3_isAxle (fun r_1 F_2 R_3 L_4 G_5 => wpX3_asksDriven (fun r_6 F_7 R_8 L_9 G_10 => ((r_6 = 0 → post 0 F_7 R_8 L_9 G_10) ∧ (¬ r_6 = 0 → wpX3_size (fun r_12 F_13 R_14 L_15 G_16 => (vp_in p1 12 ∧ (¬ (L_15 11 (Int32.toNatClampNeg p1)) = 0 ∧ post ((r_12 * (Int32.toInt64 (R_14 0 111))) / (L_15 11 (Int32.toNatClampNeg p1))) F_13 R_14 L_15 G_16))) F_7 R_8 L_9 G_10 p1))) F_2 R_3 L_4 G_5 p1 r_1) F R L G p1
abbrev wsX3_turnsOf : List Cond := ws_ yX3_turnsOf cX3_turnsOf 2 (some .long)
set_option maxHeartbeats 8000000 in
theorem metX3_turnsOf (l : Launch) (K : KT) (h : Nat) (a : Nat → Nat) (hap : mAp h a) (post : Int64 → mF → mR → mL → mG → Prop) (F : mF) (R : mR) (L : mL) (G : mG) (p1 : Int32) : Met l yX3_turnsOf wsX3_turnsOf (rmo 4 107) (mPre K h a F R L G [.int p1] (wpX3_turnsOf post F R L G p1)) (mQl post K h a) 0 0 (mA h a) := by
  refine Met.ofW (cc := cX3_turnsOf) (maxL := 2) (ret := (some .long)) (by decide) rfl ?_
  intro p e s m args below meth c s₁ B hml hv
  obtain ⟨rfl, hP, hK, hw⟩ := hv
  have hx := B.exec
  have hb := B.bytes
  have hr := B.returns
  have hts := atoms_spec (ws := wsX3_turnsOf) B.pre
  have hts : ∀ w ∈ lw_all, w.before _ s = true := fun w h => hts w (List.mem_cons_of_mem _ h)
  have hown : s.vm.findClass RX3 = some m.cls := findClass_of_methodNamed B.named
  have hlocks := B.notSynchronized
  have hl := lv_entry ([.ref h, .int p1]) (n := 2) (Nat.le_of_ble_eq_true rfl)
  rw [lg_entry_eq]
  generalize (lg_sl ([.ref h, .int p1]) ++ List.replicate (2 - (lg_sl ([.ref h, .int p1])).length) Slot.unset).toArray = ls at hl ⊢
  have hl : lv_has ls 2 [(0, .ref h), (1, .int p1)] := hl
  have hS : va_S (mA h a) s.heap s.heap [] := va_S.rf
  unfold wpX3_turnsOf at hw
  refine lv_aload_n hx hb dX3_turnsOf_0 rfl (lv_at hl 0 rfl) ?_
  refine lv_iload_n hx hb dX3_turnsOf_1 rfl (lv_at hl 1 rfl) ?_
  refine lv_aload_n hx hb dX3_turnsOf_2 rfl (lv_at hl 0 rfl) ?_
  refine lv_iload_n hx hb dX3_turnsOf_3 rfl (lv_at hl 1 rfl) ?_
  refine m_calli (As := [.int p1]) (rest := [.int p1, .ref h]) ⟨hx, hb, hml, hown, hts⟩ (metX3_isAxle l K h a hap _ F R L G p1) (cwV 1 hts (lw_V q1854 q1856 qs30 q85 q1857) rfl rfl rfl (by decide +kernel) ⟨Nat.le_of_ble_eq_true rfl, Nat.le_of_ble_eq_true rfl⟩) hK hP hS hw rfl hl.1 rfl (Nat.le_of_ble_eq_true rfl) dX3_turnsOf_4 ⟨Nat.le_refl _, Nat.le_refl _⟩ (fun r_1 F_2 R_3 L_4 G_5 H locs hw hP hS => ?_)
  refine m_calli (As := [.int p1, .int r_1]) (rest := []) ⟨hx, hb, hml, hown, hts⟩ (metX3_asksDriven l K h a hap _ F_2 R_3 L_4 G_5 p1 r_1) (cwV 2 hts (lw_V q2025 q2027 qs50 q85 q2028) rfl rfl rfl (by decide +kernel) ⟨Nat.le_of_ble_eq_true rfl, Nat.le_of_ble_eq_true rfl⟩) hK hP hS hw rfl hl.1 rfl (Nat.le_of_ble_eq_true rfl) dX3_turnsOf_7 ⟨Nat.le_refl _, Nat.le_refl _⟩ (fun r_6 F_7 R_8 L_9 G_10 H locs hw hP hS => ?_)
  refine lv_if_eq (tgt := 37) hx hb dX3_turnsOf_10 (by decide) (fun c_11 => ?_) (fun c_11 => ?_)
  · have hw := hw.1 c_11
    refine lv_lconst (v := 0) hx hb dX3_turnsOf_37 (by decide) ?_
    exact m_lret hx hb hr hlocks hP hS dX3_turnsOf_38 hw
  · have hw := hw.2 c_11
    refine lv_aload_n hx hb dX3_turnsOf_13 rfl (lv_at hl 0 rfl) ?_
    refine lv_iload_n hx hb dX3_turnsOf_14 rfl (lv_at hl 1 rfl) ?_
    refine m_calll (As := [.int p1]) (rest := []) ⟨hx, hb, hml, hown, hts⟩ (metX3_size l K h a hap _ F_7 R_8 L_9 G_10 p1) (cwV 1 hts (lw_V q2045 q2047 qs51 q85 q2048) rfl rfl rfl (by decide +kernel) ⟨Nat.le_of_ble_eq_true rfl, Nat.le_of_ble_eq_true rfl⟩) hK hP hS hw rfl hl.1 rfl (Nat.le_of_ble_eq_true rfl) dX3_turnsOf_15 ⟨Nat.le_refl _, Nat.le_refl _⟩ (fun r_12 F_13 R_14 L_15 G_16 H locs hw hP hS => ?_)
    refine lv_aload_n hx hb dX3_turnsOf_18 rfl (lv_at hl 0 rfl) ?_
    refine m_get hx hb hts hown hK hP 0 (by decide) q1728 rfl dX3_turnsOf_19 ?_
    refine lv_bipush (v := 111) hx hb dX3_turnsOf_22 (by decide) ?_
    refine m_iald (j := 111) hx hb hK hP 0 1 113 rfl (by decide) (vpd (by decide)) dX3_turnsOf_24 ?_
    refine lv_i2l hx hb dX3_turnsOf_25 rfl ?_
    refine lv_lmul hx hb dX3_turnsOf_26 ?_
    refine lv_aload_n hx hb dX3_turnsOf_27 rfl (lv_at hl 0 rfl) ?_
    refine m_get hx hb hts hown hK hP 11 (by decide) q1739 rfl dX3_turnsOf_28 ?_
    refine lv_iload_n hx hb dX3_turnsOf_31 rfl (lv_at hl 1 rfl) ?_
    obtain ⟨h_17, hw⟩ := hw
    refine m_lald (j := (Int32.toNatClampNeg p1)) hx hb hK hP 11 8 12 rfl rfl h_17 dX3_turnsOf_32 ?_
    obtain ⟨h_18, hw⟩ := hw
    refine lv_ldiv hx hb dX3_turnsOf_33 h_18 ?_
    refine lv_goto (tgt := 38) hx hb dX3_turnsOf_34 (by decide) ?_
    exact m_lret hx hb hr hlocks hP hS dX3_turnsOf_38 hw
def wpX3_wheelOf_27 (post : Int32 → mF → mR → mL → mG → Prop) (x1 : Int32) (z1 : Int32) (F : mF) (R : mR) (L : mL) (G : mG) : Prop := (vp_in (z1 + x1) 113 ∧ post (R 0 (Int32.toNatClampNeg (z1 + x1))) F R L G)
def wpX3_wheelOf (post : Int32 → mF → mR → mL → mG → Prop) (F : mF) (R : mR) (L : mL) (G : mG) (p1 : Int32) (p2 : Int32) : Prop := wpX3_isPair (fun r_2 F_3 R_4 L_5 G_6 => wpX3_asks (fun r_7 F_8 R_9 L_10 G_11 => ((r_7 = 0 → post 0 F_8 R_9 L_10 G_11) ∧ (¬ r_7 = 0 → ((p2 = 0 → wpX3_wheelOf_27 post p1 67 F_8 R_9 L_10 G_11) ∧ (¬ p2 = 0 → wpX3_wheelOf_27 post p1 51 F_8 R_9 L_10 G_11))))) F_3 R_4 L_5 G_6 r_2) F R L G p1
abbrev wsX3_wheelOf : List Cond := ws_ yX3_wheelOf cX3_wheelOf 3 (some .int)
set_option maxHeartbeats 8000000 in
theorem metX3_wheelOf (l : Launch) (K : KT) (h : Nat) (a : Nat → Nat) (hap : mAp h a) (post : Int32 → mF → mR → mL → mG → Prop) (F : mF) (R : mR) (L : mL) (G : mG) (p1 : Int32) (p2 : Int32) : Met l yX3_wheelOf wsX3_wheelOf (rmo 2 43) (mPre K h a F R L G [.int p1, .int p2] (wpX3_wheelOf post F R L G p1 p2)) (mQi post K h a) 0 0 (mA h a) := by
  refine Met.ofW (cc := cX3_wheelOf) (maxL := 3) (ret := (some .int)) (by decide) rfl ?_
  intro p e s m args below meth c s₁ B hml hv
  obtain ⟨rfl, hP, hK, hw⟩ := hv
  have hx := B.exec
  have hb := B.bytes
  have hr := B.returns
  have hts := atoms_spec (ws := wsX3_wheelOf) B.pre
  have hts : ∀ w ∈ lw_all, w.before _ s = true := fun w h => hts w (List.mem_cons_of_mem _ h)
  have hown : s.vm.findClass RX3 = some m.cls := findClass_of_methodNamed B.named
  have hlocks := B.notSynchronized
  have hl := lv_entry ([.ref h, .int p1, .int p2]) (n := 3) (Nat.le_of_ble_eq_true rfl)
  rw [lg_entry_eq]
  generalize (lg_sl ([.ref h, .int p1, .int p2]) ++ List.replicate (3 - (lg_sl ([.ref h, .int p1, .int p2])).length) Slot.unset).toArray = ls at hl ⊢
  have hl : lv_has ls 3 [(0, .ref h), (1, .int p1), (2, .int p2)] := hl
  have hS : va_S (mA h a) s.heap s.heap [] := va_S.rf
  have T27 : ∀ (x1 : Int32) (z1 : Int32) (F : mF) (R : mR) (L : mL) (G : mG) (H : Heap) (locs : List Loc) (ls : Array Slot), mP K h a F R L G H → va_S (mA h a) s.heap H locs → lv_has ls 3 [(1, .int x1)] → wpX3_wheelOf_27 post x1 z1 F R L G → W p l e (rmo 2 43) s m ([.ref h, .int p1, .int p2] : List Value).toArray below meth c H locs 0 0 (MQ below (mQi post K h a) ([.ref h, .int p1, .int p2] : List Value).toArray s 0 0 (mA h a)) (F0 m 27 ls [.int z1, .ref (a 0)]) := by
    intro x1 z1 F R L G H locs ls hP hS hl hw
    unfold wpX3_wheelOf_27 at hw
    refine lv_iload_n hx hb dX3_wheelOf_27 rfl (lv_at hl 0 rfl) ?_
    refine lv_iadd hx hb dX3_wheelOf_28 ?_
    obtain ⟨h_1, hw⟩ := hw
    refine m_iald (j := (Int32.toNatClampNeg (z1 + x1))) hx hb hK hP 0 1 113 rfl rfl h_1 dX3_wheelOf_29 ?_
    refine lv_goto (tgt := 34) hx hb dX3_wheelOf_30 (by decide) ?_
    exact m_iret hx hb hr hlocks hP hS dX3_wheelOf_34 hw
  unfold wpX3_wheelOf at hw
  refine lv_aload_n hx hb dX3_wheelOf_0 rfl (lv_at hl 0 rfl) ?_
  refine lv_aload_n hx hb dX3_wheelOf_1 rfl (lv_at hl 0 rfl) ?_
  refine lv_iload_n hx hb dX3_wheelOf_2 rfl (lv_at hl 1 rfl) ?_
  refine m_calli (As := [.int p1]) (rest := [.ref h]) ⟨hx, hb, hml, hown, hts⟩ (metX3_isPair l K h a hap _ F R L G p1) (cwV 1 hts (lw_V q1919 q1921 qs42 q85 q1922) rfl rfl rfl (by decide +kernel) ⟨Nat.le_of_ble_eq_true rfl, Nat.le_of_ble_eq_true rfl⟩) hK hP hS hw rfl hl.1 rfl (Nat.le_of_ble_eq_true rfl) dX3_wheelOf_3 ⟨Nat.le_refl _, Nat.le_refl _⟩ (fun r_2 F_3 R_4 L_5 G_6 H locs hw hP hS => ?_)
  refine m_calli (As := [.int r_2]) (rest := []) ⟨hx, hb, hml, hown, hts⟩ (metX3_asks l K h a hap _ F_3 R_4 L_5 G_6 r_2) (cwV 1 hts (lw_V q2005 q2007 qs49 q85 q2008) rfl rfl rfl (by decide +kernel) ⟨Nat.le_of_ble_eq_true rfl, Nat.le_of_ble_eq_true rfl⟩) hK hP hS hw rfl hl.1 rfl (Nat.le_of_ble_eq_true rfl) dX3_wheelOf_6 ⟨Nat.le_refl _, Nat.le_refl _⟩ (fun r_7 F_8 R_9 L_10 G_11 H locs hw hP hS => ?_)
  refine lv_if_eq (tgt := 33) hx hb dX3_wheelOf_9 (by decide) (fun c_12 => ?_) (fun c_12 => ?_)
  · have hw := hw.1 c_12
    refine lv_iconst (v := 0) hx hb dX3_wheelOf_33 (by decide) ?_
    exact m_iret hx hb hr hlocks hP hS dX3_wheelOf_34 hw
  · have hw := hw.2 c_12
    refine lv_aload_n hx hb dX3_wheelOf_12 rfl (lv_at hl 0 rfl) ?_
    refine m_get hx hb hts hown hK hP 0 (by decide) q1728 rfl dX3_wheelOf_13 ?_
    refine lv_iload_n hx hb dX3_wheelOf_16 rfl (lv_at hl 2 rfl) ?_
    refine lv_if_eq (tgt := 25) hx hb dX3_wheelOf_17 (by decide) (fun c_13 => ?_) (fun c_13 => ?_)
    · have hw := hw.1 c_13
      refine lv_bipush (v := 67) hx hb dX3_wheelOf_25 (by decide) ?_
      exact T27 p1 67 F_8 R_9 L_10 G_11 _ _ ls hP hS (lv_sub hl [1] rfl) hw
    · have hw := hw.2 c_13
      refine lv_bipush (v := 51) hx hb dX3_wheelOf_20 (by decide) ?_
      refine lv_goto (tgt := 27) hx hb dX3_wheelOf_22 (by decide) ?_
      exact T27 p1 51 F_8 R_9 L_10 G_11 _ _ ls hP hS (lv_sub hl [1] rfl) hw
def wpX3_sharedTeeth (post : Int32 → mF → mR → mL → mG → Prop) (F : mF) (R : mR) (L : mL) (G : mG) (p1 : Int32) : Prop := (vp_in (51 + p1) 113 ∧ (vp_in (2 + (R 0 (Int32.toNatClampNeg (51 + p1)))) 113 ∧ (vp_in (67 + p1) 113 ∧ (vp_in (2 + (R 0 (Int32.toNatClampNeg (67 + p1)))) 113 ∧ wpX3_divisor (fun r_5 => post (Int64.toInt32 r_5) F R L G) (Int32.toInt64 (R 0 (Int32.toNatClampNeg (2 + (R 0 (Int32.toNatClampNeg (51 + p1))))))) (Int32.toInt64 (R 0 (Int32.toNatClampNeg (2 + (R 0 (Int32.toNatClampNeg (67 + p1)))))))))))
abbrev wsX3_sharedTeeth : List Cond := ws_ yX3_sharedTeeth cX3_sharedTeeth 2 (some .int)
set_option maxHeartbeats 8000000 in
theorem metX3_sharedTeeth (l : Launch) (K : KT) (h : Nat) (a : Nat → Nat) (hap : mAp h a) (post : Int32 → mF → mR → mL → mG → Prop) (F : mF) (R : mR) (L : mL) (G : mG) (p1 : Int32) : Met l yX3_sharedTeeth wsX3_sharedTeeth (rmo 1 29) (mPre K h a F R L G [.int p1] (wpX3_sharedTeeth post F R L G p1)) (mQi post K h a) 0 0 (mA h a) := by
  refine Met.ofW (cc := cX3_sharedTeeth) (maxL := 2) (ret := (some .int)) (by decide) rfl ?_
  intro p e s m args below meth c s₁ B hml hv
  obtain ⟨rfl, hP, hK, hw⟩ := hv
  have hx := B.exec
  have hb := B.bytes
  have hr := B.returns
  have hts := atoms_spec (ws := wsX3_sharedTeeth) B.pre
  have hts : ∀ w ∈ lw_all, w.before _ s = true := fun w h => hts w (List.mem_cons_of_mem _ h)
  have hown : s.vm.findClass RX3 = some m.cls := findClass_of_methodNamed B.named
  have hlocks := B.notSynchronized
  have hl := lv_entry ([.ref h, .int p1]) (n := 2) (Nat.le_of_ble_eq_true rfl)
  rw [lg_entry_eq]
  generalize (lg_sl ([.ref h, .int p1]) ++ List.replicate (2 - (lg_sl ([.ref h, .int p1])).length) Slot.unset).toArray = ls at hl ⊢
  have hl : lv_has ls 2 [(0, .ref h), (1, .int p1)] := hl
  have hS : va_S (mA h a) s.heap s.heap [] := va_S.rf
  unfold wpX3_sharedTeeth at hw
  refine lv_aload_n hx hb dX3_sharedTeeth_0 rfl (lv_at hl 0 rfl) ?_
  refine m_get hx hb hts hown hK hP 0 (by decide) q1728 rfl dX3_sharedTeeth_1 ?_
  refine lv_iconst (v := 2) hx hb dX3_sharedTeeth_4 (by decide) ?_
  refine lv_aload_n hx hb dX3_sharedTeeth_5 rfl (lv_at hl 0 rfl) ?_
  refine m_get hx hb hts hown hK hP 0 (by decide) q1728 rfl dX3_sharedTeeth_6 ?_
  refine lv_bipush (v := 51) hx hb dX3_sharedTeeth_9 (by decide) ?_
  refine lv_iload_n hx hb dX3_sharedTeeth_11 rfl (lv_at hl 1 rfl) ?_
  refine lv_iadd hx hb dX3_sharedTeeth_12 ?_
  obtain ⟨h_1, hw⟩ := hw
  refine m_iald (j := (Int32.toNatClampNeg (51 + p1))) hx hb hK hP 0 1 113 rfl rfl h_1 dX3_sharedTeeth_13 ?_
  refine lv_iadd hx hb dX3_sharedTeeth_14 ?_
  obtain ⟨h_2, hw⟩ := hw
  refine m_iald (j := (Int32.toNatClampNeg (2 + (R 0 (Int32.toNatClampNeg (51 + p1)))))) hx hb hK hP 0 1 113 rfl rfl h_2 dX3_sharedTeeth_15 ?_
  refine lv_i2l hx hb dX3_sharedTeeth_16 rfl ?_
  refine lv_aload_n hx hb dX3_sharedTeeth_17 rfl (lv_at hl 0 rfl) ?_
  refine m_get hx hb hts hown hK hP 0 (by decide) q1728 rfl dX3_sharedTeeth_18 ?_
  refine lv_iconst (v := 2) hx hb dX3_sharedTeeth_21 (by decide) ?_
  refine lv_aload_n hx hb dX3_sharedTeeth_22 rfl (lv_at hl 0 rfl) ?_
  refine m_get hx hb hts hown hK hP 0 (by decide) q1728 rfl dX3_sharedTeeth_23 ?_
  refine lv_bipush (v := 67) hx hb dX3_sharedTeeth_26 (by decide) ?_
  refine lv_iload_n hx hb dX3_sharedTeeth_28 rfl (lv_at hl 1 rfl) ?_
  refine lv_iadd hx hb dX3_sharedTeeth_29 ?_
  obtain ⟨h_3, hw⟩ := hw
  refine m_iald (j := (Int32.toNatClampNeg (67 + p1))) hx hb hK hP 0 1 113 rfl rfl h_3 dX3_sharedTeeth_30 ?_
  refine lv_iadd hx hb dX3_sharedTeeth_31 ?_
  obtain ⟨h_4, hw⟩ := hw
  refine m_iald (j := (Int32.toNatClampNeg (2 + (R 0 (Int32.toNatClampNeg (67 + p1)))))) hx hb hK hP 0 1 113 rfl rfl h_4 dX3_sharedTeeth_32 ?_
  refine lv_i2l hx hb dX3_sharedTeeth_33 rfl ?_
  refine s_calll (As := [.long (Int32.toInt64 (R 0 (Int32.toNatClampNeg (2 + (R 0 (Int32.toNatClampNeg (51 + p1))))))), .long (Int32.toInt64 (R 0 (Int32.toNatClampNeg (2 + (R 0 (Int32.toNatClampNeg (67 + p1)))))))]) (rest := []) ⟨hx, hb, hml, hown, hts⟩ (metX3_divisor l _ (Int32.toInt64 (R 0 (Int32.toNatClampNeg (2 + (R 0 (Int32.toNatClampNeg (51 + p1))))))) (Int32.toInt64 (R 0 (Int32.toNatClampNeg (2 + (R 0 (Int32.toNatClampNeg (67 + p1)))))))) (va_cwS 2 hts (lw_S q1900 q1901 q85 q1902) rfl rfl rfl (by decide +kernel) ⟨Nat.le_of_ble_eq_true rfl, Nat.le_of_ble_eq_true rfl⟩) hw rfl hl.1 rfl (Nat.le_of_ble_eq_true rfl) dX3_sharedTeeth_34 ⟨Nat.le_refl _, Nat.le_refl _⟩ (fun r_5 hw => ?_)
  refine lv_l2i hx hb dX3_sharedTeeth_37 rfl ?_
  exact m_iret hx hb hr hlocks hP hS dX3_sharedTeeth_38 hw
def wpX3_multiple (post : Int32 → mF → mR → mL → mG → Prop) (F : mF) (R : mR) (L : mL) (G : mG) (p1 : Int32) : Prop := wpX3_isPair (fun r_1 F_2 R_3 L_4 G_5 => wpX3_asks (fun r_6 F_7 R_8 L_9 G_10 => ((r_6 = 0 → post 0 F_7 R_8 L_9 G_10) ∧ (¬ r_6 = 0 → (vp_in (51 + p1) 113 ∧ (vp_in (2 + (R_8 0 (Int32.toNatClampNeg (51 + p1)))) 113 ∧ wpX3_sharedTeeth (fun r_14 F_15 R_16 L_17 G_18 => (¬ r_14 = 0 ∧ (vp_in (67 + p1) 113 ∧ (vp_in (2 + (R_16 0 (Int32.toNatClampNeg (67 + p1)))) 113 ∧ post (((R_8 0 (Int32.toNatClampNeg (2 + (R_8 0 (Int32.toNatClampNeg (51 + p1)))))) / r_14) * (R_16 0 (Int32.toNatClampNeg (2 + (R_16 0 (Int32.toNatClampNeg (67 + p1))))))) F_15 R_16 L_17 G_18)))) F_7 R_8 L_9 G_10 p1))))) F_2 R_3 L_4 G_5 r_1) F R L G p1
abbrev wsX3_multiple : List Cond := ws_ yX3_multiple cX3_multiple 2 (some .int)
set_option maxHeartbeats 8000000 in
theorem metX3_multiple (l : Launch) (K : KT) (h : Nat) (a : Nat → Nat) (hap : mAp h a) (post : Int32 → mF → mR → mL → mG → Prop) (F : mF) (R : mR) (L : mL) (G : mG) (p1 : Int32) : Met l yX3_multiple wsX3_multiple (rmo 2 50) (mPre K h a F R L G [.int p1] (wpX3_multiple post F R L G p1)) (mQi post K h a) 0 0 (mA h a) := by
  refine Met.ofW (cc := cX3_multiple) (maxL := 2) (ret := (some .int)) (by decide) rfl ?_
  intro p e s m args below meth c s₁ B hml hv
  obtain ⟨rfl, hP, hK, hw⟩ := hv
  have hx := B.exec
  have hb := B.bytes
  have hr := B.returns
  have hts := atoms_spec (ws := wsX3_multiple) B.pre
  have hts : ∀ w ∈ lw_all, w.before _ s = true := fun w h => hts w (List.mem_cons_of_mem _ h)
  have hown : s.vm.findClass RX3 = some m.cls := findClass_of_methodNamed B.named
  have hlocks := B.notSynchronized
  have hl := lv_entry ([.ref h, .int p1]) (n := 2) (Nat.le_of_ble_eq_true rfl)
  rw [lg_entry_eq]
  generalize (lg_sl ([.ref h, .int p1]) ++ List.replicate (2 - (lg_sl ([.ref h, .int p1])).length) Slot.unset).toArray = ls at hl ⊢
  have hl : lv_has ls 2 [(0, .ref h), (1, .int p1)] := hl
  have hS : va_S (mA h a) s.heap s.heap [] := va_S.rf
  unfold wpX3_multiple at hw
  refine lv_aload_n hx hb dX3_multiple_0 rfl (lv_at hl 0 rfl) ?_
  refine lv_aload_n hx hb dX3_multiple_1 rfl (lv_at hl 0 rfl) ?_
  refine lv_iload_n hx hb dX3_multiple_2 rfl (lv_at hl 1 rfl) ?_
  refine m_calli (As := [.int p1]) (rest := [.ref h]) ⟨hx, hb, hml, hown, hts⟩ (metX3_isPair l K h a hap _ F R L G p1) (cwV 1 hts (lw_V q1919 q1921 qs42 q85 q1922) rfl rfl rfl (by decide +kernel) ⟨Nat.le_of_ble_eq_true rfl, Nat.le_of_ble_eq_true rfl⟩) hK hP hS hw rfl hl.1 rfl (Nat.le_of_ble_eq_true rfl) dX3_multiple_3 ⟨Nat.le_refl _, Nat.le_refl _⟩ (fun r_1 F_2 R_3 L_4 G_5 H locs hw hP hS => ?_)
  refine m_calli (As := [.int r_1]) (rest := []) ⟨hx, hb, hml, hown, hts⟩ (metX3_asks l K h a hap _ F_2 R_3 L_4 G_5 r_1) (cwV 1 hts (lw_V q2005 q2007 qs49 q85 q2008) rfl rfl rfl (by decide +kernel) ⟨Nat.le_of_ble_eq_true rfl, Nat.le_of_ble_eq_true rfl⟩) hK hP hS hw rfl hl.1 rfl (Nat.le_of_ble_eq_true rfl) dX3_multiple_6 ⟨Nat.le_refl _, Nat.le_refl _⟩ (fun r_6 F_7 R_8 L_9 G_10 H locs hw hP hS => ?_)
  refine lv_if_ne (tgt := 14) hx hb dX3_multiple_9 (by decide) (fun c_11 => ?_) (fun c_11 => ?_)
  · have hw := hw.2 (c_11)
    refine lv_aload_n hx hb dX3_multiple_14 rfl (lv_at hl 0 rfl) ?_
    refine m_get hx hb hts hown hK hP 0 (by decide) q1728 rfl dX3_multiple_15 ?_
    refine lv_iconst (v := 2) hx hb dX3_multiple_18 (by decide) ?_
    refine lv_aload_n hx hb dX3_multiple_19 rfl (lv_at hl 0 rfl) ?_
    refine m_get hx hb hts hown hK hP 0 (by decide) q1728 rfl dX3_multiple_20 ?_
    refine lv_bipush (v := 51) hx hb dX3_multiple_23 (by decide) ?_
    refine lv_iload_n hx hb dX3_multiple_25 rfl (lv_at hl 1 rfl) ?_
    refine lv_iadd hx hb dX3_multiple_26 ?_
    obtain ⟨h_12, hw⟩ := hw
    refine m_iald (j := (Int32.toNatClampNeg (51 + p1))) hx hb hK hP 0 1 113 rfl rfl h_12 dX3_multiple_27 ?_
    refine lv_iadd hx hb dX3_multiple_28 ?_
    obtain ⟨h_13, hw⟩ := hw
    refine m_iald (j := (Int32.toNatClampNeg (2 + (R_8 0 (Int32.toNatClampNeg (51 + p1)))))) hx hb hK hP 0 1 113 rfl rfl h_13 dX3_multiple_29 ?_
    refine lv_aload_n hx hb dX3_multiple_30 rfl (lv_at hl 0 rfl) ?_
    refine lv_iload_n hx hb dX3_multiple_31 rfl (lv_at hl 1 rfl) ?_
    refine m_calli (As := [.int p1]) (rest := [.int (R_8 0 (Int32.toNatClampNeg (2 + (R_8 0 (Int32.toNatClampNeg (51 + p1))))))]) ⟨hx, hb, hml, hown, hts⟩ (metX3_sharedTeeth l K h a hap _ F_7 R_8 L_9 G_10 p1) (cwV 1 hts (lw_V q2061 q2063 qs53 q85 q2064) rfl rfl rfl (by decide +kernel) ⟨Nat.le_of_ble_eq_true rfl, Nat.le_of_ble_eq_true rfl⟩) hK hP hS hw rfl hl.1 rfl (Nat.le_of_ble_eq_true rfl) dX3_multiple_32 ⟨Nat.le_refl _, Nat.le_refl _⟩ (fun r_14 F_15 R_16 L_17 G_18 H locs hw hP hS => ?_)
    obtain ⟨h_19, hw⟩ := hw
    refine lv_idiv hx hb dX3_multiple_35 h_19 ?_
    refine lv_aload_n hx hb dX3_multiple_36 rfl (lv_at hl 0 rfl) ?_
    refine m_get hx hb hts hown hK hP 0 (by decide) q1728 rfl dX3_multiple_37 ?_
    refine lv_iconst (v := 2) hx hb dX3_multiple_40 (by decide) ?_
    refine lv_aload_n hx hb dX3_multiple_41 rfl (lv_at hl 0 rfl) ?_
    refine m_get hx hb hts hown hK hP 0 (by decide) q1728 rfl dX3_multiple_42 ?_
    refine lv_bipush (v := 67) hx hb dX3_multiple_45 (by decide) ?_
    refine lv_iload_n hx hb dX3_multiple_47 rfl (lv_at hl 1 rfl) ?_
    refine lv_iadd hx hb dX3_multiple_48 ?_
    obtain ⟨h_20, hw⟩ := hw
    refine m_iald (j := (Int32.toNatClampNeg (67 + p1))) hx hb hK hP 0 1 113 rfl rfl h_20 dX3_multiple_49 ?_
    refine lv_iadd hx hb dX3_multiple_50 ?_
    obtain ⟨h_21, hw⟩ := hw
    refine m_iald (j := (Int32.toNatClampNeg (2 + (R_16 0 (Int32.toNatClampNeg (67 + p1)))))) hx hb hK hP 0 1 113 rfl rfl h_21 dX3_multiple_51 ?_
    refine lv_imul hx hb dX3_multiple_52 ?_
    exact m_iret hx hb hr hlocks hP hS dX3_multiple_53 hw
  · have hw := hw.1 (c_11)
    refine lv_iconst (v := 0) hx hb dX3_multiple_12 (by decide) ?_
    exact m_iret hx hb hr hlocks hP hS dX3_multiple_13 hw
def wpX3_sameTeethIn (post : Int32 → mF → mR → mL → mG → Prop) (F : mF) (R : mR) (L : mL) (G : mG) (p1 : Int32) : Prop := wpX3_multiple (fun r_1 F_2 R_3 L_4 G_5 => post r_1 F_2 R_3 L_4 G_5) F R L G p1
abbrev wsX3_sameTeethIn : List Cond := ws_ yX3_sameTeethIn cX3_sameTeethIn 2 (some .int)
set_option maxHeartbeats 8000000 in
theorem metX3_sameTeethIn (l : Launch) (K : KT) (h : Nat) (a : Nat → Nat) (hap : mAp h a) (post : Int32 → mF → mR → mL → mG → Prop) (F : mF) (R : mR) (L : mL) (G : mG) (p1 : Int32) : Met l yX3_sameTeethIn wsX3_sameTeethIn (rmo 3 71) (mPre K h a F R L G [.int p1] (wpX3_sameTeethIn post F R L G p1)) (mQi post K h a) 0 0 (mA h a) := by
  refine Met.ofW (cc := cX3_sameTeethIn) (maxL := 2) (ret := (some .int)) (by decide) rfl ?_
  intro p e s m args below meth c s₁ B hml hv
  obtain ⟨rfl, hP, hK, hw⟩ := hv
  have hx := B.exec
  have hb := B.bytes
  have hr := B.returns
  have hts := atoms_spec (ws := wsX3_sameTeethIn) B.pre
  have hts : ∀ w ∈ lw_all, w.before _ s = true := fun w h => hts w (List.mem_cons_of_mem _ h)
  have hown : s.vm.findClass RX3 = some m.cls := findClass_of_methodNamed B.named
  have hlocks := B.notSynchronized
  have hl := lv_entry ([.ref h, .int p1]) (n := 2) (Nat.le_of_ble_eq_true rfl)
  rw [lg_entry_eq]
  generalize (lg_sl ([.ref h, .int p1]) ++ List.replicate (2 - (lg_sl ([.ref h, .int p1])).length) Slot.unset).toArray = ls at hl ⊢
  have hl : lv_has ls 2 [(0, .ref h), (1, .int p1)] := hl
  have hS : va_S (mA h a) s.heap s.heap [] := va_S.rf
  unfold wpX3_sameTeethIn at hw
  refine lv_aload_n hx hb dX3_sameTeethIn_0 rfl (lv_at hl 0 rfl) ?_
  refine lv_iload_n hx hb dX3_sameTeethIn_1 rfl (lv_at hl 1 rfl) ?_
  refine m_calli (As := [.int p1]) (rest := []) ⟨hx, hb, hml, hown, hts⟩ (metX3_multiple l K h a hap _ F R L G p1) (cwV 1 hts (lw_V q2057 q2059 qs52 q85 q2060) rfl rfl rfl (by decide +kernel) ⟨Nat.le_of_ble_eq_true rfl, Nat.le_of_ble_eq_true rfl⟩) hK hP hS hw rfl hl.1 rfl (Nat.le_of_ble_eq_true rfl) dX3_sameTeethIn_2 ⟨Nat.le_refl _, Nat.le_refl _⟩ (fun r_1 F_2 R_3 L_4 G_5 H locs hw hP hS => ?_)
  exact m_iret hx hb hr hlocks hP hS dX3_sameTeethIn_5 hw
def wpX3_sameTeethByGoing (post : Int32 → mF → mR → mL → mG → Prop) (F : mF) (R : mR) (L : mL) (G : mG) (p1 : Int32) : Prop := wpX3_multiple (fun r_1 F_2 R_3 L_4 G_5 => post r_1 F_2 R_3 L_4 G_5) F R L G p1
abbrev wsX3_sameTeethByGoing : List Cond := ws_ yX3_sameTeethByGoing cX3_sameTeethByGoing 2 (some .int)
set_option maxHeartbeats 8000000 in
theorem metX3_sameTeethByGoing (l : Launch) (K : KT) (h : Nat) (a : Nat → Nat) (hap : mAp h a) (post : Int32 → mF → mR → mL → mG → Prop) (F : mF) (R : mR) (L : mL) (G : mG) (p1 : Int32) : Met l yX3_sameTeethByGoing wsX3_sameTeethByGoing (rmo 3 71) (mPre K h a F R L G [.int p1] (wpX3_sameTeethByGoing post F R L G p1)) (mQi post K h a) 0 0 (mA h a) := by
  refine Met.ofW (cc := cX3_sameTeethByGoing) (maxL := 2) (ret := (some .int)) (by decide) rfl ?_
  intro p e s m args below meth c s₁ B hml hv
  obtain ⟨rfl, hP, hK, hw⟩ := hv
  have hx := B.exec
  have hb := B.bytes
  have hr := B.returns
  have hts := atoms_spec (ws := wsX3_sameTeethByGoing) B.pre
  have hts : ∀ w ∈ lw_all, w.before _ s = true := fun w h => hts w (List.mem_cons_of_mem _ h)
  have hown : s.vm.findClass RX3 = some m.cls := findClass_of_methodNamed B.named
  have hlocks := B.notSynchronized
  have hl := lv_entry ([.ref h, .int p1]) (n := 2) (Nat.le_of_ble_eq_true rfl)
  rw [lg_entry_eq]
  generalize (lg_sl ([.ref h, .int p1]) ++ List.replicate (2 - (lg_sl ([.ref h, .int p1])).length) Slot.unset).toArray = ls at hl ⊢
  have hl : lv_has ls 2 [(0, .ref h), (1, .int p1)] := hl
  have hS : va_S (mA h a) s.heap s.heap [] := va_S.rf
  unfold wpX3_sameTeethByGoing at hw
  refine lv_aload_n hx hb dX3_sameTeethByGoing_0 rfl (lv_at hl 0 rfl) ?_
  refine lv_iload_n hx hb dX3_sameTeethByGoing_1 rfl (lv_at hl 1 rfl) ?_
  refine m_calli (As := [.int p1]) (rest := []) ⟨hx, hb, hml, hown, hts⟩ (metX3_multiple l K h a hap _ F R L G p1) (cwV 1 hts (lw_V q2057 q2059 qs52 q85 q2060) rfl rfl rfl (by decide +kernel) ⟨Nat.le_of_ble_eq_true rfl, Nat.le_of_ble_eq_true rfl⟩) hK hP hS hw rfl hl.1 rfl (Nat.le_of_ble_eq_true rfl) dX3_sameTeethByGoing_2 ⟨Nat.le_refl _, Nat.le_refl _⟩ (fun r_1 F_2 R_3 L_4 G_5 H locs hw hP hS => ?_)
  exact m_iret hx hb hr hlocks hP hS dX3_sameTeethByGoing_5 hw
def wpX3_isEven (post : Int32 → mF → mR → mL → mG → Prop) (F : mF) (R : mR) (L : mL) (G : mG) (p1 : Int32) : Prop := wpX3_isPair (fun r_1 F_2 R_3 L_4 G_5 => wpX3_asks (fun r_6 F_7 R_8 L_9 G_10 => ((r_6 = 0 → post 0 F_7 R_8 L_9 G_10) ∧ (¬ r_6 = 0 → wpX3_sharedTeeth (fun r_12 F_13 R_14 L_15 G_16 => ((r_12 = 1 → post 1 F_13 R_14 L_15 G_16) ∧ (¬ r_12 = 1 → post 0 F_13 R_14 L_15 G_16))) F_7 R_8 L_9 G_10 p1))) F_2 R_3 L_4 G_5 r_1) F R L G p1
abbrev wsX3_isEven : List Cond := ws_ yX3_isEven cX3_isEven 2 (some .boolean)
set_option maxHeartbeats 8000000 in
theorem metX3_isEven (l : Launch) (K : KT) (h : Nat) (a : Nat → Nat) (hap : mAp h a) (post : Int32 → mF → mR → mL → mG → Prop) (F : mF) (R : mR) (L : mL) (G : mG) (p1 : Int32) : Met l yX3_isEven wsX3_isEven (rmo 2 50) (mPre K h a F R L G [.int p1] (wpX3_isEven post F R L G p1)) (mQi post K h a) 0 0 (mA h a) := by
  refine Met.ofW (cc := cX3_isEven) (maxL := 2) (ret := (some .boolean)) (by decide) rfl ?_
  intro p e s m args below meth c s₁ B hml hv
  obtain ⟨rfl, hP, hK, hw⟩ := hv
  have hx := B.exec
  have hb := B.bytes
  have hr := B.returns
  have hts := atoms_spec (ws := wsX3_isEven) B.pre
  have hts : ∀ w ∈ lw_all, w.before _ s = true := fun w h => hts w (List.mem_cons_of_mem _ h)
  have hown : s.vm.findClass RX3 = some m.cls := findClass_of_methodNamed B.named
  have hlocks := B.notSynchronized
  have hl := lv_entry ([.ref h, .int p1]) (n := 2) (Nat.le_of_ble_eq_true rfl)
  rw [lg_entry_eq]
  generalize (lg_sl ([.ref h, .int p1]) ++ List.replicate (2 - (lg_sl ([.ref h, .int p1])).length) Slot.unset).toArray = ls at hl ⊢
  have hl : lv_has ls 2 [(0, .ref h), (1, .int p1)] := hl
  have hS : va_S (mA h a) s.heap s.heap [] := va_S.rf
  unfold wpX3_isEven at hw
  refine lv_aload_n hx hb dX3_isEven_0 rfl (lv_at hl 0 rfl) ?_
  refine lv_aload_n hx hb dX3_isEven_1 rfl (lv_at hl 0 rfl) ?_
  refine lv_iload_n hx hb dX3_isEven_2 rfl (lv_at hl 1 rfl) ?_
  refine m_calli (As := [.int p1]) (rest := [.ref h]) ⟨hx, hb, hml, hown, hts⟩ (metX3_isPair l K h a hap _ F R L G p1) (cwV 1 hts (lw_V q1919 q1921 qs42 q85 q1922) rfl rfl rfl (by decide +kernel) ⟨Nat.le_of_ble_eq_true rfl, Nat.le_of_ble_eq_true rfl⟩) hK hP hS hw rfl hl.1 rfl (Nat.le_of_ble_eq_true rfl) dX3_isEven_3 ⟨Nat.le_refl _, Nat.le_refl _⟩ (fun r_1 F_2 R_3 L_4 G_5 H locs hw hP hS => ?_)
  refine m_calli (As := [.int r_1]) (rest := []) ⟨hx, hb, hml, hown, hts⟩ (metX3_asks l K h a hap _ F_2 R_3 L_4 G_5 r_1) (cwV 1 hts (lw_V q2005 q2007 qs49 q85 q2008) rfl rfl rfl (by decide +kernel) ⟨Nat.le_of_ble_eq_true rfl, Nat.le_of_ble_eq_true rfl⟩) hK hP hS hw rfl hl.1 rfl (Nat.le_of_ble_eq_true rfl) dX3_isEven_6 ⟨Nat.le_refl _, Nat.le_refl _⟩ (fun r_6 F_7 R_8 L_9 G_10 H locs hw hP hS => ?_)
  refine lv_if_eq (tgt := 25) hx hb dX3_isEven_9 (by decide) (fun c_11 => ?_) (fun c_11 => ?_)
  · have hw := hw.1 c_11
    refine lv_iconst (v := 0) hx hb dX3_isEven_25 (by decide) ?_
    exact m_zret hx hb hr hlocks hP hS dX3_isEven_26 (Or.inl rfl) hw
  · have hw := hw.2 c_11
    refine lv_aload_n hx hb dX3_isEven_12 rfl (lv_at hl 0 rfl) ?_
    refine lv_iload_n hx hb dX3_isEven_13 rfl (lv_at hl 1 rfl) ?_
    refine m_calli (As := [.int p1]) (rest := []) ⟨hx, hb, hml, hown, hts⟩ (metX3_sharedTeeth l K h a hap _ F_7 R_8 L_9 G_10 p1) (cwV 1 hts (lw_V q2061 q2063 qs53 q85 q2064) rfl rfl rfl (by decide +kernel) ⟨Nat.le_of_ble_eq_true rfl, Nat.le_of_ble_eq_true rfl⟩) hK hP hS hw rfl hl.1 rfl (Nat.le_of_ble_eq_true rfl) dX3_isEven_14 ⟨Nat.le_refl _, Nat.le_refl _⟩ (fun r_12 F_13 R_14 L_15 G_16 H locs hw hP hS => ?_)
    refine lv_iconst (v := 1) hx hb dX3_isEven_17 (by decide) ?_
    refine lv_icmp_ne (tgt := 25) hx hb dX3_isEven_18 (by decide) (fun c_17 => ?_) (fun c_17 => ?_)
    · have hw := hw.2 (c_17)
      refine lv_iconst (v := 0) hx hb dX3_isEven_25 (by decide) ?_
      exact m_zret hx hb hr hlocks hP hS dX3_isEven_26 (Or.inl rfl) hw
    · have hw := hw.1 (c_17)
      refine lv_iconst (v := 1) hx hb dX3_isEven_21 (by decide) ?_
      refine lv_goto (tgt := 26) hx hb dX3_isEven_22 (by decide) ?_
      exact m_zret hx hb hr hlocks hP hS dX3_isEven_26 (Or.inr rfl) hw
def wpX3_teethGone_23 (post : Int64 → mF → mR → mL → mG → Prop) (x1 : Int32) (x2 : Int32) (z0 : Int32) (F : mF) (R : mR) (L : mL) (G : mG) : Prop := wpX3_asksDriven (fun r_1 F_2 R_3 L_4 G_5 => ((r_1 = 0 → post 0 F_2 R_3 L_4 G_5) ∧ (¬ r_1 = 0 → wpX3_size (fun r_7 F_8 R_9 L_10 G_11 => (vp_in (2 + x1) 113 ∧ (vp_in z0 12 ∧ (¬ (L_10 11 (Int32.toNatClampNeg z0)) = 0 ∧ post (((r_7 * (Int32.toInt64 (R_9 0 111))) * (Int32.toInt64 (R_9 0 (Int32.toNatClampNeg (2 + x1))))) / (L_10 11 (Int32.toNatClampNeg z0))) F_8 R_9 L_10 G_11)))) F_2 R_3 L_4 G_5 z0))) F R L G z0 x2
def wpX3_teethGone (post : Int64 → mF → mR → mL → mG → Prop) (F : mF) (R : mR) (L : mL) (G : mG) (p1 : Int32) : Prop := wpX3_isWheel (fun r_15 F_16 R_17 L_18 G_19 => ((r_15 = 0 → wpX3_teethGone_23 post p1 r_15 0 F_16 R_17 L_18 G_19) ∧ (¬ r_15 = 0 → (vp_in (26 + p1) 113 ∧ wpX3_teethGone_23 post p1 r_15 (R_17 0 (Int32.toNatClampNeg (26 + p1))) F_16 R_17 L_18 G_19)))) F R L G p1
abbrev wsX3_teethGone : List Cond := ws_ yX3_teethGone cX3_teethGone 4 (some .long)
set_option maxHeartbeats 8000000 in
theorem metX3_teethGone (l : Launch) (K : KT) (h : Nat) (a : Nat → Nat) (hap : mAp h a) (post : Int64 → mF → mR → mL → mG → Prop) (F : mF) (R : mR) (L : mL) (G : mG) (p1 : Int32) : Met l yX3_teethGone wsX3_teethGone (rmo 4 107) (mPre K h a F R L G [.int p1] (wpX3_teethGone post F R L G p1)) (mQl post K h a) 0 0 (mA h a) := by
  refine Met.ofW (cc := cX3_teethGone) (maxL := 4) (ret := (some .long)) (by decide) rfl ?_
  intro p e s m args below meth c s₁ B hml hv
  obtain ⟨rfl, hP, hK, hw⟩ := hv
  have hx := B.exec
  have hb := B.bytes
  have hr := B.returns
  have hts := atoms_spec (ws := wsX3_teethGone) B.pre
  have hts : ∀ w ∈ lw_all, w.before _ s = true := fun w h => hts w (List.mem_cons_of_mem _ h)
  have hown : s.vm.findClass RX3 = some m.cls := findClass_of_methodNamed B.named
  have hlocks := B.notSynchronized
  have hl := lv_entry ([.ref h, .int p1]) (n := 4) (Nat.le_of_ble_eq_true rfl)
  rw [lg_entry_eq]
  generalize (lg_sl ([.ref h, .int p1]) ++ List.replicate (4 - (lg_sl ([.ref h, .int p1])).length) Slot.unset).toArray = ls at hl ⊢
  have hl : lv_has ls 4 [(0, .ref h), (1, .int p1)] := hl
  have hS : va_S (mA h a) s.heap s.heap [] := va_S.rf
  have T23 : ∀ (x1 : Int32) (x2 : Int32) (z0 : Int32) (F : mF) (R : mR) (L : mL) (G : mG) (H : Heap) (locs : List Loc) (ls : Array Slot), mP K h a F R L G H → va_S (mA h a) s.heap H locs → lv_has ls 4 [(0, .ref h), (1, .int x1), (2, .int x2)] → wpX3_teethGone_23 post x1 x2 z0 F R L G → W p l e (rmo 4 107) s m ([.ref h, .int p1] : List Value).toArray below meth c H locs 0 0 (MQ below (mQl post K h a) ([.ref h, .int p1] : List Value).toArray s 0 0 (mA h a)) (F0 m 23 ls [.int z0]) := by
    intro x1 x2 z0 F R L G H locs ls hP hS hl hw
    unfold wpX3_teethGone_23 at hw
    refine lv_istore_n (lv' := [(3, .int z0), (0, .ref h), (1, .int x1), (2, .int x2)]) hx hb dX3_teethGone_23 rfl hl (by decide) rfl (fun ls hl => ?_)
    refine lv_aload_n hx hb dX3_teethGone_24 rfl (lv_at hl 1 rfl) ?_
    refine lv_iload_n hx hb dX3_teethGone_25 rfl (lv_at hl 0 rfl) ?_
    refine lv_iload_n hx hb dX3_teethGone_26 rfl (lv_at hl 3 rfl) ?_
    refine m_calli (As := [.int z0, .int x2]) (rest := []) ⟨hx, hb, hml, hown, hts⟩ (metX3_asksDriven l K h a hap _ F R L G z0 x2) (cwV 2 hts (lw_V q2025 q2027 qs50 q85 q2028) rfl rfl rfl (by decide +kernel) ⟨Nat.le_of_ble_eq_true rfl, Nat.le_of_ble_eq_true rfl⟩) hK hP hS hw rfl hl.1 rfl (Nat.le_of_ble_eq_true rfl) dX3_teethGone_27 ⟨Nat.le_refl _, Nat.le_refl _⟩ (fun r_1 F_2 R_3 L_4 G_5 H locs hw hP hS => ?_)
    refine lv_if_eq (tgt := 67) hx hb dX3_teethGone_30 (by decide) (fun c_6 => ?_) (fun c_6 => ?_)
    · have hw := hw.1 c_6
      refine lv_lconst (v := 0) hx hb dX3_teethGone_67 (by decide) ?_
      exact m_lret hx hb hr hlocks hP hS dX3_teethGone_68 hw
    · have hw := hw.2 c_6
      refine lv_aload_n hx hb dX3_teethGone_33 rfl (lv_at hl 1 rfl) ?_
      refine lv_iload_n hx hb dX3_teethGone_34 rfl (lv_at hl 0 rfl) ?_
      refine m_calll (As := [.int z0]) (rest := []) ⟨hx, hb, hml, hown, hts⟩ (metX3_size l K h a hap _ F_2 R_3 L_4 G_5 z0) (cwV 1 hts (lw_V q2045 q2047 qs51 q85 q2048) rfl rfl rfl (by decide +kernel) ⟨Nat.le_of_ble_eq_true rfl, Nat.le_of_ble_eq_true rfl⟩) hK hP hS hw rfl hl.1 rfl (Nat.le_of_ble_eq_true rfl) dX3_teethGone_35 ⟨Nat.le_refl _, Nat.le_refl _⟩ (fun r_7 F_8 R_9 L_10 G_11 H locs hw hP hS => ?_)
      refine lv_aload_n hx hb dX3_teethGone_38 rfl (lv_at hl 1 rfl) ?_
      refine m_get hx hb hts hown hK hP 0 (by decide) q1728 rfl dX3_teethGone_39 ?_
      refine lv_bipush (v := 111) hx hb dX3_teethGone_42 (by decide) ?_
      refine m_iald (j := 111) hx hb hK hP 0 1 113 rfl (by decide) (vpd (by decide)) dX3_teethGone_44 ?_
      refine lv_i2l hx hb dX3_teethGone_45 rfl ?_
      refine lv_lmul hx hb dX3_teethGone_46 ?_
      refine lv_aload_n hx hb dX3_teethGone_47 rfl (lv_at hl 1 rfl) ?_
      refine m_get hx hb hts hown hK hP 0 (by decide) q1728 rfl dX3_teethGone_48 ?_
      refine lv_iconst (v := 2) hx hb dX3_teethGone_51 (by decide) ?_
      refine lv_iload_n hx hb dX3_teethGone_52 rfl (lv_at hl 2 rfl) ?_
      refine lv_iadd hx hb dX3_teethGone_53 ?_
      obtain ⟨h_12, hw⟩ := hw
      refine m_iald (j := (Int32.toNatClampNeg (2 + x1))) hx hb hK hP 0 1 113 rfl rfl h_12 dX3_teethGone_54 ?_
      refine lv_i2l hx hb dX3_teethGone_55 rfl ?_
      refine lv_lmul hx hb dX3_teethGone_56 ?_
      refine lv_aload_n hx hb dX3_teethGone_57 rfl (lv_at hl 1 rfl) ?_
      refine m_get hx hb hts hown hK hP 11 (by decide) q1739 rfl dX3_teethGone_58 ?_
      refine lv_iload_n hx hb dX3_teethGone_61 rfl (lv_at hl 0 rfl) ?_
      obtain ⟨h_13, hw⟩ := hw
      refine m_lald (j := (Int32.toNatClampNeg z0)) hx hb hK hP 11 8 12 rfl rfl h_13 dX3_teethGone_62 ?_
      obtain ⟨h_14, hw⟩ := hw
      refine lv_ldiv hx hb dX3_teethGone_63 h_14 ?_
      refine lv_goto (tgt := 68) hx hb dX3_teethGone_64 (by decide) ?_
      exact m_lret hx hb hr hlocks hP hS dX3_teethGone_68 hw
  unfold wpX3_teethGone at hw
  refine lv_aload_n hx hb dX3_teethGone_0 rfl (lv_at hl 0 rfl) ?_
  refine lv_iload_n hx hb dX3_teethGone_1 rfl (lv_at hl 1 rfl) ?_
  refine m_calli (As := [.int p1]) (rest := []) ⟨hx, hb, hml, hown, hts⟩ (metX3_isWheel l K h a hap _ F R L G p1) (cwV 1 hts (lw_V q1876 q1878 qs33 q85 q1879) rfl rfl rfl (by decide +kernel) ⟨Nat.le_of_ble_eq_true rfl, Nat.le_of_ble_eq_true rfl⟩) hK hP hS hw rfl hl.1 rfl (Nat.le_of_ble_eq_true rfl) dX3_teethGone_2 ⟨Nat.le_refl _, Nat.le_refl _⟩ (fun r_15 F_16 R_17 L_18 G_19 H locs hw hP hS => ?_)
  refine lv_istore_n (lv' := [(2, .int r_15), (0, .ref h), (1, .int p1)]) hx hb dX3_teethGone_5 rfl hl (by decide) rfl (fun ls hl => ?_)
  refine lv_iload_n hx hb dX3_teethGone_6 rfl (lv_at hl 0 rfl) ?_
  refine lv_if_eq (tgt := 22) hx hb dX3_teethGone_7 (by decide) (fun c_20 => ?_) (fun c_20 => ?_)
  · have hw := hw.1 c_20
    refine lv_iconst (v := 0) hx hb dX3_teethGone_22 (by decide) ?_
    exact T23 p1 r_15 0 F_16 R_17 L_18 G_19 _ _ ls hP hS (lv_sub hl [1, 2, 0] rfl) hw
  · have hw := hw.2 c_20
    refine lv_aload_n hx hb dX3_teethGone_10 rfl (lv_at hl 1 rfl) ?_
    refine m_get hx hb hts hown hK hP 0 (by decide) q1728 rfl dX3_teethGone_11 ?_
    refine lv_bipush (v := 26) hx hb dX3_teethGone_14 (by decide) ?_
    refine lv_iload_n hx hb dX3_teethGone_16 rfl (lv_at hl 2 rfl) ?_
    refine lv_iadd hx hb dX3_teethGone_17 ?_
    obtain ⟨h_21, hw⟩ := hw
    refine m_iald (j := (Int32.toNatClampNeg (26 + p1))) hx hb hK hP 0 1 113 rfl rfl h_21 dX3_teethGone_18 ?_
    refine lv_goto (tgt := 23) hx hb dX3_teethGone_19 (by decide) ?_
    exact T23 p1 r_15 (R_17 0 (Int32.toNatClampNeg (26 + p1))) F_16 R_17 L_18 G_19 _ _ ls hP hS (lv_sub hl [1, 2, 0] rfl) hw
def wpX3_arms (post : Int32 → mF → mR → mL → mG → Prop) (F : mF) (R : mR) (L : mL) (G : mG) : Prop := wpX3_account (fun r_1 F_2 R_3 L_4 G_5 => post r_1 F_2 R_3 L_4 G_5) F R L G 83
abbrev wsX3_arms : List Cond := ws_ yX3_arms cX3_arms 1 (some .int)
set_option maxHeartbeats 8000000 in
theorem metX3_arms (l : Launch) (K : KT) (h : Nat) (a : Nat → Nat) (hap : mAp h a) (post : Int32 → mF → mR → mL → mG → Prop) (F : mF) (R : mR) (L : mL) (G : mG) : Met l yX3_arms wsX3_arms (rmo 1 21) (mPre K h a F R L G [] (wpX3_arms post F R L G )) (mQi post K h a) 0 0 (mA h a) := by
  refine Met.ofW (cc := cX3_arms) (maxL := 1) (ret := (some .int)) (by decide) rfl ?_
  intro p e s m args below meth c s₁ B hml hv
  obtain ⟨rfl, hP, hK, hw⟩ := hv
  have hx := B.exec
  have hb := B.bytes
  have hr := B.returns
  have hts := atoms_spec (ws := wsX3_arms) B.pre
  have hts : ∀ w ∈ lw_all, w.before _ s = true := fun w h => hts w (List.mem_cons_of_mem _ h)
  have hown : s.vm.findClass RX3 = some m.cls := findClass_of_methodNamed B.named
  have hlocks := B.notSynchronized
  have hl := lv_entry ([.ref h]) (n := 1) (Nat.le_of_ble_eq_true rfl)
  rw [lg_entry_eq]
  generalize (lg_sl ([.ref h]) ++ List.replicate (1 - (lg_sl ([.ref h])).length) Slot.unset).toArray = ls at hl ⊢
  have hl : lv_has ls 1 [(0, .ref h)] := hl
  have hS : va_S (mA h a) s.heap s.heap [] := va_S.rf
  unfold wpX3_arms at hw
  refine lv_aload_n hx hb dX3_arms_0 rfl (lv_at hl 0 rfl) ?_
  refine lv_bipush (v := 83) hx hb dX3_arms_1 (by decide) ?_
  refine m_calli (As := [.int 83]) (rest := []) ⟨hx, hb, hml, hown, hts⟩ (metX3_account l K h a hap _ F R L G 83) (cwV 1 hts (lw_V q1989 q1991 qs48 q85 q1992) rfl rfl rfl (by decide +kernel) ⟨Nat.le_of_ble_eq_true rfl, Nat.le_of_ble_eq_true rfl⟩) hK hP hS hw rfl hl.1 rfl (Nat.le_of_ble_eq_true rfl) dX3_arms_3 ⟨Nat.le_refl _, Nat.le_refl _⟩ (fun r_1 F_2 R_3 L_4 G_5 H locs hw hP hS => ?_)
  exact m_iret hx hb hr hlocks hP hS dX3_arms_6 hw
def wpX3_moons (post : Int32 → mF → mR → mL → mG → Prop) (F : mF) (R : mR) (L : mL) (G : mG) : Prop := wpX3_account (fun r_1 F_2 R_3 L_4 G_5 => post r_1 F_2 R_3 L_4 G_5) F R L G 102
abbrev wsX3_moons : List Cond := ws_ yX3_moons cX3_moons 1 (some .int)
set_option maxHeartbeats 8000000 in
theorem metX3_moons (l : Launch) (K : KT) (h : Nat) (a : Nat → Nat) (hap : mAp h a) (post : Int32 → mF → mR → mL → mG → Prop) (F : mF) (R : mR) (L : mL) (G : mG) : Met l yX3_moons wsX3_moons (rmo 1 21) (mPre K h a F R L G [] (wpX3_moons post F R L G )) (mQi post K h a) 0 0 (mA h a) := by
  refine Met.ofW (cc := cX3_moons) (maxL := 1) (ret := (some .int)) (by decide) rfl ?_
  intro p e s m args below meth c s₁ B hml hv
  obtain ⟨rfl, hP, hK, hw⟩ := hv
  have hx := B.exec
  have hb := B.bytes
  have hr := B.returns
  have hts := atoms_spec (ws := wsX3_moons) B.pre
  have hts : ∀ w ∈ lw_all, w.before _ s = true := fun w h => hts w (List.mem_cons_of_mem _ h)
  have hown : s.vm.findClass RX3 = some m.cls := findClass_of_methodNamed B.named
  have hlocks := B.notSynchronized
  have hl := lv_entry ([.ref h]) (n := 1) (Nat.le_of_ble_eq_true rfl)
  rw [lg_entry_eq]
  generalize (lg_sl ([.ref h]) ++ List.replicate (1 - (lg_sl ([.ref h])).length) Slot.unset).toArray = ls at hl ⊢
  have hl : lv_has ls 1 [(0, .ref h)] := hl
  have hS : va_S (mA h a) s.heap s.heap [] := va_S.rf
  unfold wpX3_moons at hw
  refine lv_aload_n hx hb dX3_moons_0 rfl (lv_at hl 0 rfl) ?_
  refine lv_bipush (v := 102) hx hb dX3_moons_1 (by decide) ?_
  refine m_calli (As := [.int 102]) (rest := []) ⟨hx, hb, hml, hown, hts⟩ (metX3_account l K h a hap _ F R L G 102) (cwV 1 hts (lw_V q1989 q1991 qs48 q85 q1992) rfl rfl rfl (by decide +kernel) ⟨Nat.le_of_ble_eq_true rfl, Nat.le_of_ble_eq_true rfl⟩) hK hP hS hw rfl hl.1 rfl (Nat.le_of_ble_eq_true rfl) dX3_moons_3 ⟨Nat.le_refl _, Nat.le_refl _⟩ (fun r_1 F_2 R_3 L_4 G_5 H locs hw hP hS => ?_)
  exact m_iret hx hb hr hlocks hP hS dX3_moons_6 hw
def wpX3_bendOf (post : Int32 → mF → mR → mL → mG → Prop) (F : mF) (R : mR) (L : mL) (G : mG) (p1 : Int32) : Prop := wpX3_isArm (fun r_1 F_2 R_3 L_4 G_5 => wpX3_asks (fun r_6 F_7 R_8 L_9 G_10 => ((r_6 = 0 → post 0 F_7 R_8 L_9 G_10) ∧ (¬ r_6 = 0 → (vp_in (90 + p1) 113 ∧ post (R_8 0 (Int32.toNatClampNeg (90 + p1))) F_7 R_8 L_9 G_10)))) F_2 R_3 L_4 G_5 r_1) F R L G p1
abbrev wsX3_bendOf : List Cond := ws_ yX3_bendOf cX3_bendOf 2 (some .int)
set_option maxHeartbeats 8000000 in
theorem metX3_bendOf (l : Launch) (K : KT) (h : Nat) (a : Nat → Nat) (hap : mAp h a) (post : Int32 → mF → mR → mL → mG → Prop) (F : mF) (R : mR) (L : mL) (G : mG) (p1 : Int32) : Met l yX3_bendOf wsX3_bendOf (rmo 2 43) (mPre K h a F R L G [.int p1] (wpX3_bendOf post F R L G p1)) (mQi post K h a) 0 0 (mA h a) := by
  refine Met.ofW (cc := cX3_bendOf) (maxL := 2) (ret := (some .int)) (by decide) rfl ?_
  intro p e s m args below meth c s₁ B hml hv
  obtain ⟨rfl, hP, hK, hw⟩ := hv
  have hx := B.exec
  have hb := B.bytes
  have hr := B.returns
  have hts := atoms_spec (ws := wsX3_bendOf) B.pre
  have hts : ∀ w ∈ lw_all, w.before _ s = true := fun w h => hts w (List.mem_cons_of_mem _ h)
  have hown : s.vm.findClass RX3 = some m.cls := findClass_of_methodNamed B.named
  have hlocks := B.notSynchronized
  have hl := lv_entry ([.ref h, .int p1]) (n := 2) (Nat.le_of_ble_eq_true rfl)
  rw [lg_entry_eq]
  generalize (lg_sl ([.ref h, .int p1]) ++ List.replicate (2 - (lg_sl ([.ref h, .int p1])).length) Slot.unset).toArray = ls at hl ⊢
  have hl : lv_has ls 2 [(0, .ref h), (1, .int p1)] := hl
  have hS : va_S (mA h a) s.heap s.heap [] := va_S.rf
  unfold wpX3_bendOf at hw
  refine lv_aload_n hx hb dX3_bendOf_0 rfl (lv_at hl 0 rfl) ?_
  refine lv_aload_n hx hb dX3_bendOf_1 rfl (lv_at hl 0 rfl) ?_
  refine lv_iload_n hx hb dX3_bendOf_2 rfl (lv_at hl 1 rfl) ?_
  refine m_calli (As := [.int p1]) (rest := [.ref h]) ⟨hx, hb, hml, hown, hts⟩ (metX3_isArm l K h a hap _ F R L G p1) (cwV 1 hts (lw_V q1943 q1945 qs45 q85 q1946) rfl rfl rfl (by decide +kernel) ⟨Nat.le_of_ble_eq_true rfl, Nat.le_of_ble_eq_true rfl⟩) hK hP hS hw rfl hl.1 rfl (Nat.le_of_ble_eq_true rfl) dX3_bendOf_3 ⟨Nat.le_refl _, Nat.le_refl _⟩ (fun r_1 F_2 R_3 L_4 G_5 H locs hw hP hS => ?_)
  refine m_calli (As := [.int r_1]) (rest := []) ⟨hx, hb, hml, hown, hts⟩ (metX3_asks l K h a hap _ F_2 R_3 L_4 G_5 r_1) (cwV 1 hts (lw_V q2005 q2007 qs49 q85 q2008) rfl rfl rfl (by decide +kernel) ⟨Nat.le_of_ble_eq_true rfl, Nat.le_of_ble_eq_true rfl⟩) hK hP hS hw rfl hl.1 rfl (Nat.le_of_ble_eq_true rfl) dX3_bendOf_6 ⟨Nat.le_refl _, Nat.le_refl _⟩ (fun r_6 F_7 R_8 L_9 G_10 H locs hw hP hS => ?_)
  refine lv_if_eq (tgt := 24) hx hb dX3_bendOf_9 (by decide) (fun c_11 => ?_) (fun c_11 => ?_)
  · have hw := hw.1 c_11
    refine lv_iconst (v := 0) hx hb dX3_bendOf_24 (by decide) ?_
    exact m_iret hx hb hr hlocks hP hS dX3_bendOf_25 hw
  · have hw := hw.2 c_11
    refine lv_aload_n hx hb dX3_bendOf_12 rfl (lv_at hl 0 rfl) ?_
    refine m_get hx hb hts hown hK hP 0 (by decide) q1728 rfl dX3_bendOf_13 ?_
    refine lv_bipush (v := 90) hx hb dX3_bendOf_16 (by decide) ?_
    refine lv_iload_n hx hb dX3_bendOf_18 rfl (lv_at hl 1 rfl) ?_
    refine lv_iadd hx hb dX3_bendOf_19 ?_
    obtain ⟨h_12, hw⟩ := hw
    refine m_iald (j := (Int32.toNatClampNeg (90 + p1))) hx hb hK hP 0 1 113 rfl rfl h_12 dX3_bendOf_20 ?_
    refine lv_goto (tgt := 25) hx hb dX3_bendOf_21 (by decide) ?_
    exact m_iret hx hb hr hlocks hP hS dX3_bendOf_25 hw
def wpX3_asksArm_36 (post : Int32 → mF → mR → mL → mG → Prop) (x3 : Int32) (z1 : Int32) (F : mF) (R : mR) (L : mL) (G : mG) : Prop := wpX3_asksDriven (fun r_1 F_2 R_3 L_4 G_5 => ((r_1 = 0 ∨ r_1 = 1) ∧ post r_1 F_2 R_3 L_4 G_5)) F R L G z1 x3
def wpX3_asksArm_17 (post : Int32 → mF → mR → mL → mG → Prop) (x1 : Int32) (z0 : Int32) (F : mF) (R : mR) (L : mL) (G : mG) : Prop := ((z0 = 0 → wpX3_asksArm_36 post z0 0 F R L G) ∧ (¬ z0 = 0 → (vp_in (84 + x1) 113 ∧ wpX3_asksArm_36 post z0 (R 0 (Int32.toNatClampNeg (84 + x1))) F R L G)))
def wpX3_asksArm_16 (post : Int32 → mF → mR → mL → mG → Prop) (x1 : Int32) (F : mF) (R : mR) (L : mL) (G : mG) : Prop := wpX3_asksArm_17 post x1 0 F R L G
def wpX3_asksArm (post : Int32 → mF → mR → mL → mG → Prop) (F : mF) (R : mR) (L : mL) (G : mG) (p1 : Int32) (p2 : Int32) : Prop := ((p2 = 0 → wpX3_asksArm_16 post p1 F R L G) ∧ (¬ p2 = 0 → wpX3_isArm (fun r_10 F_11 R_12 L_13 G_14 => ((r_10 = 0 → wpX3_asksArm_16 post p1 F_11 R_12 L_13 G_14) ∧ (¬ r_10 = 0 → wpX3_asksArm_17 post p1 1 F_11 R_12 L_13 G_14))) F R L G p1))
abbrev wsX3_asksArm : List Cond := ws_ yX3_asksArm cX3_asksArm 4 (some .boolean)
set_option maxHeartbeats 8000000 in
theorem metX3_asksArm (l : Launch) (K : KT) (h : Nat) (a : Nat → Nat) (hap : mAp h a) (post : Int32 → mF → mR → mL → mG → Prop) (F : mF) (R : mR) (L : mL) (G : mG) (p1 : Int32) (p2 : Int32) : Met l yX3_asksArm wsX3_asksArm (rmo 4 107) (mPre K h a F R L G [.int p1, .int p2] (wpX3_asksArm post F R L G p1 p2)) (mQi post K h a) 0 0 (mA h a) := by
  refine Met.ofW (cc := cX3_asksArm) (maxL := 4) (ret := (some .boolean)) (by decide) rfl ?_
  intro p e s m args below meth c s₁ B hml hv
  obtain ⟨rfl, hP, hK, hw⟩ := hv
  have hx := B.exec
  have hb := B.bytes
  have hr := B.returns
  have hts := atoms_spec (ws := wsX3_asksArm) B.pre
  have hts : ∀ w ∈ lw_all, w.before _ s = true := fun w h => hts w (List.mem_cons_of_mem _ h)
  have hown : s.vm.findClass RX3 = some m.cls := findClass_of_methodNamed B.named
  have hlocks := B.notSynchronized
  have hl := lv_entry ([.ref h, .int p1, .int p2]) (n := 4) (Nat.le_of_ble_eq_true rfl)
  rw [lg_entry_eq]
  generalize (lg_sl ([.ref h, .int p1, .int p2]) ++ List.replicate (4 - (lg_sl ([.ref h, .int p1, .int p2])).length) Slot.unset).toArray = ls at hl ⊢
  have hl : lv_has ls 4 [(0, .ref h), (1, .int p1), (2, .int p2)] := hl
  have hS : va_S (mA h a) s.heap s.heap [] := va_S.rf
  have T36 : ∀ (x3 : Int32) (z1 : Int32) (F : mF) (R : mR) (L : mL) (G : mG) (H : Heap) (locs : List Loc) (ls : Array Slot), mP K h a F R L G H → va_S (mA h a) s.heap H locs → lv_has ls 4 [(3, .int x3)] → wpX3_asksArm_36 post x3 z1 F R L G → W p l e (rmo 4 107) s m ([.ref h, .int p1, .int p2] : List Value).toArray below meth c H locs 0 0 (MQ below (mQi post K h a) ([.ref h, .int p1, .int p2] : List Value).toArray s 0 0 (mA h a)) (F0 m 36 ls [.int z1, .ref h]) := by
    intro x3 z1 F R L G H locs ls hP hS hl hw
    unfold wpX3_asksArm_36 at hw
    refine lv_iload_n hx hb dX3_asksArm_36 rfl (lv_at hl 0 rfl) ?_
    refine m_calli (As := [.int z1, .int x3]) (rest := []) ⟨hx, hb, hml, hown, hts⟩ (metX3_asksDriven l K h a hap _ F R L G z1 x3) (cwV 2 hts (lw_V q2025 q2027 qs50 q85 q2028) rfl rfl rfl (by decide +kernel) ⟨Nat.le_of_ble_eq_true rfl, Nat.le_of_ble_eq_true rfl⟩) hK hP hS hw rfl hl.1 rfl (Nat.le_of_ble_eq_true rfl) dX3_asksArm_37 ⟨Nat.le_refl _, Nat.le_refl _⟩ (fun r_1 F_2 R_3 L_4 G_5 H locs hw hP hS => ?_)
    obtain ⟨h_6, hw⟩ := hw
    exact m_zret hx hb hr hlocks hP hS dX3_asksArm_40 h_6 hw
  have T17 : ∀ (x1 : Int32) (z0 : Int32) (F : mF) (R : mR) (L : mL) (G : mG) (H : Heap) (locs : List Loc) (ls : Array Slot), mP K h a F R L G H → va_S (mA h a) s.heap H locs → lv_has ls 4 [(0, .ref h), (1, .int x1)] → wpX3_asksArm_17 post x1 z0 F R L G → W p l e (rmo 4 107) s m ([.ref h, .int p1, .int p2] : List Value).toArray below meth c H locs 0 0 (MQ below (mQi post K h a) ([.ref h, .int p1, .int p2] : List Value).toArray s 0 0 (mA h a)) (F0 m 17 ls [.int z0]) := by
    intro x1 z0 F R L G H locs ls hP hS hl hw
    unfold wpX3_asksArm_17 at hw
    refine lv_istore_n (lv' := [(3, .int z0), (0, .ref h), (1, .int x1)]) hx hb dX3_asksArm_17 rfl hl (by decide) rfl (fun ls hl => ?_)
    refine lv_aload_n hx hb dX3_asksArm_18 rfl (lv_at hl 1 rfl) ?_
    refine lv_iload_n hx hb dX3_asksArm_19 rfl (lv_at hl 0 rfl) ?_
    refine lv_if_eq (tgt := 35) hx hb dX3_asksArm_20 (by decide) (fun c_7 => ?_) (fun c_7 => ?_)
    · have hw := hw.1 c_7
      refine lv_iconst (v := 0) hx hb dX3_asksArm_35 (by decide) ?_
      exact T36 z0 0 F R L G _ _ ls hP hS (lv_sub hl [0] rfl) hw
    · have hw := hw.2 c_7
      refine lv_aload_n hx hb dX3_asksArm_23 rfl (lv_at hl 1 rfl) ?_
      refine m_get hx hb hts hown hK hP 0 (by decide) q1728 rfl dX3_asksArm_24 ?_
      refine lv_bipush (v := 84) hx hb dX3_asksArm_27 (by decide) ?_
      refine lv_iload_n hx hb dX3_asksArm_29 rfl (lv_at hl 2 rfl) ?_
      refine lv_iadd hx hb dX3_asksArm_30 ?_
      obtain ⟨h_8, hw⟩ := hw
      refine m_iald (j := (Int32.toNatClampNeg (84 + x1))) hx hb hK hP 0 1 113 rfl rfl h_8 dX3_asksArm_31 ?_
      refine lv_goto (tgt := 36) hx hb dX3_asksArm_32 (by decide) ?_
      exact T36 z0 (R 0 (Int32.toNatClampNeg (84 + x1))) F R L G _ _ ls hP hS (lv_sub hl [0] rfl) hw
  have T16 : ∀ (x1 : Int32) (F : mF) (R : mR) (L : mL) (G : mG) (H : Heap) (locs : List Loc) (ls : Array Slot), mP K h a F R L G H → va_S (mA h a) s.heap H locs → lv_has ls 4 [(0, .ref h), (1, .int x1)] → wpX3_asksArm_16 post x1 F R L G → W p l e (rmo 4 107) s m ([.ref h, .int p1, .int p2] : List Value).toArray below meth c H locs 0 0 (MQ below (mQi post K h a) ([.ref h, .int p1, .int p2] : List Value).toArray s 0 0 (mA h a)) (F0 m 16 ls []) := by
    intro x1 F R L G H locs ls hP hS hl hw
    unfold wpX3_asksArm_16 at hw
    refine lv_iconst (v := 0) hx hb dX3_asksArm_16 (by decide) ?_
    exact T17 x1 0 F R L G _ _ ls hP hS (lv_sub hl [0, 1] rfl) hw
  unfold wpX3_asksArm at hw
  refine lv_iload_n hx hb dX3_asksArm_0 rfl (lv_at hl 2 rfl) ?_
  refine lv_if_eq (tgt := 16) hx hb dX3_asksArm_1 (by decide) (fun c_9 => ?_) (fun c_9 => ?_)
  · have hw := hw.1 c_9
    exact T16 p1 F R L G _ _ ls hP hS (lv_sub hl [0, 1] rfl) hw
  · have hw := hw.2 c_9
    refine lv_aload_n hx hb dX3_asksArm_4 rfl (lv_at hl 0 rfl) ?_
    refine lv_iload_n hx hb dX3_asksArm_5 rfl (lv_at hl 1 rfl) ?_
    refine m_calli (As := [.int p1]) (rest := []) ⟨hx, hb, hml, hown, hts⟩ (metX3_isArm l K h a hap _ F R L G p1) (cwV 1 hts (lw_V q1943 q1945 qs45 q85 q1946) rfl rfl rfl (by decide +kernel) ⟨Nat.le_of_ble_eq_true rfl, Nat.le_of_ble_eq_true rfl⟩) hK hP hS hw rfl hl.1 rfl (Nat.le_of_ble_eq_true rfl) dX3_asksArm_6 ⟨Nat.le_refl _, Nat.le_refl _⟩ (fun r_10 F_11 R_12 L_13 G_14 H locs hw hP hS => ?_)
    refine lv_if_eq (tgt := 16) hx hb dX3_asksArm_9 (by decide) (fun c_15 => ?_) (fun c_15 => ?_)
    · have hw := hw.1 c_15
      exact T16 p1 F_11 R_12 L_13 G_14 _ _ ls hP hS (lv_sub hl [0, 1] rfl) hw
    · have hw := hw.2 c_15
      refine lv_iconst (v := 1) hx hb dX3_asksArm_12 (by decide) ?_
      refine lv_goto (tgt := 17) hx hb dX3_asksArm_13 (by decide) ?_
      exact T17 p1 1 F_11 R_12 L_13 G_14 _ _ ls hP hS (lv_sub hl [0, 1] rfl) hw
def wpX3_angle_35 (post : Int32 → mF → mR → mL → mG → Prop) (x1 : Int32) (z0 : Int64) (F : mF) (R : mR) (L : mL) (G : mG) : Prop := (vp_in x1 12 ∧ (¬ (L 11 (Int32.toNatClampNeg x1)) = 0 ∧ post (Int64.toInt32 ((z0 * 21600) / (L 11 (Int32.toNatClampNeg x1)))) F R L G))
def wpX3_angle (post : Int32 → mF → mR → mL → mG → Prop) (F : mF) (R : mR) (L : mL) (G : mG) (p1 : Int32) (p2 : Int32) : Prop := (vp_in p1 12 ∧ (vp_in p1 12 ∧ (¬ (L 11 (Int32.toNatClampNeg p1)) = 0 ∧ (∀ x3_6 : Int64, x3_6 = lRem ((L 10 (Int32.toNatClampNeg p1)) * (Int32.toInt64 p2)) (L 11 (Int32.toNatClampNeg p1)) → ((0 ≤ x3_6 → wpX3_angle_35 post p1 x3_6 F R L G) ∧ (¬ 0 ≤ x3_6 → (vp_in p1 12 ∧ wpX3_angle_35 post p1 (x3_6 + (L 11 (Int32.toNatClampNeg p1))) F R L G)))))))
abbrev wsX3_angle : List Cond := ws_ yX3_angle cX3_angle 5 (some .int)
set_option maxHeartbeats 8000000 in
theorem metX3_angle (l : Launch) (K : KT) (h : Nat) (a : Nat → Nat) (hap : mAp h a) (post : Int32 → mF → mR → mL → mG → Prop) (F : mF) (R : mR) (L : mL) (G : mG) (p1 : Int32) (p2 : Int32) : Met l yX3_angle wsX3_angle (rmo 0 0) (mPre K h a F R L G [.int p1, .int p2] (wpX3_angle post F R L G p1 p2)) (mQi post K h a) 0 0 (mA h a) := by
  refine Met.ofW (cc := cX3_angle) (maxL := 5) (ret := (some .int)) (by decide) rfl ?_
  intro p e s m args below meth c s₁ B hml hv
  obtain ⟨rfl, hP, hK, hw⟩ := hv
  have hx := B.exec
  have hb := B.bytes
  have hr := B.returns
  have hts := atoms_spec (ws := wsX3_angle) B.pre
  have hts : ∀ w ∈ lw_all, w.before _ s = true := fun w h => hts w (List.mem_cons_of_mem _ h)
  have hown : s.vm.findClass RX3 = some m.cls := findClass_of_methodNamed B.named
  have hlocks := B.notSynchronized
  have hl := lv_entry ([.ref h, .int p1, .int p2]) (n := 5) (Nat.le_of_ble_eq_true rfl)
  rw [lg_entry_eq]
  generalize (lg_sl ([.ref h, .int p1, .int p2]) ++ List.replicate (5 - (lg_sl ([.ref h, .int p1, .int p2])).length) Slot.unset).toArray = ls at hl ⊢
  have hl : lv_has ls 5 [(0, .ref h), (1, .int p1), (2, .int p2)] := hl
  have hS : va_S (mA h a) s.heap s.heap [] := va_S.rf
  have T35 : ∀ (x1 : Int32) (z0 : Int64) (F : mF) (R : mR) (L : mL) (G : mG) (H : Heap) (locs : List Loc) (ls : Array Slot), mP K h a F R L G H → va_S (mA h a) s.heap H locs → lv_has ls 5 [(0, .ref h), (1, .int x1)] → wpX3_angle_35 post x1 z0 F R L G → W p l e (rmo 0 0) s m ([.ref h, .int p1, .int p2] : List Value).toArray below meth c H locs 0 0 (MQ below (mQi post K h a) ([.ref h, .int p1, .int p2] : List Value).toArray s 0 0 (mA h a)) (F0 m 35 ls [.long z0]) := by
    intro x1 z0 F R L G H locs ls hP hS hl hw
    unfold wpX3_angle_35 at hw
    refine lv_lstore_n (lv' := [(3, .long z0), (0, .ref h), (1, .int x1)]) hx hb dX3_angle_35 rfl hl (by decide) rfl (fun ls hl => ?_)
    refine lv_lload_n hx hb dX3_angle_36 rfl (lv_at hl 0 rfl) ?_
    refine lv_ldc2 hx hb hown (hts _ q2109) dX3_angle_37 ?_
    refine lv_lmul hx hb dX3_angle_40 ?_
    refine lv_aload_n hx hb dX3_angle_41 rfl (lv_at hl 1 rfl) ?_
    refine m_get hx hb hts hown hK hP 11 (by decide) q1739 rfl dX3_angle_42 ?_
    refine lv_iload_n hx hb dX3_angle_45 rfl (lv_at hl 2 rfl) ?_
    obtain ⟨h_1, hw⟩ := hw
    refine m_lald (j := (Int32.toNatClampNeg x1)) hx hb hK hP 11 8 12 rfl rfl h_1 dX3_angle_46 ?_
    obtain ⟨h_2, hw⟩ := hw
    refine lv_ldiv hx hb dX3_angle_47 h_2 ?_
    refine lv_l2i hx hb dX3_angle_48 rfl ?_
    exact m_iret hx hb hr hlocks hP hS dX3_angle_49 hw
  unfold wpX3_angle at hw
  refine lv_aload_n hx hb dX3_angle_0 rfl (lv_at hl 0 rfl) ?_
  refine m_get hx hb hts hown hK hP 10 (by decide) q1738 rfl dX3_angle_1 ?_
  refine lv_iload_n hx hb dX3_angle_4 rfl (lv_at hl 1 rfl) ?_
  obtain ⟨h_3, hw⟩ := hw
  refine m_lald (j := (Int32.toNatClampNeg p1)) hx hb hK hP 10 7 12 rfl rfl h_3 dX3_angle_5 ?_
  refine lv_iload_n hx hb dX3_angle_6 rfl (lv_at hl 2 rfl) ?_
  refine lv_i2l hx hb dX3_angle_7 rfl ?_
  refine lv_lmul hx hb dX3_angle_8 ?_
  refine lv_aload_n hx hb dX3_angle_9 rfl (lv_at hl 0 rfl) ?_
  refine m_get hx hb hts hown hK hP 11 (by decide) q1739 rfl dX3_angle_10 ?_
  refine lv_iload_n hx hb dX3_angle_13 rfl (lv_at hl 1 rfl) ?_
  obtain ⟨h_4, hw⟩ := hw
  refine m_lald (j := (Int32.toNatClampNeg p1)) hx hb hK hP 11 8 12 rfl rfl h_4 dX3_angle_14 ?_
  obtain ⟨h_5, hw⟩ := hw
  refine lv_lrem hx hb dX3_angle_15 h_5 ?_
  refine lv_topl (fun x3_6 ex3_6 => ?_)
  have hw := hw x3_6 ex3_6
  refine lv_lstore_n (lv' := [(3, .long x3_6), (0, .ref h), (1, .int p1), (2, .int p2)]) hx hb dX3_angle_16 rfl hl (by decide) rfl (fun ls hl => ?_)
  refine lv_lload_n hx hb dX3_angle_17 rfl (lv_at hl 0 rfl) ?_
  refine lv_lconst (v := 0) hx hb dX3_angle_18 (by decide) ?_
  refine W.lcmp hx hb dX3_angle_19 ?_
  refine lv_if_ge (tgt := 34) hx hb dX3_angle_20 (by decide) (fun c_7 => ?_) (fun c_7 => ?_)
  · rw [lc_ge] at c_7
    have hw := hw.1 c_7
    refine lv_lload_n hx hb dX3_angle_34 rfl (lv_at hl 0 rfl) ?_
    exact T35 p1 x3_6 F R L G _ _ ls hP hS (lv_sub hl [1, 2] rfl) hw
  · rw [lc_ge] at c_7
    have hw := hw.2 c_7
    refine lv_lload_n hx hb dX3_angle_23 rfl (lv_at hl 0 rfl) ?_
    refine lv_aload_n hx hb dX3_angle_24 rfl (lv_at hl 1 rfl) ?_
    refine m_get hx hb hts hown hK hP 11 (by decide) q1739 rfl dX3_angle_25 ?_
    refine lv_iload_n hx hb dX3_angle_28 rfl (lv_at hl 2 rfl) ?_
    obtain ⟨h_8, hw⟩ := hw
    refine m_lald (j := (Int32.toNatClampNeg p1)) hx hb hK hP 11 8 12 rfl rfl h_8 dX3_angle_29 ?_
    refine lv_ladd hx hb dX3_angle_30 ?_
    refine lv_goto (tgt := 35) hx hb dX3_angle_31 (by decide) ?_
    exact T35 p1 (x3_6 + (L 11 (Int32.toNatClampNeg p1))) F R L G _ _ ls hP hS (lv_sub hl [1, 2] rfl) hw
def wpX3_brought (post : Int32 → Prop) (p0 : Int32) : Prop := post (iRem ((iRem p0 21600) + 21600) 21600)
abbrev wsX3_brought : List Cond := ws_ yX3_brought cX3_brought 1 (some .int)
set_option maxHeartbeats 8000000 in
theorem metX3_brought (l : Launch) (post : Int32 → Prop) (p0 : Int32) : Met l yX3_brought wsX3_brought (rmo 0 0) (sPre [.int p0] (wpX3_brought post p0)) (vp_Si post) 0 0 (fun _ => False) := by
  refine Met.ofW (cc := cX3_brought) (maxL := 1) (ret := (some .int)) (by decide) rfl ?_
  intro p e s m args below meth c s₁ B hml hv
  obtain ⟨rfl, hw⟩ := hv
  have hx := B.exec
  have hb := B.bytes
  have hr := B.returns
  have hts := atoms_spec (ws := wsX3_brought) B.pre
  have hts : ∀ w ∈ lw_all, w.before _ s = true := fun w h => hts w (List.mem_cons_of_mem _ h)
  have hown : s.vm.findClass RX3 = some m.cls := findClass_of_methodNamed B.named
  have hlocks := B.notSynchronized
  have hl := lv_entry ([.int p0]) (n := 1) (Nat.le_of_ble_eq_true rfl)
  rw [lg_entry_eq]
  generalize (lg_sl ([.int p0]) ++ List.replicate (1 - (lg_sl ([.int p0])).length) Slot.unset).toArray = ls at hl ⊢
  have hl : lv_has ls 1 [(0, .int p0)] := hl
  unfold wpX3_brought at hw
  refine lv_iload_n hx hb dX3_brought_0 rfl (lv_at hl 0 rfl) ?_
  refine lv_sipush (v := 21600) hx hb dX3_brought_1 (by decide) ?_
  refine lv_irem hx hb dX3_brought_4 (by decide) ?_
  refine lv_sipush (v := 21600) hx hb dX3_brought_5 (by decide) ?_
  refine lv_iadd hx hb dX3_brought_8 ?_
  refine lv_sipush (v := 21600) hx hb dX3_brought_9 (by decide) ?_
  refine lv_irem hx hb dX3_brought_12 (by decide) ?_
  exact s_iret hx hb hr hlocks dX3_brought_13 hw
def wpX3_armAngle (post : Int32 → mF → mR → mL → mG → Prop) (F : mF) (R : mR) (L : mL) (G : mG) (p1 : Int32) (p2 : Int32) : Prop := (vp_in (84 + p1) 113 ∧ wpX3_angle (fun r_2 F_3 R_4 L_5 G_6 => (vp_in (90 + p1) 113 ∧ wpX3_brought (fun r_8 => post r_8 F_3 R_4 L_5 G_6) (r_2 + (60 * (R_4 0 (Int32.toNatClampNeg (90 + p1))))))) F R L G (R 0 (Int32.toNatClampNeg (84 + p1))) p2)
abbrev wsX3_armAngle : List Cond := ws_ yX3_armAngle cX3_armAngle 3 (some .int)
set_option maxHeartbeats 8000000 in
theorem metX3_armAngle (l : Launch) (K : KT) (h : Nat) (a : Nat → Nat) (hap : mAp h a) (post : Int32 → mF → mR → mL → mG → Prop) (F : mF) (R : mR) (L : mL) (G : mG) (p1 : Int32) (p2 : Int32) : Met l yX3_armAngle wsX3_armAngle (rmo 1 24) (mPre K h a F R L G [.int p1, .int p2] (wpX3_armAngle post F R L G p1 p2)) (mQi post K h a) 0 0 (mA h a) := by
  refine Met.ofW (cc := cX3_armAngle) (maxL := 3) (ret := (some .int)) (by decide) rfl ?_
  intro p e s m args below meth c s₁ B hml hv
  obtain ⟨rfl, hP, hK, hw⟩ := hv
  have hx := B.exec
  have hb := B.bytes
  have hr := B.returns
  have hts := atoms_spec (ws := wsX3_armAngle) B.pre
  have hts : ∀ w ∈ lw_all, w.before _ s = true := fun w h => hts w (List.mem_cons_of_mem _ h)
  have hown : s.vm.findClass RX3 = some m.cls := findClass_of_methodNamed B.named
  have hlocks := B.notSynchronized
  have hl := lv_entry ([.ref h, .int p1, .int p2]) (n := 3) (Nat.le_of_ble_eq_true rfl)
  rw [lg_entry_eq]
  generalize (lg_sl ([.ref h, .int p1, .int p2]) ++ List.replicate (3 - (lg_sl ([.ref h, .int p1, .int p2])).length) Slot.unset).toArray = ls at hl ⊢
  have hl : lv_has ls 3 [(0, .ref h), (1, .int p1), (2, .int p2)] := hl
  have hS : va_S (mA h a) s.heap s.heap [] := va_S.rf
  unfold wpX3_armAngle at hw
  refine lv_aload_n hx hb dX3_armAngle_0 rfl (lv_at hl 0 rfl) ?_
  refine lv_aload_n hx hb dX3_armAngle_1 rfl (lv_at hl 0 rfl) ?_
  refine m_get hx hb hts hown hK hP 0 (by decide) q1728 rfl dX3_armAngle_2 ?_
  refine lv_bipush (v := 84) hx hb dX3_armAngle_5 (by decide) ?_
  refine lv_iload_n hx hb dX3_armAngle_7 rfl (lv_at hl 1 rfl) ?_
  refine lv_iadd hx hb dX3_armAngle_8 ?_
  obtain ⟨h_1, hw⟩ := hw
  refine m_iald (j := (Int32.toNatClampNeg (84 + p1))) hx hb hK hP 0 1 113 rfl rfl h_1 dX3_armAngle_9 ?_
  refine lv_iload_n hx hb dX3_armAngle_10 rfl (lv_at hl 2 rfl) ?_
  refine m_calli (As := [.int (R 0 (Int32.toNatClampNeg (84 + p1))), .int p2]) (rest := []) ⟨hx, hb, hml, hown, hts⟩ (metX3_angle l K h a hap _ F R L G (R 0 (Int32.toNatClampNeg (84 + p1))) p2) (cwV 2 hts (lw_V q2105 q2107 qs57 q85 q2108) rfl rfl rfl (by decide +kernel) ⟨Nat.le_of_ble_eq_true rfl, Nat.le_of_ble_eq_true rfl⟩) hK hP hS hw rfl hl.1 rfl (Nat.le_of_ble_eq_true rfl) dX3_armAngle_11 ⟨Nat.le_refl _, Nat.le_refl _⟩ (fun r_2 F_3 R_4 L_5 G_6 H locs hw hP hS => ?_)
  refine lv_bipush (v := 60) hx hb dX3_armAngle_14 (by decide) ?_
  refine lv_aload_n hx hb dX3_armAngle_16 rfl (lv_at hl 0 rfl) ?_
  refine m_get hx hb hts hown hK hP 0 (by decide) q1728 rfl dX3_armAngle_17 ?_
  refine lv_bipush (v := 90) hx hb dX3_armAngle_20 (by decide) ?_
  refine lv_iload_n hx hb dX3_armAngle_22 rfl (lv_at hl 1 rfl) ?_
  refine lv_iadd hx hb dX3_armAngle_23 ?_
  obtain ⟨h_7, hw⟩ := hw
  refine m_iald (j := (Int32.toNatClampNeg (90 + p1))) hx hb hK hP 0 1 113 rfl rfl h_7 dX3_armAngle_24 ?_
  refine lv_imul hx hb dX3_armAngle_25 ?_
  refine lv_iadd hx hb dX3_armAngle_26 ?_
  refine s_calli (As := [.int (r_2 + (60 * (R_4 0 (Int32.toNatClampNeg (90 + p1)))))]) (rest := []) ⟨hx, hb, hml, hown, hts⟩ (metX3_brought l _ (r_2 + (60 * (R_4 0 (Int32.toNatClampNeg (90 + p1)))))) (va_cwS 1 hts (lw_S q2110 q2111 q85 q2112) rfl rfl rfl (by decide +kernel) ⟨Nat.le_of_ble_eq_true rfl, Nat.le_of_ble_eq_true rfl⟩) hw rfl hl.1 rfl (Nat.le_of_ble_eq_true rfl) dX3_armAngle_27 ⟨Nat.le_refl _, Nat.le_refl _⟩ (fun r_8 hw => ?_)
  exact m_iret hx hb hr hlocks hP hS dX3_armAngle_30 hw
def wpX3_toldAngle (post : Int32 → mF → mR → mL → mG → Prop) (F : mF) (R : mR) (L : mL) (G : mG) (p1 : Int32) : Prop := wpX3_asksArm (fun r_1 F_2 R_3 L_4 G_5 => ((r_1 = 0 → post 0 F_2 R_3 L_4 G_5) ∧ (¬ r_1 = 0 → wpX3_armAngle (fun r_7 F_8 R_9 L_10 G_11 => post r_7 F_8 R_9 L_10 G_11) F_2 R_3 L_4 G_5 p1 (R_3 0 111)))) F R L G p1 1
abbrev wsX3_toldAngle : List Cond := ws_ yX3_toldAngle cX3_toldAngle 2 (some .int)
set_option maxHeartbeats 8000000 in
theorem metX3_toldAngle (l : Launch) (K : KT) (h : Nat) (a : Nat → Nat) (hap : mAp h a) (post : Int32 → mF → mR → mL → mG → Prop) (F : mF) (R : mR) (L : mL) (G : mG) (p1 : Int32) : Met l yX3_toldAngle wsX3_toldAngle (rmo 5 130) (mPre K h a F R L G [.int p1] (wpX3_toldAngle post F R L G p1)) (mQi post K h a) 0 0 (mA h a) := by
  refine Met.ofW (cc := cX3_toldAngle) (maxL := 2) (ret := (some .int)) (by decide) rfl ?_
  intro p e s m args below meth c s₁ B hml hv
  obtain ⟨rfl, hP, hK, hw⟩ := hv
  have hx := B.exec
  have hb := B.bytes
  have hr := B.returns
  have hts := atoms_spec (ws := wsX3_toldAngle) B.pre
  have hts : ∀ w ∈ lw_all, w.before _ s = true := fun w h => hts w (List.mem_cons_of_mem _ h)
  have hown : s.vm.findClass RX3 = some m.cls := findClass_of_methodNamed B.named
  have hlocks := B.notSynchronized
  have hl := lv_entry ([.ref h, .int p1]) (n := 2) (Nat.le_of_ble_eq_true rfl)
  rw [lg_entry_eq]
  generalize (lg_sl ([.ref h, .int p1]) ++ List.replicate (2 - (lg_sl ([.ref h, .int p1])).length) Slot.unset).toArray = ls at hl ⊢
  have hl : lv_has ls 2 [(0, .ref h), (1, .int p1)] := hl
  have hS : va_S (mA h a) s.heap s.heap [] := va_S.rf
  unfold wpX3_toldAngle at hw
  refine lv_aload_n hx hb dX3_toldAngle_0 rfl (lv_at hl 0 rfl) ?_
  refine lv_iload_n hx hb dX3_toldAngle_1 rfl (lv_at hl 1 rfl) ?_
  refine lv_iconst (v := 1) hx hb dX3_toldAngle_2 (by decide) ?_
  refine m_calli (As := [.int p1, .int 1]) (rest := []) ⟨hx, hb, hml, hown, hts⟩ (metX3_asksArm l K h a hap _ F R L G p1 1) (cwV 2 hts (lw_V q2097 q2099 qs55 q85 q2100) rfl rfl rfl (by decide +kernel) ⟨Nat.le_of_ble_eq_true rfl, Nat.le_of_ble_eq_true rfl⟩) hK hP hS hw rfl hl.1 rfl (Nat.le_of_ble_eq_true rfl) dX3_toldAngle_3 ⟨Nat.le_refl _, Nat.le_refl _⟩ (fun r_1 F_2 R_3 L_4 G_5 H locs hw hP hS => ?_)
  refine lv_if_eq (tgt := 24) hx hb dX3_toldAngle_6 (by decide) (fun c_6 => ?_) (fun c_6 => ?_)
  · have hw := hw.1 c_6
    refine lv_iconst (v := 0) hx hb dX3_toldAngle_24 (by decide) ?_
    exact m_iret hx hb hr hlocks hP hS dX3_toldAngle_25 hw
  · have hw := hw.2 c_6
    refine lv_aload_n hx hb dX3_toldAngle_9 rfl (lv_at hl 0 rfl) ?_
    refine lv_iload_n hx hb dX3_toldAngle_10 rfl (lv_at hl 1 rfl) ?_
    refine lv_aload_n hx hb dX3_toldAngle_11 rfl (lv_at hl 0 rfl) ?_
    refine m_get hx hb hts hown hK hP 0 (by decide) q1728 rfl dX3_toldAngle_12 ?_
    refine lv_bipush (v := 111) hx hb dX3_toldAngle_15 (by decide) ?_
    refine m_iald (j := 111) hx hb hK hP 0 1 113 rfl (by decide) (vpd (by decide)) dX3_toldAngle_17 ?_
    refine m_calli (As := [.int p1, .int (R_3 0 111)]) (rest := []) ⟨hx, hb, hml, hown, hts⟩ (metX3_armAngle l K h a hap _ F_2 R_3 L_4 G_5 p1 (R_3 0 111)) (cwV 2 hts (lw_V q2101 q2103 qs56 q85 q2104) rfl rfl rfl (by decide +kernel) ⟨Nat.le_of_ble_eq_true rfl, Nat.le_of_ble_eq_true rfl⟩) hK hP hS hw rfl hl.1 rfl (Nat.le_of_ble_eq_true rfl) dX3_toldAngle_18 ⟨Nat.le_refl _, Nat.le_refl _⟩ (fun r_7 F_8 R_9 L_10 G_11 H locs hw hP hS => ?_)
    refine lv_goto (tgt := 25) hx hb dX3_toldAngle_21 (by decide) ?_
    exact m_iret hx hb hr hlocks hP hS dX3_toldAngle_25 hw
def wpX3_angleOf (post : Int32 → mF → mR → mL → mG → Prop) (F : mF) (R : mR) (L : mL) (G : mG) (p1 : Int32) : Prop := wpX3_toldAngle (fun r_1 F_2 R_3 L_4 G_5 => post r_1 F_2 R_3 L_4 G_5) F R L G p1
abbrev wsX3_angleOf : List Cond := ws_ yX3_angleOf cX3_angleOf 2 (some .int)
set_option maxHeartbeats 8000000 in
theorem metX3_angleOf (l : Launch) (K : KT) (h : Nat) (a : Nat → Nat) (hap : mAp h a) (post : Int32 → mF → mR → mL → mG → Prop) (F : mF) (R : mR) (L : mL) (G : mG) (p1 : Int32) : Met l yX3_angleOf wsX3_angleOf (rmo 6 151) (mPre K h a F R L G [.int p1] (wpX3_angleOf post F R L G p1)) (mQi post K h a) 0 0 (mA h a) := by
  refine Met.ofW (cc := cX3_angleOf) (maxL := 2) (ret := (some .int)) (by decide) rfl ?_
  intro p e s m args below meth c s₁ B hml hv
  obtain ⟨rfl, hP, hK, hw⟩ := hv
  have hx := B.exec
  have hb := B.bytes
  have hr := B.returns
  have hts := atoms_spec (ws := wsX3_angleOf) B.pre
  have hts : ∀ w ∈ lw_all, w.before _ s = true := fun w h => hts w (List.mem_cons_of_mem _ h)
  have hown : s.vm.findClass RX3 = some m.cls := findClass_of_methodNamed B.named
  have hlocks := B.notSynchronized
  have hl := lv_entry ([.ref h, .int p1]) (n := 2) (Nat.le_of_ble_eq_true rfl)
  rw [lg_entry_eq]
  generalize (lg_sl ([.ref h, .int p1]) ++ List.replicate (2 - (lg_sl ([.ref h, .int p1])).length) Slot.unset).toArray = ls at hl ⊢
  have hl : lv_has ls 2 [(0, .ref h), (1, .int p1)] := hl
  have hS : va_S (mA h a) s.heap s.heap [] := va_S.rf
  unfold wpX3_angleOf at hw
  refine lv_aload_n hx hb dX3_angleOf_0 rfl (lv_at hl 0 rfl) ?_
  refine lv_iload_n hx hb dX3_angleOf_1 rfl (lv_at hl 1 rfl) ?_
  refine m_calli (As := [.int p1]) (rest := []) ⟨hx, hb, hml, hown, hts⟩ (metX3_toldAngle l K h a hap _ F R L G p1) (cwV 1 hts (lw_V q2093 q2095 qs54 q85 q2096) rfl rfl rfl (by decide +kernel) ⟨Nat.le_of_ble_eq_true rfl, Nat.le_of_ble_eq_true rfl⟩) hK hP hS hw rfl hl.1 rfl (Nat.le_of_ble_eq_true rfl) dX3_angleOf_2 ⟨Nat.le_refl _, Nat.le_refl _⟩ (fun r_1 F_2 R_3 L_4 G_5 H locs hw hP hS => ?_)
  exact m_iret hx hb hr hlocks hP hS dX3_angleOf_5 hw
def wpX3_angleByTeeth (post : Int32 → mF → mR → mL → mG → Prop) (F : mF) (R : mR) (L : mL) (G : mG) (p1 : Int32) : Prop := wpX3_toldAngle (fun r_1 F_2 R_3 L_4 G_5 => post r_1 F_2 R_3 L_4 G_5) F R L G p1
abbrev wsX3_angleByTeeth : List Cond := ws_ yX3_angleByTeeth cX3_angleByTeeth 2 (some .int)
set_option maxHeartbeats 8000000 in
theorem metX3_angleByTeeth (l : Launch) (K : KT) (h : Nat) (a : Nat → Nat) (hap : mAp h a) (post : Int32 → mF → mR → mL → mG → Prop) (F : mF) (R : mR) (L : mL) (G : mG) (p1 : Int32) : Met l yX3_angleByTeeth wsX3_angleByTeeth (rmo 6 151) (mPre K h a F R L G [.int p1] (wpX3_angleByTeeth post F R L G p1)) (mQi post K h a) 0 0 (mA h a) := by
  refine Met.ofW (cc := cX3_angleByTeeth) (maxL := 2) (ret := (some .int)) (by decide) rfl ?_
  intro p e s m args below meth c s₁ B hml hv
  obtain ⟨rfl, hP, hK, hw⟩ := hv
  have hx := B.exec
  have hb := B.bytes
  have hr := B.returns
  have hts := atoms_spec (ws := wsX3_angleByTeeth) B.pre
  have hts : ∀ w ∈ lw_all, w.before _ s = true := fun w h => hts w (List.mem_cons_of_mem _ h)
  have hown : s.vm.findClass RX3 = some m.cls := findClass_of_methodNamed B.named
  have hlocks := B.notSynchronized
  have hl := lv_entry ([.ref h, .int p1]) (n := 2) (Nat.le_of_ble_eq_true rfl)
  rw [lg_entry_eq]
  generalize (lg_sl ([.ref h, .int p1]) ++ List.replicate (2 - (lg_sl ([.ref h, .int p1])).length) Slot.unset).toArray = ls at hl ⊢
  have hl : lv_has ls 2 [(0, .ref h), (1, .int p1)] := hl
  have hS : va_S (mA h a) s.heap s.heap [] := va_S.rf
  unfold wpX3_angleByTeeth at hw
  refine lv_aload_n hx hb dX3_angleByTeeth_0 rfl (lv_at hl 0 rfl) ?_
  refine lv_iload_n hx hb dX3_angleByTeeth_1 rfl (lv_at hl 1 rfl) ?_
  refine m_calli (As := [.int p1]) (rest := []) ⟨hx, hb, hml, hown, hts⟩ (metX3_toldAngle l K h a hap _ F R L G p1) (cwV 1 hts (lw_V q2093 q2095 qs54 q85 q2096) rfl rfl rfl (by decide +kernel) ⟨Nat.le_of_ble_eq_true rfl, Nat.le_of_ble_eq_true rfl⟩) hK hP hS hw rfl hl.1 rfl (Nat.le_of_ble_eq_true rfl) dX3_angleByTeeth_2 ⟨Nat.le_refl _, Nat.le_refl _⟩ (fun r_1 F_2 R_3 L_4 G_5 H locs hw hP hS => ?_)
  exact m_iret hx hb hr hlocks hP hS dX3_angleByTeeth_5 hw
def wpX3_isMoon (post : Int32 → mF → mR → mL → mG → Prop) (F : mF) (R : mR) (L : mL) (G : mG) (p1 : Int32) : Prop := wpX3_in (fun r_1 => ((r_1 = 0 ∨ r_1 = 1) ∧ post r_1 F R L G)) p1 0 ((R 0 102) - 1)
abbrev wsX3_isMoon : List Cond := ws_ yX3_isMoon cX3_isMoon 2 (some .boolean)
set_option maxHeartbeats 8000000 in
theorem metX3_isMoon (l : Launch) (K : KT) (h : Nat) (a : Nat → Nat) (hap : mAp h a) (post : Int32 → mF → mR → mL → mG → Prop) (F : mF) (R : mR) (L : mL) (G : mG) (p1 : Int32) : Met l yX3_isMoon wsX3_isMoon (rmo 1 22) (mPre K h a F R L G [.int p1] (wpX3_isMoon post F R L G p1)) (mQi post K h a) 0 0 (mA h a) := by
  refine Met.ofW (cc := cX3_isMoon) (maxL := 2) (ret := (some .boolean)) (by decide) rfl ?_
  intro p e s m args below meth c s₁ B hml hv
  obtain ⟨rfl, hP, hK, hw⟩ := hv
  have hx := B.exec
  have hb := B.bytes
  have hr := B.returns
  have hts := atoms_spec (ws := wsX3_isMoon) B.pre
  have hts : ∀ w ∈ lw_all, w.before _ s = true := fun w h => hts w (List.mem_cons_of_mem _ h)
  have hown : s.vm.findClass RX3 = some m.cls := findClass_of_methodNamed B.named
  have hlocks := B.notSynchronized
  have hl := lv_entry ([.ref h, .int p1]) (n := 2) (Nat.le_of_ble_eq_true rfl)
  rw [lg_entry_eq]
  generalize (lg_sl ([.ref h, .int p1]) ++ List.replicate (2 - (lg_sl ([.ref h, .int p1])).length) Slot.unset).toArray = ls at hl ⊢
  have hl : lv_has ls 2 [(0, .ref h), (1, .int p1)] := hl
  have hS : va_S (mA h a) s.heap s.heap [] := va_S.rf
  unfold wpX3_isMoon at hw
  refine lv_iload_n hx hb dX3_isMoon_0 rfl (lv_at hl 1 rfl) ?_
  refine lv_iconst (v := 0) hx hb dX3_isMoon_1 (by decide) ?_
  refine lv_aload_n hx hb dX3_isMoon_2 rfl (lv_at hl 0 rfl) ?_
  refine m_get hx hb hts hown hK hP 0 (by decide) q1728 rfl dX3_isMoon_3 ?_
  refine lv_bipush (v := 102) hx hb dX3_isMoon_6 (by decide) ?_
  refine m_iald (j := 102) hx hb hK hP 0 1 113 rfl (by decide) (vpd (by decide)) dX3_isMoon_8 ?_
  refine lv_iconst (v := 1) hx hb dX3_isMoon_9 (by decide) ?_
  refine lv_isub hx hb dX3_isMoon_10 ?_
  refine s_calli (As := [.int p1, .int 0, .int ((R 0 102) - 1)]) (rest := []) ⟨hx, hb, hml, hown, hts⟩ (metX3_in l _ p1 0 ((R 0 102) - 1)) (va_cwS 3 hts (lw_S q1858 q1859 q85 q1860) rfl rfl rfl (by decide +kernel) ⟨Nat.le_of_ble_eq_true rfl, Nat.le_of_ble_eq_true rfl⟩) hw rfl hl.1 rfl (Nat.le_of_ble_eq_true rfl) dX3_isMoon_11 ⟨Nat.le_refl _, Nat.le_refl _⟩ (fun r_1 hw => ?_)
  obtain ⟨h_2, hw⟩ := hw
  exact m_zret hx hb hr hlocks hP hS dX3_isMoon_14 h_2 hw
def wpX3_asksMoon_24 (post : Int32 → mF → mR → mL → mG → Prop) (x1 : Int32) (x2 : Int32) (z1 : Int32) (F : mF) (R : mR) (L : mL) (G : mG) : Prop := wpX3_asksDriven (fun r_1 F_2 R_3 L_4 G_5 => ((r_1 = 0 → post 0 F_2 R_3 L_4 G_5) ∧ (¬ r_1 = 0 → (vp_in (103 + x1) 113 ∧ (vp_in (84 + (R_3 0 (Int32.toNatClampNeg (103 + x1)))) 113 ∧ wpX3_asksDriven (fun r_9 F_10 R_11 L_12 G_13 => ((r_9 = 0 → post 0 F_10 R_11 L_12 G_13) ∧ (¬ r_9 = 0 → post 1 F_10 R_11 L_12 G_13))) F_2 R_3 L_4 G_5 (R_3 0 (Int32.toNatClampNeg (84 + (R_3 0 (Int32.toNatClampNeg (103 + x1)))))) 1))))) F R L G z1 x2
def wpX3_asksMoon (post : Int32 → mF → mR → mL → mG → Prop) (F : mF) (R : mR) (L : mL) (G : mG) (p1 : Int32) : Prop := wpX3_isMoon (fun r_15 F_16 R_17 L_18 G_19 => ((r_15 = 0 → wpX3_asksMoon_24 post p1 r_15 0 F_16 R_17 L_18 G_19) ∧ (¬ r_15 = 0 → (vp_in (107 + p1) 113 ∧ wpX3_asksMoon_24 post p1 r_15 (R_17 0 (Int32.toNatClampNeg (107 + p1))) F_16 R_17 L_18 G_19)))) F R L G p1
abbrev wsX3_asksMoon : List Cond := ws_ yX3_asksMoon cX3_asksMoon 3 (some .boolean)
set_option maxHeartbeats 8000000 in
theorem metX3_asksMoon (l : Launch) (K : KT) (h : Nat) (a : Nat → Nat) (hap : mAp h a) (post : Int32 → mF → mR → mL → mG → Prop) (F : mF) (R : mR) (L : mL) (G : mG) (p1 : Int32) : Met l yX3_asksMoon wsX3_asksMoon (rmo 4 107) (mPre K h a F R L G [.int p1] (wpX3_asksMoon post F R L G p1)) (mQi post K h a) 0 0 (mA h a) := by
  refine Met.ofW (cc := cX3_asksMoon) (maxL := 3) (ret := (some .boolean)) (by decide) rfl ?_
  intro p e s m args below meth c s₁ B hml hv
  obtain ⟨rfl, hP, hK, hw⟩ := hv
  have hx := B.exec
  have hb := B.bytes
  have hr := B.returns
  have hts := atoms_spec (ws := wsX3_asksMoon) B.pre
  have hts : ∀ w ∈ lw_all, w.before _ s = true := fun w h => hts w (List.mem_cons_of_mem _ h)
  have hown : s.vm.findClass RX3 = some m.cls := findClass_of_methodNamed B.named
  have hlocks := B.notSynchronized
  have hl := lv_entry ([.ref h, .int p1]) (n := 3) (Nat.le_of_ble_eq_true rfl)
  rw [lg_entry_eq]
  generalize (lg_sl ([.ref h, .int p1]) ++ List.replicate (3 - (lg_sl ([.ref h, .int p1])).length) Slot.unset).toArray = ls at hl ⊢
  have hl : lv_has ls 3 [(0, .ref h), (1, .int p1)] := hl
  have hS : va_S (mA h a) s.heap s.heap [] := va_S.rf
  have T24 : ∀ (x1 : Int32) (x2 : Int32) (z1 : Int32) (F : mF) (R : mR) (L : mL) (G : mG) (H : Heap) (locs : List Loc) (ls : Array Slot), mP K h a F R L G H → va_S (mA h a) s.heap H locs → lv_has ls 3 [(0, .ref h), (1, .int x1), (2, .int x2)] → wpX3_asksMoon_24 post x1 x2 z1 F R L G → W p l e (rmo 4 107) s m ([.ref h, .int p1] : List Value).toArray below meth c H locs 0 0 (MQ below (mQi post K h a) ([.ref h, .int p1] : List Value).toArray s 0 0 (mA h a)) (F0 m 24 ls [.int z1, .ref h]) := by
    intro x1 x2 z1 F R L G H locs ls hP hS hl hw
    unfold wpX3_asksMoon_24 at hw
    refine lv_iload_n hx hb dX3_asksMoon_24 rfl (lv_at hl 2 rfl) ?_
    refine m_calli (As := [.int z1, .int x2]) (rest := []) ⟨hx, hb, hml, hown, hts⟩ (metX3_asksDriven l K h a hap _ F R L G z1 x2) (cwV 2 hts (lw_V q2025 q2027 qs50 q85 q2028) rfl rfl rfl (by decide +kernel) ⟨Nat.le_of_ble_eq_true rfl, Nat.le_of_ble_eq_true rfl⟩) hK hP hS hw rfl hl.1 rfl (Nat.le_of_ble_eq_true rfl) dX3_asksMoon_25 ⟨Nat.le_refl _, Nat.le_refl _⟩ (fun r_1 F_2 R_3 L_4 G_5 H locs hw hP hS => ?_)
    refine lv_if_eq (tgt := 60) hx hb dX3_asksMoon_28 (by decide) (fun c_6 => ?_) (fun c_6 => ?_)
    · have hw := hw.1 c_6
      refine lv_iconst (v := 0) hx hb dX3_asksMoon_60 (by decide) ?_
      exact m_zret hx hb hr hlocks hP hS dX3_asksMoon_61 (Or.inl rfl) hw
    · have hw := hw.2 c_6
      refine lv_aload_n hx hb dX3_asksMoon_31 rfl (lv_at hl 0 rfl) ?_
      refine lv_aload_n hx hb dX3_asksMoon_32 rfl (lv_at hl 0 rfl) ?_
      refine m_get hx hb hts hown hK hP 0 (by decide) q1728 rfl dX3_asksMoon_33 ?_
      refine lv_bipush (v := 84) hx hb dX3_asksMoon_36 (by decide) ?_
      refine lv_aload_n hx hb dX3_asksMoon_38 rfl (lv_at hl 0 rfl) ?_
      refine m_get hx hb hts hown hK hP 0 (by decide) q1728 rfl dX3_asksMoon_39 ?_
      refine lv_bipush (v := 103) hx hb dX3_asksMoon_42 (by decide) ?_
      refine lv_iload_n hx hb dX3_asksMoon_44 rfl (lv_at hl 1 rfl) ?_
      refine lv_iadd hx hb dX3_asksMoon_45 ?_
      obtain ⟨h_7, hw⟩ := hw
      refine m_iald (j := (Int32.toNatClampNeg (103 + x1))) hx hb hK hP 0 1 113 rfl rfl h_7 dX3_asksMoon_46 ?_
      refine lv_iadd hx hb dX3_asksMoon_47 ?_
      obtain ⟨h_8, hw⟩ := hw
      refine m_iald (j := (Int32.toNatClampNeg (84 + (R_3 0 (Int32.toNatClampNeg (103 + x1)))))) hx hb hK hP 0 1 113 rfl rfl h_8 dX3_asksMoon_48 ?_
      refine lv_iconst (v := 1) hx hb dX3_asksMoon_49 (by decide) ?_
      refine m_calli (As := [.int (R_3 0 (Int32.toNatClampNeg (84 + (R_3 0 (Int32.toNatClampNeg (103 + x1)))))), .int 1]) (rest := []) ⟨hx, hb, hml, hown, hts⟩ (metX3_asksDriven l K h a hap _ F_2 R_3 L_4 G_5 (R_3 0 (Int32.toNatClampNeg (84 + (R_3 0 (Int32.toNatClampNeg (103 + x1)))))) 1) (cwV 2 hts (lw_V q2025 q2027 qs50 q85 q2028) rfl rfl rfl (by decide +kernel) ⟨Nat.le_of_ble_eq_true rfl, Nat.le_of_ble_eq_true rfl⟩) hK hP hS hw rfl hl.1 rfl (Nat.le_of_ble_eq_true rfl) dX3_asksMoon_50 ⟨Nat.le_refl _, Nat.le_refl _⟩ (fun r_9 F_10 R_11 L_12 G_13 H locs hw hP hS => ?_)
      refine lv_if_eq (tgt := 60) hx hb dX3_asksMoon_53 (by decide) (fun c_14 => ?_) (fun c_14 => ?_)
      · have hw := hw.1 c_14
        refine lv_iconst (v := 0) hx hb dX3_asksMoon_60 (by decide) ?_
        exact m_zret hx hb hr hlocks hP hS dX3_asksMoon_61 (Or.inl rfl) hw
      · have hw := hw.2 c_14
        refine lv_iconst (v := 1) hx hb dX3_asksMoon_56 (by decide) ?_
        refine lv_goto (tgt := 61) hx hb dX3_asksMoon_57 (by decide) ?_
        exact m_zret hx hb hr hlocks hP hS dX3_asksMoon_61 (Or.inr rfl) hw
  unfold wpX3_asksMoon at hw
  refine lv_aload_n hx hb dX3_asksMoon_0 rfl (lv_at hl 0 rfl) ?_
  refine lv_iload_n hx hb dX3_asksMoon_1 rfl (lv_at hl 1 rfl) ?_
  refine m_calli (As := [.int p1]) (rest := []) ⟨hx, hb, hml, hown, hts⟩ (metX3_isMoon l K h a hap _ F R L G p1) (cwV 1 hts (lw_V q2125 q2127 qs59 q85 q2128) rfl rfl rfl (by decide +kernel) ⟨Nat.le_of_ble_eq_true rfl, Nat.le_of_ble_eq_true rfl⟩) hK hP hS hw rfl hl.1 rfl (Nat.le_of_ble_eq_true rfl) dX3_asksMoon_2 ⟨Nat.le_refl _, Nat.le_refl _⟩ (fun r_15 F_16 R_17 L_18 G_19 H locs hw hP hS => ?_)
  refine lv_istore_n (lv' := [(2, .int r_15), (0, .ref h), (1, .int p1)]) hx hb dX3_asksMoon_5 rfl hl (by decide) rfl (fun ls hl => ?_)
  refine lv_aload_n hx hb dX3_asksMoon_6 rfl (lv_at hl 1 rfl) ?_
  refine lv_iload_n hx hb dX3_asksMoon_7 rfl (lv_at hl 0 rfl) ?_
  refine lv_if_eq (tgt := 23) hx hb dX3_asksMoon_8 (by decide) (fun c_20 => ?_) (fun c_20 => ?_)
  · have hw := hw.1 c_20
    refine lv_iconst (v := 0) hx hb dX3_asksMoon_23 (by decide) ?_
    exact T24 p1 r_15 0 F_16 R_17 L_18 G_19 _ _ ls hP hS (lv_sub hl [1, 2, 0] rfl) hw
  · have hw := hw.2 c_20
    refine lv_aload_n hx hb dX3_asksMoon_11 rfl (lv_at hl 1 rfl) ?_
    refine m_get hx hb hts hown hK hP 0 (by decide) q1728 rfl dX3_asksMoon_12 ?_
    refine lv_bipush (v := 107) hx hb dX3_asksMoon_15 (by decide) ?_
    refine lv_iload_n hx hb dX3_asksMoon_17 rfl (lv_at hl 2 rfl) ?_
    refine lv_iadd hx hb dX3_asksMoon_18 ?_
    obtain ⟨h_21, hw⟩ := hw
    refine m_iald (j := (Int32.toNatClampNeg (107 + p1))) hx hb hK hP 0 1 113 rfl rfl h_21 dX3_asksMoon_19 ?_
    refine lv_goto (tgt := 24) hx hb dX3_asksMoon_20 (by decide) ?_
    exact T24 p1 r_15 (R_17 0 (Int32.toNatClampNeg (107 + p1))) F_16 R_17 L_18 G_19 _ _ ls hP hS (lv_sub hl [1, 2, 0] rfl) hw
def wpX3_moonAngle (post : Int32 → mF → mR → mL → mG → Prop) (F : mF) (R : mR) (L : mL) (G : mG) (p1 : Int32) : Prop := wpX3_asksMoon (fun r_1 F_2 R_3 L_4 G_5 => ((r_1 = 0 → post 0 F_2 R_3 L_4 G_5) ∧ (¬ r_1 = 0 → (vp_in (107 + p1) 113 ∧ wpX3_angle (fun r_8 F_9 R_10 L_11 G_12 => (vp_in (103 + p1) 113 ∧ (vp_in (84 + (R_10 0 (Int32.toNatClampNeg (103 + p1)))) 113 ∧ wpX3_angle (fun r_15 F_16 R_17 L_18 G_19 => wpX3_brought (fun r_20 => post r_20 F_16 R_17 L_18 G_19) (r_8 - r_15)) F_9 R_10 L_11 G_12 (R_10 0 (Int32.toNatClampNeg (84 + (R_10 0 (Int32.toNatClampNeg (103 + p1)))))) (R_10 0 111)))) F_2 R_3 L_4 G_5 (R_3 0 (Int32.toNatClampNeg (107 + p1))) (R_3 0 111))))) F R L G p1
abbrev wsX3_moonAngle : List Cond := ws_ yX3_moonAngle cX3_moonAngle 2 (some .int)
set_option maxHeartbeats 8000000 in
theorem metX3_moonAngle (l : Launch) (K : KT) (h : Nat) (a : Nat → Nat) (hap : mAp h a) (post : Int32 → mF → mR → mL → mG → Prop) (F : mF) (R : mR) (L : mL) (G : mG) (p1 : Int32) : Met l yX3_moonAngle wsX3_moonAngle (rmo 5 129) (mPre K h a F R L G [.int p1] (wpX3_moonAngle post F R L G p1)) (mQi post K h a) 0 0 (mA h a) := by
  refine Met.ofW (cc := cX3_moonAngle) (maxL := 2) (ret := (some .int)) (by decide) rfl ?_
  intro p e s m args below meth c s₁ B hml hv
  obtain ⟨rfl, hP, hK, hw⟩ := hv
  have hx := B.exec
  have hb := B.bytes
  have hr := B.returns
  have hts := atoms_spec (ws := wsX3_moonAngle) B.pre
  have hts : ∀ w ∈ lw_all, w.before _ s = true := fun w h => hts w (List.mem_cons_of_mem _ h)
  have hown : s.vm.findClass RX3 = some m.cls := findClass_of_methodNamed B.named
  have hlocks := B.notSynchronized
  have hl := lv_entry ([.ref h, .int p1]) (n := 2) (Nat.le_of_ble_eq_true rfl)
  rw [lg_entry_eq]
  generalize (lg_sl ([.ref h, .int p1]) ++ List.replicate (2 - (lg_sl ([.ref h, .int p1])).length) Slot.unset).toArray = ls at hl ⊢
  have hl : lv_has ls 2 [(0, .ref h), (1, .int p1)] := hl
  have hS : va_S (mA h a) s.heap s.heap [] := va_S.rf
  unfold wpX3_moonAngle at hw
  refine lv_aload_n hx hb dX3_moonAngle_0 rfl (lv_at hl 0 rfl) ?_
  refine lv_iload_n hx hb dX3_moonAngle_1 rfl (lv_at hl 1 rfl) ?_
  refine m_calli (As := [.int p1]) (rest := []) ⟨hx, hb, hml, hown, hts⟩ (metX3_asksMoon l K h a hap _ F R L G p1) (cwV 1 hts (lw_V q2121 q2123 qs58 q85 q2124) rfl rfl rfl (by decide +kernel) ⟨Nat.le_of_ble_eq_true rfl, Nat.le_of_ble_eq_true rfl⟩) hK hP hS hw rfl hl.1 rfl (Nat.le_of_ble_eq_true rfl) dX3_moonAngle_2 ⟨Nat.le_refl _, Nat.le_refl _⟩ (fun r_1 F_2 R_3 L_4 G_5 H locs hw hP hS => ?_)
  refine lv_if_ne (tgt := 10) hx hb dX3_moonAngle_5 (by decide) (fun c_6 => ?_) (fun c_6 => ?_)
  · have hw := hw.2 (c_6)
    refine lv_aload_n hx hb dX3_moonAngle_10 rfl (lv_at hl 0 rfl) ?_
    refine lv_aload_n hx hb dX3_moonAngle_11 rfl (lv_at hl 0 rfl) ?_
    refine m_get hx hb hts hown hK hP 0 (by decide) q1728 rfl dX3_moonAngle_12 ?_
    refine lv_bipush (v := 107) hx hb dX3_moonAngle_15 (by decide) ?_
    refine lv_iload_n hx hb dX3_moonAngle_17 rfl (lv_at hl 1 rfl) ?_
    refine lv_iadd hx hb dX3_moonAngle_18 ?_
    obtain ⟨h_7, hw⟩ := hw
    refine m_iald (j := (Int32.toNatClampNeg (107 + p1))) hx hb hK hP 0 1 113 rfl rfl h_7 dX3_moonAngle_19 ?_
    refine lv_aload_n hx hb dX3_moonAngle_20 rfl (lv_at hl 0 rfl) ?_
    refine m_get hx hb hts hown hK hP 0 (by decide) q1728 rfl dX3_moonAngle_21 ?_
    refine lv_bipush (v := 111) hx hb dX3_moonAngle_24 (by decide) ?_
    refine m_iald (j := 111) hx hb hK hP 0 1 113 rfl (by decide) (vpd (by decide)) dX3_moonAngle_26 ?_
    refine m_calli (As := [.int (R_3 0 (Int32.toNatClampNeg (107 + p1))), .int (R_3 0 111)]) (rest := []) ⟨hx, hb, hml, hown, hts⟩ (metX3_angle l K h a hap _ F_2 R_3 L_4 G_5 (R_3 0 (Int32.toNatClampNeg (107 + p1))) (R_3 0 111)) (cwV 2 hts (lw_V q2105 q2107 qs57 q85 q2108) rfl rfl rfl (by decide +kernel) ⟨Nat.le_of_ble_eq_true rfl, Nat.le_of_ble_eq_true rfl⟩) hK hP hS hw rfl hl.1 rfl (Nat.le_of_ble_eq_true rfl) dX3_moonAngle_27 ⟨Nat.le_refl _, Nat.le_refl _⟩ (fun r_8 F_9 R_10 L_11 G_12 H locs hw hP hS => ?_)
    refine lv_aload_n hx hb dX3_moonAngle_30 rfl (lv_at hl 0 rfl) ?_
    refine lv_aload_n hx hb dX3_moonAngle_31 rfl (lv_at hl 0 rfl) ?_
    refine m_get hx hb hts hown hK hP 0 (by decide) q1728 rfl dX3_moonAngle_32 ?_
    refine lv_bipush (v := 84) hx hb dX3_moonAngle_35 (by decide) ?_
    refine lv_aload_n hx hb dX3_moonAngle_37 rfl (lv_at hl 0 rfl) ?_
    refine m_get hx hb hts hown hK hP 0 (by decide) q1728 rfl dX3_moonAngle_38 ?_
    refine lv_bipush (v := 103) hx hb dX3_moonAngle_41 (by decide) ?_
    refine lv_iload_n hx hb dX3_moonAngle_43 rfl (lv_at hl 1 rfl) ?_
    refine lv_iadd hx hb dX3_moonAngle_44 ?_
    obtain ⟨h_13, hw⟩ := hw
    refine m_iald (j := (Int32.toNatClampNeg (103 + p1))) hx hb hK hP 0 1 113 rfl rfl h_13 dX3_moonAngle_45 ?_
    refine lv_iadd hx hb dX3_moonAngle_46 ?_
    obtain ⟨h_14, hw⟩ := hw
    refine m_iald (j := (Int32.toNatClampNeg (84 + (R_10 0 (Int32.toNatClampNeg (103 + p1)))))) hx hb hK hP 0 1 113 rfl rfl h_14 dX3_moonAngle_47 ?_
    refine lv_aload_n hx hb dX3_moonAngle_48 rfl (lv_at hl 0 rfl) ?_
    refine m_get hx hb hts hown hK hP 0 (by decide) q1728 rfl dX3_moonAngle_49 ?_
    refine lv_bipush (v := 111) hx hb dX3_moonAngle_52 (by decide) ?_
    refine m_iald (j := 111) hx hb hK hP 0 1 113 rfl (by decide) (vpd (by decide)) dX3_moonAngle_54 ?_
    refine m_calli (As := [.int (R_10 0 (Int32.toNatClampNeg (84 + (R_10 0 (Int32.toNatClampNeg (103 + p1)))))), .int (R_10 0 111)]) (rest := [.int r_8]) ⟨hx, hb, hml, hown, hts⟩ (metX3_angle l K h a hap _ F_9 R_10 L_11 G_12 (R_10 0 (Int32.toNatClampNeg (84 + (R_10 0 (Int32.toNatClampNeg (103 + p1)))))) (R_10 0 111)) (cwV 2 hts (lw_V q2105 q2107 qs57 q85 q2108) rfl rfl rfl (by decide +kernel) ⟨Nat.le_of_ble_eq_true rfl, Nat.le_of_ble_eq_true rfl⟩) hK hP hS hw rfl hl.1 rfl (Nat.le_of_ble_eq_true rfl) dX3_moonAngle_55 ⟨Nat.le_refl _, Nat.le_refl _⟩ (fun r_15 F_16 R_17 L_18 G_19 H locs hw hP hS => ?_)
    refine lv_isub hx hb dX3_moonAngle_58 ?_
    refine s_calli (As := [.int (r_8 - r_15)]) (rest := []) ⟨hx, hb, hml, hown, hts⟩ (metX3_brought l _ (r_8 - r_15)) (va_cwS 1 hts (lw_S q2110 q2111 q85 q2112) rfl rfl rfl (by decide +kernel) ⟨Nat.le_of_ble_eq_true rfl, Nat.le_of_ble_eq_true rfl⟩) hw rfl hl.1 rfl (Nat.le_of_ble_eq_true rfl) dX3_moonAngle_59 ⟨Nat.le_refl _, Nat.le_refl _⟩ (fun r_20 hw => ?_)
    exact m_iret hx hb hr hlocks hP hS dX3_moonAngle_62 hw
  · have hw := hw.1 (c_6)
    refine lv_iconst (v := 0) hx hb dX3_moonAngle_8 (by decide) ?_
    exact m_iret hx hb hr hlocks hP hS dX3_moonAngle_9 hw
def wpX3_isSlow (post : Int32 → mF → mR → mL → mG → Prop) (F : mF) (R : mR) (L : mL) (G : mG) (p1 : Int32) : Prop := wpX3_asksMoon (fun r_1 F_2 R_3 L_4 G_5 => ((r_1 = 0 → post 0 F_2 R_3 L_4 G_5) ∧ (¬ r_1 = 0 → (vp_in (107 + p1) 113 ∧ (∀ x2_8 : Int32, x2_8 = R_3 0 (Int32.toNatClampNeg (107 + p1)) → (vp_in (103 + p1) 113 ∧ (vp_in (84 + (R_3 0 (Int32.toNatClampNeg (103 + p1)))) 113 ∧ (∀ x3_11 : Int32, x3_11 = R_3 0 (Int32.toNatClampNeg (84 + (R_3 0 (Int32.toNatClampNeg (103 + p1))))) → wpX3_size (fun r_12 F_13 R_14 L_15 G_16 => (vp_in x3_11 12 ∧ wpX3_size (fun r_18 F_19 R_20 L_21 G_22 => (vp_in x2_8 12 ∧ (((r_18 * (L_21 11 (Int32.toNatClampNeg x2_8))) ≤ (r_12 * (L_15 11 (Int32.toNatClampNeg x3_11))) → post 0 F_19 R_20 L_21 G_22) ∧ (¬ (r_18 * (L_21 11 (Int32.toNatClampNeg x2_8))) ≤ (r_12 * (L_15 11 (Int32.toNatClampNeg x3_11))) → post 1 F_19 R_20 L_21 G_22)))) F_13 R_14 L_15 G_16 x3_11)) F_2 R_3 L_4 G_5 x2_8)))))))) F R L G p1
abbrev wsX3_isSlow : List Cond := ws_ yX3_isSlow cX3_isSlow 4 (some .boolean)
set_option maxHeartbeats 8000000 in
theorem metX3_isSlow (l : Launch) (K : KT) (h : Nat) (a : Nat → Nat) (hap : mAp h a) (post : Int32 → mF → mR → mL → mG → Prop) (F : mF) (R : mR) (L : mL) (G : mG) (p1 : Int32) : Met l yX3_isSlow wsX3_isSlow (rmo 5 129) (mPre K h a F R L G [.int p1] (wpX3_isSlow post F R L G p1)) (mQi post K h a) 0 0 (mA h a) := by
  refine Met.ofW (cc := cX3_isSlow) (maxL := 4) (ret := (some .boolean)) (by decide) rfl ?_
  intro p e s m args below meth c s₁ B hml hv
  obtain ⟨rfl, hP, hK, hw⟩ := hv
  have hx := B.exec
  have hb := B.bytes
  have hr := B.returns
  have hts := atoms_spec (ws := wsX3_isSlow) B.pre
  have hts : ∀ w ∈ lw_all, w.before _ s = true := fun w h => hts w (List.mem_cons_of_mem _ h)
  have hown : s.vm.findClass RX3 = some m.cls := findClass_of_methodNamed B.named
  have hlocks := B.notSynchronized
  have hl := lv_entry ([.ref h, .int p1]) (n := 4) (Nat.le_of_ble_eq_true rfl)
  rw [lg_entry_eq]
  generalize (lg_sl ([.ref h, .int p1]) ++ List.replicate (4 - (lg_sl ([.ref h, .int p1])).length) Slot.unset).toArray = ls at hl ⊢
  have hl : lv_has ls 4 [(0, .ref h), (1, .int p1)] := hl
  have hS : va_S (mA h a) s.heap s.heap [] := va_S.rf
  unfold wpX3_isSlow at hw
  refine lv_aload_n hx hb dX3_isSlow_0 rfl (lv_at hl 0 rfl) ?_
  refine lv_iload_n hx hb dX3_isSlow_1 rfl (lv_at hl 1 rfl) ?_
  refine m_calli (As := [.int p1]) (rest := []) ⟨hx, hb, hml, hown, hts⟩ (metX3_asksMoon l K h a hap _ F R L G p1) (cwV 1 hts (lw_V q2121 q2123 qs58 q85 q2124) rfl rfl rfl (by decide +kernel) ⟨Nat.le_of_ble_eq_true rfl, Nat.le_of_ble_eq_true rfl⟩) hK hP hS hw rfl hl.1 rfl (Nat.le_of_ble_eq_true rfl) dX3_isSlow_2 ⟨Nat.le_refl _, Nat.le_refl _⟩ (fun r_1 F_2 R_3 L_4 G_5 H locs hw hP hS => ?_)
  refine lv_if_ne (tgt := 10) hx hb dX3_isSlow_5 (by decide) (fun c_6 => ?_) (fun c_6 => ?_)
  · have hw := hw.2 (c_6)
    refine lv_aload_n hx hb dX3_isSlow_10 rfl (lv_at hl 0 rfl) ?_
    refine m_get hx hb hts hown hK hP 0 (by decide) q1728 rfl dX3_isSlow_11 ?_
    refine lv_bipush (v := 107) hx hb dX3_isSlow_14 (by decide) ?_
    refine lv_iload_n hx hb dX3_isSlow_16 rfl (lv_at hl 1 rfl) ?_
    refine lv_iadd hx hb dX3_isSlow_17 ?_
    obtain ⟨h_7, hw⟩ := hw
    refine m_iald (j := (Int32.toNatClampNeg (107 + p1))) hx hb hK hP 0 1 113 rfl rfl h_7 dX3_isSlow_18 ?_
    refine lv_topi (fun x2_8 ex2_8 => ?_)
    have hw := hw x2_8 ex2_8
    refine lv_istore_n (lv' := [(2, .int x2_8), (0, .ref h), (1, .int p1)]) hx hb dX3_isSlow_19 rfl hl (by decide) rfl (fun ls hl => ?_)
    refine lv_aload_n hx hb dX3_isSlow_20 rfl (lv_at hl 1 rfl) ?_
    refine m_get hx hb hts hown hK hP 0 (by decide) q1728 rfl dX3_isSlow_21 ?_
    refine lv_bipush (v := 84) hx hb dX3_isSlow_24 (by decide) ?_
    refine lv_aload_n hx hb dX3_isSlow_26 rfl (lv_at hl 1 rfl) ?_
    refine m_get hx hb hts hown hK hP 0 (by decide) q1728 rfl dX3_isSlow_27 ?_
    refine lv_bipush (v := 103) hx hb dX3_isSlow_30 (by decide) ?_
    refine lv_iload_n hx hb dX3_isSlow_32 rfl (lv_at hl 2 rfl) ?_
    refine lv_iadd hx hb dX3_isSlow_33 ?_
    obtain ⟨h_9, hw⟩ := hw
    refine m_iald (j := (Int32.toNatClampNeg (103 + p1))) hx hb hK hP 0 1 113 rfl rfl h_9 dX3_isSlow_34 ?_
    refine lv_iadd hx hb dX3_isSlow_35 ?_
    obtain ⟨h_10, hw⟩ := hw
    refine m_iald (j := (Int32.toNatClampNeg (84 + (R_3 0 (Int32.toNatClampNeg (103 + p1)))))) hx hb hK hP 0 1 113 rfl rfl h_10 dX3_isSlow_36 ?_
    refine lv_topi (fun x3_11 ex3_11 => ?_)
    have hw := hw x3_11 ex3_11
    refine lv_istore_n (lv' := [(3, .int x3_11), (2, .int x2_8), (0, .ref h), (1, .int p1)]) hx hb dX3_isSlow_37 rfl hl (by decide) rfl (fun ls hl => ?_)
    refine lv_aload_n hx hb dX3_isSlow_38 rfl (lv_at hl 2 rfl) ?_
    refine lv_iload_n hx hb dX3_isSlow_39 rfl (lv_at hl 1 rfl) ?_
    refine m_calll (As := [.int x2_8]) (rest := []) ⟨hx, hb, hml, hown, hts⟩ (metX3_size l K h a hap _ F_2 R_3 L_4 G_5 x2_8) (cwV 1 hts (lw_V q2045 q2047 qs51 q85 q2048) rfl rfl rfl (by decide +kernel) ⟨Nat.le_of_ble_eq_true rfl, Nat.le_of_ble_eq_true rfl⟩) hK hP hS hw rfl hl.1 rfl (Nat.le_of_ble_eq_true rfl) dX3_isSlow_40 ⟨Nat.le_refl _, Nat.le_refl _⟩ (fun r_12 F_13 R_14 L_15 G_16 H locs hw hP hS => ?_)
    refine lv_aload_n hx hb dX3_isSlow_43 rfl (lv_at hl 2 rfl) ?_
    refine m_get hx hb hts hown hK hP 11 (by decide) q1739 rfl dX3_isSlow_44 ?_
    refine lv_iload_n hx hb dX3_isSlow_47 rfl (lv_at hl 0 rfl) ?_
    obtain ⟨h_17, hw⟩ := hw
    refine m_lald (j := (Int32.toNatClampNeg x3_11)) hx hb hK hP 11 8 12 rfl rfl h_17 dX3_isSlow_48 ?_
    refine lv_lmul hx hb dX3_isSlow_49 ?_
    refine lv_aload_n hx hb dX3_isSlow_50 rfl (lv_at hl 2 rfl) ?_
    refine lv_iload_n hx hb dX3_isSlow_51 rfl (lv_at hl 0 rfl) ?_
    refine m_calll (As := [.int x3_11]) (rest := [.long (r_12 * (L_15 11 (Int32.toNatClampNeg x3_11)))]) ⟨hx, hb, hml, hown, hts⟩ (metX3_size l K h a hap _ F_13 R_14 L_15 G_16 x3_11) (cwV 1 hts (lw_V q2045 q2047 qs51 q85 q2048) rfl rfl rfl (by decide +kernel) ⟨Nat.le_of_ble_eq_true rfl, Nat.le_of_ble_eq_true rfl⟩) hK hP hS hw rfl hl.1 rfl (Nat.le_of_ble_eq_true rfl) dX3_isSlow_52 ⟨Nat.le_refl _, Nat.le_refl _⟩ (fun r_18 F_19 R_20 L_21 G_22 H locs hw hP hS => ?_)
    refine lv_aload_n hx hb dX3_isSlow_55 rfl (lv_at hl 2 rfl) ?_
    refine m_get hx hb hts hown hK hP 11 (by decide) q1739 rfl dX3_isSlow_56 ?_
    refine lv_iload_n hx hb dX3_isSlow_59 rfl (lv_at hl 1 rfl) ?_
    obtain ⟨h_23, hw⟩ := hw
    refine m_lald (j := (Int32.toNatClampNeg x2_8)) hx hb hK hP 11 8 12 rfl rfl h_23 dX3_isSlow_60 ?_
    refine lv_lmul hx hb dX3_isSlow_61 ?_
    refine W.lcmp hx hb dX3_isSlow_62 ?_
    refine lv_if_ge (tgt := 70) hx hb dX3_isSlow_63 (by decide) (fun c_24 => ?_) (fun c_24 => ?_)
    · rw [lc_ge] at c_24
      have hw := hw.1 c_24
      refine lv_iconst (v := 0) hx hb dX3_isSlow_70 (by decide) ?_
      exact m_zret hx hb hr hlocks hP hS dX3_isSlow_71 (Or.inl rfl) hw
    · rw [lc_ge] at c_24
      have hw := hw.2 c_24
      refine lv_iconst (v := 1) hx hb dX3_isSlow_66 (by decide) ?_
      refine lv_goto (tgt := 71) hx hb dX3_isSlow_67 (by decide) ?_
      exact m_zret hx hb hr hlocks hP hS dX3_isSlow_71 (Or.inr rfl) hw
  · have hw := hw.1 (c_6)
    refine lv_iconst (v := 0) hx hb dX3_isSlow_8 (by decide) ?_
    exact m_zret hx hb hr hlocks hP hS dX3_isSlow_9 (Or.inl rfl) hw
def wpX3_isTolerance (post : Int32 → Prop) (p0 : Int32) : Prop := wpX3_in (fun r_1 => ((r_1 = 0 ∨ r_1 = 1) ∧ post r_1)) p0 0 600
abbrev wsX3_isTolerance : List Cond := ws_ yX3_isTolerance cX3_isTolerance 1 (some .boolean)
set_option maxHeartbeats 8000000 in
theorem metX3_isTolerance (l : Launch) (post : Int32 → Prop) (p0 : Int32) : Met l yX3_isTolerance wsX3_isTolerance (rmo 1 22) (sPre [.int p0] (wpX3_isTolerance post p0)) (vp_Si post) 0 0 (fun _ => False) := by
  refine Met.ofW (cc := cX3_isTolerance) (maxL := 1) (ret := (some .boolean)) (by decide) rfl ?_
  intro p e s m args below meth c s₁ B hml hv
  obtain ⟨rfl, hw⟩ := hv
  have hx := B.exec
  have hb := B.bytes
  have hr := B.returns
  have hts := atoms_spec (ws := wsX3_isTolerance) B.pre
  have hts : ∀ w ∈ lw_all, w.before _ s = true := fun w h => hts w (List.mem_cons_of_mem _ h)
  have hown : s.vm.findClass RX3 = some m.cls := findClass_of_methodNamed B.named
  have hlocks := B.notSynchronized
  have hl := lv_entry ([.int p0]) (n := 1) (Nat.le_of_ble_eq_true rfl)
  rw [lg_entry_eq]
  generalize (lg_sl ([.int p0]) ++ List.replicate (1 - (lg_sl ([.int p0])).length) Slot.unset).toArray = ls at hl ⊢
  have hl : lv_has ls 1 [(0, .int p0)] := hl
  unfold wpX3_isTolerance at hw
  refine lv_iload_n hx hb dX3_isTolerance_0 rfl (lv_at hl 0 rfl) ?_
  refine lv_iconst (v := 0) hx hb dX3_isTolerance_1 (by decide) ?_
  refine lv_sipush (v := 600) hx hb dX3_isTolerance_2 (by decide) ?_
  refine s_calli (As := [.int p0, .int 0, .int 600]) (rest := []) ⟨hx, hb, hml, hown, hts⟩ (metX3_in l _ p0 0 600) (va_cwS 3 hts (lw_S q1858 q1859 q85 q1860) rfl rfl rfl (by decide +kernel) ⟨Nat.le_of_ble_eq_true rfl, Nat.le_of_ble_eq_true rfl⟩) hw rfl hl.1 rfl (Nat.le_of_ble_eq_true rfl) dX3_isTolerance_5 ⟨Nat.le_refl _, Nat.le_refl _⟩ (fun r_1 hw => ?_)
  obtain ⟨h_2, hw⟩ := hw
  exact s_zret hx hb hr hlocks dX3_isTolerance_8 h_2 hw
def wpX3_areArms (post : Int32 → mF → mR → mL → mG → Prop) (F : mF) (R : mR) (L : mL) (G : mG) (p1 : Int32) (p2 : Int32) : Prop := wpX3_isArm (fun r_1 F_2 R_3 L_4 G_5 => ((r_1 = 0 → post 0 F_2 R_3 L_4 G_5) ∧ (¬ r_1 = 0 → wpX3_isArm (fun r_7 F_8 R_9 L_10 G_11 => ((r_7 = 0 → post 0 F_8 R_9 L_10 G_11) ∧ (¬ r_7 = 0 → ((p1 = p2 → post 0 F_8 R_9 L_10 G_11) ∧ (¬ p1 = p2 → post 1 F_8 R_9 L_10 G_11))))) F_2 R_3 L_4 G_5 p2))) F R L G p1
abbrev wsX3_areArms : List Cond := ws_ yX3_areArms cX3_areArms 3 (some .boolean)
set_option maxHeartbeats 8000000 in
theorem metX3_areArms (l : Launch) (K : KT) (h : Nat) (a : Nat → Nat) (hap : mAp h a) (post : Int32 → mF → mR → mL → mG → Prop) (F : mF) (R : mR) (L : mL) (G : mG) (p1 : Int32) (p2 : Int32) : Met l yX3_areArms wsX3_areArms (rmo 2 43) (mPre K h a F R L G [.int p1, .int p2] (wpX3_areArms post F R L G p1 p2)) (mQi post K h a) 0 0 (mA h a) := by
  refine Met.ofW (cc := cX3_areArms) (maxL := 3) (ret := (some .boolean)) (by decide) rfl ?_
  intro p e s m args below meth c s₁ B hml hv
  obtain ⟨rfl, hP, hK, hw⟩ := hv
  have hx := B.exec
  have hb := B.bytes
  have hr := B.returns
  have hts := atoms_spec (ws := wsX3_areArms) B.pre
  have hts : ∀ w ∈ lw_all, w.before _ s = true := fun w h => hts w (List.mem_cons_of_mem _ h)
  have hown : s.vm.findClass RX3 = some m.cls := findClass_of_methodNamed B.named
  have hlocks := B.notSynchronized
  have hl := lv_entry ([.ref h, .int p1, .int p2]) (n := 3) (Nat.le_of_ble_eq_true rfl)
  rw [lg_entry_eq]
  generalize (lg_sl ([.ref h, .int p1, .int p2]) ++ List.replicate (3 - (lg_sl ([.ref h, .int p1, .int p2])).length) Slot.unset).toArray = ls at hl ⊢
  have hl : lv_has ls 3 [(0, .ref h), (1, .int p1), (2, .int p2)] := hl
  have hS : va_S (mA h a) s.heap s.heap [] := va_S.rf
  unfold wpX3_areArms at hw
  refine lv_aload_n hx hb dX3_areArms_0 rfl (lv_at hl 0 rfl) ?_
  refine lv_iload_n hx hb dX3_areArms_1 rfl (lv_at hl 1 rfl) ?_
  refine m_calli (As := [.int p1]) (rest := []) ⟨hx, hb, hml, hown, hts⟩ (metX3_isArm l K h a hap _ F R L G p1) (cwV 1 hts (lw_V q1943 q1945 qs45 q85 q1946) rfl rfl rfl (by decide +kernel) ⟨Nat.le_of_ble_eq_true rfl, Nat.le_of_ble_eq_true rfl⟩) hK hP hS hw rfl hl.1 rfl (Nat.le_of_ble_eq_true rfl) dX3_areArms_2 ⟨Nat.le_refl _, Nat.le_refl _⟩ (fun r_1 F_2 R_3 L_4 G_5 H locs hw hP hS => ?_)
  refine lv_if_eq (tgt := 25) hx hb dX3_areArms_5 (by decide) (fun c_6 => ?_) (fun c_6 => ?_)
  · have hw := hw.1 c_6
    refine lv_iconst (v := 0) hx hb dX3_areArms_25 (by decide) ?_
    exact m_zret hx hb hr hlocks hP hS dX3_areArms_26 (Or.inl rfl) hw
  · have hw := hw.2 c_6
    refine lv_aload_n hx hb dX3_areArms_8 rfl (lv_at hl 0 rfl) ?_
    refine lv_iload_n hx hb dX3_areArms_9 rfl (lv_at hl 2 rfl) ?_
    refine m_calli (As := [.int p2]) (rest := []) ⟨hx, hb, hml, hown, hts⟩ (metX3_isArm l K h a hap _ F_2 R_3 L_4 G_5 p2) (cwV 1 hts (lw_V q1943 q1945 qs45 q85 q1946) rfl rfl rfl (by decide +kernel) ⟨Nat.le_of_ble_eq_true rfl, Nat.le_of_ble_eq_true rfl⟩) hK hP hS hw rfl hl.1 rfl (Nat.le_of_ble_eq_true rfl) dX3_areArms_10 ⟨Nat.le_refl _, Nat.le_refl _⟩ (fun r_7 F_8 R_9 L_10 G_11 H locs hw hP hS => ?_)
    refine lv_if_eq (tgt := 25) hx hb dX3_areArms_13 (by decide) (fun c_12 => ?_) (fun c_12 => ?_)
    · have hw := hw.1 c_12
      refine lv_iconst (v := 0) hx hb dX3_areArms_25 (by decide) ?_
      exact m_zret hx hb hr hlocks hP hS dX3_areArms_26 (Or.inl rfl) hw
    · have hw := hw.2 c_12
      refine lv_iload_n hx hb dX3_areArms_16 rfl (lv_at hl 1 rfl) ?_
      refine lv_iload_n hx hb dX3_areArms_17 rfl (lv_at hl 2 rfl) ?_
      refine lv_icmp_eq (tgt := 25) hx hb dX3_areArms_18 (by decide) (fun c_13 => ?_) (fun c_13 => ?_)
      · have hw := hw.1 c_13
        refine lv_iconst (v := 0) hx hb dX3_areArms_25 (by decide) ?_
        exact m_zret hx hb hr hlocks hP hS dX3_areArms_26 (Or.inl rfl) hw
      · have hw := hw.2 c_13
        refine lv_iconst (v := 1) hx hb dX3_areArms_21 (by decide) ?_
        refine lv_goto (tgt := 26) hx hb dX3_areArms_22 (by decide) ?_
        exact m_zret hx hb hr hlocks hP hS dX3_areArms_26 (Or.inr rfl) hw
def wpX3_asksArms_18 (post : Int32 → mF → mR → mL → mG → Prop) (x1 : Int32) (x2 : Int32) (z0 : Int32) (F : mF) (R : mR) (L : mL) (G : mG) : Prop := wpX3_asksArm (fun r_1 F_2 R_3 L_4 G_5 => ((r_1 = 0 → post 0 F_2 R_3 L_4 G_5) ∧ (¬ r_1 = 0 → wpX3_asksArm (fun r_7 F_8 R_9 L_10 G_11 => ((r_7 = 0 → post 0 F_8 R_9 L_10 G_11) ∧ (¬ r_7 = 0 → post 1 F_8 R_9 L_10 G_11))) F_2 R_3 L_4 G_5 x2 1))) F R L G x1 z0
def wpX3_asksArms_17 (post : Int32 → mF → mR → mL → mG → Prop) (x1 : Int32) (x2 : Int32) (F : mF) (R : mR) (L : mL) (G : mG) : Prop := wpX3_asksArms_18 post x1 x2 0 F R L G
def wpX3_asksArms (post : Int32 → mF → mR → mL → mG → Prop) (F : mF) (R : mR) (L : mL) (G : mG) (p1 : Int32) (p2 : Int32) (p3 : Int32) : Prop := ((p3 = 0 → wpX3_asksArms_17 post p1 p2 F R L G) ∧ (¬ p3 = 0 → wpX3_areArms (fun r_14 F_15 R_16 L_17 G_18 => ((r_14 = 0 → wpX3_asksArms_17 post p1 p2 F_15 R_16 L_17 G_18) ∧ (¬ r_14 = 0 → wpX3_asksArms_18 post p1 p2 1 F_15 R_16 L_17 G_18))) F R L G p1 p2))
abbrev wsX3_asksArms : List Cond := ws_ yX3_asksArms cX3_asksArms 5 (some .boolean)
set_option maxHeartbeats 8000000 in
theorem metX3_asksArms (l : Launch) (K : KT) (h : Nat) (a : Nat → Nat) (hap : mAp h a) (post : Int32 → mF → mR → mL → mG → Prop) (F : mF) (R : mR) (L : mL) (G : mG) (p1 : Int32) (p2 : Int32) (p3 : Int32) : Met l yX3_asksArms wsX3_asksArms (rmo 5 130) (mPre K h a F R L G [.int p1, .int p2, .int p3] (wpX3_asksArms post F R L G p1 p2 p3)) (mQi post K h a) 0 0 (mA h a) := by
  refine Met.ofW (cc := cX3_asksArms) (maxL := 5) (ret := (some .boolean)) (by decide) rfl ?_
  intro p e s m args below meth c s₁ B hml hv
  obtain ⟨rfl, hP, hK, hw⟩ := hv
  have hx := B.exec
  have hb := B.bytes
  have hr := B.returns
  have hts := atoms_spec (ws := wsX3_asksArms) B.pre
  have hts : ∀ w ∈ lw_all, w.before _ s = true := fun w h => hts w (List.mem_cons_of_mem _ h)
  have hown : s.vm.findClass RX3 = some m.cls := findClass_of_methodNamed B.named
  have hlocks := B.notSynchronized
  have hl := lv_entry ([.ref h, .int p1, .int p2, .int p3]) (n := 5) (Nat.le_of_ble_eq_true rfl)
  rw [lg_entry_eq]
  generalize (lg_sl ([.ref h, .int p1, .int p2, .int p3]) ++ List.replicate (5 - (lg_sl ([.ref h, .int p1, .int p2, .int p3])).length) Slot.unset).toArray = ls at hl ⊢
  have hl : lv_has ls 5 [(0, .ref h), (1, .int p1), (2, .int p2), (3, .int p3)] := hl
  have hS : va_S (mA h a) s.heap s.heap [] := va_S.rf
  have T18 : ∀ (x1 : Int32) (x2 : Int32) (z0 : Int32) (F : mF) (R : mR) (L : mL) (G : mG) (H : Heap) (locs : List Loc) (ls : Array Slot), mP K h a F R L G H → va_S (mA h a) s.heap H locs → lv_has ls 5 [(0, .ref h), (1, .int x1), (2, .int x2)] → wpX3_asksArms_18 post x1 x2 z0 F R L G → W p l e (rmo 5 130) s m ([.ref h, .int p1, .int p2, .int p3] : List Value).toArray below meth c H locs 0 0 (MQ below (mQi post K h a) ([.ref h, .int p1, .int p2, .int p3] : List Value).toArray s 0 0 (mA h a)) (F0 m 18 ls [.int z0]) := by
    intro x1 x2 z0 F R L G H locs ls hP hS hl hw
    unfold wpX3_asksArms_18 at hw
    refine lv_istore (lv' := [(4, .int z0), (0, .ref h), (1, .int x1), (2, .int x2)]) hx hb dX3_asksArms_18 hl (by decide) rfl (fun ls hl => ?_)
    refine lv_aload_n hx hb dX3_asksArms_20 rfl (lv_at hl 1 rfl) ?_
    refine lv_iload_n hx hb dX3_asksArms_21 rfl (lv_at hl 2 rfl) ?_
    refine lv_iload hx hb dX3_asksArms_22 (lv_at hl 0 rfl) ?_
    refine m_calli (As := [.int x1, .int z0]) (rest := []) ⟨hx, hb, hml, hown, hts⟩ (metX3_asksArm l K h a hap _ F R L G x1 z0) (cwV 2 hts (lw_V q2097 q2099 qs55 q85 q2100) rfl rfl rfl (by decide +kernel) ⟨Nat.le_of_ble_eq_true rfl, Nat.le_of_ble_eq_true rfl⟩) hK hP hS hw rfl hl.1 rfl (Nat.le_of_ble_eq_true rfl) dX3_asksArms_24 ⟨Nat.le_refl _, Nat.le_refl _⟩ (fun r_1 F_2 R_3 L_4 G_5 H locs hw hP hS => ?_)
    refine lv_if_eq (tgt := 43) hx hb dX3_asksArms_27 (by decide) (fun c_6 => ?_) (fun c_6 => ?_)
    · have hw := hw.1 c_6
      refine lv_iconst (v := 0) hx hb dX3_asksArms_43 (by decide) ?_
      exact m_zret hx hb hr hlocks hP hS dX3_asksArms_44 (Or.inl rfl) hw
    · have hw := hw.2 c_6
      refine lv_aload_n hx hb dX3_asksArms_30 rfl (lv_at hl 1 rfl) ?_
      refine lv_iload_n hx hb dX3_asksArms_31 rfl (lv_at hl 3 rfl) ?_
      refine lv_iconst (v := 1) hx hb dX3_asksArms_32 (by decide) ?_
      refine m_calli (As := [.int x2, .int 1]) (rest := []) ⟨hx, hb, hml, hown, hts⟩ (metX3_asksArm l K h a hap _ F_2 R_3 L_4 G_5 x2 1) (cwV 2 hts (lw_V q2097 q2099 qs55 q85 q2100) rfl rfl rfl (by decide +kernel) ⟨Nat.le_of_ble_eq_true rfl, Nat.le_of_ble_eq_true rfl⟩) hK hP hS hw rfl hl.1 rfl (Nat.le_of_ble_eq_true rfl) dX3_asksArms_33 ⟨Nat.le_refl _, Nat.le_refl _⟩ (fun r_7 F_8 R_9 L_10 G_11 H locs hw hP hS => ?_)
      refine lv_if_eq (tgt := 43) hx hb dX3_asksArms_36 (by decide) (fun c_12 => ?_) (fun c_12 => ?_)
      · have hw := hw.1 c_12
        refine lv_iconst (v := 0) hx hb dX3_asksArms_43 (by decide) ?_
        exact m_zret hx hb hr hlocks hP hS dX3_asksArms_44 (Or.inl rfl) hw
      · have hw := hw.2 c_12
        refine lv_iconst (v := 1) hx hb dX3_asksArms_39 (by decide) ?_
        refine lv_goto (tgt := 44) hx hb dX3_asksArms_40 (by decide) ?_
        exact m_zret hx hb hr hlocks hP hS dX3_asksArms_44 (Or.inr rfl) hw
  have T17 : ∀ (x1 : Int32) (x2 : Int32) (F : mF) (R : mR) (L : mL) (G : mG) (H : Heap) (locs : List Loc) (ls : Array Slot), mP K h a F R L G H → va_S (mA h a) s.heap H locs → lv_has ls 5 [(0, .ref h), (1, .int x1), (2, .int x2)] → wpX3_asksArms_17 post x1 x2 F R L G → W p l e (rmo 5 130) s m ([.ref h, .int p1, .int p2, .int p3] : List Value).toArray below meth c H locs 0 0 (MQ below (mQi post K h a) ([.ref h, .int p1, .int p2, .int p3] : List Value).toArray s 0 0 (mA h a)) (F0 m 17 ls []) := by
    intro x1 x2 F R L G H locs ls hP hS hl hw
    unfold wpX3_asksArms_17 at hw
    refine lv_iconst (v := 0) hx hb dX3_asksArms_17 (by decide) ?_
    exact T18 x1 x2 0 F R L G _ _ ls hP hS (lv_sub hl [0, 1, 2] rfl) hw
  unfold wpX3_asksArms at hw
  refine lv_iload_n hx hb dX3_asksArms_0 rfl (lv_at hl 3 rfl) ?_
  refine lv_if_eq (tgt := 17) hx hb dX3_asksArms_1 (by decide) (fun c_13 => ?_) (fun c_13 => ?_)
  · have hw := hw.1 c_13
    exact T17 p1 p2 F R L G _ _ ls hP hS (lv_sub hl [0, 1, 2] rfl) hw
  · have hw := hw.2 c_13
    refine lv_aload_n hx hb dX3_asksArms_4 rfl (lv_at hl 0 rfl) ?_
    refine lv_iload_n hx hb dX3_asksArms_5 rfl (lv_at hl 1 rfl) ?_
    refine lv_iload_n hx hb dX3_asksArms_6 rfl (lv_at hl 2 rfl) ?_
    refine m_calli (As := [.int p1, .int p2]) (rest := []) ⟨hx, hb, hml, hown, hts⟩ (metX3_areArms l K h a hap _ F R L G p1 p2) (cwV 2 hts (lw_V q2144 q2146 qs61 q85 q2147) rfl rfl rfl (by decide +kernel) ⟨Nat.le_of_ble_eq_true rfl, Nat.le_of_ble_eq_true rfl⟩) hK hP hS hw rfl hl.1 rfl (Nat.le_of_ble_eq_true rfl) dX3_asksArms_7 ⟨Nat.le_refl _, Nat.le_refl _⟩ (fun r_14 F_15 R_16 L_17 G_18 H locs hw hP hS => ?_)
    refine lv_if_eq (tgt := 17) hx hb dX3_asksArms_10 (by decide) (fun c_19 => ?_) (fun c_19 => ?_)
    · have hw := hw.1 c_19
      exact T17 p1 p2 F_15 R_16 L_17 G_18 _ _ ls hP hS (lv_sub hl [0, 1, 2] rfl) hw
    · have hw := hw.2 c_19
      refine lv_iconst (v := 1) hx hb dX3_asksArms_13 (by decide) ?_
      refine lv_goto (tgt := 18) hx hb dX3_asksArms_14 (by decide) ?_
      exact T18 p1 p2 1 F_15 R_16 L_17 G_18 _ _ ls hP hS (lv_sub hl [0, 1, 2] rfl) hw
def wpX3_apart (post : Int32 → Prop) (p0 : Int32) (p1 : Int32) : Prop := wpX3_brought (fun r_1 => ((r_1 ≤ (21600 - r_1) → post r_1) ∧ (¬ r_1 ≤ (21600 - r_1) → post (21600 - r_1)))) (p0 - p1)
abbrev wsX3_apart : List Cond := ws_ yX3_apart cX3_apart 3 (some .int)
set_option maxHeartbeats 8000000 in
theorem metX3_apart (l : Launch) (post : Int32 → Prop) (p0 : Int32) (p1 : Int32) : Met l yX3_apart wsX3_apart (rmo 1 20) (sPre [.int p0, .int p1] (wpX3_apart post p0 p1)) (vp_Si post) 0 0 (fun _ => False) := by
  refine Met.ofW (cc := cX3_apart) (maxL := 3) (ret := (some .int)) (by decide) rfl ?_
  intro p e s m args below meth c s₁ B hml hv
  obtain ⟨rfl, hw⟩ := hv
  have hx := B.exec
  have hb := B.bytes
  have hr := B.returns
  have hts := atoms_spec (ws := wsX3_apart) B.pre
  have hts : ∀ w ∈ lw_all, w.before _ s = true := fun w h => hts w (List.mem_cons_of_mem _ h)
  have hown : s.vm.findClass RX3 = some m.cls := findClass_of_methodNamed B.named
  have hlocks := B.notSynchronized
  have hl := lv_entry ([.int p0, .int p1]) (n := 3) (Nat.le_of_ble_eq_true rfl)
  rw [lg_entry_eq]
  generalize (lg_sl ([.int p0, .int p1]) ++ List.replicate (3 - (lg_sl ([.int p0, .int p1])).length) Slot.unset).toArray = ls at hl ⊢
  have hl : lv_has ls 3 [(0, .int p0), (1, .int p1)] := hl
  unfold wpX3_apart at hw
  refine lv_iload_n hx hb dX3_apart_0 rfl (lv_at hl 0 rfl) ?_
  refine lv_iload_n hx hb dX3_apart_1 rfl (lv_at hl 1 rfl) ?_
  refine lv_isub hx hb dX3_apart_2 ?_
  refine s_calli (As := [.int (p0 - p1)]) (rest := []) ⟨hx, hb, hml, hown, hts⟩ (metX3_brought l _ (p0 - p1)) (va_cwS 1 hts (lw_S q2110 q2111 q85 q2112) rfl rfl rfl (by decide +kernel) ⟨Nat.le_of_ble_eq_true rfl, Nat.le_of_ble_eq_true rfl⟩) hw rfl hl.1 rfl (Nat.le_of_ble_eq_true rfl) dX3_apart_3 ⟨Nat.le_refl _, Nat.le_refl _⟩ (fun r_1 hw => ?_)
  refine lv_istore_n (lv' := [(2, .int r_1), (0, .int p0), (1, .int p1)]) hx hb dX3_apart_6 rfl hl (by decide) rfl (fun ls hl => ?_)
  refine lv_iload_n hx hb dX3_apart_7 rfl (lv_at hl 0 rfl) ?_
  refine lv_sipush (v := 21600) hx hb dX3_apart_8 (by decide) ?_
  refine lv_iload_n hx hb dX3_apart_11 rfl (lv_at hl 0 rfl) ?_
  refine lv_isub hx hb dX3_apart_12 ?_
  refine lv_icmp_le (tgt := 24) hx hb dX3_apart_13 (by decide) (fun c_2 => ?_) (fun c_2 => ?_)
  · have hw := hw.1 c_2
    refine lv_iload_n hx hb dX3_apart_24 rfl (lv_at hl 0 rfl) ?_
    exact s_iret hx hb hr hlocks dX3_apart_25 hw
  · have hw := hw.2 c_2
    refine lv_sipush (v := 21600) hx hb dX3_apart_16 (by decide) ?_
    refine lv_iload_n hx hb dX3_apart_19 rfl (lv_at hl 0 rfl) ?_
    refine lv_isub hx hb dX3_apart_20 ?_
    refine lv_goto (tgt := 25) hx hb dX3_apart_21 (by decide) ?_
    exact s_iret hx hb hr hlocks dX3_apart_25 hw
def wpX3_meet (post : Int32 → mF → mR → mL → mG → Prop) (F : mF) (R : mR) (L : mL) (G : mG) (p1 : Int32) (p2 : Int32) (p3 : Int32) (p4 : Int32) : Prop := wpX3_armAngle (fun r_1 F_2 R_3 L_4 G_5 => wpX3_armAngle (fun r_6 F_7 R_8 L_9 G_10 => wpX3_apart (fun r_11 => ((p4 < r_11 → post 0 F_7 R_8 L_9 G_10) ∧ (¬ p4 < r_11 → post 1 F_7 R_8 L_9 G_10))) r_1 r_6) F_2 R_3 L_4 G_5 p2 p3) F R L G p1 p3
abbrev wsX3_meet : List Cond := ws_ yX3_meet cX3_meet 5 (some .boolean)
set_option maxHeartbeats 8000000 in
theorem metX3_meet (l : Launch) (K : KT) (h : Nat) (a : Nat → Nat) (hap : mAp h a) (post : Int32 → mF → mR → mL → mG → Prop) (F : mF) (R : mR) (L : mL) (G : mG) (p1 : Int32) (p2 : Int32) (p3 : Int32) (p4 : Int32) : Met l yX3_meet wsX3_meet (rmo 2 46) (mPre K h a F R L G [.int p1, .int p2, .int p3, .int p4] (wpX3_meet post F R L G p1 p2 p3 p4)) (mQi post K h a) 0 0 (mA h a) := by
  refine Met.ofW (cc := cX3_meet) (maxL := 5) (ret := (some .boolean)) (by decide) rfl ?_
  intro p e s m args below meth c s₁ B hml hv
  obtain ⟨rfl, hP, hK, hw⟩ := hv
  have hx := B.exec
  have hb := B.bytes
  have hr := B.returns
  have hts := atoms_spec (ws := wsX3_meet) B.pre
  have hts : ∀ w ∈ lw_all, w.before _ s = true := fun w h => hts w (List.mem_cons_of_mem _ h)
  have hown : s.vm.findClass RX3 = some m.cls := findClass_of_methodNamed B.named
  have hlocks := B.notSynchronized
  have hl := lv_entry ([.ref h, .int p1, .int p2, .int p3, .int p4]) (n := 5) (Nat.le_of_ble_eq_true rfl)
  rw [lg_entry_eq]
  generalize (lg_sl ([.ref h, .int p1, .int p2, .int p3, .int p4]) ++ List.replicate (5 - (lg_sl ([.ref h, .int p1, .int p2, .int p3, .int p4])).length) Slot.unset).toArray = ls at hl ⊢
  have hl : lv_has ls 5 [(0, .ref h), (1, .int p1), (2, .int p2), (3, .int p3), (4, .int p4)] := hl
  have hS : va_S (mA h a) s.heap s.heap [] := va_S.rf
  unfold wpX3_meet at hw
  refine lv_aload_n hx hb dX3_meet_0 rfl (lv_at hl 0 rfl) ?_
  refine lv_iload_n hx hb dX3_meet_1 rfl (lv_at hl 1 rfl) ?_
  refine lv_iload_n hx hb dX3_meet_2 rfl (lv_at hl 3 rfl) ?_
  refine m_calli (As := [.int p1, .int p3]) (rest := []) ⟨hx, hb, hml, hown, hts⟩ (metX3_armAngle l K h a hap _ F R L G p1 p3) (cwV 2 hts (lw_V q2101 q2103 qs56 q85 q2104) rfl rfl rfl (by decide +kernel) ⟨Nat.le_of_ble_eq_true rfl, Nat.le_of_ble_eq_true rfl⟩) hK hP hS hw rfl hl.1 rfl (Nat.le_of_ble_eq_true rfl) dX3_meet_3 ⟨Nat.le_refl _, Nat.le_refl _⟩ (fun r_1 F_2 R_3 L_4 G_5 H locs hw hP hS => ?_)
  refine lv_aload_n hx hb dX3_meet_6 rfl (lv_at hl 0 rfl) ?_
  refine lv_iload_n hx hb dX3_meet_7 rfl (lv_at hl 2 rfl) ?_
  refine lv_iload_n hx hb dX3_meet_8 rfl (lv_at hl 3 rfl) ?_
  refine m_calli (As := [.int p2, .int p3]) (rest := [.int r_1]) ⟨hx, hb, hml, hown, hts⟩ (metX3_armAngle l K h a hap _ F_2 R_3 L_4 G_5 p2 p3) (cwV 2 hts (lw_V q2101 q2103 qs56 q85 q2104) rfl rfl rfl (by decide +kernel) ⟨Nat.le_of_ble_eq_true rfl, Nat.le_of_ble_eq_true rfl⟩) hK hP hS hw rfl hl.1 rfl (Nat.le_of_ble_eq_true rfl) dX3_meet_9 ⟨Nat.le_refl _, Nat.le_refl _⟩ (fun r_6 F_7 R_8 L_9 G_10 H locs hw hP hS => ?_)
  refine s_calli (As := [.int r_1, .int r_6]) (rest := []) ⟨hx, hb, hml, hown, hts⟩ (metX3_apart l _ r_1 r_6) (va_cwS 2 hts (lw_S q2152 q2153 q85 q2154) rfl rfl rfl (by decide +kernel) ⟨Nat.le_of_ble_eq_true rfl, Nat.le_of_ble_eq_true rfl⟩) hw rfl hl.1 rfl (Nat.le_of_ble_eq_true rfl) dX3_meet_12 ⟨Nat.le_refl _, Nat.le_refl _⟩ (fun r_11 hw => ?_)
  refine lv_iload hx hb dX3_meet_15 (lv_at hl 4 rfl) ?_
  refine lv_icmp_gt (tgt := 24) hx hb dX3_meet_17 (by decide) (fun c_12 => ?_) (fun c_12 => ?_)
  · have hw := hw.1 c_12
    refine lv_iconst (v := 0) hx hb dX3_meet_24 (by decide) ?_
    exact m_zret hx hb hr hlocks hP hS dX3_meet_25 (Or.inl rfl) hw
  · have hw := hw.2 c_12
    refine lv_iconst (v := 1) hx hb dX3_meet_20 (by decide) ?_
    refine lv_goto (tgt := 25) hx hb dX3_meet_21 (by decide) ?_
    exact m_zret hx hb hr hlocks hP hS dX3_meet_25 (Or.inr rfl) hw
def wpX3_meetIn_18 (post : Int32 → mF → mR → mL → mG → Prop) : Nat → Int32 → Int32 → Int32 → Int32 → mF → mR → mL → mG → Prop
  | 0 => fun _ _ _ _ _ _ _ _ => False
  | n + 1 => fun x1 x2 x3 x4 F R L G => ((1000 < x4 → wpX3_fails (fun r_2 F_3 R_4 L_5 G_6 => post r_2 F_3 R_4 L_5 G_6) F R L G 2) ∧ (¬ 1000 < x4 → wpX3_meet (fun r_7 F_8 R_9 L_10 G_11 => ((r_7 = 0 → (∀ x4_13 : Int32, x4_13 = x4 + 1 → wpX3_meetIn_18 post n x1 x2 x3 x4_13 F_8 R_9 L_10 G_11)) ∧ (¬ r_7 = 0 → post x4 F_8 R_9 L_10 G_11))) F R L G x1 x2 ((R 0 111) + x4) x3))
def wpX3_meetIn (post : Int32 → mF → mR → mL → mG → Prop) (F : mF) (R : mR) (L : mL) (G : mG) (p1 : Int32) (p2 : Int32) (p3 : Int32) : Prop := wpX3_isTolerance (fun r_14 => wpX3_asksArms (fun r_15 F_16 R_17 L_18 G_19 => ((r_15 = 0 → post 0 F_16 R_17 L_18 G_19) ∧ (¬ r_15 = 0 → ∃ fu : Nat, wpX3_meetIn_18 post fu p1 p2 p3 1 F_16 R_17 L_18 G_19))) F R L G p1 p2 r_14) p3
abbrev wsX3_meetIn : List Cond := ws_ yX3_meetIn cX3_meetIn 5 (some .int)
set_option maxHeartbeats 8000000 in
theorem metX3_meetIn (l : Launch) (K : KT) (h : Nat) (a : Nat → Nat) (hap : mAp h a) (post : Int32 → mF → mR → mL → mG → Prop) (F : mF) (R : mR) (L : mL) (G : mG) (p1 : Int32) (p2 : Int32) (p3 : Int32) : Met l yX3_meetIn wsX3_meetIn (rmo 6 154) (mPre K h a F R L G [.int p1, .int p2, .int p3] (wpX3_meetIn post F R L G p1 p2 p3)) (mQi post K h a) 0 0 (mA h a) := by
  refine Met.ofW (cc := cX3_meetIn) (maxL := 5) (ret := (some .int)) (by decide) rfl ?_
  intro p e s m args below meth c s₁ B hml hv
  obtain ⟨rfl, hP, hK, hw⟩ := hv
  have hx := B.exec
  have hb := B.bytes
  have hr := B.returns
  have hts := atoms_spec (ws := wsX3_meetIn) B.pre
  have hts : ∀ w ∈ lw_all, w.before _ s = true := fun w h => hts w (List.mem_cons_of_mem _ h)
  have hown : s.vm.findClass RX3 = some m.cls := findClass_of_methodNamed B.named
  have hlocks := B.notSynchronized
  have hl := lv_entry ([.ref h, .int p1, .int p2, .int p3]) (n := 5) (Nat.le_of_ble_eq_true rfl)
  rw [lg_entry_eq]
  generalize (lg_sl ([.ref h, .int p1, .int p2, .int p3]) ++ List.replicate (5 - (lg_sl ([.ref h, .int p1, .int p2, .int p3])).length) Slot.unset).toArray = ls at hl ⊢
  have hl : lv_has ls 5 [(0, .ref h), (1, .int p1), (2, .int p2), (3, .int p3)] := hl
  have hS : va_S (mA h a) s.heap s.heap [] := va_S.rf
  have T18 : ∀ (n : Nat), ∀ (x1 : Int32) (x2 : Int32) (x3 : Int32) (x4 : Int32) (F : mF) (R : mR) (L : mL) (G : mG) (H : Heap) (locs : List Loc) (ls : Array Slot), mP K h a F R L G H → va_S (mA h a) s.heap H locs → lv_has ls 5 [(0, .ref h), (1, .int x1), (2, .int x2), (3, .int x3), (4, .int x4)] → wpX3_meetIn_18 post n x1 x2 x3 x4 F R L G → W p l e (rmo 6 154) s m ([.ref h, .int p1, .int p2, .int p3] : List Value).toArray below meth c H locs 0 0 (MQ below (mQi post K h a) ([.ref h, .int p1, .int p2, .int p3] : List Value).toArray s 0 0 (mA h a)) (F0 m 18 ls []) := by
    intro n
    induction n with
    | zero =>
      intro x1 x2 x3 x4 F R L G H locs ls hP hS hl hw
      exact False.elim hw
    | succ n ih =>
      intro x1 x2 x3 x4 F R L G H locs ls hP hS hl hw
      unfold wpX3_meetIn_18 at hw
      refine lv_iload hx hb dX3_meetIn_18 (lv_at hl 4 rfl) ?_
      refine lv_sipush (v := 1000) hx hb dX3_meetIn_20 (by decide) ?_
      refine lv_icmp_gt (tgt := 55) hx hb dX3_meetIn_23 (by decide) (fun c_1 => ?_) (fun c_1 => ?_)
      · have hw := hw.1 c_1
        refine lv_aload_n hx hb dX3_meetIn_55 rfl (lv_at hl 0 rfl) ?_
        refine lv_iconst (v := 2) hx hb dX3_meetIn_56 (by decide) ?_
        refine m_calli (As := [.int 2]) (rest := []) ⟨hx, hb, hml, hown, hts⟩ (metX3_fails l K h a hap _ F R L G 2) (cwV 1 hts (lw_V q1838 q1840 qs27 q85 q1841) rfl rfl rfl (by decide +kernel) ⟨Nat.le_of_ble_eq_true rfl, Nat.le_of_ble_eq_true rfl⟩) hK hP hS hw rfl hl.1 rfl (Nat.le_of_ble_eq_true rfl) dX3_meetIn_57 ⟨Nat.le_refl _, Nat.le_refl _⟩ (fun r_2 F_3 R_4 L_5 G_6 H locs hw hP hS => ?_)
        exact m_iret hx hb hr hlocks hP hS dX3_meetIn_60 hw
      · have hw := hw.2 c_1
        refine lv_aload_n hx hb dX3_meetIn_26 rfl (lv_at hl 0 rfl) ?_
        refine lv_iload_n hx hb dX3_meetIn_27 rfl (lv_at hl 1 rfl) ?_
        refine lv_iload_n hx hb dX3_meetIn_28 rfl (lv_at hl 2 rfl) ?_
        refine lv_aload_n hx hb dX3_meetIn_29 rfl (lv_at hl 0 rfl) ?_
        refine m_get hx hb hts hown hK hP 0 (by decide) q1728 rfl dX3_meetIn_30 ?_
        refine lv_bipush (v := 111) hx hb dX3_meetIn_33 (by decide) ?_
        refine m_iald (j := 111) hx hb hK hP 0 1 113 rfl (by decide) (vpd (by decide)) dX3_meetIn_35 ?_
        refine lv_iload hx hb dX3_meetIn_36 (lv_at hl 4 rfl) ?_
        refine lv_iadd hx hb dX3_meetIn_38 ?_
        refine lv_iload_n hx hb dX3_meetIn_39 rfl (lv_at hl 3 rfl) ?_
        refine m_calli (As := [.int x1, .int x2, .int ((R 0 111) + x4), .int x3]) (rest := []) ⟨hx, hb, hml, hown, hts⟩ (metX3_meet l K h a hap _ F R L G x1 x2 ((R 0 111) + x4) x3) (cwV 4 hts (lw_V q2148 q2150 qs62 q85 q2151) rfl rfl rfl (by decide +kernel) ⟨Nat.le_of_ble_eq_true rfl, Nat.le_of_ble_eq_true rfl⟩) hK hP hS hw rfl hl.1 rfl (Nat.le_of_ble_eq_true rfl) dX3_meetIn_40 ⟨Nat.le_refl _, Nat.le_refl _⟩ (fun r_7 F_8 R_9 L_10 G_11 H locs hw hP hS => ?_)
        refine lv_if_eq (tgt := 49) hx hb dX3_meetIn_43 (by decide) (fun c_12 => ?_) (fun c_12 => ?_)
        · have hw := hw.1 c_12
          obtain ⟨x4_13, ex4_13⟩ : ∃ y : Int32, y = x4 + 1 := ⟨_, rfl⟩
          have hw := hw x4_13 ex4_13
          refine lv_iinc (v := x4_13) (lv' := [(4, .int x4_13), (0, .ref h), (1, .int x1), (2, .int x2), (3, .int x3)]) hx hb dX3_meetIn_49 hl (k := 4) rfl (by rw [ex4_13]; rfl) (by decide) rfl (fun ls hl => ?_)
          refine lv_goto (tgt := 18) hx hb dX3_meetIn_52 (by decide) ?_
          exact ih x1 x2 x3 x4_13 F_8 R_9 L_10 G_11 _ _ ls hP hS (lv_sub hl [1, 2, 3, 4, 0] rfl) hw
        · have hw := hw.2 c_12
          refine lv_iload hx hb dX3_meetIn_46 (lv_at hl 4 rfl) ?_
          exact m_iret hx hb hr hlocks hP hS dX3_meetIn_48 hw
  unfold wpX3_meetIn at hw
  refine lv_aload_n hx hb dX3_meetIn_0 rfl (lv_at hl 0 rfl) ?_
  refine lv_iload_n hx hb dX3_meetIn_1 rfl (lv_at hl 1 rfl) ?_
  refine lv_iload_n hx hb dX3_meetIn_2 rfl (lv_at hl 2 rfl) ?_
  refine lv_iload_n hx hb dX3_meetIn_3 rfl (lv_at hl 3 rfl) ?_
  refine s_calli (As := [.int p3]) (rest := [.int p2, .int p1, .ref h]) ⟨hx, hb, hml, hown, hts⟩ (metX3_isTolerance l _ p3) (va_cwS 1 hts (lw_S q2137 q2138 q85 q2139) rfl rfl rfl (by decide +kernel) ⟨Nat.le_of_ble_eq_true rfl, Nat.le_of_ble_eq_true rfl⟩) hw rfl hl.1 rfl (Nat.le_of_ble_eq_true rfl) dX3_meetIn_4 ⟨Nat.le_refl _, Nat.le_refl _⟩ (fun r_14 hw => ?_)
  refine m_calli (As := [.int p1, .int p2, .int r_14]) (rest := []) ⟨hx, hb, hml, hown, hts⟩ (metX3_asksArms l K h a hap _ F R L G p1 p2 r_14) (cwV 3 hts (lw_V q2140 q2142 qs60 q85 q2143) rfl rfl rfl (by decide +kernel) ⟨Nat.le_of_ble_eq_true rfl, Nat.le_of_ble_eq_true rfl⟩) hK hP hS hw rfl hl.1 rfl (Nat.le_of_ble_eq_true rfl) dX3_meetIn_7 ⟨Nat.le_refl _, Nat.le_refl _⟩ (fun r_15 F_16 R_17 L_18 G_19 H locs hw hP hS => ?_)
  refine lv_if_ne (tgt := 15) hx hb dX3_meetIn_10 (by decide) (fun c_20 => ?_) (fun c_20 => ?_)
  · have hw := hw.2 (c_20)
    refine lv_iconst (v := 1) hx hb dX3_meetIn_15 (by decide) ?_
    refine lv_istore (lv' := [(4, .int 1), (0, .ref h), (1, .int p1), (2, .int p2), (3, .int p3)]) hx hb dX3_meetIn_16 hl (by decide) rfl (fun ls hl => ?_)
    obtain ⟨fu, hw⟩ := hw
    exact T18 fu p1 p2 p3 1 F_16 R_17 L_18 G_19 _ _ ls hP hS (lv_sub hl [1, 2, 3, 4, 0] rfl) hw
  · have hw := hw.1 (c_20)
    refine lv_iconst (v := 0) hx hb dX3_meetIn_13 (by decide) ?_
    exact m_iret hx hb hr hlocks hP hS dX3_meetIn_14 hw
def wpX3_meetings_56 (post : Int32 → mF → mR → mL → mG → Prop) (J21 : Int32 → Int32 → Int32 → Int32 → Int32 → mF → mR → mL → mG → Prop) (x1 : Int32) (x2 : Int32) (x3 : Int32) (x5 : Int32) (z0 : Int32) (z1 : Int32) (F : mF) (R : mR) (L : mL) (G : mG) : Prop := (∀ x4_1 : Int32, x4_1 = z0 + z1 → (∀ x5_2 : Int32, x5_2 = x5 + 1 → J21 x1 x2 x3 x4_1 x5_2 F R L G))
def wpX3_meetings_21 (post : Int32 → mF → mR → mL → mG → Prop) : Nat → Int32 → Int32 → Int32 → Int32 → Int32 → mF → mR → mL → mG → Prop
  | 0 => fun _ _ _ _ _ _ _ _ _ => False
  | n + 1 => fun x1 x2 x3 x4 x5 F R L G => ((1000 < x5 → post x4 F R L G) ∧ (¬ 1000 < x5 → wpX3_meet (fun r_4 F_5 R_6 L_7 G_8 => ((r_4 = 0 → wpX3_meetings_56 post (wpX3_meetings_21 post n) x1 x2 x3 x5 x4 0 F_5 R_6 L_7 G_8) ∧ (¬ r_4 = 0 → wpX3_meetings_56 post (wpX3_meetings_21 post n) x1 x2 x3 x5 x4 1 F_5 R_6 L_7 G_8))) F R L G x1 x2 ((R 0 111) + x5) x3))
def wpX3_meetings (post : Int32 → mF → mR → mL → mG → Prop) (F : mF) (R : mR) (L : mL) (G : mG) (p1 : Int32) (p2 : Int32) (p3 : Int32) : Prop := wpX3_isTolerance (fun r_10 => wpX3_asksArms (fun r_11 F_12 R_13 L_14 G_15 => ((r_11 = 0 → post 0 F_12 R_13 L_14 G_15) ∧ (¬ r_11 = 0 → ∃ fu : Nat, wpX3_meetings_21 post fu p1 p2 p3 0 1 F_12 R_13 L_14 G_15))) F R L G p1 p2 r_10) p3
abbrev wsX3_meetings : List Cond := ws_ yX3_meetings cX3_meetings 6 (some .int)
set_option maxHeartbeats 8000000 in
theorem metX3_meetings (l : Launch) (K : KT) (h : Nat) (a : Nat → Nat) (hap : mAp h a) (post : Int32 → mF → mR → mL → mG → Prop) (F : mF) (R : mR) (L : mL) (G : mG) (p1 : Int32) (p2 : Int32) (p3 : Int32) : Met l yX3_meetings wsX3_meetings (rmo 6 154) (mPre K h a F R L G [.int p1, .int p2, .int p3] (wpX3_meetings post F R L G p1 p2 p3)) (mQi post K h a) 0 0 (mA h a) := by
  refine Met.ofW (cc := cX3_meetings) (maxL := 6) (ret := (some .int)) (by decide) rfl ?_
  intro p e s m args below meth c s₁ B hml hv
  obtain ⟨rfl, hP, hK, hw⟩ := hv
  have hx := B.exec
  have hb := B.bytes
  have hr := B.returns
  have hts := atoms_spec (ws := wsX3_meetings) B.pre
  have hts : ∀ w ∈ lw_all, w.before _ s = true := fun w h => hts w (List.mem_cons_of_mem _ h)
  have hown : s.vm.findClass RX3 = some m.cls := findClass_of_methodNamed B.named
  have hlocks := B.notSynchronized
  have hl := lv_entry ([.ref h, .int p1, .int p2, .int p3]) (n := 6) (Nat.le_of_ble_eq_true rfl)
  rw [lg_entry_eq]
  generalize (lg_sl ([.ref h, .int p1, .int p2, .int p3]) ++ List.replicate (6 - (lg_sl ([.ref h, .int p1, .int p2, .int p3])).length) Slot.unset).toArray = ls at hl ⊢
  have hl : lv_has ls 6 [(0, .ref h), (1, .int p1), (2, .int p2), (3, .int p3)] := hl
  have hS : va_S (mA h a) s.heap s.heap [] := va_S.rf
  have T56 : ∀ (J21 : Int32 → Int32 → Int32 → Int32 → Int32 → mF → mR → mL → mG → Prop) (hJ21 : ∀ (x1 : Int32) (x2 : Int32) (x3 : Int32) (x4 : Int32) (x5 : Int32) (F : mF) (R : mR) (L : mL) (G : mG) (H : Heap) (locs : List Loc) (ls : Array Slot), mP K h a F R L G H → va_S (mA h a) s.heap H locs → lv_has ls 6 [(0, .ref h), (1, .int x1), (2, .int x2), (3, .int x3), (4, .int x4), (5, .int x5)] → J21 x1 x2 x3 x4 x5 F R L G → W p l e (rmo 6 154) s m ([.ref h, .int p1, .int p2, .int p3] : List Value).toArray below meth c H locs 0 0 (MQ below (mQi post K h a) ([.ref h, .int p1, .int p2, .int p3] : List Value).toArray s 0 0 (mA h a)) (F0 m 21 ls [])), ∀ (x1 : Int32) (x2 : Int32) (x3 : Int32) (x5 : Int32) (z0 : Int32) (z1 : Int32) (F : mF) (R : mR) (L : mL) (G : mG) (H : Heap) (locs : List Loc) (ls : Array Slot), mP K h a F R L G H → va_S (mA h a) s.heap H locs → lv_has ls 6 [(0, .ref h), (1, .int x1), (2, .int x2), (3, .int x3), (5, .int x5)] → wpX3_meetings_56 post J21 x1 x2 x3 x5 z0 z1 F R L G → W p l e (rmo 6 154) s m ([.ref h, .int p1, .int p2, .int p3] : List Value).toArray below meth c H locs 0 0 (MQ below (mQi post K h a) ([.ref h, .int p1, .int p2, .int p3] : List Value).toArray s 0 0 (mA h a)) (F0 m 56 ls [.int z1, .int z0]) := by
    intro J21 hJ21
    intro x1 x2 x3 x5 z0 z1 F R L G H locs ls hP hS hl hw
    unfold wpX3_meetings_56 at hw
    refine lv_iadd hx hb dX3_meetings_56 ?_
    refine lv_topi (fun x4_1 ex4_1 => ?_)
    have hw := hw x4_1 ex4_1
    refine lv_istore (lv' := [(4, .int x4_1), (0, .ref h), (1, .int x1), (2, .int x2), (3, .int x3), (5, .int x5)]) hx hb dX3_meetings_57 hl (by decide) rfl (fun ls hl => ?_)
    obtain ⟨x5_2, ex5_2⟩ : ∃ y : Int32, y = x5 + 1 := ⟨_, rfl⟩
    have hw := hw x5_2 ex5_2
    refine lv_iinc (v := x5_2) (lv' := [(5, .int x5_2), (4, .int x4_1), (0, .ref h), (1, .int x1), (2, .int x2), (3, .int x3)]) hx hb dX3_meetings_59 hl (k := 5) rfl (by rw [ex5_2]; rfl) (by decide) rfl (fun ls hl => ?_)
    refine lv_goto (tgt := 21) hx hb dX3_meetings_62 (by decide) ?_
    exact hJ21 x1 x2 x3 x4_1 x5_2 F R L G _ _ ls hP hS (lv_sub hl [2, 3, 4, 5, 1, 0] rfl) hw
  have T21 : ∀ (n : Nat), ∀ (x1 : Int32) (x2 : Int32) (x3 : Int32) (x4 : Int32) (x5 : Int32) (F : mF) (R : mR) (L : mL) (G : mG) (H : Heap) (locs : List Loc) (ls : Array Slot), mP K h a F R L G H → va_S (mA h a) s.heap H locs → lv_has ls 6 [(0, .ref h), (1, .int x1), (2, .int x2), (3, .int x3), (4, .int x4), (5, .int x5)] → wpX3_meetings_21 post n x1 x2 x3 x4 x5 F R L G → W p l e (rmo 6 154) s m ([.ref h, .int p1, .int p2, .int p3] : List Value).toArray below meth c H locs 0 0 (MQ below (mQi post K h a) ([.ref h, .int p1, .int p2, .int p3] : List Value).toArray s 0 0 (mA h a)) (F0 m 21 ls []) := by
    intro n
    induction n with
    | zero =>
      intro x1 x2 x3 x4 x5 F R L G H locs ls hP hS hl hw
      exact False.elim hw
    | succ n ih =>
      intro x1 x2 x3 x4 x5 F R L G H locs ls hP hS hl hw
      unfold wpX3_meetings_21 at hw
      refine lv_iload hx hb dX3_meetings_21 (lv_at hl 5 rfl) ?_
      refine lv_sipush (v := 1000) hx hb dX3_meetings_23 (by decide) ?_
      refine lv_icmp_gt (tgt := 65) hx hb dX3_meetings_26 (by decide) (fun c_3 => ?_) (fun c_3 => ?_)
      · have hw := hw.1 c_3
        refine lv_iload hx hb dX3_meetings_65 (lv_at hl 4 rfl) ?_
        exact m_iret hx hb hr hlocks hP hS dX3_meetings_67 hw
      · have hw := hw.2 c_3
        refine lv_iload hx hb dX3_meetings_29 (lv_at hl 4 rfl) ?_
        refine lv_aload_n hx hb dX3_meetings_31 rfl (lv_at hl 0 rfl) ?_
        refine lv_iload_n hx hb dX3_meetings_32 rfl (lv_at hl 1 rfl) ?_
        refine lv_iload_n hx hb dX3_meetings_33 rfl (lv_at hl 2 rfl) ?_
        refine lv_aload_n hx hb dX3_meetings_34 rfl (lv_at hl 0 rfl) ?_
        refine m_get hx hb hts hown hK hP 0 (by decide) q1728 rfl dX3_meetings_35 ?_
        refine lv_bipush (v := 111) hx hb dX3_meetings_38 (by decide) ?_
        refine m_iald (j := 111) hx hb hK hP 0 1 113 rfl (by decide) (vpd (by decide)) dX3_meetings_40 ?_
        refine lv_iload hx hb dX3_meetings_41 (lv_at hl 5 rfl) ?_
        refine lv_iadd hx hb dX3_meetings_43 ?_
        refine lv_iload_n hx hb dX3_meetings_44 rfl (lv_at hl 3 rfl) ?_
        refine m_calli (As := [.int x1, .int x2, .int ((R 0 111) + x5), .int x3]) (rest := [.int x4]) ⟨hx, hb, hml, hown, hts⟩ (metX3_meet l K h a hap _ F R L G x1 x2 ((R 0 111) + x5) x3) (cwV 4 hts (lw_V q2148 q2150 qs62 q85 q2151) rfl rfl rfl (by decide +kernel) ⟨Nat.le_of_ble_eq_true rfl, Nat.le_of_ble_eq_true rfl⟩) hK hP hS hw rfl hl.1 rfl (Nat.le_of_ble_eq_true rfl) dX3_meetings_45 ⟨Nat.le_refl _, Nat.le_refl _⟩ (fun r_4 F_5 R_6 L_7 G_8 H locs hw hP hS => ?_)
        refine lv_if_eq (tgt := 55) hx hb dX3_meetings_48 (by decide) (fun c_9 => ?_) (fun c_9 => ?_)
        · have hw := hw.1 c_9
          refine lv_iconst (v := 0) hx hb dX3_meetings_55 (by decide) ?_
          exact T56 _ ih x1 x2 x3 x5 x4 0 F_5 R_6 L_7 G_8 _ _ ls hP hS (lv_sub hl [0, 1, 2, 3, 5] rfl) hw
        · have hw := hw.2 c_9
          refine lv_iconst (v := 1) hx hb dX3_meetings_51 (by decide) ?_
          refine lv_goto (tgt := 56) hx hb dX3_meetings_52 (by decide) ?_
          exact T56 _ ih x1 x2 x3 x5 x4 1 F_5 R_6 L_7 G_8 _ _ ls hP hS (lv_sub hl [0, 1, 2, 3, 5] rfl) hw
  unfold wpX3_meetings at hw
  refine lv_aload_n hx hb dX3_meetings_0 rfl (lv_at hl 0 rfl) ?_
  refine lv_iload_n hx hb dX3_meetings_1 rfl (lv_at hl 1 rfl) ?_
  refine lv_iload_n hx hb dX3_meetings_2 rfl (lv_at hl 2 rfl) ?_
  refine lv_iload_n hx hb dX3_meetings_3 rfl (lv_at hl 3 rfl) ?_
  refine s_calli (As := [.int p3]) (rest := [.int p2, .int p1, .ref h]) ⟨hx, hb, hml, hown, hts⟩ (metX3_isTolerance l _ p3) (va_cwS 1 hts (lw_S q2137 q2138 q85 q2139) rfl rfl rfl (by decide +kernel) ⟨Nat.le_of_ble_eq_true rfl, Nat.le_of_ble_eq_true rfl⟩) hw rfl hl.1 rfl (Nat.le_of_ble_eq_true rfl) dX3_meetings_4 ⟨Nat.le_refl _, Nat.le_refl _⟩ (fun r_10 hw => ?_)
  refine m_calli (As := [.int p1, .int p2, .int r_10]) (rest := []) ⟨hx, hb, hml, hown, hts⟩ (metX3_asksArms l K h a hap _ F R L G p1 p2 r_10) (cwV 3 hts (lw_V q2140 q2142 qs60 q85 q2143) rfl rfl rfl (by decide +kernel) ⟨Nat.le_of_ble_eq_true rfl, Nat.le_of_ble_eq_true rfl⟩) hK hP hS hw rfl hl.1 rfl (Nat.le_of_ble_eq_true rfl) dX3_meetings_7 ⟨Nat.le_refl _, Nat.le_refl _⟩ (fun r_11 F_12 R_13 L_14 G_15 H locs hw hP hS => ?_)
  refine lv_if_ne (tgt := 15) hx hb dX3_meetings_10 (by decide) (fun c_16 => ?_) (fun c_16 => ?_)
  · have hw := hw.2 (c_16)
    refine lv_iconst (v := 0) hx hb dX3_meetings_15 (by decide) ?_
    refine lv_istore (lv' := [(4, .int 0), (0, .ref h), (1, .int p1), (2, .int p2), (3, .int p3)]) hx hb dX3_meetings_16 hl (by decide) rfl (fun ls hl => ?_)
    refine lv_iconst (v := 1) hx hb dX3_meetings_18 (by decide) ?_
    refine lv_istore (lv' := [(5, .int 1), (4, .int 0), (0, .ref h), (1, .int p1), (2, .int p2), (3, .int p3)]) hx hb dX3_meetings_19 hl (by decide) rfl (fun ls hl => ?_)
    obtain ⟨fu, hw⟩ := hw
    exact T21 fu p1 p2 p3 0 1 F_12 R_13 L_14 G_15 _ _ ls hP hS (lv_sub hl [2, 3, 4, 5, 1, 0] rfl) hw
  · have hw := hw.1 (c_16)
    refine lv_iconst (v := 0) hx hb dX3_meetings_13 (by decide) ?_
    exact m_iret hx hb hr hlocks hP hS dX3_meetings_14 hw
def wpX3_differs (post : mF → mR → mL → mG → Prop) (F : mF) (R : mR) (L : mL) (G : mG) (p1 : Int32) (p2 : Int32) : Prop := (vp_in p1 12 ∧ (vp_in p2 12 ∧ (vp_in p2 12 ∧ (vp_in p1 12 ∧ (∀ x3_5 : Int64, x3_5 = ((L 10 (Int32.toNatClampNeg p1)) * (L 11 (Int32.toNatClampNeg p2))) - ((L 10 (Int32.toNatClampNeg p2)) * (L 11 (Int32.toNatClampNeg p1))) → (vp_in p1 12 ∧ (vp_in p2 12 ∧ (∀ x5_8 : Int64, x5_8 = (L 11 (Int32.toNatClampNeg p1)) * (L 11 (Int32.toNatClampNeg p2)) → wpX3_divisor (fun r_9 => (¬ r_9 = 0 ∧ (¬ r_9 = 0 ∧ post F R L (va_up (va_up G 14 (x3_5 / r_9)) 15 (x5_8 / r_9))))) x3_5 x5_8))))))))
abbrev wsX3_differs : List Cond := ws_ yX3_differs cX3_differs 9 none
set_option maxHeartbeats 8000000 in
theorem metX3_differs (l : Launch) (K : KT) (h : Nat) (a : Nat → Nat) (hap : mAp h a) (post : mF → mR → mL → mG → Prop) (F : mF) (R : mR) (L : mL) (G : mG) (p1 : Int32) (p2 : Int32) : Met l yX3_differs wsX3_differs (rmo 1 29) (mPre K h a F R L G [.int p1, .int p2] (wpX3_differs post F R L G p1 p2)) (mQv post K h a) 0 0 (mA h a) := by
  refine Met.ofW (cc := cX3_differs) (maxL := 9) (ret := none) (by decide) rfl ?_
  intro p e s m args below meth c s₁ B hml hv
  obtain ⟨rfl, hP, hK, hw⟩ := hv
  have hx := B.exec
  have hb := B.bytes
  have hr := B.returns
  have hts := atoms_spec (ws := wsX3_differs) B.pre
  have hts : ∀ w ∈ lw_all, w.before _ s = true := fun w h => hts w (List.mem_cons_of_mem _ h)
  have hown : s.vm.findClass RX3 = some m.cls := findClass_of_methodNamed B.named
  have hlocks := B.notSynchronized
  have hl := lv_entry ([.ref h, .int p1, .int p2]) (n := 9) (Nat.le_of_ble_eq_true rfl)
  rw [lg_entry_eq]
  generalize (lg_sl ([.ref h, .int p1, .int p2]) ++ List.replicate (9 - (lg_sl ([.ref h, .int p1, .int p2])).length) Slot.unset).toArray = ls at hl ⊢
  have hl : lv_has ls 9 [(0, .ref h), (1, .int p1), (2, .int p2)] := hl
  have hS : va_S (mA h a) s.heap s.heap [] := va_S.rf
  unfold wpX3_differs at hw
  refine lv_aload_n hx hb dX3_differs_0 rfl (lv_at hl 0 rfl) ?_
  refine m_get hx hb hts hown hK hP 10 (by decide) q1738 rfl dX3_differs_1 ?_
  refine lv_iload_n hx hb dX3_differs_4 rfl (lv_at hl 1 rfl) ?_
  obtain ⟨h_1, hw⟩ := hw
  refine m_lald (j := (Int32.toNatClampNeg p1)) hx hb hK hP 10 7 12 rfl rfl h_1 dX3_differs_5 ?_
  refine lv_aload_n hx hb dX3_differs_6 rfl (lv_at hl 0 rfl) ?_
  refine m_get hx hb hts hown hK hP 11 (by decide) q1739 rfl dX3_differs_7 ?_
  refine lv_iload_n hx hb dX3_differs_10 rfl (lv_at hl 2 rfl) ?_
  obtain ⟨h_2, hw⟩ := hw
  refine m_lald (j := (Int32.toNatClampNeg p2)) hx hb hK hP 11 8 12 rfl rfl h_2 dX3_differs_11 ?_
  refine lv_lmul hx hb dX3_differs_12 ?_
  refine lv_aload_n hx hb dX3_differs_13 rfl (lv_at hl 0 rfl) ?_
  refine m_get hx hb hts hown hK hP 10 (by decide) q1738 rfl dX3_differs_14 ?_
  refine lv_iload_n hx hb dX3_differs_17 rfl (lv_at hl 2 rfl) ?_
  obtain ⟨h_3, hw⟩ := hw
  refine m_lald (j := (Int32.toNatClampNeg p2)) hx hb hK hP 10 7 12 rfl rfl h_3 dX3_differs_18 ?_
  refine lv_aload_n hx hb dX3_differs_19 rfl (lv_at hl 0 rfl) ?_
  refine m_get hx hb hts hown hK hP 11 (by decide) q1739 rfl dX3_differs_20 ?_
  refine lv_iload_n hx hb dX3_differs_23 rfl (lv_at hl 1 rfl) ?_
  obtain ⟨h_4, hw⟩ := hw
  refine m_lald (j := (Int32.toNatClampNeg p1)) hx hb hK hP 11 8 12 rfl rfl h_4 dX3_differs_24 ?_
  refine lv_lmul hx hb dX3_differs_25 ?_
  refine lv_lsub hx hb dX3_differs_26 ?_
  refine lv_topl (fun x3_5 ex3_5 => ?_)
  have hw := hw x3_5 ex3_5
  refine lv_lstore_n (lv' := [(3, .long x3_5), (0, .ref h), (1, .int p1), (2, .int p2)]) hx hb dX3_differs_27 rfl hl (by decide) rfl (fun ls hl => ?_)
  refine lv_aload_n hx hb dX3_differs_28 rfl (lv_at hl 1 rfl) ?_
  refine m_get hx hb hts hown hK hP 11 (by decide) q1739 rfl dX3_differs_29 ?_
  refine lv_iload_n hx hb dX3_differs_32 rfl (lv_at hl 2 rfl) ?_
  obtain ⟨h_6, hw⟩ := hw
  refine m_lald (j := (Int32.toNatClampNeg p1)) hx hb hK hP 11 8 12 rfl rfl h_6 dX3_differs_33 ?_
  refine lv_aload_n hx hb dX3_differs_34 rfl (lv_at hl 1 rfl) ?_
  refine m_get hx hb hts hown hK hP 11 (by decide) q1739 rfl dX3_differs_35 ?_
  refine lv_iload_n hx hb dX3_differs_38 rfl (lv_at hl 3 rfl) ?_
  obtain ⟨h_7, hw⟩ := hw
  refine m_lald (j := (Int32.toNatClampNeg p2)) hx hb hK hP 11 8 12 rfl rfl h_7 dX3_differs_39 ?_
  refine lv_lmul hx hb dX3_differs_40 ?_
  refine lv_topl (fun x5_8 ex5_8 => ?_)
  have hw := hw x5_8 ex5_8
  refine lv_lstore (lv' := [(5, .long x5_8), (3, .long x3_5), (0, .ref h), (1, .int p1), (2, .int p2)]) hx hb dX3_differs_41 hl (by decide) rfl (fun ls hl => ?_)
  refine lv_lload_n hx hb dX3_differs_43 rfl (lv_at hl 1 rfl) ?_
  refine lv_lload hx hb dX3_differs_44 (lv_at hl 0 rfl) ?_
  refine s_calll (As := [.long x3_5, .long x5_8]) (rest := []) ⟨hx, hb, hml, hown, hts⟩ (metX3_divisor l _ x3_5 x5_8) (va_cwS 2 hts (lw_S q1900 q1901 q85 q1902) rfl rfl rfl (by decide +kernel) ⟨Nat.le_of_ble_eq_true rfl, Nat.le_of_ble_eq_true rfl⟩) hw rfl hl.1 rfl (Nat.le_of_ble_eq_true rfl) dX3_differs_46 ⟨Nat.le_refl _, Nat.le_refl _⟩ (fun r_9 hw => ?_)
  refine lv_lstore (lv' := [(7, .long r_9), (5, .long x5_8), (3, .long x3_5), (0, .ref h), (1, .int p1), (2, .int p2)]) hx hb dX3_differs_49 hl (by decide) rfl (fun ls hl => ?_)
  refine lv_aload_n hx hb dX3_differs_51 rfl (lv_at hl 3 rfl) ?_
  refine lv_lload_n hx hb dX3_differs_52 rfl (lv_at hl 2 rfl) ?_
  refine lv_lload hx hb dX3_differs_53 (lv_at hl 0 rfl) ?_
  obtain ⟨h_10, hw⟩ := hw
  refine lv_ldiv hx hb dX3_differs_55 h_10 ?_
  refine m_putl hx hb hts hown hK hap hP hS 14 (by decide) q1742 rfl rfl rfl rfl dX3_differs_56 (fun H locs hP hS => ?_)
  refine lv_aload_n hx hb dX3_differs_59 rfl (lv_at hl 3 rfl) ?_
  refine lv_lload hx hb dX3_differs_60 (lv_at hl 1 rfl) ?_
  refine lv_lload hx hb dX3_differs_62 (lv_at hl 0 rfl) ?_
  obtain ⟨h_11, hw⟩ := hw
  refine lv_ldiv hx hb dX3_differs_64 h_11 ?_
  refine m_putl hx hb hts hown hK hap hP hS 15 (by decide) q1743 rfl rfl rfl rfl dX3_differs_65 (fun H locs hP hS => ?_)
  exact m_vret hx hb hr hlocks hP hS dX3_differs_68 hw
def wpX3_asksDifference (post : Int32 → mF → mR → mL → mG → Prop) (F : mF) (R : mR) (L : mL) (G : mG) (p1 : Int32) (p2 : Int32) : Prop := wpX3_asksArms (fun r_1 F_2 R_3 L_4 G_5 => ((r_1 = 0 → post 0 F_2 R_3 L_4 G_5) ∧ (¬ r_1 = 0 → (vp_in (84 + p1) 113 ∧ (vp_in (84 + p2) 113 ∧ wpX3_differs (fun F_9 R_10 L_11 G_12 => post 1 F_9 R_10 L_11 G_12) F_2 R_3 L_4 G_5 (R_3 0 (Int32.toNatClampNeg (84 + p1))) (R_3 0 (Int32.toNatClampNeg (84 + p2)))))))) F R L G p1 p2 1
abbrev wsX3_asksDifference : List Cond := ws_ yX3_asksDifference cX3_asksDifference 3 (some .boolean)
set_option maxHeartbeats 8000000 in
theorem metX3_asksDifference (l : Launch) (K : KT) (h : Nat) (a : Nat → Nat) (hap : mAp h a) (post : Int32 → mF → mR → mL → mG → Prop) (F : mF) (R : mR) (L : mL) (G : mG) (p1 : Int32) (p2 : Int32) : Met l yX3_asksDifference wsX3_asksDifference (rmo 6 154) (mPre K h a F R L G [.int p1, .int p2] (wpX3_asksDifference post F R L G p1 p2)) (mQi post K h a) 0 0 (mA h a) := by
  refine Met.ofW (cc := cX3_asksDifference) (maxL := 3) (ret := (some .boolean)) (by decide) rfl ?_
  intro p e s m args below meth c s₁ B hml hv
  obtain ⟨rfl, hP, hK, hw⟩ := hv
  have hx := B.exec
  have hb := B.bytes
  have hr := B.returns
  have hts := atoms_spec (ws := wsX3_asksDifference) B.pre
  have hts : ∀ w ∈ lw_all, w.before _ s = true := fun w h => hts w (List.mem_cons_of_mem _ h)
  have hown : s.vm.findClass RX3 = some m.cls := findClass_of_methodNamed B.named
  have hlocks := B.notSynchronized
  have hl := lv_entry ([.ref h, .int p1, .int p2]) (n := 3) (Nat.le_of_ble_eq_true rfl)
  rw [lg_entry_eq]
  generalize (lg_sl ([.ref h, .int p1, .int p2]) ++ List.replicate (3 - (lg_sl ([.ref h, .int p1, .int p2])).length) Slot.unset).toArray = ls at hl ⊢
  have hl : lv_has ls 3 [(0, .ref h), (1, .int p1), (2, .int p2)] := hl
  have hS : va_S (mA h a) s.heap s.heap [] := va_S.rf
  unfold wpX3_asksDifference at hw
  refine lv_aload_n hx hb dX3_asksDifference_0 rfl (lv_at hl 0 rfl) ?_
  refine lv_iload_n hx hb dX3_asksDifference_1 rfl (lv_at hl 1 rfl) ?_
  refine lv_iload_n hx hb dX3_asksDifference_2 rfl (lv_at hl 2 rfl) ?_
  refine lv_iconst (v := 1) hx hb dX3_asksDifference_3 (by decide) ?_
  refine m_calli (As := [.int p1, .int p2, .int 1]) (rest := []) ⟨hx, hb, hml, hown, hts⟩ (metX3_asksArms l K h a hap _ F R L G p1 p2 1) (cwV 3 hts (lw_V q2140 q2142 qs60 q85 q2143) rfl rfl rfl (by decide +kernel) ⟨Nat.le_of_ble_eq_true rfl, Nat.le_of_ble_eq_true rfl⟩) hK hP hS hw rfl hl.1 rfl (Nat.le_of_ble_eq_true rfl) dX3_asksDifference_4 ⟨Nat.le_refl _, Nat.le_refl _⟩ (fun r_1 F_2 R_3 L_4 G_5 H locs hw hP hS => ?_)
  refine lv_if_ne (tgt := 12) hx hb dX3_asksDifference_7 (by decide) (fun c_6 => ?_) (fun c_6 => ?_)
  · have hw := hw.2 (c_6)
    refine lv_aload_n hx hb dX3_asksDifference_12 rfl (lv_at hl 0 rfl) ?_
    refine lv_aload_n hx hb dX3_asksDifference_13 rfl (lv_at hl 0 rfl) ?_
    refine m_get hx hb hts hown hK hP 0 (by decide) q1728 rfl dX3_asksDifference_14 ?_
    refine lv_bipush (v := 84) hx hb dX3_asksDifference_17 (by decide) ?_
    refine lv_iload_n hx hb dX3_asksDifference_19 rfl (lv_at hl 1 rfl) ?_
    refine lv_iadd hx hb dX3_asksDifference_20 ?_
    obtain ⟨h_7, hw⟩ := hw
    refine m_iald (j := (Int32.toNatClampNeg (84 + p1))) hx hb hK hP 0 1 113 rfl rfl h_7 dX3_asksDifference_21 ?_
    refine lv_aload_n hx hb dX3_asksDifference_22 rfl (lv_at hl 0 rfl) ?_
    refine m_get hx hb hts hown hK hP 0 (by decide) q1728 rfl dX3_asksDifference_23 ?_
    refine lv_bipush (v := 84) hx hb dX3_asksDifference_26 (by decide) ?_
    refine lv_iload_n hx hb dX3_asksDifference_28 rfl (lv_at hl 2 rfl) ?_
    refine lv_iadd hx hb dX3_asksDifference_29 ?_
    obtain ⟨h_8, hw⟩ := hw
    refine m_iald (j := (Int32.toNatClampNeg (84 + p2))) hx hb hK hP 0 1 113 rfl rfl h_8 dX3_asksDifference_30 ?_
    refine m_callv (As := [.int (R_3 0 (Int32.toNatClampNeg (84 + p1))), .int (R_3 0 (Int32.toNatClampNeg (84 + p2)))]) (rest := []) ⟨hx, hb, hml, hown, hts⟩ (metX3_differs l K h a hap _ F_2 R_3 L_4 G_5 (R_3 0 (Int32.toNatClampNeg (84 + p1))) (R_3 0 (Int32.toNatClampNeg (84 + p2)))) (cwV 2 hts (lw_V q2167 q2169 qs64 q85 q2170) rfl rfl rfl (by decide +kernel) ⟨Nat.le_of_ble_eq_true rfl, Nat.le_of_ble_eq_true rfl⟩) hK hP hS hw rfl hl.1 rfl (Nat.le_of_ble_eq_true rfl) dX3_asksDifference_31 ⟨Nat.le_refl _, Nat.le_refl _⟩ (fun F_9 R_10 L_11 G_12 H locs hw hP hS => ?_)
    refine lv_iconst (v := 1) hx hb dX3_asksDifference_34 (by decide) ?_
    exact m_zret hx hb hr hlocks hP hS dX3_asksDifference_35 (Or.inr rfl) hw
  · have hw := hw.1 (c_6)
    refine lv_iconst (v := 0) hx hb dX3_asksDifference_10 (by decide) ?_
    exact m_zret hx hb hr hlocks hP hS dX3_asksDifference_11 (Or.inl rfl) hw

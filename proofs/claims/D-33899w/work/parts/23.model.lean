/-! THE MODEL, walked by program: X3_differenceAbove .. X3_errorBits -/
set_option maxRecDepth 100000
def wpX3_differenceAbove (post : Int64 → mF → mR → mL → mG → Prop) (F : mF) (R : mR) (L : mL) (G : mG) (p1 : Int32) (p2 : Int32) : Prop := wpX3_asksDifference (fun r_1 F_2 R_3 L_4 G_5 => ((r_1 = 0 → post 0 F_2 R_3 L_4 G_5) ∧ (¬ r_1 = 0 → post (G_5 14) F_2 R_3 L_4 G_5))) F R L G p1 p2
abbrev wsX3_differenceAbove : List Cond := ws_ yX3_differenceAbove cX3_differenceAbove 3 (some .long)
set_option maxHeartbeats 8000000 in
theorem metX3_differenceAbove (l : Launch) (K : KT) (h : Nat) (a : Nat → Nat) (hap : mAp h a) (post : Int64 → mF → mR → mL → mG → Prop) (F : mF) (R : mR) (L : mL) (G : mG) (p1 : Int32) (p2 : Int32) : Met l yX3_differenceAbove wsX3_differenceAbove (rmo 7 176) (mPre K h a F R L G [.int p1, .int p2] (wpX3_differenceAbove post F R L G p1 p2)) (mQl post K h a) 0 0 (mA h a) := by
  refine Met.ofW (cc := cX3_differenceAbove) (maxL := 3) (ret := (some .long)) (by decide) rfl ?_
  intro p e s m args below meth c s₁ B hml hv
  obtain ⟨rfl, hP, hK, hw⟩ := hv
  have hx := B.exec
  have hb := B.bytes
  have hr := B.returns
  have hts := atoms_spec (ws := wsX3_differenceAbove) B.pre
  have hts : ∀ w ∈ lw_all, w.before _ s = true := fun w h => hts w (List.mem_cons_of_mem _ h)
  have hown : s.vm.findClass RX3 = some m.cls := findClass_of_methodNamed B.named
  have hlocks := B.notSynchronized
  have hl := lv_entry ([.ref h, .int p1, .int p2]) (n := 3) (Nat.le_of_ble_eq_true rfl)
  rw [lg_entry_eq]
  generalize (lg_sl ([.ref h, .int p1, .int p2]) ++ List.replicate (3 - (lg_sl ([.ref h, .int p1, .int p2])).length) Slot.unset).toArray = ls at hl ⊢
  have hl : lv_has ls 3 [(0, .ref h), (1, .int p1), (2, .int p2)] := hl
  have hS : va_S (mA h a) s.heap s.heap [] := va_S.rf
  unfold wpX3_differenceAbove at hw
  refine lv_aload_n hx hb dX3_differenceAbove_0 rfl (lv_at hl 0 rfl) ?_
  refine lv_iload_n hx hb dX3_differenceAbove_1 rfl (lv_at hl 1 rfl) ?_
  refine lv_iload_n hx hb dX3_differenceAbove_2 rfl (lv_at hl 2 rfl) ?_
  refine m_calli (As := [.int p1, .int p2]) (rest := []) ⟨hx, hb, hml, hown, hts⟩ (metX3_asksDifference l K h a hap _ F R L G p1 p2) (cwV 2 hts (lw_V q2163 q2165 qs63 q85 q2166) rfl rfl rfl (by decide +kernel) ⟨Nat.le_of_ble_eq_true rfl, Nat.le_of_ble_eq_true rfl⟩) hK hP hS hw rfl hl.1 rfl (Nat.le_of_ble_eq_true rfl) dX3_differenceAbove_3 ⟨Nat.le_refl _, Nat.le_refl _⟩ (fun r_1 F_2 R_3 L_4 G_5 H locs hw hP hS => ?_)
  refine lv_if_eq (tgt := 16) hx hb dX3_differenceAbove_6 (by decide) (fun c_6 => ?_) (fun c_6 => ?_)
  · have hw := hw.1 c_6
    refine lv_lconst (v := 0) hx hb dX3_differenceAbove_16 (by decide) ?_
    exact m_lret hx hb hr hlocks hP hS dX3_differenceAbove_17 hw
  · have hw := hw.2 c_6
    refine lv_aload_n hx hb dX3_differenceAbove_9 rfl (lv_at hl 0 rfl) ?_
    refine m_get hx hb hts hown hK hP 14 (by decide) q1742 rfl dX3_differenceAbove_10 ?_
    refine lv_goto (tgt := 17) hx hb dX3_differenceAbove_13 (by decide) ?_
    exact m_lret hx hb hr hlocks hP hS dX3_differenceAbove_17 hw
def wpX3_comeBackIn (post : Int64 → mF → mR → mL → mG → Prop) (F : mF) (R : mR) (L : mL) (G : mG) (p1 : Int32) (p2 : Int32) : Prop := wpX3_asksDifference (fun r_1 F_2 R_3 L_4 G_5 => ((r_1 = 0 → post 0 F_2 R_3 L_4 G_5) ∧ (¬ r_1 = 0 → post (G_5 15) F_2 R_3 L_4 G_5))) F R L G p1 p2
abbrev wsX3_comeBackIn : List Cond := ws_ yX3_comeBackIn cX3_comeBackIn 3 (some .long)
set_option maxHeartbeats 8000000 in
theorem metX3_comeBackIn (l : Launch) (K : KT) (h : Nat) (a : Nat → Nat) (hap : mAp h a) (post : Int64 → mF → mR → mL → mG → Prop) (F : mF) (R : mR) (L : mL) (G : mG) (p1 : Int32) (p2 : Int32) : Met l yX3_comeBackIn wsX3_comeBackIn (rmo 7 176) (mPre K h a F R L G [.int p1, .int p2] (wpX3_comeBackIn post F R L G p1 p2)) (mQl post K h a) 0 0 (mA h a) := by
  refine Met.ofW (cc := cX3_comeBackIn) (maxL := 3) (ret := (some .long)) (by decide) rfl ?_
  intro p e s m args below meth c s₁ B hml hv
  obtain ⟨rfl, hP, hK, hw⟩ := hv
  have hx := B.exec
  have hb := B.bytes
  have hr := B.returns
  have hts := atoms_spec (ws := wsX3_comeBackIn) B.pre
  have hts : ∀ w ∈ lw_all, w.before _ s = true := fun w h => hts w (List.mem_cons_of_mem _ h)
  have hown : s.vm.findClass RX3 = some m.cls := findClass_of_methodNamed B.named
  have hlocks := B.notSynchronized
  have hl := lv_entry ([.ref h, .int p1, .int p2]) (n := 3) (Nat.le_of_ble_eq_true rfl)
  rw [lg_entry_eq]
  generalize (lg_sl ([.ref h, .int p1, .int p2]) ++ List.replicate (3 - (lg_sl ([.ref h, .int p1, .int p2])).length) Slot.unset).toArray = ls at hl ⊢
  have hl : lv_has ls 3 [(0, .ref h), (1, .int p1), (2, .int p2)] := hl
  have hS : va_S (mA h a) s.heap s.heap [] := va_S.rf
  unfold wpX3_comeBackIn at hw
  refine lv_aload_n hx hb dX3_comeBackIn_0 rfl (lv_at hl 0 rfl) ?_
  refine lv_iload_n hx hb dX3_comeBackIn_1 rfl (lv_at hl 1 rfl) ?_
  refine lv_iload_n hx hb dX3_comeBackIn_2 rfl (lv_at hl 2 rfl) ?_
  refine m_calli (As := [.int p1, .int p2]) (rest := []) ⟨hx, hb, hml, hown, hts⟩ (metX3_asksDifference l K h a hap _ F R L G p1 p2) (cwV 2 hts (lw_V q2163 q2165 qs63 q85 q2166) rfl rfl rfl (by decide +kernel) ⟨Nat.le_of_ble_eq_true rfl, Nat.le_of_ble_eq_true rfl⟩) hK hP hS hw rfl hl.1 rfl (Nat.le_of_ble_eq_true rfl) dX3_comeBackIn_3 ⟨Nat.le_refl _, Nat.le_refl _⟩ (fun r_1 F_2 R_3 L_4 G_5 H locs hw hP hS => ?_)
  refine lv_if_eq (tgt := 16) hx hb dX3_comeBackIn_6 (by decide) (fun c_6 => ?_) (fun c_6 => ?_)
  · have hw := hw.1 c_6
    refine lv_lconst (v := 0) hx hb dX3_comeBackIn_16 (by decide) ?_
    exact m_lret hx hb hr hlocks hP hS dX3_comeBackIn_17 hw
  · have hw := hw.2 c_6
    refine lv_aload_n hx hb dX3_comeBackIn_9 rfl (lv_at hl 0 rfl) ?_
    refine m_get hx hb hts hown hK hP 15 (by decide) q1743 rfl dX3_comeBackIn_10 ?_
    refine lv_goto (tgt := 17) hx hb dX3_comeBackIn_13 (by decide) ?_
    exact m_lret hx hb hr hlocks hP hS dX3_comeBackIn_17 hw
def wpX3_allMeetIn_129 (post : Int32 → mF → mR → mL → mG → Prop) (J67 : Int32 → Int32 → Int32 → Int32 → Int32 → mF → mR → mL → mG → Prop) (x1 : Int32) (x2 : Int32) (x3 : Int32) (x4 : Int32) (x6 : Int32) (F : mF) (R : mR) (L : mL) (G : mG) : Prop := (∀ x6_1 : Int32, x6_1 = x6 + 1 → J67 x1 x2 x3 x4 x6_1 F R L G)
def wpX3_allMeetIn_67 (post : Int32 → mF → mR → mL → mG → Prop) : Nat → Int32 → Int32 → Int32 → Int32 → Int32 → mF → mR → mL → mG → Prop
  | 0 => fun _ _ _ _ _ _ _ _ _ => False
  | n + 1 => fun x1 x2 x3 x4 x6 F R L G => ((1000 < x6 → wpX3_fails (fun r_3 F_4 R_5 L_6 G_7 => post r_3 F_4 R_5 L_6 G_7) F R L G 2) ∧ (¬ 1000 < x6 → (∀ x7_8 : Int32, x7_8 = (R 0 111) + x6 → wpX3_meet (fun r_9 F_10 R_11 L_12 G_13 => ((r_9 = 0 → wpX3_allMeetIn_129 post (wpX3_allMeetIn_67 post n) x1 x2 x3 x4 x6 F_10 R_11 L_12 G_13) ∧ (¬ r_9 = 0 → wpX3_meet (fun r_15 F_16 R_17 L_18 G_19 => ((r_15 = 0 → wpX3_allMeetIn_129 post (wpX3_allMeetIn_67 post n) x1 x2 x3 x4 x6 F_16 R_17 L_18 G_19) ∧ (¬ r_15 = 0 → wpX3_meet (fun r_21 F_22 R_23 L_24 G_25 => ((r_21 = 0 → wpX3_allMeetIn_129 post (wpX3_allMeetIn_67 post n) x1 x2 x3 x4 x6 F_22 R_23 L_24 G_25) ∧ (¬ r_21 = 0 → post x6 F_22 R_23 L_24 G_25))) F_16 R_17 L_18 G_19 x1 x3 x7_8 x4))) F_10 R_11 L_12 G_13 x2 x3 x7_8 x4))) F R L G x1 x2 x7_8 x4)))
def wpX3_allMeetIn_40 (post : Int32 → mF → mR → mL → mG → Prop) (x1 : Int32) (x2 : Int32) (x3 : Int32) (x4 : Int32) (z0 : Int32) (F : mF) (R : mR) (L : mL) (G : mG) : Prop := wpX3_asksArms (fun r_27 F_28 R_29 L_30 G_31 => ((r_27 = 0 → post 0 F_28 R_29 L_30 G_31) ∧ (¬ r_27 = 0 → wpX3_asksArm (fun r_33 F_34 R_35 L_36 G_37 => ((r_33 = 0 → post 0 F_34 R_35 L_36 G_37) ∧ (¬ r_33 = 0 → ∃ fu : Nat, wpX3_allMeetIn_67 post fu x1 x2 x3 x4 1 F_34 R_35 L_36 G_37))) F_28 R_29 L_30 G_31 x3 1))) F R L G x1 x2 z0
def wpX3_allMeetIn_39 (post : Int32 → mF → mR → mL → mG → Prop) (x1 : Int32) (x2 : Int32) (x3 : Int32) (x4 : Int32) (F : mF) (R : mR) (L : mL) (G : mG) : Prop := wpX3_allMeetIn_40 post x1 x2 x3 x4 0 F R L G
def wpX3_allMeetIn (post : Int32 → mF → mR → mL → mG → Prop) (F : mF) (R : mR) (L : mL) (G : mG) (p1 : Int32) (p2 : Int32) (p3 : Int32) (p4 : Int32) : Prop := wpX3_isTolerance (fun r_39 => ((r_39 = 0 → wpX3_allMeetIn_39 post p1 p2 p3 p4 F R L G) ∧ (¬ r_39 = 0 → wpX3_areArms (fun r_41 F_42 R_43 L_44 G_45 => ((r_41 = 0 → wpX3_allMeetIn_39 post p1 p2 p3 p4 F_42 R_43 L_44 G_45) ∧ (¬ r_41 = 0 → wpX3_areArms (fun r_47 F_48 R_49 L_50 G_51 => ((r_47 = 0 → wpX3_allMeetIn_39 post p1 p2 p3 p4 F_48 R_49 L_50 G_51) ∧ (¬ r_47 = 0 → wpX3_areArms (fun r_53 F_54 R_55 L_56 G_57 => ((r_53 = 0 → wpX3_allMeetIn_39 post p1 p2 p3 p4 F_54 R_55 L_56 G_57) ∧ (¬ r_53 = 0 → wpX3_allMeetIn_40 post p1 p2 p3 p4 1 F_54 R_55 L_56 G_57))) F_48 R_49 L_50 G_51 p1 p3))) F_42 R_43 L_44 G_45 p2 p3))) F R L G p1 p2))) p4
abbrev wsX3_allMeetIn : List Cond := ws_ yX3_allMeetIn cX3_allMeetIn 8 (some .int)
set_option maxHeartbeats 8000000 in
theorem metX3_allMeetIn (l : Launch) (K : KT) (h : Nat) (a : Nat → Nat) (hap : mAp h a) (post : Int32 → mF → mR → mL → mG → Prop) (F : mF) (R : mR) (L : mL) (G : mG) (p1 : Int32) (p2 : Int32) (p3 : Int32) (p4 : Int32) : Met l yX3_allMeetIn wsX3_allMeetIn (rmo 6 154) (mPre K h a F R L G [.int p1, .int p2, .int p3, .int p4] (wpX3_allMeetIn post F R L G p1 p2 p3 p4)) (mQi post K h a) 0 0 (mA h a) := by
  refine Met.ofW (cc := cX3_allMeetIn) (maxL := 8) (ret := (some .int)) (by decide) rfl ?_
  intro p e s m args below meth c s₁ B hml hv
  obtain ⟨rfl, hP, hK, hw⟩ := hv
  have hx := B.exec
  have hb := B.bytes
  have hr := B.returns
  have hts := atoms_spec (ws := wsX3_allMeetIn) B.pre
  have hts : ∀ w ∈ lw_all, w.before _ s = true := fun w h => hts w (List.mem_cons_of_mem _ h)
  have hown : s.vm.findClass RX3 = some m.cls := findClass_of_methodNamed B.named
  have hlocks := B.notSynchronized
  have hl := lv_entry ([.ref h, .int p1, .int p2, .int p3, .int p4]) (n := 8) (Nat.le_of_ble_eq_true rfl)
  rw [lg_entry_eq]
  generalize (lg_sl ([.ref h, .int p1, .int p2, .int p3, .int p4]) ++ List.replicate (8 - (lg_sl ([.ref h, .int p1, .int p2, .int p3, .int p4])).length) Slot.unset).toArray = ls at hl ⊢
  have hl : lv_has ls 8 [(0, .ref h), (1, .int p1), (2, .int p2), (3, .int p3), (4, .int p4)] := hl
  have hS : va_S (mA h a) s.heap s.heap [] := va_S.rf
  have T129 : ∀ (J67 : Int32 → Int32 → Int32 → Int32 → Int32 → mF → mR → mL → mG → Prop) (hJ67 : ∀ (x1 : Int32) (x2 : Int32) (x3 : Int32) (x4 : Int32) (x6 : Int32) (F : mF) (R : mR) (L : mL) (G : mG) (H : Heap) (locs : List Loc) (ls : Array Slot), mP K h a F R L G H → va_S (mA h a) s.heap H locs → lv_has ls 8 [(0, .ref h), (1, .int x1), (2, .int x2), (3, .int x3), (4, .int x4), (6, .int x6)] → J67 x1 x2 x3 x4 x6 F R L G → W p l e (rmo 6 154) s m ([.ref h, .int p1, .int p2, .int p3, .int p4] : List Value).toArray below meth c H locs 0 0 (MQ below (mQi post K h a) ([.ref h, .int p1, .int p2, .int p3, .int p4] : List Value).toArray s 0 0 (mA h a)) (F0 m 67 ls [])), ∀ (x1 : Int32) (x2 : Int32) (x3 : Int32) (x4 : Int32) (x6 : Int32) (F : mF) (R : mR) (L : mL) (G : mG) (H : Heap) (locs : List Loc) (ls : Array Slot), mP K h a F R L G H → va_S (mA h a) s.heap H locs → lv_has ls 8 [(0, .ref h), (1, .int x1), (2, .int x2), (3, .int x3), (4, .int x4), (6, .int x6)] → wpX3_allMeetIn_129 post J67 x1 x2 x3 x4 x6 F R L G → W p l e (rmo 6 154) s m ([.ref h, .int p1, .int p2, .int p3, .int p4] : List Value).toArray below meth c H locs 0 0 (MQ below (mQi post K h a) ([.ref h, .int p1, .int p2, .int p3, .int p4] : List Value).toArray s 0 0 (mA h a)) (F0 m 129 ls []) := by
    intro J67 hJ67
    intro x1 x2 x3 x4 x6 F R L G H locs ls hP hS hl hw
    unfold wpX3_allMeetIn_129 at hw
    obtain ⟨x6_1, ex6_1⟩ : ∃ y : Int32, y = x6 + 1 := ⟨_, rfl⟩
    have hw := hw x6_1 ex6_1
    refine lv_iinc (v := x6_1) (lv' := [(6, .int x6_1), (0, .ref h), (1, .int x1), (2, .int x2), (3, .int x3), (4, .int x4)]) hx hb dX3_allMeetIn_129 hl (k := 5) rfl (by rw [ex6_1]; rfl) (by decide) rfl (fun ls hl => ?_)
    refine lv_goto (tgt := 67) hx hb dX3_allMeetIn_132 (by decide) ?_
    exact hJ67 x1 x2 x3 x4 x6_1 F R L G _ _ ls hP hS (lv_sub hl [1, 2, 3, 4, 5, 0] rfl) hw
  have T67 : ∀ (n : Nat), ∀ (x1 : Int32) (x2 : Int32) (x3 : Int32) (x4 : Int32) (x6 : Int32) (F : mF) (R : mR) (L : mL) (G : mG) (H : Heap) (locs : List Loc) (ls : Array Slot), mP K h a F R L G H → va_S (mA h a) s.heap H locs → lv_has ls 8 [(0, .ref h), (1, .int x1), (2, .int x2), (3, .int x3), (4, .int x4), (6, .int x6)] → wpX3_allMeetIn_67 post n x1 x2 x3 x4 x6 F R L G → W p l e (rmo 6 154) s m ([.ref h, .int p1, .int p2, .int p3, .int p4] : List Value).toArray below meth c H locs 0 0 (MQ below (mQi post K h a) ([.ref h, .int p1, .int p2, .int p3, .int p4] : List Value).toArray s 0 0 (mA h a)) (F0 m 67 ls []) := by
    intro n
    induction n with
    | zero =>
      intro x1 x2 x3 x4 x6 F R L G H locs ls hP hS hl hw
      exact False.elim hw
    | succ n ih =>
      intro x1 x2 x3 x4 x6 F R L G H locs ls hP hS hl hw
      unfold wpX3_allMeetIn_67 at hw
      refine lv_iload hx hb dX3_allMeetIn_67 (lv_at hl 5 rfl) ?_
      refine lv_sipush (v := 1000) hx hb dX3_allMeetIn_69 (by decide) ?_
      refine lv_icmp_gt (tgt := 135) hx hb dX3_allMeetIn_72 (by decide) (fun c_2 => ?_) (fun c_2 => ?_)
      · have hw := hw.1 c_2
        refine lv_aload_n hx hb dX3_allMeetIn_135 rfl (lv_at hl 0 rfl) ?_
        refine lv_iconst (v := 2) hx hb dX3_allMeetIn_136 (by decide) ?_
        refine m_calli (As := [.int 2]) (rest := []) ⟨hx, hb, hml, hown, hts⟩ (metX3_fails l K h a hap _ F R L G 2) (cwV 1 hts (lw_V q1838 q1840 qs27 q85 q1841) rfl rfl rfl (by decide +kernel) ⟨Nat.le_of_ble_eq_true rfl, Nat.le_of_ble_eq_true rfl⟩) hK hP hS hw rfl hl.1 rfl (Nat.le_of_ble_eq_true rfl) dX3_allMeetIn_137 ⟨Nat.le_refl _, Nat.le_refl _⟩ (fun r_3 F_4 R_5 L_6 G_7 H locs hw hP hS => ?_)
        exact m_iret hx hb hr hlocks hP hS dX3_allMeetIn_140 hw
      · have hw := hw.2 c_2
        refine lv_aload_n hx hb dX3_allMeetIn_75 rfl (lv_at hl 0 rfl) ?_
        refine m_get hx hb hts hown hK hP 0 (by decide) q1728 rfl dX3_allMeetIn_76 ?_
        refine lv_bipush (v := 111) hx hb dX3_allMeetIn_79 (by decide) ?_
        refine m_iald (j := 111) hx hb hK hP 0 1 113 rfl (by decide) (vpd (by decide)) dX3_allMeetIn_81 ?_
        refine lv_iload hx hb dX3_allMeetIn_82 (lv_at hl 5 rfl) ?_
        refine lv_iadd hx hb dX3_allMeetIn_84 ?_
        refine lv_topi (fun x7_8 ex7_8 => ?_)
        have hw := hw x7_8 ex7_8
        refine lv_istore (lv' := [(7, .int x7_8), (0, .ref h), (1, .int x1), (2, .int x2), (3, .int x3), (4, .int x4), (6, .int x6)]) hx hb dX3_allMeetIn_85 hl (by decide) rfl (fun ls hl => ?_)
        refine lv_aload_n hx hb dX3_allMeetIn_87 rfl (lv_at hl 1 rfl) ?_
        refine lv_iload_n hx hb dX3_allMeetIn_88 rfl (lv_at hl 2 rfl) ?_
        refine lv_iload_n hx hb dX3_allMeetIn_89 rfl (lv_at hl 3 rfl) ?_
        refine lv_iload hx hb dX3_allMeetIn_90 (lv_at hl 0 rfl) ?_
        refine lv_iload hx hb dX3_allMeetIn_92 (lv_at hl 5 rfl) ?_
        refine m_calli (As := [.int x1, .int x2, .int x7_8, .int x4]) (rest := []) ⟨hx, hb, hml, hown, hts⟩ (metX3_meet l K h a hap _ F R L G x1 x2 x7_8 x4) (cwV 4 hts (lw_V q2148 q2150 qs62 q85 q2151) rfl rfl rfl (by decide +kernel) ⟨Nat.le_of_ble_eq_true rfl, Nat.le_of_ble_eq_true rfl⟩) hK hP hS hw rfl hl.1 rfl (Nat.le_of_ble_eq_true rfl) dX3_allMeetIn_94 ⟨Nat.le_refl _, Nat.le_refl _⟩ (fun r_9 F_10 R_11 L_12 G_13 H locs hw hP hS => ?_)
        refine lv_if_eq (tgt := 129) hx hb dX3_allMeetIn_97 (by decide) (fun c_14 => ?_) (fun c_14 => ?_)
        · have hw := hw.1 c_14
          exact T129 _ ih x1 x2 x3 x4 x6 F_10 R_11 L_12 G_13 _ _ ls hP hS (lv_sub hl [1, 2, 3, 4, 5, 6] rfl) hw
        · have hw := hw.2 c_14
          refine lv_aload_n hx hb dX3_allMeetIn_100 rfl (lv_at hl 1 rfl) ?_
          refine lv_iload_n hx hb dX3_allMeetIn_101 rfl (lv_at hl 3 rfl) ?_
          refine lv_iload_n hx hb dX3_allMeetIn_102 rfl (lv_at hl 4 rfl) ?_
          refine lv_iload hx hb dX3_allMeetIn_103 (lv_at hl 0 rfl) ?_
          refine lv_iload hx hb dX3_allMeetIn_105 (lv_at hl 5 rfl) ?_
          refine m_calli (As := [.int x2, .int x3, .int x7_8, .int x4]) (rest := []) ⟨hx, hb, hml, hown, hts⟩ (metX3_meet l K h a hap _ F_10 R_11 L_12 G_13 x2 x3 x7_8 x4) (cwV 4 hts (lw_V q2148 q2150 qs62 q85 q2151) rfl rfl rfl (by decide +kernel) ⟨Nat.le_of_ble_eq_true rfl, Nat.le_of_ble_eq_true rfl⟩) hK hP hS hw rfl hl.1 rfl (Nat.le_of_ble_eq_true rfl) dX3_allMeetIn_107 ⟨Nat.le_refl _, Nat.le_refl _⟩ (fun r_15 F_16 R_17 L_18 G_19 H locs hw hP hS => ?_)
          refine lv_if_eq (tgt := 129) hx hb dX3_allMeetIn_110 (by decide) (fun c_20 => ?_) (fun c_20 => ?_)
          · have hw := hw.1 c_20
            exact T129 _ ih x1 x2 x3 x4 x6 F_16 R_17 L_18 G_19 _ _ ls hP hS (lv_sub hl [1, 2, 3, 4, 5, 6] rfl) hw
          · have hw := hw.2 c_20
            refine lv_aload_n hx hb dX3_allMeetIn_113 rfl (lv_at hl 1 rfl) ?_
            refine lv_iload_n hx hb dX3_allMeetIn_114 rfl (lv_at hl 2 rfl) ?_
            refine lv_iload_n hx hb dX3_allMeetIn_115 rfl (lv_at hl 4 rfl) ?_
            refine lv_iload hx hb dX3_allMeetIn_116 (lv_at hl 0 rfl) ?_
            refine lv_iload hx hb dX3_allMeetIn_118 (lv_at hl 5 rfl) ?_
            refine m_calli (As := [.int x1, .int x3, .int x7_8, .int x4]) (rest := []) ⟨hx, hb, hml, hown, hts⟩ (metX3_meet l K h a hap _ F_16 R_17 L_18 G_19 x1 x3 x7_8 x4) (cwV 4 hts (lw_V q2148 q2150 qs62 q85 q2151) rfl rfl rfl (by decide +kernel) ⟨Nat.le_of_ble_eq_true rfl, Nat.le_of_ble_eq_true rfl⟩) hK hP hS hw rfl hl.1 rfl (Nat.le_of_ble_eq_true rfl) dX3_allMeetIn_120 ⟨Nat.le_refl _, Nat.le_refl _⟩ (fun r_21 F_22 R_23 L_24 G_25 H locs hw hP hS => ?_)
            refine lv_if_eq (tgt := 129) hx hb dX3_allMeetIn_123 (by decide) (fun c_26 => ?_) (fun c_26 => ?_)
            · have hw := hw.1 c_26
              exact T129 _ ih x1 x2 x3 x4 x6 F_22 R_23 L_24 G_25 _ _ ls hP hS (lv_sub hl [1, 2, 3, 4, 5, 6] rfl) hw
            · have hw := hw.2 c_26
              refine lv_iload hx hb dX3_allMeetIn_126 (lv_at hl 6 rfl) ?_
              exact m_iret hx hb hr hlocks hP hS dX3_allMeetIn_128 hw
  have T40 : ∀ (x1 : Int32) (x2 : Int32) (x3 : Int32) (x4 : Int32) (z0 : Int32) (F : mF) (R : mR) (L : mL) (G : mG) (H : Heap) (locs : List Loc) (ls : Array Slot), mP K h a F R L G H → va_S (mA h a) s.heap H locs → lv_has ls 8 [(0, .ref h), (1, .int x1), (2, .int x2), (3, .int x3), (4, .int x4)] → wpX3_allMeetIn_40 post x1 x2 x3 x4 z0 F R L G → W p l e (rmo 6 154) s m ([.ref h, .int p1, .int p2, .int p3, .int p4] : List Value).toArray below meth c H locs 0 0 (MQ below (mQi post K h a) ([.ref h, .int p1, .int p2, .int p3, .int p4] : List Value).toArray s 0 0 (mA h a)) (F0 m 40 ls [.int z0]) := by
    intro x1 x2 x3 x4 z0 F R L G H locs ls hP hS hl hw
    unfold wpX3_allMeetIn_40 at hw
    refine lv_istore (lv' := [(5, .int z0), (0, .ref h), (1, .int x1), (2, .int x2), (3, .int x3), (4, .int x4)]) hx hb dX3_allMeetIn_40 hl (by decide) rfl (fun ls hl => ?_)
    refine lv_aload_n hx hb dX3_allMeetIn_42 rfl (lv_at hl 1 rfl) ?_
    refine lv_iload_n hx hb dX3_allMeetIn_43 rfl (lv_at hl 2 rfl) ?_
    refine lv_iload_n hx hb dX3_allMeetIn_44 rfl (lv_at hl 3 rfl) ?_
    refine lv_iload hx hb dX3_allMeetIn_45 (lv_at hl 0 rfl) ?_
    refine m_calli (As := [.int x1, .int x2, .int z0]) (rest := []) ⟨hx, hb, hml, hown, hts⟩ (metX3_asksArms l K h a hap _ F R L G x1 x2 z0) (cwV 3 hts (lw_V q2140 q2142 qs60 q85 q2143) rfl rfl rfl (by decide +kernel) ⟨Nat.le_of_ble_eq_true rfl, Nat.le_of_ble_eq_true rfl⟩) hK hP hS hw rfl hl.1 rfl (Nat.le_of_ble_eq_true rfl) dX3_allMeetIn_47 ⟨Nat.le_refl _, Nat.le_refl _⟩ (fun r_27 F_28 R_29 L_30 G_31 H locs hw hP hS => ?_)
    refine lv_if_eq (tgt := 62) hx hb dX3_allMeetIn_50 (by decide) (fun c_32 => ?_) (fun c_32 => ?_)
    · have hw := hw.1 c_32
      refine lv_iconst (v := 0) hx hb dX3_allMeetIn_62 (by decide) ?_
      exact m_iret hx hb hr hlocks hP hS dX3_allMeetIn_63 hw
    · have hw := hw.2 c_32
      refine lv_aload_n hx hb dX3_allMeetIn_53 rfl (lv_at hl 1 rfl) ?_
      refine lv_iload_n hx hb dX3_allMeetIn_54 rfl (lv_at hl 4 rfl) ?_
      refine lv_iconst (v := 1) hx hb dX3_allMeetIn_55 (by decide) ?_
      refine m_calli (As := [.int x3, .int 1]) (rest := []) ⟨hx, hb, hml, hown, hts⟩ (metX3_asksArm l K h a hap _ F_28 R_29 L_30 G_31 x3 1) (cwV 2 hts (lw_V q2097 q2099 qs55 q85 q2100) rfl rfl rfl (by decide +kernel) ⟨Nat.le_of_ble_eq_true rfl, Nat.le_of_ble_eq_true rfl⟩) hK hP hS hw rfl hl.1 rfl (Nat.le_of_ble_eq_true rfl) dX3_allMeetIn_56 ⟨Nat.le_refl _, Nat.le_refl _⟩ (fun r_33 F_34 R_35 L_36 G_37 H locs hw hP hS => ?_)
      refine lv_if_ne (tgt := 64) hx hb dX3_allMeetIn_59 (by decide) (fun c_38 => ?_) (fun c_38 => ?_)
      · have hw := hw.2 (c_38)
        refine lv_iconst (v := 1) hx hb dX3_allMeetIn_64 (by decide) ?_
        refine lv_istore (lv' := [(6, .int 1), (5, .int z0), (0, .ref h), (1, .int x1), (2, .int x2), (3, .int x3), (4, .int x4)]) hx hb dX3_allMeetIn_65 hl (by decide) rfl (fun ls hl => ?_)
        obtain ⟨fu, hw⟩ := hw
        exact T67 fu x1 x2 x3 x4 1 F_34 R_35 L_36 G_37 _ _ ls hP hS (lv_sub hl [2, 3, 4, 5, 6, 0] rfl) hw
      · have hw := hw.1 (c_38)
        refine lv_iconst (v := 0) hx hb dX3_allMeetIn_62 (by decide) ?_
        exact m_iret hx hb hr hlocks hP hS dX3_allMeetIn_63 hw
  have T39 : ∀ (x1 : Int32) (x2 : Int32) (x3 : Int32) (x4 : Int32) (F : mF) (R : mR) (L : mL) (G : mG) (H : Heap) (locs : List Loc) (ls : Array Slot), mP K h a F R L G H → va_S (mA h a) s.heap H locs → lv_has ls 8 [(0, .ref h), (1, .int x1), (2, .int x2), (3, .int x3), (4, .int x4)] → wpX3_allMeetIn_39 post x1 x2 x3 x4 F R L G → W p l e (rmo 6 154) s m ([.ref h, .int p1, .int p2, .int p3, .int p4] : List Value).toArray below meth c H locs 0 0 (MQ below (mQi post K h a) ([.ref h, .int p1, .int p2, .int p3, .int p4] : List Value).toArray s 0 0 (mA h a)) (F0 m 39 ls []) := by
    intro x1 x2 x3 x4 F R L G H locs ls hP hS hl hw
    unfold wpX3_allMeetIn_39 at hw
    refine lv_iconst (v := 0) hx hb dX3_allMeetIn_39 (by decide) ?_
    exact T40 x1 x2 x3 x4 0 F R L G _ _ ls hP hS (lv_sub hl [0, 1, 2, 3, 4] rfl) hw
  unfold wpX3_allMeetIn at hw
  refine lv_iload hx hb dX3_allMeetIn_0 (lv_at hl 4 rfl) ?_
  refine s_calli (As := [.int p4]) (rest := []) ⟨hx, hb, hml, hown, hts⟩ (metX3_isTolerance l _ p4) (va_cwS 1 hts (lw_S q2137 q2138 q85 q2139) rfl rfl rfl (by decide +kernel) ⟨Nat.le_of_ble_eq_true rfl, Nat.le_of_ble_eq_true rfl⟩) hw rfl hl.1 rfl (Nat.le_of_ble_eq_true rfl) dX3_allMeetIn_2 ⟨Nat.le_refl _, Nat.le_refl _⟩ (fun r_39 hw => ?_)
  refine lv_if_eq (tgt := 39) hx hb dX3_allMeetIn_5 (by decide) (fun c_40 => ?_) (fun c_40 => ?_)
  · have hw := hw.1 c_40
    exact T39 p1 p2 p3 p4 F R L G _ _ ls hP hS (lv_sub hl [0, 1, 2, 3, 4] rfl) hw
  · have hw := hw.2 c_40
    refine lv_aload_n hx hb dX3_allMeetIn_8 rfl (lv_at hl 0 rfl) ?_
    refine lv_iload_n hx hb dX3_allMeetIn_9 rfl (lv_at hl 1 rfl) ?_
    refine lv_iload_n hx hb dX3_allMeetIn_10 rfl (lv_at hl 2 rfl) ?_
    refine m_calli (As := [.int p1, .int p2]) (rest := []) ⟨hx, hb, hml, hown, hts⟩ (metX3_areArms l K h a hap _ F R L G p1 p2) (cwV 2 hts (lw_V q2144 q2146 qs61 q85 q2147) rfl rfl rfl (by decide +kernel) ⟨Nat.le_of_ble_eq_true rfl, Nat.le_of_ble_eq_true rfl⟩) hK hP hS hw rfl hl.1 rfl (Nat.le_of_ble_eq_true rfl) dX3_allMeetIn_11 ⟨Nat.le_refl _, Nat.le_refl _⟩ (fun r_41 F_42 R_43 L_44 G_45 H locs hw hP hS => ?_)
    refine lv_if_eq (tgt := 39) hx hb dX3_allMeetIn_14 (by decide) (fun c_46 => ?_) (fun c_46 => ?_)
    · have hw := hw.1 c_46
      exact T39 p1 p2 p3 p4 F_42 R_43 L_44 G_45 _ _ ls hP hS (lv_sub hl [0, 1, 2, 3, 4] rfl) hw
    · have hw := hw.2 c_46
      refine lv_aload_n hx hb dX3_allMeetIn_17 rfl (lv_at hl 0 rfl) ?_
      refine lv_iload_n hx hb dX3_allMeetIn_18 rfl (lv_at hl 2 rfl) ?_
      refine lv_iload_n hx hb dX3_allMeetIn_19 rfl (lv_at hl 3 rfl) ?_
      refine m_calli (As := [.int p2, .int p3]) (rest := []) ⟨hx, hb, hml, hown, hts⟩ (metX3_areArms l K h a hap _ F_42 R_43 L_44 G_45 p2 p3) (cwV 2 hts (lw_V q2144 q2146 qs61 q85 q2147) rfl rfl rfl (by decide +kernel) ⟨Nat.le_of_ble_eq_true rfl, Nat.le_of_ble_eq_true rfl⟩) hK hP hS hw rfl hl.1 rfl (Nat.le_of_ble_eq_true rfl) dX3_allMeetIn_20 ⟨Nat.le_refl _, Nat.le_refl _⟩ (fun r_47 F_48 R_49 L_50 G_51 H locs hw hP hS => ?_)
      refine lv_if_eq (tgt := 39) hx hb dX3_allMeetIn_23 (by decide) (fun c_52 => ?_) (fun c_52 => ?_)
      · have hw := hw.1 c_52
        exact T39 p1 p2 p3 p4 F_48 R_49 L_50 G_51 _ _ ls hP hS (lv_sub hl [0, 1, 2, 3, 4] rfl) hw
      · have hw := hw.2 c_52
        refine lv_aload_n hx hb dX3_allMeetIn_26 rfl (lv_at hl 0 rfl) ?_
        refine lv_iload_n hx hb dX3_allMeetIn_27 rfl (lv_at hl 1 rfl) ?_
        refine lv_iload_n hx hb dX3_allMeetIn_28 rfl (lv_at hl 3 rfl) ?_
        refine m_calli (As := [.int p1, .int p3]) (rest := []) ⟨hx, hb, hml, hown, hts⟩ (metX3_areArms l K h a hap _ F_48 R_49 L_50 G_51 p1 p3) (cwV 2 hts (lw_V q2144 q2146 qs61 q85 q2147) rfl rfl rfl (by decide +kernel) ⟨Nat.le_of_ble_eq_true rfl, Nat.le_of_ble_eq_true rfl⟩) hK hP hS hw rfl hl.1 rfl (Nat.le_of_ble_eq_true rfl) dX3_allMeetIn_29 ⟨Nat.le_refl _, Nat.le_refl _⟩ (fun r_53 F_54 R_55 L_56 G_57 H locs hw hP hS => ?_)
        refine lv_if_eq (tgt := 39) hx hb dX3_allMeetIn_32 (by decide) (fun c_58 => ?_) (fun c_58 => ?_)
        · have hw := hw.1 c_58
          exact T39 p1 p2 p3 p4 F_54 R_55 L_56 G_57 _ _ ls hP hS (lv_sub hl [0, 1, 2, 3, 4] rfl) hw
        · have hw := hw.2 c_58
          refine lv_iconst (v := 1) hx hb dX3_allMeetIn_35 (by decide) ?_
          refine lv_goto (tgt := 40) hx hb dX3_allMeetIn_36 (by decide) ?_
          exact T40 p1 p2 p3 p4 1 F_54 R_55 L_56 G_57 _ _ ls hP hS (lv_sub hl [0, 1, 2, 3, 4] rfl) hw
def wpX3_farthestIn_91 (post : Int32 → mF → mR → mL → mG → Prop) (J20 : Int32 → Int32 → Int32 → Int32 → Int32 → mF → mR → mL → mG → Prop) (x1 : Int32) (x2 : Int32) (x3 : Int32) (x5 : Int32) (z0 : Int32) (F : mF) (R : mR) (L : mL) (G : mG) : Prop := (∀ x5_1 : Int32, x5_1 = x5 + 1 → J20 x1 x2 x3 z0 x5_1 F R L G)
def wpX3_farthestIn_76 (post : Int32 → mF → mR → mL → mG → Prop) (J20 : Int32 → Int32 → Int32 → Int32 → Int32 → mF → mR → mL → mG → Prop) (x1 : Int32) (x2 : Int32) (x4 : Int32) (x5 : Int32) (x6 : Int32) (z0 : Int32) (F : mF) (R : mR) (L : mL) (G : mG) : Prop := ((x6 ≤ x4 → wpX3_farthestIn_91 post J20 x1 x2 z0 x5 x4 F R L G) ∧ (¬ x6 ≤ x4 → wpX3_farthestIn_91 post J20 x1 x2 z0 x5 x6 F R L G))
def wpX3_farthestIn_20 (post : Int32 → mF → mR → mL → mG → Prop) : Nat → Int32 → Int32 → Int32 → Int32 → Int32 → mF → mR → mL → mG → Prop
  | 0 => fun _ _ _ _ _ _ _ _ _ => False
  | n + 1 => fun x1 x2 x3 x4 x5 F R L G => ((1000 < x5 → post x3 F R L G) ∧ (¬ 1000 < x5 → wpX3_armAngle (fun r_4 F_5 R_6 L_7 G_8 => wpX3_armAngle (fun r_9 F_10 R_11 L_12 G_13 => wpX3_apart (fun r_14 => ((r_14 ≤ x4 → wpX3_farthestIn_76 post (wpX3_farthestIn_20 post n) x1 x2 x4 x5 r_14 x3 F_10 R_11 L_12 G_13) ∧ (¬ r_14 ≤ x4 → wpX3_farthestIn_76 post (wpX3_farthestIn_20 post n) x1 x2 x4 x5 r_14 x5 F_10 R_11 L_12 G_13))) r_4 r_9) F_5 R_6 L_7 G_8 x2 ((R_6 0 111) + x5)) F R L G x1 ((R 0 111) + x5)))
def wpX3_farthestIn (post : Int32 → mF → mR → mL → mG → Prop) (F : mF) (R : mR) (L : mL) (G : mG) (p1 : Int32) (p2 : Int32) : Prop := wpX3_asksArms (fun r_16 F_17 R_18 L_19 G_20 => ((r_16 = 0 → post 0 F_17 R_18 L_19 G_20) ∧ (¬ r_16 = 0 → ∃ fu : Nat, wpX3_farthestIn_20 post fu p1 p2 0 (-1) 1 F_17 R_18 L_19 G_20))) F R L G p1 p2 1
abbrev wsX3_farthestIn : List Cond := ws_ yX3_farthestIn cX3_farthestIn 7 (some .int)
set_option maxHeartbeats 8000000 in
theorem metX3_farthestIn (l : Launch) (K : KT) (h : Nat) (a : Nat → Nat) (hap : mAp h a) (post : Int32 → mF → mR → mL → mG → Prop) (F : mF) (R : mR) (L : mL) (G : mG) (p1 : Int32) (p2 : Int32) : Met l yX3_farthestIn wsX3_farthestIn (rmo 6 154) (mPre K h a F R L G [.int p1, .int p2] (wpX3_farthestIn post F R L G p1 p2)) (mQi post K h a) 0 0 (mA h a) := by
  refine Met.ofW (cc := cX3_farthestIn) (maxL := 7) (ret := (some .int)) (by decide) rfl ?_
  intro p e s m args below meth c s₁ B hml hv
  obtain ⟨rfl, hP, hK, hw⟩ := hv
  have hx := B.exec
  have hb := B.bytes
  have hr := B.returns
  have hts := atoms_spec (ws := wsX3_farthestIn) B.pre
  have hts : ∀ w ∈ lw_all, w.before _ s = true := fun w h => hts w (List.mem_cons_of_mem _ h)
  have hown : s.vm.findClass RX3 = some m.cls := findClass_of_methodNamed B.named
  have hlocks := B.notSynchronized
  have hl := lv_entry ([.ref h, .int p1, .int p2]) (n := 7) (Nat.le_of_ble_eq_true rfl)
  rw [lg_entry_eq]
  generalize (lg_sl ([.ref h, .int p1, .int p2]) ++ List.replicate (7 - (lg_sl ([.ref h, .int p1, .int p2])).length) Slot.unset).toArray = ls at hl ⊢
  have hl : lv_has ls 7 [(0, .ref h), (1, .int p1), (2, .int p2)] := hl
  have hS : va_S (mA h a) s.heap s.heap [] := va_S.rf
  have T91 : ∀ (J20 : Int32 → Int32 → Int32 → Int32 → Int32 → mF → mR → mL → mG → Prop) (hJ20 : ∀ (x1 : Int32) (x2 : Int32) (x3 : Int32) (x4 : Int32) (x5 : Int32) (F : mF) (R : mR) (L : mL) (G : mG) (H : Heap) (locs : List Loc) (ls : Array Slot), mP K h a F R L G H → va_S (mA h a) s.heap H locs → lv_has ls 7 [(0, .ref h), (1, .int x1), (2, .int x2), (3, .int x3), (4, .int x4), (5, .int x5)] → J20 x1 x2 x3 x4 x5 F R L G → W p l e (rmo 6 154) s m ([.ref h, .int p1, .int p2] : List Value).toArray below meth c H locs 0 0 (MQ below (mQi post K h a) ([.ref h, .int p1, .int p2] : List Value).toArray s 0 0 (mA h a)) (F0 m 20 ls [])), ∀ (x1 : Int32) (x2 : Int32) (x3 : Int32) (x5 : Int32) (z0 : Int32) (F : mF) (R : mR) (L : mL) (G : mG) (H : Heap) (locs : List Loc) (ls : Array Slot), mP K h a F R L G H → va_S (mA h a) s.heap H locs → lv_has ls 7 [(0, .ref h), (1, .int x1), (2, .int x2), (3, .int x3), (5, .int x5)] → wpX3_farthestIn_91 post J20 x1 x2 x3 x5 z0 F R L G → W p l e (rmo 6 154) s m ([.ref h, .int p1, .int p2] : List Value).toArray below meth c H locs 0 0 (MQ below (mQi post K h a) ([.ref h, .int p1, .int p2] : List Value).toArray s 0 0 (mA h a)) (F0 m 91 ls [.int z0]) := by
    intro J20 hJ20
    intro x1 x2 x3 x5 z0 F R L G H locs ls hP hS hl hw
    unfold wpX3_farthestIn_91 at hw
    refine lv_istore (lv' := [(4, .int z0), (0, .ref h), (1, .int x1), (2, .int x2), (3, .int x3), (5, .int x5)]) hx hb dX3_farthestIn_91 hl (by decide) rfl (fun ls hl => ?_)
    obtain ⟨x5_1, ex5_1⟩ : ∃ y : Int32, y = x5 + 1 := ⟨_, rfl⟩
    have hw := hw x5_1 ex5_1
    refine lv_iinc (v := x5_1) (lv' := [(5, .int x5_1), (4, .int z0), (0, .ref h), (1, .int x1), (2, .int x2), (3, .int x3)]) hx hb dX3_farthestIn_93 hl (k := 5) rfl (by rw [ex5_1]; rfl) (by decide) rfl (fun ls hl => ?_)
    refine lv_goto (tgt := 20) hx hb dX3_farthestIn_96 (by decide) ?_
    exact hJ20 x1 x2 x3 z0 x5_1 F R L G _ _ ls hP hS (lv_sub hl [2, 3, 4, 5, 1, 0] rfl) hw
  have T76 : ∀ (J20 : Int32 → Int32 → Int32 → Int32 → Int32 → mF → mR → mL → mG → Prop) (hJ20 : ∀ (x1 : Int32) (x2 : Int32) (x3 : Int32) (x4 : Int32) (x5 : Int32) (F : mF) (R : mR) (L : mL) (G : mG) (H : Heap) (locs : List Loc) (ls : Array Slot), mP K h a F R L G H → va_S (mA h a) s.heap H locs → lv_has ls 7 [(0, .ref h), (1, .int x1), (2, .int x2), (3, .int x3), (4, .int x4), (5, .int x5)] → J20 x1 x2 x3 x4 x5 F R L G → W p l e (rmo 6 154) s m ([.ref h, .int p1, .int p2] : List Value).toArray below meth c H locs 0 0 (MQ below (mQi post K h a) ([.ref h, .int p1, .int p2] : List Value).toArray s 0 0 (mA h a)) (F0 m 20 ls [])), ∀ (x1 : Int32) (x2 : Int32) (x4 : Int32) (x5 : Int32) (x6 : Int32) (z0 : Int32) (F : mF) (R : mR) (L : mL) (G : mG) (H : Heap) (locs : List Loc) (ls : Array Slot), mP K h a F R L G H → va_S (mA h a) s.heap H locs → lv_has ls 7 [(0, .ref h), (1, .int x1), (2, .int x2), (4, .int x4), (5, .int x5), (6, .int x6)] → wpX3_farthestIn_76 post J20 x1 x2 x4 x5 x6 z0 F R L G → W p l e (rmo 6 154) s m ([.ref h, .int p1, .int p2] : List Value).toArray below meth c H locs 0 0 (MQ below (mQi post K h a) ([.ref h, .int p1, .int p2] : List Value).toArray s 0 0 (mA h a)) (F0 m 76 ls [.int z0]) := by
    intro J20 hJ20
    intro x1 x2 x4 x5 x6 z0 F R L G H locs ls hP hS hl hw
    unfold wpX3_farthestIn_76 at hw
    refine lv_istore_n (lv' := [(3, .int z0), (0, .ref h), (1, .int x1), (2, .int x2), (4, .int x4), (5, .int x5), (6, .int x6)]) hx hb dX3_farthestIn_76 rfl hl (by decide) rfl (fun ls hl => ?_)
    refine lv_iload hx hb dX3_farthestIn_77 (lv_at hl 6 rfl) ?_
    refine lv_iload hx hb dX3_farthestIn_79 (lv_at hl 4 rfl) ?_
    refine lv_icmp_le (tgt := 89) hx hb dX3_farthestIn_81 (by decide) (fun c_2 => ?_) (fun c_2 => ?_)
    · have hw := hw.1 c_2
      refine lv_iload hx hb dX3_farthestIn_89 (lv_at hl 4 rfl) ?_
      exact T91 _ hJ20 x1 x2 z0 x5 x4 F R L G _ _ ls hP hS (lv_sub hl [1, 2, 3, 0, 5] rfl) hw
    · have hw := hw.2 c_2
      refine lv_iload hx hb dX3_farthestIn_84 (lv_at hl 6 rfl) ?_
      refine lv_goto (tgt := 91) hx hb dX3_farthestIn_86 (by decide) ?_
      exact T91 _ hJ20 x1 x2 z0 x5 x6 F R L G _ _ ls hP hS (lv_sub hl [1, 2, 3, 0, 5] rfl) hw
  have T20 : ∀ (n : Nat), ∀ (x1 : Int32) (x2 : Int32) (x3 : Int32) (x4 : Int32) (x5 : Int32) (F : mF) (R : mR) (L : mL) (G : mG) (H : Heap) (locs : List Loc) (ls : Array Slot), mP K h a F R L G H → va_S (mA h a) s.heap H locs → lv_has ls 7 [(0, .ref h), (1, .int x1), (2, .int x2), (3, .int x3), (4, .int x4), (5, .int x5)] → wpX3_farthestIn_20 post n x1 x2 x3 x4 x5 F R L G → W p l e (rmo 6 154) s m ([.ref h, .int p1, .int p2] : List Value).toArray below meth c H locs 0 0 (MQ below (mQi post K h a) ([.ref h, .int p1, .int p2] : List Value).toArray s 0 0 (mA h a)) (F0 m 20 ls []) := by
    intro n
    induction n with
    | zero =>
      intro x1 x2 x3 x4 x5 F R L G H locs ls hP hS hl hw
      exact False.elim hw
    | succ n ih =>
      intro x1 x2 x3 x4 x5 F R L G H locs ls hP hS hl hw
      unfold wpX3_farthestIn_20 at hw
      refine lv_iload hx hb dX3_farthestIn_20 (lv_at hl 5 rfl) ?_
      refine lv_sipush (v := 1000) hx hb dX3_farthestIn_22 (by decide) ?_
      refine lv_icmp_gt (tgt := 99) hx hb dX3_farthestIn_25 (by decide) (fun c_3 => ?_) (fun c_3 => ?_)
      · have hw := hw.1 c_3
        refine lv_iload_n hx hb dX3_farthestIn_99 rfl (lv_at hl 3 rfl) ?_
        exact m_iret hx hb hr hlocks hP hS dX3_farthestIn_100 hw
      · have hw := hw.2 c_3
        refine lv_aload_n hx hb dX3_farthestIn_28 rfl (lv_at hl 0 rfl) ?_
        refine lv_iload_n hx hb dX3_farthestIn_29 rfl (lv_at hl 1 rfl) ?_
        refine lv_aload_n hx hb dX3_farthestIn_30 rfl (lv_at hl 0 rfl) ?_
        refine m_get hx hb hts hown hK hP 0 (by decide) q1728 rfl dX3_farthestIn_31 ?_
        refine lv_bipush (v := 111) hx hb dX3_farthestIn_34 (by decide) ?_
        refine m_iald (j := 111) hx hb hK hP 0 1 113 rfl (by decide) (vpd (by decide)) dX3_farthestIn_36 ?_
        refine lv_iload hx hb dX3_farthestIn_37 (lv_at hl 5 rfl) ?_
        refine lv_iadd hx hb dX3_farthestIn_39 ?_
        refine m_calli (As := [.int x1, .int ((R 0 111) + x5)]) (rest := []) ⟨hx, hb, hml, hown, hts⟩ (metX3_armAngle l K h a hap _ F R L G x1 ((R 0 111) + x5)) (cwV 2 hts (lw_V q2101 q2103 qs56 q85 q2104) rfl rfl rfl (by decide +kernel) ⟨Nat.le_of_ble_eq_true rfl, Nat.le_of_ble_eq_true rfl⟩) hK hP hS hw rfl hl.1 rfl (Nat.le_of_ble_eq_true rfl) dX3_farthestIn_40 ⟨Nat.le_refl _, Nat.le_refl _⟩ (fun r_4 F_5 R_6 L_7 G_8 H locs hw hP hS => ?_)
        refine lv_aload_n hx hb dX3_farthestIn_43 rfl (lv_at hl 0 rfl) ?_
        refine lv_iload_n hx hb dX3_farthestIn_44 rfl (lv_at hl 2 rfl) ?_
        refine lv_aload_n hx hb dX3_farthestIn_45 rfl (lv_at hl 0 rfl) ?_
        refine m_get hx hb hts hown hK hP 0 (by decide) q1728 rfl dX3_farthestIn_46 ?_
        refine lv_bipush (v := 111) hx hb dX3_farthestIn_49 (by decide) ?_
        refine m_iald (j := 111) hx hb hK hP 0 1 113 rfl (by decide) (vpd (by decide)) dX3_farthestIn_51 ?_
        refine lv_iload hx hb dX3_farthestIn_52 (lv_at hl 5 rfl) ?_
        refine lv_iadd hx hb dX3_farthestIn_54 ?_
        refine m_calli (As := [.int x2, .int ((R_6 0 111) + x5)]) (rest := [.int r_4]) ⟨hx, hb, hml, hown, hts⟩ (metX3_armAngle l K h a hap _ F_5 R_6 L_7 G_8 x2 ((R_6 0 111) + x5)) (cwV 2 hts (lw_V q2101 q2103 qs56 q85 q2104) rfl rfl rfl (by decide +kernel) ⟨Nat.le_of_ble_eq_true rfl, Nat.le_of_ble_eq_true rfl⟩) hK hP hS hw rfl hl.1 rfl (Nat.le_of_ble_eq_true rfl) dX3_farthestIn_55 ⟨Nat.le_refl _, Nat.le_refl _⟩ (fun r_9 F_10 R_11 L_12 G_13 H locs hw hP hS => ?_)
        refine s_calli (As := [.int r_4, .int r_9]) (rest := []) ⟨hx, hb, hml, hown, hts⟩ (metX3_apart l _ r_4 r_9) (va_cwS 2 hts (lw_S q2152 q2153 q85 q2154) rfl rfl rfl (by decide +kernel) ⟨Nat.le_of_ble_eq_true rfl, Nat.le_of_ble_eq_true rfl⟩) hw rfl hl.1 rfl (Nat.le_of_ble_eq_true rfl) dX3_farthestIn_58 ⟨Nat.le_refl _, Nat.le_refl _⟩ (fun r_14 hw => ?_)
        refine lv_istore (lv' := [(6, .int r_14), (0, .ref h), (1, .int x1), (2, .int x2), (3, .int x3), (4, .int x4), (5, .int x5)]) hx hb dX3_farthestIn_61 hl (by decide) rfl (fun ls hl => ?_)
        refine lv_iload hx hb dX3_farthestIn_63 (lv_at hl 0 rfl) ?_
        refine lv_iload hx hb dX3_farthestIn_65 (lv_at hl 5 rfl) ?_
        refine lv_icmp_le (tgt := 75) hx hb dX3_farthestIn_67 (by decide) (fun c_15 => ?_) (fun c_15 => ?_)
        · have hw := hw.1 c_15
          refine lv_iload_n hx hb dX3_farthestIn_75 rfl (lv_at hl 4 rfl) ?_
          exact T76 _ ih x1 x2 x4 x5 r_14 x3 F_10 R_11 L_12 G_13 _ _ ls hP hS (lv_sub hl [1, 2, 3, 5, 6, 0] rfl) hw
        · have hw := hw.2 c_15
          refine lv_iload hx hb dX3_farthestIn_70 (lv_at hl 6 rfl) ?_
          refine lv_goto (tgt := 76) hx hb dX3_farthestIn_72 (by decide) ?_
          exact T76 _ ih x1 x2 x4 x5 r_14 x5 F_10 R_11 L_12 G_13 _ _ ls hP hS (lv_sub hl [1, 2, 3, 5, 6, 0] rfl) hw
  unfold wpX3_farthestIn at hw
  refine lv_aload_n hx hb dX3_farthestIn_0 rfl (lv_at hl 0 rfl) ?_
  refine lv_iload_n hx hb dX3_farthestIn_1 rfl (lv_at hl 1 rfl) ?_
  refine lv_iload_n hx hb dX3_farthestIn_2 rfl (lv_at hl 2 rfl) ?_
  refine lv_iconst (v := 1) hx hb dX3_farthestIn_3 (by decide) ?_
  refine m_calli (As := [.int p1, .int p2, .int 1]) (rest := []) ⟨hx, hb, hml, hown, hts⟩ (metX3_asksArms l K h a hap _ F R L G p1 p2 1) (cwV 3 hts (lw_V q2140 q2142 qs60 q85 q2143) rfl rfl rfl (by decide +kernel) ⟨Nat.le_of_ble_eq_true rfl, Nat.le_of_ble_eq_true rfl⟩) hK hP hS hw rfl hl.1 rfl (Nat.le_of_ble_eq_true rfl) dX3_farthestIn_4 ⟨Nat.le_refl _, Nat.le_refl _⟩ (fun r_16 F_17 R_18 L_19 G_20 H locs hw hP hS => ?_)
  refine lv_if_ne (tgt := 12) hx hb dX3_farthestIn_7 (by decide) (fun c_21 => ?_) (fun c_21 => ?_)
  · have hw := hw.2 (c_21)
    refine lv_iconst (v := 0) hx hb dX3_farthestIn_12 (by decide) ?_
    refine lv_istore_n (lv' := [(3, .int 0), (0, .ref h), (1, .int p1), (2, .int p2)]) hx hb dX3_farthestIn_13 rfl hl (by decide) rfl (fun ls hl => ?_)
    refine lv_iconst (v := (-1)) hx hb dX3_farthestIn_14 (by decide) ?_
    refine lv_istore (lv' := [(4, .int (-1)), (3, .int 0), (0, .ref h), (1, .int p1), (2, .int p2)]) hx hb dX3_farthestIn_15 hl (by decide) rfl (fun ls hl => ?_)
    refine lv_iconst (v := 1) hx hb dX3_farthestIn_17 (by decide) ?_
    refine lv_istore (lv' := [(5, .int 1), (4, .int (-1)), (3, .int 0), (0, .ref h), (1, .int p1), (2, .int p2)]) hx hb dX3_farthestIn_18 hl (by decide) rfl (fun ls hl => ?_)
    obtain ⟨fu, hw⟩ := hw
    exact T20 fu p1 p2 0 (-1) 1 F_17 R_18 L_19 G_20 _ _ ls hP hS (lv_sub hl [3, 4, 5, 2, 1, 0] rfl) hw
  · have hw := hw.1 (c_21)
    refine lv_iconst (v := 0) hx hb dX3_farthestIn_10 (by decide) ?_
    exact m_iret hx hb hr hlocks hP hS dX3_farthestIn_11 hw
def wpX3_bendFor_106 (post : Int32 → mF → mR → mL → mG → Prop) (J52 : Int32 → Int32 → Int32 → Int32 → Int32 → mF → mR → mL → mG → Prop) (x2 : Int32) (x3 : Int32) (x4 : Int32) (x6 : Int32) (z0 : Int32) (F : mF) (R : mR) (L : mL) (G : mG) : Prop := (∀ x6_1 : Int32, x6_1 = x6 + 1 → J52 x2 x3 x4 z0 x6_1 F R L G)
def wpX3_bendFor_90 (post : Int32 → mF → mR → mL → mG → Prop) (J52 : Int32 → Int32 → Int32 → Int32 → Int32 → mF → mR → mL → mG → Prop) (x2 : Int32) (x3 : Int32) (x5 : Int32) (x6 : Int32) (x7 : Int32) (z0 : Int32) (F : mF) (R : mR) (L : mL) (G : mG) : Prop := ((x5 ≤ x7 → wpX3_bendFor_106 post J52 x2 x3 z0 x6 x5 F R L G) ∧ (¬ x5 ≤ x7 → wpX3_bendFor_106 post J52 x2 x3 z0 x6 x7 F R L G))
def wpX3_bendFor_52 (post : Int32 → mF → mR → mL → mG → Prop) : Nat → Int32 → Int32 → Int32 → Int32 → Int32 → mF → mR → mL → mG → Prop
  | 0 => fun _ _ _ _ _ _ _ _ _ => False
  | n + 1 => fun x2 x3 x4 x5 x6 F R L G => ((180 < x6 → post x4 F R L G) ∧ (¬ 180 < x6 → wpX3_brought (fun r_4 => wpX3_apart (fun r_5 => ((x5 ≤ r_5 → wpX3_bendFor_90 post (wpX3_bendFor_52 post n) x2 x3 x5 x6 r_5 x4 F R L G) ∧ (¬ x5 ≤ r_5 → wpX3_bendFor_90 post (wpX3_bendFor_52 post n) x2 x3 x5 x6 r_5 x6 F R L G))) r_4 x2) (x3 + (60 * x6))))
def wpX3_bendFor (post : Int32 → mF → mR → mL → mG → Prop) (F : mF) (R : mR) (L : mL) (G : mG) (p1 : Int32) (p2 : Int32) : Prop := wpX3_in (fun r_7 => wpX3_asksArm (fun r_8 F_9 R_10 L_11 G_12 => ((r_8 = 0 → post 0 F_9 R_10 L_11 G_12) ∧ (¬ r_8 = 0 → (vp_in (84 + p1) 113 ∧ wpX3_angle (fun r_15 F_16 R_17 L_18 G_19 => ∃ fu : Nat, wpX3_bendFor_52 post fu p2 r_15 0 21600 (-180) F_16 R_17 L_18 G_19) F_9 R_10 L_11 G_12 (R_10 0 (Int32.toNatClampNeg (84 + p1))) (R_10 0 111))))) F R L G p1 r_7) p2 0 21599
abbrev wsX3_bendFor : List Cond := ws_ yX3_bendFor cX3_bendFor 8 (some .int)
set_option maxHeartbeats 8000000 in
theorem metX3_bendFor (l : Launch) (K : KT) (h : Nat) (a : Nat → Nat) (hap : mAp h a) (post : Int32 → mF → mR → mL → mG → Prop) (F : mF) (R : mR) (L : mL) (G : mG) (p1 : Int32) (p2 : Int32) : Met l yX3_bendFor wsX3_bendFor (rmo 5 130) (mPre K h a F R L G [.int p1, .int p2] (wpX3_bendFor post F R L G p1 p2)) (mQi post K h a) 0 0 (mA h a) := by
  refine Met.ofW (cc := cX3_bendFor) (maxL := 8) (ret := (some .int)) (by decide) rfl ?_
  intro p e s m args below meth c s₁ B hml hv
  obtain ⟨rfl, hP, hK, hw⟩ := hv
  have hx := B.exec
  have hb := B.bytes
  have hr := B.returns
  have hts := atoms_spec (ws := wsX3_bendFor) B.pre
  have hts : ∀ w ∈ lw_all, w.before _ s = true := fun w h => hts w (List.mem_cons_of_mem _ h)
  have hown : s.vm.findClass RX3 = some m.cls := findClass_of_methodNamed B.named
  have hlocks := B.notSynchronized
  have hl := lv_entry ([.ref h, .int p1, .int p2]) (n := 8) (Nat.le_of_ble_eq_true rfl)
  rw [lg_entry_eq]
  generalize (lg_sl ([.ref h, .int p1, .int p2]) ++ List.replicate (8 - (lg_sl ([.ref h, .int p1, .int p2])).length) Slot.unset).toArray = ls at hl ⊢
  have hl : lv_has ls 8 [(0, .ref h), (1, .int p1), (2, .int p2)] := hl
  have hS : va_S (mA h a) s.heap s.heap [] := va_S.rf
  have T106 : ∀ (J52 : Int32 → Int32 → Int32 → Int32 → Int32 → mF → mR → mL → mG → Prop) (hJ52 : ∀ (x2 : Int32) (x3 : Int32) (x4 : Int32) (x5 : Int32) (x6 : Int32) (F : mF) (R : mR) (L : mL) (G : mG) (H : Heap) (locs : List Loc) (ls : Array Slot), mP K h a F R L G H → va_S (mA h a) s.heap H locs → lv_has ls 8 [(2, .int x2), (3, .int x3), (4, .int x4), (5, .int x5), (6, .int x6)] → J52 x2 x3 x4 x5 x6 F R L G → W p l e (rmo 5 130) s m ([.ref h, .int p1, .int p2] : List Value).toArray below meth c H locs 0 0 (MQ below (mQi post K h a) ([.ref h, .int p1, .int p2] : List Value).toArray s 0 0 (mA h a)) (F0 m 52 ls [])), ∀ (x2 : Int32) (x3 : Int32) (x4 : Int32) (x6 : Int32) (z0 : Int32) (F : mF) (R : mR) (L : mL) (G : mG) (H : Heap) (locs : List Loc) (ls : Array Slot), mP K h a F R L G H → va_S (mA h a) s.heap H locs → lv_has ls 8 [(2, .int x2), (3, .int x3), (4, .int x4), (6, .int x6)] → wpX3_bendFor_106 post J52 x2 x3 x4 x6 z0 F R L G → W p l e (rmo 5 130) s m ([.ref h, .int p1, .int p2] : List Value).toArray below meth c H locs 0 0 (MQ below (mQi post K h a) ([.ref h, .int p1, .int p2] : List Value).toArray s 0 0 (mA h a)) (F0 m 106 ls [.int z0]) := by
    intro J52 hJ52
    intro x2 x3 x4 x6 z0 F R L G H locs ls hP hS hl hw
    unfold wpX3_bendFor_106 at hw
    refine lv_istore (lv' := [(5, .int z0), (2, .int x2), (3, .int x3), (4, .int x4), (6, .int x6)]) hx hb dX3_bendFor_106 hl (by decide) rfl (fun ls hl => ?_)
    obtain ⟨x6_1, ex6_1⟩ : ∃ y : Int32, y = x6 + 1 := ⟨_, rfl⟩
    have hw := hw x6_1 ex6_1
    refine lv_iinc (v := x6_1) (lv' := [(6, .int x6_1), (5, .int z0), (2, .int x2), (3, .int x3), (4, .int x4)]) hx hb dX3_bendFor_108 hl (k := 4) rfl (by rw [ex6_1]; rfl) (by decide) rfl (fun ls hl => ?_)
    refine lv_goto (tgt := 52) hx hb dX3_bendFor_111 (by decide) ?_
    exact hJ52 x2 x3 x4 z0 x6_1 F R L G _ _ ls hP hS (lv_sub hl [2, 3, 4, 1, 0] rfl) hw
  have T90 : ∀ (J52 : Int32 → Int32 → Int32 → Int32 → Int32 → mF → mR → mL → mG → Prop) (hJ52 : ∀ (x2 : Int32) (x3 : Int32) (x4 : Int32) (x5 : Int32) (x6 : Int32) (F : mF) (R : mR) (L : mL) (G : mG) (H : Heap) (locs : List Loc) (ls : Array Slot), mP K h a F R L G H → va_S (mA h a) s.heap H locs → lv_has ls 8 [(2, .int x2), (3, .int x3), (4, .int x4), (5, .int x5), (6, .int x6)] → J52 x2 x3 x4 x5 x6 F R L G → W p l e (rmo 5 130) s m ([.ref h, .int p1, .int p2] : List Value).toArray below meth c H locs 0 0 (MQ below (mQi post K h a) ([.ref h, .int p1, .int p2] : List Value).toArray s 0 0 (mA h a)) (F0 m 52 ls [])), ∀ (x2 : Int32) (x3 : Int32) (x5 : Int32) (x6 : Int32) (x7 : Int32) (z0 : Int32) (F : mF) (R : mR) (L : mL) (G : mG) (H : Heap) (locs : List Loc) (ls : Array Slot), mP K h a F R L G H → va_S (mA h a) s.heap H locs → lv_has ls 8 [(2, .int x2), (3, .int x3), (5, .int x5), (6, .int x6), (7, .int x7)] → wpX3_bendFor_90 post J52 x2 x3 x5 x6 x7 z0 F R L G → W p l e (rmo 5 130) s m ([.ref h, .int p1, .int p2] : List Value).toArray below meth c H locs 0 0 (MQ below (mQi post K h a) ([.ref h, .int p1, .int p2] : List Value).toArray s 0 0 (mA h a)) (F0 m 90 ls [.int z0]) := by
    intro J52 hJ52
    intro x2 x3 x5 x6 x7 z0 F R L G H locs ls hP hS hl hw
    unfold wpX3_bendFor_90 at hw
    refine lv_istore (lv' := [(4, .int z0), (2, .int x2), (3, .int x3), (5, .int x5), (6, .int x6), (7, .int x7)]) hx hb dX3_bendFor_90 hl (by decide) rfl (fun ls hl => ?_)
    refine lv_iload hx hb dX3_bendFor_92 (lv_at hl 5 rfl) ?_
    refine lv_iload hx hb dX3_bendFor_94 (lv_at hl 3 rfl) ?_
    refine lv_icmp_ge (tgt := 104) hx hb dX3_bendFor_96 (by decide) (fun c_2 => ?_) (fun c_2 => ?_)
    · have hw := hw.1 c_2
      refine lv_iload hx hb dX3_bendFor_104 (lv_at hl 3 rfl) ?_
      exact T106 _ hJ52 x2 x3 z0 x6 x5 F R L G _ _ ls hP hS (lv_sub hl [1, 2, 0, 4] rfl) hw
    · have hw := hw.2 c_2
      refine lv_iload hx hb dX3_bendFor_99 (lv_at hl 5 rfl) ?_
      refine lv_goto (tgt := 106) hx hb dX3_bendFor_101 (by decide) ?_
      exact T106 _ hJ52 x2 x3 z0 x6 x7 F R L G _ _ ls hP hS (lv_sub hl [1, 2, 0, 4] rfl) hw
  have T52 : ∀ (n : Nat), ∀ (x2 : Int32) (x3 : Int32) (x4 : Int32) (x5 : Int32) (x6 : Int32) (F : mF) (R : mR) (L : mL) (G : mG) (H : Heap) (locs : List Loc) (ls : Array Slot), mP K h a F R L G H → va_S (mA h a) s.heap H locs → lv_has ls 8 [(2, .int x2), (3, .int x3), (4, .int x4), (5, .int x5), (6, .int x6)] → wpX3_bendFor_52 post n x2 x3 x4 x5 x6 F R L G → W p l e (rmo 5 130) s m ([.ref h, .int p1, .int p2] : List Value).toArray below meth c H locs 0 0 (MQ below (mQi post K h a) ([.ref h, .int p1, .int p2] : List Value).toArray s 0 0 (mA h a)) (F0 m 52 ls []) := by
    intro n
    induction n with
    | zero =>
      intro x2 x3 x4 x5 x6 F R L G H locs ls hP hS hl hw
      exact False.elim hw
    | succ n ih =>
      intro x2 x3 x4 x5 x6 F R L G H locs ls hP hS hl hw
      unfold wpX3_bendFor_52 at hw
      refine lv_iload hx hb dX3_bendFor_52 (lv_at hl 4 rfl) ?_
      refine lv_sipush (v := 180) hx hb dX3_bendFor_54 (by decide) ?_
      refine lv_icmp_gt (tgt := 114) hx hb dX3_bendFor_57 (by decide) (fun c_3 => ?_) (fun c_3 => ?_)
      · have hw := hw.1 c_3
        refine lv_iload hx hb dX3_bendFor_114 (lv_at hl 2 rfl) ?_
        exact m_iret hx hb hr hlocks hP hS dX3_bendFor_116 hw
      · have hw := hw.2 c_3
        refine lv_iload_n hx hb dX3_bendFor_60 rfl (lv_at hl 1 rfl) ?_
        refine lv_bipush (v := 60) hx hb dX3_bendFor_61 (by decide) ?_
        refine lv_iload hx hb dX3_bendFor_63 (lv_at hl 4 rfl) ?_
        refine lv_imul hx hb dX3_bendFor_65 ?_
        refine lv_iadd hx hb dX3_bendFor_66 ?_
        refine s_calli (As := [.int (x3 + (60 * x6))]) (rest := []) ⟨hx, hb, hml, hown, hts⟩ (metX3_brought l _ (x3 + (60 * x6))) (va_cwS 1 hts (lw_S q2110 q2111 q85 q2112) rfl rfl rfl (by decide +kernel) ⟨Nat.le_of_ble_eq_true rfl, Nat.le_of_ble_eq_true rfl⟩) hw rfl hl.1 rfl (Nat.le_of_ble_eq_true rfl) dX3_bendFor_67 ⟨Nat.le_refl _, Nat.le_refl _⟩ (fun r_4 hw => ?_)
        refine lv_iload_n hx hb dX3_bendFor_70 rfl (lv_at hl 0 rfl) ?_
        refine s_calli (As := [.int r_4, .int x2]) (rest := []) ⟨hx, hb, hml, hown, hts⟩ (metX3_apart l _ r_4 x2) (va_cwS 2 hts (lw_S q2152 q2153 q85 q2154) rfl rfl rfl (by decide +kernel) ⟨Nat.le_of_ble_eq_true rfl, Nat.le_of_ble_eq_true rfl⟩) hw rfl hl.1 rfl (Nat.le_of_ble_eq_true rfl) dX3_bendFor_71 ⟨Nat.le_refl _, Nat.le_refl _⟩ (fun r_5 hw => ?_)
        refine lv_istore (lv' := [(7, .int r_5), (2, .int x2), (3, .int x3), (4, .int x4), (5, .int x5), (6, .int x6)]) hx hb dX3_bendFor_74 hl (by decide) rfl (fun ls hl => ?_)
        refine lv_iload hx hb dX3_bendFor_76 (lv_at hl 0 rfl) ?_
        refine lv_iload hx hb dX3_bendFor_78 (lv_at hl 4 rfl) ?_
        refine lv_icmp_ge (tgt := 88) hx hb dX3_bendFor_80 (by decide) (fun c_6 => ?_) (fun c_6 => ?_)
        · have hw := hw.1 c_6
          refine lv_iload hx hb dX3_bendFor_88 (lv_at hl 3 rfl) ?_
          exact T90 _ ih x2 x3 x5 x6 r_5 x4 F R L G _ _ ls hP hS (lv_sub hl [1, 2, 4, 5, 0] rfl) hw
        · have hw := hw.2 c_6
          refine lv_iload hx hb dX3_bendFor_83 (lv_at hl 5 rfl) ?_
          refine lv_goto (tgt := 90) hx hb dX3_bendFor_85 (by decide) ?_
          exact T90 _ ih x2 x3 x5 x6 r_5 x6 F R L G _ _ ls hP hS (lv_sub hl [1, 2, 4, 5, 0] rfl) hw
  unfold wpX3_bendFor at hw
  refine lv_aload_n hx hb dX3_bendFor_0 rfl (lv_at hl 0 rfl) ?_
  refine lv_iload_n hx hb dX3_bendFor_1 rfl (lv_at hl 1 rfl) ?_
  refine lv_iload_n hx hb dX3_bendFor_2 rfl (lv_at hl 2 rfl) ?_
  refine lv_iconst (v := 0) hx hb dX3_bendFor_3 (by decide) ?_
  refine lv_sipush (v := 21599) hx hb dX3_bendFor_4 (by decide) ?_
  refine s_calli (As := [.int p2, .int 0, .int 21599]) (rest := [.int p1, .ref h]) ⟨hx, hb, hml, hown, hts⟩ (metX3_in l _ p2 0 21599) (va_cwS 3 hts (lw_S q1858 q1859 q85 q1860) rfl rfl rfl (by decide +kernel) ⟨Nat.le_of_ble_eq_true rfl, Nat.le_of_ble_eq_true rfl⟩) hw rfl hl.1 rfl (Nat.le_of_ble_eq_true rfl) dX3_bendFor_7 ⟨Nat.le_refl _, Nat.le_refl _⟩ (fun r_7 hw => ?_)
  refine m_calli (As := [.int p1, .int r_7]) (rest := []) ⟨hx, hb, hml, hown, hts⟩ (metX3_asksArm l K h a hap _ F R L G p1 r_7) (cwV 2 hts (lw_V q2097 q2099 qs55 q85 q2100) rfl rfl rfl (by decide +kernel) ⟨Nat.le_of_ble_eq_true rfl, Nat.le_of_ble_eq_true rfl⟩) hK hP hS hw rfl hl.1 rfl (Nat.le_of_ble_eq_true rfl) dX3_bendFor_10 ⟨Nat.le_refl _, Nat.le_refl _⟩ (fun r_8 F_9 R_10 L_11 G_12 H locs hw hP hS => ?_)
  refine lv_if_ne (tgt := 18) hx hb dX3_bendFor_13 (by decide) (fun c_13 => ?_) (fun c_13 => ?_)
  · have hw := hw.2 (c_13)
    refine lv_aload_n hx hb dX3_bendFor_18 rfl (lv_at hl 0 rfl) ?_
    refine lv_aload_n hx hb dX3_bendFor_19 rfl (lv_at hl 0 rfl) ?_
    refine m_get hx hb hts hown hK hP 0 (by decide) q1728 rfl dX3_bendFor_20 ?_
    refine lv_bipush (v := 84) hx hb dX3_bendFor_23 (by decide) ?_
    refine lv_iload_n hx hb dX3_bendFor_25 rfl (lv_at hl 1 rfl) ?_
    refine lv_iadd hx hb dX3_bendFor_26 ?_
    obtain ⟨h_14, hw⟩ := hw
    refine m_iald (j := (Int32.toNatClampNeg (84 + p1))) hx hb hK hP 0 1 113 rfl rfl h_14 dX3_bendFor_27 ?_
    refine lv_aload_n hx hb dX3_bendFor_28 rfl (lv_at hl 0 rfl) ?_
    refine m_get hx hb hts hown hK hP 0 (by decide) q1728 rfl dX3_bendFor_29 ?_
    refine lv_bipush (v := 111) hx hb dX3_bendFor_32 (by decide) ?_
    refine m_iald (j := 111) hx hb hK hP 0 1 113 rfl (by decide) (vpd (by decide)) dX3_bendFor_34 ?_
    refine m_calli (As := [.int (R_10 0 (Int32.toNatClampNeg (84 + p1))), .int (R_10 0 111)]) (rest := []) ⟨hx, hb, hml, hown, hts⟩ (metX3_angle l K h a hap _ F_9 R_10 L_11 G_12 (R_10 0 (Int32.toNatClampNeg (84 + p1))) (R_10 0 111)) (cwV 2 hts (lw_V q2105 q2107 qs57 q85 q2108) rfl rfl rfl (by decide +kernel) ⟨Nat.le_of_ble_eq_true rfl, Nat.le_of_ble_eq_true rfl⟩) hK hP hS hw rfl hl.1 rfl (Nat.le_of_ble_eq_true rfl) dX3_bendFor_35 ⟨Nat.le_refl _, Nat.le_refl _⟩ (fun r_15 F_16 R_17 L_18 G_19 H locs hw hP hS => ?_)
    refine lv_istore_n (lv' := [(3, .int r_15), (0, .ref h), (1, .int p1), (2, .int p2)]) hx hb dX3_bendFor_38 rfl hl (by decide) rfl (fun ls hl => ?_)
    refine lv_iconst (v := 0) hx hb dX3_bendFor_39 (by decide) ?_
    refine lv_istore (lv' := [(4, .int 0), (3, .int r_15), (0, .ref h), (1, .int p1), (2, .int p2)]) hx hb dX3_bendFor_40 hl (by decide) rfl (fun ls hl => ?_)
    refine lv_sipush (v := 21600) hx hb dX3_bendFor_42 (by decide) ?_
    refine lv_istore (lv' := [(5, .int 21600), (4, .int 0), (3, .int r_15), (0, .ref h), (1, .int p1), (2, .int p2)]) hx hb dX3_bendFor_45 hl (by decide) rfl (fun ls hl => ?_)
    refine lv_sipush (v := (-180)) hx hb dX3_bendFor_47 (by decide) ?_
    refine lv_istore (lv' := [(6, .int (-180)), (5, .int 21600), (4, .int 0), (3, .int r_15), (0, .ref h), (1, .int p1), (2, .int p2)]) hx hb dX3_bendFor_50 hl (by decide) rfl (fun ls hl => ?_)
    obtain ⟨fu, hw⟩ := hw
    exact T52 fu p2 r_15 0 21600 (-180) F_16 R_17 L_18 G_19 _ _ ls hP hS (lv_sub hl [6, 3, 2, 1, 0] rfl) hw
  · have hw := hw.1 (c_13)
    refine lv_iconst (v := 0) hx hb dX3_bendFor_16 (by decide) ?_
    exact m_iret hx hb hr hlocks hP hS dX3_bendFor_17 hw
def wpX3_day (post : Int32 → mF → mR → mL → mG → Prop) (F : mF) (R : mR) (L : mL) (G : mG) : Prop := wpX3_account (fun r_1 F_2 R_3 L_4 G_5 => post r_1 F_2 R_3 L_4 G_5) F R L G 111
abbrev wsX3_day : List Cond := ws_ yX3_day cX3_day 1 (some .int)
set_option maxHeartbeats 8000000 in
theorem metX3_day (l : Launch) (K : KT) (h : Nat) (a : Nat → Nat) (hap : mAp h a) (post : Int32 → mF → mR → mL → mG → Prop) (F : mF) (R : mR) (L : mL) (G : mG) : Met l yX3_day wsX3_day (rmo 1 21) (mPre K h a F R L G [] (wpX3_day post F R L G )) (mQi post K h a) 0 0 (mA h a) := by
  refine Met.ofW (cc := cX3_day) (maxL := 1) (ret := (some .int)) (by decide) rfl ?_
  intro p e s m args below meth c s₁ B hml hv
  obtain ⟨rfl, hP, hK, hw⟩ := hv
  have hx := B.exec
  have hb := B.bytes
  have hr := B.returns
  have hts := atoms_spec (ws := wsX3_day) B.pre
  have hts : ∀ w ∈ lw_all, w.before _ s = true := fun w h => hts w (List.mem_cons_of_mem _ h)
  have hown : s.vm.findClass RX3 = some m.cls := findClass_of_methodNamed B.named
  have hlocks := B.notSynchronized
  have hl := lv_entry ([.ref h]) (n := 1) (Nat.le_of_ble_eq_true rfl)
  rw [lg_entry_eq]
  generalize (lg_sl ([.ref h]) ++ List.replicate (1 - (lg_sl ([.ref h])).length) Slot.unset).toArray = ls at hl ⊢
  have hl : lv_has ls 1 [(0, .ref h)] := hl
  have hS : va_S (mA h a) s.heap s.heap [] := va_S.rf
  unfold wpX3_day at hw
  refine lv_aload_n hx hb dX3_day_0 rfl (lv_at hl 0 rfl) ?_
  refine lv_bipush (v := 111) hx hb dX3_day_1 (by decide) ?_
  refine m_calli (As := [.int 111]) (rest := []) ⟨hx, hb, hml, hown, hts⟩ (metX3_account l K h a hap _ F R L G 111) (cwV 1 hts (lw_V q1989 q1991 qs48 q85 q1992) rfl rfl rfl (by decide +kernel) ⟨Nat.le_of_ble_eq_true rfl, Nat.le_of_ble_eq_true rfl⟩) hK hP hS hw rfl hl.1 rfl (Nat.le_of_ble_eq_true rfl) dX3_day_3 ⟨Nat.le_refl _, Nat.le_refl _⟩ (fun r_1 F_2 R_3 L_4 G_5 H locs hw hP hS => ?_)
  exact m_iret hx hb hr hlocks hP hS dX3_day_6 hw
def wpX3_isLong (post : Int32 → Prop) (p0 : Int32) : Prop := (((iRem p0 4) = 0 → (((iRem p0 100) = 0 → (((iRem p0 400) = 0 → post 1) ∧ (¬ (iRem p0 400) = 0 → post 0))) ∧ (¬ (iRem p0 100) = 0 → post 1))) ∧ (¬ (iRem p0 4) = 0 → post 0))
abbrev wsX3_isLong : List Cond := ws_ yX3_isLong cX3_isLong 1 (some .boolean)
set_option maxHeartbeats 8000000 in
theorem metX3_isLong (l : Launch) (post : Int32 → Prop) (p0 : Int32) : Met l yX3_isLong wsX3_isLong (rmo 0 0) (sPre [.int p0] (wpX3_isLong post p0)) (vp_Si post) 0 0 (fun _ => False) := by
  refine Met.ofW (cc := cX3_isLong) (maxL := 1) (ret := (some .boolean)) (by decide) rfl ?_
  intro p e s m args below meth c s₁ B hml hv
  obtain ⟨rfl, hw⟩ := hv
  have hx := B.exec
  have hb := B.bytes
  have hr := B.returns
  have hts := atoms_spec (ws := wsX3_isLong) B.pre
  have hts : ∀ w ∈ lw_all, w.before _ s = true := fun w h => hts w (List.mem_cons_of_mem _ h)
  have hown : s.vm.findClass RX3 = some m.cls := findClass_of_methodNamed B.named
  have hlocks := B.notSynchronized
  have hl := lv_entry ([.int p0]) (n := 1) (Nat.le_of_ble_eq_true rfl)
  rw [lg_entry_eq]
  generalize (lg_sl ([.int p0]) ++ List.replicate (1 - (lg_sl ([.int p0])).length) Slot.unset).toArray = ls at hl ⊢
  have hl : lv_has ls 1 [(0, .int p0)] := hl
  unfold wpX3_isLong at hw
  refine lv_iload_n hx hb dX3_isLong_0 rfl (lv_at hl 0 rfl) ?_
  refine lv_iconst (v := 4) hx hb dX3_isLong_1 (by decide) ?_
  refine lv_irem hx hb dX3_isLong_2 (by decide) ?_
  refine lv_if_ne (tgt := 25) hx hb dX3_isLong_3 (by decide) (fun c_1 => ?_) (fun c_1 => ?_)
  · have hw := hw.2 (c_1)
    refine lv_iconst (v := 0) hx hb dX3_isLong_25 (by decide) ?_
    exact s_zret hx hb hr hlocks dX3_isLong_26 (Or.inl rfl) hw
  · have hw := hw.1 (c_1)
    refine lv_iload_n hx hb dX3_isLong_6 rfl (lv_at hl 0 rfl) ?_
    refine lv_bipush (v := 100) hx hb dX3_isLong_7 (by decide) ?_
    refine lv_irem hx hb dX3_isLong_9 (by decide) ?_
    refine lv_if_ne (tgt := 21) hx hb dX3_isLong_10 (by decide) (fun c_2 => ?_) (fun c_2 => ?_)
    · have hw := hw.2 (c_2)
      refine lv_iconst (v := 1) hx hb dX3_isLong_21 (by decide) ?_
      refine lv_goto (tgt := 26) hx hb dX3_isLong_22 (by decide) ?_
      exact s_zret hx hb hr hlocks dX3_isLong_26 (Or.inr rfl) hw
    · have hw := hw.1 (c_2)
      refine lv_iload_n hx hb dX3_isLong_13 rfl (lv_at hl 0 rfl) ?_
      refine lv_sipush (v := 400) hx hb dX3_isLong_14 (by decide) ?_
      refine lv_irem hx hb dX3_isLong_17 (by decide) ?_
      refine lv_if_ne (tgt := 25) hx hb dX3_isLong_18 (by decide) (fun c_3 => ?_) (fun c_3 => ?_)
      · have hw := hw.2 (c_3)
        refine lv_iconst (v := 0) hx hb dX3_isLong_25 (by decide) ?_
        exact s_zret hx hb hr hlocks dX3_isLong_26 (Or.inl rfl) hw
      · have hw := hw.1 (c_3)
        refine lv_iconst (v := 1) hx hb dX3_isLong_21 (by decide) ?_
        refine lv_goto (tgt := 26) hx hb dX3_isLong_22 (by decide) ?_
        exact s_zret hx hb hr hlocks dX3_isLong_26 (Or.inr rfl) hw
def wpX3_daysOf (post : Int32 → Prop) (p0 : Int32) (p1 : Int32) : Prop := ((p1 = 2 → wpX3_isLong (fun r_6 => ((r_6 = 0 → post 28) ∧ (¬ r_6 = 0 → post 29))) p0) ∧ (¬ p1 = 2 → ((p1 = 4 → post 30) ∧ (¬ p1 = 4 → ((p1 = 6 → post 30) ∧ (¬ p1 = 6 → ((p1 = 9 → post 30) ∧ (¬ p1 = 9 → ((p1 = 11 → post 30) ∧ (¬ p1 = 11 → post 31))))))))))
abbrev wsX3_daysOf : List Cond := ws_ yX3_daysOf cX3_daysOf 2 (some .int)
set_option maxHeartbeats 8000000 in
theorem metX3_daysOf (l : Launch) (post : Int32 → Prop) (p0 : Int32) (p1 : Int32) : Met l yX3_daysOf wsX3_daysOf (rmo 1 20) (sPre [.int p0, .int p1] (wpX3_daysOf post p0 p1)) (vp_Si post) 0 0 (fun _ => False) := by
  refine Met.ofW (cc := cX3_daysOf) (maxL := 2) (ret := (some .int)) (by decide) rfl ?_
  intro p e s m args below meth c s₁ B hml hv
  obtain ⟨rfl, hw⟩ := hv
  have hx := B.exec
  have hb := B.bytes
  have hr := B.returns
  have hts := atoms_spec (ws := wsX3_daysOf) B.pre
  have hts : ∀ w ∈ lw_all, w.before _ s = true := fun w h => hts w (List.mem_cons_of_mem _ h)
  have hown : s.vm.findClass RX3 = some m.cls := findClass_of_methodNamed B.named
  have hlocks := B.notSynchronized
  have hl := lv_entry ([.int p0, .int p1]) (n := 2) (Nat.le_of_ble_eq_true rfl)
  rw [lg_entry_eq]
  generalize (lg_sl ([.int p0, .int p1]) ++ List.replicate (2 - (lg_sl ([.int p0, .int p1])).length) Slot.unset).toArray = ls at hl ⊢
  have hl : lv_has ls 2 [(0, .int p0), (1, .int p1)] := hl
  unfold wpX3_daysOf at hw
  refine lv_iload_n hx hb dX3_daysOf_0 rfl (lv_at hl 1 rfl) ?_
  refine lv_iconst (v := 2) hx hb dX3_daysOf_1 (by decide) ?_
  refine lv_icmp_ne (tgt := 22) hx hb dX3_daysOf_2 (by decide) (fun c_1 => ?_) (fun c_1 => ?_)
  · have hw := hw.2 (c_1)
    refine lv_iload_n hx hb dX3_daysOf_22 rfl (lv_at hl 1 rfl) ?_
    refine lv_iconst (v := 4) hx hb dX3_daysOf_23 (by decide) ?_
    refine lv_icmp_eq (tgt := 45) hx hb dX3_daysOf_24 (by decide) (fun c_2 => ?_) (fun c_2 => ?_)
    · have hw := hw.1 c_2
      refine lv_bipush (v := 30) hx hb dX3_daysOf_45 (by decide) ?_
      refine lv_goto (tgt := 52) hx hb dX3_daysOf_47 (by decide) ?_
      exact s_iret hx hb hr hlocks dX3_daysOf_52 hw
    · have hw := hw.2 c_2
      refine lv_iload_n hx hb dX3_daysOf_27 rfl (lv_at hl 1 rfl) ?_
      refine lv_bipush (v := 6) hx hb dX3_daysOf_28 (by decide) ?_
      refine lv_icmp_eq (tgt := 45) hx hb dX3_daysOf_30 (by decide) (fun c_3 => ?_) (fun c_3 => ?_)
      · have hw := hw.1 c_3
        refine lv_bipush (v := 30) hx hb dX3_daysOf_45 (by decide) ?_
        refine lv_goto (tgt := 52) hx hb dX3_daysOf_47 (by decide) ?_
        exact s_iret hx hb hr hlocks dX3_daysOf_52 hw
      · have hw := hw.2 c_3
        refine lv_iload_n hx hb dX3_daysOf_33 rfl (lv_at hl 1 rfl) ?_
        refine lv_bipush (v := 9) hx hb dX3_daysOf_34 (by decide) ?_
        refine lv_icmp_eq (tgt := 45) hx hb dX3_daysOf_36 (by decide) (fun c_4 => ?_) (fun c_4 => ?_)
        · have hw := hw.1 c_4
          refine lv_bipush (v := 30) hx hb dX3_daysOf_45 (by decide) ?_
          refine lv_goto (tgt := 52) hx hb dX3_daysOf_47 (by decide) ?_
          exact s_iret hx hb hr hlocks dX3_daysOf_52 hw
        · have hw := hw.2 c_4
          refine lv_iload_n hx hb dX3_daysOf_39 rfl (lv_at hl 1 rfl) ?_
          refine lv_bipush (v := 11) hx hb dX3_daysOf_40 (by decide) ?_
          refine lv_icmp_ne (tgt := 50) hx hb dX3_daysOf_42 (by decide) (fun c_5 => ?_) (fun c_5 => ?_)
          · have hw := hw.2 (c_5)
            refine lv_bipush (v := 31) hx hb dX3_daysOf_50 (by decide) ?_
            exact s_iret hx hb hr hlocks dX3_daysOf_52 hw
          · have hw := hw.1 (c_5)
            refine lv_bipush (v := 30) hx hb dX3_daysOf_45 (by decide) ?_
            refine lv_goto (tgt := 52) hx hb dX3_daysOf_47 (by decide) ?_
            exact s_iret hx hb hr hlocks dX3_daysOf_52 hw
  · have hw := hw.1 (c_1)
    refine lv_iload_n hx hb dX3_daysOf_5 rfl (lv_at hl 0 rfl) ?_
    refine s_calli (As := [.int p0]) (rest := []) ⟨hx, hb, hml, hown, hts⟩ (metX3_isLong l _ p0) (va_cwS 1 hts (lw_S q2203 q2204 q85 q2205) rfl rfl rfl (by decide +kernel) ⟨Nat.le_of_ble_eq_true rfl, Nat.le_of_ble_eq_true rfl⟩) hw rfl hl.1 rfl (Nat.le_of_ble_eq_true rfl) dX3_daysOf_6 ⟨Nat.le_refl _, Nat.le_refl _⟩ (fun r_6 hw => ?_)
    refine lv_if_eq (tgt := 17) hx hb dX3_daysOf_9 (by decide) (fun c_7 => ?_) (fun c_7 => ?_)
    · have hw := hw.1 c_7
      refine lv_bipush (v := 28) hx hb dX3_daysOf_17 (by decide) ?_
      refine lv_goto (tgt := 52) hx hb dX3_daysOf_19 (by decide) ?_
      exact s_iret hx hb hr hlocks dX3_daysOf_52 hw
    · have hw := hw.2 c_7
      refine lv_bipush (v := 29) hx hb dX3_daysOf_12 (by decide) ?_
      refine lv_goto (tgt := 52) hx hb dX3_daysOf_14 (by decide) ?_
      exact s_iret hx hb hr hlocks dX3_daysOf_52 hw
def wpX3_finds_77 (post : mF → mR → mL → mG → Prop) : Nat → Int32 → mF → mR → mL → mG → Prop
  | 0 => fun _ _ _ _ _ => False
  | n + 1 => fun x2 F R L G => wpX3_daysOf (fun r_1 => ((x2 < r_1 → post (va_up F 18 (x2 + 1)) R L G) ∧ (¬ x2 < r_1 → wpX3_daysOf (fun r_3 => (∀ x2_4 : Int32, x2_4 = x2 - r_3 → wpX3_finds_77 post n x2_4 (va_up F 17 ((F 17) + 1)) R L G)) (F 16) (F 17)))) (F 16) (F 17)
def wpX3_finds_50 (post : mF → mR → mL → mG → Prop) (J7 : Int32 → mF → mR → mL → mG → Prop) (z0 : Int32) (z1 : Int32) (F : mF) (R : mR) (L : mL) (G : mG) : Prop := (∀ x2_5 : Int32, x2_5 = z0 - z1 → J7 x2_5 (va_up F 16 ((F 16) + 1)) R L G)
def wpX3_finds_27 (post : mF → mR → mL → mG → Prop) (J7 : Int32 → mF → mR → mL → mG → Prop) (x2 : Int32) (z0 : Int32) (z1 : Int32) (F : mF) (R : mR) (L : mL) (G : mG) : Prop := ((z0 < z1 → ∃ fu : Nat, wpX3_finds_77 post fu x2 (va_up (va_up F 19 (x2 + 1)) 17 1) R L G) ∧ (¬ z0 < z1 → wpX3_isLong (fun r_7 => ((r_7 = 0 → wpX3_finds_50 post J7 x2 365 F R L G) ∧ (¬ r_7 = 0 → wpX3_finds_50 post J7 x2 366 F R L G))) (F 16)))
def wpX3_finds_7 (post : mF → mR → mL → mG → Prop) : Nat → Int32 → mF → mR → mL → mG → Prop
  | 0 => fun _ _ _ _ _ => False
  | n + 1 => fun x2 F R L G => wpX3_isLong (fun r_9 => ((r_9 = 0 → wpX3_finds_27 post (wpX3_finds_7 post n) x2 x2 365 F R L G) ∧ (¬ r_9 = 0 → wpX3_finds_27 post (wpX3_finds_7 post n) x2 x2 366 F R L G))) (F 16)
def wpX3_finds (post : mF → mR → mL → mG → Prop) (F : mF) (R : mR) (L : mL) (G : mG) (p1 : Int32) : Prop := ∃ fu : Nat, wpX3_finds_7 post fu p1 (va_up F 16 1) R L G
abbrev wsX3_finds : List Cond := ws_ yX3_finds cX3_finds 3 none
set_option maxHeartbeats 8000000 in
theorem metX3_finds (l : Launch) (K : KT) (h : Nat) (a : Nat → Nat) (hap : mAp h a) (post : mF → mR → mL → mG → Prop) (F : mF) (R : mR) (L : mL) (G : mG) (p1 : Int32) : Met l yX3_finds wsX3_finds (rmo 2 41) (mPre K h a F R L G [.int p1] (wpX3_finds post F R L G p1)) (mQv post K h a) 0 0 (mA h a) := by
  refine Met.ofW (cc := cX3_finds) (maxL := 3) (ret := none) (by decide) rfl ?_
  intro p e s m args below meth c s₁ B hml hv
  obtain ⟨rfl, hP, hK, hw⟩ := hv
  have hx := B.exec
  have hb := B.bytes
  have hr := B.returns
  have hts := atoms_spec (ws := wsX3_finds) B.pre
  have hts : ∀ w ∈ lw_all, w.before _ s = true := fun w h => hts w (List.mem_cons_of_mem _ h)
  have hown : s.vm.findClass RX3 = some m.cls := findClass_of_methodNamed B.named
  have hlocks := B.notSynchronized
  have hl := lv_entry ([.ref h, .int p1]) (n := 3) (Nat.le_of_ble_eq_true rfl)
  rw [lg_entry_eq]
  generalize (lg_sl ([.ref h, .int p1]) ++ List.replicate (3 - (lg_sl ([.ref h, .int p1])).length) Slot.unset).toArray = ls at hl ⊢
  have hl : lv_has ls 3 [(0, .ref h), (1, .int p1)] := hl
  have hS : va_S (mA h a) s.heap s.heap [] := va_S.rf
  have T77 : ∀ (n : Nat), ∀ (x2 : Int32) (F : mF) (R : mR) (L : mL) (G : mG) (H : Heap) (locs : List Loc) (ls : Array Slot), mP K h a F R L G H → va_S (mA h a) s.heap H locs → lv_has ls 3 [(0, .ref h), (2, .int x2)] → wpX3_finds_77 post n x2 F R L G → W p l e (rmo 2 41) s m ([.ref h, .int p1] : List Value).toArray below meth c H locs 0 0 (MQ below (mQv post K h a) ([.ref h, .int p1] : List Value).toArray s 0 0 (mA h a)) (F0 m 77 ls []) := by
    intro n
    induction n with
    | zero =>
      intro x2 F R L G H locs ls hP hS hl hw
      exact False.elim hw
    | succ n ih =>
      intro x2 F R L G H locs ls hP hS hl hw
      unfold wpX3_finds_77 at hw
      refine lv_iload_n hx hb dX3_finds_77 rfl (lv_at hl 1 rfl) ?_
      refine lv_aload_n hx hb dX3_finds_78 rfl (lv_at hl 0 rfl) ?_
      refine m_get hx hb hts hown hK hP 16 (by decide) q1744 rfl dX3_finds_79 ?_
      refine lv_aload_n hx hb dX3_finds_82 rfl (lv_at hl 0 rfl) ?_
      refine m_get hx hb hts hown hK hP 17 (by decide) q1745 rfl dX3_finds_83 ?_
      refine s_calli (As := [.int (F 16), .int (F 17)]) (rest := [.int x2]) ⟨hx, hb, hml, hown, hts⟩ (metX3_daysOf l _ (F 16) (F 17)) (va_cwS 2 hts (lw_S q2206 q2207 q85 q2208) rfl rfl rfl (by decide +kernel) ⟨Nat.le_of_ble_eq_true rfl, Nat.le_of_ble_eq_true rfl⟩) hw rfl hl.1 rfl (Nat.le_of_ble_eq_true rfl) dX3_finds_86 ⟨Nat.le_refl _, Nat.le_refl _⟩ (fun r_1 hw => ?_)
      refine lv_icmp_lt (tgt := 119) hx hb dX3_finds_89 (by decide) (fun c_2 => ?_) (fun c_2 => ?_)
      · have hw := hw.1 c_2
        refine lv_aload_n hx hb dX3_finds_119 rfl (lv_at hl 0 rfl) ?_
        refine lv_iload_n hx hb dX3_finds_120 rfl (lv_at hl 1 rfl) ?_
        refine lv_iconst (v := 1) hx hb dX3_finds_121 (by decide) ?_
        refine lv_iadd hx hb dX3_finds_122 ?_
        refine m_puti hx hb hts hown hK hap hP hS 18 (by decide) q1746 rfl rfl rfl rfl dX3_finds_123 (fun H locs hP hS => ?_)
        exact m_vret hx hb hr hlocks hP hS dX3_finds_126 hw
      · have hw := hw.2 c_2
        refine lv_iload_n hx hb dX3_finds_92 rfl (lv_at hl 1 rfl) ?_
        refine lv_aload_n hx hb dX3_finds_93 rfl (lv_at hl 0 rfl) ?_
        refine m_get hx hb hts hown hK hP 16 (by decide) q1744 rfl dX3_finds_94 ?_
        refine lv_aload_n hx hb dX3_finds_97 rfl (lv_at hl 0 rfl) ?_
        refine m_get hx hb hts hown hK hP 17 (by decide) q1745 rfl dX3_finds_98 ?_
        refine s_calli (As := [.int (F 16), .int (F 17)]) (rest := [.int x2]) ⟨hx, hb, hml, hown, hts⟩ (metX3_daysOf l _ (F 16) (F 17)) (va_cwS 2 hts (lw_S q2206 q2207 q85 q2208) rfl rfl rfl (by decide +kernel) ⟨Nat.le_of_ble_eq_true rfl, Nat.le_of_ble_eq_true rfl⟩) hw rfl hl.1 rfl (Nat.le_of_ble_eq_true rfl) dX3_finds_101 ⟨Nat.le_refl _, Nat.le_refl _⟩ (fun r_3 hw => ?_)
        refine lv_isub hx hb dX3_finds_104 ?_
        refine lv_topi (fun x2_4 ex2_4 => ?_)
        have hw := hw x2_4 ex2_4
        refine lv_istore_n (lv' := [(2, .int x2_4), (0, .ref h)]) hx hb dX3_finds_105 rfl hl (by decide) rfl (fun ls hl => ?_)
        refine lv_aload_n hx hb dX3_finds_106 rfl (lv_at hl 1 rfl) ?_
        refine lv_dup hx hb dX3_finds_107 rfl ?_
        refine m_get hx hb hts hown hK hP 17 (by decide) q1745 rfl dX3_finds_108 ?_
        refine lv_iconst (v := 1) hx hb dX3_finds_111 (by decide) ?_
        refine lv_iadd hx hb dX3_finds_112 ?_
        refine m_puti hx hb hts hown hK hap hP hS 17 (by decide) q1745 rfl rfl rfl rfl dX3_finds_113 (fun H locs hP hS => ?_)
        refine lv_goto (tgt := 77) hx hb dX3_finds_116 (by decide) ?_
        exact ih x2_4 (va_up F 17 ((F 17) + 1)) R L G _ _ ls hP hS (lv_sub hl [1, 0] rfl) hw
  have T50 : ∀ (J7 : Int32 → mF → mR → mL → mG → Prop) (hJ7 : ∀ (x2 : Int32) (F : mF) (R : mR) (L : mL) (G : mG) (H : Heap) (locs : List Loc) (ls : Array Slot), mP K h a F R L G H → va_S (mA h a) s.heap H locs → lv_has ls 3 [(0, .ref h), (2, .int x2)] → J7 x2 F R L G → W p l e (rmo 2 41) s m ([.ref h, .int p1] : List Value).toArray below meth c H locs 0 0 (MQ below (mQv post K h a) ([.ref h, .int p1] : List Value).toArray s 0 0 (mA h a)) (F0 m 7 ls [])), ∀ (z0 : Int32) (z1 : Int32) (F : mF) (R : mR) (L : mL) (G : mG) (H : Heap) (locs : List Loc) (ls : Array Slot), mP K h a F R L G H → va_S (mA h a) s.heap H locs → lv_has ls 3 [(0, .ref h)] → wpX3_finds_50 post J7 z0 z1 F R L G → W p l e (rmo 2 41) s m ([.ref h, .int p1] : List Value).toArray below meth c H locs 0 0 (MQ below (mQv post K h a) ([.ref h, .int p1] : List Value).toArray s 0 0 (mA h a)) (F0 m 50 ls [.int z1, .int z0]) := by
    intro J7 hJ7
    intro z0 z1 F R L G H locs ls hP hS hl hw
    unfold wpX3_finds_50 at hw
    refine lv_isub hx hb dX3_finds_50 ?_
    refine lv_topi (fun x2_5 ex2_5 => ?_)
    have hw := hw x2_5 ex2_5
    refine lv_istore_n (lv' := [(2, .int x2_5), (0, .ref h)]) hx hb dX3_finds_51 rfl hl (by decide) rfl (fun ls hl => ?_)
    refine lv_aload_n hx hb dX3_finds_52 rfl (lv_at hl 1 rfl) ?_
    refine lv_dup hx hb dX3_finds_53 rfl ?_
    refine m_get hx hb hts hown hK hP 16 (by decide) q1744 rfl dX3_finds_54 ?_
    refine lv_iconst (v := 1) hx hb dX3_finds_57 (by decide) ?_
    refine lv_iadd hx hb dX3_finds_58 ?_
    refine m_puti hx hb hts hown hK hap hP hS 16 (by decide) q1744 rfl rfl rfl rfl dX3_finds_59 (fun H locs hP hS => ?_)
    refine lv_goto (tgt := 7) hx hb dX3_finds_62 (by decide) ?_
    exact hJ7 x2_5 (va_up F 16 ((F 16) + 1)) R L G _ _ ls hP hS (lv_sub hl [1, 0] rfl) hw
  have T27 : ∀ (J7 : Int32 → mF → mR → mL → mG → Prop) (hJ7 : ∀ (x2 : Int32) (F : mF) (R : mR) (L : mL) (G : mG) (H : Heap) (locs : List Loc) (ls : Array Slot), mP K h a F R L G H → va_S (mA h a) s.heap H locs → lv_has ls 3 [(0, .ref h), (2, .int x2)] → J7 x2 F R L G → W p l e (rmo 2 41) s m ([.ref h, .int p1] : List Value).toArray below meth c H locs 0 0 (MQ below (mQv post K h a) ([.ref h, .int p1] : List Value).toArray s 0 0 (mA h a)) (F0 m 7 ls [])), ∀ (x2 : Int32) (z0 : Int32) (z1 : Int32) (F : mF) (R : mR) (L : mL) (G : mG) (H : Heap) (locs : List Loc) (ls : Array Slot), mP K h a F R L G H → va_S (mA h a) s.heap H locs → lv_has ls 3 [(0, .ref h), (2, .int x2)] → wpX3_finds_27 post J7 x2 z0 z1 F R L G → W p l e (rmo 2 41) s m ([.ref h, .int p1] : List Value).toArray below meth c H locs 0 0 (MQ below (mQv post K h a) ([.ref h, .int p1] : List Value).toArray s 0 0 (mA h a)) (F0 m 27 ls [.int z1, .int z0]) := by
    intro J7 hJ7
    intro x2 z0 z1 F R L G H locs ls hP hS hl hw
    unfold wpX3_finds_27 at hw
    refine lv_icmp_lt (tgt := 65) hx hb dX3_finds_27 (by decide) (fun c_6 => ?_) (fun c_6 => ?_)
    · have hw := hw.1 c_6
      refine lv_aload_n hx hb dX3_finds_65 rfl (lv_at hl 0 rfl) ?_
      refine lv_iload_n hx hb dX3_finds_66 rfl (lv_at hl 1 rfl) ?_
      refine lv_iconst (v := 1) hx hb dX3_finds_67 (by decide) ?_
      refine lv_iadd hx hb dX3_finds_68 ?_
      refine m_puti hx hb hts hown hK hap hP hS 19 (by decide) q1747 rfl rfl rfl rfl dX3_finds_69 (fun H locs hP hS => ?_)
      refine lv_aload_n hx hb dX3_finds_72 rfl (lv_at hl 0 rfl) ?_
      refine lv_iconst (v := 1) hx hb dX3_finds_73 (by decide) ?_
      refine m_puti hx hb hts hown hK hap hP hS 17 (by decide) q1745 rfl rfl rfl rfl dX3_finds_74 (fun H locs hP hS => ?_)
      obtain ⟨fu, hw⟩ := hw
      exact T77 fu x2 (va_up (va_up F 19 (x2 + 1)) 17 1) R L G _ _ ls hP hS (lv_sub hl [0, 1] rfl) hw
    · have hw := hw.2 c_6
      refine lv_iload_n hx hb dX3_finds_30 rfl (lv_at hl 1 rfl) ?_
      refine lv_aload_n hx hb dX3_finds_31 rfl (lv_at hl 0 rfl) ?_
      refine m_get hx hb hts hown hK hP 16 (by decide) q1744 rfl dX3_finds_32 ?_
      refine s_calli (As := [.int (F 16)]) (rest := [.int x2]) ⟨hx, hb, hml, hown, hts⟩ (metX3_isLong l _ (F 16)) (va_cwS 1 hts (lw_S q2203 q2204 q85 q2205) rfl rfl rfl (by decide +kernel) ⟨Nat.le_of_ble_eq_true rfl, Nat.le_of_ble_eq_true rfl⟩) hw rfl hl.1 rfl (Nat.le_of_ble_eq_true rfl) dX3_finds_35 ⟨Nat.le_refl _, Nat.le_refl _⟩ (fun r_7 hw => ?_)
      refine lv_if_eq (tgt := 47) hx hb dX3_finds_38 (by decide) (fun c_8 => ?_) (fun c_8 => ?_)
      · have hw := hw.1 c_8
        refine lv_sipush (v := 365) hx hb dX3_finds_47 (by decide) ?_
        exact T50 _ hJ7 x2 365 F R L G _ _ ls hP hS (lv_sub hl [0] rfl) hw
      · have hw := hw.2 c_8
        refine lv_sipush (v := 366) hx hb dX3_finds_41 (by decide) ?_
        refine lv_goto (tgt := 50) hx hb dX3_finds_44 (by decide) ?_
        exact T50 _ hJ7 x2 366 F R L G _ _ ls hP hS (lv_sub hl [0] rfl) hw
  have T7 : ∀ (n : Nat), ∀ (x2 : Int32) (F : mF) (R : mR) (L : mL) (G : mG) (H : Heap) (locs : List Loc) (ls : Array Slot), mP K h a F R L G H → va_S (mA h a) s.heap H locs → lv_has ls 3 [(0, .ref h), (2, .int x2)] → wpX3_finds_7 post n x2 F R L G → W p l e (rmo 2 41) s m ([.ref h, .int p1] : List Value).toArray below meth c H locs 0 0 (MQ below (mQv post K h a) ([.ref h, .int p1] : List Value).toArray s 0 0 (mA h a)) (F0 m 7 ls []) := by
    intro n
    induction n with
    | zero =>
      intro x2 F R L G H locs ls hP hS hl hw
      exact False.elim hw
    | succ n ih =>
      intro x2 F R L G H locs ls hP hS hl hw
      unfold wpX3_finds_7 at hw
      refine lv_iload_n hx hb dX3_finds_7 rfl (lv_at hl 1 rfl) ?_
      refine lv_aload_n hx hb dX3_finds_8 rfl (lv_at hl 0 rfl) ?_
      refine m_get hx hb hts hown hK hP 16 (by decide) q1744 rfl dX3_finds_9 ?_
      refine s_calli (As := [.int (F 16)]) (rest := [.int x2]) ⟨hx, hb, hml, hown, hts⟩ (metX3_isLong l _ (F 16)) (va_cwS 1 hts (lw_S q2203 q2204 q85 q2205) rfl rfl rfl (by decide +kernel) ⟨Nat.le_of_ble_eq_true rfl, Nat.le_of_ble_eq_true rfl⟩) hw rfl hl.1 rfl (Nat.le_of_ble_eq_true rfl) dX3_finds_12 ⟨Nat.le_refl _, Nat.le_refl _⟩ (fun r_9 hw => ?_)
      refine lv_if_eq (tgt := 24) hx hb dX3_finds_15 (by decide) (fun c_10 => ?_) (fun c_10 => ?_)
      · have hw := hw.1 c_10
        refine lv_sipush (v := 365) hx hb dX3_finds_24 (by decide) ?_
        exact T27 _ ih x2 x2 365 F R L G _ _ ls hP hS (lv_sub hl [0, 1] rfl) hw
      · have hw := hw.2 c_10
        refine lv_sipush (v := 366) hx hb dX3_finds_18 (by decide) ?_
        refine lv_goto (tgt := 27) hx hb dX3_finds_21 (by decide) ?_
        exact T27 _ ih x2 x2 366 F R L G _ _ ls hP hS (lv_sub hl [0, 1] rfl) hw
  unfold wpX3_finds at hw
  refine lv_iload_n hx hb dX3_finds_0 rfl (lv_at hl 1 rfl) ?_
  refine lv_istore_n (lv' := [(2, .int p1), (0, .ref h), (1, .int p1)]) hx hb dX3_finds_1 rfl hl (by decide) rfl (fun ls hl => ?_)
  refine lv_aload_n hx hb dX3_finds_2 rfl (lv_at hl 1 rfl) ?_
  refine lv_iconst (v := 1) hx hb dX3_finds_3 (by decide) ?_
  refine m_puti hx hb hts hown hK hap hP hS 16 (by decide) q1744 rfl rfl rfl rfl dX3_finds_4 (fun H locs hP hS => ?_)
  obtain ⟨fu, hw⟩ := hw
  exact T7 fu p1 (va_up F 16 1) R L G _ _ ls hP hS (lv_sub hl [1, 0] rfl) hw
def wpX3_toldDate (post : Int32 → mF → mR → mL → mG → Prop) (F : mF) (R : mR) (L : mL) (G : mG) : Prop := wpX3_finds (fun F_1 R_2 L_3 G_4 => post (((10000 * (F_1 16)) + (100 * (F_1 17))) + (F_1 18)) F_1 R_2 L_3 G_4) (va_up F 8 0) R L G (R 0 111)
abbrev wsX3_toldDate : List Cond := ws_ yX3_toldDate cX3_toldDate 1 (some .int)
set_option maxHeartbeats 8000000 in
theorem metX3_toldDate (l : Launch) (K : KT) (h : Nat) (a : Nat → Nat) (hap : mAp h a) (post : Int32 → mF → mR → mL → mG → Prop) (F : mF) (R : mR) (L : mL) (G : mG) : Met l yX3_toldDate wsX3_toldDate (rmo 3 63) (mPre K h a F R L G [] (wpX3_toldDate post F R L G )) (mQi post K h a) 0 0 (mA h a) := by
  refine Met.ofW (cc := cX3_toldDate) (maxL := 1) (ret := (some .int)) (by decide) rfl ?_
  intro p e s m args below meth c s₁ B hml hv
  obtain ⟨rfl, hP, hK, hw⟩ := hv
  have hx := B.exec
  have hb := B.bytes
  have hr := B.returns
  have hts := atoms_spec (ws := wsX3_toldDate) B.pre
  have hts : ∀ w ∈ lw_all, w.before _ s = true := fun w h => hts w (List.mem_cons_of_mem _ h)
  have hown : s.vm.findClass RX3 = some m.cls := findClass_of_methodNamed B.named
  have hlocks := B.notSynchronized
  have hl := lv_entry ([.ref h]) (n := 1) (Nat.le_of_ble_eq_true rfl)
  rw [lg_entry_eq]
  generalize (lg_sl ([.ref h]) ++ List.replicate (1 - (lg_sl ([.ref h])).length) Slot.unset).toArray = ls at hl ⊢
  have hl : lv_has ls 1 [(0, .ref h)] := hl
  have hS : va_S (mA h a) s.heap s.heap [] := va_S.rf
  unfold wpX3_toldDate at hw
  refine lv_aload_n hx hb dX3_toldDate_0 rfl (lv_at hl 0 rfl) ?_
  refine lv_iconst (v := 0) hx hb dX3_toldDate_1 (by decide) ?_
  refine m_puti hx hb hts hown hK hap hP hS 8 (by decide) q1736 rfl rfl rfl rfl dX3_toldDate_2 (fun H locs hP hS => ?_)
  refine lv_aload_n hx hb dX3_toldDate_5 rfl (lv_at hl 0 rfl) ?_
  refine lv_aload_n hx hb dX3_toldDate_6 rfl (lv_at hl 0 rfl) ?_
  refine m_get hx hb hts hown hK hP 0 (by decide) q1728 rfl dX3_toldDate_7 ?_
  refine lv_bipush (v := 111) hx hb dX3_toldDate_10 (by decide) ?_
  refine m_iald (j := 111) hx hb hK hP 0 1 113 rfl (by decide) (vpd (by decide)) dX3_toldDate_12 ?_
  refine m_callv (As := [.int (R 0 111)]) (rest := []) ⟨hx, hb, hml, hown, hts⟩ (metX3_finds l K h a hap _ (va_up F 8 0) R L G (R 0 111)) (cwV 1 hts (lw_V q2199 q2201 qs66 q85 q2202) rfl rfl rfl (by decide +kernel) ⟨Nat.le_of_ble_eq_true rfl, Nat.le_of_ble_eq_true rfl⟩) hK hP hS hw rfl hl.1 rfl (Nat.le_of_ble_eq_true rfl) dX3_toldDate_13 ⟨Nat.le_refl _, Nat.le_refl _⟩ (fun F_1 R_2 L_3 G_4 H locs hw hP hS => ?_)
  refine lv_sipush (v := 10000) hx hb dX3_toldDate_16 (by decide) ?_
  refine lv_aload_n hx hb dX3_toldDate_19 rfl (lv_at hl 0 rfl) ?_
  refine m_get hx hb hts hown hK hP 16 (by decide) q1744 rfl dX3_toldDate_20 ?_
  refine lv_imul hx hb dX3_toldDate_23 ?_
  refine lv_bipush (v := 100) hx hb dX3_toldDate_24 (by decide) ?_
  refine lv_aload_n hx hb dX3_toldDate_26 rfl (lv_at hl 0 rfl) ?_
  refine m_get hx hb hts hown hK hP 17 (by decide) q1745 rfl dX3_toldDate_27 ?_
  refine lv_imul hx hb dX3_toldDate_30 ?_
  refine lv_iadd hx hb dX3_toldDate_31 ?_
  refine lv_aload_n hx hb dX3_toldDate_32 rfl (lv_at hl 0 rfl) ?_
  refine m_get hx hb hts hown hK hP 18 (by decide) q1746 rfl dX3_toldDate_33 ?_
  refine lv_iadd hx hb dX3_toldDate_36 ?_
  exact m_iret hx hb hr hlocks hP hS dX3_toldDate_37 hw
def wpX3_date (post : Int32 → mF → mR → mL → mG → Prop) (F : mF) (R : mR) (L : mL) (G : mG) : Prop := wpX3_toldDate (fun r_1 F_2 R_3 L_4 G_5 => post r_1 F_2 R_3 L_4 G_5) F R L G
abbrev wsX3_date : List Cond := ws_ yX3_date cX3_date 1 (some .int)
set_option maxHeartbeats 8000000 in
theorem metX3_date (l : Launch) (K : KT) (h : Nat) (a : Nat → Nat) (hap : mAp h a) (post : Int32 → mF → mR → mL → mG → Prop) (F : mF) (R : mR) (L : mL) (G : mG) : Met l yX3_date wsX3_date (rmo 4 83) (mPre K h a F R L G [] (wpX3_date post F R L G )) (mQi post K h a) 0 0 (mA h a) := by
  refine Met.ofW (cc := cX3_date) (maxL := 1) (ret := (some .int)) (by decide) rfl ?_
  intro p e s m args below meth c s₁ B hml hv
  obtain ⟨rfl, hP, hK, hw⟩ := hv
  have hx := B.exec
  have hb := B.bytes
  have hr := B.returns
  have hts := atoms_spec (ws := wsX3_date) B.pre
  have hts : ∀ w ∈ lw_all, w.before _ s = true := fun w h => hts w (List.mem_cons_of_mem _ h)
  have hown : s.vm.findClass RX3 = some m.cls := findClass_of_methodNamed B.named
  have hlocks := B.notSynchronized
  have hl := lv_entry ([.ref h]) (n := 1) (Nat.le_of_ble_eq_true rfl)
  rw [lg_entry_eq]
  generalize (lg_sl ([.ref h]) ++ List.replicate (1 - (lg_sl ([.ref h])).length) Slot.unset).toArray = ls at hl ⊢
  have hl : lv_has ls 1 [(0, .ref h)] := hl
  have hS : va_S (mA h a) s.heap s.heap [] := va_S.rf
  unfold wpX3_date at hw
  refine lv_aload_n hx hb dX3_date_0 rfl (lv_at hl 0 rfl) ?_
  refine m_calli (As := []) (rest := []) ⟨hx, hb, hml, hown, hts⟩ (metX3_toldDate l K h a hap _ F R L G) (cwV 0 hts (lw_V q2195 q2197 qs65 q85 q2198) rfl rfl rfl (by decide +kernel) ⟨Nat.le_of_ble_eq_true rfl, Nat.le_of_ble_eq_true rfl⟩) hK hP hS hw rfl hl.1 rfl (Nat.le_of_ble_eq_true rfl) dX3_date_1 ⟨Nat.le_refl _, Nat.le_refl _⟩ (fun r_1 F_2 R_3 L_4 G_5 H locs hw hP hS => ?_)
  exact m_iret hx hb hr hlocks hP hS dX3_date_4 hw
def wpX3_dateByRule (post : Int32 → mF → mR → mL → mG → Prop) (F : mF) (R : mR) (L : mL) (G : mG) : Prop := wpX3_toldDate (fun r_1 F_2 R_3 L_4 G_5 => post r_1 F_2 R_3 L_4 G_5) F R L G
abbrev wsX3_dateByRule : List Cond := ws_ yX3_dateByRule cX3_dateByRule 1 (some .int)
set_option maxHeartbeats 8000000 in
theorem metX3_dateByRule (l : Launch) (K : KT) (h : Nat) (a : Nat → Nat) (hap : mAp h a) (post : Int32 → mF → mR → mL → mG → Prop) (F : mF) (R : mR) (L : mL) (G : mG) : Met l yX3_dateByRule wsX3_dateByRule (rmo 4 83) (mPre K h a F R L G [] (wpX3_dateByRule post F R L G )) (mQi post K h a) 0 0 (mA h a) := by
  refine Met.ofW (cc := cX3_dateByRule) (maxL := 1) (ret := (some .int)) (by decide) rfl ?_
  intro p e s m args below meth c s₁ B hml hv
  obtain ⟨rfl, hP, hK, hw⟩ := hv
  have hx := B.exec
  have hb := B.bytes
  have hr := B.returns
  have hts := atoms_spec (ws := wsX3_dateByRule) B.pre
  have hts : ∀ w ∈ lw_all, w.before _ s = true := fun w h => hts w (List.mem_cons_of_mem _ h)
  have hown : s.vm.findClass RX3 = some m.cls := findClass_of_methodNamed B.named
  have hlocks := B.notSynchronized
  have hl := lv_entry ([.ref h]) (n := 1) (Nat.le_of_ble_eq_true rfl)
  rw [lg_entry_eq]
  generalize (lg_sl ([.ref h]) ++ List.replicate (1 - (lg_sl ([.ref h])).length) Slot.unset).toArray = ls at hl ⊢
  have hl : lv_has ls 1 [(0, .ref h)] := hl
  have hS : va_S (mA h a) s.heap s.heap [] := va_S.rf
  unfold wpX3_dateByRule at hw
  refine lv_aload_n hx hb dX3_dateByRule_0 rfl (lv_at hl 0 rfl) ?_
  refine m_calli (As := []) (rest := []) ⟨hx, hb, hml, hown, hts⟩ (metX3_toldDate l K h a hap _ F R L G) (cwV 0 hts (lw_V q2195 q2197 qs65 q85 q2198) rfl rfl rfl (by decide +kernel) ⟨Nat.le_of_ble_eq_true rfl, Nat.le_of_ble_eq_true rfl⟩) hK hP hS hw rfl hl.1 rfl (Nat.le_of_ble_eq_true rfl) dX3_dateByRule_1 ⟨Nat.le_refl _, Nat.le_refl _⟩ (fun r_1 F_2 R_3 L_4 G_5 H locs hw hP hS => ?_)
  exact m_iret hx hb hr hlocks hP hS dX3_dateByRule_4 hw
def wpX3_dayOf_94 (post : Int32 → mF → mR → mL → mG → Prop) : Nat → Int32 → Int32 → Int32 → Int32 → mF → mR → mL → mG → Prop
  | 0 => fun _ _ _ _ _ _ _ _ => False
  | n + 1 => fun x1 x2 x4 x5 F R L G => ((x2 ≤ x5 → post x4 F R L G) ∧ (¬ x2 ≤ x5 → wpX3_daysOf (fun r_2 => (∀ x4_3 : Int32, x4_3 = x4 + r_2 → (∀ x5_4 : Int32, x5_4 = x5 + 1 → wpX3_dayOf_94 post n x1 x2 x4_3 x5_4 F R L G))) x1 x5))
def wpX3_dayOf_82 (post : Int32 → mF → mR → mL → mG → Prop) (J57 : Int32 → Int32 → Int32 → Int32 → mF → mR → mL → mG → Prop) (x1 : Int32) (x2 : Int32) (x5 : Int32) (z0 : Int32) (z1 : Int32) (F : mF) (R : mR) (L : mL) (G : mG) : Prop := (∀ x4_5 : Int32, x4_5 = z0 + z1 → (∀ x5_6 : Int32, x5_6 = x5 + 1 → J57 x1 x2 x4_5 x5_6 F R L G))
def wpX3_dayOf_57 (post : Int32 → mF → mR → mL → mG → Prop) : Nat → Int32 → Int32 → Int32 → Int32 → mF → mR → mL → mG → Prop
  | 0 => fun _ _ _ _ _ _ _ _ => False
  | n + 1 => fun x1 x2 x4 x5 F R L G => ((x1 ≤ x5 → ∃ fu : Nat, wpX3_dayOf_94 post fu x1 x2 x4 1 F R L G) ∧ (¬ x1 ≤ x5 → wpX3_isLong (fun r_8 => ((r_8 = 0 → wpX3_dayOf_82 post (wpX3_dayOf_57 post n) x1 x2 x5 x4 365 F R L G) ∧ (¬ r_8 = 0 → wpX3_dayOf_82 post (wpX3_dayOf_57 post n) x1 x2 x5 x4 366 F R L G))) x5))
def wpX3_dayOf_41 (post : Int32 → mF → mR → mL → mG → Prop) (x1 : Int32) (x2 : Int32) (x3 : Int32) (z1 : Int32) (F : mF) (R : mR) (L : mL) (G : mG) : Prop := wpX3_asks (fun r_10 F_11 R_12 L_13 G_14 => ((r_10 = 0 → post 0 F_11 R_12 L_13 G_14) ∧ (¬ r_10 = 0 → (∀ x4_16 : Int32, x4_16 = x3 - 1 → ∃ fu : Nat, wpX3_dayOf_57 post fu x1 x2 x4_16 1 F_11 R_12 L_13 G_14)))) F R L G z1
def wpX3_dayOf_40 (post : Int32 → mF → mR → mL → mG → Prop) (x1 : Int32) (x2 : Int32) (x3 : Int32) (F : mF) (R : mR) (L : mL) (G : mG) : Prop := wpX3_dayOf_41 post x1 x2 x3 0 F R L G
def wpX3_dayOf (post : Int32 → mF → mR → mL → mG → Prop) (F : mF) (R : mR) (L : mL) (G : mG) (p1 : Int32) (p2 : Int32) (p3 : Int32) : Prop := wpX3_in (fun r_17 => ((r_17 = 0 → wpX3_dayOf_40 post p1 p2 p3 F R L G) ∧ (¬ r_17 = 0 → wpX3_in (fun r_19 => ((r_19 = 0 → wpX3_dayOf_40 post p1 p2 p3 F R L G) ∧ (¬ r_19 = 0 → ((p3 < 1 → wpX3_dayOf_40 post p1 p2 p3 F R L G) ∧ (¬ p3 < 1 → wpX3_daysOf (fun r_22 => ((r_22 < p3 → wpX3_dayOf_40 post p1 p2 p3 F R L G) ∧ (¬ r_22 < p3 → wpX3_dayOf_41 post p1 p2 p3 1 F R L G))) p1 p2))))) p2 1 12))) p1 1 2738
abbrev wsX3_dayOf : List Cond := ws_ yX3_dayOf cX3_dayOf 6 (some .int)
set_option maxHeartbeats 8000000 in
theorem metX3_dayOf (l : Launch) (K : KT) (h : Nat) (a : Nat → Nat) (hap : mAp h a) (post : Int32 → mF → mR → mL → mG → Prop) (F : mF) (R : mR) (L : mL) (G : mG) (p1 : Int32) (p2 : Int32) (p3 : Int32) : Met l yX3_dayOf wsX3_dayOf (rmo 2 41) (mPre K h a F R L G [.int p1, .int p2, .int p3] (wpX3_dayOf post F R L G p1 p2 p3)) (mQi post K h a) 0 0 (mA h a) := by
  refine Met.ofW (cc := cX3_dayOf) (maxL := 6) (ret := (some .int)) (by decide) rfl ?_
  intro p e s m args below meth c s₁ B hml hv
  obtain ⟨rfl, hP, hK, hw⟩ := hv
  have hx := B.exec
  have hb := B.bytes
  have hr := B.returns
  have hts := atoms_spec (ws := wsX3_dayOf) B.pre
  have hts : ∀ w ∈ lw_all, w.before _ s = true := fun w h => hts w (List.mem_cons_of_mem _ h)
  have hown : s.vm.findClass RX3 = some m.cls := findClass_of_methodNamed B.named
  have hlocks := B.notSynchronized
  have hl := lv_entry ([.ref h, .int p1, .int p2, .int p3]) (n := 6) (Nat.le_of_ble_eq_true rfl)
  rw [lg_entry_eq]
  generalize (lg_sl ([.ref h, .int p1, .int p2, .int p3]) ++ List.replicate (6 - (lg_sl ([.ref h, .int p1, .int p2, .int p3])).length) Slot.unset).toArray = ls at hl ⊢
  have hl : lv_has ls 6 [(0, .ref h), (1, .int p1), (2, .int p2), (3, .int p3)] := hl
  have hS : va_S (mA h a) s.heap s.heap [] := va_S.rf
  have T94 : ∀ (n : Nat), ∀ (x1 : Int32) (x2 : Int32) (x4 : Int32) (x5 : Int32) (F : mF) (R : mR) (L : mL) (G : mG) (H : Heap) (locs : List Loc) (ls : Array Slot), mP K h a F R L G H → va_S (mA h a) s.heap H locs → lv_has ls 6 [(1, .int x1), (2, .int x2), (4, .int x4), (5, .int x5)] → wpX3_dayOf_94 post n x1 x2 x4 x5 F R L G → W p l e (rmo 2 41) s m ([.ref h, .int p1, .int p2, .int p3] : List Value).toArray below meth c H locs 0 0 (MQ below (mQi post K h a) ([.ref h, .int p1, .int p2, .int p3] : List Value).toArray s 0 0 (mA h a)) (F0 m 94 ls []) := by
    intro n
    induction n with
    | zero =>
      intro x1 x2 x4 x5 F R L G H locs ls hP hS hl hw
      exact False.elim hw
    | succ n ih =>
      intro x1 x2 x4 x5 F R L G H locs ls hP hS hl hw
      unfold wpX3_dayOf_94 at hw
      refine lv_iload hx hb dX3_dayOf_94 (lv_at hl 3 rfl) ?_
      refine lv_iload_n hx hb dX3_dayOf_96 rfl (lv_at hl 1 rfl) ?_
      refine lv_icmp_ge (tgt := 117) hx hb dX3_dayOf_97 (by decide) (fun c_1 => ?_) (fun c_1 => ?_)
      · have hw := hw.1 c_1
        refine lv_iload hx hb dX3_dayOf_117 (lv_at hl 2 rfl) ?_
        exact m_iret hx hb hr hlocks hP hS dX3_dayOf_119 hw
      · have hw := hw.2 c_1
        refine lv_iload hx hb dX3_dayOf_100 (lv_at hl 2 rfl) ?_
        refine lv_iload_n hx hb dX3_dayOf_102 rfl (lv_at hl 0 rfl) ?_
        refine lv_iload hx hb dX3_dayOf_103 (lv_at hl 3 rfl) ?_
        refine s_calli (As := [.int x1, .int x5]) (rest := [.int x4]) ⟨hx, hb, hml, hown, hts⟩ (metX3_daysOf l _ x1 x5) (va_cwS 2 hts (lw_S q2206 q2207 q85 q2208) rfl rfl rfl (by decide +kernel) ⟨Nat.le_of_ble_eq_true rfl, Nat.le_of_ble_eq_true rfl⟩) hw rfl hl.1 rfl (Nat.le_of_ble_eq_true rfl) dX3_dayOf_105 ⟨Nat.le_refl _, Nat.le_refl _⟩ (fun r_2 hw => ?_)
        refine lv_iadd hx hb dX3_dayOf_108 ?_
        refine lv_topi (fun x4_3 ex4_3 => ?_)
        have hw := hw x4_3 ex4_3
        refine lv_istore (lv' := [(4, .int x4_3), (1, .int x1), (2, .int x2), (5, .int x5)]) hx hb dX3_dayOf_109 hl (by decide) rfl (fun ls hl => ?_)
        obtain ⟨x5_4, ex5_4⟩ : ∃ y : Int32, y = x5 + 1 := ⟨_, rfl⟩
        have hw := hw x5_4 ex5_4
        refine lv_iinc (v := x5_4) (lv' := [(5, .int x5_4), (4, .int x4_3), (1, .int x1), (2, .int x2)]) hx hb dX3_dayOf_111 hl (k := 3) rfl (by rw [ex5_4]; rfl) (by decide) rfl (fun ls hl => ?_)
        refine lv_goto (tgt := 94) hx hb dX3_dayOf_114 (by decide) ?_
        exact ih x1 x2 x4_3 x5_4 F R L G _ _ ls hP hS (lv_sub hl [2, 3, 1, 0] rfl) hw
  have T82 : ∀ (J57 : Int32 → Int32 → Int32 → Int32 → mF → mR → mL → mG → Prop) (hJ57 : ∀ (x1 : Int32) (x2 : Int32) (x4 : Int32) (x5 : Int32) (F : mF) (R : mR) (L : mL) (G : mG) (H : Heap) (locs : List Loc) (ls : Array Slot), mP K h a F R L G H → va_S (mA h a) s.heap H locs → lv_has ls 6 [(1, .int x1), (2, .int x2), (4, .int x4), (5, .int x5)] → J57 x1 x2 x4 x5 F R L G → W p l e (rmo 2 41) s m ([.ref h, .int p1, .int p2, .int p3] : List Value).toArray below meth c H locs 0 0 (MQ below (mQi post K h a) ([.ref h, .int p1, .int p2, .int p3] : List Value).toArray s 0 0 (mA h a)) (F0 m 57 ls [])), ∀ (x1 : Int32) (x2 : Int32) (x5 : Int32) (z0 : Int32) (z1 : Int32) (F : mF) (R : mR) (L : mL) (G : mG) (H : Heap) (locs : List Loc) (ls : Array Slot), mP K h a F R L G H → va_S (mA h a) s.heap H locs → lv_has ls 6 [(1, .int x1), (2, .int x2), (5, .int x5)] → wpX3_dayOf_82 post J57 x1 x2 x5 z0 z1 F R L G → W p l e (rmo 2 41) s m ([.ref h, .int p1, .int p2, .int p3] : List Value).toArray below meth c H locs 0 0 (MQ below (mQi post K h a) ([.ref h, .int p1, .int p2, .int p3] : List Value).toArray s 0 0 (mA h a)) (F0 m 82 ls [.int z1, .int z0]) := by
    intro J57 hJ57
    intro x1 x2 x5 z0 z1 F R L G H locs ls hP hS hl hw
    unfold wpX3_dayOf_82 at hw
    refine lv_iadd hx hb dX3_dayOf_82 ?_
    refine lv_topi (fun x4_5 ex4_5 => ?_)
    have hw := hw x4_5 ex4_5
    refine lv_istore (lv' := [(4, .int x4_5), (1, .int x1), (2, .int x2), (5, .int x5)]) hx hb dX3_dayOf_83 hl (by decide) rfl (fun ls hl => ?_)
    obtain ⟨x5_6, ex5_6⟩ : ∃ y : Int32, y = x5 + 1 := ⟨_, rfl⟩
    have hw := hw x5_6 ex5_6
    refine lv_iinc (v := x5_6) (lv' := [(5, .int x5_6), (4, .int x4_5), (1, .int x1), (2, .int x2)]) hx hb dX3_dayOf_85 hl (k := 3) rfl (by rw [ex5_6]; rfl) (by decide) rfl (fun ls hl => ?_)
    refine lv_goto (tgt := 57) hx hb dX3_dayOf_88 (by decide) ?_
    exact hJ57 x1 x2 x4_5 x5_6 F R L G _ _ ls hP hS (lv_sub hl [2, 3, 1, 0] rfl) hw
  have T57 : ∀ (n : Nat), ∀ (x1 : Int32) (x2 : Int32) (x4 : Int32) (x5 : Int32) (F : mF) (R : mR) (L : mL) (G : mG) (H : Heap) (locs : List Loc) (ls : Array Slot), mP K h a F R L G H → va_S (mA h a) s.heap H locs → lv_has ls 6 [(1, .int x1), (2, .int x2), (4, .int x4), (5, .int x5)] → wpX3_dayOf_57 post n x1 x2 x4 x5 F R L G → W p l e (rmo 2 41) s m ([.ref h, .int p1, .int p2, .int p3] : List Value).toArray below meth c H locs 0 0 (MQ below (mQi post K h a) ([.ref h, .int p1, .int p2, .int p3] : List Value).toArray s 0 0 (mA h a)) (F0 m 57 ls []) := by
    intro n
    induction n with
    | zero =>
      intro x1 x2 x4 x5 F R L G H locs ls hP hS hl hw
      exact False.elim hw
    | succ n ih =>
      intro x1 x2 x4 x5 F R L G H locs ls hP hS hl hw
      unfold wpX3_dayOf_57 at hw
      refine lv_iload hx hb dX3_dayOf_57 (lv_at hl 3 rfl) ?_
      refine lv_iload_n hx hb dX3_dayOf_59 rfl (lv_at hl 0 rfl) ?_
      refine lv_icmp_ge (tgt := 91) hx hb dX3_dayOf_60 (by decide) (fun c_7 => ?_) (fun c_7 => ?_)
      · have hw := hw.1 c_7
        refine lv_iconst (v := 1) hx hb dX3_dayOf_91 (by decide) ?_
        refine lv_istore (lv' := [(5, .int 1), (1, .int x1), (2, .int x2), (4, .int x4)]) hx hb dX3_dayOf_92 hl (by decide) rfl (fun ls hl => ?_)
        obtain ⟨fu, hw⟩ := hw
        exact T94 fu x1 x2 x4 1 F R L G _ _ ls hP hS (lv_sub hl [1, 2, 3, 0] rfl) hw
      · have hw := hw.2 c_7
        refine lv_iload hx hb dX3_dayOf_63 (lv_at hl 2 rfl) ?_
        refine lv_iload hx hb dX3_dayOf_65 (lv_at hl 3 rfl) ?_
        refine s_calli (As := [.int x5]) (rest := [.int x4]) ⟨hx, hb, hml, hown, hts⟩ (metX3_isLong l _ x5) (va_cwS 1 hts (lw_S q2203 q2204 q85 q2205) rfl rfl rfl (by decide +kernel) ⟨Nat.le_of_ble_eq_true rfl, Nat.le_of_ble_eq_true rfl⟩) hw rfl hl.1 rfl (Nat.le_of_ble_eq_true rfl) dX3_dayOf_67 ⟨Nat.le_refl _, Nat.le_refl _⟩ (fun r_8 hw => ?_)
        refine lv_if_eq (tgt := 79) hx hb dX3_dayOf_70 (by decide) (fun c_9 => ?_) (fun c_9 => ?_)
        · have hw := hw.1 c_9
          refine lv_sipush (v := 365) hx hb dX3_dayOf_79 (by decide) ?_
          exact T82 _ ih x1 x2 x5 x4 365 F R L G _ _ ls hP hS (lv_sub hl [0, 1, 3] rfl) hw
        · have hw := hw.2 c_9
          refine lv_sipush (v := 366) hx hb dX3_dayOf_73 (by decide) ?_
          refine lv_goto (tgt := 82) hx hb dX3_dayOf_76 (by decide) ?_
          exact T82 _ ih x1 x2 x5 x4 366 F R L G _ _ ls hP hS (lv_sub hl [0, 1, 3] rfl) hw
  have T41 : ∀ (x1 : Int32) (x2 : Int32) (x3 : Int32) (z1 : Int32) (F : mF) (R : mR) (L : mL) (G : mG) (H : Heap) (locs : List Loc) (ls : Array Slot), mP K h a F R L G H → va_S (mA h a) s.heap H locs → lv_has ls 6 [(1, .int x1), (2, .int x2), (3, .int x3)] → wpX3_dayOf_41 post x1 x2 x3 z1 F R L G → W p l e (rmo 2 41) s m ([.ref h, .int p1, .int p2, .int p3] : List Value).toArray below meth c H locs 0 0 (MQ below (mQi post K h a) ([.ref h, .int p1, .int p2, .int p3] : List Value).toArray s 0 0 (mA h a)) (F0 m 41 ls [.int z1, .ref h]) := by
    intro x1 x2 x3 z1 F R L G H locs ls hP hS hl hw
    unfold wpX3_dayOf_41 at hw
    refine m_calli (As := [.int z1]) (rest := []) ⟨hx, hb, hml, hown, hts⟩ (metX3_asks l K h a hap _ F R L G z1) (cwV 1 hts (lw_V q2005 q2007 qs49 q85 q2008) rfl rfl rfl (by decide +kernel) ⟨Nat.le_of_ble_eq_true rfl, Nat.le_of_ble_eq_true rfl⟩) hK hP hS hw rfl hl.1 rfl (Nat.le_of_ble_eq_true rfl) dX3_dayOf_41 ⟨Nat.le_refl _, Nat.le_refl _⟩ (fun r_10 F_11 R_12 L_13 G_14 H locs hw hP hS => ?_)
    refine lv_if_ne (tgt := 49) hx hb dX3_dayOf_44 (by decide) (fun c_15 => ?_) (fun c_15 => ?_)
    · have hw := hw.2 (c_15)
      refine lv_iload_n hx hb dX3_dayOf_49 rfl (lv_at hl 2 rfl) ?_
      refine lv_iconst (v := 1) hx hb dX3_dayOf_50 (by decide) ?_
      refine lv_isub hx hb dX3_dayOf_51 ?_
      refine lv_topi (fun x4_16 ex4_16 => ?_)
      have hw := hw x4_16 ex4_16
      refine lv_istore (lv' := [(4, .int x4_16), (1, .int x1), (2, .int x2), (3, .int x3)]) hx hb dX3_dayOf_52 hl (by decide) rfl (fun ls hl => ?_)
      refine lv_iconst (v := 1) hx hb dX3_dayOf_54 (by decide) ?_
      refine lv_istore (lv' := [(5, .int 1), (4, .int x4_16), (1, .int x1), (2, .int x2), (3, .int x3)]) hx hb dX3_dayOf_55 hl (by decide) rfl (fun ls hl => ?_)
      obtain ⟨fu, hw⟩ := hw
      exact T57 fu x1 x2 x4_16 1 F_11 R_12 L_13 G_14 _ _ ls hP hS (lv_sub hl [2, 3, 1, 0] rfl) hw
    · have hw := hw.1 (c_15)
      refine lv_iconst (v := 0) hx hb dX3_dayOf_47 (by decide) ?_
      exact m_iret hx hb hr hlocks hP hS dX3_dayOf_48 hw
  have T40 : ∀ (x1 : Int32) (x2 : Int32) (x3 : Int32) (F : mF) (R : mR) (L : mL) (G : mG) (H : Heap) (locs : List Loc) (ls : Array Slot), mP K h a F R L G H → va_S (mA h a) s.heap H locs → lv_has ls 6 [(1, .int x1), (2, .int x2), (3, .int x3)] → wpX3_dayOf_40 post x1 x2 x3 F R L G → W p l e (rmo 2 41) s m ([.ref h, .int p1, .int p2, .int p3] : List Value).toArray below meth c H locs 0 0 (MQ below (mQi post K h a) ([.ref h, .int p1, .int p2, .int p3] : List Value).toArray s 0 0 (mA h a)) (F0 m 40 ls [.ref h]) := by
    intro x1 x2 x3 F R L G H locs ls hP hS hl hw
    unfold wpX3_dayOf_40 at hw
    refine lv_iconst (v := 0) hx hb dX3_dayOf_40 (by decide) ?_
    exact T41 x1 x2 x3 0 F R L G _ _ ls hP hS (lv_sub hl [0, 1, 2] rfl) hw
  unfold wpX3_dayOf at hw
  refine lv_aload_n hx hb dX3_dayOf_0 rfl (lv_at hl 0 rfl) ?_
  refine lv_iload_n hx hb dX3_dayOf_1 rfl (lv_at hl 1 rfl) ?_
  refine lv_iconst (v := 1) hx hb dX3_dayOf_2 (by decide) ?_
  refine lv_sipush (v := 2738) hx hb dX3_dayOf_3 (by decide) ?_
  refine s_calli (As := [.int p1, .int 1, .int 2738]) (rest := [.ref h]) ⟨hx, hb, hml, hown, hts⟩ (metX3_in l _ p1 1 2738) (va_cwS 3 hts (lw_S q1858 q1859 q85 q1860) rfl rfl rfl (by decide +kernel) ⟨Nat.le_of_ble_eq_true rfl, Nat.le_of_ble_eq_true rfl⟩) hw rfl hl.1 rfl (Nat.le_of_ble_eq_true rfl) dX3_dayOf_6 ⟨Nat.le_refl _, Nat.le_refl _⟩ (fun r_17 hw => ?_)
  refine lv_if_eq (tgt := 40) hx hb dX3_dayOf_9 (by decide) (fun c_18 => ?_) (fun c_18 => ?_)
  · have hw := hw.1 c_18
    exact T40 p1 p2 p3 F R L G _ _ ls hP hS (lv_sub hl [1, 2, 3] rfl) hw
  · have hw := hw.2 c_18
    refine lv_iload_n hx hb dX3_dayOf_12 rfl (lv_at hl 2 rfl) ?_
    refine lv_iconst (v := 1) hx hb dX3_dayOf_13 (by decide) ?_
    refine lv_bipush (v := 12) hx hb dX3_dayOf_14 (by decide) ?_
    refine s_calli (As := [.int p2, .int 1, .int 12]) (rest := [.ref h]) ⟨hx, hb, hml, hown, hts⟩ (metX3_in l _ p2 1 12) (va_cwS 3 hts (lw_S q1858 q1859 q85 q1860) rfl rfl rfl (by decide +kernel) ⟨Nat.le_of_ble_eq_true rfl, Nat.le_of_ble_eq_true rfl⟩) hw rfl hl.1 rfl (Nat.le_of_ble_eq_true rfl) dX3_dayOf_16 ⟨Nat.le_refl _, Nat.le_refl _⟩ (fun r_19 hw => ?_)
    refine lv_if_eq (tgt := 40) hx hb dX3_dayOf_19 (by decide) (fun c_20 => ?_) (fun c_20 => ?_)
    · have hw := hw.1 c_20
      exact T40 p1 p2 p3 F R L G _ _ ls hP hS (lv_sub hl [1, 2, 3] rfl) hw
    · have hw := hw.2 c_20
      refine lv_iload_n hx hb dX3_dayOf_22 rfl (lv_at hl 3 rfl) ?_
      refine lv_iconst (v := 1) hx hb dX3_dayOf_23 (by decide) ?_
      refine lv_icmp_lt (tgt := 40) hx hb dX3_dayOf_24 (by decide) (fun c_21 => ?_) (fun c_21 => ?_)
      · have hw := hw.1 c_21
        exact T40 p1 p2 p3 F R L G _ _ ls hP hS (lv_sub hl [1, 2, 3] rfl) hw
      · have hw := hw.2 c_21
        refine lv_iload_n hx hb dX3_dayOf_27 rfl (lv_at hl 3 rfl) ?_
        refine lv_iload_n hx hb dX3_dayOf_28 rfl (lv_at hl 1 rfl) ?_
        refine lv_iload_n hx hb dX3_dayOf_29 rfl (lv_at hl 2 rfl) ?_
        refine s_calli (As := [.int p1, .int p2]) (rest := [.int p3, .ref h]) ⟨hx, hb, hml, hown, hts⟩ (metX3_daysOf l _ p1 p2) (va_cwS 2 hts (lw_S q2206 q2207 q85 q2208) rfl rfl rfl (by decide +kernel) ⟨Nat.le_of_ble_eq_true rfl, Nat.le_of_ble_eq_true rfl⟩) hw rfl hl.1 rfl (Nat.le_of_ble_eq_true rfl) dX3_dayOf_30 ⟨Nat.le_refl _, Nat.le_refl _⟩ (fun r_22 hw => ?_)
        refine lv_icmp_gt (tgt := 40) hx hb dX3_dayOf_33 (by decide) (fun c_23 => ?_) (fun c_23 => ?_)
        · have hw := hw.1 c_23
          exact T40 p1 p2 p3 F R L G _ _ ls hP hS (lv_sub hl [1, 2, 3] rfl) hw
        · have hw := hw.2 c_23
          refine lv_iconst (v := 1) hx hb dX3_dayOf_36 (by decide) ?_
          refine lv_goto (tgt := 41) hx hb dX3_dayOf_37 (by decide) ?_
          exact T41 p1 p2 p3 1 F R L G _ _ ls hP hS (lv_sub hl [1, 2, 3] rfl) hw
def wpX3_weekday (post : Int32 → mF → mR → mL → mG → Prop) (F : mF) (R : mR) (L : mL) (G : mG) : Prop := post (iRem (R 0 111) 7) (va_up F 8 0) R L G
abbrev wsX3_weekday : List Cond := ws_ yX3_weekday cX3_weekday 1 (some .int)
set_option maxHeartbeats 8000000 in
theorem metX3_weekday (l : Launch) (K : KT) (h : Nat) (a : Nat → Nat) (hap : mAp h a) (post : Int32 → mF → mR → mL → mG → Prop) (F : mF) (R : mR) (L : mL) (G : mG) : Met l yX3_weekday wsX3_weekday (rmo 0 0) (mPre K h a F R L G [] (wpX3_weekday post F R L G )) (mQi post K h a) 0 0 (mA h a) := by
  refine Met.ofW (cc := cX3_weekday) (maxL := 1) (ret := (some .int)) (by decide) rfl ?_
  intro p e s m args below meth c s₁ B hml hv
  obtain ⟨rfl, hP, hK, hw⟩ := hv
  have hx := B.exec
  have hb := B.bytes
  have hr := B.returns
  have hts := atoms_spec (ws := wsX3_weekday) B.pre
  have hts : ∀ w ∈ lw_all, w.before _ s = true := fun w h => hts w (List.mem_cons_of_mem _ h)
  have hown : s.vm.findClass RX3 = some m.cls := findClass_of_methodNamed B.named
  have hlocks := B.notSynchronized
  have hl := lv_entry ([.ref h]) (n := 1) (Nat.le_of_ble_eq_true rfl)
  rw [lg_entry_eq]
  generalize (lg_sl ([.ref h]) ++ List.replicate (1 - (lg_sl ([.ref h])).length) Slot.unset).toArray = ls at hl ⊢
  have hl : lv_has ls 1 [(0, .ref h)] := hl
  have hS : va_S (mA h a) s.heap s.heap [] := va_S.rf
  unfold wpX3_weekday at hw
  refine lv_aload_n hx hb dX3_weekday_0 rfl (lv_at hl 0 rfl) ?_
  refine lv_iconst (v := 0) hx hb dX3_weekday_1 (by decide) ?_
  refine m_puti hx hb hts hown hK hap hP hS 8 (by decide) q1736 rfl rfl rfl rfl dX3_weekday_2 (fun H locs hP hS => ?_)
  refine lv_aload_n hx hb dX3_weekday_5 rfl (lv_at hl 0 rfl) ?_
  refine m_get hx hb hts hown hK hP 0 (by decide) q1728 rfl dX3_weekday_6 ?_
  refine lv_bipush (v := 111) hx hb dX3_weekday_9 (by decide) ?_
  refine m_iald (j := 111) hx hb hK hP 0 1 113 rfl (by decide) (vpd (by decide)) dX3_weekday_11 ?_
  refine lv_bipush (v := 7) hx hb dX3_weekday_12 (by decide) ?_
  refine lv_irem hx hb dX3_weekday_14 (by decide) ?_
  exact m_iret hx hb hr hlocks hP hS dX3_weekday_15 hw
def wpX3_daysUntil_80 (post : Int32 → mF → mR → mL → mG → Prop) (J64 : Int32 → Int32 → Int32 → mF → mR → mL → mG → Prop) (x1 : Int32) (x2 : Int32) (x3 : Int32) (F : mF) (R : mR) (L : mL) (G : mG) : Prop := (∀ x3_1 : Int32, x3_1 = x3 + 1 → wpX3_finds (fun F_2 R_3 L_4 G_5 => J64 x1 x2 x3_1 F_2 R_3 L_4 G_5) F R L G ((R 0 111) + x3_1))
def wpX3_daysUntil_64 (post : Int32 → mF → mR → mL → mG → Prop) : Nat → Int32 → Int32 → Int32 → mF → mR → mL → mG → Prop
  | 0 => fun _ _ _ _ _ _ _ => False
  | n + 1 => fun x1 x2 x3 F R L G => (((F 17) = x1 → (((F 18) = x2 → post x3 F R L G) ∧ (¬ (F 18) = x2 → wpX3_daysUntil_80 post (wpX3_daysUntil_64 post n) x1 x2 x3 F R L G))) ∧ (¬ (F 17) = x1 → wpX3_daysUntil_80 post (wpX3_daysUntil_64 post n) x1 x2 x3 F R L G))
def wpX3_daysUntil_26 (post : Int32 → mF → mR → mL → mG → Prop) (x1 : Int32) (x2 : Int32) (z1 : Int32) (F : mF) (R : mR) (L : mL) (G : mG) : Prop := wpX3_asks (fun r_8 F_9 R_10 L_11 G_12 => ((r_8 = 0 → post 0 F_9 R_10 L_11 G_12) ∧ (¬ r_8 = 0 → wpX3_daysOf (fun r_14 => ((x2 ≤ r_14 → wpX3_finds (fun F_16 R_17 L_18 G_19 => ∃ fu : Nat, wpX3_daysUntil_64 post fu x1 x2 1 F_16 R_17 L_18 G_19) F_9 R_10 L_11 G_12 ((R_10 0 111) + 1)) ∧ (¬ x2 ≤ r_14 → wpX3_fails (fun r_20 F_21 R_22 L_23 G_24 => post r_20 F_21 R_22 L_23 G_24) F_9 R_10 L_11 G_12 2))) 4 x1))) F R L G z1
def wpX3_daysUntil_25 (post : Int32 → mF → mR → mL → mG → Prop) (x1 : Int32) (x2 : Int32) (F : mF) (R : mR) (L : mL) (G : mG) : Prop := wpX3_daysUntil_26 post x1 x2 0 F R L G
def wpX3_daysUntil (post : Int32 → mF → mR → mL → mG → Prop) (F : mF) (R : mR) (L : mL) (G : mG) (p1 : Int32) (p2 : Int32) : Prop := wpX3_in (fun r_25 => ((r_25 = 0 → wpX3_daysUntil_25 post p1 p2 F R L G) ∧ (¬ r_25 = 0 → wpX3_in (fun r_27 => ((r_27 = 0 → wpX3_daysUntil_25 post p1 p2 F R L G) ∧ (¬ r_27 = 0 → wpX3_daysUntil_26 post p1 p2 1 F R L G))) p2 1 31))) p1 1 12
abbrev wsX3_daysUntil : List Cond := ws_ yX3_daysUntil cX3_daysUntil 4 (some .int)
set_option maxHeartbeats 8000000 in
theorem metX3_daysUntil (l : Launch) (K : KT) (h : Nat) (a : Nat → Nat) (hap : mAp h a) (post : Int32 → mF → mR → mL → mG → Prop) (F : mF) (R : mR) (L : mL) (G : mG) (p1 : Int32) (p2 : Int32) : Met l yX3_daysUntil wsX3_daysUntil (rmo 3 63) (mPre K h a F R L G [.int p1, .int p2] (wpX3_daysUntil post F R L G p1 p2)) (mQi post K h a) 0 0 (mA h a) := by
  refine Met.ofW (cc := cX3_daysUntil) (maxL := 4) (ret := (some .int)) (by decide) rfl ?_
  intro p e s m args below meth c s₁ B hml hv
  obtain ⟨rfl, hP, hK, hw⟩ := hv
  have hx := B.exec
  have hb := B.bytes
  have hr := B.returns
  have hts := atoms_spec (ws := wsX3_daysUntil) B.pre
  have hts : ∀ w ∈ lw_all, w.before _ s = true := fun w h => hts w (List.mem_cons_of_mem _ h)
  have hown : s.vm.findClass RX3 = some m.cls := findClass_of_methodNamed B.named
  have hlocks := B.notSynchronized
  have hl := lv_entry ([.ref h, .int p1, .int p2]) (n := 4) (Nat.le_of_ble_eq_true rfl)
  rw [lg_entry_eq]
  generalize (lg_sl ([.ref h, .int p1, .int p2]) ++ List.replicate (4 - (lg_sl ([.ref h, .int p1, .int p2])).length) Slot.unset).toArray = ls at hl ⊢
  have hl : lv_has ls 4 [(0, .ref h), (1, .int p1), (2, .int p2)] := hl
  have hS : va_S (mA h a) s.heap s.heap [] := va_S.rf
  have T80 : ∀ (J64 : Int32 → Int32 → Int32 → mF → mR → mL → mG → Prop) (hJ64 : ∀ (x1 : Int32) (x2 : Int32) (x3 : Int32) (F : mF) (R : mR) (L : mL) (G : mG) (H : Heap) (locs : List Loc) (ls : Array Slot), mP K h a F R L G H → va_S (mA h a) s.heap H locs → lv_has ls 4 [(0, .ref h), (1, .int x1), (2, .int x2), (3, .int x3)] → J64 x1 x2 x3 F R L G → W p l e (rmo 3 63) s m ([.ref h, .int p1, .int p2] : List Value).toArray below meth c H locs 0 0 (MQ below (mQi post K h a) ([.ref h, .int p1, .int p2] : List Value).toArray s 0 0 (mA h a)) (F0 m 64 ls [])), ∀ (x1 : Int32) (x2 : Int32) (x3 : Int32) (F : mF) (R : mR) (L : mL) (G : mG) (H : Heap) (locs : List Loc) (ls : Array Slot), mP K h a F R L G H → va_S (mA h a) s.heap H locs → lv_has ls 4 [(0, .ref h), (1, .int x1), (2, .int x2), (3, .int x3)] → wpX3_daysUntil_80 post J64 x1 x2 x3 F R L G → W p l e (rmo 3 63) s m ([.ref h, .int p1, .int p2] : List Value).toArray below meth c H locs 0 0 (MQ below (mQi post K h a) ([.ref h, .int p1, .int p2] : List Value).toArray s 0 0 (mA h a)) (F0 m 80 ls []) := by
    intro J64 hJ64
    intro x1 x2 x3 F R L G H locs ls hP hS hl hw
    unfold wpX3_daysUntil_80 at hw
    obtain ⟨x3_1, ex3_1⟩ : ∃ y : Int32, y = x3 + 1 := ⟨_, rfl⟩
    have hw := hw x3_1 ex3_1
    refine lv_iinc (v := x3_1) (lv' := [(3, .int x3_1), (0, .ref h), (1, .int x1), (2, .int x2)]) hx hb dX3_daysUntil_80 hl (k := 3) rfl (by rw [ex3_1]; rfl) (by decide) rfl (fun ls hl => ?_)
    refine lv_aload_n hx hb dX3_daysUntil_83 rfl (lv_at hl 1 rfl) ?_
    refine lv_aload_n hx hb dX3_daysUntil_84 rfl (lv_at hl 1 rfl) ?_
    refine m_get hx hb hts hown hK hP 0 (by decide) q1728 rfl dX3_daysUntil_85 ?_
    refine lv_bipush (v := 111) hx hb dX3_daysUntil_88 (by decide) ?_
    refine m_iald (j := 111) hx hb hK hP 0 1 113 rfl (by decide) (vpd (by decide)) dX3_daysUntil_90 ?_
    refine lv_iload_n hx hb dX3_daysUntil_91 rfl (lv_at hl 0 rfl) ?_
    refine lv_iadd hx hb dX3_daysUntil_92 ?_
    refine m_callv (As := [.int ((R 0 111) + x3_1)]) (rest := []) ⟨hx, hb, hml, hown, hts⟩ (metX3_finds l K h a hap _ F R L G ((R 0 111) + x3_1)) (cwV 1 hts (lw_V q2199 q2201 qs66 q85 q2202) rfl rfl rfl (by decide +kernel) ⟨Nat.le_of_ble_eq_true rfl, Nat.le_of_ble_eq_true rfl⟩) hK hP hS hw rfl hl.1 rfl (Nat.le_of_ble_eq_true rfl) dX3_daysUntil_93 ⟨Nat.le_refl _, Nat.le_refl _⟩ (fun F_2 R_3 L_4 G_5 H locs hw hP hS => ?_)
    refine lv_goto (tgt := 64) hx hb dX3_daysUntil_96 (by decide) ?_
    exact hJ64 x1 x2 x3_1 F_2 R_3 L_4 G_5 _ _ ls hP hS (lv_sub hl [1, 2, 3, 0] rfl) hw
  have T64 : ∀ (n : Nat), ∀ (x1 : Int32) (x2 : Int32) (x3 : Int32) (F : mF) (R : mR) (L : mL) (G : mG) (H : Heap) (locs : List Loc) (ls : Array Slot), mP K h a F R L G H → va_S (mA h a) s.heap H locs → lv_has ls 4 [(0, .ref h), (1, .int x1), (2, .int x2), (3, .int x3)] → wpX3_daysUntil_64 post n x1 x2 x3 F R L G → W p l e (rmo 3 63) s m ([.ref h, .int p1, .int p2] : List Value).toArray below meth c H locs 0 0 (MQ below (mQi post K h a) ([.ref h, .int p1, .int p2] : List Value).toArray s 0 0 (mA h a)) (F0 m 64 ls []) := by
    intro n
    induction n with
    | zero =>
      intro x1 x2 x3 F R L G H locs ls hP hS hl hw
      exact False.elim hw
    | succ n ih =>
      intro x1 x2 x3 F R L G H locs ls hP hS hl hw
      unfold wpX3_daysUntil_64 at hw
      refine lv_aload_n hx hb dX3_daysUntil_64 rfl (lv_at hl 0 rfl) ?_
      refine m_get hx hb hts hown hK hP 17 (by decide) q1745 rfl dX3_daysUntil_65 ?_
      refine lv_iload_n hx hb dX3_daysUntil_68 rfl (lv_at hl 1 rfl) ?_
      refine lv_icmp_ne (tgt := 80) hx hb dX3_daysUntil_69 (by decide) (fun c_6 => ?_) (fun c_6 => ?_)
      · have hw := hw.2 (c_6)
        exact T80 _ ih x1 x2 x3 F R L G _ _ ls hP hS (lv_sub hl [0, 1, 2, 3] rfl) hw
      · have hw := hw.1 (c_6)
        refine lv_aload_n hx hb dX3_daysUntil_72 rfl (lv_at hl 0 rfl) ?_
        refine m_get hx hb hts hown hK hP 18 (by decide) q1746 rfl dX3_daysUntil_73 ?_
        refine lv_iload_n hx hb dX3_daysUntil_76 rfl (lv_at hl 2 rfl) ?_
        refine lv_icmp_eq (tgt := 99) hx hb dX3_daysUntil_77 (by decide) (fun c_7 => ?_) (fun c_7 => ?_)
        · have hw := hw.1 c_7
          refine lv_iload_n hx hb dX3_daysUntil_99 rfl (lv_at hl 3 rfl) ?_
          exact m_iret hx hb hr hlocks hP hS dX3_daysUntil_100 hw
        · have hw := hw.2 c_7
          exact T80 _ ih x1 x2 x3 F R L G _ _ ls hP hS (lv_sub hl [0, 1, 2, 3] rfl) hw
  have T26 : ∀ (x1 : Int32) (x2 : Int32) (z1 : Int32) (F : mF) (R : mR) (L : mL) (G : mG) (H : Heap) (locs : List Loc) (ls : Array Slot), mP K h a F R L G H → va_S (mA h a) s.heap H locs → lv_has ls 4 [(0, .ref h), (1, .int x1), (2, .int x2)] → wpX3_daysUntil_26 post x1 x2 z1 F R L G → W p l e (rmo 3 63) s m ([.ref h, .int p1, .int p2] : List Value).toArray below meth c H locs 0 0 (MQ below (mQi post K h a) ([.ref h, .int p1, .int p2] : List Value).toArray s 0 0 (mA h a)) (F0 m 26 ls [.int z1, .ref h]) := by
    intro x1 x2 z1 F R L G H locs ls hP hS hl hw
    unfold wpX3_daysUntil_26 at hw
    refine m_calli (As := [.int z1]) (rest := []) ⟨hx, hb, hml, hown, hts⟩ (metX3_asks l K h a hap _ F R L G z1) (cwV 1 hts (lw_V q2005 q2007 qs49 q85 q2008) rfl rfl rfl (by decide +kernel) ⟨Nat.le_of_ble_eq_true rfl, Nat.le_of_ble_eq_true rfl⟩) hK hP hS hw rfl hl.1 rfl (Nat.le_of_ble_eq_true rfl) dX3_daysUntil_26 ⟨Nat.le_refl _, Nat.le_refl _⟩ (fun r_8 F_9 R_10 L_11 G_12 H locs hw hP hS => ?_)
    refine lv_if_ne (tgt := 34) hx hb dX3_daysUntil_29 (by decide) (fun c_13 => ?_) (fun c_13 => ?_)
    · have hw := hw.2 (c_13)
      refine lv_iload_n hx hb dX3_daysUntil_34 rfl (lv_at hl 2 rfl) ?_
      refine lv_iconst (v := 4) hx hb dX3_daysUntil_35 (by decide) ?_
      refine lv_iload_n hx hb dX3_daysUntil_36 rfl (lv_at hl 1 rfl) ?_
      refine s_calli (As := [.int 4, .int x1]) (rest := [.int x2]) ⟨hx, hb, hml, hown, hts⟩ (metX3_daysOf l _ 4 x1) (va_cwS 2 hts (lw_S q2206 q2207 q85 q2208) rfl rfl rfl (by decide +kernel) ⟨Nat.le_of_ble_eq_true rfl, Nat.le_of_ble_eq_true rfl⟩) hw rfl hl.1 rfl (Nat.le_of_ble_eq_true rfl) dX3_daysUntil_37 ⟨Nat.le_refl _, Nat.le_refl _⟩ (fun r_14 hw => ?_)
      refine lv_icmp_le (tgt := 49) hx hb dX3_daysUntil_40 (by decide) (fun c_15 => ?_) (fun c_15 => ?_)
      · have hw := hw.1 c_15
        refine lv_iconst (v := 1) hx hb dX3_daysUntil_49 (by decide) ?_
        refine lv_istore_n (lv' := [(3, .int 1), (0, .ref h), (1, .int x1), (2, .int x2)]) hx hb dX3_daysUntil_50 rfl hl (by decide) rfl (fun ls hl => ?_)
        refine lv_aload_n hx hb dX3_daysUntil_51 rfl (lv_at hl 1 rfl) ?_
        refine lv_aload_n hx hb dX3_daysUntil_52 rfl (lv_at hl 1 rfl) ?_
        refine m_get hx hb hts hown hK hP 0 (by decide) q1728 rfl dX3_daysUntil_53 ?_
        refine lv_bipush (v := 111) hx hb dX3_daysUntil_56 (by decide) ?_
        refine m_iald (j := 111) hx hb hK hP 0 1 113 rfl (by decide) (vpd (by decide)) dX3_daysUntil_58 ?_
        refine lv_iconst (v := 1) hx hb dX3_daysUntil_59 (by decide) ?_
        refine lv_iadd hx hb dX3_daysUntil_60 ?_
        refine m_callv (As := [.int ((R_10 0 111) + 1)]) (rest := []) ⟨hx, hb, hml, hown, hts⟩ (metX3_finds l K h a hap _ F_9 R_10 L_11 G_12 ((R_10 0 111) + 1)) (cwV 1 hts (lw_V q2199 q2201 qs66 q85 q2202) rfl rfl rfl (by decide +kernel) ⟨Nat.le_of_ble_eq_true rfl, Nat.le_of_ble_eq_true rfl⟩) hK hP hS hw rfl hl.1 rfl (Nat.le_of_ble_eq_true rfl) dX3_daysUntil_61 ⟨Nat.le_refl _, Nat.le_refl _⟩ (fun F_16 R_17 L_18 G_19 H locs hw hP hS => ?_)
        obtain ⟨fu, hw⟩ := hw
        exact T64 fu x1 x2 1 F_16 R_17 L_18 G_19 _ _ ls hP hS (lv_sub hl [1, 2, 3, 0] rfl) hw
      · have hw := hw.2 c_15
        refine lv_aload_n hx hb dX3_daysUntil_43 rfl (lv_at hl 0 rfl) ?_
        refine lv_iconst (v := 2) hx hb dX3_daysUntil_44 (by decide) ?_
        refine m_calli (As := [.int 2]) (rest := []) ⟨hx, hb, hml, hown, hts⟩ (metX3_fails l K h a hap _ F_9 R_10 L_11 G_12 2) (cwV 1 hts (lw_V q1838 q1840 qs27 q85 q1841) rfl rfl rfl (by decide +kernel) ⟨Nat.le_of_ble_eq_true rfl, Nat.le_of_ble_eq_true rfl⟩) hK hP hS hw rfl hl.1 rfl (Nat.le_of_ble_eq_true rfl) dX3_daysUntil_45 ⟨Nat.le_refl _, Nat.le_refl _⟩ (fun r_20 F_21 R_22 L_23 G_24 H locs hw hP hS => ?_)
        exact m_iret hx hb hr hlocks hP hS dX3_daysUntil_48 hw
    · have hw := hw.1 (c_13)
      refine lv_iconst (v := 0) hx hb dX3_daysUntil_32 (by decide) ?_
      exact m_iret hx hb hr hlocks hP hS dX3_daysUntil_33 hw
  have T25 : ∀ (x1 : Int32) (x2 : Int32) (F : mF) (R : mR) (L : mL) (G : mG) (H : Heap) (locs : List Loc) (ls : Array Slot), mP K h a F R L G H → va_S (mA h a) s.heap H locs → lv_has ls 4 [(0, .ref h), (1, .int x1), (2, .int x2)] → wpX3_daysUntil_25 post x1 x2 F R L G → W p l e (rmo 3 63) s m ([.ref h, .int p1, .int p2] : List Value).toArray below meth c H locs 0 0 (MQ below (mQi post K h a) ([.ref h, .int p1, .int p2] : List Value).toArray s 0 0 (mA h a)) (F0 m 25 ls [.ref h]) := by
    intro x1 x2 F R L G H locs ls hP hS hl hw
    unfold wpX3_daysUntil_25 at hw
    refine lv_iconst (v := 0) hx hb dX3_daysUntil_25 (by decide) ?_
    exact T26 x1 x2 0 F R L G _ _ ls hP hS (lv_sub hl [0, 1, 2] rfl) hw
  unfold wpX3_daysUntil at hw
  refine lv_aload_n hx hb dX3_daysUntil_0 rfl (lv_at hl 0 rfl) ?_
  refine lv_iload_n hx hb dX3_daysUntil_1 rfl (lv_at hl 1 rfl) ?_
  refine lv_iconst (v := 1) hx hb dX3_daysUntil_2 (by decide) ?_
  refine lv_bipush (v := 12) hx hb dX3_daysUntil_3 (by decide) ?_
  refine s_calli (As := [.int p1, .int 1, .int 12]) (rest := [.ref h]) ⟨hx, hb, hml, hown, hts⟩ (metX3_in l _ p1 1 12) (va_cwS 3 hts (lw_S q1858 q1859 q85 q1860) rfl rfl rfl (by decide +kernel) ⟨Nat.le_of_ble_eq_true rfl, Nat.le_of_ble_eq_true rfl⟩) hw rfl hl.1 rfl (Nat.le_of_ble_eq_true rfl) dX3_daysUntil_5 ⟨Nat.le_refl _, Nat.le_refl _⟩ (fun r_25 hw => ?_)
  refine lv_if_eq (tgt := 25) hx hb dX3_daysUntil_8 (by decide) (fun c_26 => ?_) (fun c_26 => ?_)
  · have hw := hw.1 c_26
    exact T25 p1 p2 F R L G _ _ ls hP hS (lv_sub hl [0, 1, 2] rfl) hw
  · have hw := hw.2 c_26
    refine lv_iload_n hx hb dX3_daysUntil_11 rfl (lv_at hl 2 rfl) ?_
    refine lv_iconst (v := 1) hx hb dX3_daysUntil_12 (by decide) ?_
    refine lv_bipush (v := 31) hx hb dX3_daysUntil_13 (by decide) ?_
    refine s_calli (As := [.int p2, .int 1, .int 31]) (rest := [.ref h]) ⟨hx, hb, hml, hown, hts⟩ (metX3_in l _ p2 1 31) (va_cwS 3 hts (lw_S q1858 q1859 q85 q1860) rfl rfl rfl (by decide +kernel) ⟨Nat.le_of_ble_eq_true rfl, Nat.le_of_ble_eq_true rfl⟩) hw rfl hl.1 rfl (Nat.le_of_ble_eq_true rfl) dX3_daysUntil_15 ⟨Nat.le_refl _, Nat.le_refl _⟩ (fun r_27 hw => ?_)
    refine lv_if_eq (tgt := 25) hx hb dX3_daysUntil_18 (by decide) (fun c_28 => ?_) (fun c_28 => ?_)
    · have hw := hw.1 c_28
      exact T25 p1 p2 F R L G _ _ ls hP hS (lv_sub hl [0, 1, 2] rfl) hw
    · have hw := hw.2 c_28
      refine lv_iconst (v := 1) hx hb dX3_daysUntil_21 (by decide) ?_
      refine lv_goto (tgt := 26) hx hb dX3_daysUntil_22 (by decide) ?_
      exact T26 p1 p2 1 F R L G _ _ ls hP hS (lv_sub hl [0, 1, 2] rfl) hw
def wpX3_dayOfYear (post : Int32 → mF → mR → mL → mG → Prop) (F : mF) (R : mR) (L : mL) (G : mG) : Prop := wpX3_finds (fun F_1 R_2 L_3 G_4 => post (F_1 19) F_1 R_2 L_3 G_4) (va_up F 8 0) R L G (R 0 111)
abbrev wsX3_dayOfYear : List Cond := ws_ yX3_dayOfYear cX3_dayOfYear 1 (some .int)
set_option maxHeartbeats 8000000 in
theorem metX3_dayOfYear (l : Launch) (K : KT) (h : Nat) (a : Nat → Nat) (hap : mAp h a) (post : Int32 → mF → mR → mL → mG → Prop) (F : mF) (R : mR) (L : mL) (G : mG) : Met l yX3_dayOfYear wsX3_dayOfYear (rmo 3 63) (mPre K h a F R L G [] (wpX3_dayOfYear post F R L G )) (mQi post K h a) 0 0 (mA h a) := by
  refine Met.ofW (cc := cX3_dayOfYear) (maxL := 1) (ret := (some .int)) (by decide) rfl ?_
  intro p e s m args below meth c s₁ B hml hv
  obtain ⟨rfl, hP, hK, hw⟩ := hv
  have hx := B.exec
  have hb := B.bytes
  have hr := B.returns
  have hts := atoms_spec (ws := wsX3_dayOfYear) B.pre
  have hts : ∀ w ∈ lw_all, w.before _ s = true := fun w h => hts w (List.mem_cons_of_mem _ h)
  have hown : s.vm.findClass RX3 = some m.cls := findClass_of_methodNamed B.named
  have hlocks := B.notSynchronized
  have hl := lv_entry ([.ref h]) (n := 1) (Nat.le_of_ble_eq_true rfl)
  rw [lg_entry_eq]
  generalize (lg_sl ([.ref h]) ++ List.replicate (1 - (lg_sl ([.ref h])).length) Slot.unset).toArray = ls at hl ⊢
  have hl : lv_has ls 1 [(0, .ref h)] := hl
  have hS : va_S (mA h a) s.heap s.heap [] := va_S.rf
  unfold wpX3_dayOfYear at hw
  refine lv_aload_n hx hb dX3_dayOfYear_0 rfl (lv_at hl 0 rfl) ?_
  refine lv_iconst (v := 0) hx hb dX3_dayOfYear_1 (by decide) ?_
  refine m_puti hx hb hts hown hK hap hP hS 8 (by decide) q1736 rfl rfl rfl rfl dX3_dayOfYear_2 (fun H locs hP hS => ?_)
  refine lv_aload_n hx hb dX3_dayOfYear_5 rfl (lv_at hl 0 rfl) ?_
  refine lv_aload_n hx hb dX3_dayOfYear_6 rfl (lv_at hl 0 rfl) ?_
  refine m_get hx hb hts hown hK hP 0 (by decide) q1728 rfl dX3_dayOfYear_7 ?_
  refine lv_bipush (v := 111) hx hb dX3_dayOfYear_10 (by decide) ?_
  refine m_iald (j := 111) hx hb hK hP 0 1 113 rfl (by decide) (vpd (by decide)) dX3_dayOfYear_12 ?_
  refine m_callv (As := [.int (R 0 111)]) (rest := []) ⟨hx, hb, hml, hown, hts⟩ (metX3_finds l K h a hap _ (va_up F 8 0) R L G (R 0 111)) (cwV 1 hts (lw_V q2199 q2201 qs66 q85 q2202) rfl rfl rfl (by decide +kernel) ⟨Nat.le_of_ble_eq_true rfl, Nat.le_of_ble_eq_true rfl⟩) hK hP hS hw rfl hl.1 rfl (Nat.le_of_ble_eq_true rfl) dX3_dayOfYear_13 ⟨Nat.le_refl _, Nat.le_refl _⟩ (fun F_1 R_2 L_3 G_4 H locs hw hP hS => ?_)
  refine lv_aload_n hx hb dX3_dayOfYear_16 rfl (lv_at hl 0 rfl) ?_
  refine m_get hx hb hts hown hK hP 19 (by decide) q1747 rfl dX3_dayOfYear_17 ?_
  exact m_iret hx hb hr hlocks hP hS dX3_dayOfYear_20 hw
def wpX3_periodOf (post : Int32 → mF → mR → mL → mG → Prop) (F : mF) (R : mR) (L : mL) (G : mG) (p1 : Int32) : Prop := wpX3_isArm (fun r_1 F_2 R_3 L_4 G_5 => wpX3_asks (fun r_6 F_7 R_8 L_9 G_10 => ((r_6 = 0 → post 0 F_7 R_8 L_9 G_10) ∧ (¬ r_6 = 0 → (vp_in (96 + p1) 113 ∧ (((R_8 0 (Int32.toNatClampNeg (96 + p1))) ≤ 0 → wpX3_fails (fun r_14 F_15 R_16 L_17 G_18 => post r_14 F_15 R_16 L_17 G_18) F_7 R_8 L_9 G_10 2) ∧ (¬ (R_8 0 (Int32.toNatClampNeg (96 + p1))) ≤ 0 → (vp_in (96 + p1) 113 ∧ post (R_8 0 (Int32.toNatClampNeg (96 + p1))) F_7 R_8 L_9 G_10))))))) F_2 R_3 L_4 G_5 r_1) F R L G p1
abbrev wsX3_periodOf : List Cond := ws_ yX3_periodOf cX3_periodOf 2 (some .int)
set_option maxHeartbeats 8000000 in
theorem metX3_periodOf (l : Launch) (K : KT) (h : Nat) (a : Nat → Nat) (hap : mAp h a) (post : Int32 → mF → mR → mL → mG → Prop) (F : mF) (R : mR) (L : mL) (G : mG) (p1 : Int32) : Met l yX3_periodOf wsX3_periodOf (rmo 2 43) (mPre K h a F R L G [.int p1] (wpX3_periodOf post F R L G p1)) (mQi post K h a) 0 0 (mA h a) := by
  refine Met.ofW (cc := cX3_periodOf) (maxL := 2) (ret := (some .int)) (by decide) rfl ?_
  intro p e s m args below meth c s₁ B hml hv
  obtain ⟨rfl, hP, hK, hw⟩ := hv
  have hx := B.exec
  have hb := B.bytes
  have hr := B.returns
  have hts := atoms_spec (ws := wsX3_periodOf) B.pre
  have hts : ∀ w ∈ lw_all, w.before _ s = true := fun w h => hts w (List.mem_cons_of_mem _ h)
  have hown : s.vm.findClass RX3 = some m.cls := findClass_of_methodNamed B.named
  have hlocks := B.notSynchronized
  have hl := lv_entry ([.ref h, .int p1]) (n := 2) (Nat.le_of_ble_eq_true rfl)
  rw [lg_entry_eq]
  generalize (lg_sl ([.ref h, .int p1]) ++ List.replicate (2 - (lg_sl ([.ref h, .int p1])).length) Slot.unset).toArray = ls at hl ⊢
  have hl : lv_has ls 2 [(0, .ref h), (1, .int p1)] := hl
  have hS : va_S (mA h a) s.heap s.heap [] := va_S.rf
  unfold wpX3_periodOf at hw
  refine lv_aload_n hx hb dX3_periodOf_0 rfl (lv_at hl 0 rfl) ?_
  refine lv_aload_n hx hb dX3_periodOf_1 rfl (lv_at hl 0 rfl) ?_
  refine lv_iload_n hx hb dX3_periodOf_2 rfl (lv_at hl 1 rfl) ?_
  refine m_calli (As := [.int p1]) (rest := [.ref h]) ⟨hx, hb, hml, hown, hts⟩ (metX3_isArm l K h a hap _ F R L G p1) (cwV 1 hts (lw_V q1943 q1945 qs45 q85 q1946) rfl rfl rfl (by decide +kernel) ⟨Nat.le_of_ble_eq_true rfl, Nat.le_of_ble_eq_true rfl⟩) hK hP hS hw rfl hl.1 rfl (Nat.le_of_ble_eq_true rfl) dX3_periodOf_3 ⟨Nat.le_refl _, Nat.le_refl _⟩ (fun r_1 F_2 R_3 L_4 G_5 H locs hw hP hS => ?_)
  refine m_calli (As := [.int r_1]) (rest := []) ⟨hx, hb, hml, hown, hts⟩ (metX3_asks l K h a hap _ F_2 R_3 L_4 G_5 r_1) (cwV 1 hts (lw_V q2005 q2007 qs49 q85 q2008) rfl rfl rfl (by decide +kernel) ⟨Nat.le_of_ble_eq_true rfl, Nat.le_of_ble_eq_true rfl⟩) hK hP hS hw rfl hl.1 rfl (Nat.le_of_ble_eq_true rfl) dX3_periodOf_6 ⟨Nat.le_refl _, Nat.le_refl _⟩ (fun r_6 F_7 R_8 L_9 G_10 H locs hw hP hS => ?_)
  refine lv_if_ne (tgt := 14) hx hb dX3_periodOf_9 (by decide) (fun c_11 => ?_) (fun c_11 => ?_)
  · have hw := hw.2 (c_11)
    refine lv_aload_n hx hb dX3_periodOf_14 rfl (lv_at hl 0 rfl) ?_
    refine m_get hx hb hts hown hK hP 0 (by decide) q1728 rfl dX3_periodOf_15 ?_
    refine lv_bipush (v := 96) hx hb dX3_periodOf_18 (by decide) ?_
    refine lv_iload_n hx hb dX3_periodOf_20 rfl (lv_at hl 1 rfl) ?_
    refine lv_iadd hx hb dX3_periodOf_21 ?_
    obtain ⟨h_12, hw⟩ := hw
    refine m_iald (j := (Int32.toNatClampNeg (96 + p1))) hx hb hK hP 0 1 113 rfl rfl h_12 dX3_periodOf_22 ?_
    refine lv_if_le (tgt := 38) hx hb dX3_periodOf_23 (by decide) (fun c_13 => ?_) (fun c_13 => ?_)
    · have hw := hw.1 c_13
      refine lv_aload_n hx hb dX3_periodOf_38 rfl (lv_at hl 0 rfl) ?_
      refine lv_iconst (v := 2) hx hb dX3_periodOf_39 (by decide) ?_
      refine m_calli (As := [.int 2]) (rest := []) ⟨hx, hb, hml, hown, hts⟩ (metX3_fails l K h a hap _ F_7 R_8 L_9 G_10 2) (cwV 1 hts (lw_V q1838 q1840 qs27 q85 q1841) rfl rfl rfl (by decide +kernel) ⟨Nat.le_of_ble_eq_true rfl, Nat.le_of_ble_eq_true rfl⟩) hK hP hS hw rfl hl.1 rfl (Nat.le_of_ble_eq_true rfl) dX3_periodOf_40 ⟨Nat.le_refl _, Nat.le_refl _⟩ (fun r_14 F_15 R_16 L_17 G_18 H locs hw hP hS => ?_)
      exact m_iret hx hb hr hlocks hP hS dX3_periodOf_43 hw
    · have hw := hw.2 c_13
      refine lv_aload_n hx hb dX3_periodOf_26 rfl (lv_at hl 0 rfl) ?_
      refine m_get hx hb hts hown hK hP 0 (by decide) q1728 rfl dX3_periodOf_27 ?_
      refine lv_bipush (v := 96) hx hb dX3_periodOf_30 (by decide) ?_
      refine lv_iload_n hx hb dX3_periodOf_32 rfl (lv_at hl 1 rfl) ?_
      refine lv_iadd hx hb dX3_periodOf_33 ?_
      obtain ⟨h_19, hw⟩ := hw
      refine m_iald (j := (Int32.toNatClampNeg (96 + p1))) hx hb hK hP 0 1 113 rfl rfl h_19 dX3_periodOf_34 ?_
      refine lv_goto (tgt := 43) hx hb dX3_periodOf_35 (by decide) ?_
      exact m_iret hx hb hr hlocks hP hS dX3_periodOf_43 hw
  · have hw := hw.1 (c_11)
    refine lv_iconst (v := 0) hx hb dX3_periodOf_12 (by decide) ?_
    exact m_iret hx hb hr hlocks hP hS dX3_periodOf_13 hw
def wpJ19_isNaN (post : Int32 → Prop) (p0 : UInt64) : Prop := (((Op.cmpValue (FP.dcmp p0 p0) .l) = 0 → post 0) ∧ (¬ (Op.cmpValue (FP.dcmp p0 p0) .l) = 0 → post 1))
abbrev wsJ19_isNaN : List Cond := ws_ yJ19_isNaN cJ19_isNaN 2 (some .boolean)
set_option maxHeartbeats 8000000 in
theorem metJ19_isNaN (l : Launch) (post : Int32 → Prop) (p0 : UInt64) : Met l yJ19_isNaN wsJ19_isNaN (rmo 0 0) (sPre [.double p0] (wpJ19_isNaN post p0)) (vp_Si post) 0 0 (fun _ => False) := by
  refine Met.ofW (cc := cJ19_isNaN) (maxL := 2) (ret := (some .boolean)) (by decide) rfl ?_
  intro p e s m args below meth c s₁ B hml hv
  obtain ⟨rfl, hw⟩ := hv
  have hx := B.exec
  have hb := B.bytes
  have hr := B.returns
  have hts := atoms_spec (ws := wsJ19_isNaN) B.pre
  have hts : ∀ w ∈ lw_all, w.before _ s = true := fun w h => hts w (List.mem_cons_of_mem _ h)
  have hown : s.vm.findClass RJ19 = some m.cls := findClass_of_methodNamed B.named
  have hlocks := B.notSynchronized
  have hl := lv_entry ([.double p0]) (n := 2) (Nat.le_of_ble_eq_true rfl)
  rw [lg_entry_eq]
  generalize (lg_sl ([.double p0]) ++ List.replicate (2 - (lg_sl ([.double p0])).length) Slot.unset).toArray = ls at hl ⊢
  have hl : lv_has ls 2 [(0, .double p0)] := hl
  unfold wpJ19_isNaN at hw
  refine lv_dload_n hx hb dJ19_isNaN_0 rfl (lv_at hl 0 rfl) ?_
  refine lv_dload_n hx hb dJ19_isNaN_1 rfl (lv_at hl 0 rfl) ?_
  refine lv_dcmp hx hb dJ19_isNaN_2 ?_
  refine lv_if_eq (tgt := 10) hx hb dJ19_isNaN_3 (by decide) (fun c_1 => ?_) (fun c_1 => ?_)
  · have hw := hw.1 c_1
    refine lv_iconst (v := 0) hx hb dJ19_isNaN_10 (by decide) ?_
    exact s_zret hx hb hr hlocks dJ19_isNaN_11 (Or.inl rfl) hw
  · have hw := hw.2 c_1
    refine lv_iconst (v := 1) hx hb dJ19_isNaN_6 (by decide) ?_
    refine lv_goto (tgt := 11) hx hb dJ19_isNaN_7 (by decide) ?_
    exact s_zret hx hb hr hlocks dJ19_isNaN_11 (Or.inr rfl) hw
def wpJ19_doubleToLongBits (post : Int64 → Prop) (p0 : UInt64) : Prop := wpJ19_isNaN (fun r_1 => ((r_1 = 0 → post (UInt64.toInt64 p0)) ∧ (¬ r_1 = 0 → post 9221120237041090560))) p0
abbrev wsJ19_doubleToLongBits : List Cond := ws_ yJ19_doubleToLongBits cJ19_doubleToLongBits 2 (some .long)
set_option maxHeartbeats 8000000 in
theorem metJ19_doubleToLongBits (l : Launch) (post : Int64 → Prop) (p0 : UInt64) : Met l yJ19_doubleToLongBits wsJ19_doubleToLongBits (rmo 1 23) (sPre [.double p0] (wpJ19_doubleToLongBits post p0)) (vp_Sl post) 0 0 (fun _ => False) := by
  refine Met.ofW (cc := cJ19_doubleToLongBits) (maxL := 2) (ret := (some .long)) (by decide) rfl ?_
  intro p e s m args below meth c s₁ B hml hv
  obtain ⟨rfl, hw⟩ := hv
  have hx := B.exec
  have hb := B.bytes
  have hr := B.returns
  have hts := atoms_spec (ws := wsJ19_doubleToLongBits) B.pre
  have hts : ∀ w ∈ lw_all, w.before _ s = true := fun w h => hts w (List.mem_cons_of_mem _ h)
  have hown : s.vm.findClass RJ19 = some m.cls := findClass_of_methodNamed B.named
  have hlocks := B.notSynchronized
  have hl := lv_entry ([.double p0]) (n := 2) (Nat.le_of_ble_eq_true rfl)
  rw [lg_entry_eq]
  generalize (lg_sl ([.double p0]) ++ List.replicate (2 - (lg_sl ([.double p0])).length) Slot.unset).toArray = ls at hl ⊢
  have hl : lv_has ls 2 [(0, .double p0)] := hl
  unfold wpJ19_doubleToLongBits at hw
  refine lv_dload_n hx hb dJ19_doubleToLongBits_0 rfl (lv_at hl 0 rfl) ?_
  refine s_calli (As := [.double p0]) (rest := []) ⟨hx, hb, hml, hown, hts⟩ (metJ19_isNaN l _ p0) (va_cwS 1 hts (lw_S q1443 q1444 q104 q1445) rfl rfl rfl (by decide +kernel) ⟨Nat.le_of_ble_eq_true rfl, Nat.le_of_ble_eq_true rfl⟩) hw rfl hl.1 rfl (Nat.le_of_ble_eq_true rfl) dJ19_doubleToLongBits_1 ⟨Nat.le_refl _, Nat.le_refl _⟩ (fun r_1 hw => ?_)
  refine lv_if_ne (tgt := 12) hx hb dJ19_doubleToLongBits_4 (by decide) (fun c_2 => ?_) (fun c_2 => ?_)
  · have hw := hw.2 (c_2)
    refine lv_ldc2 hx hb hown (hts _ q1449) dJ19_doubleToLongBits_12 ?_
    exact s_lret hx hb hr hlocks dJ19_doubleToLongBits_15 hw
  · have hw := hw.1 (c_2)
    refine lv_dload_n hx hb dJ19_doubleToLongBits_7 rfl (lv_at hl 0 rfl) ?_
    refine vn_d2l hx hb (hml.trans hl.1.symm) hown (hts _ q1446) (hts _ q1448) (hts _ q1447) (hts _ q104) (Nat.le_of_ble_eq_true rfl) (Nat.le_of_ble_eq_true rfl) dJ19_doubleToLongBits_8 ?_
    exact s_lret hx hb hr hlocks dJ19_doubleToLongBits_11 hw
def wpX3_errorBits (post : Int64 → mF → mR → mL → mG → Prop) (F : mF) (R : mR) (L : mL) (G : mG) (p1 : Int32) : Prop := wpX3_asksArm (fun r_1 F_2 R_3 L_4 G_5 => ((r_1 = 0 → post 0 F_2 R_3 L_4 G_5) ∧ (¬ r_1 = 0 → (vp_in (96 + p1) 113 ∧ (∀ x2_8 : Int32, x2_8 = R_3 0 (Int32.toNatClampNeg (96 + p1)) → ((x2_8 = 0 → wpX3_fails (fun r_24 F_25 R_26 L_27 G_28 => post (Int32.toInt64 r_24) F_25 R_26 L_27 G_28) F_2 R_3 L_4 G_5 2) ∧ (¬ x2_8 = 0 → (vp_in (84 + p1) 113 ∧ (∀ x3_11 : Int32, x3_11 = R_3 0 (Int32.toNatClampNeg (84 + p1)) → wpX3_size (fun r_12 F_13 R_14 L_15 G_16 => (vp_in x3_11 12 ∧ (vf_n64 (FP.ddiv (FP.l2d r_12) (FP.l2d (L_15 11 (Int32.toNatClampNeg x3_11)))) ∧ (vf_n64 (FP.ddiv 4652007308841189376 (FP.i2d x2_8)) ∧ (vf_n64 (FP.dsub (FP.ddiv (FP.l2d r_12) (FP.l2d (L_15 11 (Int32.toNatClampNeg x3_11)))) (FP.ddiv 4652007308841189376 (FP.i2d x2_8))) ∧ (∀ x4_21 : UInt64, x4_21 = FP.dsub (FP.ddiv (FP.l2d r_12) (FP.l2d (L_15 11 (Int32.toNatClampNeg x3_11)))) (FP.ddiv 4652007308841189376 (FP.i2d x2_8)) → (vf_n64 (FP.dmul x4_21 (FP.i2d (R_14 0 111))) ∧ wpJ19_doubleToLongBits (fun r_23 => post r_23 F_13 R_14 L_15 G_16) (FP.dmul x4_21 (FP.i2d (R_14 0 111)))))))))) F_2 R_3 L_4 G_5 x3_11))))))))) F R L G p1 1
abbrev wsX3_errorBits : List Cond := ws_ yX3_errorBits cX3_errorBits 6 (some .long)
set_option maxHeartbeats 8000000 in
theorem metX3_errorBits (l : Launch) (K : KT) (h : Nat) (a : Nat → Nat) (hap : mAp h a) (post : Int64 → mF → mR → mL → mG → Prop) (F : mF) (R : mR) (L : mL) (G : mG) (p1 : Int32) : Met l yX3_errorBits wsX3_errorBits (rmo 5 130) (mPre K h a F R L G [.int p1] (wpX3_errorBits post F R L G p1)) (mQl post K h a) 0 0 (mA h a) := by
  refine Met.ofW (cc := cX3_errorBits) (maxL := 6) (ret := (some .long)) (by decide) rfl ?_
  intro p e s m args below meth c s₁ B hml hv
  obtain ⟨rfl, hP, hK, hw⟩ := hv
  have hx := B.exec
  have hb := B.bytes
  have hr := B.returns
  have hts := atoms_spec (ws := wsX3_errorBits) B.pre
  have hts : ∀ w ∈ lw_all, w.before _ s = true := fun w h => hts w (List.mem_cons_of_mem _ h)
  have hown : s.vm.findClass RX3 = some m.cls := findClass_of_methodNamed B.named
  have hlocks := B.notSynchronized
  have hl := lv_entry ([.ref h, .int p1]) (n := 6) (Nat.le_of_ble_eq_true rfl)
  rw [lg_entry_eq]
  generalize (lg_sl ([.ref h, .int p1]) ++ List.replicate (6 - (lg_sl ([.ref h, .int p1])).length) Slot.unset).toArray = ls at hl ⊢
  have hl : lv_has ls 6 [(0, .ref h), (1, .int p1)] := hl
  have hS : va_S (mA h a) s.heap s.heap [] := va_S.rf
  unfold wpX3_errorBits at hw
  refine lv_aload_n hx hb dX3_errorBits_0 rfl (lv_at hl 0 rfl) ?_
  refine lv_iload_n hx hb dX3_errorBits_1 rfl (lv_at hl 1 rfl) ?_
  refine lv_iconst (v := 1) hx hb dX3_errorBits_2 (by decide) ?_
  refine m_calli (As := [.int p1, .int 1]) (rest := []) ⟨hx, hb, hml, hown, hts⟩ (metX3_asksArm l K h a hap _ F R L G p1 1) (cwV 2 hts (lw_V q2097 q2099 qs55 q85 q2100) rfl rfl rfl (by decide +kernel) ⟨Nat.le_of_ble_eq_true rfl, Nat.le_of_ble_eq_true rfl⟩) hK hP hS hw rfl hl.1 rfl (Nat.le_of_ble_eq_true rfl) dX3_errorBits_3 ⟨Nat.le_refl _, Nat.le_refl _⟩ (fun r_1 F_2 R_3 L_4 G_5 H locs hw hP hS => ?_)
  refine lv_if_ne (tgt := 11) hx hb dX3_errorBits_6 (by decide) (fun c_6 => ?_) (fun c_6 => ?_)
  · have hw := hw.2 (c_6)
    refine lv_aload_n hx hb dX3_errorBits_11 rfl (lv_at hl 0 rfl) ?_
    refine m_get hx hb hts hown hK hP 0 (by decide) q1728 rfl dX3_errorBits_12 ?_
    refine lv_bipush (v := 96) hx hb dX3_errorBits_15 (by decide) ?_
    refine lv_iload_n hx hb dX3_errorBits_17 rfl (lv_at hl 1 rfl) ?_
    refine lv_iadd hx hb dX3_errorBits_18 ?_
    obtain ⟨h_7, hw⟩ := hw
    refine m_iald (j := (Int32.toNatClampNeg (96 + p1))) hx hb hK hP 0 1 113 rfl rfl h_7 dX3_errorBits_19 ?_
    refine lv_topi (fun x2_8 ex2_8 => ?_)
    have hw := hw x2_8 ex2_8
    refine lv_istore_n (lv' := [(2, .int x2_8), (0, .ref h), (1, .int p1)]) hx hb dX3_errorBits_20 rfl hl (by decide) rfl (fun ls hl => ?_)
    refine lv_iload_n hx hb dX3_errorBits_21 rfl (lv_at hl 0 rfl) ?_
    refine lv_if_ne (tgt := 32) hx hb dX3_errorBits_22 (by decide) (fun c_9 => ?_) (fun c_9 => ?_)
    · have hw := hw.2 (c_9)
      refine lv_aload_n hx hb dX3_errorBits_32 rfl (lv_at hl 1 rfl) ?_
      refine m_get hx hb hts hown hK hP 0 (by decide) q1728 rfl dX3_errorBits_33 ?_
      refine lv_bipush (v := 84) hx hb dX3_errorBits_36 (by decide) ?_
      refine lv_iload_n hx hb dX3_errorBits_38 rfl (lv_at hl 2 rfl) ?_
      refine lv_iadd hx hb dX3_errorBits_39 ?_
      obtain ⟨h_10, hw⟩ := hw
      refine m_iald (j := (Int32.toNatClampNeg (84 + p1))) hx hb hK hP 0 1 113 rfl rfl h_10 dX3_errorBits_40 ?_
      refine lv_topi (fun x3_11 ex3_11 => ?_)
      have hw := hw x3_11 ex3_11
      refine lv_istore_n (lv' := [(3, .int x3_11), (2, .int x2_8), (0, .ref h), (1, .int p1)]) hx hb dX3_errorBits_41 rfl hl (by decide) rfl (fun ls hl => ?_)
      refine lv_aload_n hx hb dX3_errorBits_42 rfl (lv_at hl 2 rfl) ?_
      refine lv_iload_n hx hb dX3_errorBits_43 rfl (lv_at hl 0 rfl) ?_
      refine m_calll (As := [.int x3_11]) (rest := []) ⟨hx, hb, hml, hown, hts⟩ (metX3_size l K h a hap _ F_2 R_3 L_4 G_5 x3_11) (cwV 1 hts (lw_V q2045 q2047 qs51 q85 q2048) rfl rfl rfl (by decide +kernel) ⟨Nat.le_of_ble_eq_true rfl, Nat.le_of_ble_eq_true rfl⟩) hK hP hS hw rfl hl.1 rfl (Nat.le_of_ble_eq_true rfl) dX3_errorBits_44 ⟨Nat.le_refl _, Nat.le_refl _⟩ (fun r_12 F_13 R_14 L_15 G_16 H locs hw hP hS => ?_)
      refine lv_l2d hx hb dX3_errorBits_47 ?_
      refine lv_aload_n hx hb dX3_errorBits_48 rfl (lv_at hl 2 rfl) ?_
      refine m_get hx hb hts hown hK hP 11 (by decide) q1739 rfl dX3_errorBits_49 ?_
      refine lv_iload_n hx hb dX3_errorBits_52 rfl (lv_at hl 0 rfl) ?_
      obtain ⟨h_17, hw⟩ := hw
      refine m_lald (j := (Int32.toNatClampNeg x3_11)) hx hb hK hP 11 8 12 rfl rfl h_17 dX3_errorBits_53 ?_
      refine lv_l2d hx hb dX3_errorBits_54 ?_
      obtain ⟨h_18, hw⟩ := hw
      refine lv_ddiv hx hb dX3_errorBits_55 h_18 ?_
      refine lv_ldc2d hx hb hown (hts _ q2237) dX3_errorBits_56 ?_
      refine lv_iload_n hx hb dX3_errorBits_59 rfl (lv_at hl 1 rfl) ?_
      refine lv_i2d hx hb dX3_errorBits_60 ?_
      obtain ⟨h_19, hw⟩ := hw
      refine lv_ddiv hx hb dX3_errorBits_61 h_19 ?_
      obtain ⟨h_20, hw⟩ := hw
      refine lv_dsub hx hb dX3_errorBits_62 h_20 ?_
      refine lv_topd (fun x4_21 ex4_21 => ?_)
      have hw := hw x4_21 ex4_21
      refine lv_dstore (lv' := [(4, .double x4_21), (3, .int x3_11), (2, .int x2_8), (0, .ref h), (1, .int p1)]) hx hb dX3_errorBits_63 hl (by decide) rfl (fun ls hl => ?_)
      refine lv_dload hx hb dX3_errorBits_65 (lv_at hl 0 rfl) ?_
      refine lv_aload_n hx hb dX3_errorBits_67 rfl (lv_at hl 3 rfl) ?_
      refine m_get hx hb hts hown hK hP 0 (by decide) q1728 rfl dX3_errorBits_68 ?_
      refine lv_bipush (v := 111) hx hb dX3_errorBits_71 (by decide) ?_
      refine m_iald (j := 111) hx hb hK hP 0 1 113 rfl (by decide) (vpd (by decide)) dX3_errorBits_73 ?_
      refine lv_i2d hx hb dX3_errorBits_74 ?_
      obtain ⟨h_22, hw⟩ := hw
      refine lv_dmul hx hb dX3_errorBits_75 h_22 ?_
      refine s_calll (As := [.double (FP.dmul x4_21 (FP.i2d (R_14 0 111)))]) (rest := []) ⟨hx, hb, hml, hown, hts⟩ (metJ19_doubleToLongBits l _ (FP.dmul x4_21 (FP.i2d (R_14 0 111)))) (va_cwS 1 hts (lw_S q2238 q1441 q104 q1442) rfl rfl rfl (by decide +kernel) ⟨Nat.le_of_ble_eq_true rfl, Nat.le_of_ble_eq_true rfl⟩) hw rfl hl.1 rfl (Nat.le_of_ble_eq_true rfl) dX3_errorBits_76 ⟨Nat.le_refl _, Nat.le_refl _⟩ (fun r_23 hw => ?_)
      exact m_lret hx hb hr hlocks hP hS dX3_errorBits_79 hw
    · have hw := hw.1 (c_9)
      refine lv_aload_n hx hb dX3_errorBits_25 rfl (lv_at hl 1 rfl) ?_
      refine lv_iconst (v := 2) hx hb dX3_errorBits_26 (by decide) ?_
      refine m_calli (As := [.int 2]) (rest := []) ⟨hx, hb, hml, hown, hts⟩ (metX3_fails l K h a hap _ F_2 R_3 L_4 G_5 2) (cwV 1 hts (lw_V q1838 q1840 qs27 q85 q1841) rfl rfl rfl (by decide +kernel) ⟨Nat.le_of_ble_eq_true rfl, Nat.le_of_ble_eq_true rfl⟩) hK hP hS hw rfl hl.1 rfl (Nat.le_of_ble_eq_true rfl) dX3_errorBits_27 ⟨Nat.le_refl _, Nat.le_refl _⟩ (fun r_24 F_25 R_26 L_27 G_28 H locs hw hP hS => ?_)
      refine lv_i2l hx hb dX3_errorBits_30 rfl ?_
      exact m_lret hx hb hr hlocks hP hS dX3_errorBits_31 hw
  · have hw := hw.1 (c_6)
    refine lv_lconst (v := 0) hx hb dX3_errorBits_9 (by decide) ?_
    exact m_lret hx hb hr hlocks hP hS dX3_errorBits_10 hw

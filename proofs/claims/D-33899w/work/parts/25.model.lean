/-! THE MODEL, walked by program: X3_doesOrder .. X3_play -/
set_option maxRecDepth 100000
def wpX3_doesOrder (post : Int32 → mF → mR → mL → mG → Prop) (F : mF) (R : mR) (L : mL) (G : mG) : Prop := (((F 23) = 97 → wpX3_goArm (fun r_2 F_3 R_4 L_5 G_6 => post r_2 F_3 R_4 L_5 G_6) F R L G (F 24) 0) ∧ (¬ (F 23) = 97 → (((F 23) = 100 → wpX3_goPass (fun r_7 F_8 R_9 L_10 G_11 => post r_7 F_8 R_9 L_10 G_11) F R L G (F 24)) ∧ (¬ (F 23) = 100 → (((F 23) = 109 → wpX3_goMesh (fun r_12 F_13 R_14 L_15 G_16 => post r_12 F_13 R_14 L_15 G_16) F R L G (F 24) (F 25)) ∧ (¬ (F 23) = 109 → (((F 23) = 119 → wpX3_goWheel (fun r_17 F_18 R_19 L_20 G_21 => post r_17 F_18 R_19 L_20 G_21) F R L G (F 24) (F 25)) ∧ (¬ (F 23) = 119 → (((F 23) = 120 → wpX3_goAxle (fun r_22 F_23 R_24 L_25 G_26 => post r_22 F_23 R_24 L_25 G_26) F R L G) ∧ (¬ (F 23) = 120 → wpX3_goTeeth (fun r_27 F_28 R_29 L_30 G_31 => post r_27 F_28 R_29 L_30 G_31) F R L G (F 24) (F 25)))))))))))
abbrev wsX3_doesOrder : List Cond := ws_ yX3_doesOrder cX3_doesOrder 1 (some .int)
set_option maxHeartbeats 8000000 in
theorem metX3_doesOrder (l : Launch) (K : KT) (h : Nat) (a : Nat → Nat) (hap : mAp h a) (post : Int32 → mF → mR → mL → mG → Prop) (F : mF) (R : mR) (L : mL) (G : mG) : Met l yX3_doesOrder wsX3_doesOrder (rmo 5 129) (mPre K h a F R L G [] (wpX3_doesOrder post F R L G )) (mQi post K h a) 0 0 (mA h a) := by
  refine Met.ofW (cc := cX3_doesOrder) (maxL := 1) (ret := (some .int)) (by decide) rfl ?_
  intro p e s m args below meth c s₁ B hml hv
  obtain ⟨rfl, hP, hK, hw⟩ := hv
  have hx := B.exec
  have hb := B.bytes
  have hr := B.returns
  have hts := atoms_spec (ws := wsX3_doesOrder) B.pre
  have hts : ∀ w ∈ lw_all, w.before _ s = true := fun w h => hts w (List.mem_cons_of_mem _ h)
  have hown : s.vm.findClass RX3 = some m.cls := findClass_of_methodNamed B.named
  have hlocks := B.notSynchronized
  have hl := lv_entry ([.ref h]) (n := 1) (Nat.le_of_ble_eq_true rfl)
  rw [lg_entry_eq]
  generalize (lg_sl ([.ref h]) ++ List.replicate (1 - (lg_sl ([.ref h])).length) Slot.unset).toArray = ls at hl ⊢
  have hl : lv_has ls 1 [(0, .ref h)] := hl
  have hS : va_S (mA h a) s.heap s.heap [] := va_S.rf
  unfold wpX3_doesOrder at hw
  refine lv_aload_n hx hb dX3_doesOrder_0 rfl (lv_at hl 0 rfl) ?_
  refine m_get hx hb hts hown hK hP 23 (by decide) q1751 rfl dX3_doesOrder_1 ?_
  by_cases c_1_0 : (F 23) = 97
  · have hw := hw.1 c_1_0
    refine lv_lookup (tgt := 87) (off := 83) hx hb dX3_doesOrder_4 (by decide) (by rw [c_1_0]; decide) (by decide) ?_
    refine lv_aload_n hx hb dX3_doesOrder_87 rfl (lv_at hl 0 rfl) ?_
    refine lv_aload_n hx hb dX3_doesOrder_88 rfl (lv_at hl 0 rfl) ?_
    refine m_get hx hb hts hown hK hP 24 (by decide) q1752 rfl dX3_doesOrder_89 ?_
    refine lv_iconst (v := 0) hx hb dX3_doesOrder_92 (by decide) ?_
    refine m_calli (As := [.int (F 24), .int 0]) (rest := []) ⟨hx, hb, hml, hown, hts⟩ (metX3_goArm l K h a hap _ F R L G (F 24) 0) (cwV 2 hts (lw_V q1935 q1937 qs44 q85 q1938) rfl rfl rfl (by decide +kernel) ⟨Nat.le_of_ble_eq_true rfl, Nat.le_of_ble_eq_true rfl⟩) hK hP hS hw rfl hl.1 rfl (Nat.le_of_ble_eq_true rfl) dX3_doesOrder_93 ⟨Nat.le_refl _, Nat.le_refl _⟩ (fun r_2 F_3 R_4 L_5 G_6 H locs hw hP hS => ?_)
    exact m_iret hx hb hr hlocks hP hS dX3_doesOrder_96 hw
  have hw := hw.2 c_1_0
  by_cases c_1_1 : (F 23) = 100
  · have hw := hw.1 c_1_1
    refine lv_lookup (tgt := 97) (off := 93) hx hb dX3_doesOrder_4 (by decide) (by rw [c_1_1]; decide) (by decide) ?_
    refine lv_aload_n hx hb dX3_doesOrder_97 rfl (lv_at hl 0 rfl) ?_
    refine lv_aload_n hx hb dX3_doesOrder_98 rfl (lv_at hl 0 rfl) ?_
    refine m_get hx hb hts hown hK hP 24 (by decide) q1752 rfl dX3_doesOrder_99 ?_
    refine m_calli (As := [.int (F 24)]) (rest := []) ⟨hx, hb, hml, hown, hts⟩ (metX3_goPass l K h a hap _ F R L G (F 24)) (cwV 1 hts (lw_V q1964 q1966 qs47 q85 q1967) rfl rfl rfl (by decide +kernel) ⟨Nat.le_of_ble_eq_true rfl, Nat.le_of_ble_eq_true rfl⟩) hK hP hS hw rfl hl.1 rfl (Nat.le_of_ble_eq_true rfl) dX3_doesOrder_102 ⟨Nat.le_refl _, Nat.le_refl _⟩ (fun r_7 F_8 R_9 L_10 G_11 H locs hw hP hS => ?_)
    exact m_iret hx hb hr hlocks hP hS dX3_doesOrder_105 hw
  have hw := hw.2 c_1_1
  by_cases c_1_2 : (F 23) = 109
  · have hw := hw.1 c_1_2
    refine lv_lookup (tgt := 74) (off := 70) hx hb dX3_doesOrder_4 (by decide) (by rw [c_1_2]; decide) (by decide) ?_
    refine lv_aload_n hx hb dX3_doesOrder_74 rfl (lv_at hl 0 rfl) ?_
    refine lv_aload_n hx hb dX3_doesOrder_75 rfl (lv_at hl 0 rfl) ?_
    refine m_get hx hb hts hown hK hP 24 (by decide) q1752 rfl dX3_doesOrder_76 ?_
    refine lv_aload_n hx hb dX3_doesOrder_79 rfl (lv_at hl 0 rfl) ?_
    refine m_get hx hb hts hown hK hP 25 (by decide) q1753 rfl dX3_doesOrder_80 ?_
    refine m_calli (As := [.int (F 24), .int (F 25)]) (rest := []) ⟨hx, hb, hml, hown, hts⟩ (metX3_goMesh l K h a hap _ F R L G (F 24) (F 25)) (cwV 2 hts (lw_V q1868 q1870 qs31 q85 q1871) rfl rfl rfl (by decide +kernel) ⟨Nat.le_of_ble_eq_true rfl, Nat.le_of_ble_eq_true rfl⟩) hK hP hS hw rfl hl.1 rfl (Nat.le_of_ble_eq_true rfl) dX3_doesOrder_83 ⟨Nat.le_refl _, Nat.le_refl _⟩ (fun r_12 F_13 R_14 L_15 G_16 H locs hw hP hS => ?_)
    exact m_iret hx hb hr hlocks hP hS dX3_doesOrder_86 hw
  have hw := hw.2 c_1_2
  by_cases c_1_3 : (F 23) = 119
  · have hw := hw.1 c_1_3
    refine lv_lookup (tgt := 61) (off := 57) hx hb dX3_doesOrder_4 (by decide) (by rw [c_1_3]; decide) (by decide) ?_
    refine lv_aload_n hx hb dX3_doesOrder_61 rfl (lv_at hl 0 rfl) ?_
    refine lv_aload_n hx hb dX3_doesOrder_62 rfl (lv_at hl 0 rfl) ?_
    refine m_get hx hb hts hown hK hP 24 (by decide) q1752 rfl dX3_doesOrder_63 ?_
    refine lv_aload_n hx hb dX3_doesOrder_66 rfl (lv_at hl 0 rfl) ?_
    refine m_get hx hb hts hown hK hP 25 (by decide) q1753 rfl dX3_doesOrder_67 ?_
    refine m_calli (As := [.int (F 24), .int (F 25)]) (rest := []) ⟨hx, hb, hml, hown, hts⟩ (metX3_goWheel l K h a hap _ F R L G (F 24) (F 25)) (cwV 2 hts (lw_V q1850 q1852 qs29 q85 q1853) rfl rfl rfl (by decide +kernel) ⟨Nat.le_of_ble_eq_true rfl, Nat.le_of_ble_eq_true rfl⟩) hK hP hS hw rfl hl.1 rfl (Nat.le_of_ble_eq_true rfl) dX3_doesOrder_70 ⟨Nat.le_refl _, Nat.le_refl _⟩ (fun r_17 F_18 R_19 L_20 G_21 H locs hw hP hS => ?_)
    exact m_iret hx hb hr hlocks hP hS dX3_doesOrder_73 hw
  have hw := hw.2 c_1_3
  by_cases c_1_4 : (F 23) = 120
  · have hw := hw.1 c_1_4
    refine lv_lookup (tgt := 56) (off := 52) hx hb dX3_doesOrder_4 (by decide) (by rw [c_1_4]; decide) (by decide) ?_
    refine lv_aload_n hx hb dX3_doesOrder_56 rfl (lv_at hl 0 rfl) ?_
    refine m_calli (As := []) (rest := []) ⟨hx, hb, hml, hown, hts⟩ (metX3_goAxle l K h a hap _ F R L G) (cwV 0 hts (lw_V q1828 q1830 qs25 q85 q1831) rfl rfl rfl (by decide +kernel) ⟨Nat.le_of_ble_eq_true rfl, Nat.le_of_ble_eq_true rfl⟩) hK hP hS hw rfl hl.1 rfl (Nat.le_of_ble_eq_true rfl) dX3_doesOrder_57 ⟨Nat.le_refl _, Nat.le_refl _⟩ (fun r_22 F_23 R_24 L_25 G_26 H locs hw hP hS => ?_)
    exact m_iret hx hb hr hlocks hP hS dX3_doesOrder_60 hw
  have hw := hw.2 c_1_4
  refine lv_lookup (tgt := 106) (off := 102) hx hb dX3_doesOrder_4 (by decide) (lk_dflt c_1_0 c_1_1 c_1_2 c_1_3 c_1_4) (by decide) ?_
  refine lv_aload_n hx hb dX3_doesOrder_106 rfl (lv_at hl 0 rfl) ?_
  refine lv_aload_n hx hb dX3_doesOrder_107 rfl (lv_at hl 0 rfl) ?_
  refine m_get hx hb hts hown hK hP 24 (by decide) q1752 rfl dX3_doesOrder_108 ?_
  refine lv_aload_n hx hb dX3_doesOrder_111 rfl (lv_at hl 0 rfl) ?_
  refine m_get hx hb hts hown hK hP 25 (by decide) q1753 rfl dX3_doesOrder_112 ?_
  refine m_calli (As := [.int (F 24), .int (F 25)]) (rest := []) ⟨hx, hb, hml, hown, hts⟩ (metX3_goTeeth l K h a hap _ F R L G (F 24) (F 25)) (cwV 2 hts (lw_V q1927 q1929 qs43 q85 q1930) rfl rfl rfl (by decide +kernel) ⟨Nat.le_of_ble_eq_true rfl, Nat.le_of_ble_eq_true rfl⟩) hK hP hS hw rfl hl.1 rfl (Nat.le_of_ble_eq_true rfl) dX3_doesOrder_115 ⟨Nat.le_refl _, Nat.le_refl _⟩ (fun r_27 F_28 R_29 L_30 G_31 H locs hw hP hS => ?_)
  exact m_iret hx hb hr hlocks hP hS dX3_doesOrder_118 hw
def wpX3_doesAll_119 (post : Int32 → mF → mR → mL → mG → Prop) (J12 : Int32 → mF → mR → mL → mG → Prop) (x1 : Int32) (F : mF) (R : mR) (L : mL) (G : mG) : Prop := J12 x1 F R L G
def wpX3_doesAll_110 (post : Int32 → mF → mR → mL → mG → Prop) (J12 : Int32 → mF → mR → mL → mG → Prop) (x1 : Int32) (z1 : Int32) (F : mF) (R : mR) (L : mL) (G : mG) : Prop := wpX3_doesAll_119 post J12 x1 (va_up F 27 z1) R L G
def wpX3_doesAll_76 (post : Int32 → mF → mR → mL → mG → Prop) (J12 : Int32 → mF → mR → mL → mG → Prop) (x1 : Int32) (x2 : Int32) (z1 : Int32) (F : mF) (R : mR) (L : mL) (G : mG) : Prop := ((((va_up F 26 z1) 22) = 0 → wpX3_doesAll_110 post J12 x1 (((va_up F 26 z1) 20) - ((va_up F 26 z1) 21)) (va_up F 26 z1) R L G) ∧ (¬ ((va_up F 26 z1) 22) = 0 → ((x2 = (-100001) → wpX3_doesAll_110 post J12 x1 1 (va_up F 26 z1) R L G) ∧ (¬ x2 = (-100001) → wpX3_doesAll_110 post J12 x1 2 (va_up F 26 z1) R L G))))
def wpX3_doesAll_63 (post : Int32 → mF → mR → mL → mG → Prop) (J12 : Int32 → mF → mR → mL → mG → Prop) (x1 : Int32) (x2 : Int32) (F : mF) (R : mR) (L : mL) (G : mG) : Prop := (((F 22) = 0 → wpX3_doesAll_76 post J12 x1 x2 1 F R L G) ∧ (¬ (F 22) = 0 → wpX3_doesAll_76 post J12 x1 x2 2 F R L G))
def wpX3_doesAll_49 (post : Int32 → mF → mR → mL → mG → Prop) (J12 : Int32 → mF → mR → mL → mG → Prop) (x1 : Int32) (z0 : Int32) (F : mF) (R : mR) (L : mL) (G : mG) : Prop := (((F 22) = 0 → wpX3_doesAll_63 post J12 x1 z0 F R L G) ∧ (¬ (F 22) = 0 → (((-100001) < z0 → (∀ x1_6 : Int32, x1_6 = x1 + 1 → wpX3_doesAll_119 post J12 x1_6 F R L G)) ∧ (¬ (-100001) < z0 → wpX3_doesAll_63 post J12 x1 z0 F R L G))))
def wpX3_doesAll_12 (post : Int32 → mF → mR → mL → mG → Prop) : Nat → Int32 → mF → mR → mL → mG → Prop
  | 0 => fun _ _ _ _ _ => False
  | n + 1 => fun x1 F R L G => (((F 26) = 0 → (((F 7) ≤ (F 20) → post x1 F R L G) ∧ (¬ (F 7) ≤ (F 20) → wpX3_takesOrder (fun F_9 R_10 L_11 G_12 => (((F_9 22) = 0 → wpX3_doesAll_49 post (wpX3_doesAll_12 post n) x1 0 F_9 R_10 L_11 G_12) ∧ (¬ (F_9 22) = 0 → wpX3_doesOrder (fun r_14 F_15 R_16 L_17 G_18 => wpX3_doesAll_49 post (wpX3_doesAll_12 post n) x1 r_14 F_15 R_16 L_17 G_18) F_9 R_10 L_11 G_12))) F R L G))) ∧ (¬ (F 26) = 0 → post x1 F R L G))
def wpX3_doesAll (post : Int32 → mF → mR → mL → mG → Prop) (F : mF) (R : mR) (L : mL) (G : mG) : Prop := ∃ fu : Nat, wpX3_doesAll_12 post fu 0 (va_up (va_up F 26 0) 20 0) R L G
abbrev wsX3_doesAll : List Cond := ws_ yX3_doesAll cX3_doesAll 3 (some .int)
set_option maxHeartbeats 8000000 in
theorem metX3_doesAll (l : Launch) (K : KT) (h : Nat) (a : Nat → Nat) (hap : mAp h a) (post : Int32 → mF → mR → mL → mG → Prop) (F : mF) (R : mR) (L : mL) (G : mG) : Met l yX3_doesAll wsX3_doesAll (rmo 6 149) (mPre K h a F R L G [] (wpX3_doesAll post F R L G )) (mQi post K h a) 0 0 (mA h a) := by
  refine Met.ofW (cc := cX3_doesAll) (maxL := 3) (ret := (some .int)) (by decide) rfl ?_
  intro p e s m args below meth c s₁ B hml hv
  obtain ⟨rfl, hP, hK, hw⟩ := hv
  have hx := B.exec
  have hb := B.bytes
  have hr := B.returns
  have hts := atoms_spec (ws := wsX3_doesAll) B.pre
  have hts : ∀ w ∈ lw_all, w.before _ s = true := fun w h => hts w (List.mem_cons_of_mem _ h)
  have hown : s.vm.findClass RX3 = some m.cls := findClass_of_methodNamed B.named
  have hlocks := B.notSynchronized
  have hl := lv_entry ([.ref h]) (n := 3) (Nat.le_of_ble_eq_true rfl)
  rw [lg_entry_eq]
  generalize (lg_sl ([.ref h]) ++ List.replicate (3 - (lg_sl ([.ref h])).length) Slot.unset).toArray = ls at hl ⊢
  have hl : lv_has ls 3 [(0, .ref h)] := hl
  have hS : va_S (mA h a) s.heap s.heap [] := va_S.rf
  have T119 : ∀ (J12 : Int32 → mF → mR → mL → mG → Prop) (hJ12 : ∀ (x1 : Int32) (F : mF) (R : mR) (L : mL) (G : mG) (H : Heap) (locs : List Loc) (ls : Array Slot), mP K h a F R L G H → va_S (mA h a) s.heap H locs → lv_has ls 3 [(0, .ref h), (1, .int x1)] → J12 x1 F R L G → W p l e (rmo 6 149) s m ([.ref h] : List Value).toArray below meth c H locs 0 0 (MQ below (mQi post K h a) ([.ref h] : List Value).toArray s 0 0 (mA h a)) (F0 m 12 ls [])), ∀ (x1 : Int32) (F : mF) (R : mR) (L : mL) (G : mG) (H : Heap) (locs : List Loc) (ls : Array Slot), mP K h a F R L G H → va_S (mA h a) s.heap H locs → lv_has ls 3 [(0, .ref h), (1, .int x1)] → wpX3_doesAll_119 post J12 x1 F R L G → W p l e (rmo 6 149) s m ([.ref h] : List Value).toArray below meth c H locs 0 0 (MQ below (mQi post K h a) ([.ref h] : List Value).toArray s 0 0 (mA h a)) (F0 m 119 ls []) := by
    intro J12 hJ12
    intro x1 F R L G H locs ls hP hS hl hw
    unfold wpX3_doesAll_119 at hw
    refine lv_goto (tgt := 12) hx hb dX3_doesAll_119 (by decide) ?_
    exact hJ12 x1 F R L G _ _ ls hP hS (lv_sub hl [0, 1] rfl) hw
  have T110 : ∀ (J12 : Int32 → mF → mR → mL → mG → Prop) (hJ12 : ∀ (x1 : Int32) (F : mF) (R : mR) (L : mL) (G : mG) (H : Heap) (locs : List Loc) (ls : Array Slot), mP K h a F R L G H → va_S (mA h a) s.heap H locs → lv_has ls 3 [(0, .ref h), (1, .int x1)] → J12 x1 F R L G → W p l e (rmo 6 149) s m ([.ref h] : List Value).toArray below meth c H locs 0 0 (MQ below (mQi post K h a) ([.ref h] : List Value).toArray s 0 0 (mA h a)) (F0 m 12 ls [])), ∀ (x1 : Int32) (z1 : Int32) (F : mF) (R : mR) (L : mL) (G : mG) (H : Heap) (locs : List Loc) (ls : Array Slot), mP K h a F R L G H → va_S (mA h a) s.heap H locs → lv_has ls 3 [(0, .ref h), (1, .int x1)] → wpX3_doesAll_110 post J12 x1 z1 F R L G → W p l e (rmo 6 149) s m ([.ref h] : List Value).toArray below meth c H locs 0 0 (MQ below (mQi post K h a) ([.ref h] : List Value).toArray s 0 0 (mA h a)) (F0 m 110 ls [.int z1, .ref h]) := by
    intro J12 hJ12
    intro x1 z1 F R L G H locs ls hP hS hl hw
    unfold wpX3_doesAll_110 at hw
    refine m_puti hx hb hts hown hK hap hP hS 27 (by decide) q1755 rfl rfl rfl rfl dX3_doesAll_110 (fun H locs hP hS => ?_)
    refine lv_goto (tgt := 119) hx hb dX3_doesAll_113 (by decide) ?_
    exact T119 _ hJ12 x1 (va_up F 27 z1) R L G _ _ ls hP hS (lv_sub hl [0, 1] rfl) hw
  have T76 : ∀ (J12 : Int32 → mF → mR → mL → mG → Prop) (hJ12 : ∀ (x1 : Int32) (F : mF) (R : mR) (L : mL) (G : mG) (H : Heap) (locs : List Loc) (ls : Array Slot), mP K h a F R L G H → va_S (mA h a) s.heap H locs → lv_has ls 3 [(0, .ref h), (1, .int x1)] → J12 x1 F R L G → W p l e (rmo 6 149) s m ([.ref h] : List Value).toArray below meth c H locs 0 0 (MQ below (mQi post K h a) ([.ref h] : List Value).toArray s 0 0 (mA h a)) (F0 m 12 ls [])), ∀ (x1 : Int32) (x2 : Int32) (z1 : Int32) (F : mF) (R : mR) (L : mL) (G : mG) (H : Heap) (locs : List Loc) (ls : Array Slot), mP K h a F R L G H → va_S (mA h a) s.heap H locs → lv_has ls 3 [(0, .ref h), (1, .int x1), (2, .int x2)] → wpX3_doesAll_76 post J12 x1 x2 z1 F R L G → W p l e (rmo 6 149) s m ([.ref h] : List Value).toArray below meth c H locs 0 0 (MQ below (mQi post K h a) ([.ref h] : List Value).toArray s 0 0 (mA h a)) (F0 m 76 ls [.int z1, .ref h]) := by
    intro J12 hJ12
    intro x1 x2 z1 F R L G H locs ls hP hS hl hw
    unfold wpX3_doesAll_76 at hw
    refine m_puti hx hb hts hown hK hap hP hS 26 (by decide) q1754 rfl rfl rfl rfl dX3_doesAll_76 (fun H locs hP hS => ?_)
    refine lv_aload_n hx hb dX3_doesAll_79 rfl (lv_at hl 0 rfl) ?_
    refine lv_aload_n hx hb dX3_doesAll_80 rfl (lv_at hl 0 rfl) ?_
    refine m_get hx hb hts hown hK hP 22 (by decide) q1750 rfl dX3_doesAll_81 ?_
    refine lv_if_ne (tgt := 99) hx hb dX3_doesAll_84 (by decide) (fun c_1 => ?_) (fun c_1 => ?_)
    · have hw := hw.2 (c_1)
      refine lv_iload_n hx hb dX3_doesAll_99 rfl (lv_at hl 2 rfl) ?_
      refine lv_ldc hx hb hown (hts _ q1837) dX3_doesAll_100 ?_
      refine lv_icmp_ne (tgt := 109) hx hb dX3_doesAll_102 (by decide) (fun c_2 => ?_) (fun c_2 => ?_)
      · have hw := hw.2 (c_2)
        refine lv_iconst (v := 2) hx hb dX3_doesAll_109 (by decide) ?_
        exact T110 _ hJ12 x1 2 (va_up F 26 z1) R L G _ _ ls hP hS (lv_sub hl [0, 1] rfl) hw
      · have hw := hw.1 (c_2)
        refine lv_iconst (v := 1) hx hb dX3_doesAll_105 (by decide) ?_
        refine lv_goto (tgt := 110) hx hb dX3_doesAll_106 (by decide) ?_
        exact T110 _ hJ12 x1 1 (va_up F 26 z1) R L G _ _ ls hP hS (lv_sub hl [0, 1] rfl) hw
    · have hw := hw.1 (c_1)
      refine lv_aload_n hx hb dX3_doesAll_87 rfl (lv_at hl 0 rfl) ?_
      refine m_get hx hb hts hown hK hP 20 (by decide) q1748 rfl dX3_doesAll_88 ?_
      refine lv_aload_n hx hb dX3_doesAll_91 rfl (lv_at hl 0 rfl) ?_
      refine m_get hx hb hts hown hK hP 21 (by decide) q1749 rfl dX3_doesAll_92 ?_
      refine lv_isub hx hb dX3_doesAll_95 ?_
      refine lv_goto (tgt := 110) hx hb dX3_doesAll_96 (by decide) ?_
      exact T110 _ hJ12 x1 (((va_up F 26 z1) 20) - ((va_up F 26 z1) 21)) (va_up F 26 z1) R L G _ _ ls hP hS (lv_sub hl [0, 1] rfl) hw
  have T63 : ∀ (J12 : Int32 → mF → mR → mL → mG → Prop) (hJ12 : ∀ (x1 : Int32) (F : mF) (R : mR) (L : mL) (G : mG) (H : Heap) (locs : List Loc) (ls : Array Slot), mP K h a F R L G H → va_S (mA h a) s.heap H locs → lv_has ls 3 [(0, .ref h), (1, .int x1)] → J12 x1 F R L G → W p l e (rmo 6 149) s m ([.ref h] : List Value).toArray below meth c H locs 0 0 (MQ below (mQi post K h a) ([.ref h] : List Value).toArray s 0 0 (mA h a)) (F0 m 12 ls [])), ∀ (x1 : Int32) (x2 : Int32) (F : mF) (R : mR) (L : mL) (G : mG) (H : Heap) (locs : List Loc) (ls : Array Slot), mP K h a F R L G H → va_S (mA h a) s.heap H locs → lv_has ls 3 [(0, .ref h), (1, .int x1), (2, .int x2)] → wpX3_doesAll_63 post J12 x1 x2 F R L G → W p l e (rmo 6 149) s m ([.ref h] : List Value).toArray below meth c H locs 0 0 (MQ below (mQi post K h a) ([.ref h] : List Value).toArray s 0 0 (mA h a)) (F0 m 63 ls []) := by
    intro J12 hJ12
    intro x1 x2 F R L G H locs ls hP hS hl hw
    unfold wpX3_doesAll_63 at hw
    refine lv_aload_n hx hb dX3_doesAll_63 rfl (lv_at hl 0 rfl) ?_
    refine lv_aload_n hx hb dX3_doesAll_64 rfl (lv_at hl 0 rfl) ?_
    refine m_get hx hb hts hown hK hP 22 (by decide) q1750 rfl dX3_doesAll_65 ?_
    refine lv_if_eq (tgt := 75) hx hb dX3_doesAll_68 (by decide) (fun c_3 => ?_) (fun c_3 => ?_)
    · have hw := hw.1 c_3
      refine lv_iconst (v := 1) hx hb dX3_doesAll_75 (by decide) ?_
      exact T76 _ hJ12 x1 x2 1 F R L G _ _ ls hP hS (lv_sub hl [0, 1, 2] rfl) hw
    · have hw := hw.2 c_3
      refine lv_iconst (v := 2) hx hb dX3_doesAll_71 (by decide) ?_
      refine lv_goto (tgt := 76) hx hb dX3_doesAll_72 (by decide) ?_
      exact T76 _ hJ12 x1 x2 2 F R L G _ _ ls hP hS (lv_sub hl [0, 1, 2] rfl) hw
  have T49 : ∀ (J12 : Int32 → mF → mR → mL → mG → Prop) (hJ12 : ∀ (x1 : Int32) (F : mF) (R : mR) (L : mL) (G : mG) (H : Heap) (locs : List Loc) (ls : Array Slot), mP K h a F R L G H → va_S (mA h a) s.heap H locs → lv_has ls 3 [(0, .ref h), (1, .int x1)] → J12 x1 F R L G → W p l e (rmo 6 149) s m ([.ref h] : List Value).toArray below meth c H locs 0 0 (MQ below (mQi post K h a) ([.ref h] : List Value).toArray s 0 0 (mA h a)) (F0 m 12 ls [])), ∀ (x1 : Int32) (z0 : Int32) (F : mF) (R : mR) (L : mL) (G : mG) (H : Heap) (locs : List Loc) (ls : Array Slot), mP K h a F R L G H → va_S (mA h a) s.heap H locs → lv_has ls 3 [(0, .ref h), (1, .int x1)] → wpX3_doesAll_49 post J12 x1 z0 F R L G → W p l e (rmo 6 149) s m ([.ref h] : List Value).toArray below meth c H locs 0 0 (MQ below (mQi post K h a) ([.ref h] : List Value).toArray s 0 0 (mA h a)) (F0 m 49 ls [.int z0]) := by
    intro J12 hJ12
    intro x1 z0 F R L G H locs ls hP hS hl hw
    unfold wpX3_doesAll_49 at hw
    refine lv_istore_n (lv' := [(2, .int z0), (0, .ref h), (1, .int x1)]) hx hb dX3_doesAll_49 rfl hl (by decide) rfl (fun ls hl => ?_)
    refine lv_aload_n hx hb dX3_doesAll_50 rfl (lv_at hl 1 rfl) ?_
    refine m_get hx hb hts hown hK hP 22 (by decide) q1750 rfl dX3_doesAll_51 ?_
    refine lv_if_eq (tgt := 63) hx hb dX3_doesAll_54 (by decide) (fun c_4 => ?_) (fun c_4 => ?_)
    · have hw := hw.1 c_4
      exact T63 _ hJ12 x1 z0 F R L G _ _ ls hP hS (lv_sub hl [1, 2, 0] rfl) hw
    · have hw := hw.2 c_4
      refine lv_iload_n hx hb dX3_doesAll_57 rfl (lv_at hl 0 rfl) ?_
      refine lv_ldc hx hb hown (hts _ q1837) dX3_doesAll_58 ?_
      refine lv_icmp_gt (tgt := 116) hx hb dX3_doesAll_60 (by decide) (fun c_5 => ?_) (fun c_5 => ?_)
      · have hw := hw.1 c_5
        obtain ⟨x1_6, ex1_6⟩ : ∃ y : Int32, y = x1 + 1 := ⟨_, rfl⟩
        have hw := hw x1_6 ex1_6
        refine lv_iinc (v := x1_6) (lv' := [(1, .int x1_6), (2, .int z0), (0, .ref h)]) hx hb dX3_doesAll_116 hl (k := 2) rfl (by rw [ex1_6]; rfl) (by decide) rfl (fun ls hl => ?_)
        exact T119 _ hJ12 x1_6 F R L G _ _ ls hP hS (lv_sub hl [2, 0] rfl) hw
      · have hw := hw.2 c_5
        exact T63 _ hJ12 x1 z0 F R L G _ _ ls hP hS (lv_sub hl [1, 2, 0] rfl) hw
  have T12 : ∀ (n : Nat), ∀ (x1 : Int32) (F : mF) (R : mR) (L : mL) (G : mG) (H : Heap) (locs : List Loc) (ls : Array Slot), mP K h a F R L G H → va_S (mA h a) s.heap H locs → lv_has ls 3 [(0, .ref h), (1, .int x1)] → wpX3_doesAll_12 post n x1 F R L G → W p l e (rmo 6 149) s m ([.ref h] : List Value).toArray below meth c H locs 0 0 (MQ below (mQi post K h a) ([.ref h] : List Value).toArray s 0 0 (mA h a)) (F0 m 12 ls []) := by
    intro n
    induction n with
    | zero =>
      intro x1 F R L G H locs ls hP hS hl hw
      exact False.elim hw
    | succ n ih =>
      intro x1 F R L G H locs ls hP hS hl hw
      unfold wpX3_doesAll_12 at hw
      refine lv_aload_n hx hb dX3_doesAll_12 rfl (lv_at hl 0 rfl) ?_
      refine m_get hx hb hts hown hK hP 26 (by decide) q1754 rfl dX3_doesAll_13 ?_
      refine lv_if_ne (tgt := 122) hx hb dX3_doesAll_16 (by decide) (fun c_7 => ?_) (fun c_7 => ?_)
      · have hw := hw.2 (c_7)
        refine lv_iload_n hx hb dX3_doesAll_122 rfl (lv_at hl 1 rfl) ?_
        exact m_iret hx hb hr hlocks hP hS dX3_doesAll_123 hw
      · have hw := hw.1 (c_7)
        refine lv_aload_n hx hb dX3_doesAll_19 rfl (lv_at hl 0 rfl) ?_
        refine m_get hx hb hts hown hK hP 20 (by decide) q1748 rfl dX3_doesAll_20 ?_
        refine lv_aload_n hx hb dX3_doesAll_23 rfl (lv_at hl 0 rfl) ?_
        refine m_get hx hb hts hown hK hP 7 (by decide) q1735 rfl dX3_doesAll_24 ?_
        refine lv_icmp_ge (tgt := 122) hx hb dX3_doesAll_27 (by decide) (fun c_8 => ?_) (fun c_8 => ?_)
        · have hw := hw.1 c_8
          refine lv_iload_n hx hb dX3_doesAll_122 rfl (lv_at hl 1 rfl) ?_
          exact m_iret hx hb hr hlocks hP hS dX3_doesAll_123 hw
        · have hw := hw.2 c_8
          refine lv_aload_n hx hb dX3_doesAll_30 rfl (lv_at hl 0 rfl) ?_
          refine m_callv (As := []) (rest := []) ⟨hx, hb, hml, hown, hts⟩ (metX3_takesOrder l K h a hap _ F R L G) (cwV 0 hts (lw_V q2294 q2296 qs69 q85 q2297) rfl rfl rfl (by decide +kernel) ⟨Nat.le_of_ble_eq_true rfl, Nat.le_of_ble_eq_true rfl⟩) hK hP hS hw rfl hl.1 rfl (Nat.le_of_ble_eq_true rfl) dX3_doesAll_31 ⟨Nat.le_refl _, Nat.le_refl _⟩ (fun F_9 R_10 L_11 G_12 H locs hw hP hS => ?_)
          refine lv_aload_n hx hb dX3_doesAll_34 rfl (lv_at hl 0 rfl) ?_
          refine m_get hx hb hts hown hK hP 22 (by decide) q1750 rfl dX3_doesAll_35 ?_
          refine lv_if_eq (tgt := 48) hx hb dX3_doesAll_38 (by decide) (fun c_13 => ?_) (fun c_13 => ?_)
          · have hw := hw.1 c_13
            refine lv_iconst (v := 0) hx hb dX3_doesAll_48 (by decide) ?_
            exact T49 _ ih x1 0 F_9 R_10 L_11 G_12 _ _ ls hP hS (lv_sub hl [0, 1] rfl) hw
          · have hw := hw.2 c_13
            refine lv_aload_n hx hb dX3_doesAll_41 rfl (lv_at hl 0 rfl) ?_
            refine m_calli (As := []) (rest := []) ⟨hx, hb, hml, hown, hts⟩ (metX3_doesOrder l K h a hap _ F_9 R_10 L_11 G_12) (cwV 0 hts (lw_V q2310 q2312 qs73 q85 q2313) rfl rfl rfl (by decide +kernel) ⟨Nat.le_of_ble_eq_true rfl, Nat.le_of_ble_eq_true rfl⟩) hK hP hS hw rfl hl.1 rfl (Nat.le_of_ble_eq_true rfl) dX3_doesAll_42 ⟨Nat.le_refl _, Nat.le_refl _⟩ (fun r_14 F_15 R_16 L_17 G_18 H locs hw hP hS => ?_)
            refine lv_goto (tgt := 49) hx hb dX3_doesAll_45 (by decide) ?_
            exact T49 _ ih x1 r_14 F_15 R_16 L_17 G_18 _ _ ls hP hS (lv_sub hl [0, 1] rfl) hw
  unfold wpX3_doesAll at hw
  refine lv_iconst (v := 0) hx hb dX3_doesAll_0 (by decide) ?_
  refine lv_istore_n (lv' := [(1, .int 0), (0, .ref h)]) hx hb dX3_doesAll_1 rfl hl (by decide) rfl (fun ls hl => ?_)
  refine lv_aload_n hx hb dX3_doesAll_2 rfl (lv_at hl 1 rfl) ?_
  refine lv_iconst (v := 0) hx hb dX3_doesAll_3 (by decide) ?_
  refine m_puti hx hb hts hown hK hap hP hS 26 (by decide) q1754 rfl rfl rfl rfl dX3_doesAll_4 (fun H locs hP hS => ?_)
  refine lv_aload_n hx hb dX3_doesAll_7 rfl (lv_at hl 1 rfl) ?_
  refine lv_iconst (v := 0) hx hb dX3_doesAll_8 (by decide) ?_
  refine m_puti hx hb hts hown hK hap hP hS 20 (by decide) q1748 rfl rfl rfl rfl dX3_doesAll_9 (fun H locs hP hS => ?_)
  obtain ⟨fu, hw⟩ := hw
  exact T12 fu 0 (va_up (va_up F 26 0) 20 0) R L G _ _ ls hP hS (lv_sub hl [1, 0] rfl) hw
def wpX3_faultTold (post : Int32 → mF → mR → mL → mG → Prop) (F : mF) (R : mR) (L : mL) (G : mG) (p1 : Int32) : Prop := wpX3_copies_0_1 (fun F_1 R_2 L_3 G_4 => wpX3_doesAll (fun r_5 F_6 R_7 L_8 G_9 => wpX3_copies_1_0 (fun F_10 R_11 L_12 G_13 => (((F_10 26) = 0 → wpX3_fails (fun r_17 F_18 R_19 L_20 G_21 => post r_17 F_18 R_19 L_20 G_21) F_10 R_11 L_12 G_13 1) ∧ (¬ (F_10 26) = 0 → ((p1 = 0 → post (F_10 21) F_10 R_11 L_12 G_13) ∧ (¬ p1 = 0 → ((p1 = 1 → post (F_10 26) F_10 R_11 L_12 G_13) ∧ (¬ p1 = 1 → post (F_10 27) F_10 R_11 L_12 G_13))))))) F_6 R_7 L_8 G_9 0 0) F_1 R_2 L_3 G_4) (va_up F 8 0) R L G 0 0
abbrev wsX3_faultTold : List Cond := ws_ yX3_faultTold cX3_faultTold 3 (some .int)
set_option maxHeartbeats 8000000 in
theorem metX3_faultTold (l : Launch) (K : KT) (h : Nat) (a : Nat → Nat) (hap : mAp h a) (post : Int32 → mF → mR → mL → mG → Prop) (F : mF) (R : mR) (L : mL) (G : mG) (p1 : Int32) : Met l yX3_faultTold wsX3_faultTold (rmo 7 171) (mPre K h a F R L G [.int p1] (wpX3_faultTold post F R L G p1)) (mQi post K h a) 0 0 (mA h a) := by
  refine Met.ofW (cc := cX3_faultTold) (maxL := 3) (ret := (some .int)) (by decide) rfl ?_
  intro p e s m args below meth c s₁ B hml hv
  obtain ⟨rfl, hP, hK, hw⟩ := hv
  have hx := B.exec
  have hb := B.bytes
  have hr := B.returns
  have hts := atoms_spec (ws := wsX3_faultTold) B.pre
  have hts : ∀ w ∈ lw_all, w.before _ s = true := fun w h => hts w (List.mem_cons_of_mem _ h)
  have hown : s.vm.findClass RX3 = some m.cls := findClass_of_methodNamed B.named
  have hlocks := B.notSynchronized
  have hl := lv_entry ([.ref h, .int p1]) (n := 3) (Nat.le_of_ble_eq_true rfl)
  rw [lg_entry_eq]
  generalize (lg_sl ([.ref h, .int p1]) ++ List.replicate (3 - (lg_sl ([.ref h, .int p1])).length) Slot.unset).toArray = ls at hl ⊢
  have hl : lv_has ls 3 [(0, .ref h), (1, .int p1)] := hl
  have hS : va_S (mA h a) s.heap s.heap [] := va_S.rf
  unfold wpX3_faultTold at hw
  refine lv_aload_n hx hb dX3_faultTold_0 rfl (lv_at hl 0 rfl) ?_
  refine lv_iconst (v := 0) hx hb dX3_faultTold_1 (by decide) ?_
  refine m_puti hx hb hts hown hK hap hP hS 8 (by decide) q1736 rfl rfl rfl rfl dX3_faultTold_2 (fun H locs hP hS => ?_)
  refine lv_aload_n hx hb dX3_faultTold_5 rfl (lv_at hl 0 rfl) ?_
  refine m_get hx hb hts hown hK hP 0 (by decide) q1728 rfl dX3_faultTold_6 ?_
  refine lv_iconst (v := 0) hx hb dX3_faultTold_9 (by decide) ?_
  refine lv_aload_n hx hb dX3_faultTold_10 rfl (lv_at hl 0 rfl) ?_
  refine m_get hx hb hts hown hK hP 1 (by decide) q1729 rfl dX3_faultTold_11 ?_
  refine lv_iconst (v := 0) hx hb dX3_faultTold_14 (by decide) ?_
  refine m_callSv (As := [.ref (a 0), .int 0, .ref (a 1), .int 0]) (rest := []) ⟨hx, hb, hml, hown, hts⟩ (metX3_copies_0_1 l K h a hap _ (va_up F 8 0) R L G 0 0) (va_cwS 4 hts (lw_S q1825 q1826 q85 q1827) rfl rfl rfl (by decide +kernel) ⟨Nat.le_of_ble_eq_true rfl, Nat.le_of_ble_eq_true rfl⟩) hK hP hS hw rfl hl.1 rfl (Nat.le_of_ble_eq_true rfl) dX3_faultTold_15 ⟨Nat.le_refl _, Nat.le_refl _⟩ (fun F_1 R_2 L_3 G_4 H locs hw hP hS => ?_)
  refine lv_aload_n hx hb dX3_faultTold_18 rfl (lv_at hl 0 rfl) ?_
  refine m_calli (As := []) (rest := []) ⟨hx, hb, hml, hown, hts⟩ (metX3_doesAll l K h a hap _ F_1 R_2 L_3 G_4) (cwV 0 hts (lw_V q2290 q2292 qs68 q85 q2293) rfl rfl rfl (by decide +kernel) ⟨Nat.le_of_ble_eq_true rfl, Nat.le_of_ble_eq_true rfl⟩) hK hP hS hw rfl hl.1 rfl (Nat.le_of_ble_eq_true rfl) dX3_faultTold_19 ⟨Nat.le_refl _, Nat.le_refl _⟩ (fun r_5 F_6 R_7 L_8 G_9 H locs hw hP hS => ?_)
  refine lv_istore_n (lv' := [(2, .int r_5), (0, .ref h), (1, .int p1)]) hx hb dX3_faultTold_22 rfl hl (by decide) rfl (fun ls hl => ?_)
  refine lv_aload_n hx hb dX3_faultTold_23 rfl (lv_at hl 1 rfl) ?_
  refine m_get hx hb hts hown hK hP 1 (by decide) q1729 rfl dX3_faultTold_24 ?_
  refine lv_iconst (v := 0) hx hb dX3_faultTold_27 (by decide) ?_
  refine lv_aload_n hx hb dX3_faultTold_28 rfl (lv_at hl 1 rfl) ?_
  refine m_get hx hb hts hown hK hP 0 (by decide) q1728 rfl dX3_faultTold_29 ?_
  refine lv_iconst (v := 0) hx hb dX3_faultTold_32 (by decide) ?_
  refine m_callSv (As := [.ref (a 1), .int 0, .ref (a 0), .int 0]) (rest := []) ⟨hx, hb, hml, hown, hts⟩ (metX3_copies_1_0 l K h a hap _ F_6 R_7 L_8 G_9 0 0) (va_cwS 4 hts (lw_S q1825 q1826 q85 q1827) rfl rfl rfl (by decide +kernel) ⟨Nat.le_of_ble_eq_true rfl, Nat.le_of_ble_eq_true rfl⟩) hK hP hS hw rfl hl.1 rfl (Nat.le_of_ble_eq_true rfl) dX3_faultTold_33 ⟨Nat.le_refl _, Nat.le_refl _⟩ (fun F_10 R_11 L_12 G_13 H locs hw hP hS => ?_)
  refine lv_aload_n hx hb dX3_faultTold_36 rfl (lv_at hl 1 rfl) ?_
  refine m_get hx hb hts hown hK hP 26 (by decide) q1754 rfl dX3_faultTold_37 ?_
  refine lv_if_ne (tgt := 51) hx hb dX3_faultTold_40 (by decide) (fun c_14 => ?_) (fun c_14 => ?_)
  · have hw := hw.2 (c_14)
    refine lv_iload_n hx hb dX3_faultTold_51 rfl (lv_at hl 2 rfl) ?_
    refine lv_if_ne (tgt := 62) hx hb dX3_faultTold_52 (by decide) (fun c_15 => ?_) (fun c_15 => ?_)
    · have hw := hw.2 (c_15)
      refine lv_iload_n hx hb dX3_faultTold_62 rfl (lv_at hl 2 rfl) ?_
      refine lv_iconst (v := 1) hx hb dX3_faultTold_63 (by decide) ?_
      refine lv_icmp_ne (tgt := 74) hx hb dX3_faultTold_64 (by decide) (fun c_16 => ?_) (fun c_16 => ?_)
      · have hw := hw.2 (c_16)
        refine lv_aload_n hx hb dX3_faultTold_74 rfl (lv_at hl 1 rfl) ?_
        refine m_get hx hb hts hown hK hP 27 (by decide) q1755 rfl dX3_faultTold_75 ?_
        exact m_iret hx hb hr hlocks hP hS dX3_faultTold_78 hw
      · have hw := hw.1 (c_16)
        refine lv_aload_n hx hb dX3_faultTold_67 rfl (lv_at hl 1 rfl) ?_
        refine m_get hx hb hts hown hK hP 26 (by decide) q1754 rfl dX3_faultTold_68 ?_
        refine lv_goto (tgt := 78) hx hb dX3_faultTold_71 (by decide) ?_
        exact m_iret hx hb hr hlocks hP hS dX3_faultTold_78 hw
    · have hw := hw.1 (c_15)
      refine lv_aload_n hx hb dX3_faultTold_55 rfl (lv_at hl 1 rfl) ?_
      refine m_get hx hb hts hown hK hP 21 (by decide) q1749 rfl dX3_faultTold_56 ?_
      refine lv_goto (tgt := 78) hx hb dX3_faultTold_59 (by decide) ?_
      exact m_iret hx hb hr hlocks hP hS dX3_faultTold_78 hw
  · have hw := hw.1 (c_14)
    refine lv_aload_n hx hb dX3_faultTold_43 rfl (lv_at hl 1 rfl) ?_
    refine lv_iconst (v := 1) hx hb dX3_faultTold_44 (by decide) ?_
    refine m_calli (As := [.int 1]) (rest := []) ⟨hx, hb, hml, hown, hts⟩ (metX3_fails l K h a hap _ F_10 R_11 L_12 G_13 1) (cwV 1 hts (lw_V q1838 q1840 qs27 q85 q1841) rfl rfl rfl (by decide +kernel) ⟨Nat.le_of_ble_eq_true rfl, Nat.le_of_ble_eq_true rfl⟩) hK hP hS hw rfl hl.1 rfl (Nat.le_of_ble_eq_true rfl) dX3_faultTold_45 ⟨Nat.le_refl _, Nat.le_refl _⟩ (fun r_17 F_18 R_19 L_20 G_21 H locs hw hP hS => ?_)
    refine lv_goto (tgt := 78) hx hb dX3_faultTold_48 (by decide) ?_
    exact m_iret hx hb hr hlocks hP hS dX3_faultTold_78 hw
def wpX3_faultPosition (post : Int32 → mF → mR → mL → mG → Prop) (F : mF) (R : mR) (L : mL) (G : mG) : Prop := wpX3_faultTold (fun r_1 F_2 R_3 L_4 G_5 => post r_1 F_2 R_3 L_4 G_5) F R L G 0
abbrev wsX3_faultPosition : List Cond := ws_ yX3_faultPosition cX3_faultPosition 1 (some .int)
set_option maxHeartbeats 8000000 in
theorem metX3_faultPosition (l : Launch) (K : KT) (h : Nat) (a : Nat → Nat) (hap : mAp h a) (post : Int32 → mF → mR → mL → mG → Prop) (F : mF) (R : mR) (L : mL) (G : mG) : Met l yX3_faultPosition wsX3_faultPosition (rmo 8 193) (mPre K h a F R L G [] (wpX3_faultPosition post F R L G )) (mQi post K h a) 0 0 (mA h a) := by
  refine Met.ofW (cc := cX3_faultPosition) (maxL := 1) (ret := (some .int)) (by decide) rfl ?_
  intro p e s m args below meth c s₁ B hml hv
  obtain ⟨rfl, hP, hK, hw⟩ := hv
  have hx := B.exec
  have hb := B.bytes
  have hr := B.returns
  have hts := atoms_spec (ws := wsX3_faultPosition) B.pre
  have hts : ∀ w ∈ lw_all, w.before _ s = true := fun w h => hts w (List.mem_cons_of_mem _ h)
  have hown : s.vm.findClass RX3 = some m.cls := findClass_of_methodNamed B.named
  have hlocks := B.notSynchronized
  have hl := lv_entry ([.ref h]) (n := 1) (Nat.le_of_ble_eq_true rfl)
  rw [lg_entry_eq]
  generalize (lg_sl ([.ref h]) ++ List.replicate (1 - (lg_sl ([.ref h])).length) Slot.unset).toArray = ls at hl ⊢
  have hl : lv_has ls 1 [(0, .ref h)] := hl
  have hS : va_S (mA h a) s.heap s.heap [] := va_S.rf
  unfold wpX3_faultPosition at hw
  refine lv_aload_n hx hb dX3_faultPosition_0 rfl (lv_at hl 0 rfl) ?_
  refine lv_iconst (v := 0) hx hb dX3_faultPosition_1 (by decide) ?_
  refine m_calli (As := [.int 0]) (rest := []) ⟨hx, hb, hml, hown, hts⟩ (metX3_faultTold l K h a hap _ F R L G 0) (cwV 1 hts (lw_V q2286 q2288 qs67 q85 q2289) rfl rfl rfl (by decide +kernel) ⟨Nat.le_of_ble_eq_true rfl, Nat.le_of_ble_eq_true rfl⟩) hK hP hS hw rfl hl.1 rfl (Nat.le_of_ble_eq_true rfl) dX3_faultPosition_2 ⟨Nat.le_refl _, Nat.le_refl _⟩ (fun r_1 F_2 R_3 L_4 G_5 H locs hw hP hS => ?_)
  exact m_iret hx hb hr hlocks hP hS dX3_faultPosition_5 hw
def wpX3_faultReason (post : Int32 → mF → mR → mL → mG → Prop) (F : mF) (R : mR) (L : mL) (G : mG) : Prop := wpX3_faultTold (fun r_1 F_2 R_3 L_4 G_5 => post r_1 F_2 R_3 L_4 G_5) F R L G 1
abbrev wsX3_faultReason : List Cond := ws_ yX3_faultReason cX3_faultReason 1 (some .int)
set_option maxHeartbeats 8000000 in
theorem metX3_faultReason (l : Launch) (K : KT) (h : Nat) (a : Nat → Nat) (hap : mAp h a) (post : Int32 → mF → mR → mL → mG → Prop) (F : mF) (R : mR) (L : mL) (G : mG) : Met l yX3_faultReason wsX3_faultReason (rmo 8 193) (mPre K h a F R L G [] (wpX3_faultReason post F R L G )) (mQi post K h a) 0 0 (mA h a) := by
  refine Met.ofW (cc := cX3_faultReason) (maxL := 1) (ret := (some .int)) (by decide) rfl ?_
  intro p e s m args below meth c s₁ B hml hv
  obtain ⟨rfl, hP, hK, hw⟩ := hv
  have hx := B.exec
  have hb := B.bytes
  have hr := B.returns
  have hts := atoms_spec (ws := wsX3_faultReason) B.pre
  have hts : ∀ w ∈ lw_all, w.before _ s = true := fun w h => hts w (List.mem_cons_of_mem _ h)
  have hown : s.vm.findClass RX3 = some m.cls := findClass_of_methodNamed B.named
  have hlocks := B.notSynchronized
  have hl := lv_entry ([.ref h]) (n := 1) (Nat.le_of_ble_eq_true rfl)
  rw [lg_entry_eq]
  generalize (lg_sl ([.ref h]) ++ List.replicate (1 - (lg_sl ([.ref h])).length) Slot.unset).toArray = ls at hl ⊢
  have hl : lv_has ls 1 [(0, .ref h)] := hl
  have hS : va_S (mA h a) s.heap s.heap [] := va_S.rf
  unfold wpX3_faultReason at hw
  refine lv_aload_n hx hb dX3_faultReason_0 rfl (lv_at hl 0 rfl) ?_
  refine lv_iconst (v := 1) hx hb dX3_faultReason_1 (by decide) ?_
  refine m_calli (As := [.int 1]) (rest := []) ⟨hx, hb, hml, hown, hts⟩ (metX3_faultTold l K h a hap _ F R L G 1) (cwV 1 hts (lw_V q2286 q2288 qs67 q85 q2289) rfl rfl rfl (by decide +kernel) ⟨Nat.le_of_ble_eq_true rfl, Nat.le_of_ble_eq_true rfl⟩) hK hP hS hw rfl hl.1 rfl (Nat.le_of_ble_eq_true rfl) dX3_faultReason_2 ⟨Nat.le_refl _, Nat.le_refl _⟩ (fun r_1 F_2 R_3 L_4 G_5 H locs hw hP hS => ?_)
  exact m_iret hx hb hr hlocks hP hS dX3_faultReason_5 hw
def wpX3_faultCause (post : Int32 → mF → mR → mL → mG → Prop) (F : mF) (R : mR) (L : mL) (G : mG) : Prop := wpX3_faultTold (fun r_1 F_2 R_3 L_4 G_5 => post r_1 F_2 R_3 L_4 G_5) F R L G 2
abbrev wsX3_faultCause : List Cond := ws_ yX3_faultCause cX3_faultCause 1 (some .int)
set_option maxHeartbeats 8000000 in
theorem metX3_faultCause (l : Launch) (K : KT) (h : Nat) (a : Nat → Nat) (hap : mAp h a) (post : Int32 → mF → mR → mL → mG → Prop) (F : mF) (R : mR) (L : mL) (G : mG) : Met l yX3_faultCause wsX3_faultCause (rmo 8 193) (mPre K h a F R L G [] (wpX3_faultCause post F R L G )) (mQi post K h a) 0 0 (mA h a) := by
  refine Met.ofW (cc := cX3_faultCause) (maxL := 1) (ret := (some .int)) (by decide) rfl ?_
  intro p e s m args below meth c s₁ B hml hv
  obtain ⟨rfl, hP, hK, hw⟩ := hv
  have hx := B.exec
  have hb := B.bytes
  have hr := B.returns
  have hts := atoms_spec (ws := wsX3_faultCause) B.pre
  have hts : ∀ w ∈ lw_all, w.before _ s = true := fun w h => hts w (List.mem_cons_of_mem _ h)
  have hown : s.vm.findClass RX3 = some m.cls := findClass_of_methodNamed B.named
  have hlocks := B.notSynchronized
  have hl := lv_entry ([.ref h]) (n := 1) (Nat.le_of_ble_eq_true rfl)
  rw [lg_entry_eq]
  generalize (lg_sl ([.ref h]) ++ List.replicate (1 - (lg_sl ([.ref h])).length) Slot.unset).toArray = ls at hl ⊢
  have hl : lv_has ls 1 [(0, .ref h)] := hl
  have hS : va_S (mA h a) s.heap s.heap [] := va_S.rf
  unfold wpX3_faultCause at hw
  refine lv_aload_n hx hb dX3_faultCause_0 rfl (lv_at hl 0 rfl) ?_
  refine lv_iconst (v := 2) hx hb dX3_faultCause_1 (by decide) ?_
  refine m_calli (As := [.int 2]) (rest := []) ⟨hx, hb, hml, hown, hts⟩ (metX3_faultTold l K h a hap _ F R L G 2) (cwV 1 hts (lw_V q2286 q2288 qs67 q85 q2289) rfl rfl rfl (by decide +kernel) ⟨Nat.le_of_ble_eq_true rfl, Nat.le_of_ble_eq_true rfl⟩) hK hP hS hw rfl hl.1 rfl (Nat.le_of_ble_eq_true rfl) dX3_faultCause_2 ⟨Nat.le_refl _, Nat.le_refl _⟩ (fun r_1 F_2 R_3 L_4 G_5 H locs hw hP hS => ?_)
  exact m_iret hx hb hr hlocks hP hS dX3_faultCause_5 hw
def wpX3_play (post : Int32 → mF → mR → mL → mG → Prop) (F : mF) (R : mR) (L : mL) (G : mG) : Prop := wpX3_begins (fun F_1 R_2 L_3 G_4 => wpX3_doesAll (fun r_5 F_6 R_7 L_8 G_9 => (((F_6 26) ≤ 0 → wpX3_records (fun F_11 R_12 L_13 G_14 => post r_5 F_11 R_12 L_13 G_14) F_6 R_7 L_8 G_9) ∧ (¬ (F_6 26) ≤ 0 → wpX3_copies_1_0 (fun F_15 R_16 L_17 G_18 => wpX3_fails (fun r_19 F_20 R_21 L_22 G_23 => post r_19 F_20 R_21 L_22 G_23) F_15 R_16 L_17 G_18 1) F_6 R_7 L_8 G_9 0 0))) F_1 R_2 L_3 G_4) F R L G
abbrev wsX3_play : List Cond := ws_ yX3_play cX3_play 2 (some .int)
set_option maxHeartbeats 8000000 in
theorem metX3_play (l : Launch) (K : KT) (h : Nat) (a : Nat → Nat) (hap : mAp h a) (post : Int32 → mF → mR → mL → mG → Prop) (F : mF) (R : mR) (L : mL) (G : mG) : Met l yX3_play wsX3_play (rmo 7 171) (mPre K h a F R L G [] (wpX3_play post F R L G )) (mQi post K h a) 0 0 (mA h a) := by
  refine Met.ofW (cc := cX3_play) (maxL := 2) (ret := (some .int)) (by decide) rfl ?_
  intro p e s m args below meth c s₁ B hml hv
  obtain ⟨rfl, hP, hK, hw⟩ := hv
  have hx := B.exec
  have hb := B.bytes
  have hr := B.returns
  have hts := atoms_spec (ws := wsX3_play) B.pre
  have hts : ∀ w ∈ lw_all, w.before _ s = true := fun w h => hts w (List.mem_cons_of_mem _ h)
  have hown : s.vm.findClass RX3 = some m.cls := findClass_of_methodNamed B.named
  have hlocks := B.notSynchronized
  have hl := lv_entry ([.ref h]) (n := 2) (Nat.le_of_ble_eq_true rfl)
  rw [lg_entry_eq]
  generalize (lg_sl ([.ref h]) ++ List.replicate (2 - (lg_sl ([.ref h])).length) Slot.unset).toArray = ls at hl ⊢
  have hl : lv_has ls 2 [(0, .ref h)] := hl
  have hS : va_S (mA h a) s.heap s.heap [] := va_S.rf
  unfold wpX3_play at hw
  refine lv_aload_n hx hb dX3_play_0 rfl (lv_at hl 0 rfl) ?_
  refine m_callv (As := []) (rest := []) ⟨hx, hb, hml, hown, hts⟩ (metX3_begins l K h a hap _ F R L G) (cwV 0 hts (lw_V q1821 q1823 qs24 q85 q1824) rfl rfl rfl (by decide +kernel) ⟨Nat.le_of_ble_eq_true rfl, Nat.le_of_ble_eq_true rfl⟩) hK hP hS hw rfl hl.1 rfl (Nat.le_of_ble_eq_true rfl) dX3_play_1 ⟨Nat.le_refl _, Nat.le_refl _⟩ (fun F_1 R_2 L_3 G_4 H locs hw hP hS => ?_)
  refine lv_aload_n hx hb dX3_play_4 rfl (lv_at hl 0 rfl) ?_
  refine m_calli (As := []) (rest := []) ⟨hx, hb, hml, hown, hts⟩ (metX3_doesAll l K h a hap _ F_1 R_2 L_3 G_4) (cwV 0 hts (lw_V q2290 q2292 qs68 q85 q2293) rfl rfl rfl (by decide +kernel) ⟨Nat.le_of_ble_eq_true rfl, Nat.le_of_ble_eq_true rfl⟩) hK hP hS hw rfl hl.1 rfl (Nat.le_of_ble_eq_true rfl) dX3_play_5 ⟨Nat.le_refl _, Nat.le_refl _⟩ (fun r_5 F_6 R_7 L_8 G_9 H locs hw hP hS => ?_)
  refine lv_istore_n (lv' := [(1, .int r_5), (0, .ref h)]) hx hb dX3_play_8 rfl hl (by decide) rfl (fun ls hl => ?_)
  refine lv_aload_n hx hb dX3_play_9 rfl (lv_at hl 1 rfl) ?_
  refine m_get hx hb hts hown hK hP 26 (by decide) q1754 rfl dX3_play_10 ?_
  refine lv_if_le (tgt := 35) hx hb dX3_play_13 (by decide) (fun c_10 => ?_) (fun c_10 => ?_)
  · have hw := hw.1 c_10
    refine lv_aload_n hx hb dX3_play_35 rfl (lv_at hl 1 rfl) ?_
    refine m_callv (As := []) (rest := []) ⟨hx, hb, hml, hown, hts⟩ (metX3_records l K h a hap _ F_6 R_7 L_8 G_9) (cwV 0 hts (lw_V q1842 q1844 qs28 q85 q1845) rfl rfl rfl (by decide +kernel) ⟨Nat.le_of_ble_eq_true rfl, Nat.le_of_ble_eq_true rfl⟩) hK hP hS hw rfl hl.1 rfl (Nat.le_of_ble_eq_true rfl) dX3_play_36 ⟨Nat.le_refl _, Nat.le_refl _⟩ (fun F_11 R_12 L_13 G_14 H locs hw hP hS => ?_)
    refine lv_iload_n hx hb dX3_play_39 rfl (lv_at hl 0 rfl) ?_
    exact m_iret hx hb hr hlocks hP hS dX3_play_40 hw
  · have hw := hw.2 c_10
    refine lv_aload_n hx hb dX3_play_16 rfl (lv_at hl 1 rfl) ?_
    refine m_get hx hb hts hown hK hP 1 (by decide) q1729 rfl dX3_play_17 ?_
    refine lv_iconst (v := 0) hx hb dX3_play_20 (by decide) ?_
    refine lv_aload_n hx hb dX3_play_21 rfl (lv_at hl 1 rfl) ?_
    refine m_get hx hb hts hown hK hP 0 (by decide) q1728 rfl dX3_play_22 ?_
    refine lv_iconst (v := 0) hx hb dX3_play_25 (by decide) ?_
    refine m_callSv (As := [.ref (a 1), .int 0, .ref (a 0), .int 0]) (rest := []) ⟨hx, hb, hml, hown, hts⟩ (metX3_copies_1_0 l K h a hap _ F_6 R_7 L_8 G_9 0 0) (va_cwS 4 hts (lw_S q1825 q1826 q85 q1827) rfl rfl rfl (by decide +kernel) ⟨Nat.le_of_ble_eq_true rfl, Nat.le_of_ble_eq_true rfl⟩) hK hP hS hw rfl hl.1 rfl (Nat.le_of_ble_eq_true rfl) dX3_play_26 ⟨Nat.le_refl _, Nat.le_refl _⟩ (fun F_15 R_16 L_17 G_18 H locs hw hP hS => ?_)
    refine lv_aload_n hx hb dX3_play_29 rfl (lv_at hl 1 rfl) ?_
    refine lv_iconst (v := 1) hx hb dX3_play_30 (by decide) ?_
    refine m_calli (As := [.int 1]) (rest := []) ⟨hx, hb, hml, hown, hts⟩ (metX3_fails l K h a hap _ F_15 R_16 L_17 G_18 1) (cwV 1 hts (lw_V q1838 q1840 qs27 q85 q1841) rfl rfl rfl (by decide +kernel) ⟨Nat.le_of_ble_eq_true rfl, Nat.le_of_ble_eq_true rfl⟩) hK hP hS hw rfl hl.1 rfl (Nat.le_of_ble_eq_true rfl) dX3_play_31 ⟨Nat.le_refl _, Nat.le_refl _⟩ (fun r_19 F_20 R_21 L_22 G_23 H locs hw hP hS => ?_)
    exact m_iret hx hb hr hlocks hP hS dX3_play_34 hw

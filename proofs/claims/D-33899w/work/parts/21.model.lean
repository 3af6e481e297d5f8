/-! THE MODEL, walked by program: X3_binds .. X3_asksDriven -/
set_option maxRecDepth 100000
def wpX3_binds_149 (post : Int32 → mF → mR → mL → mG → Prop) (J4 : Int32 → Int32 → mF → mR → mL → mG → Prop) (x1 : Int32) (x2 : Int32) (F : mF) (R : mR) (L : mL) (G : mG) : Prop := (∀ x2_1 : Int32, x2_1 = x2 + 1 → J4 x1 x2_1 F R L G)
def wpX3_binds_148 (post : Int32 → mF → mR → mL → mG → Prop) (J4 : Int32 → Int32 → mF → mR → mL → mG → Prop) (x2 : Int32) (z0 : Int32) (F : mF) (R : mR) (L : mL) (G : mG) : Prop := wpX3_binds_149 post J4 z0 x2 F R L G
def wpX3_binds_143 (post : Int32 → mF → mR → mL → mG → Prop) (J4 : Int32 → Int32 → mF → mR → mL → mG → Prop) (x2 : Int32) (F : mF) (R : mR) (L : mL) (G : mG) : Prop := wpX3_binds_148 post J4 x2 1 F R L G
def wpX3_binds_4 (post : Int32 → mF → mR → mL → mG → Prop) : Nat → Int32 → Int32 → mF → mR → mL → mG → Prop
  | 0 => fun _ _ _ _ _ _ => False
  | n + 1 => fun x1 x2 F R L G => (((R 0 50) ≤ x2 → ((x1 = 0 ∨ x1 = 1) ∧ post x1 F R L G)) ∧ (¬ (R 0 50) ≤ x2 → (vp_in (51 + x2) 113 ∧ (vp_in (26 + (R 0 (Int32.toNatClampNeg (51 + x2)))) 113 ∧ (∀ x3_6 : Int32, x3_6 = R 0 (Int32.toNatClampNeg (26 + (R 0 (Int32.toNatClampNeg (51 + x2))))) → (vp_in (67 + x2) 113 ∧ (vp_in (26 + (R 0 (Int32.toNatClampNeg (67 + x2)))) 113 ∧ (∀ x4_9 : Int32, x4_9 = R 0 (Int32.toNatClampNeg (26 + (R 0 (Int32.toNatClampNeg (67 + x2))))) → (vp_in x3_6 12 ∧ (((R 9 (Int32.toNatClampNeg x3_6)) = (-1) → wpX3_binds_149 post (wpX3_binds_4 post n) x1 x2 F R L G) ∧ (¬ (R 9 (Int32.toNatClampNeg x3_6)) = (-1) → (vp_in x3_6 12 ∧ (vp_in (51 + x2) 113 ∧ (vp_in (2 + (R 0 (Int32.toNatClampNeg (51 + x2)))) 113 ∧ (vp_in x4_9 12 ∧ (∀ x5_16 : Int64, x5_16 = ((L 10 (Int32.toNatClampNeg x3_6)) * (Int32.toInt64 (R 0 (Int32.toNatClampNeg (2 + (R 0 (Int32.toNatClampNeg (51 + x2)))))))) * (L 11 (Int32.toNatClampNeg x4_9)) → (vp_in x4_9 12 ∧ (vp_in (67 + x2) 113 ∧ (vp_in (2 + (R 0 (Int32.toNatClampNeg (67 + x2)))) 113 ∧ (vp_in x3_6 12 ∧ (∀ x7_21 : Int64, x7_21 = ((L 10 (Int32.toNatClampNeg x4_9)) * (Int32.toInt64 (R 0 (Int32.toNatClampNeg (2 + (R 0 (Int32.toNatClampNeg (67 + x2)))))))) * (L 11 (Int32.toNatClampNeg x3_6)) → ((x1 = 0 → ((x5_16 = (-x7_21) → wpX3_binds_148 post (wpX3_binds_4 post n) x2 0 F R L G) ∧ (¬ x5_16 = (-x7_21) → wpX3_binds_143 post (wpX3_binds_4 post n) x2 F R L G))) ∧ (¬ x1 = 0 → wpX3_binds_143 post (wpX3_binds_4 post n) x2 F R L G)))))))))))))))))))))))
def wpX3_binds (post : Int32 → mF → mR → mL → mG → Prop) (F : mF) (R : mR) (L : mL) (G : mG) : Prop := ∃ fu : Nat, wpX3_binds_4 post fu 0 0 F R L G
abbrev wsX3_binds : List Cond := ws_ yX3_binds cX3_binds 9 (some .boolean)
set_option maxHeartbeats 8000000 in
theorem metX3_binds (l : Launch) (K : KT) (h : Nat) (a : Nat → Nat) (hap : mAp h a) (post : Int32 → mF → mR → mL → mG → Prop) (F : mF) (R : mR) (L : mL) (G : mG) : Met l yX3_binds wsX3_binds (rmo 0 0) (mPre K h a F R L G [] (wpX3_binds post F R L G )) (mQi post K h a) 0 0 (mA h a) := by
  refine Met.ofW (cc := cX3_binds) (maxL := 9) (ret := (some .boolean)) (by decide) rfl ?_
  intro p e s m args below meth c s₁ B hml hv
  obtain ⟨rfl, hP, hK, hw⟩ := hv
  have hx := B.exec
  have hb := B.bytes
  have hr := B.returns
  have hts := atoms_spec (ws := wsX3_binds) B.pre
  have hts : ∀ w ∈ lw_all, w.before _ s = true := fun w h => hts w (List.mem_cons_of_mem _ h)
  have hown : s.vm.findClass RX3 = some m.cls := findClass_of_methodNamed B.named
  have hlocks := B.notSynchronized
  have hl := lv_entry ([.ref h]) (n := 9) (Nat.le_of_ble_eq_true rfl)
  rw [lg_entry_eq]
  generalize (lg_sl ([.ref h]) ++ List.replicate (9 - (lg_sl ([.ref h])).length) Slot.unset).toArray = ls at hl ⊢
  have hl : lv_has ls 9 [(0, .ref h)] := hl
  have hS : va_S (mA h a) s.heap s.heap [] := va_S.rf
  have T149 : ∀ (J4 : Int32 → Int32 → mF → mR → mL → mG → Prop) (hJ4 : ∀ (x1 : Int32) (x2 : Int32) (F : mF) (R : mR) (L : mL) (G : mG) (H : Heap) (locs : List Loc) (ls : Array Slot), mP K h a F R L G H → va_S (mA h a) s.heap H locs → lv_has ls 9 [(0, .ref h), (1, .int x1), (2, .int x2)] → J4 x1 x2 F R L G → W p l e (rmo 0 0) s m ([.ref h] : List Value).toArray below meth c H locs 0 0 (MQ below (mQi post K h a) ([.ref h] : List Value).toArray s 0 0 (mA h a)) (F0 m 4 ls [])), ∀ (x1 : Int32) (x2 : Int32) (F : mF) (R : mR) (L : mL) (G : mG) (H : Heap) (locs : List Loc) (ls : Array Slot), mP K h a F R L G H → va_S (mA h a) s.heap H locs → lv_has ls 9 [(0, .ref h), (1, .int x1), (2, .int x2)] → wpX3_binds_149 post J4 x1 x2 F R L G → W p l e (rmo 0 0) s m ([.ref h] : List Value).toArray below meth c H locs 0 0 (MQ below (mQi post K h a) ([.ref h] : List Value).toArray s 0 0 (mA h a)) (F0 m 149 ls []) := by
    intro J4 hJ4
    intro x1 x2 F R L G H locs ls hP hS hl hw
    unfold wpX3_binds_149 at hw
    obtain ⟨x2_1, ex2_1⟩ : ∃ y : Int32, y = x2 + 1 := ⟨_, rfl⟩
    have hw := hw x2_1 ex2_1
    refine lv_iinc (v := x2_1) (lv' := [(2, .int x2_1), (0, .ref h), (1, .int x1)]) hx hb dX3_binds_149 hl (k := 2) rfl (by rw [ex2_1]; rfl) (by decide) rfl (fun ls hl => ?_)
    refine lv_goto (tgt := 4) hx hb dX3_binds_152 (by decide) ?_
    exact hJ4 x1 x2_1 F R L G _ _ ls hP hS (lv_sub hl [1, 2, 0] rfl) hw
  have T148 : ∀ (J4 : Int32 → Int32 → mF → mR → mL → mG → Prop) (hJ4 : ∀ (x1 : Int32) (x2 : Int32) (F : mF) (R : mR) (L : mL) (G : mG) (H : Heap) (locs : List Loc) (ls : Array Slot), mP K h a F R L G H → va_S (mA h a) s.heap H locs → lv_has ls 9 [(0, .ref h), (1, .int x1), (2, .int x2)] → J4 x1 x2 F R L G → W p l e (rmo 0 0) s m ([.ref h] : List Value).toArray below meth c H locs 0 0 (MQ below (mQi post K h a) ([.ref h] : List Value).toArray s 0 0 (mA h a)) (F0 m 4 ls [])), ∀ (x2 : Int32) (z0 : Int32) (F : mF) (R : mR) (L : mL) (G : mG) (H : Heap) (locs : List Loc) (ls : Array Slot), mP K h a F R L G H → va_S (mA h a) s.heap H locs → lv_has ls 9 [(0, .ref h), (2, .int x2)] → wpX3_binds_148 post J4 x2 z0 F R L G → W p l e (rmo 0 0) s m ([.ref h] : List Value).toArray below meth c H locs 0 0 (MQ below (mQi post K h a) ([.ref h] : List Value).toArray s 0 0 (mA h a)) (F0 m 148 ls [.int z0]) := by
    intro J4 hJ4
    intro x2 z0 F R L G H locs ls hP hS hl hw
    unfold wpX3_binds_148 at hw
    refine lv_istore_n (lv' := [(1, .int z0), (0, .ref h), (2, .int x2)]) hx hb dX3_binds_148 rfl hl (by decide) rfl (fun ls hl => ?_)
    exact T149 _ hJ4 z0 x2 F R L G _ _ ls hP hS (lv_sub hl [1, 0, 2] rfl) hw
  have T143 : ∀ (J4 : Int32 → Int32 → mF → mR → mL → mG → Prop) (hJ4 : ∀ (x1 : Int32) (x2 : Int32) (F : mF) (R : mR) (L : mL) (G : mG) (H : Heap) (locs : List Loc) (ls : Array Slot), mP K h a F R L G H → va_S (mA h a) s.heap H locs → lv_has ls 9 [(0, .ref h), (1, .int x1), (2, .int x2)] → J4 x1 x2 F R L G → W p l e (rmo 0 0) s m ([.ref h] : List Value).toArray below meth c H locs 0 0 (MQ below (mQi post K h a) ([.ref h] : List Value).toArray s 0 0 (mA h a)) (F0 m 4 ls [])), ∀ (x2 : Int32) (F : mF) (R : mR) (L : mL) (G : mG) (H : Heap) (locs : List Loc) (ls : Array Slot), mP K h a F R L G H → va_S (mA h a) s.heap H locs → lv_has ls 9 [(0, .ref h), (2, .int x2)] → wpX3_binds_143 post J4 x2 F R L G → W p l e (rmo 0 0) s m ([.ref h] : List Value).toArray below meth c H locs 0 0 (MQ below (mQi post K h a) ([.ref h] : List Value).toArray s 0 0 (mA h a)) (F0 m 143 ls []) := by
    intro J4 hJ4
    intro x2 F R L G H locs ls hP hS hl hw
    unfold wpX3_binds_143 at hw
    refine lv_iconst (v := 1) hx hb dX3_binds_143 (by decide) ?_
    refine lv_goto (tgt := 148) hx hb dX3_binds_144 (by decide) ?_
    exact T148 _ hJ4 x2 1 F R L G _ _ ls hP hS (lv_sub hl [0, 1] rfl) hw
  have T4 : ∀ (n : Nat), ∀ (x1 : Int32) (x2 : Int32) (F : mF) (R : mR) (L : mL) (G : mG) (H : Heap) (locs : List Loc) (ls : Array Slot), mP K h a F R L G H → va_S (mA h a) s.heap H locs → lv_has ls 9 [(0, .ref h), (1, .int x1), (2, .int x2)] → wpX3_binds_4 post n x1 x2 F R L G → W p l e (rmo 0 0) s m ([.ref h] : List Value).toArray below meth c H locs 0 0 (MQ below (mQi post K h a) ([.ref h] : List Value).toArray s 0 0 (mA h a)) (F0 m 4 ls []) := by
    intro n
    induction n with
    | zero =>
      intro x1 x2 F R L G H locs ls hP hS hl hw
      exact False.elim hw
    | succ n ih =>
      intro x1 x2 F R L G H locs ls hP hS hl hw
      unfold wpX3_binds_4 at hw
      refine lv_iload_n hx hb dX3_binds_4 rfl (lv_at hl 2 rfl) ?_
      refine lv_aload_n hx hb dX3_binds_5 rfl (lv_at hl 0 rfl) ?_
      refine m_get hx hb hts hown hK hP 0 (by decide) q1728 rfl dX3_binds_6 ?_
      refine lv_bipush (v := 50) hx hb dX3_binds_9 (by decide) ?_
      refine m_iald (j := 50) hx hb hK hP 0 1 113 rfl (by decide) (vpd (by decide)) dX3_binds_11 ?_
      refine lv_icmp_ge (tgt := 155) hx hb dX3_binds_12 (by decide) (fun c_2 => ?_) (fun c_2 => ?_)
      · have hw := hw.1 c_2
        refine lv_iload_n hx hb dX3_binds_155 rfl (lv_at hl 1 rfl) ?_
        obtain ⟨h_3, hw⟩ := hw
        exact m_zret hx hb hr hlocks hP hS dX3_binds_156 h_3 hw
      · have hw := hw.2 c_2
        refine lv_aload_n hx hb dX3_binds_15 rfl (lv_at hl 0 rfl) ?_
        refine m_get hx hb hts hown hK hP 0 (by decide) q1728 rfl dX3_binds_16 ?_
        refine lv_bipush (v := 26) hx hb dX3_binds_19 (by decide) ?_
        refine lv_aload_n hx hb dX3_binds_21 rfl (lv_at hl 0 rfl) ?_
        refine m_get hx hb hts hown hK hP 0 (by decide) q1728 rfl dX3_binds_22 ?_
        refine lv_bipush (v := 51) hx hb dX3_binds_25 (by decide) ?_
        refine lv_iload_n hx hb dX3_binds_27 rfl (lv_at hl 2 rfl) ?_
        refine lv_iadd hx hb dX3_binds_28 ?_
        obtain ⟨h_4, hw⟩ := hw
        refine m_iald (j := (Int32.toNatClampNeg (51 + x2))) hx hb hK hP 0 1 113 rfl rfl h_4 dX3_binds_29 ?_
        refine lv_iadd hx hb dX3_binds_30 ?_
        obtain ⟨h_5, hw⟩ := hw
        refine m_iald (j := (Int32.toNatClampNeg (26 + (R 0 (Int32.toNatClampNeg (51 + x2)))))) hx hb hK hP 0 1 113 rfl rfl h_5 dX3_binds_31 ?_
        refine lv_topi (fun x3_6 ex3_6 => ?_)
        have hw := hw x3_6 ex3_6
        refine lv_istore_n (lv' := [(3, .int x3_6), (0, .ref h), (1, .int x1), (2, .int x2)]) hx hb dX3_binds_32 rfl hl (by decide) rfl (fun ls hl => ?_)
        refine lv_aload_n hx hb dX3_binds_33 rfl (lv_at hl 1 rfl) ?_
        refine m_get hx hb hts hown hK hP 0 (by decide) q1728 rfl dX3_binds_34 ?_
        refine lv_bipush (v := 26) hx hb dX3_binds_37 (by decide) ?_
        refine lv_aload_n hx hb dX3_binds_39 rfl (lv_at hl 1 rfl) ?_
        refine m_get hx hb hts hown hK hP 0 (by decide) q1728 rfl dX3_binds_40 ?_
        refine lv_bipush (v := 67) hx hb dX3_binds_43 (by decide) ?_
        refine lv_iload_n hx hb dX3_binds_45 rfl (lv_at hl 3 rfl) ?_
        refine lv_iadd hx hb dX3_binds_46 ?_
        obtain ⟨h_7, hw⟩ := hw
        refine m_iald (j := (Int32.toNatClampNeg (67 + x2))) hx hb hK hP 0 1 113 rfl rfl h_7 dX3_binds_47 ?_
        refine lv_iadd hx hb dX3_binds_48 ?_
        obtain ⟨h_8, hw⟩ := hw
        refine m_iald (j := (Int32.toNatClampNeg (26 + (R 0 (Int32.toNatClampNeg (67 + x2)))))) hx hb hK hP 0 1 113 rfl rfl h_8 dX3_binds_49 ?_
        refine lv_topi (fun x4_9 ex4_9 => ?_)
        have hw := hw x4_9 ex4_9
        refine lv_istore (lv' := [(4, .int x4_9), (3, .int x3_6), (0, .ref h), (1, .int x1), (2, .int x2)]) hx hb dX3_binds_50 hl (by decide) rfl (fun ls hl => ?_)
        refine lv_aload_n hx hb dX3_binds_52 rfl (lv_at hl 2 rfl) ?_
        refine m_get hx hb hts hown hK hP 9 (by decide) q1737 rfl dX3_binds_53 ?_
        refine lv_iload_n hx hb dX3_binds_56 rfl (lv_at hl 1 rfl) ?_
        obtain ⟨h_10, hw⟩ := hw
        refine m_iald (j := (Int32.toNatClampNeg x3_6)) hx hb hK hP 9 6 12 rfl rfl h_10 dX3_binds_57 ?_
        refine lv_iconst (v := (-1)) hx hb dX3_binds_58 (by decide) ?_
        refine lv_icmp_eq (tgt := 149) hx hb dX3_binds_59 (by decide) (fun c_11 => ?_) (fun c_11 => ?_)
        · have hw := hw.1 c_11
          exact T149 _ ih x1 x2 F R L G _ _ ls hP hS (lv_sub hl [2, 3, 4] rfl) hw
        · have hw := hw.2 c_11
          refine lv_aload_n hx hb dX3_binds_62 rfl (lv_at hl 2 rfl) ?_
          refine m_get hx hb hts hown hK hP 10 (by decide) q1738 rfl dX3_binds_63 ?_
          refine lv_iload_n hx hb dX3_binds_66 rfl (lv_at hl 1 rfl) ?_
          obtain ⟨h_12, hw⟩ := hw
          refine m_lald (j := (Int32.toNatClampNeg x3_6)) hx hb hK hP 10 7 12 rfl rfl h_12 dX3_binds_67 ?_
          refine lv_aload_n hx hb dX3_binds_68 rfl (lv_at hl 2 rfl) ?_
          refine m_get hx hb hts hown hK hP 0 (by decide) q1728 rfl dX3_binds_69 ?_
          refine lv_iconst (v := 2) hx hb dX3_binds_72 (by decide) ?_
          refine lv_aload_n hx hb dX3_binds_73 rfl (lv_at hl 2 rfl) ?_
          refine m_get hx hb hts hown hK hP 0 (by decide) q1728 rfl dX3_binds_74 ?_
          refine lv_bipush (v := 51) hx hb dX3_binds_77 (by decide) ?_
          refine lv_iload_n hx hb dX3_binds_79 rfl (lv_at hl 4 rfl) ?_
          refine lv_iadd hx hb dX3_binds_80 ?_
          obtain ⟨h_13, hw⟩ := hw
          refine m_iald (j := (Int32.toNatClampNeg (51 + x2))) hx hb hK hP 0 1 113 rfl rfl h_13 dX3_binds_81 ?_
          refine lv_iadd hx hb dX3_binds_82 ?_
          obtain ⟨h_14, hw⟩ := hw
          refine m_iald (j := (Int32.toNatClampNeg (2 + (R 0 (Int32.toNatClampNeg (51 + x2)))))) hx hb hK hP 0 1 113 rfl rfl h_14 dX3_binds_83 ?_
          refine lv_i2l hx hb dX3_binds_84 rfl ?_
          refine lv_lmul hx hb dX3_binds_85 ?_
          refine lv_aload_n hx hb dX3_binds_86 rfl (lv_at hl 2 rfl) ?_
          refine m_get hx hb hts hown hK hP 11 (by decide) q1739 rfl dX3_binds_87 ?_
          refine lv_iload hx hb dX3_binds_90 (lv_at hl 0 rfl) ?_
          obtain ⟨h_15, hw⟩ := hw
          refine m_lald (j := (Int32.toNatClampNeg x4_9)) hx hb hK hP 11 8 12 rfl rfl h_15 dX3_binds_92 ?_
          refine lv_lmul hx hb dX3_binds_93 ?_
          refine lv_topl (fun x5_16 ex5_16 => ?_)
          have hw := hw x5_16 ex5_16
          refine lv_lstore (lv' := [(5, .long x5_16), (4, .int x4_9), (3, .int x3_6), (0, .ref h), (1, .int x1), (2, .int x2)]) hx hb dX3_binds_94 hl (by decide) rfl (fun ls hl => ?_)
          refine lv_aload_n hx hb dX3_binds_96 rfl (lv_at hl 3 rfl) ?_
          refine m_get hx hb hts hown hK hP 10 (by decide) q1738 rfl dX3_binds_97 ?_
          refine lv_iload hx hb dX3_binds_100 (lv_at hl 1 rfl) ?_
          obtain ⟨h_17, hw⟩ := hw
          refine m_lald (j := (Int32.toNatClampNeg x4_9)) hx hb hK hP 10 7 12 rfl rfl h_17 dX3_binds_102 ?_
          refine lv_aload_n hx hb dX3_binds_103 rfl (lv_at hl 3 rfl) ?_
          refine m_get hx hb hts hown hK hP 0 (by decide) q1728 rfl dX3_binds_104 ?_
          refine lv_iconst (v := 2) hx hb dX3_binds_107 (by decide) ?_
          refine lv_aload_n hx hb dX3_binds_108 rfl (lv_at hl 3 rfl) ?_
          refine m_get hx hb hts hown hK hP 0 (by decide) q1728 rfl dX3_binds_109 ?_
          refine lv_bipush (v := 67) hx hb dX3_binds_112 (by decide) ?_
          refine lv_iload_n hx hb dX3_binds_114 rfl (lv_at hl 5 rfl) ?_
          refine lv_iadd hx hb dX3_binds_115 ?_
          obtain ⟨h_18, hw⟩ := hw
          refine m_iald (j := (Int32.toNatClampNeg (67 + x2))) hx hb hK hP 0 1 113 rfl rfl h_18 dX3_binds_116 ?_
          refine lv_iadd hx hb dX3_binds_117 ?_
          obtain ⟨h_19, hw⟩ := hw
          refine m_iald (j := (Int32.toNatClampNeg (2 + (R 0 (Int32.toNatClampNeg (67 + x2)))))) hx hb hK hP 0 1 113 rfl rfl h_19 dX3_binds_118 ?_
          refine lv_i2l hx hb dX3_binds_119 rfl ?_
          refine lv_lmul hx hb dX3_binds_120 ?_
          refine lv_aload_n hx hb dX3_binds_121 rfl (lv_at hl 3 rfl) ?_
          refine m_get hx hb hts hown hK hP 11 (by decide) q1739 rfl dX3_binds_122 ?_
          refine lv_iload_n hx hb dX3_binds_125 rfl (lv_at hl 2 rfl) ?_
          obtain ⟨h_20, hw⟩ := hw
          refine m_lald (j := (Int32.toNatClampNeg x3_6)) hx hb hK hP 11 8 12 rfl rfl h_20 dX3_binds_126 ?_
          refine lv_lmul hx hb dX3_binds_127 ?_
          refine lv_topl (fun x7_21 ex7_21 => ?_)
          have hw := hw x7_21 ex7_21
          refine lv_lstore (lv' := [(7, .long x7_21), (5, .long x5_16), (4, .int x4_9), (3, .int x3_6), (0, .ref h), (1, .int x1), (2, .int x2)]) hx hb dX3_binds_128 hl (by decide) rfl (fun ls hl => ?_)
          refine lv_iload_n hx hb dX3_binds_130 rfl (lv_at hl 5 rfl) ?_
          refine lv_if_ne (tgt := 143) hx hb dX3_binds_131 (by decide) (fun c_22 => ?_) (fun c_22 => ?_)
          · have hw := hw.2 (c_22)
            exact T143 _ ih x2 F R L G _ _ ls hP hS (lv_sub hl [4, 6] rfl) hw
          · have hw := hw.1 (c_22)
            refine lv_lload hx hb dX3_binds_134 (lv_at hl 1 rfl) ?_
            refine lv_lload hx hb dX3_binds_136 (lv_at hl 0 rfl) ?_
            refine lv_lneg hx hb dX3_binds_138 ?_
            refine W.lcmp hx hb dX3_binds_139 ?_
            refine lv_if_eq (tgt := 147) hx hb dX3_binds_140 (by decide) (fun c_23 => ?_) (fun c_23 => ?_)
            · rw [lc_eq] at c_23
              have hw := hw.1 c_23
              refine lv_iconst (v := 0) hx hb dX3_binds_147 (by decide) ?_
              exact T148 _ ih x2 0 F R L G _ _ ls hP hS (lv_sub hl [4, 6] rfl) hw
            · rw [lc_eq] at c_23
              have hw := hw.2 c_23
              exact T143 _ ih x2 F R L G _ _ ls hP hS (lv_sub hl [4, 6] rfl) hw
  unfold wpX3_binds at hw
  refine lv_iconst (v := 0) hx hb dX3_binds_0 (by decide) ?_
  refine lv_istore_n (lv' := [(1, .int 0), (0, .ref h)]) hx hb dX3_binds_1 rfl hl (by decide) rfl (fun ls hl => ?_)
  refine lv_iconst (v := 0) hx hb dX3_binds_2 (by decide) ?_
  refine lv_istore_n (lv' := [(2, .int 0), (1, .int 0), (0, .ref h)]) hx hb dX3_binds_3 rfl hl (by decide) rfl (fun ls hl => ?_)
  obtain ⟨fu, hw⟩ := hw
  exact T4 fu 0 0 F R L G _ _ ls hP hS (lv_sub hl [2, 1, 0] rfl) hw
def wpX3_reason (post : Int32 → mF → mR → mL → mG → Prop) (F : mF) (R : mR) (L : mL) (G : mG) (p1 : Int32) (p2 : Int32) : Prop := (vp_in (26 + p1) 113 ∧ (vp_in (26 + p2) 113 ∧ (((R 0 (Int32.toNatClampNeg (26 + p1))) = (R 0 (Int32.toNatClampNeg (26 + p2))) → post 1 F R L G) ∧ (¬ (R 0 (Int32.toNatClampNeg (26 + p1))) = (R 0 (Int32.toNatClampNeg (26 + p2))) → wpX3_arePair (fun r_4 F_5 R_6 L_7 G_8 => ((r_4 = 0 → (((R_6 0 50) = 16 → post 3 F_5 R_6 L_7 G_8) ∧ (¬ (R_6 0 50) = 16 → wpX3_adds (fun F_11 R_12 L_13 G_14 => wpX3_drives (fun r_15 F_16 R_17 L_18 G_19 => ((r_15 = 0 → post 4 F_16 R_17 L_18 G_19) ∧ (¬ r_15 = 0 → wpX3_binds (fun r_21 F_22 R_23 L_24 G_25 => ((r_21 = 0 → post 0 F_22 R_23 L_24 G_25) ∧ (¬ r_21 = 0 → post 5 F_22 R_23 L_24 G_25))) F_16 R_17 L_18 G_19))) F_11 R_12 L_13 G_14) F_5 R_6 L_7 G_8 p1 p2))) ∧ (¬ r_4 = 0 → post 2 F_5 R_6 L_7 G_8))) F R L G p1 p2))))
abbrev wsX3_reason : List Cond := ws_ yX3_reason cX3_reason 3 (some .int)
set_option maxHeartbeats 8000000 in
theorem metX3_reason (l : Launch) (K : KT) (h : Nat) (a : Nat → Nat) (hap : mAp h a) (post : Int32 → mF → mR → mL → mG → Prop) (F : mF) (R : mR) (L : mL) (G : mG) (p1 : Int32) (p2 : Int32) : Met l yX3_reason wsX3_reason (rmo 3 85) (mPre K h a F R L G [.int p1, .int p2] (wpX3_reason post F R L G p1 p2)) (mQi post K h a) 0 0 (mA h a) := by
  refine Met.ofW (cc := cX3_reason) (maxL := 3) (ret := (some .int)) (by decide) rfl ?_
  intro p e s m args below meth c s₁ B hml hv
  obtain ⟨rfl, hP, hK, hw⟩ := hv
  have hx := B.exec
  have hb := B.bytes
  have hr := B.returns
  have hts := atoms_spec (ws := wsX3_reason) B.pre
  have hts : ∀ w ∈ lw_all, w.before _ s = true := fun w h => hts w (List.mem_cons_of_mem _ h)
  have hown : s.vm.findClass RX3 = some m.cls := findClass_of_methodNamed B.named
  have hlocks := B.notSynchronized
  have hl := lv_entry ([.ref h, .int p1, .int p2]) (n := 3) (Nat.le_of_ble_eq_true rfl)
  rw [lg_entry_eq]
  generalize (lg_sl ([.ref h, .int p1, .int p2]) ++ List.replicate (3 - (lg_sl ([.ref h, .int p1, .int p2])).length) Slot.unset).toArray = ls at hl ⊢
  have hl : lv_has ls 3 [(0, .ref h), (1, .int p1), (2, .int p2)] := hl
  have hS : va_S (mA h a) s.heap s.heap [] := va_S.rf
  unfold wpX3_reason at hw
  refine lv_aload_n hx hb dX3_reason_0 rfl (lv_at hl 0 rfl) ?_
  refine m_get hx hb hts hown hK hP 0 (by decide) q1728 rfl dX3_reason_1 ?_
  refine lv_bipush (v := 26) hx hb dX3_reason_4 (by decide) ?_
  refine lv_iload_n hx hb dX3_reason_6 rfl (lv_at hl 1 rfl) ?_
  refine lv_iadd hx hb dX3_reason_7 ?_
  obtain ⟨h_1, hw⟩ := hw
  refine m_iald (j := (Int32.toNatClampNeg (26 + p1))) hx hb hK hP 0 1 113 rfl rfl h_1 dX3_reason_8 ?_
  refine lv_aload_n hx hb dX3_reason_9 rfl (lv_at hl 0 rfl) ?_
  refine m_get hx hb hts hown hK hP 0 (by decide) q1728 rfl dX3_reason_10 ?_
  refine lv_bipush (v := 26) hx hb dX3_reason_13 (by decide) ?_
  refine lv_iload_n hx hb dX3_reason_15 rfl (lv_at hl 2 rfl) ?_
  refine lv_iadd hx hb dX3_reason_16 ?_
  obtain ⟨h_2, hw⟩ := hw
  refine m_iald (j := (Int32.toNatClampNeg (26 + p2))) hx hb hK hP 0 1 113 rfl rfl h_2 dX3_reason_17 ?_
  refine lv_icmp_ne (tgt := 23) hx hb dX3_reason_18 (by decide) (fun c_3 => ?_) (fun c_3 => ?_)
  · have hw := hw.2 (c_3)
    refine lv_aload_n hx hb dX3_reason_23 rfl (lv_at hl 0 rfl) ?_
    refine lv_iload_n hx hb dX3_reason_24 rfl (lv_at hl 1 rfl) ?_
    refine lv_iload_n hx hb dX3_reason_25 rfl (lv_at hl 2 rfl) ?_
    refine m_calli (As := [.int p1, .int p2]) (rest := []) ⟨hx, hb, hml, hown, hts⟩ (metX3_arePair l K h a hap _ F R L G p1 p2) (cwV 2 hts (lw_V q1884 q1886 qs35 q85 q1887) rfl rfl rfl (by decide +kernel) ⟨Nat.le_of_ble_eq_true rfl, Nat.le_of_ble_eq_true rfl⟩) hK hP hS hw rfl hl.1 rfl (Nat.le_of_ble_eq_true rfl) dX3_reason_26 ⟨Nat.le_refl _, Nat.le_refl _⟩ (fun r_4 F_5 R_6 L_7 G_8 H locs hw hP hS => ?_)
    refine lv_if_eq (tgt := 34) hx hb dX3_reason_29 (by decide) (fun c_9 => ?_) (fun c_9 => ?_)
    · have hw := hw.1 c_9
      refine lv_aload_n hx hb dX3_reason_34 rfl (lv_at hl 0 rfl) ?_
      refine m_get hx hb hts hown hK hP 0 (by decide) q1728 rfl dX3_reason_35 ?_
      refine lv_bipush (v := 50) hx hb dX3_reason_38 (by decide) ?_
      refine m_iald (j := 50) hx hb hK hP 0 1 113 rfl (by decide) (vpd (by decide)) dX3_reason_40 ?_
      refine lv_bipush (v := 16) hx hb dX3_reason_41 (by decide) ?_
      refine lv_icmp_ne (tgt := 48) hx hb dX3_reason_43 (by decide) (fun c_10 => ?_) (fun c_10 => ?_)
      · have hw := hw.2 (c_10)
        refine lv_aload_n hx hb dX3_reason_48 rfl (lv_at hl 0 rfl) ?_
        refine lv_iload_n hx hb dX3_reason_49 rfl (lv_at hl 1 rfl) ?_
        refine lv_iload_n hx hb dX3_reason_50 rfl (lv_at hl 2 rfl) ?_
        refine m_callv (As := [.int p1, .int p2]) (rest := []) ⟨hx, hb, hml, hown, hts⟩ (metX3_adds l K h a hap _ F_5 R_6 L_7 G_8 p1 p2) (cwV 2 hts (lw_V q1888 q1890 qs36 q85 q1891) rfl rfl rfl (by decide +kernel) ⟨Nat.le_of_ble_eq_true rfl, Nat.le_of_ble_eq_true rfl⟩) hK hP hS hw rfl hl.1 rfl (Nat.le_of_ble_eq_true rfl) dX3_reason_51 ⟨Nat.le_refl _, Nat.le_refl _⟩ (fun F_11 R_12 L_13 G_14 H locs hw hP hS => ?_)
        refine lv_aload_n hx hb dX3_reason_54 rfl (lv_at hl 0 rfl) ?_
        refine m_calli (As := []) (rest := []) ⟨hx, hb, hml, hown, hts⟩ (metX3_drives l K h a hap _ F_11 R_12 L_13 G_14) (cwV 0 hts (lw_V q1892 q1894 qs37 q85 q1895) rfl rfl rfl (by decide +kernel) ⟨Nat.le_of_ble_eq_true rfl, Nat.le_of_ble_eq_true rfl⟩) hK hP hS hw rfl hl.1 rfl (Nat.le_of_ble_eq_true rfl) dX3_reason_55 ⟨Nat.le_refl _, Nat.le_refl _⟩ (fun r_15 F_16 R_17 L_18 G_19 H locs hw hP hS => ?_)
        refine lv_if_ne (tgt := 65) hx hb dX3_reason_58 (by decide) (fun c_20 => ?_) (fun c_20 => ?_)
        · have hw := hw.2 (c_20)
          refine lv_aload_n hx hb dX3_reason_65 rfl (lv_at hl 0 rfl) ?_
          refine m_calli (As := []) (rest := []) ⟨hx, hb, hml, hown, hts⟩ (metX3_binds l K h a hap _ F_16 R_17 L_18 G_19) (cwV 0 hts (lw_V q1903 q1905 qs39 q85 q1906) rfl rfl rfl (by decide +kernel) ⟨Nat.le_of_ble_eq_true rfl, Nat.le_of_ble_eq_true rfl⟩) hK hP hS hw rfl hl.1 rfl (Nat.le_of_ble_eq_true rfl) dX3_reason_66 ⟨Nat.le_refl _, Nat.le_refl _⟩ (fun r_21 F_22 R_23 L_24 G_25 H locs hw hP hS => ?_)
          refine lv_if_eq (tgt := 76) hx hb dX3_reason_69 (by decide) (fun c_26 => ?_) (fun c_26 => ?_)
          · have hw := hw.1 c_26
            refine lv_iconst (v := 0) hx hb dX3_reason_76 (by decide) ?_
            exact m_iret hx hb hr hlocks hP hS dX3_reason_77 hw
          · have hw := hw.2 c_26
            refine lv_iconst (v := 5) hx hb dX3_reason_72 (by decide) ?_
            refine lv_goto (tgt := 77) hx hb dX3_reason_73 (by decide) ?_
            exact m_iret hx hb hr hlocks hP hS dX3_reason_77 hw
        · have hw := hw.1 (c_20)
          refine lv_iconst (v := 4) hx hb dX3_reason_61 (by decide) ?_
          refine lv_goto (tgt := 77) hx hb dX3_reason_62 (by decide) ?_
          exact m_iret hx hb hr hlocks hP hS dX3_reason_77 hw
      · have hw := hw.1 (c_10)
        refine lv_iconst (v := 3) hx hb dX3_reason_46 (by decide) ?_
        exact m_iret hx hb hr hlocks hP hS dX3_reason_47 hw
    · have hw := hw.2 c_9
      refine lv_iconst (v := 2) hx hb dX3_reason_32 (by decide) ?_
      exact m_iret hx hb hr hlocks hP hS dX3_reason_33 hw
  · have hw := hw.1 (c_3)
    refine lv_iconst (v := 1) hx hb dX3_reason_21 (by decide) ?_
    exact m_iret hx hb hr hlocks hP hS dX3_reason_22 hw
def wpX3_drivenNow (post : Int32 → mF → mR → mL → mG → Prop) (F : mF) (R : mR) (L : mL) (G : mG) : Prop := wpX3_drives (fun r_1 F_2 R_3 L_4 G_5 => post (F_2 13) F_2 R_3 L_4 G_5) F R L G
abbrev wsX3_drivenNow : List Cond := ws_ yX3_drivenNow cX3_drivenNow 1 (some .int)
set_option maxHeartbeats 8000000 in
theorem metX3_drivenNow (l : Launch) (K : KT) (h : Nat) (a : Nat → Nat) (hap : mAp h a) (post : Int32 → mF → mR → mL → mG → Prop) (F : mF) (R : mR) (L : mL) (G : mG) : Met l yX3_drivenNow wsX3_drivenNow (rmo 3 85) (mPre K h a F R L G [] (wpX3_drivenNow post F R L G )) (mQi post K h a) 0 0 (mA h a) := by
  refine Met.ofW (cc := cX3_drivenNow) (maxL := 1) (ret := (some .int)) (by decide) rfl ?_
  intro p e s m args below meth c s₁ B hml hv
  obtain ⟨rfl, hP, hK, hw⟩ := hv
  have hx := B.exec
  have hb := B.bytes
  have hr := B.returns
  have hts := atoms_spec (ws := wsX3_drivenNow) B.pre
  have hts : ∀ w ∈ lw_all, w.before _ s = true := fun w h => hts w (List.mem_cons_of_mem _ h)
  have hown : s.vm.findClass RX3 = some m.cls := findClass_of_methodNamed B.named
  have hlocks := B.notSynchronized
  have hl := lv_entry ([.ref h]) (n := 1) (Nat.le_of_ble_eq_true rfl)
  rw [lg_entry_eq]
  generalize (lg_sl ([.ref h]) ++ List.replicate (1 - (lg_sl ([.ref h])).length) Slot.unset).toArray = ls at hl ⊢
  have hl : lv_has ls 1 [(0, .ref h)] := hl
  have hS : va_S (mA h a) s.heap s.heap [] := va_S.rf
  unfold wpX3_drivenNow at hw
  refine lv_aload_n hx hb dX3_drivenNow_0 rfl (lv_at hl 0 rfl) ?_
  refine m_calli (As := []) (rest := []) ⟨hx, hb, hml, hown, hts⟩ (metX3_drives l K h a hap _ F R L G) (cwV 0 hts (lw_V q1892 q1894 qs37 q85 q1895) rfl rfl rfl (by decide +kernel) ⟨Nat.le_of_ble_eq_true rfl, Nat.le_of_ble_eq_true rfl⟩) hK hP hS hw rfl hl.1 rfl (Nat.le_of_ble_eq_true rfl) dX3_drivenNow_1 ⟨Nat.le_refl _, Nat.le_refl _⟩ (fun r_1 F_2 R_3 L_4 G_5 H locs hw hP hS => ?_)
  refine lv_pop hx hb dX3_drivenNow_4 rfl ?_
  refine lv_aload_n hx hb dX3_drivenNow_5 rfl (lv_at hl 0 rfl) ?_
  refine m_get hx hb hts hown hK hP 13 (by decide) q1741 rfl dX3_drivenNow_6 ?_
  exact m_iret hx hb hr hlocks hP hS dX3_drivenNow_9 hw
def wpX3_goMesh (post : Int32 → mF → mR → mL → mG → Prop) (F : mF) (R : mR) (L : mL) (G : mG) (p1 : Int32) (p2 : Int32) : Prop := wpX3_areWheels (fun r_1 F_2 R_3 L_4 G_5 => ((r_1 = 0 → post (-100001) F_2 R_3 L_4 G_5) ∧ (¬ r_1 = 0 → wpX3_reason (fun r_7 F_8 R_9 L_10 G_11 => ((r_7 ≤ 0 → wpX3_drivenNow (fun r_13 F_14 R_15 L_16 G_17 => post r_13 F_14 R_15 L_16 G_17) F_8 R_9 L_10 G_11) ∧ (¬ r_7 ≤ 0 → post (-100002) F_8 R_9 L_10 G_11))) F_2 R_3 L_4 G_5 p1 p2))) F R L G p1 p2
abbrev wsX3_goMesh : List Cond := ws_ yX3_goMesh cX3_goMesh 3 (some .int)
set_option maxHeartbeats 8000000 in
theorem metX3_goMesh (l : Launch) (K : KT) (h : Nat) (a : Nat → Nat) (hap : mAp h a) (post : Int32 → mF → mR → mL → mG → Prop) (F : mF) (R : mR) (L : mL) (G : mG) (p1 : Int32) (p2 : Int32) : Met l yX3_goMesh wsX3_goMesh (rmo 4 107) (mPre K h a F R L G [.int p1, .int p2] (wpX3_goMesh post F R L G p1 p2)) (mQi post K h a) 0 0 (mA h a) := by
  refine Met.ofW (cc := cX3_goMesh) (maxL := 3) (ret := (some .int)) (by decide) rfl ?_
  intro p e s m args below meth c s₁ B hml hv
  obtain ⟨rfl, hP, hK, hw⟩ := hv
  have hx := B.exec
  have hb := B.bytes
  have hr := B.returns
  have hts := atoms_spec (ws := wsX3_goMesh) B.pre
  have hts : ∀ w ∈ lw_all, w.before _ s = true := fun w h => hts w (List.mem_cons_of_mem _ h)
  have hown : s.vm.findClass RX3 = some m.cls := findClass_of_methodNamed B.named
  have hlocks := B.notSynchronized
  have hl := lv_entry ([.ref h, .int p1, .int p2]) (n := 3) (Nat.le_of_ble_eq_true rfl)
  rw [lg_entry_eq]
  generalize (lg_sl ([.ref h, .int p1, .int p2]) ++ List.replicate (3 - (lg_sl ([.ref h, .int p1, .int p2])).length) Slot.unset).toArray = ls at hl ⊢
  have hl : lv_has ls 3 [(0, .ref h), (1, .int p1), (2, .int p2)] := hl
  have hS : va_S (mA h a) s.heap s.heap [] := va_S.rf
  unfold wpX3_goMesh at hw
  refine lv_aload_n hx hb dX3_goMesh_0 rfl (lv_at hl 0 rfl) ?_
  refine lv_iload_n hx hb dX3_goMesh_1 rfl (lv_at hl 1 rfl) ?_
  refine lv_iload_n hx hb dX3_goMesh_2 rfl (lv_at hl 2 rfl) ?_
  refine m_calli (As := [.int p1, .int p2]) (rest := []) ⟨hx, hb, hml, hown, hts⟩ (metX3_areWheels l K h a hap _ F R L G p1 p2) (cwV 2 hts (lw_V q1872 q1874 qs32 q85 q1875) rfl rfl rfl (by decide +kernel) ⟨Nat.le_of_ble_eq_true rfl, Nat.le_of_ble_eq_true rfl⟩) hK hP hS hw rfl hl.1 rfl (Nat.le_of_ble_eq_true rfl) dX3_goMesh_3 ⟨Nat.le_refl _, Nat.le_refl _⟩ (fun r_1 F_2 R_3 L_4 G_5 H locs hw hP hS => ?_)
  refine lv_if_ne (tgt := 12) hx hb dX3_goMesh_6 (by decide) (fun c_6 => ?_) (fun c_6 => ?_)
  · have hw := hw.2 (c_6)
    refine lv_aload_n hx hb dX3_goMesh_12 rfl (lv_at hl 0 rfl) ?_
    refine lv_iload_n hx hb dX3_goMesh_13 rfl (lv_at hl 1 rfl) ?_
    refine lv_iload_n hx hb dX3_goMesh_14 rfl (lv_at hl 2 rfl) ?_
    refine m_calli (As := [.int p1, .int p2]) (rest := []) ⟨hx, hb, hml, hown, hts⟩ (metX3_reason l K h a hap _ F_2 R_3 L_4 G_5 p1 p2) (cwV 2 hts (lw_V q1880 q1882 qs34 q85 q1883) rfl rfl rfl (by decide +kernel) ⟨Nat.le_of_ble_eq_true rfl, Nat.le_of_ble_eq_true rfl⟩) hK hP hS hw rfl hl.1 rfl (Nat.le_of_ble_eq_true rfl) dX3_goMesh_15 ⟨Nat.le_refl _, Nat.le_refl _⟩ (fun r_7 F_8 R_9 L_10 G_11 H locs hw hP hS => ?_)
    refine lv_if_le (tgt := 26) hx hb dX3_goMesh_18 (by decide) (fun c_12 => ?_) (fun c_12 => ?_)
    · have hw := hw.1 c_12
      refine lv_aload_n hx hb dX3_goMesh_26 rfl (lv_at hl 0 rfl) ?_
      refine m_calli (As := []) (rest := []) ⟨hx, hb, hml, hown, hts⟩ (metX3_drivenNow l K h a hap _ F_8 R_9 L_10 G_11) (cwV 0 hts (lw_V q1907 q1909 qs40 q85 q1910) rfl rfl rfl (by decide +kernel) ⟨Nat.le_of_ble_eq_true rfl, Nat.le_of_ble_eq_true rfl⟩) hK hP hS hw rfl hl.1 rfl (Nat.le_of_ble_eq_true rfl) dX3_goMesh_27 ⟨Nat.le_refl _, Nat.le_refl _⟩ (fun r_13 F_14 R_15 L_16 G_17 H locs hw hP hS => ?_)
      exact m_iret hx hb hr hlocks hP hS dX3_goMesh_30 hw
    · have hw := hw.2 c_12
      refine lv_ldc hx hb hown (hts _ q1832) dX3_goMesh_21 ?_
      refine lv_goto (tgt := 30) hx hb dX3_goMesh_23 (by decide) ?_
      exact m_iret hx hb hr hlocks hP hS dX3_goMesh_30 hw
  · have hw := hw.1 (c_6)
    refine lv_ldc hx hb hown (hts _ q1837) dX3_goMesh_9 ?_
    exact m_iret hx hb hr hlocks hP hS dX3_goMesh_11 hw
def wpX3_mesh (post : Int32 → mF → mR → mL → mG → Prop) (F : mF) (R : mR) (L : mL) (G : mG) (p1 : Int32) (p2 : Int32) : Prop := wpX3_begins (fun F_1 R_2 L_3 G_4 => wpX3_goMesh (fun r_5 F_6 R_7 L_8 G_9 => wpX3_ends (fun r_10 F_11 R_12 L_13 G_14 => post r_10 F_11 R_12 L_13 G_14) F_6 R_7 L_8 G_9 r_5) F_1 R_2 L_3 G_4 p1 p2) F R L G
abbrev wsX3_mesh : List Cond := ws_ yX3_mesh cX3_mesh 3 (some .int)
set_option maxHeartbeats 8000000 in
theorem metX3_mesh (l : Launch) (K : KT) (h : Nat) (a : Nat → Nat) (hap : mAp h a) (post : Int32 → mF → mR → mL → mG → Prop) (F : mF) (R : mR) (L : mL) (G : mG) (p1 : Int32) (p2 : Int32) : Met l yX3_mesh wsX3_mesh (rmo 5 129) (mPre K h a F R L G [.int p1, .int p2] (wpX3_mesh post F R L G p1 p2)) (mQi post K h a) 0 0 (mA h a) := by
  refine Met.ofW (cc := cX3_mesh) (maxL := 3) (ret := (some .int)) (by decide) rfl ?_
  intro p e s m args below meth c s₁ B hml hv
  obtain ⟨rfl, hP, hK, hw⟩ := hv
  have hx := B.exec
  have hb := B.bytes
  have hr := B.returns
  have hts := atoms_spec (ws := wsX3_mesh) B.pre
  have hts : ∀ w ∈ lw_all, w.before _ s = true := fun w h => hts w (List.mem_cons_of_mem _ h)
  have hown : s.vm.findClass RX3 = some m.cls := findClass_of_methodNamed B.named
  have hlocks := B.notSynchronized
  have hl := lv_entry ([.ref h, .int p1, .int p2]) (n := 3) (Nat.le_of_ble_eq_true rfl)
  rw [lg_entry_eq]
  generalize (lg_sl ([.ref h, .int p1, .int p2]) ++ List.replicate (3 - (lg_sl ([.ref h, .int p1, .int p2])).length) Slot.unset).toArray = ls at hl ⊢
  have hl : lv_has ls 3 [(0, .ref h), (1, .int p1), (2, .int p2)] := hl
  have hS : va_S (mA h a) s.heap s.heap [] := va_S.rf
  unfold wpX3_mesh at hw
  refine lv_aload_n hx hb dX3_mesh_0 rfl (lv_at hl 0 rfl) ?_
  refine m_callv (As := []) (rest := []) ⟨hx, hb, hml, hown, hts⟩ (metX3_begins l K h a hap _ F R L G) (cwV 0 hts (lw_V q1821 q1823 qs24 q85 q1824) rfl rfl rfl (by decide +kernel) ⟨Nat.le_of_ble_eq_true rfl, Nat.le_of_ble_eq_true rfl⟩) hK hP hS hw rfl hl.1 rfl (Nat.le_of_ble_eq_true rfl) dX3_mesh_1 ⟨Nat.le_refl _, Nat.le_refl _⟩ (fun F_1 R_2 L_3 G_4 H locs hw hP hS => ?_)
  refine lv_aload_n hx hb dX3_mesh_4 rfl (lv_at hl 0 rfl) ?_
  refine lv_aload_n hx hb dX3_mesh_5 rfl (lv_at hl 0 rfl) ?_
  refine lv_iload_n hx hb dX3_mesh_6 rfl (lv_at hl 1 rfl) ?_
  refine lv_iload_n hx hb dX3_mesh_7 rfl (lv_at hl 2 rfl) ?_
  refine m_calli (As := [.int p1, .int p2]) (rest := [.ref h]) ⟨hx, hb, hml, hown, hts⟩ (metX3_goMesh l K h a hap _ F_1 R_2 L_3 G_4 p1 p2) (cwV 2 hts (lw_V q1868 q1870 qs31 q85 q1871) rfl rfl rfl (by decide +kernel) ⟨Nat.le_of_ble_eq_true rfl, Nat.le_of_ble_eq_true rfl⟩) hK hP hS hw rfl hl.1 rfl (Nat.le_of_ble_eq_true rfl) dX3_mesh_8 ⟨Nat.le_refl _, Nat.le_refl _⟩ (fun r_5 F_6 R_7 L_8 G_9 H locs hw hP hS => ?_)
  refine m_calli (As := [.int r_5]) (rest := []) ⟨hx, hb, hml, hown, hts⟩ (metX3_ends l K h a hap _ F_6 R_7 L_8 G_9 r_5) (cwV 1 hts (lw_V q1833 q1835 qs26 q85 q1836) rfl rfl rfl (by decide +kernel) ⟨Nat.le_of_ble_eq_true rfl, Nat.le_of_ble_eq_true rfl⟩) hK hP hS hw rfl hl.1 rfl (Nat.le_of_ble_eq_true rfl) dX3_mesh_11 ⟨Nat.le_refl _, Nat.le_refl _⟩ (fun r_10 F_11 R_12 L_13 G_14 H locs hw hP hS => ?_)
  exact m_iret hx hb hr hlocks hP hS dX3_mesh_14 hw
def wpX3_isPair (post : Int32 → mF → mR → mL → mG → Prop) (F : mF) (R : mR) (L : mL) (G : mG) (p1 : Int32) : Prop := wpX3_in (fun r_1 => ((r_1 = 0 ∨ r_1 = 1) ∧ post r_1 F R L G)) p1 0 ((R 0 50) - 1)
abbrev wsX3_isPair : List Cond := ws_ yX3_isPair cX3_isPair 2 (some .boolean)
set_option maxHeartbeats 8000000 in
theorem metX3_isPair (l : Launch) (K : KT) (h : Nat) (a : Nat → Nat) (hap : mAp h a) (post : Int32 → mF → mR → mL → mG → Prop) (F : mF) (R : mR) (L : mL) (G : mG) (p1 : Int32) : Met l yX3_isPair wsX3_isPair (rmo 1 22) (mPre K h a F R L G [.int p1] (wpX3_isPair post F R L G p1)) (mQi post K h a) 0 0 (mA h a) := by
  refine Met.ofW (cc := cX3_isPair) (maxL := 2) (ret := (some .boolean)) (by decide) rfl ?_
  intro p e s m args below meth c s₁ B hml hv
  obtain ⟨rfl, hP, hK, hw⟩ := hv
  have hx := B.exec
  have hb := B.bytes
  have hr := B.returns
  have hts := atoms_spec (ws := wsX3_isPair) B.pre
  have hts : ∀ w ∈ lw_all, w.before _ s = true := fun w h => hts w (List.mem_cons_of_mem _ h)
  have hown : s.vm.findClass RX3 = some m.cls := findClass_of_methodNamed B.named
  have hlocks := B.notSynchronized
  have hl := lv_entry ([.ref h, .int p1]) (n := 2) (Nat.le_of_ble_eq_true rfl)
  rw [lg_entry_eq]
  generalize (lg_sl ([.ref h, .int p1]) ++ List.replicate (2 - (lg_sl ([.ref h, .int p1])).length) Slot.unset).toArray = ls at hl ⊢
  have hl : lv_has ls 2 [(0, .ref h), (1, .int p1)] := hl
  have hS : va_S (mA h a) s.heap s.heap [] := va_S.rf
  unfold wpX3_isPair at hw
  refine lv_iload_n hx hb dX3_isPair_0 rfl (lv_at hl 1 rfl) ?_
  refine lv_iconst (v := 0) hx hb dX3_isPair_1 (by decide) ?_
  refine lv_aload_n hx hb dX3_isPair_2 rfl (lv_at hl 0 rfl) ?_
  refine m_get hx hb hts hown hK hP 0 (by decide) q1728 rfl dX3_isPair_3 ?_
  refine lv_bipush (v := 50) hx hb dX3_isPair_6 (by decide) ?_
  refine m_iald (j := 50) hx hb hK hP 0 1 113 rfl (by decide) (vpd (by decide)) dX3_isPair_8 ?_
  refine lv_iconst (v := 1) hx hb dX3_isPair_9 (by decide) ?_
  refine lv_isub hx hb dX3_isPair_10 ?_
  refine s_calli (As := [.int p1, .int 0, .int ((R 0 50) - 1)]) (rest := []) ⟨hx, hb, hml, hown, hts⟩ (metX3_in l _ p1 0 ((R 0 50) - 1)) (va_cwS 3 hts (lw_S q1858 q1859 q85 q1860) rfl rfl rfl (by decide +kernel) ⟨Nat.le_of_ble_eq_true rfl, Nat.le_of_ble_eq_true rfl⟩) hw rfl hl.1 rfl (Nat.le_of_ble_eq_true rfl) dX3_isPair_11 ⟨Nat.le_refl _, Nat.le_refl _⟩ (fun r_1 hw => ?_)
  obtain ⟨h_2, hw⟩ := hw
  exact m_zret hx hb hr hlocks hP hS dX3_isPair_14 h_2 hw
def wpX3_goUnmesh_24 (post : Int32 → mF → mR → mL → mG → Prop) : Nat → Int32 → mF → mR → mL → mG → Prop
  | 0 => fun _ _ _ _ _ => False
  | n + 1 => fun x2 F R L G => (((R 0 50) ≤ x2 → (vp_in (51 + (R 0 50)) 113 ∧ (∀ R_3 : mR, R_3 = va_up R 0 (upd (R 0) (Int32.toNatClampNeg (51 + (R 0 50))) 0) → (vp_in (67 + (R_3 0 50)) 113 ∧ (∀ R_5 : mR, R_5 = va_up R_3 0 (upd (R_3 0) (Int32.toNatClampNeg (67 + (R_3 0 50))) 0) → wpX3_drives (fun r_6 F_7 R_8 L_9 G_10 => ((r_6 = 0 → post (-100002) F_7 R_8 L_9 G_10) ∧ (¬ r_6 = 0 → post (F_7 13) F_7 R_8 L_9 G_10))) F R_5 L G))))) ∧ (¬ (R 0 50) ≤ x2 → (vp_in ((51 + x2) + 1) 113 ∧ (vp_in (51 + x2) 113 ∧ (∀ R_14 : mR, R_14 = va_up R 0 (upd (R 0) (Int32.toNatClampNeg (51 + x2)) (R 0 (Int32.toNatClampNeg ((51 + x2) + 1)))) → (vp_in ((67 + x2) + 1) 113 ∧ (vp_in (67 + x2) 113 ∧ (∀ R_17 : mR, R_17 = va_up R_14 0 (upd (R_14 0) (Int32.toNatClampNeg (67 + x2)) (R_14 0 (Int32.toNatClampNeg ((67 + x2) + 1)))) → (∀ x2_18 : Int32, x2_18 = x2 + 1 → wpX3_goUnmesh_24 post n x2_18 F R_17 L G)))))))))
def wpX3_goUnmesh (post : Int32 → mF → mR → mL → mG → Prop) (F : mF) (R : mR) (L : mL) (G : mG) (p1 : Int32) : Prop := wpX3_isPair (fun r_19 F_20 R_21 L_22 G_23 => ((r_19 = 0 → post (-100001) F_20 R_21 L_22 G_23) ∧ (¬ r_19 = 0 → ∃ fu : Nat, wpX3_goUnmesh_24 post fu p1 F_20 (va_up R_21 0 (upd (R_21 0) 50 ((R_21 0 50) - 1))) L_22 G_23))) F R L G p1
abbrev wsX3_goUnmesh : List Cond := ws_ yX3_goUnmesh cX3_goUnmesh 3 (some .int)
set_option maxHeartbeats 8000000 in
theorem metX3_goUnmesh (l : Launch) (K : KT) (h : Nat) (a : Nat → Nat) (hap : mAp h a) (post : Int32 → mF → mR → mL → mG → Prop) (F : mF) (R : mR) (L : mL) (G : mG) (p1 : Int32) : Met l yX3_goUnmesh wsX3_goUnmesh (rmo 3 85) (mPre K h a F R L G [.int p1] (wpX3_goUnmesh post F R L G p1)) (mQi post K h a) 0 0 (mA h a) := by
  refine Met.ofW (cc := cX3_goUnmesh) (maxL := 3) (ret := (some .int)) (by decide) rfl ?_
  intro p e s m args below meth c s₁ B hml hv
  obtain ⟨rfl, hP, hK, hw⟩ := hv
  have hx := B.exec
  have hb := B.bytes
  have hr := B.returns
  have hts := atoms_spec (ws := wsX3_goUnmesh) B.pre
  have hts : ∀ w ∈ lw_all, w.before _ s = true := fun w h => hts w (List.mem_cons_of_mem _ h)
  have hown : s.vm.findClass RX3 = some m.cls := findClass_of_methodNamed B.named
  have hlocks := B.notSynchronized
  have hl := lv_entry ([.ref h, .int p1]) (n := 3) (Nat.le_of_ble_eq_true rfl)
  rw [lg_entry_eq]
  generalize (lg_sl ([.ref h, .int p1]) ++ List.replicate (3 - (lg_sl ([.ref h, .int p1])).length) Slot.unset).toArray = ls at hl ⊢
  have hl : lv_has ls 3 [(0, .ref h), (1, .int p1)] := hl
  have hS : va_S (mA h a) s.heap s.heap [] := va_S.rf
  have T24 : ∀ (n : Nat), ∀ (x2 : Int32) (F : mF) (R : mR) (L : mL) (G : mG) (H : Heap) (locs : List Loc) (ls : Array Slot), mP K h a F R L G H → va_S (mA h a) s.heap H locs → lv_has ls 3 [(0, .ref h), (2, .int x2)] → wpX3_goUnmesh_24 post n x2 F R L G → W p l e (rmo 3 85) s m ([.ref h, .int p1] : List Value).toArray below meth c H locs 0 0 (MQ below (mQi post K h a) ([.ref h, .int p1] : List Value).toArray s 0 0 (mA h a)) (F0 m 24 ls []) := by
    intro n
    induction n with
    | zero =>
      intro x2 F R L G H locs ls hP hS hl hw
      exact False.elim hw
    | succ n ih =>
      intro x2 F R L G H locs ls hP hS hl hw
      unfold wpX3_goUnmesh_24 at hw
      refine lv_iload_n hx hb dX3_goUnmesh_24 rfl (lv_at hl 1 rfl) ?_
      refine lv_aload_n hx hb dX3_goUnmesh_25 rfl (lv_at hl 0 rfl) ?_
      refine m_get hx hb hts hown hK hP 0 (by decide) q1728 rfl dX3_goUnmesh_26 ?_
      refine lv_bipush (v := 50) hx hb dX3_goUnmesh_29 (by decide) ?_
      refine m_iald (j := 50) hx hb hK hP 0 1 113 rfl (by decide) (vpd (by decide)) dX3_goUnmesh_31 ?_
      refine lv_icmp_ge (tgt := 81) hx hb dX3_goUnmesh_32 (by decide) (fun c_1 => ?_) (fun c_1 => ?_)
      · have hw := hw.1 c_1
        refine lv_aload_n hx hb dX3_goUnmesh_81 rfl (lv_at hl 0 rfl) ?_
        refine m_get hx hb hts hown hK hP 0 (by decide) q1728 rfl dX3_goUnmesh_82 ?_
        refine lv_bipush (v := 51) hx hb dX3_goUnmesh_85 (by decide) ?_
        refine lv_aload_n hx hb dX3_goUnmesh_87 rfl (lv_at hl 0 rfl) ?_
        refine m_get hx hb hts hown hK hP 0 (by decide) q1728 rfl dX3_goUnmesh_88 ?_
        refine lv_bipush (v := 50) hx hb dX3_goUnmesh_91 (by decide) ?_
        refine m_iald (j := 50) hx hb hK hP 0 1 113 rfl (by decide) (vpd (by decide)) dX3_goUnmesh_93 ?_
        refine lv_iadd hx hb dX3_goUnmesh_94 ?_
        refine lv_iconst (v := 0) hx hb dX3_goUnmesh_95 (by decide) ?_
        obtain ⟨h_2, hw⟩ := hw
        refine m_iast (j := (Int32.toNatClampNeg (51 + (R 0 50)))) hx hb hK hap hP hS 0 1 113 rfl rfl rfl h_2 dX3_goUnmesh_96 (fun H locs hP hS => ?_)
        obtain ⟨R_3, eR_3⟩ : ∃ y : mR, y = va_up R 0 (upd (R 0) (Int32.toNatClampNeg (51 + (R 0 50))) 0) := ⟨_, rfl⟩
        rw [← eR_3] at hP
        have hw := hw R_3 eR_3
        refine lv_aload_n hx hb dX3_goUnmesh_97 rfl (lv_at hl 0 rfl) ?_
        refine m_get hx hb hts hown hK hP 0 (by decide) q1728 rfl dX3_goUnmesh_98 ?_
        refine lv_bipush (v := 67) hx hb dX3_goUnmesh_101 (by decide) ?_
        refine lv_aload_n hx hb dX3_goUnmesh_103 rfl (lv_at hl 0 rfl) ?_
        refine m_get hx hb hts hown hK hP 0 (by decide) q1728 rfl dX3_goUnmesh_104 ?_
        refine lv_bipush (v := 50) hx hb dX3_goUnmesh_107 (by decide) ?_
        refine m_iald (j := 50) hx hb hK hP 0 1 113 rfl (by decide) (vpd (by decide)) dX3_goUnmesh_109 ?_
        refine lv_iadd hx hb dX3_goUnmesh_110 ?_
        refine lv_iconst (v := 0) hx hb dX3_goUnmesh_111 (by decide) ?_
        obtain ⟨h_4, hw⟩ := hw
        refine m_iast (j := (Int32.toNatClampNeg (67 + (R_3 0 50)))) hx hb hK hap hP hS 0 1 113 rfl rfl rfl h_4 dX3_goUnmesh_112 (fun H locs hP hS => ?_)
        obtain ⟨R_5, eR_5⟩ : ∃ y : mR, y = va_up R_3 0 (upd (R_3 0) (Int32.toNatClampNeg (67 + (R_3 0 50))) 0) := ⟨_, rfl⟩
        rw [← eR_5] at hP
        have hw := hw R_5 eR_5
        refine lv_aload_n hx hb dX3_goUnmesh_113 rfl (lv_at hl 0 rfl) ?_
        refine m_calli (As := []) (rest := []) ⟨hx, hb, hml, hown, hts⟩ (metX3_drives l K h a hap _ F R_5 L G) (cwV 0 hts (lw_V q1892 q1894 qs37 q85 q1895) rfl rfl rfl (by decide +kernel) ⟨Nat.le_of_ble_eq_true rfl, Nat.le_of_ble_eq_true rfl⟩) hK hP hS hw rfl hl.1 rfl (Nat.le_of_ble_eq_true rfl) dX3_goUnmesh_114 ⟨Nat.le_refl _, Nat.le_refl _⟩ (fun r_6 F_7 R_8 L_9 G_10 H locs hw hP hS => ?_)
        refine lv_if_eq (tgt := 127) hx hb dX3_goUnmesh_117 (by decide) (fun c_11 => ?_) (fun c_11 => ?_)
        · have hw := hw.1 c_11
          refine lv_ldc hx hb hown (hts _ q1832) dX3_goUnmesh_127 ?_
          exact m_iret hx hb hr hlocks hP hS dX3_goUnmesh_129 hw
        · have hw := hw.2 c_11
          refine lv_aload_n hx hb dX3_goUnmesh_120 rfl (lv_at hl 0 rfl) ?_
          refine m_get hx hb hts hown hK hP 13 (by decide) q1741 rfl dX3_goUnmesh_121 ?_
          refine lv_goto (tgt := 129) hx hb dX3_goUnmesh_124 (by decide) ?_
          exact m_iret hx hb hr hlocks hP hS dX3_goUnmesh_129 hw
      · have hw := hw.2 c_1
        refine lv_aload_n hx hb dX3_goUnmesh_35 rfl (lv_at hl 0 rfl) ?_
        refine m_get hx hb hts hown hK hP 0 (by decide) q1728 rfl dX3_goUnmesh_36 ?_
        refine lv_bipush (v := 51) hx hb dX3_goUnmesh_39 (by decide) ?_
        refine lv_iload_n hx hb dX3_goUnmesh_41 rfl (lv_at hl 1 rfl) ?_
        refine lv_iadd hx hb dX3_goUnmesh_42 ?_
        refine lv_aload_n hx hb dX3_goUnmesh_43 rfl (lv_at hl 0 rfl) ?_
        refine m_get hx hb hts hown hK hP 0 (by decide) q1728 rfl dX3_goUnmesh_44 ?_
        refine lv_bipush (v := 51) hx hb dX3_goUnmesh_47 (by decide) ?_
        refine lv_iload_n hx hb dX3_goUnmesh_49 rfl (lv_at hl 1 rfl) ?_
        refine lv_iadd hx hb dX3_goUnmesh_50 ?_
        refine lv_iconst (v := 1) hx hb dX3_goUnmesh_51 (by decide) ?_
        refine lv_iadd hx hb dX3_goUnmesh_52 ?_
        obtain ⟨h_12, hw⟩ := hw
        refine m_iald (j := (Int32.toNatClampNeg ((51 + x2) + 1))) hx hb hK hP 0 1 113 rfl rfl h_12 dX3_goUnmesh_53 ?_
        obtain ⟨h_13, hw⟩ := hw
        refine m_iast (j := (Int32.toNatClampNeg (51 + x2))) hx hb hK hap hP hS 0 1 113 rfl rfl rfl h_13 dX3_goUnmesh_54 (fun H locs hP hS => ?_)
        obtain ⟨R_14, eR_14⟩ : ∃ y : mR, y = va_up R 0 (upd (R 0) (Int32.toNatClampNeg (51 + x2)) (R 0 (Int32.toNatClampNeg ((51 + x2) + 1)))) := ⟨_, rfl⟩
        rw [← eR_14] at hP
        have hw := hw R_14 eR_14
        refine lv_aload_n hx hb dX3_goUnmesh_55 rfl (lv_at hl 0 rfl) ?_
        refine m_get hx hb hts hown hK hP 0 (by decide) q1728 rfl dX3_goUnmesh_56 ?_
        refine lv_bipush (v := 67) hx hb dX3_goUnmesh_59 (by decide) ?_
        refine lv_iload_n hx hb dX3_goUnmesh_61 rfl (lv_at hl 1 rfl) ?_
        refine lv_iadd hx hb dX3_goUnmesh_62 ?_
        refine lv_aload_n hx hb dX3_goUnmesh_63 rfl (lv_at hl 0 rfl) ?_
        refine m_get hx hb hts hown hK hP 0 (by decide) q1728 rfl dX3_goUnmesh_64 ?_
        refine lv_bipush (v := 67) hx hb dX3_goUnmesh_67 (by decide) ?_
        refine lv_iload_n hx hb dX3_goUnmesh_69 rfl (lv_at hl 1 rfl) ?_
        refine lv_iadd hx hb dX3_goUnmesh_70 ?_
        refine lv_iconst (v := 1) hx hb dX3_goUnmesh_71 (by decide) ?_
        refine lv_iadd hx hb dX3_goUnmesh_72 ?_
        obtain ⟨h_15, hw⟩ := hw
        refine m_iald (j := (Int32.toNatClampNeg ((67 + x2) + 1))) hx hb hK hP 0 1 113 rfl rfl h_15 dX3_goUnmesh_73 ?_
        obtain ⟨h_16, hw⟩ := hw
        refine m_iast (j := (Int32.toNatClampNeg (67 + x2))) hx hb hK hap hP hS 0 1 113 rfl rfl rfl h_16 dX3_goUnmesh_74 (fun H locs hP hS => ?_)
        obtain ⟨R_17, eR_17⟩ : ∃ y : mR, y = va_up R_14 0 (upd (R_14 0) (Int32.toNatClampNeg (67 + x2)) (R_14 0 (Int32.toNatClampNeg ((67 + x2) + 1)))) := ⟨_, rfl⟩
        rw [← eR_17] at hP
        have hw := hw R_17 eR_17
        obtain ⟨x2_18, ex2_18⟩ : ∃ y : Int32, y = x2 + 1 := ⟨_, rfl⟩
        have hw := hw x2_18 ex2_18
        refine lv_iinc (v := x2_18) (lv' := [(2, .int x2_18), (0, .ref h)]) hx hb dX3_goUnmesh_75 hl (k := 1) rfl (by rw [ex2_18]; rfl) (by decide) rfl (fun ls hl => ?_)
        refine lv_goto (tgt := 24) hx hb dX3_goUnmesh_78 (by decide) ?_
        exact ih x2_18 F R_17 L G _ _ ls hP hS (lv_sub hl [1, 0] rfl) hw
  unfold wpX3_goUnmesh at hw
  refine lv_aload_n hx hb dX3_goUnmesh_0 rfl (lv_at hl 0 rfl) ?_
  refine lv_iload_n hx hb dX3_goUnmesh_1 rfl (lv_at hl 1 rfl) ?_
  refine m_calli (As := [.int p1]) (rest := []) ⟨hx, hb, hml, hown, hts⟩ (metX3_isPair l K h a hap _ F R L G p1) (cwV 1 hts (lw_V q1919 q1921 qs42 q85 q1922) rfl rfl rfl (by decide +kernel) ⟨Nat.le_of_ble_eq_true rfl, Nat.le_of_ble_eq_true rfl⟩) hK hP hS hw rfl hl.1 rfl (Nat.le_of_ble_eq_true rfl) dX3_goUnmesh_2 ⟨Nat.le_refl _, Nat.le_refl _⟩ (fun r_19 F_20 R_21 L_22 G_23 H locs hw hP hS => ?_)
  refine lv_if_ne (tgt := 11) hx hb dX3_goUnmesh_5 (by decide) (fun c_24 => ?_) (fun c_24 => ?_)
  · have hw := hw.2 (c_24)
    refine lv_aload_n hx hb dX3_goUnmesh_11 rfl (lv_at hl 0 rfl) ?_
    refine m_get hx hb hts hown hK hP 0 (by decide) q1728 rfl dX3_goUnmesh_12 ?_
    refine lv_bipush (v := 50) hx hb dX3_goUnmesh_15 (by decide) ?_
    refine lv_dup2_11 hx hb dX3_goUnmesh_17 rfl rfl ?_
    refine m_iald (j := 50) hx hb hK hP 0 1 113 rfl (by decide) (vpd (by decide)) dX3_goUnmesh_18 ?_
    refine lv_iconst (v := 1) hx hb dX3_goUnmesh_19 (by decide) ?_
    refine lv_isub hx hb dX3_goUnmesh_20 ?_
    refine m_iast (j := 50) hx hb hK hap hP hS 0 1 113 rfl (by decide) rfl (vpd (by decide)) dX3_goUnmesh_21 (fun H locs hP hS => ?_)
    refine lv_iload_n hx hb dX3_goUnmesh_22 rfl (lv_at hl 1 rfl) ?_
    refine lv_istore_n (lv' := [(2, .int p1), (0, .ref h), (1, .int p1)]) hx hb dX3_goUnmesh_23 rfl hl (by decide) rfl (fun ls hl => ?_)
    obtain ⟨fu, hw⟩ := hw
    exact T24 fu p1 F_20 (va_up R_21 0 (upd (R_21 0) 50 ((R_21 0 50) - 1))) L_22 G_23 _ _ ls hP hS (lv_sub hl [1, 0] rfl) hw
  · have hw := hw.1 (c_24)
    refine lv_ldc hx hb hown (hts _ q1837) dX3_goUnmesh_8 ?_
    exact m_iret hx hb hr hlocks hP hS dX3_goUnmesh_10 hw
def wpX3_unmesh (post : Int32 → mF → mR → mL → mG → Prop) (F : mF) (R : mR) (L : mL) (G : mG) (p1 : Int32) : Prop := wpX3_begins (fun F_1 R_2 L_3 G_4 => wpX3_goUnmesh (fun r_5 F_6 R_7 L_8 G_9 => wpX3_ends (fun r_10 F_11 R_12 L_13 G_14 => post r_10 F_11 R_12 L_13 G_14) F_6 R_7 L_8 G_9 r_5) F_1 R_2 L_3 G_4 p1) F R L G
abbrev wsX3_unmesh : List Cond := ws_ yX3_unmesh cX3_unmesh 2 (some .int)
set_option maxHeartbeats 8000000 in
theorem metX3_unmesh (l : Launch) (K : KT) (h : Nat) (a : Nat → Nat) (hap : mAp h a) (post : Int32 → mF → mR → mL → mG → Prop) (F : mF) (R : mR) (L : mL) (G : mG) (p1 : Int32) : Met l yX3_unmesh wsX3_unmesh (rmo 4 107) (mPre K h a F R L G [.int p1] (wpX3_unmesh post F R L G p1)) (mQi post K h a) 0 0 (mA h a) := by
  refine Met.ofW (cc := cX3_unmesh) (maxL := 2) (ret := (some .int)) (by decide) rfl ?_
  intro p e s m args below meth c s₁ B hml hv
  obtain ⟨rfl, hP, hK, hw⟩ := hv
  have hx := B.exec
  have hb := B.bytes
  have hr := B.returns
  have hts := atoms_spec (ws := wsX3_unmesh) B.pre
  have hts : ∀ w ∈ lw_all, w.before _ s = true := fun w h => hts w (List.mem_cons_of_mem _ h)
  have hown : s.vm.findClass RX3 = some m.cls := findClass_of_methodNamed B.named
  have hlocks := B.notSynchronized
  have hl := lv_entry ([.ref h, .int p1]) (n := 2) (Nat.le_of_ble_eq_true rfl)
  rw [lg_entry_eq]
  generalize (lg_sl ([.ref h, .int p1]) ++ List.replicate (2 - (lg_sl ([.ref h, .int p1])).length) Slot.unset).toArray = ls at hl ⊢
  have hl : lv_has ls 2 [(0, .ref h), (1, .int p1)] := hl
  have hS : va_S (mA h a) s.heap s.heap [] := va_S.rf
  unfold wpX3_unmesh at hw
  refine lv_aload_n hx hb dX3_unmesh_0 rfl (lv_at hl 0 rfl) ?_
  refine m_callv (As := []) (rest := []) ⟨hx, hb, hml, hown, hts⟩ (metX3_begins l K h a hap _ F R L G) (cwV 0 hts (lw_V q1821 q1823 qs24 q85 q1824) rfl rfl rfl (by decide +kernel) ⟨Nat.le_of_ble_eq_true rfl, Nat.le_of_ble_eq_true rfl⟩) hK hP hS hw rfl hl.1 rfl (Nat.le_of_ble_eq_true rfl) dX3_unmesh_1 ⟨Nat.le_refl _, Nat.le_refl _⟩ (fun F_1 R_2 L_3 G_4 H locs hw hP hS => ?_)
  refine lv_aload_n hx hb dX3_unmesh_4 rfl (lv_at hl 0 rfl) ?_
  refine lv_aload_n hx hb dX3_unmesh_5 rfl (lv_at hl 0 rfl) ?_
  refine lv_iload_n hx hb dX3_unmesh_6 rfl (lv_at hl 1 rfl) ?_
  refine m_calli (As := [.int p1]) (rest := [.ref h]) ⟨hx, hb, hml, hown, hts⟩ (metX3_goUnmesh l K h a hap _ F_1 R_2 L_3 G_4 p1) (cwV 1 hts (lw_V q1915 q1917 qs41 q85 q1918) rfl rfl rfl (by decide +kernel) ⟨Nat.le_of_ble_eq_true rfl, Nat.le_of_ble_eq_true rfl⟩) hK hP hS hw rfl hl.1 rfl (Nat.le_of_ble_eq_true rfl) dX3_unmesh_7 ⟨Nat.le_refl _, Nat.le_refl _⟩ (fun r_5 F_6 R_7 L_8 G_9 H locs hw hP hS => ?_)
  refine m_calli (As := [.int r_5]) (rest := []) ⟨hx, hb, hml, hown, hts⟩ (metX3_ends l K h a hap _ F_6 R_7 L_8 G_9 r_5) (cwV 1 hts (lw_V q1833 q1835 qs26 q85 q1836) rfl rfl rfl (by decide +kernel) ⟨Nat.le_of_ble_eq_true rfl, Nat.le_of_ble_eq_true rfl⟩) hK hP hS hw rfl hl.1 rfl (Nat.le_of_ble_eq_true rfl) dX3_unmesh_10 ⟨Nat.le_refl _, Nat.le_refl _⟩ (fun r_10 F_11 R_12 L_13 G_14 H locs hw hP hS => ?_)
  exact m_iret hx hb hr hlocks hP hS dX3_unmesh_13 hw
def wpX3_goTeeth (post : Int32 → mF → mR → mL → mG → Prop) (F : mF) (R : mR) (L : mL) (G : mG) (p1 : Int32) (p2 : Int32) : Prop := wpX3_isWheel (fun r_1 F_2 R_3 L_4 G_5 => ((r_1 = 0 → post (-100001) F_2 R_3 L_4 G_5) ∧ (¬ r_1 = 0 → wpX3_isTeeth (fun r_7 => ((r_7 = 0 → post (-100001) F_2 R_3 L_4 G_5) ∧ (¬ r_7 = 0 → (vp_in (2 + p1) 113 ∧ (∀ x3_10 : Int32, x3_10 = R_3 0 (Int32.toNatClampNeg (2 + p1)) → (vp_in (2 + p1) 113 ∧ wpX3_drives (fun r_12 F_13 R_14 L_15 G_16 => ((r_12 = 0 → post (-100002) F_13 R_14 L_15 G_16) ∧ (¬ r_12 = 0 → wpX3_binds (fun r_18 F_19 R_20 L_21 G_22 => ((r_18 = 0 → post x3_10 F_19 R_20 L_21 G_22) ∧ (¬ r_18 = 0 → post (-100002) F_19 R_20 L_21 G_22))) F_13 R_14 L_15 G_16))) F_2 (va_up R_3 0 (upd (R_3 0) (Int32.toNatClampNeg (2 + p1)) p2)) L_4 G_5)))))) p2))) F R L G p1
abbrev wsX3_goTeeth : List Cond := ws_ yX3_goTeeth cX3_goTeeth 4 (some .int)
set_option maxHeartbeats 8000000 in
theorem metX3_goTeeth (l : Launch) (K : KT) (h : Nat) (a : Nat → Nat) (hap : mAp h a) (post : Int32 → mF → mR → mL → mG → Prop) (F : mF) (R : mR) (L : mL) (G : mG) (p1 : Int32) (p2 : Int32) : Met l yX3_goTeeth wsX3_goTeeth (rmo 3 85) (mPre K h a F R L G [.int p1, .int p2] (wpX3_goTeeth post F R L G p1 p2)) (mQi post K h a) 0 0 (mA h a) := by
  refine Met.ofW (cc := cX3_goTeeth) (maxL := 4) (ret := (some .int)) (by decide) rfl ?_
  intro p e s m args below meth c s₁ B hml hv
  obtain ⟨rfl, hP, hK, hw⟩ := hv
  have hx := B.exec
  have hb := B.bytes
  have hr := B.returns
  have hts := atoms_spec (ws := wsX3_goTeeth) B.pre
  have hts : ∀ w ∈ lw_all, w.before _ s = true := fun w h => hts w (List.mem_cons_of_mem _ h)
  have hown : s.vm.findClass RX3 = some m.cls := findClass_of_methodNamed B.named
  have hlocks := B.notSynchronized
  have hl := lv_entry ([.ref h, .int p1, .int p2]) (n := 4) (Nat.le_of_ble_eq_true rfl)
  rw [lg_entry_eq]
  generalize (lg_sl ([.ref h, .int p1, .int p2]) ++ List.replicate (4 - (lg_sl ([.ref h, .int p1, .int p2])).length) Slot.unset).toArray = ls at hl ⊢
  have hl : lv_has ls 4 [(0, .ref h), (1, .int p1), (2, .int p2)] := hl
  have hS : va_S (mA h a) s.heap s.heap [] := va_S.rf
  unfold wpX3_goTeeth at hw
  refine lv_aload_n hx hb dX3_goTeeth_0 rfl (lv_at hl 0 rfl) ?_
  refine lv_iload_n hx hb dX3_goTeeth_1 rfl (lv_at hl 1 rfl) ?_
  refine m_calli (As := [.int p1]) (rest := []) ⟨hx, hb, hml, hown, hts⟩ (metX3_isWheel l K h a hap _ F R L G p1) (cwV 1 hts (lw_V q1876 q1878 qs33 q85 q1879) rfl rfl rfl (by decide +kernel) ⟨Nat.le_of_ble_eq_true rfl, Nat.le_of_ble_eq_true rfl⟩) hK hP hS hw rfl hl.1 rfl (Nat.le_of_ble_eq_true rfl) dX3_goTeeth_2 ⟨Nat.le_refl _, Nat.le_refl _⟩ (fun r_1 F_2 R_3 L_4 G_5 H locs hw hP hS => ?_)
  refine lv_if_eq (tgt := 15) hx hb dX3_goTeeth_5 (by decide) (fun c_6 => ?_) (fun c_6 => ?_)
  · have hw := hw.1 c_6
    refine lv_ldc hx hb hown (hts _ q1837) dX3_goTeeth_15 ?_
    exact m_iret hx hb hr hlocks hP hS dX3_goTeeth_17 hw
  · have hw := hw.2 c_6
    refine lv_iload_n hx hb dX3_goTeeth_8 rfl (lv_at hl 2 rfl) ?_
    refine s_calli (As := [.int p2]) (rest := []) ⟨hx, hb, hml, hown, hts⟩ (metX3_isTeeth l _ p2) (va_cwS 1 hts (lw_S q1861 q1862 q85 q1863) rfl rfl rfl (by decide +kernel) ⟨Nat.le_of_ble_eq_true rfl, Nat.le_of_ble_eq_true rfl⟩) hw rfl hl.1 rfl (Nat.le_of_ble_eq_true rfl) dX3_goTeeth_9 ⟨Nat.le_refl _, Nat.le_refl _⟩ (fun r_7 hw => ?_)
    refine lv_if_ne (tgt := 18) hx hb dX3_goTeeth_12 (by decide) (fun c_8 => ?_) (fun c_8 => ?_)
    · have hw := hw.2 (c_8)
      refine lv_aload_n hx hb dX3_goTeeth_18 rfl (lv_at hl 0 rfl) ?_
      refine m_get hx hb hts hown hK hP 0 (by decide) q1728 rfl dX3_goTeeth_19 ?_
      refine lv_iconst (v := 2) hx hb dX3_goTeeth_22 (by decide) ?_
      refine lv_iload_n hx hb dX3_goTeeth_23 rfl (lv_at hl 1 rfl) ?_
      refine lv_iadd hx hb dX3_goTeeth_24 ?_
      obtain ⟨h_9, hw⟩ := hw
      refine m_iald (j := (Int32.toNatClampNeg (2 + p1))) hx hb hK hP 0 1 113 rfl rfl h_9 dX3_goTeeth_25 ?_
      refine lv_topi (fun x3_10 ex3_10 => ?_)
      have hw := hw x3_10 ex3_10
      refine lv_istore_n (lv' := [(3, .int x3_10), (0, .ref h), (1, .int p1), (2, .int p2)]) hx hb dX3_goTeeth_26 rfl hl (by decide) rfl (fun ls hl => ?_)
      refine lv_aload_n hx hb dX3_goTeeth_27 rfl (lv_at hl 1 rfl) ?_
      refine m_get hx hb hts hown hK hP 0 (by decide) q1728 rfl dX3_goTeeth_28 ?_
      refine lv_iconst (v := 2) hx hb dX3_goTeeth_31 (by decide) ?_
      refine lv_iload_n hx hb dX3_goTeeth_32 rfl (lv_at hl 2 rfl) ?_
      refine lv_iadd hx hb dX3_goTeeth_33 ?_
      refine lv_iload_n hx hb dX3_goTeeth_34 rfl (lv_at hl 3 rfl) ?_
      obtain ⟨h_11, hw⟩ := hw
      refine m_iast (j := (Int32.toNatClampNeg (2 + p1))) hx hb hK hap hP hS 0 1 113 rfl rfl rfl h_11 dX3_goTeeth_35 (fun H locs hP hS => ?_)
      refine lv_aload_n hx hb dX3_goTeeth_36 rfl (lv_at hl 1 rfl) ?_
      refine m_calli (As := []) (rest := []) ⟨hx, hb, hml, hown, hts⟩ (metX3_drives l K h a hap _ F_2 (va_up R_3 0 (upd (R_3 0) (Int32.toNatClampNeg (2 + p1)) p2)) L_4 G_5) (cwV 0 hts (lw_V q1892 q1894 qs37 q85 q1895) rfl rfl rfl (by decide +kernel) ⟨Nat.le_of_ble_eq_true rfl, Nat.le_of_ble_eq_true rfl⟩) hK hP hS hw rfl hl.1 rfl (Nat.le_of_ble_eq_true rfl) dX3_goTeeth_37 ⟨Nat.le_refl _, Nat.le_refl _⟩ (fun r_12 F_13 R_14 L_15 G_16 H locs hw hP hS => ?_)
      refine lv_if_eq (tgt := 54) hx hb dX3_goTeeth_40 (by decide) (fun c_17 => ?_) (fun c_17 => ?_)
      · have hw := hw.1 c_17
        refine lv_ldc hx hb hown (hts _ q1832) dX3_goTeeth_54 ?_
        exact m_iret hx hb hr hlocks hP hS dX3_goTeeth_56 hw
      · have hw := hw.2 c_17
        refine lv_aload_n hx hb dX3_goTeeth_43 rfl (lv_at hl 1 rfl) ?_
        refine m_calli (As := []) (rest := []) ⟨hx, hb, hml, hown, hts⟩ (metX3_binds l K h a hap _ F_13 R_14 L_15 G_16) (cwV 0 hts (lw_V q1903 q1905 qs39 q85 q1906) rfl rfl rfl (by decide +kernel) ⟨Nat.le_of_ble_eq_true rfl, Nat.le_of_ble_eq_true rfl⟩) hK hP hS hw rfl hl.1 rfl (Nat.le_of_ble_eq_true rfl) dX3_goTeeth_44 ⟨Nat.le_refl _, Nat.le_refl _⟩ (fun r_18 F_19 R_20 L_21 G_22 H locs hw hP hS => ?_)
        refine lv_if_ne (tgt := 54) hx hb dX3_goTeeth_47 (by decide) (fun c_23 => ?_) (fun c_23 => ?_)
        · have hw := hw.2 (c_23)
          refine lv_ldc hx hb hown (hts _ q1832) dX3_goTeeth_54 ?_
          exact m_iret hx hb hr hlocks hP hS dX3_goTeeth_56 hw
        · have hw := hw.1 (c_23)
          refine lv_iload_n hx hb dX3_goTeeth_50 rfl (lv_at hl 0 rfl) ?_
          refine lv_goto (tgt := 56) hx hb dX3_goTeeth_51 (by decide) ?_
          exact m_iret hx hb hr hlocks hP hS dX3_goTeeth_56 hw
    · have hw := hw.1 (c_8)
      refine lv_ldc hx hb hown (hts _ q1837) dX3_goTeeth_15 ?_
      exact m_iret hx hb hr hlocks hP hS dX3_goTeeth_17 hw
def wpX3_setTeeth (post : Int32 → mF → mR → mL → mG → Prop) (F : mF) (R : mR) (L : mL) (G : mG) (p1 : Int32) (p2 : Int32) : Prop := wpX3_begins (fun F_1 R_2 L_3 G_4 => wpX3_goTeeth (fun r_5 F_6 R_7 L_8 G_9 => wpX3_ends (fun r_10 F_11 R_12 L_13 G_14 => post r_10 F_11 R_12 L_13 G_14) F_6 R_7 L_8 G_9 r_5) F_1 R_2 L_3 G_4 p1 p2) F R L G
abbrev wsX3_setTeeth : List Cond := ws_ yX3_setTeeth cX3_setTeeth 3 (some .int)
set_option maxHeartbeats 8000000 in
theorem metX3_setTeeth (l : Launch) (K : KT) (h : Nat) (a : Nat → Nat) (hap : mAp h a) (post : Int32 → mF → mR → mL → mG → Prop) (F : mF) (R : mR) (L : mL) (G : mG) (p1 : Int32) (p2 : Int32) : Met l yX3_setTeeth wsX3_setTeeth (rmo 4 108) (mPre K h a F R L G [.int p1, .int p2] (wpX3_setTeeth post F R L G p1 p2)) (mQi post K h a) 0 0 (mA h a) := by
  refine Met.ofW (cc := cX3_setTeeth) (maxL := 3) (ret := (some .int)) (by decide) rfl ?_
  intro p e s m args below meth c s₁ B hml hv
  obtain ⟨rfl, hP, hK, hw⟩ := hv
  have hx := B.exec
  have hb := B.bytes
  have hr := B.returns
  have hts := atoms_spec (ws := wsX3_setTeeth) B.pre
  have hts : ∀ w ∈ lw_all, w.before _ s = true := fun w h => hts w (List.mem_cons_of_mem _ h)
  have hown : s.vm.findClass RX3 = some m.cls := findClass_of_methodNamed B.named
  have hlocks := B.notSynchronized
  have hl := lv_entry ([.ref h, .int p1, .int p2]) (n := 3) (Nat.le_of_ble_eq_true rfl)
  rw [lg_entry_eq]
  generalize (lg_sl ([.ref h, .int p1, .int p2]) ++ List.replicate (3 - (lg_sl ([.ref h, .int p1, .int p2])).length) Slot.unset).toArray = ls at hl ⊢
  have hl : lv_has ls 3 [(0, .ref h), (1, .int p1), (2, .int p2)] := hl
  have hS : va_S (mA h a) s.heap s.heap [] := va_S.rf
  unfold wpX3_setTeeth at hw
  refine lv_aload_n hx hb dX3_setTeeth_0 rfl (lv_at hl 0 rfl) ?_
  refine m_callv (As := []) (rest := []) ⟨hx, hb, hml, hown, hts⟩ (metX3_begins l K h a hap _ F R L G) (cwV 0 hts (lw_V q1821 q1823 qs24 q85 q1824) rfl rfl rfl (by decide +kernel) ⟨Nat.le_of_ble_eq_true rfl, Nat.le_of_ble_eq_true rfl⟩) hK hP hS hw rfl hl.1 rfl (Nat.le_of_ble_eq_true rfl) dX3_setTeeth_1 ⟨Nat.le_refl _, Nat.le_refl _⟩ (fun F_1 R_2 L_3 G_4 H locs hw hP hS => ?_)
  refine lv_aload_n hx hb dX3_setTeeth_4 rfl (lv_at hl 0 rfl) ?_
  refine lv_aload_n hx hb dX3_setTeeth_5 rfl (lv_at hl 0 rfl) ?_
  refine lv_iload_n hx hb dX3_setTeeth_6 rfl (lv_at hl 1 rfl) ?_
  refine lv_iload_n hx hb dX3_setTeeth_7 rfl (lv_at hl 2 rfl) ?_
  refine m_calli (As := [.int p1, .int p2]) (rest := [.ref h]) ⟨hx, hb, hml, hown, hts⟩ (metX3_goTeeth l K h a hap _ F_1 R_2 L_3 G_4 p1 p2) (cwV 2 hts (lw_V q1927 q1929 qs43 q85 q1930) rfl rfl rfl (by decide +kernel) ⟨Nat.le_of_ble_eq_true rfl, Nat.le_of_ble_eq_true rfl⟩) hK hP hS hw rfl hl.1 rfl (Nat.le_of_ble_eq_true rfl) dX3_setTeeth_8 ⟨Nat.le_refl _, Nat.le_refl _⟩ (fun r_5 F_6 R_7 L_8 G_9 H locs hw hP hS => ?_)
  refine m_calli (As := [.int r_5]) (rest := []) ⟨hx, hb, hml, hown, hts⟩ (metX3_ends l K h a hap _ F_6 R_7 L_8 G_9 r_5) (cwV 1 hts (lw_V q1833 q1835 qs26 q85 q1836) rfl rfl rfl (by decide +kernel) ⟨Nat.le_of_ble_eq_true rfl, Nat.le_of_ble_eq_true rfl⟩) hK hP hS hw rfl hl.1 rfl (Nat.le_of_ble_eq_true rfl) dX3_setTeeth_11 ⟨Nat.le_refl _, Nat.le_refl _⟩ (fun r_10 F_11 R_12 L_13 G_14 H locs hw hP hS => ?_)
  exact m_iret hx hb hr hlocks hP hS dX3_setTeeth_14 hw
def wpX3_goArm (post : Int32 → mF → mR → mL → mG → Prop) (F : mF) (R : mR) (L : mL) (G : mG) (p1 : Int32) (p2 : Int32) : Prop := wpX3_isAxle (fun r_1 F_2 R_3 L_4 G_5 => ((r_1 = 0 → post (-100001) F_2 R_3 L_4 G_5) ∧ (¬ r_1 = 0 → wpX3_in (fun r_7 => ((r_7 = 0 → post (-100001) F_2 R_3 L_4 G_5) ∧ (¬ r_7 = 0 → (∀ x3_9 : Int32, x3_9 = R_3 0 83 → ((x3_9 = 6 → post (-100002) F_2 R_3 L_4 G_5) ∧ (¬ x3_9 = 6 → (vp_in (84 + x3_9) 113 ∧ (∀ R_12 : mR, R_12 = va_up R_3 0 (upd (R_3 0) (Int32.toNatClampNeg (84 + x3_9)) p1) → (vp_in (90 + x3_9) 113 ∧ (∀ R_14 : mR, R_14 = va_up R_12 0 (upd (R_12 0) (Int32.toNatClampNeg (90 + x3_9)) p2) → post x3_9 F_2 (va_up R_14 0 (upd (R_14 0) 83 ((R_14 0 83) + 1))) L_4 G_5)))))))))) p2 (-180) 180))) F R L G p1
abbrev wsX3_goArm : List Cond := ws_ yX3_goArm cX3_goArm 4 (some .int)
set_option maxHeartbeats 8000000 in
theorem metX3_goArm (l : Launch) (K : KT) (h : Nat) (a : Nat → Nat) (hap : mAp h a) (post : Int32 → mF → mR → mL → mG → Prop) (F : mF) (R : mR) (L : mL) (G : mG) (p1 : Int32) (p2 : Int32) : Met l yX3_goArm wsX3_goArm (rmo 2 43) (mPre K h a F R L G [.int p1, .int p2] (wpX3_goArm post F R L G p1 p2)) (mQi post K h a) 0 0 (mA h a) := by
  refine Met.ofW (cc := cX3_goArm) (maxL := 4) (ret := (some .int)) (by decide) rfl ?_
  intro p e s m args below meth c s₁ B hml hv
  obtain ⟨rfl, hP, hK, hw⟩ := hv
  have hx := B.exec
  have hb := B.bytes
  have hr := B.returns
  have hts := atoms_spec (ws := wsX3_goArm) B.pre
  have hts : ∀ w ∈ lw_all, w.before _ s = true := fun w h => hts w (List.mem_cons_of_mem _ h)
  have hown : s.vm.findClass RX3 = some m.cls := findClass_of_methodNamed B.named
  have hlocks := B.notSynchronized
  have hl := lv_entry ([.ref h, .int p1, .int p2]) (n := 4) (Nat.le_of_ble_eq_true rfl)
  rw [lg_entry_eq]
  generalize (lg_sl ([.ref h, .int p1, .int p2]) ++ List.replicate (4 - (lg_sl ([.ref h, .int p1, .int p2])).length) Slot.unset).toArray = ls at hl ⊢
  have hl : lv_has ls 4 [(0, .ref h), (1, .int p1), (2, .int p2)] := hl
  have hS : va_S (mA h a) s.heap s.heap [] := va_S.rf
  unfold wpX3_goArm at hw
  refine lv_aload_n hx hb dX3_goArm_0 rfl (lv_at hl 0 rfl) ?_
  refine lv_iload_n hx hb dX3_goArm_1 rfl (lv_at hl 1 rfl) ?_
  refine m_calli (As := [.int p1]) (rest := []) ⟨hx, hb, hml, hown, hts⟩ (metX3_isAxle l K h a hap _ F R L G p1) (cwV 1 hts (lw_V q1854 q1856 qs30 q85 q1857) rfl rfl rfl (by decide +kernel) ⟨Nat.le_of_ble_eq_true rfl, Nat.le_of_ble_eq_true rfl⟩) hK hP hS hw rfl hl.1 rfl (Nat.le_of_ble_eq_true rfl) dX3_goArm_2 ⟨Nat.le_refl _, Nat.le_refl _⟩ (fun r_1 F_2 R_3 L_4 G_5 H locs hw hP hS => ?_)
  refine lv_if_eq (tgt := 21) hx hb dX3_goArm_5 (by decide) (fun c_6 => ?_) (fun c_6 => ?_)
  · have hw := hw.1 c_6
    refine lv_ldc hx hb hown (hts _ q1837) dX3_goArm_21 ?_
    exact m_iret hx hb hr hlocks hP hS dX3_goArm_23 hw
  · have hw := hw.2 c_6
    refine lv_iload_n hx hb dX3_goArm_8 rfl (lv_at hl 2 rfl) ?_
    refine lv_sipush (v := (-180)) hx hb dX3_goArm_9 (by decide) ?_
    refine lv_sipush (v := 180) hx hb dX3_goArm_12 (by decide) ?_
    refine s_calli (As := [.int p2, .int (-180), .int 180]) (rest := []) ⟨hx, hb, hml, hown, hts⟩ (metX3_in l _ p2 (-180) 180) (va_cwS 3 hts (lw_S q1858 q1859 q85 q1860) rfl rfl rfl (by decide +kernel) ⟨Nat.le_of_ble_eq_true rfl, Nat.le_of_ble_eq_true rfl⟩) hw rfl hl.1 rfl (Nat.le_of_ble_eq_true rfl) dX3_goArm_15 ⟨Nat.le_refl _, Nat.le_refl _⟩ (fun r_7 hw => ?_)
    refine lv_if_ne (tgt := 24) hx hb dX3_goArm_18 (by decide) (fun c_8 => ?_) (fun c_8 => ?_)
    · have hw := hw.2 (c_8)
      refine lv_aload_n hx hb dX3_goArm_24 rfl (lv_at hl 0 rfl) ?_
      refine m_get hx hb hts hown hK hP 0 (by decide) q1728 rfl dX3_goArm_25 ?_
      refine lv_bipush (v := 83) hx hb dX3_goArm_28 (by decide) ?_
      refine m_iald (j := 83) hx hb hK hP 0 1 113 rfl (by decide) (vpd (by decide)) dX3_goArm_30 ?_
      refine lv_topi (fun x3_9 ex3_9 => ?_)
      have hw := hw x3_9 ex3_9
      refine lv_istore_n (lv' := [(3, .int x3_9), (0, .ref h), (1, .int p1), (2, .int p2)]) hx hb dX3_goArm_31 rfl hl (by decide) rfl (fun ls hl => ?_)
      refine lv_iload_n hx hb dX3_goArm_32 rfl (lv_at hl 0 rfl) ?_
      refine lv_bipush (v := 6) hx hb dX3_goArm_33 (by decide) ?_
      refine lv_icmp_ne (tgt := 41) hx hb dX3_goArm_35 (by decide) (fun c_10 => ?_) (fun c_10 => ?_)
      · have hw := hw.2 (c_10)
        refine lv_aload_n hx hb dX3_goArm_41 rfl (lv_at hl 1 rfl) ?_
        refine m_get hx hb hts hown hK hP 0 (by decide) q1728 rfl dX3_goArm_42 ?_
        refine lv_bipush (v := 84) hx hb dX3_goArm_45 (by decide) ?_
        refine lv_iload_n hx hb dX3_goArm_47 rfl (lv_at hl 0 rfl) ?_
        refine lv_iadd hx hb dX3_goArm_48 ?_
        refine lv_iload_n hx hb dX3_goArm_49 rfl (lv_at hl 2 rfl) ?_
        obtain ⟨h_11, hw⟩ := hw
        refine m_iast (j := (Int32.toNatClampNeg (84 + x3_9))) hx hb hK hap hP hS 0 1 113 rfl rfl rfl h_11 dX3_goArm_50 (fun H locs hP hS => ?_)
        obtain ⟨R_12, eR_12⟩ : ∃ y : mR, y = va_up R_3 0 (upd (R_3 0) (Int32.toNatClampNeg (84 + x3_9)) p1) := ⟨_, rfl⟩
        rw [← eR_12] at hP
        have hw := hw R_12 eR_12
        refine lv_aload_n hx hb dX3_goArm_51 rfl (lv_at hl 1 rfl) ?_
        refine m_get hx hb hts hown hK hP 0 (by decide) q1728 rfl dX3_goArm_52 ?_
        refine lv_bipush (v := 90) hx hb dX3_goArm_55 (by decide) ?_
        refine lv_iload_n hx hb dX3_goArm_57 rfl (lv_at hl 0 rfl) ?_
        refine lv_iadd hx hb dX3_goArm_58 ?_
        refine lv_iload_n hx hb dX3_goArm_59 rfl (lv_at hl 3 rfl) ?_
        obtain ⟨h_13, hw⟩ := hw
        refine m_iast (j := (Int32.toNatClampNeg (90 + x3_9))) hx hb hK hap hP hS 0 1 113 rfl rfl rfl h_13 dX3_goArm_60 (fun H locs hP hS => ?_)
        obtain ⟨R_14, eR_14⟩ : ∃ y : mR, y = va_up R_12 0 (upd (R_12 0) (Int32.toNatClampNeg (90 + x3_9)) p2) := ⟨_, rfl⟩
        rw [← eR_14] at hP
        have hw := hw R_14 eR_14
        refine lv_aload_n hx hb dX3_goArm_61 rfl (lv_at hl 1 rfl) ?_
        refine m_get hx hb hts hown hK hP 0 (by decide) q1728 rfl dX3_goArm_62 ?_
        refine lv_bipush (v := 83) hx hb dX3_goArm_65 (by decide) ?_
        refine lv_dup2_11 hx hb dX3_goArm_67 rfl rfl ?_
        refine m_iald (j := 83) hx hb hK hP 0 1 113 rfl (by decide) (vpd (by decide)) dX3_goArm_68 ?_
        refine lv_iconst (v := 1) hx hb dX3_goArm_69 (by decide) ?_
        refine lv_iadd hx hb dX3_goArm_70 ?_
        refine m_iast (j := 83) hx hb hK hap hP hS 0 1 113 rfl (by decide) rfl (vpd (by decide)) dX3_goArm_71 (fun H locs hP hS => ?_)
        refine lv_iload_n hx hb dX3_goArm_72 rfl (lv_at hl 0 rfl) ?_
        exact m_iret hx hb hr hlocks hP hS dX3_goArm_73 hw
      · have hw := hw.1 (c_10)
        refine lv_ldc hx hb hown (hts _ q1832) dX3_goArm_38 ?_
        exact m_iret hx hb hr hlocks hP hS dX3_goArm_40 hw
    · have hw := hw.1 (c_8)
      refine lv_ldc hx hb hown (hts _ q1837) dX3_goArm_21 ?_
      exact m_iret hx hb hr hlocks hP hS dX3_goArm_23 hw
def wpX3_addArm (post : Int32 → mF → mR → mL → mG → Prop) (F : mF) (R : mR) (L : mL) (G : mG) (p1 : Int32) (p2 : Int32) : Prop := wpX3_begins (fun F_1 R_2 L_3 G_4 => wpX3_goArm (fun r_5 F_6 R_7 L_8 G_9 => wpX3_ends (fun r_10 F_11 R_12 L_13 G_14 => post r_10 F_11 R_12 L_13 G_14) F_6 R_7 L_8 G_9 r_5) F_1 R_2 L_3 G_4 p1 p2) F R L G
abbrev wsX3_addArm : List Cond := ws_ yX3_addArm cX3_addArm 3 (some .int)
set_option maxHeartbeats 8000000 in
theorem metX3_addArm (l : Launch) (K : KT) (h : Nat) (a : Nat → Nat) (hap : mAp h a) (post : Int32 → mF → mR → mL → mG → Prop) (F : mF) (R : mR) (L : mL) (G : mG) (p1 : Int32) (p2 : Int32) : Met l yX3_addArm wsX3_addArm (rmo 3 66) (mPre K h a F R L G [.int p1, .int p2] (wpX3_addArm post F R L G p1 p2)) (mQi post K h a) 0 0 (mA h a) := by
  refine Met.ofW (cc := cX3_addArm) (maxL := 3) (ret := (some .int)) (by decide) rfl ?_
  intro p e s m args below meth c s₁ B hml hv
  obtain ⟨rfl, hP, hK, hw⟩ := hv
  have hx := B.exec
  have hb := B.bytes
  have hr := B.returns
  have hts := atoms_spec (ws := wsX3_addArm) B.pre
  have hts : ∀ w ∈ lw_all, w.before _ s = true := fun w h => hts w (List.mem_cons_of_mem _ h)
  have hown : s.vm.findClass RX3 = some m.cls := findClass_of_methodNamed B.named
  have hlocks := B.notSynchronized
  have hl := lv_entry ([.ref h, .int p1, .int p2]) (n := 3) (Nat.le_of_ble_eq_true rfl)
  rw [lg_entry_eq]
  generalize (lg_sl ([.ref h, .int p1, .int p2]) ++ List.replicate (3 - (lg_sl ([.ref h, .int p1, .int p2])).length) Slot.unset).toArray = ls at hl ⊢
  have hl : lv_has ls 3 [(0, .ref h), (1, .int p1), (2, .int p2)] := hl
  have hS : va_S (mA h a) s.heap s.heap [] := va_S.rf
  unfold wpX3_addArm at hw
  refine lv_aload_n hx hb dX3_addArm_0 rfl (lv_at hl 0 rfl) ?_
  refine m_callv (As := []) (rest := []) ⟨hx, hb, hml, hown, hts⟩ (metX3_begins l K h a hap _ F R L G) (cwV 0 hts (lw_V q1821 q1823 qs24 q85 q1824) rfl rfl rfl (by decide +kernel) ⟨Nat.le_of_ble_eq_true rfl, Nat.le_of_ble_eq_true rfl⟩) hK hP hS hw rfl hl.1 rfl (Nat.le_of_ble_eq_true rfl) dX3_addArm_1 ⟨Nat.le_refl _, Nat.le_refl _⟩ (fun F_1 R_2 L_3 G_4 H locs hw hP hS => ?_)
  refine lv_aload_n hx hb dX3_addArm_4 rfl (lv_at hl 0 rfl) ?_
  refine lv_aload_n hx hb dX3_addArm_5 rfl (lv_at hl 0 rfl) ?_
  refine lv_iload_n hx hb dX3_addArm_6 rfl (lv_at hl 1 rfl) ?_
  refine lv_iload_n hx hb dX3_addArm_7 rfl (lv_at hl 2 rfl) ?_
  refine m_calli (As := [.int p1, .int p2]) (rest := [.ref h]) ⟨hx, hb, hml, hown, hts⟩ (metX3_goArm l K h a hap _ F_1 R_2 L_3 G_4 p1 p2) (cwV 2 hts (lw_V q1935 q1937 qs44 q85 q1938) rfl rfl rfl (by decide +kernel) ⟨Nat.le_of_ble_eq_true rfl, Nat.le_of_ble_eq_true rfl⟩) hK hP hS hw rfl hl.1 rfl (Nat.le_of_ble_eq_true rfl) dX3_addArm_8 ⟨Nat.le_refl _, Nat.le_refl _⟩ (fun r_5 F_6 R_7 L_8 G_9 H locs hw hP hS => ?_)
  refine m_calli (As := [.int r_5]) (rest := []) ⟨hx, hb, hml, hown, hts⟩ (metX3_ends l K h a hap _ F_6 R_7 L_8 G_9 r_5) (cwV 1 hts (lw_V q1833 q1835 qs26 q85 q1836) rfl rfl rfl (by decide +kernel) ⟨Nat.le_of_ble_eq_true rfl, Nat.le_of_ble_eq_true rfl⟩) hK hP hS hw rfl hl.1 rfl (Nat.le_of_ble_eq_true rfl) dX3_addArm_11 ⟨Nat.le_refl _, Nat.le_refl _⟩ (fun r_10 F_11 R_12 L_13 G_14 H locs hw hP hS => ?_)
  exact m_iret hx hb hr hlocks hP hS dX3_addArm_14 hw
def wpX3_isArm (post : Int32 → mF → mR → mL → mG → Prop) (F : mF) (R : mR) (L : mL) (G : mG) (p1 : Int32) : Prop := wpX3_in (fun r_1 => ((r_1 = 0 ∨ r_1 = 1) ∧ post r_1 F R L G)) p1 0 ((R 0 83) - 1)
abbrev wsX3_isArm : List Cond := ws_ yX3_isArm cX3_isArm 2 (some .boolean)
set_option maxHeartbeats 8000000 in
theorem metX3_isArm (l : Launch) (K : KT) (h : Nat) (a : Nat → Nat) (hap : mAp h a) (post : Int32 → mF → mR → mL → mG → Prop) (F : mF) (R : mR) (L : mL) (G : mG) (p1 : Int32) : Met l yX3_isArm wsX3_isArm (rmo 1 22) (mPre K h a F R L G [.int p1] (wpX3_isArm post F R L G p1)) (mQi post K h a) 0 0 (mA h a) := by
  refine Met.ofW (cc := cX3_isArm) (maxL := 2) (ret := (some .boolean)) (by decide) rfl ?_
  intro p e s m args below meth c s₁ B hml hv
  obtain ⟨rfl, hP, hK, hw⟩ := hv
  have hx := B.exec
  have hb := B.bytes
  have hr := B.returns
  have hts := atoms_spec (ws := wsX3_isArm) B.pre
  have hts : ∀ w ∈ lw_all, w.before _ s = true := fun w h => hts w (List.mem_cons_of_mem _ h)
  have hown : s.vm.findClass RX3 = some m.cls := findClass_of_methodNamed B.named
  have hlocks := B.notSynchronized
  have hl := lv_entry ([.ref h, .int p1]) (n := 2) (Nat.le_of_ble_eq_true rfl)
  rw [lg_entry_eq]
  generalize (lg_sl ([.ref h, .int p1]) ++ List.replicate (2 - (lg_sl ([.ref h, .int p1])).length) Slot.unset).toArray = ls at hl ⊢
  have hl : lv_has ls 2 [(0, .ref h), (1, .int p1)] := hl
  have hS : va_S (mA h a) s.heap s.heap [] := va_S.rf
  unfold wpX3_isArm at hw
  refine lv_iload_n hx hb dX3_isArm_0 rfl (lv_at hl 1 rfl) ?_
  refine lv_iconst (v := 0) hx hb dX3_isArm_1 (by decide) ?_
  refine lv_aload_n hx hb dX3_isArm_2 rfl (lv_at hl 0 rfl) ?_
  refine m_get hx hb hts hown hK hP 0 (by decide) q1728 rfl dX3_isArm_3 ?_
  refine lv_bipush (v := 83) hx hb dX3_isArm_6 (by decide) ?_
  refine m_iald (j := 83) hx hb hK hP 0 1 113 rfl (by decide) (vpd (by decide)) dX3_isArm_8 ?_
  refine lv_iconst (v := 1) hx hb dX3_isArm_9 (by decide) ?_
  refine lv_isub hx hb dX3_isArm_10 ?_
  refine s_calli (As := [.int p1, .int 0, .int ((R 0 83) - 1)]) (rest := []) ⟨hx, hb, hml, hown, hts⟩ (metX3_in l _ p1 0 ((R 0 83) - 1)) (va_cwS 3 hts (lw_S q1858 q1859 q85 q1860) rfl rfl rfl (by decide +kernel) ⟨Nat.le_of_ble_eq_true rfl, Nat.le_of_ble_eq_true rfl⟩) hw rfl hl.1 rfl (Nat.le_of_ble_eq_true rfl) dX3_isArm_11 ⟨Nat.le_refl _, Nat.le_refl _⟩ (fun r_1 hw => ?_)
  obtain ⟨h_2, hw⟩ := hw
  exact m_zret hx hb hr hlocks hP hS dX3_isArm_14 h_2 hw
def wpX3_changes (post : Int32 → mF → mR → mL → mG → Prop) (F : mF) (R : mR) (L : mL) (G : mG) (p1 : Int32) (p2 : Int32) : Prop := (vp_in p1 113 ∧ (∀ x3_2 : Int32, x3_2 = R 0 (Int32.toNatClampNeg p1) → (vp_in p1 113 ∧ wpX3_ends (fun r_4 F_5 R_6 L_7 G_8 => post r_4 F_5 R_6 L_7 G_8) F (va_up R 0 (upd (R 0) (Int32.toNatClampNeg p1) p2)) L G x3_2)))
abbrev wsX3_changes : List Cond := ws_ yX3_changes cX3_changes 4 (some .int)
set_option maxHeartbeats 8000000 in
theorem metX3_changes (l : Launch) (K : KT) (h : Nat) (a : Nat → Nat) (hap : mAp h a) (post : Int32 → mF → mR → mL → mG → Prop) (F : mF) (R : mR) (L : mL) (G : mG) (p1 : Int32) (p2 : Int32) : Met l yX3_changes wsX3_changes (rmo 3 66) (mPre K h a F R L G [.int p1, .int p2] (wpX3_changes post F R L G p1 p2)) (mQi post K h a) 0 0 (mA h a) := by
  refine Met.ofW (cc := cX3_changes) (maxL := 4) (ret := (some .int)) (by decide) rfl ?_
  intro p e s m args below meth c s₁ B hml hv
  obtain ⟨rfl, hP, hK, hw⟩ := hv
  have hx := B.exec
  have hb := B.bytes
  have hr := B.returns
  have hts := atoms_spec (ws := wsX3_changes) B.pre
  have hts : ∀ w ∈ lw_all, w.before _ s = true := fun w h => hts w (List.mem_cons_of_mem _ h)
  have hown : s.vm.findClass RX3 = some m.cls := findClass_of_methodNamed B.named
  have hlocks := B.notSynchronized
  have hl := lv_entry ([.ref h, .int p1, .int p2]) (n := 4) (Nat.le_of_ble_eq_true rfl)
  rw [lg_entry_eq]
  generalize (lg_sl ([.ref h, .int p1, .int p2]) ++ List.replicate (4 - (lg_sl ([.ref h, .int p1, .int p2])).length) Slot.unset).toArray = ls at hl ⊢
  have hl : lv_has ls 4 [(0, .ref h), (1, .int p1), (2, .int p2)] := hl
  have hS : va_S (mA h a) s.heap s.heap [] := va_S.rf
  unfold wpX3_changes at hw
  refine lv_aload_n hx hb dX3_changes_0 rfl (lv_at hl 0 rfl) ?_
  refine m_get hx hb hts hown hK hP 0 (by decide) q1728 rfl dX3_changes_1 ?_
  refine lv_iload_n hx hb dX3_changes_4 rfl (lv_at hl 1 rfl) ?_
  obtain ⟨h_1, hw⟩ := hw
  refine m_iald (j := (Int32.toNatClampNeg p1)) hx hb hK hP 0 1 113 rfl rfl h_1 dX3_changes_5 ?_
  refine lv_topi (fun x3_2 ex3_2 => ?_)
  have hw := hw x3_2 ex3_2
  refine lv_istore_n (lv' := [(3, .int x3_2), (0, .ref h), (1, .int p1), (2, .int p2)]) hx hb dX3_changes_6 rfl hl (by decide) rfl (fun ls hl => ?_)
  refine lv_aload_n hx hb dX3_changes_7 rfl (lv_at hl 1 rfl) ?_
  refine m_get hx hb hts hown hK hP 0 (by decide) q1728 rfl dX3_changes_8 ?_
  refine lv_iload_n hx hb dX3_changes_11 rfl (lv_at hl 2 rfl) ?_
  refine lv_iload_n hx hb dX3_changes_12 rfl (lv_at hl 3 rfl) ?_
  obtain ⟨h_3, hw⟩ := hw
  refine m_iast (j := (Int32.toNatClampNeg p1)) hx hb hK hap hP hS 0 1 113 rfl rfl rfl h_3 dX3_changes_13 (fun H locs hP hS => ?_)
  refine lv_aload_n hx hb dX3_changes_14 rfl (lv_at hl 1 rfl) ?_
  refine lv_iload_n hx hb dX3_changes_15 rfl (lv_at hl 0 rfl) ?_
  refine m_calli (As := [.int x3_2]) (rest := []) ⟨hx, hb, hml, hown, hts⟩ (metX3_ends l K h a hap _ F (va_up R 0 (upd (R 0) (Int32.toNatClampNeg p1) p2)) L G x3_2) (cwV 1 hts (lw_V q1833 q1835 qs26 q85 q1836) rfl rfl rfl (by decide +kernel) ⟨Nat.le_of_ble_eq_true rfl, Nat.le_of_ble_eq_true rfl⟩) hK hP hS hw rfl hl.1 rfl (Nat.le_of_ble_eq_true rfl) dX3_changes_16 ⟨Nat.le_refl _, Nat.le_refl _⟩ (fun r_4 F_5 R_6 L_7 G_8 H locs hw hP hS => ?_)
  exact m_iret hx hb hr hlocks hP hS dX3_changes_19 hw
def wpX3_setBend_37 (post : Int32 → mF → mR → mL → mG → Prop) (F : mF) (R : mR) (L : mL) (G : mG) : Prop := wpX3_fails (fun r_1 F_2 R_3 L_4 G_5 => post r_1 F_2 R_3 L_4 G_5) F R L G 1
def wpX3_setBend (post : Int32 → mF → mR → mL → mG → Prop) (F : mF) (R : mR) (L : mL) (G : mG) (p1 : Int32) (p2 : Int32) : Prop := wpX3_begins (fun F_6 R_7 L_8 G_9 => wpX3_isArm (fun r_10 F_11 R_12 L_13 G_14 => ((r_10 = 0 → wpX3_setBend_37 post F_11 R_12 L_13 G_14) ∧ (¬ r_10 = 0 → wpX3_in (fun r_16 => ((r_16 = 0 → wpX3_setBend_37 post F_11 R_12 L_13 G_14) ∧ (¬ r_16 = 0 → wpX3_changes (fun r_18 F_19 R_20 L_21 G_22 => post r_18 F_19 R_20 L_21 G_22) F_11 R_12 L_13 G_14 (90 + p1) p2))) p2 (-180) 180))) F_6 R_7 L_8 G_9 p1) F R L G
abbrev wsX3_setBend : List Cond := ws_ yX3_setBend cX3_setBend 3 (some .int)
set_option maxHeartbeats 8000000 in
theorem metX3_setBend (l : Launch) (K : KT) (h : Nat) (a : Nat → Nat) (hap : mAp h a) (post : Int32 → mF → mR → mL → mG → Prop) (F : mF) (R : mR) (L : mL) (G : mG) (p1 : Int32) (p2 : Int32) : Met l yX3_setBend wsX3_setBend (rmo 4 89) (mPre K h a F R L G [.int p1, .int p2] (wpX3_setBend post F R L G p1 p2)) (mQi post K h a) 0 0 (mA h a) := by
  refine Met.ofW (cc := cX3_setBend) (maxL := 3) (ret := (some .int)) (by decide) rfl ?_
  intro p e s m args below meth c s₁ B hml hv
  obtain ⟨rfl, hP, hK, hw⟩ := hv
  have hx := B.exec
  have hb := B.bytes
  have hr := B.returns
  have hts := atoms_spec (ws := wsX3_setBend) B.pre
  have hts : ∀ w ∈ lw_all, w.before _ s = true := fun w h => hts w (List.mem_cons_of_mem _ h)
  have hown : s.vm.findClass RX3 = some m.cls := findClass_of_methodNamed B.named
  have hlocks := B.notSynchronized
  have hl := lv_entry ([.ref h, .int p1, .int p2]) (n := 3) (Nat.le_of_ble_eq_true rfl)
  rw [lg_entry_eq]
  generalize (lg_sl ([.ref h, .int p1, .int p2]) ++ List.replicate (3 - (lg_sl ([.ref h, .int p1, .int p2])).length) Slot.unset).toArray = ls at hl ⊢
  have hl : lv_has ls 3 [(0, .ref h), (1, .int p1), (2, .int p2)] := hl
  have hS : va_S (mA h a) s.heap s.heap [] := va_S.rf
  have T37 : ∀ (F : mF) (R : mR) (L : mL) (G : mG) (H : Heap) (locs : List Loc) (ls : Array Slot), mP K h a F R L G H → va_S (mA h a) s.heap H locs → lv_has ls 3 [(0, .ref h)] → wpX3_setBend_37 post F R L G → W p l e (rmo 4 89) s m ([.ref h, .int p1, .int p2] : List Value).toArray below meth c H locs 0 0 (MQ below (mQi post K h a) ([.ref h, .int p1, .int p2] : List Value).toArray s 0 0 (mA h a)) (F0 m 37 ls []) := by
    intro  F R L G H locs ls hP hS hl hw
    unfold wpX3_setBend_37 at hw
    refine lv_aload_n hx hb dX3_setBend_37 rfl (lv_at hl 0 rfl) ?_
    refine lv_iconst (v := 1) hx hb dX3_setBend_38 (by decide) ?_
    refine m_calli (As := [.int 1]) (rest := []) ⟨hx, hb, hml, hown, hts⟩ (metX3_fails l K h a hap _ F R L G 1) (cwV 1 hts (lw_V q1838 q1840 qs27 q85 q1841) rfl rfl rfl (by decide +kernel) ⟨Nat.le_of_ble_eq_true rfl, Nat.le_of_ble_eq_true rfl⟩) hK hP hS hw rfl hl.1 rfl (Nat.le_of_ble_eq_true rfl) dX3_setBend_39 ⟨Nat.le_refl _, Nat.le_refl _⟩ (fun r_1 F_2 R_3 L_4 G_5 H locs hw hP hS => ?_)
    exact m_iret hx hb hr hlocks hP hS dX3_setBend_42 hw
  unfold wpX3_setBend at hw
  refine lv_aload_n hx hb dX3_setBend_0 rfl (lv_at hl 0 rfl) ?_
  refine m_callv (As := []) (rest := []) ⟨hx, hb, hml, hown, hts⟩ (metX3_begins l K h a hap _ F R L G) (cwV 0 hts (lw_V q1821 q1823 qs24 q85 q1824) rfl rfl rfl (by decide +kernel) ⟨Nat.le_of_ble_eq_true rfl, Nat.le_of_ble_eq_true rfl⟩) hK hP hS hw rfl hl.1 rfl (Nat.le_of_ble_eq_true rfl) dX3_setBend_1 ⟨Nat.le_refl _, Nat.le_refl _⟩ (fun F_6 R_7 L_8 G_9 H locs hw hP hS => ?_)
  refine lv_aload_n hx hb dX3_setBend_4 rfl (lv_at hl 0 rfl) ?_
  refine lv_iload_n hx hb dX3_setBend_5 rfl (lv_at hl 1 rfl) ?_
  refine m_calli (As := [.int p1]) (rest := []) ⟨hx, hb, hml, hown, hts⟩ (metX3_isArm l K h a hap _ F_6 R_7 L_8 G_9 p1) (cwV 1 hts (lw_V q1943 q1945 qs45 q85 q1946) rfl rfl rfl (by decide +kernel) ⟨Nat.le_of_ble_eq_true rfl, Nat.le_of_ble_eq_true rfl⟩) hK hP hS hw rfl hl.1 rfl (Nat.le_of_ble_eq_true rfl) dX3_setBend_6 ⟨Nat.le_refl _, Nat.le_refl _⟩ (fun r_10 F_11 R_12 L_13 G_14 H locs hw hP hS => ?_)
  refine lv_if_eq (tgt := 37) hx hb dX3_setBend_9 (by decide) (fun c_15 => ?_) (fun c_15 => ?_)
  · have hw := hw.1 c_15
    exact T37 F_11 R_12 L_13 G_14 _ _ ls hP hS (lv_sub hl [0] rfl) hw
  · have hw := hw.2 c_15
    refine lv_iload_n hx hb dX3_setBend_12 rfl (lv_at hl 2 rfl) ?_
    refine lv_sipush (v := (-180)) hx hb dX3_setBend_13 (by decide) ?_
    refine lv_sipush (v := 180) hx hb dX3_setBend_16 (by decide) ?_
    refine s_calli (As := [.int p2, .int (-180), .int 180]) (rest := []) ⟨hx, hb, hml, hown, hts⟩ (metX3_in l _ p2 (-180) 180) (va_cwS 3 hts (lw_S q1858 q1859 q85 q1860) rfl rfl rfl (by decide +kernel) ⟨Nat.le_of_ble_eq_true rfl, Nat.le_of_ble_eq_true rfl⟩) hw rfl hl.1 rfl (Nat.le_of_ble_eq_true rfl) dX3_setBend_19 ⟨Nat.le_refl _, Nat.le_refl _⟩ (fun r_16 hw => ?_)
    refine lv_if_eq (tgt := 37) hx hb dX3_setBend_22 (by decide) (fun c_17 => ?_) (fun c_17 => ?_)
    · have hw := hw.1 c_17
      exact T37 F_11 R_12 L_13 G_14 _ _ ls hP hS (lv_sub hl [0] rfl) hw
    · have hw := hw.2 c_17
      refine lv_aload_n hx hb dX3_setBend_25 rfl (lv_at hl 0 rfl) ?_
      refine lv_bipush (v := 90) hx hb dX3_setBend_26 (by decide) ?_
      refine lv_iload_n hx hb dX3_setBend_28 rfl (lv_at hl 1 rfl) ?_
      refine lv_iadd hx hb dX3_setBend_29 ?_
      refine lv_iload_n hx hb dX3_setBend_30 rfl (lv_at hl 2 rfl) ?_
      refine m_calli (As := [.int (90 + p1), .int p2]) (rest := []) ⟨hx, hb, hml, hown, hts⟩ (metX3_changes l K h a hap _ F_11 R_12 L_13 G_14 (90 + p1) p2) (cwV 2 hts (lw_V q1947 q1949 qs46 q85 q1950) rfl rfl rfl (by decide +kernel) ⟨Nat.le_of_ble_eq_true rfl, Nat.le_of_ble_eq_true rfl⟩) hK hP hS hw rfl hl.1 rfl (Nat.le_of_ble_eq_true rfl) dX3_setBend_31 ⟨Nat.le_refl _, Nat.le_refl _⟩ (fun r_18 F_19 R_20 L_21 G_22 H locs hw hP hS => ?_)
      refine lv_goto (tgt := 42) hx hb dX3_setBend_34 (by decide) ?_
      exact m_iret hx hb hr hlocks hP hS dX3_setBend_42 hw
def wpX3_addMoon_20 (post : Int32 → mF → mR → mL → mG → Prop) (F : mF) (R : mR) (L : mL) (G : mG) : Prop := wpX3_fails (fun r_1 F_2 R_3 L_4 G_5 => post r_1 F_2 R_3 L_4 G_5) F R L G 1
def wpX3_addMoon (post : Int32 → mF → mR → mL → mG → Prop) (F : mF) (R : mR) (L : mL) (G : mG) (p1 : Int32) (p2 : Int32) : Prop := wpX3_begins (fun F_6 R_7 L_8 G_9 => wpX3_isArm (fun r_10 F_11 R_12 L_13 G_14 => ((r_10 = 0 → wpX3_addMoon_20 post F_11 R_12 L_13 G_14) ∧ (¬ r_10 = 0 → wpX3_isAxle (fun r_16 F_17 R_18 L_19 G_20 => ((r_16 = 0 → wpX3_addMoon_20 post F_17 R_18 L_19 G_20) ∧ (¬ r_16 = 0 → (∀ x3_22 : Int32, x3_22 = R_18 0 102 → ((x3_22 = 4 → wpX3_fails (fun r_33 F_34 R_35 L_36 G_37 => post r_33 F_34 R_35 L_36 G_37) F_17 R_18 L_19 G_20 2) ∧ (¬ x3_22 = 4 → (vp_in (103 + x3_22) 113 ∧ (∀ R_25 : mR, R_25 = va_up R_18 0 (upd (R_18 0) (Int32.toNatClampNeg (103 + x3_22)) p1) → (vp_in (107 + x3_22) 113 ∧ (∀ R_27 : mR, R_27 = va_up R_25 0 (upd (R_25 0) (Int32.toNatClampNeg (107 + x3_22)) p2) → wpX3_ends (fun r_28 F_29 R_30 L_31 G_32 => post r_28 F_29 R_30 L_31 G_32) F_17 (va_up R_27 0 (upd (R_27 0) 102 ((R_27 0 102) + 1))) L_19 G_20 x3_22)))))))))) F_11 R_12 L_13 G_14 p2))) F_6 R_7 L_8 G_9 p1) F R L G
abbrev wsX3_addMoon : List Cond := ws_ yX3_addMoon cX3_addMoon 4 (some .int)
set_option maxHeartbeats 8000000 in
theorem metX3_addMoon (l : Launch) (K : KT) (h : Nat) (a : Nat → Nat) (hap : mAp h a) (post : Int32 → mF → mR → mL → mG → Prop) (F : mF) (R : mR) (L : mL) (G : mG) (p1 : Int32) (p2 : Int32) : Met l yX3_addMoon wsX3_addMoon (rmo 3 66) (mPre K h a F R L G [.int p1, .int p2] (wpX3_addMoon post F R L G p1 p2)) (mQi post K h a) 0 0 (mA h a) := by
  refine Met.ofW (cc := cX3_addMoon) (maxL := 4) (ret := (some .int)) (by decide) rfl ?_
  intro p e s m args below meth c s₁ B hml hv
  obtain ⟨rfl, hP, hK, hw⟩ := hv
  have hx := B.exec
  have hb := B.bytes
  have hr := B.returns
  have hts := atoms_spec (ws := wsX3_addMoon) B.pre
  have hts : ∀ w ∈ lw_all, w.before _ s = true := fun w h => hts w (List.mem_cons_of_mem _ h)
  have hown : s.vm.findClass RX3 = some m.cls := findClass_of_methodNamed B.named
  have hlocks := B.notSynchronized
  have hl := lv_entry ([.ref h, .int p1, .int p2]) (n := 4) (Nat.le_of_ble_eq_true rfl)
  rw [lg_entry_eq]
  generalize (lg_sl ([.ref h, .int p1, .int p2]) ++ List.replicate (4 - (lg_sl ([.ref h, .int p1, .int p2])).length) Slot.unset).toArray = ls at hl ⊢
  have hl : lv_has ls 4 [(0, .ref h), (1, .int p1), (2, .int p2)] := hl
  have hS : va_S (mA h a) s.heap s.heap [] := va_S.rf
  have T20 : ∀ (F : mF) (R : mR) (L : mL) (G : mG) (H : Heap) (locs : List Loc) (ls : Array Slot), mP K h a F R L G H → va_S (mA h a) s.heap H locs → lv_has ls 4 [(0, .ref h)] → wpX3_addMoon_20 post F R L G → W p l e (rmo 3 66) s m ([.ref h, .int p1, .int p2] : List Value).toArray below meth c H locs 0 0 (MQ below (mQi post K h a) ([.ref h, .int p1, .int p2] : List Value).toArray s 0 0 (mA h a)) (F0 m 20 ls []) := by
    intro  F R L G H locs ls hP hS hl hw
    unfold wpX3_addMoon_20 at hw
    refine lv_aload_n hx hb dX3_addMoon_20 rfl (lv_at hl 0 rfl) ?_
    refine lv_iconst (v := 1) hx hb dX3_addMoon_21 (by decide) ?_
    refine m_calli (As := [.int 1]) (rest := []) ⟨hx, hb, hml, hown, hts⟩ (metX3_fails l K h a hap _ F R L G 1) (cwV 1 hts (lw_V q1838 q1840 qs27 q85 q1841) rfl rfl rfl (by decide +kernel) ⟨Nat.le_of_ble_eq_true rfl, Nat.le_of_ble_eq_true rfl⟩) hK hP hS hw rfl hl.1 rfl (Nat.le_of_ble_eq_true rfl) dX3_addMoon_22 ⟨Nat.le_refl _, Nat.le_refl _⟩ (fun r_1 F_2 R_3 L_4 G_5 H locs hw hP hS => ?_)
    exact m_iret hx hb hr hlocks hP hS dX3_addMoon_25 hw
  unfold wpX3_addMoon at hw
  refine lv_aload_n hx hb dX3_addMoon_0 rfl (lv_at hl 0 rfl) ?_
  refine m_callv (As := []) (rest := []) ⟨hx, hb, hml, hown, hts⟩ (metX3_begins l K h a hap _ F R L G) (cwV 0 hts (lw_V q1821 q1823 qs24 q85 q1824) rfl rfl rfl (by decide +kernel) ⟨Nat.le_of_ble_eq_true rfl, Nat.le_of_ble_eq_true rfl⟩) hK hP hS hw rfl hl.1 rfl (Nat.le_of_ble_eq_true rfl) dX3_addMoon_1 ⟨Nat.le_refl _, Nat.le_refl _⟩ (fun F_6 R_7 L_8 G_9 H locs hw hP hS => ?_)
  refine lv_aload_n hx hb dX3_addMoon_4 rfl (lv_at hl 0 rfl) ?_
  refine lv_iload_n hx hb dX3_addMoon_5 rfl (lv_at hl 1 rfl) ?_
  refine m_calli (As := [.int p1]) (rest := []) ⟨hx, hb, hml, hown, hts⟩ (metX3_isArm l K h a hap _ F_6 R_7 L_8 G_9 p1) (cwV 1 hts (lw_V q1943 q1945 qs45 q85 q1946) rfl rfl rfl (by decide +kernel) ⟨Nat.le_of_ble_eq_true rfl, Nat.le_of_ble_eq_true rfl⟩) hK hP hS hw rfl hl.1 rfl (Nat.le_of_ble_eq_true rfl) dX3_addMoon_6 ⟨Nat.le_refl _, Nat.le_refl _⟩ (fun r_10 F_11 R_12 L_13 G_14 H locs hw hP hS => ?_)
  refine lv_if_eq (tgt := 20) hx hb dX3_addMoon_9 (by decide) (fun c_15 => ?_) (fun c_15 => ?_)
  · have hw := hw.1 c_15
    exact T20 F_11 R_12 L_13 G_14 _ _ ls hP hS (lv_sub hl [0] rfl) hw
  · have hw := hw.2 c_15
    refine lv_aload_n hx hb dX3_addMoon_12 rfl (lv_at hl 0 rfl) ?_
    refine lv_iload_n hx hb dX3_addMoon_13 rfl (lv_at hl 2 rfl) ?_
    refine m_calli (As := [.int p2]) (rest := []) ⟨hx, hb, hml, hown, hts⟩ (metX3_isAxle l K h a hap _ F_11 R_12 L_13 G_14 p2) (cwV 1 hts (lw_V q1854 q1856 qs30 q85 q1857) rfl rfl rfl (by decide +kernel) ⟨Nat.le_of_ble_eq_true rfl, Nat.le_of_ble_eq_true rfl⟩) hK hP hS hw rfl hl.1 rfl (Nat.le_of_ble_eq_true rfl) dX3_addMoon_14 ⟨Nat.le_refl _, Nat.le_refl _⟩ (fun r_16 F_17 R_18 L_19 G_20 H locs hw hP hS => ?_)
    refine lv_if_ne (tgt := 26) hx hb dX3_addMoon_17 (by decide) (fun c_21 => ?_) (fun c_21 => ?_)
    · have hw := hw.2 (c_21)
      refine lv_aload_n hx hb dX3_addMoon_26 rfl (lv_at hl 0 rfl) ?_
      refine m_get hx hb hts hown hK hP 0 (by decide) q1728 rfl dX3_addMoon_27 ?_
      refine lv_bipush (v := 102) hx hb dX3_addMoon_30 (by decide) ?_
      refine m_iald (j := 102) hx hb hK hP 0 1 113 rfl (by decide) (vpd (by decide)) dX3_addMoon_32 ?_
      refine lv_topi (fun x3_22 ex3_22 => ?_)
      have hw := hw x3_22 ex3_22
      refine lv_istore_n (lv' := [(3, .int x3_22), (0, .ref h), (1, .int p1), (2, .int p2)]) hx hb dX3_addMoon_33 rfl hl (by decide) rfl (fun ls hl => ?_)
      refine lv_iload_n hx hb dX3_addMoon_34 rfl (lv_at hl 0 rfl) ?_
      refine lv_iconst (v := 4) hx hb dX3_addMoon_35 (by decide) ?_
      refine lv_icmp_ne (tgt := 45) hx hb dX3_addMoon_36 (by decide) (fun c_23 => ?_) (fun c_23 => ?_)
      · have hw := hw.2 (c_23)
        refine lv_aload_n hx hb dX3_addMoon_45 rfl (lv_at hl 1 rfl) ?_
        refine m_get hx hb hts hown hK hP 0 (by decide) q1728 rfl dX3_addMoon_46 ?_
        refine lv_bipush (v := 103) hx hb dX3_addMoon_49 (by decide) ?_
        refine lv_iload_n hx hb dX3_addMoon_51 rfl (lv_at hl 0 rfl) ?_
        refine lv_iadd hx hb dX3_addMoon_52 ?_
        refine lv_iload_n hx hb dX3_addMoon_53 rfl (lv_at hl 2 rfl) ?_
        obtain ⟨h_24, hw⟩ := hw
        refine m_iast (j := (Int32.toNatClampNeg (103 + x3_22))) hx hb hK hap hP hS 0 1 113 rfl rfl rfl h_24 dX3_addMoon_54 (fun H locs hP hS => ?_)
        obtain ⟨R_25, eR_25⟩ : ∃ y : mR, y = va_up R_18 0 (upd (R_18 0) (Int32.toNatClampNeg (103 + x3_22)) p1) := ⟨_, rfl⟩
        rw [← eR_25] at hP
        have hw := hw R_25 eR_25
        refine lv_aload_n hx hb dX3_addMoon_55 rfl (lv_at hl 1 rfl) ?_
        refine m_get hx hb hts hown hK hP 0 (by decide) q1728 rfl dX3_addMoon_56 ?_
        refine lv_bipush (v := 107) hx hb dX3_addMoon_59 (by decide) ?_
        refine lv_iload_n hx hb dX3_addMoon_61 rfl (lv_at hl 0 rfl) ?_
        refine lv_iadd hx hb dX3_addMoon_62 ?_
        refine lv_iload_n hx hb dX3_addMoon_63 rfl (lv_at hl 3 rfl) ?_
        obtain ⟨h_26, hw⟩ := hw
        refine m_iast (j := (Int32.toNatClampNeg (107 + x3_22))) hx hb hK hap hP hS 0 1 113 rfl rfl rfl h_26 dX3_addMoon_64 (fun H locs hP hS => ?_)
        obtain ⟨R_27, eR_27⟩ : ∃ y : mR, y = va_up R_25 0 (upd (R_25 0) (Int32.toNatClampNeg (107 + x3_22)) p2) := ⟨_, rfl⟩
        rw [← eR_27] at hP
        have hw := hw R_27 eR_27
        refine lv_aload_n hx hb dX3_addMoon_65 rfl (lv_at hl 1 rfl) ?_
        refine m_get hx hb hts hown hK hP 0 (by decide) q1728 rfl dX3_addMoon_66 ?_
        refine lv_bipush (v := 102) hx hb dX3_addMoon_69 (by decide) ?_
        refine lv_dup2_11 hx hb dX3_addMoon_71 rfl rfl ?_
        refine m_iald (j := 102) hx hb hK hP 0 1 113 rfl (by decide) (vpd (by decide)) dX3_addMoon_72 ?_
        refine lv_iconst (v := 1) hx hb dX3_addMoon_73 (by decide) ?_
        refine lv_iadd hx hb dX3_addMoon_74 ?_
        refine m_iast (j := 102) hx hb hK hap hP hS 0 1 113 rfl (by decide) rfl (vpd (by decide)) dX3_addMoon_75 (fun H locs hP hS => ?_)
        refine lv_aload_n hx hb dX3_addMoon_76 rfl (lv_at hl 1 rfl) ?_
        refine lv_iload_n hx hb dX3_addMoon_77 rfl (lv_at hl 0 rfl) ?_
        refine m_calli (As := [.int x3_22]) (rest := []) ⟨hx, hb, hml, hown, hts⟩ (metX3_ends l K h a hap _ F_17 (va_up R_27 0 (upd (R_27 0) 102 ((R_27 0 102) + 1))) L_19 G_20 x3_22) (cwV 1 hts (lw_V q1833 q1835 qs26 q85 q1836) rfl rfl rfl (by decide +kernel) ⟨Nat.le_of_ble_eq_true rfl, Nat.le_of_ble_eq_true rfl⟩) hK hP hS hw rfl hl.1 rfl (Nat.le_of_ble_eq_true rfl) dX3_addMoon_78 ⟨Nat.le_refl _, Nat.le_refl _⟩ (fun r_28 F_29 R_30 L_31 G_32 H locs hw hP hS => ?_)
        exact m_iret hx hb hr hlocks hP hS dX3_addMoon_81 hw
      · have hw := hw.1 (c_23)
        refine lv_aload_n hx hb dX3_addMoon_39 rfl (lv_at hl 1 rfl) ?_
        refine lv_iconst (v := 2) hx hb dX3_addMoon_40 (by decide) ?_
        refine m_calli (As := [.int 2]) (rest := []) ⟨hx, hb, hml, hown, hts⟩ (metX3_fails l K h a hap _ F_17 R_18 L_19 G_20 2) (cwV 1 hts (lw_V q1838 q1840 qs27 q85 q1841) rfl rfl rfl (by decide +kernel) ⟨Nat.le_of_ble_eq_true rfl, Nat.le_of_ble_eq_true rfl⟩) hK hP hS hw rfl hl.1 rfl (Nat.le_of_ble_eq_true rfl) dX3_addMoon_41 ⟨Nat.le_refl _, Nat.le_refl _⟩ (fun r_33 F_34 R_35 L_36 G_37 H locs hw hP hS => ?_)
        exact m_iret hx hb hr hlocks hP hS dX3_addMoon_44 hw
    · have hw := hw.1 (c_21)
      exact T20 F_17 R_18 L_19 G_20 _ _ ls hP hS (lv_sub hl [0] rfl) hw
def wpX3_setPeriod_34 (post : Int32 → mF → mR → mL → mG → Prop) (F : mF) (R : mR) (L : mL) (G : mG) : Prop := wpX3_fails (fun r_1 F_2 R_3 L_4 G_5 => post r_1 F_2 R_3 L_4 G_5) F R L G 1
def wpX3_setPeriod (post : Int32 → mF → mR → mL → mG → Prop) (F : mF) (R : mR) (L : mL) (G : mG) (p1 : Int32) (p2 : Int32) : Prop := wpX3_begins (fun F_6 R_7 L_8 G_9 => wpX3_isArm (fun r_10 F_11 R_12 L_13 G_14 => ((r_10 = 0 → wpX3_setPeriod_34 post F_11 R_12 L_13 G_14) ∧ (¬ r_10 = 0 → wpX3_in (fun r_16 => ((r_16 = 0 → wpX3_setPeriod_34 post F_11 R_12 L_13 G_14) ∧ (¬ r_16 = 0 → wpX3_changes (fun r_18 F_19 R_20 L_21 G_22 => post r_18 F_19 R_20 L_21 G_22) F_11 R_12 L_13 G_14 (96 + p1) p2))) p2 0 100000000))) F_6 R_7 L_8 G_9 p1) F R L G
abbrev wsX3_setPeriod : List Cond := ws_ yX3_setPeriod cX3_setPeriod 3 (some .int)
set_option maxHeartbeats 8000000 in
theorem metX3_setPeriod (l : Launch) (K : KT) (h : Nat) (a : Nat → Nat) (hap : mAp h a) (post : Int32 → mF → mR → mL → mG → Prop) (F : mF) (R : mR) (L : mL) (G : mG) (p1 : Int32) (p2 : Int32) : Met l yX3_setPeriod wsX3_setPeriod (rmo 4 89) (mPre K h a F R L G [.int p1, .int p2] (wpX3_setPeriod post F R L G p1 p2)) (mQi post K h a) 0 0 (mA h a) := by
  refine Met.ofW (cc := cX3_setPeriod) (maxL := 3) (ret := (some .int)) (by decide) rfl ?_
  intro p e s m args below meth c s₁ B hml hv
  obtain ⟨rfl, hP, hK, hw⟩ := hv
  have hx := B.exec
  have hb := B.bytes
  have hr := B.returns
  have hts := atoms_spec (ws := wsX3_setPeriod) B.pre
  have hts : ∀ w ∈ lw_all, w.before _ s = true := fun w h => hts w (List.mem_cons_of_mem _ h)
  have hown : s.vm.findClass RX3 = some m.cls := findClass_of_methodNamed B.named
  have hlocks := B.notSynchronized
  have hl := lv_entry ([.ref h, .int p1, .int p2]) (n := 3) (Nat.le_of_ble_eq_true rfl)
  rw [lg_entry_eq]
  generalize (lg_sl ([.ref h, .int p1, .int p2]) ++ List.replicate (3 - (lg_sl ([.ref h, .int p1, .int p2])).length) Slot.unset).toArray = ls at hl ⊢
  have hl : lv_has ls 3 [(0, .ref h), (1, .int p1), (2, .int p2)] := hl
  have hS : va_S (mA h a) s.heap s.heap [] := va_S.rf
  have T34 : ∀ (F : mF) (R : mR) (L : mL) (G : mG) (H : Heap) (locs : List Loc) (ls : Array Slot), mP K h a F R L G H → va_S (mA h a) s.heap H locs → lv_has ls 3 [(0, .ref h)] → wpX3_setPeriod_34 post F R L G → W p l e (rmo 4 89) s m ([.ref h, .int p1, .int p2] : List Value).toArray below meth c H locs 0 0 (MQ below (mQi post K h a) ([.ref h, .int p1, .int p2] : List Value).toArray s 0 0 (mA h a)) (F0 m 34 ls []) := by
    intro  F R L G H locs ls hP hS hl hw
    unfold wpX3_setPeriod_34 at hw
    refine lv_aload_n hx hb dX3_setPeriod_34 rfl (lv_at hl 0 rfl) ?_
    refine lv_iconst (v := 1) hx hb dX3_setPeriod_35 (by decide) ?_
    refine m_calli (As := [.int 1]) (rest := []) ⟨hx, hb, hml, hown, hts⟩ (metX3_fails l K h a hap _ F R L G 1) (cwV 1 hts (lw_V q1838 q1840 qs27 q85 q1841) rfl rfl rfl (by decide +kernel) ⟨Nat.le_of_ble_eq_true rfl, Nat.le_of_ble_eq_true rfl⟩) hK hP hS hw rfl hl.1 rfl (Nat.le_of_ble_eq_true rfl) dX3_setPeriod_36 ⟨Nat.le_refl _, Nat.le_refl _⟩ (fun r_1 F_2 R_3 L_4 G_5 H locs hw hP hS => ?_)
    exact m_iret hx hb hr hlocks hP hS dX3_setPeriod_39 hw
  unfold wpX3_setPeriod at hw
  refine lv_aload_n hx hb dX3_setPeriod_0 rfl (lv_at hl 0 rfl) ?_
  refine m_callv (As := []) (rest := []) ⟨hx, hb, hml, hown, hts⟩ (metX3_begins l K h a hap _ F R L G) (cwV 0 hts (lw_V q1821 q1823 qs24 q85 q1824) rfl rfl rfl (by decide +kernel) ⟨Nat.le_of_ble_eq_true rfl, Nat.le_of_ble_eq_true rfl⟩) hK hP hS hw rfl hl.1 rfl (Nat.le_of_ble_eq_true rfl) dX3_setPeriod_1 ⟨Nat.le_refl _, Nat.le_refl _⟩ (fun F_6 R_7 L_8 G_9 H locs hw hP hS => ?_)
  refine lv_aload_n hx hb dX3_setPeriod_4 rfl (lv_at hl 0 rfl) ?_
  refine lv_iload_n hx hb dX3_setPeriod_5 rfl (lv_at hl 1 rfl) ?_
  refine m_calli (As := [.int p1]) (rest := []) ⟨hx, hb, hml, hown, hts⟩ (metX3_isArm l K h a hap _ F_6 R_7 L_8 G_9 p1) (cwV 1 hts (lw_V q1943 q1945 qs45 q85 q1946) rfl rfl rfl (by decide +kernel) ⟨Nat.le_of_ble_eq_true rfl, Nat.le_of_ble_eq_true rfl⟩) hK hP hS hw rfl hl.1 rfl (Nat.le_of_ble_eq_true rfl) dX3_setPeriod_6 ⟨Nat.le_refl _, Nat.le_refl _⟩ (fun r_10 F_11 R_12 L_13 G_14 H locs hw hP hS => ?_)
  refine lv_if_eq (tgt := 34) hx hb dX3_setPeriod_9 (by decide) (fun c_15 => ?_) (fun c_15 => ?_)
  · have hw := hw.1 c_15
    exact T34 F_11 R_12 L_13 G_14 _ _ ls hP hS (lv_sub hl [0] rfl) hw
  · have hw := hw.2 c_15
    refine lv_iload_n hx hb dX3_setPeriod_12 rfl (lv_at hl 2 rfl) ?_
    refine lv_iconst (v := 0) hx hb dX3_setPeriod_13 (by decide) ?_
    refine lv_ldc hx hb hown (hts _ q1959) dX3_setPeriod_14 ?_
    refine s_calli (As := [.int p2, .int 0, .int 100000000]) (rest := []) ⟨hx, hb, hml, hown, hts⟩ (metX3_in l _ p2 0 100000000) (va_cwS 3 hts (lw_S q1858 q1859 q85 q1860) rfl rfl rfl (by decide +kernel) ⟨Nat.le_of_ble_eq_true rfl, Nat.le_of_ble_eq_true rfl⟩) hw rfl hl.1 rfl (Nat.le_of_ble_eq_true rfl) dX3_setPeriod_16 ⟨Nat.le_refl _, Nat.le_refl _⟩ (fun r_16 hw => ?_)
    refine lv_if_eq (tgt := 34) hx hb dX3_setPeriod_19 (by decide) (fun c_17 => ?_) (fun c_17 => ?_)
    · have hw := hw.1 c_17
      exact T34 F_11 R_12 L_13 G_14 _ _ ls hP hS (lv_sub hl [0] rfl) hw
    · have hw := hw.2 c_17
      refine lv_aload_n hx hb dX3_setPeriod_22 rfl (lv_at hl 0 rfl) ?_
      refine lv_bipush (v := 96) hx hb dX3_setPeriod_23 (by decide) ?_
      refine lv_iload_n hx hb dX3_setPeriod_25 rfl (lv_at hl 1 rfl) ?_
      refine lv_iadd hx hb dX3_setPeriod_26 ?_
      refine lv_iload_n hx hb dX3_setPeriod_27 rfl (lv_at hl 2 rfl) ?_
      refine m_calli (As := [.int (96 + p1), .int p2]) (rest := []) ⟨hx, hb, hml, hown, hts⟩ (metX3_changes l K h a hap _ F_11 R_12 L_13 G_14 (96 + p1) p2) (cwV 2 hts (lw_V q1947 q1949 qs46 q85 q1950) rfl rfl rfl (by decide +kernel) ⟨Nat.le_of_ble_eq_true rfl, Nat.le_of_ble_eq_true rfl⟩) hK hP hS hw rfl hl.1 rfl (Nat.le_of_ble_eq_true rfl) dX3_setPeriod_28 ⟨Nat.le_refl _, Nat.le_refl _⟩ (fun r_18 F_19 R_20 L_21 G_22 H locs hw hP hS => ?_)
      refine lv_goto (tgt := 39) hx hb dX3_setPeriod_31 (by decide) ?_
      exact m_iret hx hb hr hlocks hP hS dX3_setPeriod_39 hw
def wpX3_goPass (post : Int32 → mF → mR → mL → mG → Prop) (F : mF) (R : mR) (L : mL) (G : mG) (p1 : Int32) : Prop := wpX3_in (fun r_1 => ((r_1 = 0 → post (-100001) F R L G) ∧ (¬ r_1 = 0 → ((((R 0 111) + p1) ≤ 1000000 → (∀ R_4 : mR, R_4 = va_up (va_up R 0 (upd (R 0) 111 ((R 0 111) + p1))) 0 (upd ((va_up R 0 (upd (R 0) 111 ((R 0 111) + p1))) 0) 112 (((va_up R 0 (upd (R 0) 111 ((R 0 111) + p1))) 0 112) + p1)) → post (R_4 0 111) F R_4 L G)) ∧ (¬ ((R 0 111) + p1) ≤ 1000000 → post (-100002) F R L G))))) p1 1 9999
abbrev wsX3_goPass : List Cond := ws_ yX3_goPass cX3_goPass 2 (some .int)
set_option maxHeartbeats 8000000 in
theorem metX3_goPass (l : Launch) (K : KT) (h : Nat) (a : Nat → Nat) (hap : mAp h a) (post : Int32 → mF → mR → mL → mG → Prop) (F : mF) (R : mR) (L : mL) (G : mG) (p1 : Int32) : Met l yX3_goPass wsX3_goPass (rmo 1 22) (mPre K h a F R L G [.int p1] (wpX3_goPass post F R L G p1)) (mQi post K h a) 0 0 (mA h a) := by
  refine Met.ofW (cc := cX3_goPass) (maxL := 2) (ret := (some .int)) (by decide) rfl ?_
  intro p e s m args below meth c s₁ B hml hv
  obtain ⟨rfl, hP, hK, hw⟩ := hv
  have hx := B.exec
  have hb := B.bytes
  have hr := B.returns
  have hts := atoms_spec (ws := wsX3_goPass) B.pre
  have hts : ∀ w ∈ lw_all, w.before _ s = true := fun w h => hts w (List.mem_cons_of_mem _ h)
  have hown : s.vm.findClass RX3 = some m.cls := findClass_of_methodNamed B.named
  have hlocks := B.notSynchronized
  have hl := lv_entry ([.ref h, .int p1]) (n := 2) (Nat.le_of_ble_eq_true rfl)
  rw [lg_entry_eq]
  generalize (lg_sl ([.ref h, .int p1]) ++ List.replicate (2 - (lg_sl ([.ref h, .int p1])).length) Slot.unset).toArray = ls at hl ⊢
  have hl : lv_has ls 2 [(0, .ref h), (1, .int p1)] := hl
  have hS : va_S (mA h a) s.heap s.heap [] := va_S.rf
  unfold wpX3_goPass at hw
  refine lv_iload_n hx hb dX3_goPass_0 rfl (lv_at hl 1 rfl) ?_
  refine lv_iconst (v := 1) hx hb dX3_goPass_1 (by decide) ?_
  refine lv_sipush (v := 9999) hx hb dX3_goPass_2 (by decide) ?_
  refine s_calli (As := [.int p1, .int 1, .int 9999]) (rest := []) ⟨hx, hb, hml, hown, hts⟩ (metX3_in l _ p1 1 9999) (va_cwS 3 hts (lw_S q1858 q1859 q85 q1860) rfl rfl rfl (by decide +kernel) ⟨Nat.le_of_ble_eq_true rfl, Nat.le_of_ble_eq_true rfl⟩) hw rfl hl.1 rfl (Nat.le_of_ble_eq_true rfl) dX3_goPass_5 ⟨Nat.le_refl _, Nat.le_refl _⟩ (fun r_1 hw => ?_)
  refine lv_if_ne (tgt := 14) hx hb dX3_goPass_8 (by decide) (fun c_2 => ?_) (fun c_2 => ?_)
  · have hw := hw.2 (c_2)
    refine lv_aload_n hx hb dX3_goPass_14 rfl (lv_at hl 0 rfl) ?_
    refine m_get hx hb hts hown hK hP 0 (by decide) q1728 rfl dX3_goPass_15 ?_
    refine lv_bipush (v := 111) hx hb dX3_goPass_18 (by decide) ?_
    refine m_iald (j := 111) hx hb hK hP 0 1 113 rfl (by decide) (vpd (by decide)) dX3_goPass_20 ?_
    refine lv_iload_n hx hb dX3_goPass_21 rfl (lv_at hl 1 rfl) ?_
    refine lv_iadd hx hb dX3_goPass_22 ?_
    refine lv_ldc hx hb hown (hts _ q1968) dX3_goPass_23 ?_
    refine lv_icmp_le (tgt := 31) hx hb dX3_goPass_25 (by decide) (fun c_3 => ?_) (fun c_3 => ?_)
    · have hw := hw.1 c_3
      refine lv_aload_n hx hb dX3_goPass_31 rfl (lv_at hl 0 rfl) ?_
      refine m_get hx hb hts hown hK hP 0 (by decide) q1728 rfl dX3_goPass_32 ?_
      refine lv_bipush (v := 111) hx hb dX3_goPass_35 (by decide) ?_
      refine lv_dup2_11 hx hb dX3_goPass_37 rfl rfl ?_
      refine m_iald (j := 111) hx hb hK hP 0 1 113 rfl (by decide) (vpd (by decide)) dX3_goPass_38 ?_
      refine lv_iload_n hx hb dX3_goPass_39 rfl (lv_at hl 1 rfl) ?_
      refine lv_iadd hx hb dX3_goPass_40 ?_
      refine m_iast (j := 111) hx hb hK hap hP hS 0 1 113 rfl (by decide) rfl (vpd (by decide)) dX3_goPass_41 (fun H locs hP hS => ?_)
      refine lv_aload_n hx hb dX3_goPass_42 rfl (lv_at hl 0 rfl) ?_
      refine m_get hx hb hts hown hK hP 0 (by decide) q1728 rfl dX3_goPass_43 ?_
      refine lv_bipush (v := 112) hx hb dX3_goPass_46 (by decide) ?_
      refine lv_dup2_11 hx hb dX3_goPass_48 rfl rfl ?_
      refine m_iald (j := 112) hx hb hK hP 0 1 113 rfl (by decide) (vpd (by decide)) dX3_goPass_49 ?_
      refine lv_iload_n hx hb dX3_goPass_50 rfl (lv_at hl 1 rfl) ?_
      refine lv_iadd hx hb dX3_goPass_51 ?_
      refine m_iast (j := 112) hx hb hK hap hP hS 0 1 113 rfl (by decide) rfl (vpd (by decide)) dX3_goPass_52 (fun H locs hP hS => ?_)
      obtain ⟨R_4, eR_4⟩ : ∃ y : mR, y = va_up (va_up R 0 (upd (R 0) 111 ((R 0 111) + p1))) 0 (upd ((va_up R 0 (upd (R 0) 111 ((R 0 111) + p1))) 0) 112 (((va_up R 0 (upd (R 0) 111 ((R 0 111) + p1))) 0 112) + p1)) := ⟨_, rfl⟩
      rw [← eR_4] at hP
      have hw := hw R_4 eR_4
      refine lv_aload_n hx hb dX3_goPass_53 rfl (lv_at hl 0 rfl) ?_
      refine m_get hx hb hts hown hK hP 0 (by decide) q1728 rfl dX3_goPass_54 ?_
      refine lv_bipush (v := 111) hx hb dX3_goPass_57 (by decide) ?_
      refine m_iald (j := 111) hx hb hK hP 0 1 113 rfl (by decide) (vpd (by decide)) dX3_goPass_59 ?_
      exact m_iret hx hb hr hlocks hP hS dX3_goPass_60 hw
    · have hw := hw.2 c_3
      refine lv_ldc hx hb hown (hts _ q1832) dX3_goPass_28 ?_
      exact m_iret hx hb hr hlocks hP hS dX3_goPass_30 hw
  · have hw := hw.1 (c_2)
    refine lv_ldc hx hb hown (hts _ q1837) dX3_goPass_11 ?_
    exact m_iret hx hb hr hlocks hP hS dX3_goPass_13 hw
def wpX3_pass (post : Int32 → mF → mR → mL → mG → Prop) (F : mF) (R : mR) (L : mL) (G : mG) (p1 : Int32) : Prop := wpX3_begins (fun F_1 R_2 L_3 G_4 => wpX3_goPass (fun r_5 F_6 R_7 L_8 G_9 => wpX3_ends (fun r_10 F_11 R_12 L_13 G_14 => post r_10 F_11 R_12 L_13 G_14) F_6 R_7 L_8 G_9 r_5) F_1 R_2 L_3 G_4 p1) F R L G
abbrev wsX3_pass : List Cond := ws_ yX3_pass cX3_pass 2 (some .int)
set_option maxHeartbeats 8000000 in
theorem metX3_pass (l : Launch) (K : KT) (h : Nat) (a : Nat → Nat) (hap : mAp h a) (post : Int32 → mF → mR → mL → mG → Prop) (F : mF) (R : mR) (L : mL) (G : mG) (p1 : Int32) : Met l yX3_pass wsX3_pass (rmo 3 66) (mPre K h a F R L G [.int p1] (wpX3_pass post F R L G p1)) (mQi post K h a) 0 0 (mA h a) := by
  refine Met.ofW (cc := cX3_pass) (maxL := 2) (ret := (some .int)) (by decide) rfl ?_
  intro p e s m args below meth c s₁ B hml hv
  obtain ⟨rfl, hP, hK, hw⟩ := hv
  have hx := B.exec
  have hb := B.bytes
  have hr := B.returns
  have hts := atoms_spec (ws := wsX3_pass) B.pre
  have hts : ∀ w ∈ lw_all, w.before _ s = true := fun w h => hts w (List.mem_cons_of_mem _ h)
  have hown : s.vm.findClass RX3 = some m.cls := findClass_of_methodNamed B.named
  have hlocks := B.notSynchronized
  have hl := lv_entry ([.ref h, .int p1]) (n := 2) (Nat.le_of_ble_eq_true rfl)
  rw [lg_entry_eq]
  generalize (lg_sl ([.ref h, .int p1]) ++ List.replicate (2 - (lg_sl ([.ref h, .int p1])).length) Slot.unset).toArray = ls at hl ⊢
  have hl : lv_has ls 2 [(0, .ref h), (1, .int p1)] := hl
  have hS : va_S (mA h a) s.heap s.heap [] := va_S.rf
  unfold wpX3_pass at hw
  refine lv_aload_n hx hb dX3_pass_0 rfl (lv_at hl 0 rfl) ?_
  refine m_callv (As := []) (rest := []) ⟨hx, hb, hml, hown, hts⟩ (metX3_begins l K h a hap _ F R L G) (cwV 0 hts (lw_V q1821 q1823 qs24 q85 q1824) rfl rfl rfl (by decide +kernel) ⟨Nat.le_of_ble_eq_true rfl, Nat.le_of_ble_eq_true rfl⟩) hK hP hS hw rfl hl.1 rfl (Nat.le_of_ble_eq_true rfl) dX3_pass_1 ⟨Nat.le_refl _, Nat.le_refl _⟩ (fun F_1 R_2 L_3 G_4 H locs hw hP hS => ?_)
  refine lv_aload_n hx hb dX3_pass_4 rfl (lv_at hl 0 rfl) ?_
  refine lv_aload_n hx hb dX3_pass_5 rfl (lv_at hl 0 rfl) ?_
  refine lv_iload_n hx hb dX3_pass_6 rfl (lv_at hl 1 rfl) ?_
  refine m_calli (As := [.int p1]) (rest := [.ref h]) ⟨hx, hb, hml, hown, hts⟩ (metX3_goPass l K h a hap _ F_1 R_2 L_3 G_4 p1) (cwV 1 hts (lw_V q1964 q1966 qs47 q85 q1967) rfl rfl rfl (by decide +kernel) ⟨Nat.le_of_ble_eq_true rfl, Nat.le_of_ble_eq_true rfl⟩) hK hP hS hw rfl hl.1 rfl (Nat.le_of_ble_eq_true rfl) dX3_pass_7 ⟨Nat.le_refl _, Nat.le_refl _⟩ (fun r_5 F_6 R_7 L_8 G_9 H locs hw hP hS => ?_)
  refine m_calli (As := [.int r_5]) (rest := []) ⟨hx, hb, hml, hown, hts⟩ (metX3_ends l K h a hap _ F_6 R_7 L_8 G_9 r_5) (cwV 1 hts (lw_V q1833 q1835 qs26 q85 q1836) rfl rfl rfl (by decide +kernel) ⟨Nat.le_of_ble_eq_true rfl, Nat.le_of_ble_eq_true rfl⟩) hK hP hS hw rfl hl.1 rfl (Nat.le_of_ble_eq_true rfl) dX3_pass_10 ⟨Nat.le_refl _, Nat.le_refl _⟩ (fun r_10 F_11 R_12 L_13 G_14 H locs hw hP hS => ?_)
  exact m_iret hx hb hr hlocks hP hS dX3_pass_13 hw
def wpX3_setDay (post : Int32 → mF → mR → mL → mG → Prop) (F : mF) (R : mR) (L : mL) (G : mG) (p1 : Int32) : Prop := wpX3_begins (fun F_1 R_2 L_3 G_4 => wpX3_in (fun r_5 => ((r_5 = 0 → wpX3_fails (fun r_7 F_8 R_9 L_10 G_11 => post r_7 F_8 R_9 L_10 G_11) F_1 R_2 L_3 G_4 1) ∧ (¬ r_5 = 0 → wpX3_changes (fun r_12 F_13 R_14 L_15 G_16 => post r_12 F_13 R_14 L_15 G_16) F_1 R_2 L_3 G_4 111 p1))) p1 0 1000000) F R L G
abbrev wsX3_setDay : List Cond := ws_ yX3_setDay cX3_setDay 2 (some .int)
set_option maxHeartbeats 8000000 in
theorem metX3_setDay (l : Launch) (K : KT) (h : Nat) (a : Nat → Nat) (hap : mAp h a) (post : Int32 → mF → mR → mL → mG → Prop) (F : mF) (R : mR) (L : mL) (G : mG) (p1 : Int32) : Met l yX3_setDay wsX3_setDay (rmo 4 89) (mPre K h a F R L G [.int p1] (wpX3_setDay post F R L G p1)) (mQi post K h a) 0 0 (mA h a) := by
  refine Met.ofW (cc := cX3_setDay) (maxL := 2) (ret := (some .int)) (by decide) rfl ?_
  intro p e s m args below meth c s₁ B hml hv
  obtain ⟨rfl, hP, hK, hw⟩ := hv
  have hx := B.exec
  have hb := B.bytes
  have hr := B.returns
  have hts := atoms_spec (ws := wsX3_setDay) B.pre
  have hts : ∀ w ∈ lw_all, w.before _ s = true := fun w h => hts w (List.mem_cons_of_mem _ h)
  have hown : s.vm.findClass RX3 = some m.cls := findClass_of_methodNamed B.named
  have hlocks := B.notSynchronized
  have hl := lv_entry ([.ref h, .int p1]) (n := 2) (Nat.le_of_ble_eq_true rfl)
  rw [lg_entry_eq]
  generalize (lg_sl ([.ref h, .int p1]) ++ List.replicate (2 - (lg_sl ([.ref h, .int p1])).length) Slot.unset).toArray = ls at hl ⊢
  have hl : lv_has ls 2 [(0, .ref h), (1, .int p1)] := hl
  have hS : va_S (mA h a) s.heap s.heap [] := va_S.rf
  unfold wpX3_setDay at hw
  refine lv_aload_n hx hb dX3_setDay_0 rfl (lv_at hl 0 rfl) ?_
  refine m_callv (As := []) (rest := []) ⟨hx, hb, hml, hown, hts⟩ (metX3_begins l K h a hap _ F R L G) (cwV 0 hts (lw_V q1821 q1823 qs24 q85 q1824) rfl rfl rfl (by decide +kernel) ⟨Nat.le_of_ble_eq_true rfl, Nat.le_of_ble_eq_true rfl⟩) hK hP hS hw rfl hl.1 rfl (Nat.le_of_ble_eq_true rfl) dX3_setDay_1 ⟨Nat.le_refl _, Nat.le_refl _⟩ (fun F_1 R_2 L_3 G_4 H locs hw hP hS => ?_)
  refine lv_iload_n hx hb dX3_setDay_4 rfl (lv_at hl 1 rfl) ?_
  refine lv_iconst (v := 0) hx hb dX3_setDay_5 (by decide) ?_
  refine lv_ldc hx hb hown (hts _ q1968) dX3_setDay_6 ?_
  refine s_calli (As := [.int p1, .int 0, .int 1000000]) (rest := []) ⟨hx, hb, hml, hown, hts⟩ (metX3_in l _ p1 0 1000000) (va_cwS 3 hts (lw_S q1858 q1859 q85 q1860) rfl rfl rfl (by decide +kernel) ⟨Nat.le_of_ble_eq_true rfl, Nat.le_of_ble_eq_true rfl⟩) hw rfl hl.1 rfl (Nat.le_of_ble_eq_true rfl) dX3_setDay_8 ⟨Nat.le_refl _, Nat.le_refl _⟩ (fun r_5 hw => ?_)
  refine lv_if_eq (tgt := 24) hx hb dX3_setDay_11 (by decide) (fun c_6 => ?_) (fun c_6 => ?_)
  · have hw := hw.1 c_6
    refine lv_aload_n hx hb dX3_setDay_24 rfl (lv_at hl 0 rfl) ?_
    refine lv_iconst (v := 1) hx hb dX3_setDay_25 (by decide) ?_
    refine m_calli (As := [.int 1]) (rest := []) ⟨hx, hb, hml, hown, hts⟩ (metX3_fails l K h a hap _ F_1 R_2 L_3 G_4 1) (cwV 1 hts (lw_V q1838 q1840 qs27 q85 q1841) rfl rfl rfl (by decide +kernel) ⟨Nat.le_of_ble_eq_true rfl, Nat.le_of_ble_eq_true rfl⟩) hK hP hS hw rfl hl.1 rfl (Nat.le_of_ble_eq_true rfl) dX3_setDay_26 ⟨Nat.le_refl _, Nat.le_refl _⟩ (fun r_7 F_8 R_9 L_10 G_11 H locs hw hP hS => ?_)
    exact m_iret hx hb hr hlocks hP hS dX3_setDay_29 hw
  · have hw := hw.2 c_6
    refine lv_aload_n hx hb dX3_setDay_14 rfl (lv_at hl 0 rfl) ?_
    refine lv_bipush (v := 111) hx hb dX3_setDay_15 (by decide) ?_
    refine lv_iload_n hx hb dX3_setDay_17 rfl (lv_at hl 1 rfl) ?_
    refine m_calli (As := [.int 111, .int p1]) (rest := []) ⟨hx, hb, hml, hown, hts⟩ (metX3_changes l K h a hap _ F_1 R_2 L_3 G_4 111 p1) (cwV 2 hts (lw_V q1947 q1949 qs46 q85 q1950) rfl rfl rfl (by decide +kernel) ⟨Nat.le_of_ble_eq_true rfl, Nat.le_of_ble_eq_true rfl⟩) hK hP hS hw rfl hl.1 rfl (Nat.le_of_ble_eq_true rfl) dX3_setDay_18 ⟨Nat.le_refl _, Nat.le_refl _⟩ (fun r_12 F_13 R_14 L_15 G_16 H locs hw hP hS => ?_)
    refine lv_goto (tgt := 29) hx hb dX3_setDay_21 (by decide) ?_
    exact m_iret hx hb hr hlocks hP hS dX3_setDay_29 hw
def wpX3_undo (post : Int32 → mF → mR → mL → mG → Prop) (F : mF) (R : mR) (L : mL) (G : mG) : Prop := ((((va_up F 8 0) 5) = 0 → wpX3_fails (fun r_6 F_7 R_8 L_9 G_10 => post r_6 F_7 R_8 L_9 G_10) (va_up F 8 0) R L G 1) ∧ (¬ ((va_up F 8 0) 5) = 0 → wpX3_copies_4_0 (fun F_2 R_3 L_4 G_5 => post (F_2 5) F_2 R_3 L_4 G_5) (va_up (va_up F 8 0) 5 (((va_up F 8 0) 5) - 1)) R L G (113 * ((va_up (va_up F 8 0) 5 (((va_up F 8 0) 5) - 1)) 5)) 0))
abbrev wsX3_undo : List Cond := ws_ yX3_undo cX3_undo 1 (some .int)
set_option maxHeartbeats 8000000 in
theorem metX3_undo (l : Launch) (K : KT) (h : Nat) (a : Nat → Nat) (hap : mAp h a) (post : Int32 → mF → mR → mL → mG → Prop) (F : mF) (R : mR) (L : mL) (G : mG) : Met l yX3_undo wsX3_undo (rmo 1 24) (mPre K h a F R L G [] (wpX3_undo post F R L G )) (mQi post K h a) 0 0 (mA h a) := by
  refine Met.ofW (cc := cX3_undo) (maxL := 1) (ret := (some .int)) (by decide) rfl ?_
  intro p e s m args below meth c s₁ B hml hv
  obtain ⟨rfl, hP, hK, hw⟩ := hv
  have hx := B.exec
  have hb := B.bytes
  have hr := B.returns
  have hts := atoms_spec (ws := wsX3_undo) B.pre
  have hts : ∀ w ∈ lw_all, w.before _ s = true := fun w h => hts w (List.mem_cons_of_mem _ h)
  have hown : s.vm.findClass RX3 = some m.cls := findClass_of_methodNamed B.named
  have hlocks := B.notSynchronized
  have hl := lv_entry ([.ref h]) (n := 1) (Nat.le_of_ble_eq_true rfl)
  rw [lg_entry_eq]
  generalize (lg_sl ([.ref h]) ++ List.replicate (1 - (lg_sl ([.ref h])).length) Slot.unset).toArray = ls at hl ⊢
  have hl : lv_has ls 1 [(0, .ref h)] := hl
  have hS : va_S (mA h a) s.heap s.heap [] := va_S.rf
  unfold wpX3_undo at hw
  refine lv_aload_n hx hb dX3_undo_0 rfl (lv_at hl 0 rfl) ?_
  refine lv_iconst (v := 0) hx hb dX3_undo_1 (by decide) ?_
  refine m_puti hx hb hts hown hK hap hP hS 8 (by decide) q1736 rfl rfl rfl rfl dX3_undo_2 (fun H locs hP hS => ?_)
  refine lv_aload_n hx hb dX3_undo_5 rfl (lv_at hl 0 rfl) ?_
  refine m_get hx hb hts hown hK hP 5 (by decide) q1733 rfl dX3_undo_6 ?_
  refine lv_if_ne (tgt := 18) hx hb dX3_undo_9 (by decide) (fun c_1 => ?_) (fun c_1 => ?_)
  · have hw := hw.2 (c_1)
    refine lv_aload_n hx hb dX3_undo_18 rfl (lv_at hl 0 rfl) ?_
    refine lv_dup hx hb dX3_undo_19 rfl ?_
    refine m_get hx hb hts hown hK hP 5 (by decide) q1733 rfl dX3_undo_20 ?_
    refine lv_iconst (v := 1) hx hb dX3_undo_23 (by decide) ?_
    refine lv_isub hx hb dX3_undo_24 ?_
    refine m_puti hx hb hts hown hK hap hP hS 5 (by decide) q1733 rfl rfl rfl rfl dX3_undo_25 (fun H locs hP hS => ?_)
    refine lv_aload_n hx hb dX3_undo_28 rfl (lv_at hl 0 rfl) ?_
    refine m_get hx hb hts hown hK hP 4 (by decide) q1732 rfl dX3_undo_29 ?_
    refine lv_bipush (v := 113) hx hb dX3_undo_32 (by decide) ?_
    refine lv_aload_n hx hb dX3_undo_34 rfl (lv_at hl 0 rfl) ?_
    refine m_get hx hb hts hown hK hP 5 (by decide) q1733 rfl dX3_undo_35 ?_
    refine lv_imul hx hb dX3_undo_38 ?_
    refine lv_aload_n hx hb dX3_undo_39 rfl (lv_at hl 0 rfl) ?_
    refine m_get hx hb hts hown hK hP 0 (by decide) q1728 rfl dX3_undo_40 ?_
    refine lv_iconst (v := 0) hx hb dX3_undo_43 (by decide) ?_
    refine m_callSv (As := [.ref (a 4), .int (113 * ((va_up (va_up F 8 0) 5 (((va_up F 8 0) 5) - 1)) 5)), .ref (a 0), .int 0]) (rest := []) ⟨hx, hb, hml, hown, hts⟩ (metX3_copies_4_0 l K h a hap _ (va_up (va_up F 8 0) 5 (((va_up F 8 0) 5) - 1)) R L G (113 * ((va_up (va_up F 8 0) 5 (((va_up F 8 0) 5) - 1)) 5)) 0) (va_cwS 4 hts (lw_S q1825 q1826 q85 q1827) rfl rfl rfl (by decide +kernel) ⟨Nat.le_of_ble_eq_true rfl, Nat.le_of_ble_eq_true rfl⟩) hK hP hS hw rfl hl.1 rfl (Nat.le_of_ble_eq_true rfl) dX3_undo_44 ⟨Nat.le_refl _, Nat.le_refl _⟩ (fun F_2 R_3 L_4 G_5 H locs hw hP hS => ?_)
    refine lv_aload_n hx hb dX3_undo_47 rfl (lv_at hl 0 rfl) ?_
    refine m_get hx hb hts hown hK hP 5 (by decide) q1733 rfl dX3_undo_48 ?_
    exact m_iret hx hb hr hlocks hP hS dX3_undo_51 hw
  · have hw := hw.1 (c_1)
    refine lv_aload_n hx hb dX3_undo_12 rfl (lv_at hl 0 rfl) ?_
    refine lv_iconst (v := 1) hx hb dX3_undo_13 (by decide) ?_
    refine m_calli (As := [.int 1]) (rest := []) ⟨hx, hb, hml, hown, hts⟩ (metX3_fails l K h a hap _ (va_up F 8 0) R L G 1) (cwV 1 hts (lw_V q1838 q1840 qs27 q85 q1841) rfl rfl rfl (by decide +kernel) ⟨Nat.le_of_ble_eq_true rfl, Nat.le_of_ble_eq_true rfl⟩) hK hP hS hw rfl hl.1 rfl (Nat.le_of_ble_eq_true rfl) dX3_undo_14 ⟨Nat.le_refl _, Nat.le_refl _⟩ (fun r_6 F_7 R_8 L_9 G_10 H locs hw hP hS => ?_)
    exact m_iret hx hb hr hlocks hP hS dX3_undo_17 hw
def wpX3_keep (post : Int32 → mF → mR → mL → mG → Prop) (F : mF) (R : mR) (L : mL) (G : mG) : Prop := wpX3_copies_0_2 (fun F_1 R_2 L_3 G_4 => post (R_2 0 111) F_1 R_2 L_3 G_4) (va_up (va_up F 8 0) 3 1) R L G 0 0
abbrev wsX3_keep : List Cond := ws_ yX3_keep cX3_keep 1 (some .int)
set_option maxHeartbeats 8000000 in
theorem metX3_keep (l : Launch) (K : KT) (h : Nat) (a : Nat → Nat) (hap : mAp h a) (post : Int32 → mF → mR → mL → mG → Prop) (F : mF) (R : mR) (L : mL) (G : mG) : Met l yX3_keep wsX3_keep (rmo 1 24) (mPre K h a F R L G [] (wpX3_keep post F R L G )) (mQi post K h a) 0 0 (mA h a) := by
  refine Met.ofW (cc := cX3_keep) (maxL := 1) (ret := (some .int)) (by decide) rfl ?_
  intro p e s m args below meth c s₁ B hml hv
  obtain ⟨rfl, hP, hK, hw⟩ := hv
  have hx := B.exec
  have hb := B.bytes
  have hr := B.returns
  have hts := atoms_spec (ws := wsX3_keep) B.pre
  have hts : ∀ w ∈ lw_all, w.before _ s = true := fun w h => hts w (List.mem_cons_of_mem _ h)
  have hown : s.vm.findClass RX3 = some m.cls := findClass_of_methodNamed B.named
  have hlocks := B.notSynchronized
  have hl := lv_entry ([.ref h]) (n := 1) (Nat.le_of_ble_eq_true rfl)
  rw [lg_entry_eq]
  generalize (lg_sl ([.ref h]) ++ List.replicate (1 - (lg_sl ([.ref h])).length) Slot.unset).toArray = ls at hl ⊢
  have hl : lv_has ls 1 [(0, .ref h)] := hl
  have hS : va_S (mA h a) s.heap s.heap [] := va_S.rf
  unfold wpX3_keep at hw
  refine lv_aload_n hx hb dX3_keep_0 rfl (lv_at hl 0 rfl) ?_
  refine lv_iconst (v := 0) hx hb dX3_keep_1 (by decide) ?_
  refine m_puti hx hb hts hown hK hap hP hS 8 (by decide) q1736 rfl rfl rfl rfl dX3_keep_2 (fun H locs hP hS => ?_)
  refine lv_aload_n hx hb dX3_keep_5 rfl (lv_at hl 0 rfl) ?_
  refine lv_iconst (v := 1) hx hb dX3_keep_6 (by decide) ?_
  refine m_puti hx hb hts hown hK hap hP hS 3 (by decide) q1731 rfl rfl rfl rfl dX3_keep_7 (fun H locs hP hS => ?_)
  refine lv_aload_n hx hb dX3_keep_10 rfl (lv_at hl 0 rfl) ?_
  refine m_get hx hb hts hown hK hP 0 (by decide) q1728 rfl dX3_keep_11 ?_
  refine lv_iconst (v := 0) hx hb dX3_keep_14 (by decide) ?_
  refine lv_aload_n hx hb dX3_keep_15 rfl (lv_at hl 0 rfl) ?_
  refine m_get hx hb hts hown hK hP 2 (by decide) q1730 rfl dX3_keep_16 ?_
  refine lv_iconst (v := 0) hx hb dX3_keep_19 (by decide) ?_
  refine m_callSv (As := [.ref (a 0), .int 0, .ref (a 2), .int 0]) (rest := []) ⟨hx, hb, hml, hown, hts⟩ (metX3_copies_0_2 l K h a hap _ (va_up (va_up F 8 0) 3 1) R L G 0 0) (va_cwS 4 hts (lw_S q1825 q1826 q85 q1827) rfl rfl rfl (by decide +kernel) ⟨Nat.le_of_ble_eq_true rfl, Nat.le_of_ble_eq_true rfl⟩) hK hP hS hw rfl hl.1 rfl (Nat.le_of_ble_eq_true rfl) dX3_keep_20 ⟨Nat.le_refl _, Nat.le_refl _⟩ (fun F_1 R_2 L_3 G_4 H locs hw hP hS => ?_)
  refine lv_aload_n hx hb dX3_keep_23 rfl (lv_at hl 0 rfl) ?_
  refine m_get hx hb hts hown hK hP 0 (by decide) q1728 rfl dX3_keep_24 ?_
  refine lv_bipush (v := 111) hx hb dX3_keep_27 (by decide) ?_
  refine m_iald (j := 111) hx hb hK hP 0 1 113 rfl (by decide) (vpd (by decide)) dX3_keep_29 ?_
  exact m_iret hx hb hr hlocks hP hS dX3_keep_30 hw
def wpX3_goBack (post : Int32 → mF → mR → mL → mG → Prop) (F : mF) (R : mR) (L : mL) (G : mG) : Prop := wpX3_begins (fun F_1 R_2 L_3 G_4 => (((F_1 3) = 0 → wpX3_fails (fun r_14 F_15 R_16 L_17 G_18 => post r_14 F_15 R_16 L_17 G_18) F_1 R_2 L_3 G_4 1) ∧ (¬ (F_1 3) = 0 → wpX3_copies_2_0 (fun F_6 R_7 L_8 G_9 => wpX3_records (fun F_10 R_11 L_12 G_13 => post (R_11 0 111) F_10 R_11 L_12 G_13) F_6 R_7 L_8 G_9) F_1 R_2 L_3 G_4 0 0))) F R L G
abbrev wsX3_goBack : List Cond := ws_ yX3_goBack cX3_goBack 1 (some .int)
set_option maxHeartbeats 8000000 in
theorem metX3_goBack (l : Launch) (K : KT) (h : Nat) (a : Nat → Nat) (hap : mAp h a) (post : Int32 → mF → mR → mL → mG → Prop) (F : mF) (R : mR) (L : mL) (G : mG) : Met l yX3_goBack wsX3_goBack (rmo 2 45) (mPre K h a F R L G [] (wpX3_goBack post F R L G )) (mQi post K h a) 0 0 (mA h a) := by
  refine Met.ofW (cc := cX3_goBack) (maxL := 1) (ret := (some .int)) (by decide) rfl ?_
  intro p e s m args below meth c s₁ B hml hv
  obtain ⟨rfl, hP, hK, hw⟩ := hv
  have hx := B.exec
  have hb := B.bytes
  have hr := B.returns
  have hts := atoms_spec (ws := wsX3_goBack) B.pre
  have hts : ∀ w ∈ lw_all, w.before _ s = true := fun w h => hts w (List.mem_cons_of_mem _ h)
  have hown : s.vm.findClass RX3 = some m.cls := findClass_of_methodNamed B.named
  have hlocks := B.notSynchronized
  have hl := lv_entry ([.ref h]) (n := 1) (Nat.le_of_ble_eq_true rfl)
  rw [lg_entry_eq]
  generalize (lg_sl ([.ref h]) ++ List.replicate (1 - (lg_sl ([.ref h])).length) Slot.unset).toArray = ls at hl ⊢
  have hl : lv_has ls 1 [(0, .ref h)] := hl
  have hS : va_S (mA h a) s.heap s.heap [] := va_S.rf
  unfold wpX3_goBack at hw
  refine lv_aload_n hx hb dX3_goBack_0 rfl (lv_at hl 0 rfl) ?_
  refine m_callv (As := []) (rest := []) ⟨hx, hb, hml, hown, hts⟩ (metX3_begins l K h a hap _ F R L G) (cwV 0 hts (lw_V q1821 q1823 qs24 q85 q1824) rfl rfl rfl (by decide +kernel) ⟨Nat.le_of_ble_eq_true rfl, Nat.le_of_ble_eq_true rfl⟩) hK hP hS hw rfl hl.1 rfl (Nat.le_of_ble_eq_true rfl) dX3_goBack_1 ⟨Nat.le_refl _, Nat.le_refl _⟩ (fun F_1 R_2 L_3 G_4 H locs hw hP hS => ?_)
  refine lv_aload_n hx hb dX3_goBack_4 rfl (lv_at hl 0 rfl) ?_
  refine m_get hx hb hts hown hK hP 3 (by decide) q1731 rfl dX3_goBack_5 ?_
  refine lv_if_ne (tgt := 17) hx hb dX3_goBack_8 (by decide) (fun c_5 => ?_) (fun c_5 => ?_)
  · have hw := hw.2 (c_5)
    refine lv_aload_n hx hb dX3_goBack_17 rfl (lv_at hl 0 rfl) ?_
    refine m_get hx hb hts hown hK hP 2 (by decide) q1730 rfl dX3_goBack_18 ?_
    refine lv_iconst (v := 0) hx hb dX3_goBack_21 (by decide) ?_
    refine lv_aload_n hx hb dX3_goBack_22 rfl (lv_at hl 0 rfl) ?_
    refine m_get hx hb hts hown hK hP 0 (by decide) q1728 rfl dX3_goBack_23 ?_
    refine lv_iconst (v := 0) hx hb dX3_goBack_26 (by decide) ?_
    refine m_callSv (As := [.ref (a 2), .int 0, .ref (a 0), .int 0]) (rest := []) ⟨hx, hb, hml, hown, hts⟩ (metX3_copies_2_0 l K h a hap _ F_1 R_2 L_3 G_4 0 0) (va_cwS 4 hts (lw_S q1825 q1826 q85 q1827) rfl rfl rfl (by decide +kernel) ⟨Nat.le_of_ble_eq_true rfl, Nat.le_of_ble_eq_true rfl⟩) hK hP hS hw rfl hl.1 rfl (Nat.le_of_ble_eq_true rfl) dX3_goBack_27 ⟨Nat.le_refl _, Nat.le_refl _⟩ (fun F_6 R_7 L_8 G_9 H locs hw hP hS => ?_)
    refine lv_aload_n hx hb dX3_goBack_30 rfl (lv_at hl 0 rfl) ?_
    refine m_callv (As := []) (rest := []) ⟨hx, hb, hml, hown, hts⟩ (metX3_records l K h a hap _ F_6 R_7 L_8 G_9) (cwV 0 hts (lw_V q1842 q1844 qs28 q85 q1845) rfl rfl rfl (by decide +kernel) ⟨Nat.le_of_ble_eq_true rfl, Nat.le_of_ble_eq_true rfl⟩) hK hP hS hw rfl hl.1 rfl (Nat.le_of_ble_eq_true rfl) dX3_goBack_31 ⟨Nat.le_refl _, Nat.le_refl _⟩ (fun F_10 R_11 L_12 G_13 H locs hw hP hS => ?_)
    refine lv_aload_n hx hb dX3_goBack_34 rfl (lv_at hl 0 rfl) ?_
    refine m_get hx hb hts hown hK hP 0 (by decide) q1728 rfl dX3_goBack_35 ?_
    refine lv_bipush (v := 111) hx hb dX3_goBack_38 (by decide) ?_
    refine m_iald (j := 111) hx hb hK hP 0 1 113 rfl (by decide) (vpd (by decide)) dX3_goBack_40 ?_
    exact m_iret hx hb hr hlocks hP hS dX3_goBack_41 hw
  · have hw := hw.1 (c_5)
    refine lv_aload_n hx hb dX3_goBack_11 rfl (lv_at hl 0 rfl) ?_
    refine lv_iconst (v := 1) hx hb dX3_goBack_12 (by decide) ?_
    refine m_calli (As := [.int 1]) (rest := []) ⟨hx, hb, hml, hown, hts⟩ (metX3_fails l K h a hap _ F_1 R_2 L_3 G_4 1) (cwV 1 hts (lw_V q1838 q1840 qs27 q85 q1841) rfl rfl rfl (by decide +kernel) ⟨Nat.le_of_ble_eq_true rfl, Nat.le_of_ble_eq_true rfl⟩) hK hP hS hw rfl hl.1 rfl (Nat.le_of_ble_eq_true rfl) dX3_goBack_13 ⟨Nat.le_refl _, Nat.le_refl _⟩ (fun r_14 F_15 R_16 L_17 G_18 H locs hw hP hS => ?_)
    exact m_iret hx hb hr hlocks hP hS dX3_goBack_16 hw
def wpX3_account (post : Int32 → mF → mR → mL → mG → Prop) (F : mF) (R : mR) (L : mL) (G : mG) (p1 : Int32) : Prop := (vp_in p1 113 ∧ post (R 0 (Int32.toNatClampNeg p1)) (va_up F 8 0) R L G)
abbrev wsX3_account : List Cond := ws_ yX3_account cX3_account 2 (some .int)
set_option maxHeartbeats 8000000 in
theorem metX3_account (l : Launch) (K : KT) (h : Nat) (a : Nat → Nat) (hap : mAp h a) (post : Int32 → mF → mR → mL → mG → Prop) (F : mF) (R : mR) (L : mL) (G : mG) (p1 : Int32) : Met l yX3_account wsX3_account (rmo 0 0) (mPre K h a F R L G [.int p1] (wpX3_account post F R L G p1)) (mQi post K h a) 0 0 (mA h a) := by
  refine Met.ofW (cc := cX3_account) (maxL := 2) (ret := (some .int)) (by decide) rfl ?_
  intro p e s m args below meth c s₁ B hml hv
  obtain ⟨rfl, hP, hK, hw⟩ := hv
  have hx := B.exec
  have hb := B.bytes
  have hr := B.returns
  have hts := atoms_spec (ws := wsX3_account) B.pre
  have hts : ∀ w ∈ lw_all, w.before _ s = true := fun w h => hts w (List.mem_cons_of_mem _ h)
  have hown : s.vm.findClass RX3 = some m.cls := findClass_of_methodNamed B.named
  have hlocks := B.notSynchronized
  have hl := lv_entry ([.ref h, .int p1]) (n := 2) (Nat.le_of_ble_eq_true rfl)
  rw [lg_entry_eq]
  generalize (lg_sl ([.ref h, .int p1]) ++ List.replicate (2 - (lg_sl ([.ref h, .int p1])).length) Slot.unset).toArray = ls at hl ⊢
  have hl : lv_has ls 2 [(0, .ref h), (1, .int p1)] := hl
  have hS : va_S (mA h a) s.heap s.heap [] := va_S.rf
  unfold wpX3_account at hw
  refine lv_aload_n hx hb dX3_account_0 rfl (lv_at hl 0 rfl) ?_
  refine lv_iconst (v := 0) hx hb dX3_account_1 (by decide) ?_
  refine m_puti hx hb hts hown hK hap hP hS 8 (by decide) q1736 rfl rfl rfl rfl dX3_account_2 (fun H locs hP hS => ?_)
  refine lv_aload_n hx hb dX3_account_5 rfl (lv_at hl 0 rfl) ?_
  refine m_get hx hb hts hown hK hP 0 (by decide) q1728 rfl dX3_account_6 ?_
  refine lv_iload_n hx hb dX3_account_9 rfl (lv_at hl 1 rfl) ?_
  obtain ⟨h_1, hw⟩ := hw
  refine m_iald (j := (Int32.toNatClampNeg p1)) hx hb hK hP 0 1 113 rfl rfl h_1 dX3_account_10 ?_
  exact m_iret hx hb hr hlocks hP hS dX3_account_11 hw
def wpX3_axles (post : Int32 → mF → mR → mL → mG → Prop) (F : mF) (R : mR) (L : mL) (G : mG) : Prop := wpX3_account (fun r_1 F_2 R_3 L_4 G_5 => post r_1 F_2 R_3 L_4 G_5) F R L G 0
abbrev wsX3_axles : List Cond := ws_ yX3_axles cX3_axles 1 (some .int)
set_option maxHeartbeats 8000000 in
theorem metX3_axles (l : Launch) (K : KT) (h : Nat) (a : Nat → Nat) (hap : mAp h a) (post : Int32 → mF → mR → mL → mG → Prop) (F : mF) (R : mR) (L : mL) (G : mG) : Met l yX3_axles wsX3_axles (rmo 1 21) (mPre K h a F R L G [] (wpX3_axles post F R L G )) (mQi post K h a) 0 0 (mA h a) := by
  refine Met.ofW (cc := cX3_axles) (maxL := 1) (ret := (some .int)) (by decide) rfl ?_
  intro p e s m args below meth c s₁ B hml hv
  obtain ⟨rfl, hP, hK, hw⟩ := hv
  have hx := B.exec
  have hb := B.bytes
  have hr := B.returns
  have hts := atoms_spec (ws := wsX3_axles) B.pre
  have hts : ∀ w ∈ lw_all, w.before _ s = true := fun w h => hts w (List.mem_cons_of_mem _ h)
  have hown : s.vm.findClass RX3 = some m.cls := findClass_of_methodNamed B.named
  have hlocks := B.notSynchronized
  have hl := lv_entry ([.ref h]) (n := 1) (Nat.le_of_ble_eq_true rfl)
  rw [lg_entry_eq]
  generalize (lg_sl ([.ref h]) ++ List.replicate (1 - (lg_sl ([.ref h])).length) Slot.unset).toArray = ls at hl ⊢
  have hl : lv_has ls 1 [(0, .ref h)] := hl
  have hS : va_S (mA h a) s.heap s.heap [] := va_S.rf
  unfold wpX3_axles at hw
  refine lv_aload_n hx hb dX3_axles_0 rfl (lv_at hl 0 rfl) ?_
  refine lv_iconst (v := 0) hx hb dX3_axles_1 (by decide) ?_
  refine m_calli (As := [.int 0]) (rest := []) ⟨hx, hb, hml, hown, hts⟩ (metX3_account l K h a hap _ F R L G 0) (cwV 1 hts (lw_V q1989 q1991 qs48 q85 q1992) rfl rfl rfl (by decide +kernel) ⟨Nat.le_of_ble_eq_true rfl, Nat.le_of_ble_eq_true rfl⟩) hK hP hS hw rfl hl.1 rfl (Nat.le_of_ble_eq_true rfl) dX3_axles_2 ⟨Nat.le_refl _, Nat.le_refl _⟩ (fun r_1 F_2 R_3 L_4 G_5 H locs hw hP hS => ?_)
  exact m_iret hx hb hr hlocks hP hS dX3_axles_5 hw
def wpX3_wheels (post : Int32 → mF → mR → mL → mG → Prop) (F : mF) (R : mR) (L : mL) (G : mG) : Prop := wpX3_account (fun r_1 F_2 R_3 L_4 G_5 => post r_1 F_2 R_3 L_4 G_5) F R L G 1
abbrev wsX3_wheels : List Cond := ws_ yX3_wheels cX3_wheels 1 (some .int)
set_option maxHeartbeats 8000000 in
theorem metX3_wheels (l : Launch) (K : KT) (h : Nat) (a : Nat → Nat) (hap : mAp h a) (post : Int32 → mF → mR → mL → mG → Prop) (F : mF) (R : mR) (L : mL) (G : mG) : Met l yX3_wheels wsX3_wheels (rmo 1 21) (mPre K h a F R L G [] (wpX3_wheels post F R L G )) (mQi post K h a) 0 0 (mA h a) := by
  refine Met.ofW (cc := cX3_wheels) (maxL := 1) (ret := (some .int)) (by decide) rfl ?_
  intro p e s m args below meth c s₁ B hml hv
  obtain ⟨rfl, hP, hK, hw⟩ := hv
  have hx := B.exec
  have hb := B.bytes
  have hr := B.returns
  have hts := atoms_spec (ws := wsX3_wheels) B.pre
  have hts : ∀ w ∈ lw_all, w.before _ s = true := fun w h => hts w (List.mem_cons_of_mem _ h)
  have hown : s.vm.findClass RX3 = some m.cls := findClass_of_methodNamed B.named
  have hlocks := B.notSynchronized
  have hl := lv_entry ([.ref h]) (n := 1) (Nat.le_of_ble_eq_true rfl)
  rw [lg_entry_eq]
  generalize (lg_sl ([.ref h]) ++ List.replicate (1 - (lg_sl ([.ref h])).length) Slot.unset).toArray = ls at hl ⊢
  have hl : lv_has ls 1 [(0, .ref h)] := hl
  have hS : va_S (mA h a) s.heap s.heap [] := va_S.rf
  unfold wpX3_wheels at hw
  refine lv_aload_n hx hb dX3_wheels_0 rfl (lv_at hl 0 rfl) ?_
  refine lv_iconst (v := 1) hx hb dX3_wheels_1 (by decide) ?_
  refine m_calli (As := [.int 1]) (rest := []) ⟨hx, hb, hml, hown, hts⟩ (metX3_account l K h a hap _ F R L G 1) (cwV 1 hts (lw_V q1989 q1991 qs48 q85 q1992) rfl rfl rfl (by decide +kernel) ⟨Nat.le_of_ble_eq_true rfl, Nat.le_of_ble_eq_true rfl⟩) hK hP hS hw rfl hl.1 rfl (Nat.le_of_ble_eq_true rfl) dX3_wheels_2 ⟨Nat.le_refl _, Nat.le_refl _⟩ (fun r_1 F_2 R_3 L_4 G_5 H locs hw hP hS => ?_)
  exact m_iret hx hb hr hlocks hP hS dX3_wheels_5 hw
def wpX3_pairs (post : Int32 → mF → mR → mL → mG → Prop) (F : mF) (R : mR) (L : mL) (G : mG) : Prop := wpX3_account (fun r_1 F_2 R_3 L_4 G_5 => post r_1 F_2 R_3 L_4 G_5) F R L G 50
abbrev wsX3_pairs : List Cond := ws_ yX3_pairs cX3_pairs 1 (some .int)
set_option maxHeartbeats 8000000 in
theorem metX3_pairs (l : Launch) (K : KT) (h : Nat) (a : Nat → Nat) (hap : mAp h a) (post : Int32 → mF → mR → mL → mG → Prop) (F : mF) (R : mR) (L : mL) (G : mG) : Met l yX3_pairs wsX3_pairs (rmo 1 21) (mPre K h a F R L G [] (wpX3_pairs post F R L G )) (mQi post K h a) 0 0 (mA h a) := by
  refine Met.ofW (cc := cX3_pairs) (maxL := 1) (ret := (some .int)) (by decide) rfl ?_
  intro p e s m args below meth c s₁ B hml hv
  obtain ⟨rfl, hP, hK, hw⟩ := hv
  have hx := B.exec
  have hb := B.bytes
  have hr := B.returns
  have hts := atoms_spec (ws := wsX3_pairs) B.pre
  have hts : ∀ w ∈ lw_all, w.before _ s = true := fun w h => hts w (List.mem_cons_of_mem _ h)
  have hown : s.vm.findClass RX3 = some m.cls := findClass_of_methodNamed B.named
  have hlocks := B.notSynchronized
  have hl := lv_entry ([.ref h]) (n := 1) (Nat.le_of_ble_eq_true rfl)
  rw [lg_entry_eq]
  generalize (lg_sl ([.ref h]) ++ List.replicate (1 - (lg_sl ([.ref h])).length) Slot.unset).toArray = ls at hl ⊢
  have hl : lv_has ls 1 [(0, .ref h)] := hl
  have hS : va_S (mA h a) s.heap s.heap [] := va_S.rf
  unfold wpX3_pairs at hw
  refine lv_aload_n hx hb dX3_pairs_0 rfl (lv_at hl 0 rfl) ?_
  refine lv_bipush (v := 50) hx hb dX3_pairs_1 (by decide) ?_
  refine m_calli (As := [.int 50]) (rest := []) ⟨hx, hb, hml, hown, hts⟩ (metX3_account l K h a hap _ F R L G 50) (cwV 1 hts (lw_V q1989 q1991 qs48 q85 q1992) rfl rfl rfl (by decide +kernel) ⟨Nat.le_of_ble_eq_true rfl, Nat.le_of_ble_eq_true rfl⟩) hK hP hS hw rfl hl.1 rfl (Nat.le_of_ble_eq_true rfl) dX3_pairs_3 ⟨Nat.le_refl _, Nat.le_refl _⟩ (fun r_1 F_2 R_3 L_4 G_5 H locs hw hP hS => ?_)
  exact m_iret hx hb hr hlocks hP hS dX3_pairs_6 hw
def wpX3_asks (post : Int32 → mF → mR → mL → mG → Prop) (F : mF) (R : mR) (L : mL) (G : mG) (p1 : Int32) : Prop := ((p1 = 0 → ((p1 = 0 ∨ p1 = 1) ∧ post p1 (va_up F 8 1) R L G)) ∧ (¬ p1 = 0 → ((p1 = 0 ∨ p1 = 1) ∧ post p1 (va_up F 8 0) R L G)))
abbrev wsX3_asks : List Cond := ws_ yX3_asks cX3_asks 2 (some .boolean)
set_option maxHeartbeats 8000000 in
theorem metX3_asks (l : Launch) (K : KT) (h : Nat) (a : Nat → Nat) (hap : mAp h a) (post : Int32 → mF → mR → mL → mG → Prop) (F : mF) (R : mR) (L : mL) (G : mG) (p1 : Int32) : Met l yX3_asks wsX3_asks (rmo 0 0) (mPre K h a F R L G [.int p1] (wpX3_asks post F R L G p1)) (mQi post K h a) 0 0 (mA h a) := by
  refine Met.ofW (cc := cX3_asks) (maxL := 2) (ret := (some .boolean)) (by decide) rfl ?_
  intro p e s m args below meth c s₁ B hml hv
  obtain ⟨rfl, hP, hK, hw⟩ := hv
  have hx := B.exec
  have hb := B.bytes
  have hr := B.returns
  have hts := atoms_spec (ws := wsX3_asks) B.pre
  have hts : ∀ w ∈ lw_all, w.before _ s = true := fun w h => hts w (List.mem_cons_of_mem _ h)
  have hown : s.vm.findClass RX3 = some m.cls := findClass_of_methodNamed B.named
  have hlocks := B.notSynchronized
  have hl := lv_entry ([.ref h, .int p1]) (n := 2) (Nat.le_of_ble_eq_true rfl)
  rw [lg_entry_eq]
  generalize (lg_sl ([.ref h, .int p1]) ++ List.replicate (2 - (lg_sl ([.ref h, .int p1])).length) Slot.unset).toArray = ls at hl ⊢
  have hl : lv_has ls 2 [(0, .ref h), (1, .int p1)] := hl
  have hS : va_S (mA h a) s.heap s.heap [] := va_S.rf
  unfold wpX3_asks at hw
  refine lv_aload_n hx hb dX3_asks_0 rfl (lv_at hl 0 rfl) ?_
  refine lv_iload_n hx hb dX3_asks_1 rfl (lv_at hl 1 rfl) ?_
  refine lv_if_eq (tgt := 9) hx hb dX3_asks_2 (by decide) (fun c_1 => ?_) (fun c_1 => ?_)
  · have hw := hw.1 c_1
    refine lv_iconst (v := 1) hx hb dX3_asks_9 (by decide) ?_
    refine m_puti hx hb hts hown hK hap hP hS 8 (by decide) q1736 rfl rfl rfl rfl dX3_asks_10 (fun H locs hP hS => ?_)
    refine lv_iload_n hx hb dX3_asks_13 rfl (lv_at hl 1 rfl) ?_
    obtain ⟨h_2, hw⟩ := hw
    exact m_zret hx hb hr hlocks hP hS dX3_asks_14 h_2 hw
  · have hw := hw.2 c_1
    refine lv_iconst (v := 0) hx hb dX3_asks_5 (by decide) ?_
    refine lv_goto (tgt := 10) hx hb dX3_asks_6 (by decide) ?_
    refine m_puti hx hb hts hown hK hap hP hS 8 (by decide) q1736 rfl rfl rfl rfl dX3_asks_10 (fun H locs hP hS => ?_)
    refine lv_iload_n hx hb dX3_asks_13 rfl (lv_at hl 1 rfl) ?_
    obtain ⟨h_3, hw⟩ := hw
    exact m_zret hx hb hr hlocks hP hS dX3_asks_14 h_3 hw
def wpX3_teethOf (post : Int32 → mF → mR → mL → mG → Prop) (F : mF) (R : mR) (L : mL) (G : mG) (p1 : Int32) : Prop := wpX3_isWheel (fun r_1 F_2 R_3 L_4 G_5 => wpX3_asks (fun r_6 F_7 R_8 L_9 G_10 => ((r_6 = 0 → post 0 F_7 R_8 L_9 G_10) ∧ (¬ r_6 = 0 → (vp_in (2 + p1) 113 ∧ post (R_8 0 (Int32.toNatClampNeg (2 + p1))) F_7 R_8 L_9 G_10)))) F_2 R_3 L_4 G_5 r_1) F R L G p1
abbrev wsX3_teethOf : List Cond := ws_ yX3_teethOf cX3_teethOf 2 (some .int)
set_option maxHeartbeats 8000000 in
theorem metX3_teethOf (l : Launch) (K : KT) (h : Nat) (a : Nat → Nat) (hap : mAp h a) (post : Int32 → mF → mR → mL → mG → Prop) (F : mF) (R : mR) (L : mL) (G : mG) (p1 : Int32) : Met l yX3_teethOf wsX3_teethOf (rmo 2 43) (mPre K h a F R L G [.int p1] (wpX3_teethOf post F R L G p1)) (mQi post K h a) 0 0 (mA h a) := by
  refine Met.ofW (cc := cX3_teethOf) (maxL := 2) (ret := (some .int)) (by decide) rfl ?_
  intro p e s m args below meth c s₁ B hml hv
  obtain ⟨rfl, hP, hK, hw⟩ := hv
  have hx := B.exec
  have hb := B.bytes
  have hr := B.returns
  have hts := atoms_spec (ws := wsX3_teethOf) B.pre
  have hts : ∀ w ∈ lw_all, w.before _ s = true := fun w h => hts w (List.mem_cons_of_mem _ h)
  have hown : s.vm.findClass RX3 = some m.cls := findClass_of_methodNamed B.named
  have hlocks := B.notSynchronized
  have hl := lv_entry ([.ref h, .int p1]) (n := 2) (Nat.le_of_ble_eq_true rfl)
  rw [lg_entry_eq]
  generalize (lg_sl ([.ref h, .int p1]) ++ List.replicate (2 - (lg_sl ([.ref h, .int p1])).length) Slot.unset).toArray = ls at hl ⊢
  have hl : lv_has ls 2 [(0, .ref h), (1, .int p1)] := hl
  have hS : va_S (mA h a) s.heap s.heap [] := va_S.rf
  unfold wpX3_teethOf at hw
  refine lv_aload_n hx hb dX3_teethOf_0 rfl (lv_at hl 0 rfl) ?_
  refine lv_aload_n hx hb dX3_teethOf_1 rfl (lv_at hl 0 rfl) ?_
  refine lv_iload_n hx hb dX3_teethOf_2 rfl (lv_at hl 1 rfl) ?_
  refine m_calli (As := [.int p1]) (rest := [.ref h]) ⟨hx, hb, hml, hown, hts⟩ (metX3_isWheel l K h a hap _ F R L G p1) (cwV 1 hts (lw_V q1876 q1878 qs33 q85 q1879) rfl rfl rfl (by decide +kernel) ⟨Nat.le_of_ble_eq_true rfl, Nat.le_of_ble_eq_true rfl⟩) hK hP hS hw rfl hl.1 rfl (Nat.le_of_ble_eq_true rfl) dX3_teethOf_3 ⟨Nat.le_refl _, Nat.le_refl _⟩ (fun r_1 F_2 R_3 L_4 G_5 H locs hw hP hS => ?_)
  refine m_calli (As := [.int r_1]) (rest := []) ⟨hx, hb, hml, hown, hts⟩ (metX3_asks l K h a hap _ F_2 R_3 L_4 G_5 r_1) (cwV 1 hts (lw_V q2005 q2007 qs49 q85 q2008) rfl rfl rfl (by decide +kernel) ⟨Nat.le_of_ble_eq_true rfl, Nat.le_of_ble_eq_true rfl⟩) hK hP hS hw rfl hl.1 rfl (Nat.le_of_ble_eq_true rfl) dX3_teethOf_6 ⟨Nat.le_refl _, Nat.le_refl _⟩ (fun r_6 F_7 R_8 L_9 G_10 H locs hw hP hS => ?_)
  refine lv_if_eq (tgt := 23) hx hb dX3_teethOf_9 (by decide) (fun c_11 => ?_) (fun c_11 => ?_)
  · have hw := hw.1 c_11
    refine lv_iconst (v := 0) hx hb dX3_teethOf_23 (by decide) ?_
    exact m_iret hx hb hr hlocks hP hS dX3_teethOf_24 hw
  · have hw := hw.2 c_11
    refine lv_aload_n hx hb dX3_teethOf_12 rfl (lv_at hl 0 rfl) ?_
    refine m_get hx hb hts hown hK hP 0 (by decide) q1728 rfl dX3_teethOf_13 ?_
    refine lv_iconst (v := 2) hx hb dX3_teethOf_16 (by decide) ?_
    refine lv_iload_n hx hb dX3_teethOf_17 rfl (lv_at hl 1 rfl) ?_
    refine lv_iadd hx hb dX3_teethOf_18 ?_
    obtain ⟨h_12, hw⟩ := hw
    refine m_iald (j := (Int32.toNatClampNeg (2 + p1))) hx hb hK hP 0 1 113 rfl rfl h_12 dX3_teethOf_19 ?_
    refine lv_goto (tgt := 24) hx hb dX3_teethOf_20 (by decide) ?_
    exact m_iret hx hb hr hlocks hP hS dX3_teethOf_24 hw
def wpX3_axleOf (post : Int32 → mF → mR → mL → mG → Prop) (F : mF) (R : mR) (L : mL) (G : mG) (p1 : Int32) : Prop := wpX3_isWheel (fun r_1 F_2 R_3 L_4 G_5 => wpX3_asks (fun r_6 F_7 R_8 L_9 G_10 => ((r_6 = 0 → post 0 F_7 R_8 L_9 G_10) ∧ (¬ r_6 = 0 → (vp_in (26 + p1) 113 ∧ post (R_8 0 (Int32.toNatClampNeg (26 + p1))) F_7 R_8 L_9 G_10)))) F_2 R_3 L_4 G_5 r_1) F R L G p1
abbrev wsX3_axleOf : List Cond := ws_ yX3_axleOf cX3_axleOf 2 (some .int)
set_option maxHeartbeats 8000000 in
theorem metX3_axleOf (l : Launch) (K : KT) (h : Nat) (a : Nat → Nat) (hap : mAp h a) (post : Int32 → mF → mR → mL → mG → Prop) (F : mF) (R : mR) (L : mL) (G : mG) (p1 : Int32) : Met l yX3_axleOf wsX3_axleOf (rmo 2 43) (mPre K h a F R L G [.int p1] (wpX3_axleOf post F R L G p1)) (mQi post K h a) 0 0 (mA h a) := by
  refine Met.ofW (cc := cX3_axleOf) (maxL := 2) (ret := (some .int)) (by decide) rfl ?_
  intro p e s m args below meth c s₁ B hml hv
  obtain ⟨rfl, hP, hK, hw⟩ := hv
  have hx := B.exec
  have hb := B.bytes
  have hr := B.returns
  have hts := atoms_spec (ws := wsX3_axleOf) B.pre
  have hts : ∀ w ∈ lw_all, w.before _ s = true := fun w h => hts w (List.mem_cons_of_mem _ h)
  have hown : s.vm.findClass RX3 = some m.cls := findClass_of_methodNamed B.named
  have hlocks := B.notSynchronized
  have hl := lv_entry ([.ref h, .int p1]) (n := 2) (Nat.le_of_ble_eq_true rfl)
  rw [lg_entry_eq]
  generalize (lg_sl ([.ref h, .int p1]) ++ List.replicate (2 - (lg_sl ([.ref h, .int p1])).length) Slot.unset).toArray = ls at hl ⊢
  have hl : lv_has ls 2 [(0, .ref h), (1, .int p1)] := hl
  have hS : va_S (mA h a) s.heap s.heap [] := va_S.rf
  unfold wpX3_axleOf at hw
  refine lv_aload_n hx hb dX3_axleOf_0 rfl (lv_at hl 0 rfl) ?_
  refine lv_aload_n hx hb dX3_axleOf_1 rfl (lv_at hl 0 rfl) ?_
  refine lv_iload_n hx hb dX3_axleOf_2 rfl (lv_at hl 1 rfl) ?_
  refine m_calli (As := [.int p1]) (rest := [.ref h]) ⟨hx, hb, hml, hown, hts⟩ (metX3_isWheel l K h a hap _ F R L G p1) (cwV 1 hts (lw_V q1876 q1878 qs33 q85 q1879) rfl rfl rfl (by decide +kernel) ⟨Nat.le_of_ble_eq_true rfl, Nat.le_of_ble_eq_true rfl⟩) hK hP hS hw rfl hl.1 rfl (Nat.le_of_ble_eq_true rfl) dX3_axleOf_3 ⟨Nat.le_refl _, Nat.le_refl _⟩ (fun r_1 F_2 R_3 L_4 G_5 H locs hw hP hS => ?_)
  refine m_calli (As := [.int r_1]) (rest := []) ⟨hx, hb, hml, hown, hts⟩ (metX3_asks l K h a hap _ F_2 R_3 L_4 G_5 r_1) (cwV 1 hts (lw_V q2005 q2007 qs49 q85 q2008) rfl rfl rfl (by decide +kernel) ⟨Nat.le_of_ble_eq_true rfl, Nat.le_of_ble_eq_true rfl⟩) hK hP hS hw rfl hl.1 rfl (Nat.le_of_ble_eq_true rfl) dX3_axleOf_6 ⟨Nat.le_refl _, Nat.le_refl _⟩ (fun r_6 F_7 R_8 L_9 G_10 H locs hw hP hS => ?_)
  refine lv_if_eq (tgt := 24) hx hb dX3_axleOf_9 (by decide) (fun c_11 => ?_) (fun c_11 => ?_)
  · have hw := hw.1 c_11
    refine lv_iconst (v := 0) hx hb dX3_axleOf_24 (by decide) ?_
    exact m_iret hx hb hr hlocks hP hS dX3_axleOf_25 hw
  · have hw := hw.2 c_11
    refine lv_aload_n hx hb dX3_axleOf_12 rfl (lv_at hl 0 rfl) ?_
    refine m_get hx hb hts hown hK hP 0 (by decide) q1728 rfl dX3_axleOf_13 ?_
    refine lv_bipush (v := 26) hx hb dX3_axleOf_16 (by decide) ?_
    refine lv_iload_n hx hb dX3_axleOf_18 rfl (lv_at hl 1 rfl) ?_
    refine lv_iadd hx hb dX3_axleOf_19 ?_
    obtain ⟨h_12, hw⟩ := hw
    refine m_iald (j := (Int32.toNatClampNeg (26 + p1))) hx hb hK hP 0 1 113 rfl rfl h_12 dX3_axleOf_20 ?_
    refine lv_goto (tgt := 25) hx hb dX3_axleOf_21 (by decide) ?_
    exact m_iret hx hb hr hlocks hP hS dX3_axleOf_25 hw
def wpX3_whyNotMesh (post : Int32 → mF → mR → mL → mG → Prop) (F : mF) (R : mR) (L : mL) (G : mG) (p1 : Int32) (p2 : Int32) : Prop := wpX3_begins (fun F_1 R_2 L_3 G_4 => wpX3_areWheels (fun r_5 F_6 R_7 L_8 G_9 => ((r_5 = 0 → wpX3_fails (fun r_20 F_21 R_22 L_23 G_24 => post r_20 F_21 R_22 L_23 G_24) F_6 R_7 L_8 G_9 1) ∧ (¬ r_5 = 0 → wpX3_reason (fun r_11 F_12 R_13 L_14 G_15 => wpX3_copies_1_0 (fun F_16 R_17 L_18 G_19 => post r_11 F_16 R_17 L_18 G_19) F_12 R_13 L_14 G_15 0 0) F_6 R_7 L_8 G_9 p1 p2))) F_1 R_2 L_3 G_4 p1 p2) F R L G
abbrev wsX3_whyNotMesh : List Cond := ws_ yX3_whyNotMesh cX3_whyNotMesh 4 (some .int)
set_option maxHeartbeats 8000000 in
theorem metX3_whyNotMesh (l : Launch) (K : KT) (h : Nat) (a : Nat → Nat) (hap : mAp h a) (post : Int32 → mF → mR → mL → mG → Prop) (F : mF) (R : mR) (L : mL) (G : mG) (p1 : Int32) (p2 : Int32) : Met l yX3_whyNotMesh wsX3_whyNotMesh (rmo 4 107) (mPre K h a F R L G [.int p1, .int p2] (wpX3_whyNotMesh post F R L G p1 p2)) (mQi post K h a) 0 0 (mA h a) := by
  refine Met.ofW (cc := cX3_whyNotMesh) (maxL := 4) (ret := (some .int)) (by decide) rfl ?_
  intro p e s m args below meth c s₁ B hml hv
  obtain ⟨rfl, hP, hK, hw⟩ := hv
  have hx := B.exec
  have hb := B.bytes
  have hr := B.returns
  have hts := atoms_spec (ws := wsX3_whyNotMesh) B.pre
  have hts : ∀ w ∈ lw_all, w.before _ s = true := fun w h => hts w (List.mem_cons_of_mem _ h)
  have hown : s.vm.findClass RX3 = some m.cls := findClass_of_methodNamed B.named
  have hlocks := B.notSynchronized
  have hl := lv_entry ([.ref h, .int p1, .int p2]) (n := 4) (Nat.le_of_ble_eq_true rfl)
  rw [lg_entry_eq]
  generalize (lg_sl ([.ref h, .int p1, .int p2]) ++ List.replicate (4 - (lg_sl ([.ref h, .int p1, .int p2])).length) Slot.unset).toArray = ls at hl ⊢
  have hl : lv_has ls 4 [(0, .ref h), (1, .int p1), (2, .int p2)] := hl
  have hS : va_S (mA h a) s.heap s.heap [] := va_S.rf
  unfold wpX3_whyNotMesh at hw
  refine lv_aload_n hx hb dX3_whyNotMesh_0 rfl (lv_at hl 0 rfl) ?_
  refine m_callv (As := []) (rest := []) ⟨hx, hb, hml, hown, hts⟩ (metX3_begins l K h a hap _ F R L G) (cwV 0 hts (lw_V q1821 q1823 qs24 q85 q1824) rfl rfl rfl (by decide +kernel) ⟨Nat.le_of_ble_eq_true rfl, Nat.le_of_ble_eq_true rfl⟩) hK hP hS hw rfl hl.1 rfl (Nat.le_of_ble_eq_true rfl) dX3_whyNotMesh_1 ⟨Nat.le_refl _, Nat.le_refl _⟩ (fun F_1 R_2 L_3 G_4 H locs hw hP hS => ?_)
  refine lv_aload_n hx hb dX3_whyNotMesh_4 rfl (lv_at hl 0 rfl) ?_
  refine lv_iload_n hx hb dX3_whyNotMesh_5 rfl (lv_at hl 1 rfl) ?_
  refine lv_iload_n hx hb dX3_whyNotMesh_6 rfl (lv_at hl 2 rfl) ?_
  refine m_calli (As := [.int p1, .int p2]) (rest := []) ⟨hx, hb, hml, hown, hts⟩ (metX3_areWheels l K h a hap _ F_1 R_2 L_3 G_4 p1 p2) (cwV 2 hts (lw_V q1872 q1874 qs32 q85 q1875) rfl rfl rfl (by decide +kernel) ⟨Nat.le_of_ble_eq_true rfl, Nat.le_of_ble_eq_true rfl⟩) hK hP hS hw rfl hl.1 rfl (Nat.le_of_ble_eq_true rfl) dX3_whyNotMesh_7 ⟨Nat.le_refl _, Nat.le_refl _⟩ (fun r_5 F_6 R_7 L_8 G_9 H locs hw hP hS => ?_)
  refine lv_if_ne (tgt := 19) hx hb dX3_whyNotMesh_10 (by decide) (fun c_10 => ?_) (fun c_10 => ?_)
  · have hw := hw.2 (c_10)
    refine lv_aload_n hx hb dX3_whyNotMesh_19 rfl (lv_at hl 0 rfl) ?_
    refine lv_iload_n hx hb dX3_whyNotMesh_20 rfl (lv_at hl 1 rfl) ?_
    refine lv_iload_n hx hb dX3_whyNotMesh_21 rfl (lv_at hl 2 rfl) ?_
    refine m_calli (As := [.int p1, .int p2]) (rest := []) ⟨hx, hb, hml, hown, hts⟩ (metX3_reason l K h a hap _ F_6 R_7 L_8 G_9 p1 p2) (cwV 2 hts (lw_V q1880 q1882 qs34 q85 q1883) rfl rfl rfl (by decide +kernel) ⟨Nat.le_of_ble_eq_true rfl, Nat.le_of_ble_eq_true rfl⟩) hK hP hS hw rfl hl.1 rfl (Nat.le_of_ble_eq_true rfl) dX3_whyNotMesh_22 ⟨Nat.le_refl _, Nat.le_refl _⟩ (fun r_11 F_12 R_13 L_14 G_15 H locs hw hP hS => ?_)
    refine lv_istore_n (lv' := [(3, .int r_11), (0, .ref h), (1, .int p1), (2, .int p2)]) hx hb dX3_whyNotMesh_25 rfl hl (by decide) rfl (fun ls hl => ?_)
    refine lv_aload_n hx hb dX3_whyNotMesh_26 rfl (lv_at hl 1 rfl) ?_
    refine m_get hx hb hts hown hK hP 1 (by decide) q1729 rfl dX3_whyNotMesh_27 ?_
    refine lv_iconst (v := 0) hx hb dX3_whyNotMesh_30 (by decide) ?_
    refine lv_aload_n hx hb dX3_whyNotMesh_31 rfl (lv_at hl 1 rfl) ?_
    refine m_get hx hb hts hown hK hP 0 (by decide) q1728 rfl dX3_whyNotMesh_32 ?_
    refine lv_iconst (v := 0) hx hb dX3_whyNotMesh_35 (by decide) ?_
    refine m_callSv (As := [.ref (a 1), .int 0, .ref (a 0), .int 0]) (rest := []) ⟨hx, hb, hml, hown, hts⟩ (metX3_copies_1_0 l K h a hap _ F_12 R_13 L_14 G_15 0 0) (va_cwS 4 hts (lw_S q1825 q1826 q85 q1827) rfl rfl rfl (by decide +kernel) ⟨Nat.le_of_ble_eq_true rfl, Nat.le_of_ble_eq_true rfl⟩) hK hP hS hw rfl hl.1 rfl (Nat.le_of_ble_eq_true rfl) dX3_whyNotMesh_36 ⟨Nat.le_refl _, Nat.le_refl _⟩ (fun F_16 R_17 L_18 G_19 H locs hw hP hS => ?_)
    refine lv_iload_n hx hb dX3_whyNotMesh_39 rfl (lv_at hl 0 rfl) ?_
    exact m_iret hx hb hr hlocks hP hS dX3_whyNotMesh_40 hw
  · have hw := hw.1 (c_10)
    refine lv_aload_n hx hb dX3_whyNotMesh_13 rfl (lv_at hl 0 rfl) ?_
    refine lv_iconst (v := 1) hx hb dX3_whyNotMesh_14 (by decide) ?_
    refine m_calli (As := [.int 1]) (rest := []) ⟨hx, hb, hml, hown, hts⟩ (metX3_fails l K h a hap _ F_6 R_7 L_8 G_9 1) (cwV 1 hts (lw_V q1838 q1840 qs27 q85 q1841) rfl rfl rfl (by decide +kernel) ⟨Nat.le_of_ble_eq_true rfl, Nat.le_of_ble_eq_true rfl⟩) hK hP hS hw rfl hl.1 rfl (Nat.le_of_ble_eq_true rfl) dX3_whyNotMesh_15 ⟨Nat.le_refl _, Nat.le_refl _⟩ (fun r_20 F_21 R_22 L_23 G_24 H locs hw hP hS => ?_)
    exact m_iret hx hb hr hlocks hP hS dX3_whyNotMesh_18 hw
def wpX3_isDriven (post : Int32 → mF → mR → mL → mG → Prop) (F : mF) (R : mR) (L : mL) (G : mG) (p1 : Int32) : Prop := wpX3_isAxle (fun r_1 F_2 R_3 L_4 G_5 => wpX3_asks (fun r_6 F_7 R_8 L_9 G_10 => ((r_6 = 0 → post 0 F_7 R_8 L_9 G_10) ∧ (¬ r_6 = 0 → wpX3_drives (fun r_12 F_13 R_14 L_15 G_16 => (vp_in p1 12 ∧ (((R_14 9 (Int32.toNatClampNeg p1)) = (-1) → post 0 F_13 R_14 L_15 G_16) ∧ (¬ (R_14 9 (Int32.toNatClampNeg p1)) = (-1) → post 1 F_13 R_14 L_15 G_16)))) F_7 R_8 L_9 G_10))) F_2 R_3 L_4 G_5 r_1) F R L G p1
abbrev wsX3_isDriven : List Cond := ws_ yX3_isDriven cX3_isDriven 2 (some .boolean)
set_option maxHeartbeats 8000000 in
theorem metX3_isDriven (l : Launch) (K : KT) (h : Nat) (a : Nat → Nat) (hap : mAp h a) (post : Int32 → mF → mR → mL → mG → Prop) (F : mF) (R : mR) (L : mL) (G : mG) (p1 : Int32) : Met l yX3_isDriven wsX3_isDriven (rmo 3 85) (mPre K h a F R L G [.int p1] (wpX3_isDriven post F R L G p1)) (mQi post K h a) 0 0 (mA h a) := by
  refine Met.ofW (cc := cX3_isDriven) (maxL := 2) (ret := (some .boolean)) (by decide) rfl ?_
  intro p e s m args below meth c s₁ B hml hv
  obtain ⟨rfl, hP, hK, hw⟩ := hv
  have hx := B.exec
  have hb := B.bytes
  have hr := B.returns
  have hts := atoms_spec (ws := wsX3_isDriven) B.pre
  have hts : ∀ w ∈ lw_all, w.before _ s = true := fun w h => hts w (List.mem_cons_of_mem _ h)
  have hown : s.vm.findClass RX3 = some m.cls := findClass_of_methodNamed B.named
  have hlocks := B.notSynchronized
  have hl := lv_entry ([.ref h, .int p1]) (n := 2) (Nat.le_of_ble_eq_true rfl)
  rw [lg_entry_eq]
  generalize (lg_sl ([.ref h, .int p1]) ++ List.replicate (2 - (lg_sl ([.ref h, .int p1])).length) Slot.unset).toArray = ls at hl ⊢
  have hl : lv_has ls 2 [(0, .ref h), (1, .int p1)] := hl
  have hS : va_S (mA h a) s.heap s.heap [] := va_S.rf
  unfold wpX3_isDriven at hw
  refine lv_aload_n hx hb dX3_isDriven_0 rfl (lv_at hl 0 rfl) ?_
  refine lv_aload_n hx hb dX3_isDriven_1 rfl (lv_at hl 0 rfl) ?_
  refine lv_iload_n hx hb dX3_isDriven_2 rfl (lv_at hl 1 rfl) ?_
  refine m_calli (As := [.int p1]) (rest := [.ref h]) ⟨hx, hb, hml, hown, hts⟩ (metX3_isAxle l K h a hap _ F R L G p1) (cwV 1 hts (lw_V q1854 q1856 qs30 q85 q1857) rfl rfl rfl (by decide +kernel) ⟨Nat.le_of_ble_eq_true rfl, Nat.le_of_ble_eq_true rfl⟩) hK hP hS hw rfl hl.1 rfl (Nat.le_of_ble_eq_true rfl) dX3_isDriven_3 ⟨Nat.le_refl _, Nat.le_refl _⟩ (fun r_1 F_2 R_3 L_4 G_5 H locs hw hP hS => ?_)
  refine m_calli (As := [.int r_1]) (rest := []) ⟨hx, hb, hml, hown, hts⟩ (metX3_asks l K h a hap _ F_2 R_3 L_4 G_5 r_1) (cwV 1 hts (lw_V q2005 q2007 qs49 q85 q2008) rfl rfl rfl (by decide +kernel) ⟨Nat.le_of_ble_eq_true rfl, Nat.le_of_ble_eq_true rfl⟩) hK hP hS hw rfl hl.1 rfl (Nat.le_of_ble_eq_true rfl) dX3_isDriven_6 ⟨Nat.le_refl _, Nat.le_refl _⟩ (fun r_6 F_7 R_8 L_9 G_10 H locs hw hP hS => ?_)
  refine lv_if_ne (tgt := 14) hx hb dX3_isDriven_9 (by decide) (fun c_11 => ?_) (fun c_11 => ?_)
  · have hw := hw.2 (c_11)
    refine lv_aload_n hx hb dX3_isDriven_14 rfl (lv_at hl 0 rfl) ?_
    refine m_calli (As := []) (rest := []) ⟨hx, hb, hml, hown, hts⟩ (metX3_drives l K h a hap _ F_7 R_8 L_9 G_10) (cwV 0 hts (lw_V q1892 q1894 qs37 q85 q1895) rfl rfl rfl (by decide +kernel) ⟨Nat.le_of_ble_eq_true rfl, Nat.le_of_ble_eq_true rfl⟩) hK hP hS hw rfl hl.1 rfl (Nat.le_of_ble_eq_true rfl) dX3_isDriven_15 ⟨Nat.le_refl _, Nat.le_refl _⟩ (fun r_12 F_13 R_14 L_15 G_16 H locs hw hP hS => ?_)
    refine lv_pop hx hb dX3_isDriven_18 rfl ?_
    refine lv_aload_n hx hb dX3_isDriven_19 rfl (lv_at hl 0 rfl) ?_
    refine m_get hx hb hts hown hK hP 9 (by decide) q1737 rfl dX3_isDriven_20 ?_
    refine lv_iload_n hx hb dX3_isDriven_23 rfl (lv_at hl 1 rfl) ?_
    obtain ⟨h_17, hw⟩ := hw
    refine m_iald (j := (Int32.toNatClampNeg p1)) hx hb hK hP 9 6 12 rfl rfl h_17 dX3_isDriven_24 ?_
    refine lv_iconst (v := (-1)) hx hb dX3_isDriven_25 (by decide) ?_
    refine lv_icmp_eq (tgt := 33) hx hb dX3_isDriven_26 (by decide) (fun c_18 => ?_) (fun c_18 => ?_)
    · have hw := hw.1 c_18
      refine lv_iconst (v := 0) hx hb dX3_isDriven_33 (by decide) ?_
      exact m_zret hx hb hr hlocks hP hS dX3_isDriven_34 (Or.inl rfl) hw
    · have hw := hw.2 c_18
      refine lv_iconst (v := 1) hx hb dX3_isDriven_29 (by decide) ?_
      refine lv_goto (tgt := 34) hx hb dX3_isDriven_30 (by decide) ?_
      exact m_zret hx hb hr hlocks hP hS dX3_isDriven_34 (Or.inr rfl) hw
  · have hw := hw.1 (c_11)
    refine lv_iconst (v := 0) hx hb dX3_isDriven_12 (by decide) ?_
    exact m_zret hx hb hr hlocks hP hS dX3_isDriven_13 (Or.inl rfl) hw
def wpX3_asksDriven_31 (post : Int32 → mF → mR → mL → mG → Prop) (z1 : Int32) (F : mF) (R : mR) (L : mL) (G : mG) : Prop := ((((va_up F 8 z1) 8) = 0 → post 1 (va_up F 8 z1) R L G) ∧ (¬ ((va_up F 8 z1) 8) = 0 → post 0 (va_up F 8 z1) R L G))
def wpX3_asksDriven (post : Int32 → mF → mR → mL → mG → Prop) (F : mF) (R : mR) (L : mL) (G : mG) (p1 : Int32) (p2 : Int32) : Prop := wpX3_asks (fun r_2 F_3 R_4 L_5 G_6 => ((r_2 = 0 → post 0 F_3 R_4 L_5 G_6) ∧ (¬ r_2 = 0 → wpX3_drives (fun r_8 F_9 R_10 L_11 G_12 => (vp_in p1 12 ∧ (((R_10 9 (Int32.toNatClampNeg p1)) = (-1) → wpX3_asksDriven_31 post 2 F_9 R_10 L_11 G_12) ∧ (¬ (R_10 9 (Int32.toNatClampNeg p1)) = (-1) → wpX3_asksDriven_31 post 0 F_9 R_10 L_11 G_12)))) F_3 R_4 L_5 G_6))) F R L G p2
abbrev wsX3_asksDriven : List Cond := ws_ yX3_asksDriven cX3_asksDriven 3 (some .boolean)
set_option maxHeartbeats 8000000 in
theorem metX3_asksDriven (l : Launch) (K : KT) (h : Nat) (a : Nat → Nat) (hap : mAp h a) (post : Int32 → mF → mR → mL → mG → Prop) (F : mF) (R : mR) (L : mL) (G : mG) (p1 : Int32) (p2 : Int32) : Met l yX3_asksDriven wsX3_asksDriven (rmo 3 85) (mPre K h a F R L G [.int p1, .int p2] (wpX3_asksDriven post F R L G p1 p2)) (mQi post K h a) 0 0 (mA h a) := by
  refine Met.ofW (cc := cX3_asksDriven) (maxL := 3) (ret := (some .boolean)) (by decide) rfl ?_
  intro p e s m args below meth c s₁ B hml hv
  obtain ⟨rfl, hP, hK, hw⟩ := hv
  have hx := B.exec
  have hb := B.bytes
  have hr := B.returns
  have hts := atoms_spec (ws := wsX3_asksDriven) B.pre
  have hts : ∀ w ∈ lw_all, w.before _ s = true := fun w h => hts w (List.mem_cons_of_mem _ h)
  have hown : s.vm.findClass RX3 = some m.cls := findClass_of_methodNamed B.named
  have hlocks := B.notSynchronized
  have hl := lv_entry ([.ref h, .int p1, .int p2]) (n := 3) (Nat.le_of_ble_eq_true rfl)
  rw [lg_entry_eq]
  generalize (lg_sl ([.ref h, .int p1, .int p2]) ++ List.replicate (3 - (lg_sl ([.ref h, .int p1, .int p2])).length) Slot.unset).toArray = ls at hl ⊢
  have hl : lv_has ls 3 [(0, .ref h), (1, .int p1), (2, .int p2)] := hl
  have hS : va_S (mA h a) s.heap s.heap [] := va_S.rf
  have T31 : ∀ (z1 : Int32) (F : mF) (R : mR) (L : mL) (G : mG) (H : Heap) (locs : List Loc) (ls : Array Slot), mP K h a F R L G H → va_S (mA h a) s.heap H locs → lv_has ls 3 [(0, .ref h)] → wpX3_asksDriven_31 post z1 F R L G → W p l e (rmo 3 85) s m ([.ref h, .int p1, .int p2] : List Value).toArray below meth c H locs 0 0 (MQ below (mQi post K h a) ([.ref h, .int p1, .int p2] : List Value).toArray s 0 0 (mA h a)) (F0 m 31 ls [.int z1, .ref h]) := by
    intro z1 F R L G H locs ls hP hS hl hw
    unfold wpX3_asksDriven_31 at hw
    refine m_puti hx hb hts hown hK hap hP hS 8 (by decide) q1736 rfl rfl rfl rfl dX3_asksDriven_31 (fun H locs hP hS => ?_)
    refine lv_aload_n hx hb dX3_asksDriven_34 rfl (lv_at hl 0 rfl) ?_
    refine m_get hx hb hts hown hK hP 8 (by decide) q1736 rfl dX3_asksDriven_35 ?_
    refine lv_if_ne (tgt := 45) hx hb dX3_asksDriven_38 (by decide) (fun c_1 => ?_) (fun c_1 => ?_)
    · have hw := hw.2 (c_1)
      refine lv_iconst (v := 0) hx hb dX3_asksDriven_45 (by decide) ?_
      exact m_zret hx hb hr hlocks hP hS dX3_asksDriven_46 (Or.inl rfl) hw
    · have hw := hw.1 (c_1)
      refine lv_iconst (v := 1) hx hb dX3_asksDriven_41 (by decide) ?_
      refine lv_goto (tgt := 46) hx hb dX3_asksDriven_42 (by decide) ?_
      exact m_zret hx hb hr hlocks hP hS dX3_asksDriven_46 (Or.inr rfl) hw
  unfold wpX3_asksDriven at hw
  refine lv_aload_n hx hb dX3_asksDriven_0 rfl (lv_at hl 0 rfl) ?_
  refine lv_iload_n hx hb dX3_asksDriven_1 rfl (lv_at hl 2 rfl) ?_
  refine m_calli (As := [.int p2]) (rest := []) ⟨hx, hb, hml, hown, hts⟩ (metX3_asks l K h a hap _ F R L G p2) (cwV 1 hts (lw_V q2005 q2007 qs49 q85 q2008) rfl rfl rfl (by decide +kernel) ⟨Nat.le_of_ble_eq_true rfl, Nat.le_of_ble_eq_true rfl⟩) hK hP hS hw rfl hl.1 rfl (Nat.le_of_ble_eq_true rfl) dX3_asksDriven_2 ⟨Nat.le_refl _, Nat.le_refl _⟩ (fun r_2 F_3 R_4 L_5 G_6 H locs hw hP hS => ?_)
  refine lv_if_ne (tgt := 10) hx hb dX3_asksDriven_5 (by decide) (fun c_7 => ?_) (fun c_7 => ?_)
  · have hw := hw.2 (c_7)
    refine lv_aload_n hx hb dX3_asksDriven_10 rfl (lv_at hl 0 rfl) ?_
    refine m_calli (As := []) (rest := []) ⟨hx, hb, hml, hown, hts⟩ (metX3_drives l K h a hap _ F_3 R_4 L_5 G_6) (cwV 0 hts (lw_V q1892 q1894 qs37 q85 q1895) rfl rfl rfl (by decide +kernel) ⟨Nat.le_of_ble_eq_true rfl, Nat.le_of_ble_eq_true rfl⟩) hK hP hS hw rfl hl.1 rfl (Nat.le_of_ble_eq_true rfl) dX3_asksDriven_11 ⟨Nat.le_refl _, Nat.le_refl _⟩ (fun r_8 F_9 R_10 L_11 G_12 H locs hw hP hS => ?_)
    refine lv_pop hx hb dX3_asksDriven_14 rfl ?_
    refine lv_aload_n hx hb dX3_asksDriven_15 rfl (lv_at hl 0 rfl) ?_
    refine lv_aload_n hx hb dX3_asksDriven_16 rfl (lv_at hl 0 rfl) ?_
    refine m_get hx hb hts hown hK hP 9 (by decide) q1737 rfl dX3_asksDriven_17 ?_
    refine lv_iload_n hx hb dX3_asksDriven_20 rfl (lv_at hl 1 rfl) ?_
    obtain ⟨h_13, hw⟩ := hw
    refine m_iald (j := (Int32.toNatClampNeg p1)) hx hb hK hP 9 6 12 rfl rfl h_13 dX3_asksDriven_21 ?_
    refine lv_iconst (v := (-1)) hx hb dX3_asksDriven_22 (by decide) ?_
    refine lv_icmp_ne (tgt := 30) hx hb dX3_asksDriven_23 (by decide) (fun c_14 => ?_) (fun c_14 => ?_)
    · have hw := hw.2 (c_14)
      refine lv_iconst (v := 0) hx hb dX3_asksDriven_30 (by decide) ?_
      exact T31 0 F_9 R_10 L_11 G_12 _ _ ls hP hS (lv_sub hl [0] rfl) hw
    · have hw := hw.1 (c_14)
      refine lv_iconst (v := 2) hx hb dX3_asksDriven_26 (by decide) ?_
      refine lv_goto (tgt := 31) hx hb dX3_asksDriven_27 (by decide) ?_
      exact T31 2 F_9 R_10 L_11 G_12 _ _ ls hP hS (lv_sub hl [0] rfl) hw
  · have hw := hw.1 (c_7)
    refine lv_iconst (v := 0) hx hb dX3_asksDriven_8 (by decide) ?_
    exact m_zret hx hb hr hlocks hP hS dX3_asksDriven_9 (Or.inl rfl) hw

/-! THE MODEL, walked by program: X3_thrown .. X3_drives -/
set_option maxRecDepth 100000
def wpX3_thrown (post : Int32 → mF → mR → mL → mG → Prop) (F : mF) (R : mR) (L : mL) (G : mG) : Prop := post (F 8) F R L G
abbrev wsX3_thrown : List Cond := ws_ yX3_thrown cX3_thrown 1 (some .int)
set_option maxHeartbeats 8000000 in
theorem metX3_thrown (l : Launch) (K : KT) (h : Nat) (a : Nat → Nat) (hap : mAp h a) (post : Int32 → mF → mR → mL → mG → Prop) (F : mF) (R : mR) (L : mL) (G : mG) : Met l yX3_thrown wsX3_thrown (rmo 0 0) (mPre K h a F R L G [] (wpX3_thrown post F R L G )) (mQi post K h a) 0 0 (mA h a) := by
  refine Met.ofW (cc := cX3_thrown) (maxL := 1) (ret := (some .int)) (by decide) rfl ?_
  intro p e s m args below meth c s₁ B hml hv
  obtain ⟨rfl, hP, hK, hw⟩ := hv
  have hx := B.exec
  have hb := B.bytes
  have hr := B.returns
  have hts := atoms_spec (ws := wsX3_thrown) B.pre
  have hts : ∀ w ∈ lw_all, w.before _ s = true := fun w h => hts w (List.mem_cons_of_mem _ h)
  have hown : s.vm.findClass RX3 = some m.cls := findClass_of_methodNamed B.named
  have hlocks := B.notSynchronized
  have hl := lv_entry ([.ref h]) (n := 1) (Nat.le_of_ble_eq_true rfl)
  rw [lg_entry_eq]
  generalize (lg_sl ([.ref h]) ++ List.replicate (1 - (lg_sl ([.ref h])).length) Slot.unset).toArray = ls at hl ⊢
  have hl : lv_has ls 1 [(0, .ref h)] := hl
  have hS : va_S (mA h a) s.heap s.heap [] := va_S.rf
  unfold wpX3_thrown at hw
  refine lv_aload_n hx hb dX3_thrown_0 rfl (lv_at hl 0 rfl) ?_
  refine m_get hx hb hts hown hK hP 8 (by decide) q1736 rfl dX3_thrown_1 ?_
  exact m_iret hx hb hr hlocks hP hS dX3_thrown_4 hw
def wpX3_copies_0_1_3 (post : mF → mR → mL → mG → Prop) : Nat → Int32 → Int32 → Int32 → mF → mR → mL → mG → Prop
  | 0 => fun _ _ _ _ _ _ _ => False
  | n + 1 => fun x1 x3 x4 F R L G => ((113 ≤ x4 → post F R L G) ∧ (¬ 113 ≤ x4 → (vp_in (x1 + x4) 113 ∧ (vp_in (x3 + x4) 113 ∧ (∀ R_4 : mR, R_4 = va_up R 1 (upd (R 1) (Int32.toNatClampNeg (x3 + x4)) (R 0 (Int32.toNatClampNeg (x1 + x4)))) → (∀ x4_5 : Int32, x4_5 = x4 + 1 → wpX3_copies_0_1_3 post n x1 x3 x4_5 F R_4 L G))))))
def wpX3_copies_0_1 (post : mF → mR → mL → mG → Prop) (F : mF) (R : mR) (L : mL) (G : mG) (p1 : Int32) (p3 : Int32) : Prop := ∃ fu : Nat, wpX3_copies_0_1_3 post fu p1 p3 0 F R L G
abbrev wsX3_copies : List Cond := ws_ yX3_copies cX3_copies 5 none
set_option maxHeartbeats 8000000 in
theorem metX3_copies_0_1 (l : Launch) (K : KT) (h : Nat) (a : Nat → Nat) (hap : mAp h a) (post : mF → mR → mL → mG → Prop) (F : mF) (R : mR) (L : mL) (G : mG) (p1 : Int32) (p3 : Int32) : Met l yX3_copies wsX3_copies (rmo 0 0) (mPreS K h a F R L G [.ref (a 0), .int p1, .ref (a 1), .int p3] (wpX3_copies_0_1 post F R L G p1 p3)) (mQv post K h a) 0 0 (mA h a) := by
  refine Met.ofW (cc := cX3_copies) (maxL := 5) (ret := none) (by decide) rfl ?_
  intro p e s m args below meth c s₁ B hml hv
  obtain ⟨rfl, hP, hK, hw⟩ := hv
  have hx := B.exec
  have hb := B.bytes
  have hr := B.returns
  have hts := atoms_spec (ws := wsX3_copies) B.pre
  have hts : ∀ w ∈ lw_all, w.before _ s = true := fun w h => hts w (List.mem_cons_of_mem _ h)
  have hown : s.vm.findClass RX3 = some m.cls := findClass_of_methodNamed B.named
  have hlocks := B.notSynchronized
  have hl := lv_entry ([.ref (a 0), .int p1, .ref (a 1), .int p3]) (n := 5) (Nat.le_of_ble_eq_true rfl)
  rw [lg_entry_eq]
  generalize (lg_sl ([.ref (a 0), .int p1, .ref (a 1), .int p3]) ++ List.replicate (5 - (lg_sl ([.ref (a 0), .int p1, .ref (a 1), .int p3])).length) Slot.unset).toArray = ls at hl ⊢
  have hl : lv_has ls 5 [(0, .ref (a 0)), (1, .int p1), (2, .ref (a 1)), (3, .int p3)] := hl
  have hS : va_S (mA h a) s.heap s.heap [] := va_S.rf
  have T3 : ∀ (n : Nat), ∀ (x1 : Int32) (x3 : Int32) (x4 : Int32) (F : mF) (R : mR) (L : mL) (G : mG) (H : Heap) (locs : List Loc) (ls : Array Slot), mP K h a F R L G H → va_S (mA h a) s.heap H locs → lv_has ls 5 [(0, .ref (a 0)), (1, .int x1), (2, .ref (a 1)), (3, .int x3), (4, .int x4)] → wpX3_copies_0_1_3 post n x1 x3 x4 F R L G → W p l e (rmo 0 0) s m ([.ref (a 0), .int p1, .ref (a 1), .int p3] : List Value).toArray below meth c H locs 0 0 (MQ below (mQv post K h a) ([.ref (a 0), .int p1, .ref (a 1), .int p3] : List Value).toArray s 0 0 (mA h a)) (F0 m 3 ls []) := by
    intro n
    induction n with
    | zero =>
      intro x1 x3 x4 F R L G H locs ls hP hS hl hw
      exact False.elim hw
    | succ n ih =>
      intro x1 x3 x4 F R L G H locs ls hP hS hl hw
      unfold wpX3_copies_0_1_3 at hw
      refine lv_iload hx hb dX3_copies_3 (lv_at hl 4 rfl) ?_
      refine lv_bipush (v := 113) hx hb dX3_copies_5 (by decide) ?_
      refine lv_icmp_ge (tgt := 28) hx hb dX3_copies_7 (by decide) (fun c_1 => ?_) (fun c_1 => ?_)
      · have hw := hw.1 c_1
        exact m_vret hx hb hr hlocks hP hS dX3_copies_28 hw
      · have hw := hw.2 c_1
        refine lv_aload_n hx hb dX3_copies_10 rfl (lv_at hl 2 rfl) ?_
        refine lv_iload_n hx hb dX3_copies_11 rfl (lv_at hl 3 rfl) ?_
        refine lv_iload hx hb dX3_copies_12 (lv_at hl 4 rfl) ?_
        refine lv_iadd hx hb dX3_copies_14 ?_
        refine lv_aload_n hx hb dX3_copies_15 rfl (lv_at hl 0 rfl) ?_
        refine lv_iload_n hx hb dX3_copies_16 rfl (lv_at hl 1 rfl) ?_
        refine lv_iload hx hb dX3_copies_17 (lv_at hl 4 rfl) ?_
        refine lv_iadd hx hb dX3_copies_19 ?_
        obtain ⟨h_2, hw⟩ := hw
        refine m_iald (j := (Int32.toNatClampNeg (x1 + x4))) hx hb hK hP 0 1 113 rfl rfl h_2 dX3_copies_20 ?_
        obtain ⟨h_3, hw⟩ := hw
        refine m_iast (j := (Int32.toNatClampNeg (x3 + x4))) hx hb hK hap hP hS 1 2 113 rfl rfl rfl h_3 dX3_copies_21 (fun H locs hP hS => ?_)
        obtain ⟨R_4, eR_4⟩ : ∃ y : mR, y = va_up R 1 (upd (R 1) (Int32.toNatClampNeg (x3 + x4)) (R 0 (Int32.toNatClampNeg (x1 + x4)))) := ⟨_, rfl⟩
        rw [← eR_4] at hP
        have hw := hw R_4 eR_4
        obtain ⟨x4_5, ex4_5⟩ : ∃ y : Int32, y = x4 + 1 := ⟨_, rfl⟩
        have hw := hw x4_5 ex4_5
        refine lv_iinc (v := x4_5) (lv' := [(4, .int x4_5), (0, .ref (a 0)), (1, .int x1), (2, .ref (a 1)), (3, .int x3)]) hx hb dX3_copies_22 hl (k := 4) rfl (by rw [ex4_5]; rfl) (by decide) rfl (fun ls hl => ?_)
        refine lv_goto (tgt := 3) hx hb dX3_copies_25 (by decide) ?_
        exact ih x1 x3 x4_5 F R_4 L G _ _ ls hP hS (lv_sub hl [1, 2, 3, 4, 0] rfl) hw
  unfold wpX3_copies_0_1 at hw
  refine lv_iconst (v := 0) hx hb dX3_copies_0 (by decide) ?_
  refine lv_istore (lv' := [(4, .int 0), (0, .ref (a 0)), (1, .int p1), (2, .ref (a 1)), (3, .int p3)]) hx hb dX3_copies_1 hl (by decide) rfl (fun ls hl => ?_)
  obtain ⟨fu, hw⟩ := hw
  exact T3 fu p1 p3 0 F R L G _ _ ls hP hS (lv_sub hl [1, 2, 3, 4, 0] rfl) hw
def wpX3_copies_1_4_3 (post : mF → mR → mL → mG → Prop) : Nat → Int32 → Int32 → Int32 → mF → mR → mL → mG → Prop
  | 0 => fun _ _ _ _ _ _ _ => False
  | n + 1 => fun x1 x3 x4 F R L G => ((113 ≤ x4 → post F R L G) ∧ (¬ 113 ≤ x4 → (vp_in (x1 + x4) 113 ∧ (vp_in (x3 + x4) 452 ∧ (∀ R_4 : mR, R_4 = va_up R 4 (upd (R 4) (Int32.toNatClampNeg (x3 + x4)) (R 1 (Int32.toNatClampNeg (x1 + x4)))) → (∀ x4_5 : Int32, x4_5 = x4 + 1 → wpX3_copies_1_4_3 post n x1 x3 x4_5 F R_4 L G))))))
def wpX3_copies_1_4 (post : mF → mR → mL → mG → Prop) (F : mF) (R : mR) (L : mL) (G : mG) (p1 : Int32) (p3 : Int32) : Prop := ∃ fu : Nat, wpX3_copies_1_4_3 post fu p1 p3 0 F R L G
set_option maxHeartbeats 8000000 in
theorem metX3_copies_1_4 (l : Launch) (K : KT) (h : Nat) (a : Nat → Nat) (hap : mAp h a) (post : mF → mR → mL → mG → Prop) (F : mF) (R : mR) (L : mL) (G : mG) (p1 : Int32) (p3 : Int32) : Met l yX3_copies wsX3_copies (rmo 0 0) (mPreS K h a F R L G [.ref (a 1), .int p1, .ref (a 4), .int p3] (wpX3_copies_1_4 post F R L G p1 p3)) (mQv post K h a) 0 0 (mA h a) := by
  refine Met.ofW (cc := cX3_copies) (maxL := 5) (ret := none) (by decide) rfl ?_
  intro p e s m args below meth c s₁ B hml hv
  obtain ⟨rfl, hP, hK, hw⟩ := hv
  have hx := B.exec
  have hb := B.bytes
  have hr := B.returns
  have hts := atoms_spec (ws := wsX3_copies) B.pre
  have hts : ∀ w ∈ lw_all, w.before _ s = true := fun w h => hts w (List.mem_cons_of_mem _ h)
  have hown : s.vm.findClass RX3 = some m.cls := findClass_of_methodNamed B.named
  have hlocks := B.notSynchronized
  have hl := lv_entry ([.ref (a 1), .int p1, .ref (a 4), .int p3]) (n := 5) (Nat.le_of_ble_eq_true rfl)
  rw [lg_entry_eq]
  generalize (lg_sl ([.ref (a 1), .int p1, .ref (a 4), .int p3]) ++ List.replicate (5 - (lg_sl ([.ref (a 1), .int p1, .ref (a 4), .int p3])).length) Slot.unset).toArray = ls at hl ⊢
  have hl : lv_has ls 5 [(0, .ref (a 1)), (1, .int p1), (2, .ref (a 4)), (3, .int p3)] := hl
  have hS : va_S (mA h a) s.heap s.heap [] := va_S.rf
  have T3 : ∀ (n : Nat), ∀ (x1 : Int32) (x3 : Int32) (x4 : Int32) (F : mF) (R : mR) (L : mL) (G : mG) (H : Heap) (locs : List Loc) (ls : Array Slot), mP K h a F R L G H → va_S (mA h a) s.heap H locs → lv_has ls 5 [(0, .ref (a 1)), (1, .int x1), (2, .ref (a 4)), (3, .int x3), (4, .int x4)] → wpX3_copies_1_4_3 post n x1 x3 x4 F R L G → W p l e (rmo 0 0) s m ([.ref (a 1), .int p1, .ref (a 4), .int p3] : List Value).toArray below meth c H locs 0 0 (MQ below (mQv post K h a) ([.ref (a 1), .int p1, .ref (a 4), .int p3] : List Value).toArray s 0 0 (mA h a)) (F0 m 3 ls []) := by
    intro n
    induction n with
    | zero =>
      intro x1 x3 x4 F R L G H locs ls hP hS hl hw
      exact False.elim hw
    | succ n ih =>
      intro x1 x3 x4 F R L G H locs ls hP hS hl hw
      unfold wpX3_copies_1_4_3 at hw
      refine lv_iload hx hb dX3_copies_3 (lv_at hl 4 rfl) ?_
      refine lv_bipush (v := 113) hx hb dX3_copies_5 (by decide) ?_
      refine lv_icmp_ge (tgt := 28) hx hb dX3_copies_7 (by decide) (fun c_1 => ?_) (fun c_1 => ?_)
      · have hw := hw.1 c_1
        exact m_vret hx hb hr hlocks hP hS dX3_copies_28 hw
      · have hw := hw.2 c_1
        refine lv_aload_n hx hb dX3_copies_10 rfl (lv_at hl 2 rfl) ?_
        refine lv_iload_n hx hb dX3_copies_11 rfl (lv_at hl 3 rfl) ?_
        refine lv_iload hx hb dX3_copies_12 (lv_at hl 4 rfl) ?_
        refine lv_iadd hx hb dX3_copies_14 ?_
        refine lv_aload_n hx hb dX3_copies_15 rfl (lv_at hl 0 rfl) ?_
        refine lv_iload_n hx hb dX3_copies_16 rfl (lv_at hl 1 rfl) ?_
        refine lv_iload hx hb dX3_copies_17 (lv_at hl 4 rfl) ?_
        refine lv_iadd hx hb dX3_copies_19 ?_
        obtain ⟨h_2, hw⟩ := hw
        refine m_iald (j := (Int32.toNatClampNeg (x1 + x4))) hx hb hK hP 1 2 113 rfl rfl h_2 dX3_copies_20 ?_
        obtain ⟨h_3, hw⟩ := hw
        refine m_iast (j := (Int32.toNatClampNeg (x3 + x4))) hx hb hK hap hP hS 4 4 452 rfl rfl rfl h_3 dX3_copies_21 (fun H locs hP hS => ?_)
        obtain ⟨R_4, eR_4⟩ : ∃ y : mR, y = va_up R 4 (upd (R 4) (Int32.toNatClampNeg (x3 + x4)) (R 1 (Int32.toNatClampNeg (x1 + x4)))) := ⟨_, rfl⟩
        rw [← eR_4] at hP
        have hw := hw R_4 eR_4
        obtain ⟨x4_5, ex4_5⟩ : ∃ y : Int32, y = x4 + 1 := ⟨_, rfl⟩
        have hw := hw x4_5 ex4_5
        refine lv_iinc (v := x4_5) (lv' := [(4, .int x4_5), (0, .ref (a 1)), (1, .int x1), (2, .ref (a 4)), (3, .int x3)]) hx hb dX3_copies_22 hl (k := 4) rfl (by rw [ex4_5]; rfl) (by decide) rfl (fun ls hl => ?_)
        refine lv_goto (tgt := 3) hx hb dX3_copies_25 (by decide) ?_
        exact ih x1 x3 x4_5 F R_4 L G _ _ ls hP hS (lv_sub hl [1, 2, 3, 4, 0] rfl) hw
  unfold wpX3_copies_1_4 at hw
  refine lv_iconst (v := 0) hx hb dX3_copies_0 (by decide) ?_
  refine lv_istore (lv' := [(4, .int 0), (0, .ref (a 1)), (1, .int p1), (2, .ref (a 4)), (3, .int p3)]) hx hb dX3_copies_1 hl (by decide) rfl (fun ls hl => ?_)
  obtain ⟨fu, hw⟩ := hw
  exact T3 fu p1 p3 0 F R L G _ _ ls hP hS (lv_sub hl [1, 2, 3, 4, 0] rfl) hw
def wpX3_copies_1_0_3 (post : mF → mR → mL → mG → Prop) : Nat → Int32 → Int32 → Int32 → mF → mR → mL → mG → Prop
  | 0 => fun _ _ _ _ _ _ _ => False
  | n + 1 => fun x1 x3 x4 F R L G => ((113 ≤ x4 → post F R L G) ∧ (¬ 113 ≤ x4 → (vp_in (x1 + x4) 113 ∧ (vp_in (x3 + x4) 113 ∧ (∀ R_4 : mR, R_4 = va_up R 0 (upd (R 0) (Int32.toNatClampNeg (x3 + x4)) (R 1 (Int32.toNatClampNeg (x1 + x4)))) → (∀ x4_5 : Int32, x4_5 = x4 + 1 → wpX3_copies_1_0_3 post n x1 x3 x4_5 F R_4 L G))))))
def wpX3_copies_1_0 (post : mF → mR → mL → mG → Prop) (F : mF) (R : mR) (L : mL) (G : mG) (p1 : Int32) (p3 : Int32) : Prop := ∃ fu : Nat, wpX3_copies_1_0_3 post fu p1 p3 0 F R L G
set_option maxHeartbeats 8000000 in
theorem metX3_copies_1_0 (l : Launch) (K : KT) (h : Nat) (a : Nat → Nat) (hap : mAp h a) (post : mF → mR → mL → mG → Prop) (F : mF) (R : mR) (L : mL) (G : mG) (p1 : Int32) (p3 : Int32) : Met l yX3_copies wsX3_copies (rmo 0 0) (mPreS K h a F R L G [.ref (a 1), .int p1, .ref (a 0), .int p3] (wpX3_copies_1_0 post F R L G p1 p3)) (mQv post K h a) 0 0 (mA h a) := by
  refine Met.ofW (cc := cX3_copies) (maxL := 5) (ret := none) (by decide) rfl ?_
  intro p e s m args below meth c s₁ B hml hv
  obtain ⟨rfl, hP, hK, hw⟩ := hv
  have hx := B.exec
  have hb := B.bytes
  have hr := B.returns
  have hts := atoms_spec (ws := wsX3_copies) B.pre
  have hts : ∀ w ∈ lw_all, w.before _ s = true := fun w h => hts w (List.mem_cons_of_mem _ h)
  have hown : s.vm.findClass RX3 = some m.cls := findClass_of_methodNamed B.named
  have hlocks := B.notSynchronized
  have hl := lv_entry ([.ref (a 1), .int p1, .ref (a 0), .int p3]) (n := 5) (Nat.le_of_ble_eq_true rfl)
  rw [lg_entry_eq]
  generalize (lg_sl ([.ref (a 1), .int p1, .ref (a 0), .int p3]) ++ List.replicate (5 - (lg_sl ([.ref (a 1), .int p1, .ref (a 0), .int p3])).length) Slot.unset).toArray = ls at hl ⊢
  have hl : lv_has ls 5 [(0, .ref (a 1)), (1, .int p1), (2, .ref (a 0)), (3, .int p3)] := hl
  have hS : va_S (mA h a) s.heap s.heap [] := va_S.rf
  have T3 : ∀ (n : Nat), ∀ (x1 : Int32) (x3 : Int32) (x4 : Int32) (F : mF) (R : mR) (L : mL) (G : mG) (H : Heap) (locs : List Loc) (ls : Array Slot), mP K h a F R L G H → va_S (mA h a) s.heap H locs → lv_has ls 5 [(0, .ref (a 1)), (1, .int x1), (2, .ref (a 0)), (3, .int x3), (4, .int x4)] → wpX3_copies_1_0_3 post n x1 x3 x4 F R L G → W p l e (rmo 0 0) s m ([.ref (a 1), .int p1, .ref (a 0), .int p3] : List Value).toArray below meth c H locs 0 0 (MQ below (mQv post K h a) ([.ref (a 1), .int p1, .ref (a 0), .int p3] : List Value).toArray s 0 0 (mA h a)) (F0 m 3 ls []) := by
    intro n
    induction n with
    | zero =>
      intro x1 x3 x4 F R L G H locs ls hP hS hl hw
      exact False.elim hw
    | succ n ih =>
      intro x1 x3 x4 F R L G H locs ls hP hS hl hw
      unfold wpX3_copies_1_0_3 at hw
      refine lv_iload hx hb dX3_copies_3 (lv_at hl 4 rfl) ?_
      refine lv_bipush (v := 113) hx hb dX3_copies_5 (by decide) ?_
      refine lv_icmp_ge (tgt := 28) hx hb dX3_copies_7 (by decide) (fun c_1 => ?_) (fun c_1 => ?_)
      · have hw := hw.1 c_1
        exact m_vret hx hb hr hlocks hP hS dX3_copies_28 hw
      · have hw := hw.2 c_1
        refine lv_aload_n hx hb dX3_copies_10 rfl (lv_at hl 2 rfl) ?_
        refine lv_iload_n hx hb dX3_copies_11 rfl (lv_at hl 3 rfl) ?_
        refine lv_iload hx hb dX3_copies_12 (lv_at hl 4 rfl) ?_
        refine lv_iadd hx hb dX3_copies_14 ?_
        refine lv_aload_n hx hb dX3_copies_15 rfl (lv_at hl 0 rfl) ?_
        refine lv_iload_n hx hb dX3_copies_16 rfl (lv_at hl 1 rfl) ?_
        refine lv_iload hx hb dX3_copies_17 (lv_at hl 4 rfl) ?_
        refine lv_iadd hx hb dX3_copies_19 ?_
        obtain ⟨h_2, hw⟩ := hw
        refine m_iald (j := (Int32.toNatClampNeg (x1 + x4))) hx hb hK hP 1 2 113 rfl rfl h_2 dX3_copies_20 ?_
        obtain ⟨h_3, hw⟩ := hw
        refine m_iast (j := (Int32.toNatClampNeg (x3 + x4))) hx hb hK hap hP hS 0 1 113 rfl rfl rfl h_3 dX3_copies_21 (fun H locs hP hS => ?_)
        obtain ⟨R_4, eR_4⟩ : ∃ y : mR, y = va_up R 0 (upd (R 0) (Int32.toNatClampNeg (x3 + x4)) (R 1 (Int32.toNatClampNeg (x1 + x4)))) := ⟨_, rfl⟩
        rw [← eR_4] at hP
        have hw := hw R_4 eR_4
        obtain ⟨x4_5, ex4_5⟩ : ∃ y : Int32, y = x4 + 1 := ⟨_, rfl⟩
        have hw := hw x4_5 ex4_5
        refine lv_iinc (v := x4_5) (lv' := [(4, .int x4_5), (0, .ref (a 1)), (1, .int x1), (2, .ref (a 0)), (3, .int x3)]) hx hb dX3_copies_22 hl (k := 4) rfl (by rw [ex4_5]; rfl) (by decide) rfl (fun ls hl => ?_)
        refine lv_goto (tgt := 3) hx hb dX3_copies_25 (by decide) ?_
        exact ih x1 x3 x4_5 F R_4 L G _ _ ls hP hS (lv_sub hl [1, 2, 3, 4, 0] rfl) hw
  unfold wpX3_copies_1_0 at hw
  refine lv_iconst (v := 0) hx hb dX3_copies_0 (by decide) ?_
  refine lv_istore (lv' := [(4, .int 0), (0, .ref (a 1)), (1, .int p1), (2, .ref (a 0)), (3, .int p3)]) hx hb dX3_copies_1 hl (by decide) rfl (fun ls hl => ?_)
  obtain ⟨fu, hw⟩ := hw
  exact T3 fu p1 p3 0 F R L G _ _ ls hP hS (lv_sub hl [1, 2, 3, 4, 0] rfl) hw
def wpX3_copies_0_2_3 (post : mF → mR → mL → mG → Prop) : Nat → Int32 → Int32 → Int32 → mF → mR → mL → mG → Prop
  | 0 => fun _ _ _ _ _ _ _ => False
  | n + 1 => fun x1 x3 x4 F R L G => ((113 ≤ x4 → post F R L G) ∧ (¬ 113 ≤ x4 → (vp_in (x1 + x4) 113 ∧ (vp_in (x3 + x4) 113 ∧ (∀ R_4 : mR, R_4 = va_up R 2 (upd (R 2) (Int32.toNatClampNeg (x3 + x4)) (R 0 (Int32.toNatClampNeg (x1 + x4)))) → (∀ x4_5 : Int32, x4_5 = x4 + 1 → wpX3_copies_0_2_3 post n x1 x3 x4_5 F R_4 L G))))))
def wpX3_copies_0_2 (post : mF → mR → mL → mG → Prop) (F : mF) (R : mR) (L : mL) (G : mG) (p1 : Int32) (p3 : Int32) : Prop := ∃ fu : Nat, wpX3_copies_0_2_3 post fu p1 p3 0 F R L G
set_option maxHeartbeats 8000000 in
theorem metX3_copies_0_2 (l : Launch) (K : KT) (h : Nat) (a : Nat → Nat) (hap : mAp h a) (post : mF → mR → mL → mG → Prop) (F : mF) (R : mR) (L : mL) (G : mG) (p1 : Int32) (p3 : Int32) : Met l yX3_copies wsX3_copies (rmo 0 0) (mPreS K h a F R L G [.ref (a 0), .int p1, .ref (a 2), .int p3] (wpX3_copies_0_2 post F R L G p1 p3)) (mQv post K h a) 0 0 (mA h a) := by
  refine Met.ofW (cc := cX3_copies) (maxL := 5) (ret := none) (by decide) rfl ?_
  intro p e s m args below meth c s₁ B hml hv
  obtain ⟨rfl, hP, hK, hw⟩ := hv
  have hx := B.exec
  have hb := B.bytes
  have hr := B.returns
  have hts := atoms_spec (ws := wsX3_copies) B.pre
  have hts : ∀ w ∈ lw_all, w.before _ s = true := fun w h => hts w (List.mem_cons_of_mem _ h)
  have hown : s.vm.findClass RX3 = some m.cls := findClass_of_methodNamed B.named
  have hlocks := B.notSynchronized
  have hl := lv_entry ([.ref (a 0), .int p1, .ref (a 2), .int p3]) (n := 5) (Nat.le_of_ble_eq_true rfl)
  rw [lg_entry_eq]
  generalize (lg_sl ([.ref (a 0), .int p1, .ref (a 2), .int p3]) ++ List.replicate (5 - (lg_sl ([.ref (a 0), .int p1, .ref (a 2), .int p3])).length) Slot.unset).toArray = ls at hl ⊢
  have hl : lv_has ls 5 [(0, .ref (a 0)), (1, .int p1), (2, .ref (a 2)), (3, .int p3)] := hl
  have hS : va_S (mA h a) s.heap s.heap [] := va_S.rf
  have T3 : ∀ (n : Nat), ∀ (x1 : Int32) (x3 : Int32) (x4 : Int32) (F : mF) (R : mR) (L : mL) (G : mG) (H : Heap) (locs : List Loc) (ls : Array Slot), mP K h a F R L G H → va_S (mA h a) s.heap H locs → lv_has ls 5 [(0, .ref (a 0)), (1, .int x1), (2, .ref (a 2)), (3, .int x3), (4, .int x4)] → wpX3_copies_0_2_3 post n x1 x3 x4 F R L G → W p l e (rmo 0 0) s m ([.ref (a 0), .int p1, .ref (a 2), .int p3] : List Value).toArray below meth c H locs 0 0 (MQ below (mQv post K h a) ([.ref (a 0), .int p1, .ref (a 2), .int p3] : List Value).toArray s 0 0 (mA h a)) (F0 m 3 ls []) := by
    intro n
    induction n with
    | zero =>
      intro x1 x3 x4 F R L G H locs ls hP hS hl hw
      exact False.elim hw
    | succ n ih =>
      intro x1 x3 x4 F R L G H locs ls hP hS hl hw
      unfold wpX3_copies_0_2_3 at hw
      refine lv_iload hx hb dX3_copies_3 (lv_at hl 4 rfl) ?_
      refine lv_bipush (v := 113) hx hb dX3_copies_5 (by decide) ?_
      refine lv_icmp_ge (tgt := 28) hx hb dX3_copies_7 (by decide) (fun c_1 => ?_) (fun c_1 => ?_)
      · have hw := hw.1 c_1
        exact m_vret hx hb hr hlocks hP hS dX3_copies_28 hw
      · have hw := hw.2 c_1
        refine lv_aload_n hx hb dX3_copies_10 rfl (lv_at hl 2 rfl) ?_
        refine lv_iload_n hx hb dX3_copies_11 rfl (lv_at hl 3 rfl) ?_
        refine lv_iload hx hb dX3_copies_12 (lv_at hl 4 rfl) ?_
        refine lv_iadd hx hb dX3_copies_14 ?_
        refine lv_aload_n hx hb dX3_copies_15 rfl (lv_at hl 0 rfl) ?_
        refine lv_iload_n hx hb dX3_copies_16 rfl (lv_at hl 1 rfl) ?_
        refine lv_iload hx hb dX3_copies_17 (lv_at hl 4 rfl) ?_
        refine lv_iadd hx hb dX3_copies_19 ?_
        obtain ⟨h_2, hw⟩ := hw
        refine m_iald (j := (Int32.toNatClampNeg (x1 + x4))) hx hb hK hP 0 1 113 rfl rfl h_2 dX3_copies_20 ?_
        obtain ⟨h_3, hw⟩ := hw
        refine m_iast (j := (Int32.toNatClampNeg (x3 + x4))) hx hb hK hap hP hS 2 3 113 rfl rfl rfl h_3 dX3_copies_21 (fun H locs hP hS => ?_)
        obtain ⟨R_4, eR_4⟩ : ∃ y : mR, y = va_up R 2 (upd (R 2) (Int32.toNatClampNeg (x3 + x4)) (R 0 (Int32.toNatClampNeg (x1 + x4)))) := ⟨_, rfl⟩
        rw [← eR_4] at hP
        have hw := hw R_4 eR_4
        obtain ⟨x4_5, ex4_5⟩ : ∃ y : Int32, y = x4 + 1 := ⟨_, rfl⟩
        have hw := hw x4_5 ex4_5
        refine lv_iinc (v := x4_5) (lv' := [(4, .int x4_5), (0, .ref (a 0)), (1, .int x1), (2, .ref (a 2)), (3, .int x3)]) hx hb dX3_copies_22 hl (k := 4) rfl (by rw [ex4_5]; rfl) (by decide) rfl (fun ls hl => ?_)
        refine lv_goto (tgt := 3) hx hb dX3_copies_25 (by decide) ?_
        exact ih x1 x3 x4_5 F R_4 L G _ _ ls hP hS (lv_sub hl [1, 2, 3, 4, 0] rfl) hw
  unfold wpX3_copies_0_2 at hw
  refine lv_iconst (v := 0) hx hb dX3_copies_0 (by decide) ?_
  refine lv_istore (lv' := [(4, .int 0), (0, .ref (a 0)), (1, .int p1), (2, .ref (a 2)), (3, .int p3)]) hx hb dX3_copies_1 hl (by decide) rfl (fun ls hl => ?_)
  obtain ⟨fu, hw⟩ := hw
  exact T3 fu p1 p3 0 F R L G _ _ ls hP hS (lv_sub hl [1, 2, 3, 4, 0] rfl) hw
def wpX3_copies_2_0_3 (post : mF → mR → mL → mG → Prop) : Nat → Int32 → Int32 → Int32 → mF → mR → mL → mG → Prop
  | 0 => fun _ _ _ _ _ _ _ => False
  | n + 1 => fun x1 x3 x4 F R L G => ((113 ≤ x4 → post F R L G) ∧ (¬ 113 ≤ x4 → (vp_in (x1 + x4) 113 ∧ (vp_in (x3 + x4) 113 ∧ (∀ R_4 : mR, R_4 = va_up R 0 (upd (R 0) (Int32.toNatClampNeg (x3 + x4)) (R 2 (Int32.toNatClampNeg (x1 + x4)))) → (∀ x4_5 : Int32, x4_5 = x4 + 1 → wpX3_copies_2_0_3 post n x1 x3 x4_5 F R_4 L G))))))
def wpX3_copies_2_0 (post : mF → mR → mL → mG → Prop) (F : mF) (R : mR) (L : mL) (G : mG) (p1 : Int32) (p3 : Int32) : Prop := ∃ fu : Nat, wpX3_copies_2_0_3 post fu p1 p3 0 F R L G
set_option maxHeartbeats 8000000 in
theorem metX3_copies_2_0 (l : Launch) (K : KT) (h : Nat) (a : Nat → Nat) (hap : mAp h a) (post : mF → mR → mL → mG → Prop) (F : mF) (R : mR) (L : mL) (G : mG) (p1 : Int32) (p3 : Int32) : Met l yX3_copies wsX3_copies (rmo 0 0) (mPreS K h a F R L G [.ref (a 2), .int p1, .ref (a 0), .int p3] (wpX3_copies_2_0 post F R L G p1 p3)) (mQv post K h a) 0 0 (mA h a) := by
  refine Met.ofW (cc := cX3_copies) (maxL := 5) (ret := none) (by decide) rfl ?_
  intro p e s m args below meth c s₁ B hml hv
  obtain ⟨rfl, hP, hK, hw⟩ := hv
  have hx := B.exec
  have hb := B.bytes
  have hr := B.returns
  have hts := atoms_spec (ws := wsX3_copies) B.pre
  have hts : ∀ w ∈ lw_all, w.before _ s = true := fun w h => hts w (List.mem_cons_of_mem _ h)
  have hown : s.vm.findClass RX3 = some m.cls := findClass_of_methodNamed B.named
  have hlocks := B.notSynchronized
  have hl := lv_entry ([.ref (a 2), .int p1, .ref (a 0), .int p3]) (n := 5) (Nat.le_of_ble_eq_true rfl)
  rw [lg_entry_eq]
  generalize (lg_sl ([.ref (a 2), .int p1, .ref (a 0), .int p3]) ++ List.replicate (5 - (lg_sl ([.ref (a 2), .int p1, .ref (a 0), .int p3])).length) Slot.unset).toArray = ls at hl ⊢
  have hl : lv_has ls 5 [(0, .ref (a 2)), (1, .int p1), (2, .ref (a 0)), (3, .int p3)] := hl
  have hS : va_S (mA h a) s.heap s.heap [] := va_S.rf
  have T3 : ∀ (n : Nat), ∀ (x1 : Int32) (x3 : Int32) (x4 : Int32) (F : mF) (R : mR) (L : mL) (G : mG) (H : Heap) (locs : List Loc) (ls : Array Slot), mP K h a F R L G H → va_S (mA h a) s.heap H locs → lv_has ls 5 [(0, .ref (a 2)), (1, .int x1), (2, .ref (a 0)), (3, .int x3), (4, .int x4)] → wpX3_copies_2_0_3 post n x1 x3 x4 F R L G → W p l e (rmo 0 0) s m ([.ref (a 2), .int p1, .ref (a 0), .int p3] : List Value).toArray below meth c H locs 0 0 (MQ below (mQv post K h a) ([.ref (a 2), .int p1, .ref (a 0), .int p3] : List Value).toArray s 0 0 (mA h a)) (F0 m 3 ls []) := by
    intro n
    induction n with
    | zero =>
      intro x1 x3 x4 F R L G H locs ls hP hS hl hw
      exact False.elim hw
    | succ n ih =>
      intro x1 x3 x4 F R L G H locs ls hP hS hl hw
      unfold wpX3_copies_2_0_3 at hw
      refine lv_iload hx hb dX3_copies_3 (lv_at hl 4 rfl) ?_
      refine lv_bipush (v := 113) hx hb dX3_copies_5 (by decide) ?_
      refine lv_icmp_ge (tgt := 28) hx hb dX3_copies_7 (by decide) (fun c_1 => ?_) (fun c_1 => ?_)
      · have hw := hw.1 c_1
        exact m_vret hx hb hr hlocks hP hS dX3_copies_28 hw
      · have hw := hw.2 c_1
        refine lv_aload_n hx hb dX3_copies_10 rfl (lv_at hl 2 rfl) ?_
        refine lv_iload_n hx hb dX3_copies_11 rfl (lv_at hl 3 rfl) ?_
        refine lv_iload hx hb dX3_copies_12 (lv_at hl 4 rfl) ?_
        refine lv_iadd hx hb dX3_copies_14 ?_
        refine lv_aload_n hx hb dX3_copies_15 rfl (lv_at hl 0 rfl) ?_
        refine lv_iload_n hx hb dX3_copies_16 rfl (lv_at hl 1 rfl) ?_
        refine lv_iload hx hb dX3_copies_17 (lv_at hl 4 rfl) ?_
        refine lv_iadd hx hb dX3_copies_19 ?_
        obtain ⟨h_2, hw⟩ := hw
        refine m_iald (j := (Int32.toNatClampNeg (x1 + x4))) hx hb hK hP 2 3 113 rfl rfl h_2 dX3_copies_20 ?_
        obtain ⟨h_3, hw⟩ := hw
        refine m_iast (j := (Int32.toNatClampNeg (x3 + x4))) hx hb hK hap hP hS 0 1 113 rfl rfl rfl h_3 dX3_copies_21 (fun H locs hP hS => ?_)
        obtain ⟨R_4, eR_4⟩ : ∃ y : mR, y = va_up R 0 (upd (R 0) (Int32.toNatClampNeg (x3 + x4)) (R 2 (Int32.toNatClampNeg (x1 + x4)))) := ⟨_, rfl⟩
        rw [← eR_4] at hP
        have hw := hw R_4 eR_4
        obtain ⟨x4_5, ex4_5⟩ : ∃ y : Int32, y = x4 + 1 := ⟨_, rfl⟩
        have hw := hw x4_5 ex4_5
        refine lv_iinc (v := x4_5) (lv' := [(4, .int x4_5), (0, .ref (a 2)), (1, .int x1), (2, .ref (a 0)), (3, .int x3)]) hx hb dX3_copies_22 hl (k := 4) rfl (by rw [ex4_5]; rfl) (by decide) rfl (fun ls hl => ?_)
        refine lv_goto (tgt := 3) hx hb dX3_copies_25 (by decide) ?_
        exact ih x1 x3 x4_5 F R_4 L G _ _ ls hP hS (lv_sub hl [1, 2, 3, 4, 0] rfl) hw
  unfold wpX3_copies_2_0 at hw
  refine lv_iconst (v := 0) hx hb dX3_copies_0 (by decide) ?_
  refine lv_istore (lv' := [(4, .int 0), (0, .ref (a 2)), (1, .int p1), (2, .ref (a 0)), (3, .int p3)]) hx hb dX3_copies_1 hl (by decide) rfl (fun ls hl => ?_)
  obtain ⟨fu, hw⟩ := hw
  exact T3 fu p1 p3 0 F R L G _ _ ls hP hS (lv_sub hl [1, 2, 3, 4, 0] rfl) hw
def wpX3_copies_4_0_3 (post : mF → mR → mL → mG → Prop) : Nat → Int32 → Int32 → Int32 → mF → mR → mL → mG → Prop
  | 0 => fun _ _ _ _ _ _ _ => False
  | n + 1 => fun x1 x3 x4 F R L G => ((113 ≤ x4 → post F R L G) ∧ (¬ 113 ≤ x4 → (vp_in (x1 + x4) 452 ∧ (vp_in (x3 + x4) 113 ∧ (∀ R_4 : mR, R_4 = va_up R 0 (upd (R 0) (Int32.toNatClampNeg (x3 + x4)) (R 4 (Int32.toNatClampNeg (x1 + x4)))) → (∀ x4_5 : Int32, x4_5 = x4 + 1 → wpX3_copies_4_0_3 post n x1 x3 x4_5 F R_4 L G))))))
def wpX3_copies_4_0 (post : mF → mR → mL → mG → Prop) (F : mF) (R : mR) (L : mL) (G : mG) (p1 : Int32) (p3 : Int32) : Prop := ∃ fu : Nat, wpX3_copies_4_0_3 post fu p1 p3 0 F R L G
set_option maxHeartbeats 8000000 in
theorem metX3_copies_4_0 (l : Launch) (K : KT) (h : Nat) (a : Nat → Nat) (hap : mAp h a) (post : mF → mR → mL → mG → Prop) (F : mF) (R : mR) (L : mL) (G : mG) (p1 : Int32) (p3 : Int32) : Met l yX3_copies wsX3_copies (rmo 0 0) (mPreS K h a F R L G [.ref (a 4), .int p1, .ref (a 0), .int p3] (wpX3_copies_4_0 post F R L G p1 p3)) (mQv post K h a) 0 0 (mA h a) := by
  refine Met.ofW (cc := cX3_copies) (maxL := 5) (ret := none) (by decide) rfl ?_
  intro p e s m args below meth c s₁ B hml hv
  obtain ⟨rfl, hP, hK, hw⟩ := hv
  have hx := B.exec
  have hb := B.bytes
  have hr := B.returns
  have hts := atoms_spec (ws := wsX3_copies) B.pre
  have hts : ∀ w ∈ lw_all, w.before _ s = true := fun w h => hts w (List.mem_cons_of_mem _ h)
  have hown : s.vm.findClass RX3 = some m.cls := findClass_of_methodNamed B.named
  have hlocks := B.notSynchronized
  have hl := lv_entry ([.ref (a 4), .int p1, .ref (a 0), .int p3]) (n := 5) (Nat.le_of_ble_eq_true rfl)
  rw [lg_entry_eq]
  generalize (lg_sl ([.ref (a 4), .int p1, .ref (a 0), .int p3]) ++ List.replicate (5 - (lg_sl ([.ref (a 4), .int p1, .ref (a 0), .int p3])).length) Slot.unset).toArray = ls at hl ⊢
  have hl : lv_has ls 5 [(0, .ref (a 4)), (1, .int p1), (2, .ref (a 0)), (3, .int p3)] := hl
  have hS : va_S (mA h a) s.heap s.heap [] := va_S.rf
  have T3 : ∀ (n : Nat), ∀ (x1 : Int32) (x3 : Int32) (x4 : Int32) (F : mF) (R : mR) (L : mL) (G : mG) (H : Heap) (locs : List Loc) (ls : Array Slot), mP K h a F R L G H → va_S (mA h a) s.heap H locs → lv_has ls 5 [(0, .ref (a 4)), (1, .int x1), (2, .ref (a 0)), (3, .int x3), (4, .int x4)] → wpX3_copies_4_0_3 post n x1 x3 x4 F R L G → W p l e (rmo 0 0) s m ([.ref (a 4), .int p1, .ref (a 0), .int p3] : List Value).toArray below meth c H locs 0 0 (MQ below (mQv post K h a) ([.ref (a 4), .int p1, .ref (a 0), .int p3] : List Value).toArray s 0 0 (mA h a)) (F0 m 3 ls []) := by
    intro n
    induction n with
    | zero =>
      intro x1 x3 x4 F R L G H locs ls hP hS hl hw
      exact False.elim hw
    | succ n ih =>
      intro x1 x3 x4 F R L G H locs ls hP hS hl hw
      unfold wpX3_copies_4_0_3 at hw
      refine lv_iload hx hb dX3_copies_3 (lv_at hl 4 rfl) ?_
      refine lv_bipush (v := 113) hx hb dX3_copies_5 (by decide) ?_
      refine lv_icmp_ge (tgt := 28) hx hb dX3_copies_7 (by decide) (fun c_1 => ?_) (fun c_1 => ?_)
      · have hw := hw.1 c_1
        exact m_vret hx hb hr hlocks hP hS dX3_copies_28 hw
      · have hw := hw.2 c_1
        refine lv_aload_n hx hb dX3_copies_10 rfl (lv_at hl 2 rfl) ?_
        refine lv_iload_n hx hb dX3_copies_11 rfl (lv_at hl 3 rfl) ?_
        refine lv_iload hx hb dX3_copies_12 (lv_at hl 4 rfl) ?_
        refine lv_iadd hx hb dX3_copies_14 ?_
        refine lv_aload_n hx hb dX3_copies_15 rfl (lv_at hl 0 rfl) ?_
        refine lv_iload_n hx hb dX3_copies_16 rfl (lv_at hl 1 rfl) ?_
        refine lv_iload hx hb dX3_copies_17 (lv_at hl 4 rfl) ?_
        refine lv_iadd hx hb dX3_copies_19 ?_
        obtain ⟨h_2, hw⟩ := hw
        refine m_iald (j := (Int32.toNatClampNeg (x1 + x4))) hx hb hK hP 4 4 452 rfl rfl h_2 dX3_copies_20 ?_
        obtain ⟨h_3, hw⟩ := hw
        refine m_iast (j := (Int32.toNatClampNeg (x3 + x4))) hx hb hK hap hP hS 0 1 113 rfl rfl rfl h_3 dX3_copies_21 (fun H locs hP hS => ?_)
        obtain ⟨R_4, eR_4⟩ : ∃ y : mR, y = va_up R 0 (upd (R 0) (Int32.toNatClampNeg (x3 + x4)) (R 4 (Int32.toNatClampNeg (x1 + x4)))) := ⟨_, rfl⟩
        rw [← eR_4] at hP
        have hw := hw R_4 eR_4
        obtain ⟨x4_5, ex4_5⟩ : ∃ y : Int32, y = x4 + 1 := ⟨_, rfl⟩
        have hw := hw x4_5 ex4_5
        refine lv_iinc (v := x4_5) (lv' := [(4, .int x4_5), (0, .ref (a 4)), (1, .int x1), (2, .ref (a 0)), (3, .int x3)]) hx hb dX3_copies_22 hl (k := 4) rfl (by rw [ex4_5]; rfl) (by decide) rfl (fun ls hl => ?_)
        refine lv_goto (tgt := 3) hx hb dX3_copies_25 (by decide) ?_
        exact ih x1 x3 x4_5 F R_4 L G _ _ ls hP hS (lv_sub hl [1, 2, 3, 4, 0] rfl) hw
  unfold wpX3_copies_4_0 at hw
  refine lv_iconst (v := 0) hx hb dX3_copies_0 (by decide) ?_
  refine lv_istore (lv' := [(4, .int 0), (0, .ref (a 4)), (1, .int p1), (2, .ref (a 0)), (3, .int p3)]) hx hb dX3_copies_1 hl (by decide) rfl (fun ls hl => ?_)
  obtain ⟨fu, hw⟩ := hw
  exact T3 fu p1 p3 0 F R L G _ _ ls hP hS (lv_sub hl [1, 2, 3, 4, 0] rfl) hw
def wpX3_begins (post : mF → mR → mL → mG → Prop) (F : mF) (R : mR) (L : mL) (G : mG) : Prop := wpX3_copies_0_1 (fun F_1 R_2 L_3 G_4 => post F_1 R_2 L_3 G_4) (va_up F 8 0) R L G 0 0
abbrev wsX3_begins : List Cond := ws_ yX3_begins cX3_begins 1 none
set_option maxHeartbeats 8000000 in
theorem metX3_begins (l : Launch) (K : KT) (h : Nat) (a : Nat → Nat) (hap : mAp h a) (post : mF → mR → mL → mG → Prop) (F : mF) (R : mR) (L : mL) (G : mG) : Met l yX3_begins wsX3_begins (rmo 1 24) (mPre K h a F R L G [] (wpX3_begins post F R L G )) (mQv post K h a) 0 0 (mA h a) := by
  refine Met.ofW (cc := cX3_begins) (maxL := 1) (ret := none) (by decide) rfl ?_
  intro p e s m args below meth c s₁ B hml hv
  obtain ⟨rfl, hP, hK, hw⟩ := hv
  have hx := B.exec
  have hb := B.bytes
  have hr := B.returns
  have hts := atoms_spec (ws := wsX3_begins) B.pre
  have hts : ∀ w ∈ lw_all, w.before _ s = true := fun w h => hts w (List.mem_cons_of_mem _ h)
  have hown : s.vm.findClass RX3 = some m.cls := findClass_of_methodNamed B.named
  have hlocks := B.notSynchronized
  have hl := lv_entry ([.ref h]) (n := 1) (Nat.le_of_ble_eq_true rfl)
  rw [lg_entry_eq]
  generalize (lg_sl ([.ref h]) ++ List.replicate (1 - (lg_sl ([.ref h])).length) Slot.unset).toArray = ls at hl ⊢
  have hl : lv_has ls 1 [(0, .ref h)] := hl
  have hS : va_S (mA h a) s.heap s.heap [] := va_S.rf
  unfold wpX3_begins at hw
  refine lv_aload_n hx hb dX3_begins_0 rfl (lv_at hl 0 rfl) ?_
  refine lv_iconst (v := 0) hx hb dX3_begins_1 (by decide) ?_
  refine m_puti hx hb hts hown hK hap hP hS 8 (by decide) q1736 rfl rfl rfl rfl dX3_begins_2 (fun H locs hP hS => ?_)
  refine lv_aload_n hx hb dX3_begins_5 rfl (lv_at hl 0 rfl) ?_
  refine m_get hx hb hts hown hK hP 0 (by decide) q1728 rfl dX3_begins_6 ?_
  refine lv_iconst (v := 0) hx hb dX3_begins_9 (by decide) ?_
  refine lv_aload_n hx hb dX3_begins_10 rfl (lv_at hl 0 rfl) ?_
  refine m_get hx hb hts hown hK hP 1 (by decide) q1729 rfl dX3_begins_11 ?_
  refine lv_iconst (v := 0) hx hb dX3_begins_14 (by decide) ?_
  refine m_callSv (As := [.ref (a 0), .int 0, .ref (a 1), .int 0]) (rest := []) ⟨hx, hb, hml, hown, hts⟩ (metX3_copies_0_1 l K h a hap _ (va_up F 8 0) R L G 0 0) (va_cwS 4 hts (lw_S q1825 q1826 q85 q1827) rfl rfl rfl (by decide +kernel) ⟨Nat.le_of_ble_eq_true rfl, Nat.le_of_ble_eq_true rfl⟩) hK hP hS hw rfl hl.1 rfl (Nat.le_of_ble_eq_true rfl) dX3_begins_15 ⟨Nat.le_refl _, Nat.le_refl _⟩ (fun F_1 R_2 L_3 G_4 H locs hw hP hS => ?_)
  exact m_vret hx hb hr hlocks hP hS dX3_begins_18 hw
def wpX3_goAxle (post : Int32 → mF → mR → mL → mG → Prop) (F : mF) (R : mR) (L : mL) (G : mG) : Prop := (((R 0 0) = 12 → post (-100002) F R L G) ∧ (¬ (R 0 0) = 12 → post (((va_up R 0 (upd (R 0) 0 ((R 0 0) + 1))) 0 0) - 1) F (va_up R 0 (upd (R 0) 0 ((R 0 0) + 1))) L G))
abbrev wsX3_goAxle : List Cond := ws_ yX3_goAxle cX3_goAxle 1 (some .int)
set_option maxHeartbeats 8000000 in
theorem metX3_goAxle (l : Launch) (K : KT) (h : Nat) (a : Nat → Nat) (hap : mAp h a) (post : Int32 → mF → mR → mL → mG → Prop) (F : mF) (R : mR) (L : mL) (G : mG) : Met l yX3_goAxle wsX3_goAxle (rmo 0 0) (mPre K h a F R L G [] (wpX3_goAxle post F R L G )) (mQi post K h a) 0 0 (mA h a) := by
  refine Met.ofW (cc := cX3_goAxle) (maxL := 1) (ret := (some .int)) (by decide) rfl ?_
  intro p e s m args below meth c s₁ B hml hv
  obtain ⟨rfl, hP, hK, hw⟩ := hv
  have hx := B.exec
  have hb := B.bytes
  have hr := B.returns
  have hts := atoms_spec (ws := wsX3_goAxle) B.pre
  have hts : ∀ w ∈ lw_all, w.before _ s = true := fun w h => hts w (List.mem_cons_of_mem _ h)
  have hown : s.vm.findClass RX3 = some m.cls := findClass_of_methodNamed B.named
  have hlocks := B.notSynchronized
  have hl := lv_entry ([.ref h]) (n := 1) (Nat.le_of_ble_eq_true rfl)
  rw [lg_entry_eq]
  generalize (lg_sl ([.ref h]) ++ List.replicate (1 - (lg_sl ([.ref h])).length) Slot.unset).toArray = ls at hl ⊢
  have hl : lv_has ls 1 [(0, .ref h)] := hl
  have hS : va_S (mA h a) s.heap s.heap [] := va_S.rf
  unfold wpX3_goAxle at hw
  refine lv_aload_n hx hb dX3_goAxle_0 rfl (lv_at hl 0 rfl) ?_
  refine m_get hx hb hts hown hK hP 0 (by decide) q1728 rfl dX3_goAxle_1 ?_
  refine lv_iconst (v := 0) hx hb dX3_goAxle_4 (by decide) ?_
  refine m_iald (j := 0) hx hb hK hP 0 1 113 rfl (by decide) (vpd (by decide)) dX3_goAxle_5 ?_
  refine lv_bipush (v := 12) hx hb dX3_goAxle_6 (by decide) ?_
  refine lv_icmp_ne (tgt := 14) hx hb dX3_goAxle_8 (by decide) (fun c_1 => ?_) (fun c_1 => ?_)
  · have hw := hw.2 (c_1)
    refine lv_aload_n hx hb dX3_goAxle_14 rfl (lv_at hl 0 rfl) ?_
    refine m_get hx hb hts hown hK hP 0 (by decide) q1728 rfl dX3_goAxle_15 ?_
    refine lv_iconst (v := 0) hx hb dX3_goAxle_18 (by decide) ?_
    refine lv_dup2_11 hx hb dX3_goAxle_19 rfl rfl ?_
    refine m_iald (j := 0) hx hb hK hP 0 1 113 rfl (by decide) (vpd (by decide)) dX3_goAxle_20 ?_
    refine lv_iconst (v := 1) hx hb dX3_goAxle_21 (by decide) ?_
    refine lv_iadd hx hb dX3_goAxle_22 ?_
    refine m_iast (j := 0) hx hb hK hap hP hS 0 1 113 rfl (by decide) rfl (vpd (by decide)) dX3_goAxle_23 (fun H locs hP hS => ?_)
    refine lv_aload_n hx hb dX3_goAxle_24 rfl (lv_at hl 0 rfl) ?_
    refine m_get hx hb hts hown hK hP 0 (by decide) q1728 rfl dX3_goAxle_25 ?_
    refine lv_iconst (v := 0) hx hb dX3_goAxle_28 (by decide) ?_
    refine m_iald (j := 0) hx hb hK hP 0 1 113 rfl (by decide) (vpd (by decide)) dX3_goAxle_29 ?_
    refine lv_iconst (v := 1) hx hb dX3_goAxle_30 (by decide) ?_
    refine lv_isub hx hb dX3_goAxle_31 ?_
    exact m_iret hx hb hr hlocks hP hS dX3_goAxle_32 hw
  · have hw := hw.1 (c_1)
    refine lv_ldc hx hb hown (hts _ q1832) dX3_goAxle_11 ?_
    exact m_iret hx hb hr hlocks hP hS dX3_goAxle_13 hw
def wpX3_fails (post : Int32 → mF → mR → mL → mG → Prop) (F : mF) (R : mR) (L : mL) (G : mG) (p1 : Int32) : Prop := post 0 (va_up F 8 p1) R L G
abbrev wsX3_fails : List Cond := ws_ yX3_fails cX3_fails 2 (some .int)
set_option maxHeartbeats 8000000 in
theorem metX3_fails (l : Launch) (K : KT) (h : Nat) (a : Nat → Nat) (hap : mAp h a) (post : Int32 → mF → mR → mL → mG → Prop) (F : mF) (R : mR) (L : mL) (G : mG) (p1 : Int32) : Met l yX3_fails wsX3_fails (rmo 0 0) (mPre K h a F R L G [.int p1] (wpX3_fails post F R L G p1)) (mQi post K h a) 0 0 (mA h a) := by
  refine Met.ofW (cc := cX3_fails) (maxL := 2) (ret := (some .int)) (by decide) rfl ?_
  intro p e s m args below meth c s₁ B hml hv
  obtain ⟨rfl, hP, hK, hw⟩ := hv
  have hx := B.exec
  have hb := B.bytes
  have hr := B.returns
  have hts := atoms_spec (ws := wsX3_fails) B.pre
  have hts : ∀ w ∈ lw_all, w.before _ s = true := fun w h => hts w (List.mem_cons_of_mem _ h)
  have hown : s.vm.findClass RX3 = some m.cls := findClass_of_methodNamed B.named
  have hlocks := B.notSynchronized
  have hl := lv_entry ([.ref h, .int p1]) (n := 2) (Nat.le_of_ble_eq_true rfl)
  rw [lg_entry_eq]
  generalize (lg_sl ([.ref h, .int p1]) ++ List.replicate (2 - (lg_sl ([.ref h, .int p1])).length) Slot.unset).toArray = ls at hl ⊢
  have hl : lv_has ls 2 [(0, .ref h), (1, .int p1)] := hl
  have hS : va_S (mA h a) s.heap s.heap [] := va_S.rf
  unfold wpX3_fails at hw
  refine lv_aload_n hx hb dX3_fails_0 rfl (lv_at hl 0 rfl) ?_
  refine lv_iload_n hx hb dX3_fails_1 rfl (lv_at hl 1 rfl) ?_
  refine m_puti hx hb hts hown hK hap hP hS 8 (by decide) q1736 rfl rfl rfl rfl dX3_fails_2 (fun H locs hP hS => ?_)
  refine lv_iconst (v := 0) hx hb dX3_fails_5 (by decide) ?_
  exact m_iret hx hb hr hlocks hP hS dX3_fails_6 hw
def wpX3_records_48 (post : mF → mR → mL → mG → Prop) (F : mF) (R : mR) (L : mL) (G : mG) : Prop := wpX3_copies_1_4 (fun F_1 R_2 L_3 G_4 => post (va_up F_1 5 ((F_1 5) + 1)) R_2 L_3 G_4) F R L G 0 (113 * (F 5))
def wpX3_records_10 (post : mF → mR → mL → mG → Prop) : Nat → Int32 → mF → mR → mL → mG → Prop
  | 0 => fun _ _ _ _ _ => False
  | n + 1 => fun x1 F R L G => ((339 ≤ x1 → wpX3_records_48 post (va_up F 5 ((F 5) - 1)) R L G) ∧ (¬ 339 ≤ x1 → (vp_in (x1 + 113) 452 ∧ (vp_in x1 452 ∧ (∀ R_8 : mR, R_8 = va_up R 4 (upd (R 4) (Int32.toNatClampNeg x1) (R 4 (Int32.toNatClampNeg (x1 + 113)))) → (∀ x1_9 : Int32, x1_9 = x1 + 1 → wpX3_records_10 post n x1_9 F R_8 L G))))))
def wpX3_records (post : mF → mR → mL → mG → Prop) (F : mF) (R : mR) (L : mL) (G : mG) : Prop := (((F 5) = 4 → ∃ fu : Nat, wpX3_records_10 post fu 0 F R L G) ∧ (¬ (F 5) = 4 → wpX3_records_48 post F R L G))
abbrev wsX3_records : List Cond := ws_ yX3_records cX3_records 2 none
set_option maxHeartbeats 8000000 in
theorem metX3_records (l : Launch) (K : KT) (h : Nat) (a : Nat → Nat) (hap : mAp h a) (post : mF → mR → mL → mG → Prop) (F : mF) (R : mR) (L : mL) (G : mG) : Met l yX3_records wsX3_records (rmo 1 24) (mPre K h a F R L G [] (wpX3_records post F R L G )) (mQv post K h a) 0 0 (mA h a) := by
  refine Met.ofW (cc := cX3_records) (maxL := 2) (ret := none) (by decide) rfl ?_
  intro p e s m args below meth c s₁ B hml hv
  obtain ⟨rfl, hP, hK, hw⟩ := hv
  have hx := B.exec
  have hb := B.bytes
  have hr := B.returns
  have hts := atoms_spec (ws := wsX3_records) B.pre
  have hts : ∀ w ∈ lw_all, w.before _ s = true := fun w h => hts w (List.mem_cons_of_mem _ h)
  have hown : s.vm.findClass RX3 = some m.cls := findClass_of_methodNamed B.named
  have hlocks := B.notSynchronized
  have hl := lv_entry ([.ref h]) (n := 2) (Nat.le_of_ble_eq_true rfl)
  rw [lg_entry_eq]
  generalize (lg_sl ([.ref h]) ++ List.replicate (2 - (lg_sl ([.ref h])).length) Slot.unset).toArray = ls at hl ⊢
  have hl : lv_has ls 2 [(0, .ref h)] := hl
  have hS : va_S (mA h a) s.heap s.heap [] := va_S.rf
  have T48 : ∀ (F : mF) (R : mR) (L : mL) (G : mG) (H : Heap) (locs : List Loc) (ls : Array Slot), mP K h a F R L G H → va_S (mA h a) s.heap H locs → lv_has ls 2 [(0, .ref h)] → wpX3_records_48 post F R L G → W p l e (rmo 1 24) s m ([.ref h] : List Value).toArray below meth c H locs 0 0 (MQ below (mQv post K h a) ([.ref h] : List Value).toArray s 0 0 (mA h a)) (F0 m 48 ls []) := by
    intro  F R L G H locs ls hP hS hl hw
    unfold wpX3_records_48 at hw
    refine lv_aload_n hx hb dX3_records_48 rfl (lv_at hl 0 rfl) ?_
    refine m_get hx hb hts hown hK hP 1 (by decide) q1729 rfl dX3_records_49 ?_
    refine lv_iconst (v := 0) hx hb dX3_records_52 (by decide) ?_
    refine lv_aload_n hx hb dX3_records_53 rfl (lv_at hl 0 rfl) ?_
    refine m_get hx hb hts hown hK hP 4 (by decide) q1732 rfl dX3_records_54 ?_
    refine lv_bipush (v := 113) hx hb dX3_records_57 (by decide) ?_
    refine lv_aload_n hx hb dX3_records_59 rfl (lv_at hl 0 rfl) ?_
    refine m_get hx hb hts hown hK hP 5 (by decide) q1733 rfl dX3_records_60 ?_
    refine lv_imul hx hb dX3_records_63 ?_
    refine m_callSv (As := [.ref (a 1), .int 0, .ref (a 4), .int (113 * (F 5))]) (rest := []) ⟨hx, hb, hml, hown, hts⟩ (metX3_copies_1_4 l K h a hap _ F R L G 0 (113 * (F 5))) (va_cwS 4 hts (lw_S q1825 q1826 q85 q1827) rfl rfl rfl (by decide +kernel) ⟨Nat.le_of_ble_eq_true rfl, Nat.le_of_ble_eq_true rfl⟩) hK hP hS hw rfl hl.1 rfl (Nat.le_of_ble_eq_true rfl) dX3_records_64 ⟨Nat.le_refl _, Nat.le_refl _⟩ (fun F_1 R_2 L_3 G_4 H locs hw hP hS => ?_)
    refine lv_aload_n hx hb dX3_records_67 rfl (lv_at hl 0 rfl) ?_
    refine lv_dup hx hb dX3_records_68 rfl ?_
    refine m_get hx hb hts hown hK hP 5 (by decide) q1733 rfl dX3_records_69 ?_
    refine lv_iconst (v := 1) hx hb dX3_records_72 (by decide) ?_
    refine lv_iadd hx hb dX3_records_73 ?_
    refine m_puti hx hb hts hown hK hap hP hS 5 (by decide) q1733 rfl rfl rfl rfl dX3_records_74 (fun H locs hP hS => ?_)
    exact m_vret hx hb hr hlocks hP hS dX3_records_77 hw
  have T10 : ∀ (n : Nat), ∀ (x1 : Int32) (F : mF) (R : mR) (L : mL) (G : mG) (H : Heap) (locs : List Loc) (ls : Array Slot), mP K h a F R L G H → va_S (mA h a) s.heap H locs → lv_has ls 2 [(0, .ref h), (1, .int x1)] → wpX3_records_10 post n x1 F R L G → W p l e (rmo 1 24) s m ([.ref h] : List Value).toArray below meth c H locs 0 0 (MQ below (mQv post K h a) ([.ref h] : List Value).toArray s 0 0 (mA h a)) (F0 m 10 ls []) := by
    intro n
    induction n with
    | zero =>
      intro x1 F R L G H locs ls hP hS hl hw
      exact False.elim hw
    | succ n ih =>
      intro x1 F R L G H locs ls hP hS hl hw
      unfold wpX3_records_10 at hw
      refine lv_iload_n hx hb dX3_records_10 rfl (lv_at hl 1 rfl) ?_
      refine lv_sipush (v := 339) hx hb dX3_records_11 (by decide) ?_
      refine lv_icmp_ge (tgt := 38) hx hb dX3_records_14 (by decide) (fun c_5 => ?_) (fun c_5 => ?_)
      · have hw := hw.1 c_5
        refine lv_aload_n hx hb dX3_records_38 rfl (lv_at hl 0 rfl) ?_
        refine lv_dup hx hb dX3_records_39 rfl ?_
        refine m_get hx hb hts hown hK hP 5 (by decide) q1733 rfl dX3_records_40 ?_
        refine lv_iconst (v := 1) hx hb dX3_records_43 (by decide) ?_
        refine lv_isub hx hb dX3_records_44 ?_
        refine m_puti hx hb hts hown hK hap hP hS 5 (by decide) q1733 rfl rfl rfl rfl dX3_records_45 (fun H locs hP hS => ?_)
        exact T48 (va_up F 5 ((F 5) - 1)) R L G _ _ ls hP hS (lv_sub hl [0] rfl) hw
      · have hw := hw.2 c_5
        refine lv_aload_n hx hb dX3_records_17 rfl (lv_at hl 0 rfl) ?_
        refine m_get hx hb hts hown hK hP 4 (by decide) q1732 rfl dX3_records_18 ?_
        refine lv_iload_n hx hb dX3_records_21 rfl (lv_at hl 1 rfl) ?_
        refine lv_aload_n hx hb dX3_records_22 rfl (lv_at hl 0 rfl) ?_
        refine m_get hx hb hts hown hK hP 4 (by decide) q1732 rfl dX3_records_23 ?_
        refine lv_iload_n hx hb dX3_records_26 rfl (lv_at hl 1 rfl) ?_
        refine lv_bipush (v := 113) hx hb dX3_records_27 (by decide) ?_
        refine lv_iadd hx hb dX3_records_29 ?_
        obtain ⟨h_6, hw⟩ := hw
        refine m_iald (j := (Int32.toNatClampNeg (x1 + 113))) hx hb hK hP 4 4 452 rfl rfl h_6 dX3_records_30 ?_
        obtain ⟨h_7, hw⟩ := hw
        refine m_iast (j := (Int32.toNatClampNeg x1)) hx hb hK hap hP hS 4 4 452 rfl rfl rfl h_7 dX3_records_31 (fun H locs hP hS => ?_)
        obtain ⟨R_8, eR_8⟩ : ∃ y : mR, y = va_up R 4 (upd (R 4) (Int32.toNatClampNeg x1) (R 4 (Int32.toNatClampNeg (x1 + 113)))) := ⟨_, rfl⟩
        rw [← eR_8] at hP
        have hw := hw R_8 eR_8
        obtain ⟨x1_9, ex1_9⟩ : ∃ y : Int32, y = x1 + 1 := ⟨_, rfl⟩
        have hw := hw x1_9 ex1_9
        refine lv_iinc (v := x1_9) (lv' := [(1, .int x1_9), (0, .ref h)]) hx hb dX3_records_32 hl (k := 1) rfl (by rw [ex1_9]; rfl) (by decide) rfl (fun ls hl => ?_)
        refine lv_goto (tgt := 10) hx hb dX3_records_35 (by decide) ?_
        exact ih x1_9 F R_8 L G _ _ ls hP hS (lv_sub hl [1, 0] rfl) hw
  unfold wpX3_records at hw
  refine lv_aload_n hx hb dX3_records_0 rfl (lv_at hl 0 rfl) ?_
  refine m_get hx hb hts hown hK hP 5 (by decide) q1733 rfl dX3_records_1 ?_
  refine lv_iconst (v := 4) hx hb dX3_records_4 (by decide) ?_
  refine lv_icmp_ne (tgt := 48) hx hb dX3_records_5 (by decide) (fun c_10 => ?_) (fun c_10 => ?_)
  · have hw := hw.2 (c_10)
    exact T48 F R L G _ _ ls hP hS (lv_sub hl [0] rfl) hw
  · have hw := hw.1 (c_10)
    refine lv_iconst (v := 0) hx hb dX3_records_8 (by decide) ?_
    refine lv_istore_n (lv' := [(1, .int 0), (0, .ref h)]) hx hb dX3_records_9 rfl hl (by decide) rfl (fun ls hl => ?_)
    obtain ⟨fu, hw⟩ := hw
    exact T10 fu 0 F R L G _ _ ls hP hS (lv_sub hl [1, 0] rfl) hw
def wpX3_ends_37 (post : Int32 → mF → mR → mL → mG → Prop) (z1 : Int32) (F : mF) (R : mR) (L : mL) (G : mG) : Prop := wpX3_fails (fun r_1 F_2 R_3 L_4 G_5 => post r_1 F_2 R_3 L_4 G_5) F R L G z1
def wpX3_ends_12 (post : Int32 → mF → mR → mL → mG → Prop) (x1 : Int32) (F : mF) (R : mR) (L : mL) (G : mG) : Prop := wpX3_copies_1_0 (fun F_6 R_7 L_8 G_9 => ((x1 = (-100001) → wpX3_ends_37 post 1 F_6 R_7 L_8 G_9) ∧ (¬ x1 = (-100001) → wpX3_ends_37 post 2 F_6 R_7 L_8 G_9))) F R L G 0 0
def wpX3_ends (post : Int32 → mF → mR → mL → mG → Prop) (F : mF) (R : mR) (L : mL) (G : mG) (p1 : Int32) : Prop := ((p1 = (-100001) → wpX3_ends_12 post p1 F R L G) ∧ (¬ p1 = (-100001) → ((p1 = (-100002) → wpX3_ends_12 post p1 F R L G) ∧ (¬ p1 = (-100002) → wpX3_records (fun F_13 R_14 L_15 G_16 => post p1 F_13 R_14 L_15 G_16) F R L G))))
abbrev wsX3_ends : List Cond := ws_ yX3_ends cX3_ends 2 (some .int)
set_option maxHeartbeats 8000000 in
theorem metX3_ends (l : Launch) (K : KT) (h : Nat) (a : Nat → Nat) (hap : mAp h a) (post : Int32 → mF → mR → mL → mG → Prop) (F : mF) (R : mR) (L : mL) (G : mG) (p1 : Int32) : Met l yX3_ends wsX3_ends (rmo 2 45) (mPre K h a F R L G [.int p1] (wpX3_ends post F R L G p1)) (mQi post K h a) 0 0 (mA h a) := by
  refine Met.ofW (cc := cX3_ends) (maxL := 2) (ret := (some .int)) (by decide) rfl ?_
  intro p e s m args below meth c s₁ B hml hv
  obtain ⟨rfl, hP, hK, hw⟩ := hv
  have hx := B.exec
  have hb := B.bytes
  have hr := B.returns
  have hts := atoms_spec (ws := wsX3_ends) B.pre
  have hts : ∀ w ∈ lw_all, w.before _ s = true := fun w h => hts w (List.mem_cons_of_mem _ h)
  have hown : s.vm.findClass RX3 = some m.cls := findClass_of_methodNamed B.named
  have hlocks := B.notSynchronized
  have hl := lv_entry ([.ref h, .int p1]) (n := 2) (Nat.le_of_ble_eq_true rfl)
  rw [lg_entry_eq]
  generalize (lg_sl ([.ref h, .int p1]) ++ List.replicate (2 - (lg_sl ([.ref h, .int p1])).length) Slot.unset).toArray = ls at hl ⊢
  have hl : lv_has ls 2 [(0, .ref h), (1, .int p1)] := hl
  have hS : va_S (mA h a) s.heap s.heap [] := va_S.rf
  have T37 : ∀ (z1 : Int32) (F : mF) (R : mR) (L : mL) (G : mG) (H : Heap) (locs : List Loc) (ls : Array Slot), mP K h a F R L G H → va_S (mA h a) s.heap H locs → lv_has ls 2 [] → wpX3_ends_37 post z1 F R L G → W p l e (rmo 2 45) s m ([.ref h, .int p1] : List Value).toArray below meth c H locs 0 0 (MQ below (mQi post K h a) ([.ref h, .int p1] : List Value).toArray s 0 0 (mA h a)) (F0 m 37 ls [.int z1, .ref h]) := by
    intro z1 F R L G H locs ls hP hS hl hw
    unfold wpX3_ends_37 at hw
    refine m_calli (As := [.int z1]) (rest := []) ⟨hx, hb, hml, hown, hts⟩ (metX3_fails l K h a hap _ F R L G z1) (cwV 1 hts (lw_V q1838 q1840 qs27 q85 q1841) rfl rfl rfl (by decide +kernel) ⟨Nat.le_of_ble_eq_true rfl, Nat.le_of_ble_eq_true rfl⟩) hK hP hS hw rfl hl.1 rfl (Nat.le_of_ble_eq_true rfl) dX3_ends_37 ⟨Nat.le_refl _, Nat.le_refl _⟩ (fun r_1 F_2 R_3 L_4 G_5 H locs hw hP hS => ?_)
    exact m_iret hx hb hr hlocks hP hS dX3_ends_40 hw
  have T12 : ∀ (x1 : Int32) (F : mF) (R : mR) (L : mL) (G : mG) (H : Heap) (locs : List Loc) (ls : Array Slot), mP K h a F R L G H → va_S (mA h a) s.heap H locs → lv_has ls 2 [(0, .ref h), (1, .int x1)] → wpX3_ends_12 post x1 F R L G → W p l e (rmo 2 45) s m ([.ref h, .int p1] : List Value).toArray below meth c H locs 0 0 (MQ below (mQi post K h a) ([.ref h, .int p1] : List Value).toArray s 0 0 (mA h a)) (F0 m 12 ls []) := by
    intro x1 F R L G H locs ls hP hS hl hw
    unfold wpX3_ends_12 at hw
    refine lv_aload_n hx hb dX3_ends_12 rfl (lv_at hl 0 rfl) ?_
    refine m_get hx hb hts hown hK hP 1 (by decide) q1729 rfl dX3_ends_13 ?_
    refine lv_iconst (v := 0) hx hb dX3_ends_16 (by decide) ?_
    refine lv_aload_n hx hb dX3_ends_17 rfl (lv_at hl 0 rfl) ?_
    refine m_get hx hb hts hown hK hP 0 (by decide) q1728 rfl dX3_ends_18 ?_
    refine lv_iconst (v := 0) hx hb dX3_ends_21 (by decide) ?_
    refine m_callSv (As := [.ref (a 1), .int 0, .ref (a 0), .int 0]) (rest := []) ⟨hx, hb, hml, hown, hts⟩ (metX3_copies_1_0 l K h a hap _ F R L G 0 0) (va_cwS 4 hts (lw_S q1825 q1826 q85 q1827) rfl rfl rfl (by decide +kernel) ⟨Nat.le_of_ble_eq_true rfl, Nat.le_of_ble_eq_true rfl⟩) hK hP hS hw rfl hl.1 rfl (Nat.le_of_ble_eq_true rfl) dX3_ends_22 ⟨Nat.le_refl _, Nat.le_refl _⟩ (fun F_6 R_7 L_8 G_9 H locs hw hP hS => ?_)
    refine lv_aload_n hx hb dX3_ends_25 rfl (lv_at hl 0 rfl) ?_
    refine lv_iload_n hx hb dX3_ends_26 rfl (lv_at hl 1 rfl) ?_
    refine lv_ldc hx hb hown (hts _ q1837) dX3_ends_27 ?_
    refine lv_icmp_ne (tgt := 36) hx hb dX3_ends_29 (by decide) (fun c_10 => ?_) (fun c_10 => ?_)
    · have hw := hw.2 (c_10)
      refine lv_iconst (v := 2) hx hb dX3_ends_36 (by decide) ?_
      exact T37 2 F_6 R_7 L_8 G_9 _ _ ls hP hS (lv_sub hl [] rfl) hw
    · have hw := hw.1 (c_10)
      refine lv_iconst (v := 1) hx hb dX3_ends_32 (by decide) ?_
      refine lv_goto (tgt := 37) hx hb dX3_ends_33 (by decide) ?_
      exact T37 1 F_6 R_7 L_8 G_9 _ _ ls hP hS (lv_sub hl [] rfl) hw
  unfold wpX3_ends at hw
  refine lv_iload_n hx hb dX3_ends_0 rfl (lv_at hl 1 rfl) ?_
  refine lv_ldc hx hb hown (hts _ q1837) dX3_ends_1 ?_
  refine lv_icmp_eq (tgt := 12) hx hb dX3_ends_3 (by decide) (fun c_11 => ?_) (fun c_11 => ?_)
  · have hw := hw.1 c_11
    exact T12 p1 F R L G _ _ ls hP hS (lv_sub hl [0, 1] rfl) hw
  · have hw := hw.2 c_11
    refine lv_iload_n hx hb dX3_ends_6 rfl (lv_at hl 1 rfl) ?_
    refine lv_ldc hx hb hown (hts _ q1832) dX3_ends_7 ?_
    refine lv_icmp_ne (tgt := 41) hx hb dX3_ends_9 (by decide) (fun c_12 => ?_) (fun c_12 => ?_)
    · have hw := hw.2 (c_12)
      refine lv_aload_n hx hb dX3_ends_41 rfl (lv_at hl 0 rfl) ?_
      refine m_callv (As := []) (rest := []) ⟨hx, hb, hml, hown, hts⟩ (metX3_records l K h a hap _ F R L G) (cwV 0 hts (lw_V q1842 q1844 qs28 q85 q1845) rfl rfl rfl (by decide +kernel) ⟨Nat.le_of_ble_eq_true rfl, Nat.le_of_ble_eq_true rfl⟩) hK hP hS hw rfl hl.1 rfl (Nat.le_of_ble_eq_true rfl) dX3_ends_42 ⟨Nat.le_refl _, Nat.le_refl _⟩ (fun F_13 R_14 L_15 G_16 H locs hw hP hS => ?_)
      refine lv_iload_n hx hb dX3_ends_45 rfl (lv_at hl 1 rfl) ?_
      exact m_iret hx hb hr hlocks hP hS dX3_ends_46 hw
    · have hw := hw.1 (c_12)
      exact T12 p1 F R L G _ _ ls hP hS (lv_sub hl [0, 1] rfl) hw
def wpX3_addAxle (post : Int32 → mF → mR → mL → mG → Prop) (F : mF) (R : mR) (L : mL) (G : mG) : Prop := wpX3_begins (fun F_1 R_2 L_3 G_4 => wpX3_goAxle (fun r_5 F_6 R_7 L_8 G_9 => wpX3_ends (fun r_10 F_11 R_12 L_13 G_14 => (((F_11 8) ≤ 0 → post r_10 (va_up F_11 8 0) R_12 L_13 G_14) ∧ (¬ (F_11 8) ≤ 0 → post r_10 (va_up F_11 8 1) R_12 L_13 G_14))) F_6 R_7 L_8 G_9 r_5) F_1 R_2 L_3 G_4) F R L G
abbrev wsX3_addAxle : List Cond := ws_ yX3_addAxle cX3_addAxle 2 (some .int)
set_option maxHeartbeats 8000000 in
theorem metX3_addAxle (l : Launch) (K : KT) (h : Nat) (a : Nat → Nat) (hap : mAp h a) (post : Int32 → mF → mR → mL → mG → Prop) (F : mF) (R : mR) (L : mL) (G : mG) : Met l yX3_addAxle wsX3_addAxle (rmo 3 66) (mPre K h a F R L G [] (wpX3_addAxle post F R L G )) (mQi post K h a) 0 0 (mA h a) := by
  refine Met.ofW (cc := cX3_addAxle) (maxL := 2) (ret := (some .int)) (by decide) rfl ?_
  intro p e s m args below meth c s₁ B hml hv
  obtain ⟨rfl, hP, hK, hw⟩ := hv
  have hx := B.exec
  have hb := B.bytes
  have hr := B.returns
  have hts := atoms_spec (ws := wsX3_addAxle) B.pre
  have hts : ∀ w ∈ lw_all, w.before _ s = true := fun w h => hts w (List.mem_cons_of_mem _ h)
  have hown : s.vm.findClass RX3 = some m.cls := findClass_of_methodNamed B.named
  have hlocks := B.notSynchronized
  have hl := lv_entry ([.ref h]) (n := 2) (Nat.le_of_ble_eq_true rfl)
  rw [lg_entry_eq]
  generalize (lg_sl ([.ref h]) ++ List.replicate (2 - (lg_sl ([.ref h])).length) Slot.unset).toArray = ls at hl ⊢
  have hl : lv_has ls 2 [(0, .ref h)] := hl
  have hS : va_S (mA h a) s.heap s.heap [] := va_S.rf
  unfold wpX3_addAxle at hw
  refine lv_aload_n hx hb dX3_addAxle_0 rfl (lv_at hl 0 rfl) ?_
  refine m_callv (As := []) (rest := []) ⟨hx, hb, hml, hown, hts⟩ (metX3_begins l K h a hap _ F R L G) (cwV 0 hts (lw_V q1821 q1823 qs24 q85 q1824) rfl rfl rfl (by decide +kernel) ⟨Nat.le_of_ble_eq_true rfl, Nat.le_of_ble_eq_true rfl⟩) hK hP hS hw rfl hl.1 rfl (Nat.le_of_ble_eq_true rfl) dX3_addAxle_1 ⟨Nat.le_refl _, Nat.le_refl _⟩ (fun F_1 R_2 L_3 G_4 H locs hw hP hS => ?_)
  refine lv_aload_n hx hb dX3_addAxle_4 rfl (lv_at hl 0 rfl) ?_
  refine lv_aload_n hx hb dX3_addAxle_5 rfl (lv_at hl 0 rfl) ?_
  refine m_calli (As := []) (rest := [.ref h]) ⟨hx, hb, hml, hown, hts⟩ (metX3_goAxle l K h a hap _ F_1 R_2 L_3 G_4) (cwV 0 hts (lw_V q1828 q1830 qs25 q85 q1831) rfl rfl rfl (by decide +kernel) ⟨Nat.le_of_ble_eq_true rfl, Nat.le_of_ble_eq_true rfl⟩) hK hP hS hw rfl hl.1 rfl (Nat.le_of_ble_eq_true rfl) dX3_addAxle_6 ⟨Nat.le_refl _, Nat.le_refl _⟩ (fun r_5 F_6 R_7 L_8 G_9 H locs hw hP hS => ?_)
  refine m_calli (As := [.int r_5]) (rest := []) ⟨hx, hb, hml, hown, hts⟩ (metX3_ends l K h a hap _ F_6 R_7 L_8 G_9 r_5) (cwV 1 hts (lw_V q1833 q1835 qs26 q85 q1836) rfl rfl rfl (by decide +kernel) ⟨Nat.le_of_ble_eq_true rfl, Nat.le_of_ble_eq_true rfl⟩) hK hP hS hw rfl hl.1 rfl (Nat.le_of_ble_eq_true rfl) dX3_addAxle_9 ⟨Nat.le_refl _, Nat.le_refl _⟩ (fun r_10 F_11 R_12 L_13 G_14 H locs hw hP hS => ?_)
  refine lv_istore_n (lv' := [(1, .int r_10), (0, .ref h)]) hx hb dX3_addAxle_12 rfl hl (by decide) rfl (fun ls hl => ?_)
  refine lv_aload_n hx hb dX3_addAxle_13 rfl (lv_at hl 1 rfl) ?_
  refine lv_aload_n hx hb dX3_addAxle_14 rfl (lv_at hl 1 rfl) ?_
  refine m_get hx hb hts hown hK hP 8 (by decide) q1736 rfl dX3_addAxle_15 ?_
  refine lv_if_le (tgt := 25) hx hb dX3_addAxle_18 (by decide) (fun c_15 => ?_) (fun c_15 => ?_)
  · have hw := hw.1 c_15
    refine lv_iconst (v := 0) hx hb dX3_addAxle_25 (by decide) ?_
    refine m_puti hx hb hts hown hK hap hP hS 8 (by decide) q1736 rfl rfl rfl rfl dX3_addAxle_26 (fun H locs hP hS => ?_)
    refine lv_iload_n hx hb dX3_addAxle_29 rfl (lv_at hl 0 rfl) ?_
    exact m_iret hx hb hr hlocks hP hS dX3_addAxle_30 hw
  · have hw := hw.2 c_15
    refine lv_iconst (v := 1) hx hb dX3_addAxle_21 (by decide) ?_
    refine lv_goto (tgt := 26) hx hb dX3_addAxle_22 (by decide) ?_
    refine m_puti hx hb hts hown hK hap hP hS 8 (by decide) q1736 rfl rfl rfl rfl dX3_addAxle_26 (fun H locs hP hS => ?_)
    refine lv_iload_n hx hb dX3_addAxle_29 rfl (lv_at hl 0 rfl) ?_
    exact m_iret hx hb hr hlocks hP hS dX3_addAxle_30 hw
def wpX3_in (post : Int32 → Prop) (p0 : Int32) (p1 : Int32) (p2 : Int32) : Prop := ((p0 < p1 → post 0) ∧ (¬ p0 < p1 → ((p2 < p0 → post 0) ∧ (¬ p2 < p0 → post 1))))
abbrev wsX3_in : List Cond := ws_ yX3_in cX3_in 3 (some .boolean)
set_option maxHeartbeats 8000000 in
theorem metX3_in (l : Launch) (post : Int32 → Prop) (p0 : Int32) (p1 : Int32) (p2 : Int32) : Met l yX3_in wsX3_in (rmo 0 0) (sPre [.int p0, .int p1, .int p2] (wpX3_in post p0 p1 p2)) (vp_Si post) 0 0 (fun _ => False) := by
  refine Met.ofW (cc := cX3_in) (maxL := 3) (ret := (some .boolean)) (by decide) rfl ?_
  intro p e s m args below meth c s₁ B hml hv
  obtain ⟨rfl, hw⟩ := hv
  have hx := B.exec
  have hb := B.bytes
  have hr := B.returns
  have hts := atoms_spec (ws := wsX3_in) B.pre
  have hts : ∀ w ∈ lw_all, w.before _ s = true := fun w h => hts w (List.mem_cons_of_mem _ h)
  have hown : s.vm.findClass RX3 = some m.cls := findClass_of_methodNamed B.named
  have hlocks := B.notSynchronized
  have hl := lv_entry ([.int p0, .int p1, .int p2]) (n := 3) (Nat.le_of_ble_eq_true rfl)
  rw [lg_entry_eq]
  generalize (lg_sl ([.int p0, .int p1, .int p2]) ++ List.replicate (3 - (lg_sl ([.int p0, .int p1, .int p2])).length) Slot.unset).toArray = ls at hl ⊢
  have hl : lv_has ls 3 [(0, .int p0), (1, .int p1), (2, .int p2)] := hl
  unfold wpX3_in at hw
  refine lv_iload_n hx hb dX3_in_0 rfl (lv_at hl 0 rfl) ?_
  refine lv_iload_n hx hb dX3_in_1 rfl (lv_at hl 1 rfl) ?_
  refine lv_icmp_lt (tgt := 14) hx hb dX3_in_2 (by decide) (fun c_1 => ?_) (fun c_1 => ?_)
  · have hw := hw.1 c_1
    refine lv_iconst (v := 0) hx hb dX3_in_14 (by decide) ?_
    exact s_zret hx hb hr hlocks dX3_in_15 (Or.inl rfl) hw
  · have hw := hw.2 c_1
    refine lv_iload_n hx hb dX3_in_5 rfl (lv_at hl 0 rfl) ?_
    refine lv_iload_n hx hb dX3_in_6 rfl (lv_at hl 2 rfl) ?_
    refine lv_icmp_gt (tgt := 14) hx hb dX3_in_7 (by decide) (fun c_2 => ?_) (fun c_2 => ?_)
    · have hw := hw.1 c_2
      refine lv_iconst (v := 0) hx hb dX3_in_14 (by decide) ?_
      exact s_zret hx hb hr hlocks dX3_in_15 (Or.inl rfl) hw
    · have hw := hw.2 c_2
      refine lv_iconst (v := 1) hx hb dX3_in_10 (by decide) ?_
      refine lv_goto (tgt := 15) hx hb dX3_in_11 (by decide) ?_
      exact s_zret hx hb hr hlocks dX3_in_15 (Or.inr rfl) hw
def wpX3_isAxle (post : Int32 → mF → mR → mL → mG → Prop) (F : mF) (R : mR) (L : mL) (G : mG) (p1 : Int32) : Prop := wpX3_in (fun r_1 => ((r_1 = 0 ∨ r_1 = 1) ∧ post r_1 F R L G)) p1 0 ((R 0 0) - 1)
abbrev wsX3_isAxle : List Cond := ws_ yX3_isAxle cX3_isAxle 2 (some .boolean)
set_option maxHeartbeats 8000000 in
theorem metX3_isAxle (l : Launch) (K : KT) (h : Nat) (a : Nat → Nat) (hap : mAp h a) (post : Int32 → mF → mR → mL → mG → Prop) (F : mF) (R : mR) (L : mL) (G : mG) (p1 : Int32) : Met l yX3_isAxle wsX3_isAxle (rmo 1 22) (mPre K h a F R L G [.int p1] (wpX3_isAxle post F R L G p1)) (mQi post K h a) 0 0 (mA h a) := by
  refine Met.ofW (cc := cX3_isAxle) (maxL := 2) (ret := (some .boolean)) (by decide) rfl ?_
  intro p e s m args below meth c s₁ B hml hv
  obtain ⟨rfl, hP, hK, hw⟩ := hv
  have hx := B.exec
  have hb := B.bytes
  have hr := B.returns
  have hts := atoms_spec (ws := wsX3_isAxle) B.pre
  have hts : ∀ w ∈ lw_all, w.before _ s = true := fun w h => hts w (List.mem_cons_of_mem _ h)
  have hown : s.vm.findClass RX3 = some m.cls := findClass_of_methodNamed B.named
  have hlocks := B.notSynchronized
  have hl := lv_entry ([.ref h, .int p1]) (n := 2) (Nat.le_of_ble_eq_true rfl)
  rw [lg_entry_eq]
  generalize (lg_sl ([.ref h, .int p1]) ++ List.replicate (2 - (lg_sl ([.ref h, .int p1])).length) Slot.unset).toArray = ls at hl ⊢
  have hl : lv_has ls 2 [(0, .ref h), (1, .int p1)] := hl
  have hS : va_S (mA h a) s.heap s.heap [] := va_S.rf
  unfold wpX3_isAxle at hw
  refine lv_iload_n hx hb dX3_isAxle_0 rfl (lv_at hl 1 rfl) ?_
  refine lv_iconst (v := 0) hx hb dX3_isAxle_1 (by decide) ?_
  refine lv_aload_n hx hb dX3_isAxle_2 rfl (lv_at hl 0 rfl) ?_
  refine m_get hx hb hts hown hK hP 0 (by decide) q1728 rfl dX3_isAxle_3 ?_
  refine lv_iconst (v := 0) hx hb dX3_isAxle_6 (by decide) ?_
  refine m_iald (j := 0) hx hb hK hP 0 1 113 rfl (by decide) (vpd (by decide)) dX3_isAxle_7 ?_
  refine lv_iconst (v := 1) hx hb dX3_isAxle_8 (by decide) ?_
  refine lv_isub hx hb dX3_isAxle_9 ?_
  refine s_calli (As := [.int p1, .int 0, .int ((R 0 0) - 1)]) (rest := []) ⟨hx, hb, hml, hown, hts⟩ (metX3_in l _ p1 0 ((R 0 0) - 1)) (va_cwS 3 hts (lw_S q1858 q1859 q85 q1860) rfl rfl rfl (by decide +kernel) ⟨Nat.le_of_ble_eq_true rfl, Nat.le_of_ble_eq_true rfl⟩) hw rfl hl.1 rfl (Nat.le_of_ble_eq_true rfl) dX3_isAxle_10 ⟨Nat.le_refl _, Nat.le_refl _⟩ (fun r_1 hw => ?_)
  obtain ⟨h_2, hw⟩ := hw
  exact m_zret hx hb hr hlocks hP hS dX3_isAxle_13 h_2 hw
def wpX3_isTeeth (post : Int32 → Prop) (p0 : Int32) : Prop := wpX3_in (fun r_1 => ((r_1 = 0 ∨ r_1 = 1) ∧ post r_1)) p0 8 120
abbrev wsX3_isTeeth : List Cond := ws_ yX3_isTeeth cX3_isTeeth 1 (some .boolean)
set_option maxHeartbeats 8000000 in
theorem metX3_isTeeth (l : Launch) (post : Int32 → Prop) (p0 : Int32) : Met l yX3_isTeeth wsX3_isTeeth (rmo 1 22) (sPre [.int p0] (wpX3_isTeeth post p0)) (vp_Si post) 0 0 (fun _ => False) := by
  refine Met.ofW (cc := cX3_isTeeth) (maxL := 1) (ret := (some .boolean)) (by decide) rfl ?_
  intro p e s m args below meth c s₁ B hml hv
  obtain ⟨rfl, hw⟩ := hv
  have hx := B.exec
  have hb := B.bytes
  have hr := B.returns
  have hts := atoms_spec (ws := wsX3_isTeeth) B.pre
  have hts : ∀ w ∈ lw_all, w.before _ s = true := fun w h => hts w (List.mem_cons_of_mem _ h)
  have hown : s.vm.findClass RX3 = some m.cls := findClass_of_methodNamed B.named
  have hlocks := B.notSynchronized
  have hl := lv_entry ([.int p0]) (n := 1) (Nat.le_of_ble_eq_true rfl)
  rw [lg_entry_eq]
  generalize (lg_sl ([.int p0]) ++ List.replicate (1 - (lg_sl ([.int p0])).length) Slot.unset).toArray = ls at hl ⊢
  have hl : lv_has ls 1 [(0, .int p0)] := hl
  unfold wpX3_isTeeth at hw
  refine lv_iload_n hx hb dX3_isTeeth_0 rfl (lv_at hl 0 rfl) ?_
  refine lv_bipush (v := 8) hx hb dX3_isTeeth_1 (by decide) ?_
  refine lv_bipush (v := 120) hx hb dX3_isTeeth_3 (by decide) ?_
  refine s_calli (As := [.int p0, .int 8, .int 120]) (rest := []) ⟨hx, hb, hml, hown, hts⟩ (metX3_in l _ p0 8 120) (va_cwS 3 hts (lw_S q1858 q1859 q85 q1860) rfl rfl rfl (by decide +kernel) ⟨Nat.le_of_ble_eq_true rfl, Nat.le_of_ble_eq_true rfl⟩) hw rfl hl.1 rfl (Nat.le_of_ble_eq_true rfl) dX3_isTeeth_5 ⟨Nat.le_refl _, Nat.le_refl _⟩ (fun r_1 hw => ?_)
  obtain ⟨h_2, hw⟩ := hw
  exact s_zret hx hb hr hlocks dX3_isTeeth_8 h_2 hw
def wpX3_goWheel (post : Int32 → mF → mR → mL → mG → Prop) (F : mF) (R : mR) (L : mL) (G : mG) (p1 : Int32) (p2 : Int32) : Prop := wpX3_isAxle (fun r_1 F_2 R_3 L_4 G_5 => ((r_1 = 0 → post (-100001) F_2 R_3 L_4 G_5) ∧ (¬ r_1 = 0 → wpX3_isTeeth (fun r_7 => ((r_7 = 0 → post (-100001) F_2 R_3 L_4 G_5) ∧ (¬ r_7 = 0 → (∀ x3_9 : Int32, x3_9 = R_3 0 1 → ((x3_9 = 24 → post (-100002) F_2 R_3 L_4 G_5) ∧ (¬ x3_9 = 24 → (vp_in (2 + x3_9) 113 ∧ (∀ R_12 : mR, R_12 = va_up R_3 0 (upd (R_3 0) (Int32.toNatClampNeg (2 + x3_9)) p2) → (vp_in (26 + x3_9) 113 ∧ (∀ R_14 : mR, R_14 = va_up R_12 0 (upd (R_12 0) (Int32.toNatClampNeg (26 + x3_9)) p1) → post x3_9 F_2 (va_up R_14 0 (upd (R_14 0) 1 ((R_14 0 1) + 1))) L_4 G_5)))))))))) p2))) F R L G p1
abbrev wsX3_goWheel : List Cond := ws_ yX3_goWheel cX3_goWheel 4 (some .int)
set_option maxHeartbeats 8000000 in
theorem metX3_goWheel (l : Launch) (K : KT) (h : Nat) (a : Nat → Nat) (hap : mAp h a) (post : Int32 → mF → mR → mL → mG → Prop) (F : mF) (R : mR) (L : mL) (G : mG) (p1 : Int32) (p2 : Int32) : Met l yX3_goWheel wsX3_goWheel (rmo 2 43) (mPre K h a F R L G [.int p1, .int p2] (wpX3_goWheel post F R L G p1 p2)) (mQi post K h a) 0 0 (mA h a) := by
  refine Met.ofW (cc := cX3_goWheel) (maxL := 4) (ret := (some .int)) (by decide) rfl ?_
  intro p e s m args below meth c s₁ B hml hv
  obtain ⟨rfl, hP, hK, hw⟩ := hv
  have hx := B.exec
  have hb := B.bytes
  have hr := B.returns
  have hts := atoms_spec (ws := wsX3_goWheel) B.pre
  have hts : ∀ w ∈ lw_all, w.before _ s = true := fun w h => hts w (List.mem_cons_of_mem _ h)
  have hown : s.vm.findClass RX3 = some m.cls := findClass_of_methodNamed B.named
  have hlocks := B.notSynchronized
  have hl := lv_entry ([.ref h, .int p1, .int p2]) (n := 4) (Nat.le_of_ble_eq_true rfl)
  rw [lg_entry_eq]
  generalize (lg_sl ([.ref h, .int p1, .int p2]) ++ List.replicate (4 - (lg_sl ([.ref h, .int p1, .int p2])).length) Slot.unset).toArray = ls at hl ⊢
  have hl : lv_has ls 4 [(0, .ref h), (1, .int p1), (2, .int p2)] := hl
  have hS : va_S (mA h a) s.heap s.heap [] := va_S.rf
  unfold wpX3_goWheel at hw
  refine lv_aload_n hx hb dX3_goWheel_0 rfl (lv_at hl 0 rfl) ?_
  refine lv_iload_n hx hb dX3_goWheel_1 rfl (lv_at hl 1 rfl) ?_
  refine m_calli (As := [.int p1]) (rest := []) ⟨hx, hb, hml, hown, hts⟩ (metX3_isAxle l K h a hap _ F R L G p1) (cwV 1 hts (lw_V q1854 q1856 qs30 q85 q1857) rfl rfl rfl (by decide +kernel) ⟨Nat.le_of_ble_eq_true rfl, Nat.le_of_ble_eq_true rfl⟩) hK hP hS hw rfl hl.1 rfl (Nat.le_of_ble_eq_true rfl) dX3_goWheel_2 ⟨Nat.le_refl _, Nat.le_refl _⟩ (fun r_1 F_2 R_3 L_4 G_5 H locs hw hP hS => ?_)
  refine lv_if_eq (tgt := 15) hx hb dX3_goWheel_5 (by decide) (fun c_6 => ?_) (fun c_6 => ?_)
  · have hw := hw.1 c_6
    refine lv_ldc hx hb hown (hts _ q1837) dX3_goWheel_15 ?_
    exact m_iret hx hb hr hlocks hP hS dX3_goWheel_17 hw
  · have hw := hw.2 c_6
    refine lv_iload_n hx hb dX3_goWheel_8 rfl (lv_at hl 2 rfl) ?_
    refine s_calli (As := [.int p2]) (rest := []) ⟨hx, hb, hml, hown, hts⟩ (metX3_isTeeth l _ p2) (va_cwS 1 hts (lw_S q1861 q1862 q85 q1863) rfl rfl rfl (by decide +kernel) ⟨Nat.le_of_ble_eq_true rfl, Nat.le_of_ble_eq_true rfl⟩) hw rfl hl.1 rfl (Nat.le_of_ble_eq_true rfl) dX3_goWheel_9 ⟨Nat.le_refl _, Nat.le_refl _⟩ (fun r_7 hw => ?_)
    refine lv_if_ne (tgt := 18) hx hb dX3_goWheel_12 (by decide) (fun c_8 => ?_) (fun c_8 => ?_)
    · have hw := hw.2 (c_8)
      refine lv_aload_n hx hb dX3_goWheel_18 rfl (lv_at hl 0 rfl) ?_
      refine m_get hx hb hts hown hK hP 0 (by decide) q1728 rfl dX3_goWheel_19 ?_
      refine lv_iconst (v := 1) hx hb dX3_goWheel_22 (by decide) ?_
      refine m_iald (j := 1) hx hb hK hP 0 1 113 rfl (by decide) (vpd (by decide)) dX3_goWheel_23 ?_
      refine lv_topi (fun x3_9 ex3_9 => ?_)
      have hw := hw x3_9 ex3_9
      refine lv_istore_n (lv' := [(3, .int x3_9), (0, .ref h), (1, .int p1), (2, .int p2)]) hx hb dX3_goWheel_24 rfl hl (by decide) rfl (fun ls hl => ?_)
      refine lv_iload_n hx hb dX3_goWheel_25 rfl (lv_at hl 0 rfl) ?_
      refine lv_bipush (v := 24) hx hb dX3_goWheel_26 (by decide) ?_
      refine lv_icmp_ne (tgt := 34) hx hb dX3_goWheel_28 (by decide) (fun c_10 => ?_) (fun c_10 => ?_)
      · have hw := hw.2 (c_10)
        refine lv_aload_n hx hb dX3_goWheel_34 rfl (lv_at hl 1 rfl) ?_
        refine m_get hx hb hts hown hK hP 0 (by decide) q1728 rfl dX3_goWheel_35 ?_
        refine lv_iconst (v := 2) hx hb dX3_goWheel_38 (by decide) ?_
        refine lv_iload_n hx hb dX3_goWheel_39 rfl (lv_at hl 0 rfl) ?_
        refine lv_iadd hx hb dX3_goWheel_40 ?_
        refine lv_iload_n hx hb dX3_goWheel_41 rfl (lv_at hl 3 rfl) ?_
        obtain ⟨h_11, hw⟩ := hw
        refine m_iast (j := (Int32.toNatClampNeg (2 + x3_9))) hx hb hK hap hP hS 0 1 113 rfl rfl rfl h_11 dX3_goWheel_42 (fun H locs hP hS => ?_)
        obtain ⟨R_12, eR_12⟩ : ∃ y : mR, y = va_up R_3 0 (upd (R_3 0) (Int32.toNatClampNeg (2 + x3_9)) p2) := ⟨_, rfl⟩
        rw [← eR_12] at hP
        have hw := hw R_12 eR_12
        refine lv_aload_n hx hb dX3_goWheel_43 rfl (lv_at hl 1 rfl) ?_
        refine m_get hx hb hts hown hK hP 0 (by decide) q1728 rfl dX3_goWheel_44 ?_
        refine lv_bipush (v := 26) hx hb dX3_goWheel_47 (by decide) ?_
        refine lv_iload_n hx hb dX3_goWheel_49 rfl (lv_at hl 0 rfl) ?_
        refine lv_iadd hx hb dX3_goWheel_50 ?_
        refine lv_iload_n hx hb dX3_goWheel_51 rfl (lv_at hl 2 rfl) ?_
        obtain ⟨h_13, hw⟩ := hw
        refine m_iast (j := (Int32.toNatClampNeg (26 + x3_9))) hx hb hK hap hP hS 0 1 113 rfl rfl rfl h_13 dX3_goWheel_52 (fun H locs hP hS => ?_)
        obtain ⟨R_14, eR_14⟩ : ∃ y : mR, y = va_up R_12 0 (upd (R_12 0) (Int32.toNatClampNeg (26 + x3_9)) p1) := ⟨_, rfl⟩
        rw [← eR_14] at hP
        have hw := hw R_14 eR_14
        refine lv_aload_n hx hb dX3_goWheel_53 rfl (lv_at hl 1 rfl) ?_
        refine m_get hx hb hts hown hK hP 0 (by decide) q1728 rfl dX3_goWheel_54 ?_
        refine lv_iconst (v := 1) hx hb dX3_goWheel_57 (by decide) ?_
        refine lv_dup2_11 hx hb dX3_goWheel_58 rfl rfl ?_
        refine m_iald (j := 1) hx hb hK hP 0 1 113 rfl (by decide) (vpd (by decide)) dX3_goWheel_59 ?_
        refine lv_iconst (v := 1) hx hb dX3_goWheel_60 (by decide) ?_
        refine lv_iadd hx hb dX3_goWheel_61 ?_
        refine m_iast (j := 1) hx hb hK hap hP hS 0 1 113 rfl (by decide) rfl (vpd (by decide)) dX3_goWheel_62 (fun H locs hP hS => ?_)
        refine lv_iload_n hx hb dX3_goWheel_63 rfl (lv_at hl 0 rfl) ?_
        exact m_iret hx hb hr hlocks hP hS dX3_goWheel_64 hw
      · have hw := hw.1 (c_10)
        refine lv_ldc hx hb hown (hts _ q1832) dX3_goWheel_31 ?_
        exact m_iret hx hb hr hlocks hP hS dX3_goWheel_33 hw
    · have hw := hw.1 (c_8)
      refine lv_ldc hx hb hown (hts _ q1837) dX3_goWheel_15 ?_
      exact m_iret hx hb hr hlocks hP hS dX3_goWheel_17 hw
def wpX3_addWheel (post : Int32 → mF → mR → mL → mG → Prop) (F : mF) (R : mR) (L : mL) (G : mG) (p1 : Int32) (p2 : Int32) : Prop := wpX3_begins (fun F_1 R_2 L_3 G_4 => wpX3_goWheel (fun r_5 F_6 R_7 L_8 G_9 => wpX3_ends (fun r_10 F_11 R_12 L_13 G_14 => post r_10 F_11 R_12 L_13 G_14) F_6 R_7 L_8 G_9 r_5) F_1 R_2 L_3 G_4 p1 p2) F R L G
abbrev wsX3_addWheel : List Cond := ws_ yX3_addWheel cX3_addWheel 3 (some .int)
set_option maxHeartbeats 8000000 in
theorem metX3_addWheel (l : Launch) (K : KT) (h : Nat) (a : Nat → Nat) (hap : mAp h a) (post : Int32 → mF → mR → mL → mG → Prop) (F : mF) (R : mR) (L : mL) (G : mG) (p1 : Int32) (p2 : Int32) : Met l yX3_addWheel wsX3_addWheel (rmo 3 66) (mPre K h a F R L G [.int p1, .int p2] (wpX3_addWheel post F R L G p1 p2)) (mQi post K h a) 0 0 (mA h a) := by
  refine Met.ofW (cc := cX3_addWheel) (maxL := 3) (ret := (some .int)) (by decide) rfl ?_
  intro p e s m args below meth c s₁ B hml hv
  obtain ⟨rfl, hP, hK, hw⟩ := hv
  have hx := B.exec
  have hb := B.bytes
  have hr := B.returns
  have hts := atoms_spec (ws := wsX3_addWheel) B.pre
  have hts : ∀ w ∈ lw_all, w.before _ s = true := fun w h => hts w (List.mem_cons_of_mem _ h)
  have hown : s.vm.findClass RX3 = some m.cls := findClass_of_methodNamed B.named
  have hlocks := B.notSynchronized
  have hl := lv_entry ([.ref h, .int p1, .int p2]) (n := 3) (Nat.le_of_ble_eq_true rfl)
  rw [lg_entry_eq]
  generalize (lg_sl ([.ref h, .int p1, .int p2]) ++ List.replicate (3 - (lg_sl ([.ref h, .int p1, .int p2])).length) Slot.unset).toArray = ls at hl ⊢
  have hl : lv_has ls 3 [(0, .ref h), (1, .int p1), (2, .int p2)] := hl
  have hS : va_S (mA h a) s.heap s.heap [] := va_S.rf
  unfold wpX3_addWheel at hw
  refine lv_aload_n hx hb dX3_addWheel_0 rfl (lv_at hl 0 rfl) ?_
  refine m_callv (As := []) (rest := []) ⟨hx, hb, hml, hown, hts⟩ (metX3_begins l K h a hap _ F R L G) (cwV 0 hts (lw_V q1821 q1823 qs24 q85 q1824) rfl rfl rfl (by decide +kernel) ⟨Nat.le_of_ble_eq_true rfl, Nat.le_of_ble_eq_true rfl⟩) hK hP hS hw rfl hl.1 rfl (Nat.le_of_ble_eq_true rfl) dX3_addWheel_1 ⟨Nat.le_refl _, Nat.le_refl _⟩ (fun F_1 R_2 L_3 G_4 H locs hw hP hS => ?_)
  refine lv_aload_n hx hb dX3_addWheel_4 rfl (lv_at hl 0 rfl) ?_
  refine lv_aload_n hx hb dX3_addWheel_5 rfl (lv_at hl 0 rfl) ?_
  refine lv_iload_n hx hb dX3_addWheel_6 rfl (lv_at hl 1 rfl) ?_
  refine lv_iload_n hx hb dX3_addWheel_7 rfl (lv_at hl 2 rfl) ?_
  refine m_calli (As := [.int p1, .int p2]) (rest := [.ref h]) ⟨hx, hb, hml, hown, hts⟩ (metX3_goWheel l K h a hap _ F_1 R_2 L_3 G_4 p1 p2) (cwV 2 hts (lw_V q1850 q1852 qs29 q85 q1853) rfl rfl rfl (by decide +kernel) ⟨Nat.le_of_ble_eq_true rfl, Nat.le_of_ble_eq_true rfl⟩) hK hP hS hw rfl hl.1 rfl (Nat.le_of_ble_eq_true rfl) dX3_addWheel_8 ⟨Nat.le_refl _, Nat.le_refl _⟩ (fun r_5 F_6 R_7 L_8 G_9 H locs hw hP hS => ?_)
  refine m_calli (As := [.int r_5]) (rest := []) ⟨hx, hb, hml, hown, hts⟩ (metX3_ends l K h a hap _ F_6 R_7 L_8 G_9 r_5) (cwV 1 hts (lw_V q1833 q1835 qs26 q85 q1836) rfl rfl rfl (by decide +kernel) ⟨Nat.le_of_ble_eq_true rfl, Nat.le_of_ble_eq_true rfl⟩) hK hP hS hw rfl hl.1 rfl (Nat.le_of_ble_eq_true rfl) dX3_addWheel_11 ⟨Nat.le_refl _, Nat.le_refl _⟩ (fun r_10 F_11 R_12 L_13 G_14 H locs hw hP hS => ?_)
  exact m_iret hx hb hr hlocks hP hS dX3_addWheel_14 hw
def wpX3_isWheel (post : Int32 → mF → mR → mL → mG → Prop) (F : mF) (R : mR) (L : mL) (G : mG) (p1 : Int32) : Prop := wpX3_in (fun r_1 => ((r_1 = 0 ∨ r_1 = 1) ∧ post r_1 F R L G)) p1 0 ((R 0 1) - 1)
abbrev wsX3_isWheel : List Cond := ws_ yX3_isWheel cX3_isWheel 2 (some .boolean)
set_option maxHeartbeats 8000000 in
theorem metX3_isWheel (l : Launch) (K : KT) (h : Nat) (a : Nat → Nat) (hap : mAp h a) (post : Int32 → mF → mR → mL → mG → Prop) (F : mF) (R : mR) (L : mL) (G : mG) (p1 : Int32) : Met l yX3_isWheel wsX3_isWheel (rmo 1 22) (mPre K h a F R L G [.int p1] (wpX3_isWheel post F R L G p1)) (mQi post K h a) 0 0 (mA h a) := by
  refine Met.ofW (cc := cX3_isWheel) (maxL := 2) (ret := (some .boolean)) (by decide) rfl ?_
  intro p e s m args below meth c s₁ B hml hv
  obtain ⟨rfl, hP, hK, hw⟩ := hv
  have hx := B.exec
  have hb := B.bytes
  have hr := B.returns
  have hts := atoms_spec (ws := wsX3_isWheel) B.pre
  have hts : ∀ w ∈ lw_all, w.before _ s = true := fun w h => hts w (List.mem_cons_of_mem _ h)
  have hown : s.vm.findClass RX3 = some m.cls := findClass_of_methodNamed B.named
  have hlocks := B.notSynchronized
  have hl := lv_entry ([.ref h, .int p1]) (n := 2) (Nat.le_of_ble_eq_true rfl)
  rw [lg_entry_eq]
  generalize (lg_sl ([.ref h, .int p1]) ++ List.replicate (2 - (lg_sl ([.ref h, .int p1])).length) Slot.unset).toArray = ls at hl ⊢
  have hl : lv_has ls 2 [(0, .ref h), (1, .int p1)] := hl
  have hS : va_S (mA h a) s.heap s.heap [] := va_S.rf
  unfold wpX3_isWheel at hw
  refine lv_iload_n hx hb dX3_isWheel_0 rfl (lv_at hl 1 rfl) ?_
  refine lv_iconst (v := 0) hx hb dX3_isWheel_1 (by decide) ?_
  refine lv_aload_n hx hb dX3_isWheel_2 rfl (lv_at hl 0 rfl) ?_
  refine m_get hx hb hts hown hK hP 0 (by decide) q1728 rfl dX3_isWheel_3 ?_
  refine lv_iconst (v := 1) hx hb dX3_isWheel_6 (by decide) ?_
  refine m_iald (j := 1) hx hb hK hP 0 1 113 rfl (by decide) (vpd (by decide)) dX3_isWheel_7 ?_
  refine lv_iconst (v := 1) hx hb dX3_isWheel_8 (by decide) ?_
  refine lv_isub hx hb dX3_isWheel_9 ?_
  refine s_calli (As := [.int p1, .int 0, .int ((R 0 1) - 1)]) (rest := []) ⟨hx, hb, hml, hown, hts⟩ (metX3_in l _ p1 0 ((R 0 1) - 1)) (va_cwS 3 hts (lw_S q1858 q1859 q85 q1860) rfl rfl rfl (by decide +kernel) ⟨Nat.le_of_ble_eq_true rfl, Nat.le_of_ble_eq_true rfl⟩) hw rfl hl.1 rfl (Nat.le_of_ble_eq_true rfl) dX3_isWheel_10 ⟨Nat.le_refl _, Nat.le_refl _⟩ (fun r_1 hw => ?_)
  obtain ⟨h_2, hw⟩ := hw
  exact m_zret hx hb hr hlocks hP hS dX3_isWheel_13 h_2 hw
def wpX3_areWheels (post : Int32 → mF → mR → mL → mG → Prop) (F : mF) (R : mR) (L : mL) (G : mG) (p1 : Int32) (p2 : Int32) : Prop := wpX3_isWheel (fun r_1 F_2 R_3 L_4 G_5 => ((r_1 = 0 → post 0 F_2 R_3 L_4 G_5) ∧ (¬ r_1 = 0 → wpX3_isWheel (fun r_7 F_8 R_9 L_10 G_11 => ((r_7 = 0 → post 0 F_8 R_9 L_10 G_11) ∧ (¬ r_7 = 0 → ((p1 = p2 → post 0 F_8 R_9 L_10 G_11) ∧ (¬ p1 = p2 → post 1 F_8 R_9 L_10 G_11))))) F_2 R_3 L_4 G_5 p2))) F R L G p1
abbrev wsX3_areWheels : List Cond := ws_ yX3_areWheels cX3_areWheels 3 (some .boolean)
set_option maxHeartbeats 8000000 in
theorem metX3_areWheels (l : Launch) (K : KT) (h : Nat) (a : Nat → Nat) (hap : mAp h a) (post : Int32 → mF → mR → mL → mG → Prop) (F : mF) (R : mR) (L : mL) (G : mG) (p1 : Int32) (p2 : Int32) : Met l yX3_areWheels wsX3_areWheels (rmo 2 43) (mPre K h a F R L G [.int p1, .int p2] (wpX3_areWheels post F R L G p1 p2)) (mQi post K h a) 0 0 (mA h a) := by
  refine Met.ofW (cc := cX3_areWheels) (maxL := 3) (ret := (some .boolean)) (by decide) rfl ?_
  intro p e s m args below meth c s₁ B hml hv
  obtain ⟨rfl, hP, hK, hw⟩ := hv
  have hx := B.exec
  have hb := B.bytes
  have hr := B.returns
  have hts := atoms_spec (ws := wsX3_areWheels) B.pre
  have hts : ∀ w ∈ lw_all, w.before _ s = true := fun w h => hts w (List.mem_cons_of_mem _ h)
  have hown : s.vm.findClass RX3 = some m.cls := findClass_of_methodNamed B.named
  have hlocks := B.notSynchronized
  have hl := lv_entry ([.ref h, .int p1, .int p2]) (n := 3) (Nat.le_of_ble_eq_true rfl)
  rw [lg_entry_eq]
  generalize (lg_sl ([.ref h, .int p1, .int p2]) ++ List.replicate (3 - (lg_sl ([.ref h, .int p1, .int p2])).length) Slot.unset).toArray = ls at hl ⊢
  have hl : lv_has ls 3 [(0, .ref h), (1, .int p1), (2, .int p2)] := hl
  have hS : va_S (mA h a) s.heap s.heap [] := va_S.rf
  unfold wpX3_areWheels at hw
  refine lv_aload_n hx hb dX3_areWheels_0 rfl (lv_at hl 0 rfl) ?_
  refine lv_iload_n hx hb dX3_areWheels_1 rfl (lv_at hl 1 rfl) ?_
  refine m_calli (As := [.int p1]) (rest := []) ⟨hx, hb, hml, hown, hts⟩ (metX3_isWheel l K h a hap _ F R L G p1) (cwV 1 hts (lw_V q1876 q1878 qs33 q85 q1879) rfl rfl rfl (by decide +kernel) ⟨Nat.le_of_ble_eq_true rfl, Nat.le_of_ble_eq_true rfl⟩) hK hP hS hw rfl hl.1 rfl (Nat.le_of_ble_eq_true rfl) dX3_areWheels_2 ⟨Nat.le_refl _, Nat.le_refl _⟩ (fun r_1 F_2 R_3 L_4 G_5 H locs hw hP hS => ?_)
  refine lv_if_eq (tgt := 25) hx hb dX3_areWheels_5 (by decide) (fun c_6 => ?_) (fun c_6 => ?_)
  · have hw := hw.1 c_6
    refine lv_iconst (v := 0) hx hb dX3_areWheels_25 (by decide) ?_
    exact m_zret hx hb hr hlocks hP hS dX3_areWheels_26 (Or.inl rfl) hw
  · have hw := hw.2 c_6
    refine lv_aload_n hx hb dX3_areWheels_8 rfl (lv_at hl 0 rfl) ?_
    refine lv_iload_n hx hb dX3_areWheels_9 rfl (lv_at hl 2 rfl) ?_
    refine m_calli (As := [.int p2]) (rest := []) ⟨hx, hb, hml, hown, hts⟩ (metX3_isWheel l K h a hap _ F_2 R_3 L_4 G_5 p2) (cwV 1 hts (lw_V q1876 q1878 qs33 q85 q1879) rfl rfl rfl (by decide +kernel) ⟨Nat.le_of_ble_eq_true rfl, Nat.le_of_ble_eq_true rfl⟩) hK hP hS hw rfl hl.1 rfl (Nat.le_of_ble_eq_true rfl) dX3_areWheels_10 ⟨Nat.le_refl _, Nat.le_refl _⟩ (fun r_7 F_8 R_9 L_10 G_11 H locs hw hP hS => ?_)
    refine lv_if_eq (tgt := 25) hx hb dX3_areWheels_13 (by decide) (fun c_12 => ?_) (fun c_12 => ?_)
    · have hw := hw.1 c_12
      refine lv_iconst (v := 0) hx hb dX3_areWheels_25 (by decide) ?_
      exact m_zret hx hb hr hlocks hP hS dX3_areWheels_26 (Or.inl rfl) hw
    · have hw := hw.2 c_12
      refine lv_iload_n hx hb dX3_areWheels_16 rfl (lv_at hl 1 rfl) ?_
      refine lv_iload_n hx hb dX3_areWheels_17 rfl (lv_at hl 2 rfl) ?_
      refine lv_icmp_eq (tgt := 25) hx hb dX3_areWheels_18 (by decide) (fun c_13 => ?_) (fun c_13 => ?_)
      · have hw := hw.1 c_13
        refine lv_iconst (v := 0) hx hb dX3_areWheels_25 (by decide) ?_
        exact m_zret hx hb hr hlocks hP hS dX3_areWheels_26 (Or.inl rfl) hw
      · have hw := hw.2 c_13
        refine lv_iconst (v := 1) hx hb dX3_areWheels_21 (by decide) ?_
        refine lv_goto (tgt := 26) hx hb dX3_areWheels_22 (by decide) ?_
        exact m_zret hx hb hr hlocks hP hS dX3_areWheels_26 (Or.inr rfl) hw
def wpX3_arePair_106 (post : Int32 → mF → mR → mL → mG → Prop) (J5 : Int32 → Int32 → Int32 → Int32 → mF → mR → mL → mG → Prop) (x1 : Int32) (x2 : Int32) (x4 : Int32) (z0 : Int32) (F : mF) (R : mR) (L : mL) (G : mG) : Prop := (∀ x4_1 : Int32, x4_1 = x4 + 1 → J5 x1 x2 z0 x4_1 F R L G)
def wpX3_arePair_101 (post : Int32 → mF → mR → mL → mG → Prop) (J5 : Int32 → Int32 → Int32 → Int32 → mF → mR → mL → mG → Prop) (x1 : Int32) (x2 : Int32) (x4 : Int32) (F : mF) (R : mR) (L : mL) (G : mG) : Prop := wpX3_arePair_106 post J5 x1 x2 x4 1 F R L G
def wpX3_arePair_85 (post : Int32 → mF → mR → mL → mG → Prop) (J5 : Int32 → Int32 → Int32 → Int32 → mF → mR → mL → mG → Prop) (x1 : Int32) (x2 : Int32) (x3 : Int32) (x4 : Int32) (x5 : Int32) (z0 : Int32) (F : mF) (R : mR) (L : mL) (G : mG) : Prop := ((x3 = 0 → ((x5 = 0 → ((z0 = 0 → wpX3_arePair_106 post J5 x1 x2 x4 0 F R L G) ∧ (¬ z0 = 0 → wpX3_arePair_101 post J5 x1 x2 x4 F R L G))) ∧ (¬ x5 = 0 → wpX3_arePair_101 post J5 x1 x2 x4 F R L G))) ∧ (¬ x3 = 0 → wpX3_arePair_101 post J5 x1 x2 x4 F R L G))
def wpX3_arePair_84 (post : Int32 → mF → mR → mL → mG → Prop) (J5 : Int32 → Int32 → Int32 → Int32 → mF → mR → mL → mG → Prop) (x1 : Int32) (x2 : Int32) (x3 : Int32) (x4 : Int32) (x5 : Int32) (F : mF) (R : mR) (L : mL) (G : mG) : Prop := wpX3_arePair_85 post J5 x1 x2 x3 x4 x5 0 F R L G
def wpX3_arePair_50 (post : Int32 → mF → mR → mL → mG → Prop) (J5 : Int32 → Int32 → Int32 → Int32 → mF → mR → mL → mG → Prop) (x1 : Int32) (x2 : Int32) (x3 : Int32) (x4 : Int32) (z0 : Int32) (F : mF) (R : mR) (L : mL) (G : mG) : Prop := (vp_in (51 + x4) 113 ∧ (((R 0 (Int32.toNatClampNeg (51 + x4))) = x2 → (vp_in (67 + x4) 113 ∧ (((R 0 (Int32.toNatClampNeg (67 + x4))) = x1 → wpX3_arePair_85 post J5 x1 x2 x3 x4 z0 1 F R L G) ∧ (¬ (R 0 (Int32.toNatClampNeg (67 + x4))) = x1 → wpX3_arePair_84 post J5 x1 x2 x3 x4 z0 F R L G)))) ∧ (¬ (R 0 (Int32.toNatClampNeg (51 + x4))) = x2 → wpX3_arePair_84 post J5 x1 x2 x3 x4 z0 F R L G)))
def wpX3_arePair_49 (post : Int32 → mF → mR → mL → mG → Prop) (J5 : Int32 → Int32 → Int32 → Int32 → mF → mR → mL → mG → Prop) (x1 : Int32) (x2 : Int32) (x3 : Int32) (x4 : Int32) (F : mF) (R : mR) (L : mL) (G : mG) : Prop := wpX3_arePair_50 post J5 x1 x2 x3 x4 0 F R L G
def wpX3_arePair_5 (post : Int32 → mF → mR → mL → mG → Prop) : Nat → Int32 → Int32 → Int32 → Int32 → mF → mR → mL → mG → Prop
  | 0 => fun _ _ _ _ _ _ _ _ => False
  | n + 1 => fun x1 x2 x3 x4 F R L G => (((R 0 50) ≤ x4 → ((x3 = 0 ∨ x3 = 1) ∧ post x3 F R L G)) ∧ (¬ (R 0 50) ≤ x4 → (vp_in (51 + x4) 113 ∧ (((R 0 (Int32.toNatClampNeg (51 + x4))) = x1 → (vp_in (67 + x4) 113 ∧ (((R 0 (Int32.toNatClampNeg (67 + x4))) = x2 → wpX3_arePair_50 post (wpX3_arePair_5 post n) x1 x2 x3 x4 1 F R L G) ∧ (¬ (R 0 (Int32.toNatClampNeg (67 + x4))) = x2 → wpX3_arePair_49 post (wpX3_arePair_5 post n) x1 x2 x3 x4 F R L G)))) ∧ (¬ (R 0 (Int32.toNatClampNeg (51 + x4))) = x1 → wpX3_arePair_49 post (wpX3_arePair_5 post n) x1 x2 x3 x4 F R L G)))))
def wpX3_arePair (post : Int32 → mF → mR → mL → mG → Prop) (F : mF) (R : mR) (L : mL) (G : mG) (p1 : Int32) (p2 : Int32) : Prop := ∃ fu : Nat, wpX3_arePair_5 post fu p1 p2 0 0 F R L G
abbrev wsX3_arePair : List Cond := ws_ yX3_arePair cX3_arePair 7 (some .boolean)
set_option maxHeartbeats 8000000 in
theorem metX3_arePair (l : Launch) (K : KT) (h : Nat) (a : Nat → Nat) (hap : mAp h a) (post : Int32 → mF → mR → mL → mG → Prop) (F : mF) (R : mR) (L : mL) (G : mG) (p1 : Int32) (p2 : Int32) : Met l yX3_arePair wsX3_arePair (rmo 0 0) (mPre K h a F R L G [.int p1, .int p2] (wpX3_arePair post F R L G p1 p2)) (mQi post K h a) 0 0 (mA h a) := by
  refine Met.ofW (cc := cX3_arePair) (maxL := 7) (ret := (some .boolean)) (by decide) rfl ?_
  intro p e s m args below meth c s₁ B hml hv
  obtain ⟨rfl, hP, hK, hw⟩ := hv
  have hx := B.exec
  have hb := B.bytes
  have hr := B.returns
  have hts := atoms_spec (ws := wsX3_arePair) B.pre
  have hts : ∀ w ∈ lw_all, w.before _ s = true := fun w h => hts w (List.mem_cons_of_mem _ h)
  have hown : s.vm.findClass RX3 = some m.cls := findClass_of_methodNamed B.named
  have hlocks := B.notSynchronized
  have hl := lv_entry ([.ref h, .int p1, .int p2]) (n := 7) (Nat.le_of_ble_eq_true rfl)
  rw [lg_entry_eq]
  generalize (lg_sl ([.ref h, .int p1, .int p2]) ++ List.replicate (7 - (lg_sl ([.ref h, .int p1, .int p2])).length) Slot.unset).toArray = ls at hl ⊢
  have hl : lv_has ls 7 [(0, .ref h), (1, .int p1), (2, .int p2)] := hl
  have hS : va_S (mA h a) s.heap s.heap [] := va_S.rf
  have T106 : ∀ (J5 : Int32 → Int32 → Int32 → Int32 → mF → mR → mL → mG → Prop) (hJ5 : ∀ (x1 : Int32) (x2 : Int32) (x3 : Int32) (x4 : Int32) (F : mF) (R : mR) (L : mL) (G : mG) (H : Heap) (locs : List Loc) (ls : Array Slot), mP K h a F R L G H → va_S (mA h a) s.heap H locs → lv_has ls 7 [(0, .ref h), (1, .int x1), (2, .int x2), (3, .int x3), (4, .int x4)] → J5 x1 x2 x3 x4 F R L G → W p l e (rmo 0 0) s m ([.ref h, .int p1, .int p2] : List Value).toArray below meth c H locs 0 0 (MQ below (mQi post K h a) ([.ref h, .int p1, .int p2] : List Value).toArray s 0 0 (mA h a)) (F0 m 5 ls [])), ∀ (x1 : Int32) (x2 : Int32) (x4 : Int32) (z0 : Int32) (F : mF) (R : mR) (L : mL) (G : mG) (H : Heap) (locs : List Loc) (ls : Array Slot), mP K h a F R L G H → va_S (mA h a) s.heap H locs → lv_has ls 7 [(0, .ref h), (1, .int x1), (2, .int x2), (4, .int x4)] → wpX3_arePair_106 post J5 x1 x2 x4 z0 F R L G → W p l e (rmo 0 0) s m ([.ref h, .int p1, .int p2] : List Value).toArray below meth c H locs 0 0 (MQ below (mQi post K h a) ([.ref h, .int p1, .int p2] : List Value).toArray s 0 0 (mA h a)) (F0 m 106 ls [.int z0]) := by
    intro J5 hJ5
    intro x1 x2 x4 z0 F R L G H locs ls hP hS hl hw
    unfold wpX3_arePair_106 at hw
    refine lv_istore_n (lv' := [(3, .int z0), (0, .ref h), (1, .int x1), (2, .int x2), (4, .int x4)]) hx hb dX3_arePair_106 rfl hl (by decide) rfl (fun ls hl => ?_)
    obtain ⟨x4_1, ex4_1⟩ : ∃ y : Int32, y = x4 + 1 := ⟨_, rfl⟩
    have hw := hw x4_1 ex4_1
    refine lv_iinc (v := x4_1) (lv' := [(4, .int x4_1), (3, .int z0), (0, .ref h), (1, .int x1), (2, .int x2)]) hx hb dX3_arePair_107 hl (k := 4) rfl (by rw [ex4_1]; rfl) (by decide) rfl (fun ls hl => ?_)
    refine lv_goto (tgt := 5) hx hb dX3_arePair_110 (by decide) ?_
    exact hJ5 x1 x2 z0 x4_1 F R L G _ _ ls hP hS (lv_sub hl [2, 3, 4, 1, 0] rfl) hw
  have T101 : ∀ (J5 : Int32 → Int32 → Int32 → Int32 → mF → mR → mL → mG → Prop) (hJ5 : ∀ (x1 : Int32) (x2 : Int32) (x3 : Int32) (x4 : Int32) (F : mF) (R : mR) (L : mL) (G : mG) (H : Heap) (locs : List Loc) (ls : Array Slot), mP K h a F R L G H → va_S (mA h a) s.heap H locs → lv_has ls 7 [(0, .ref h), (1, .int x1), (2, .int x2), (3, .int x3), (4, .int x4)] → J5 x1 x2 x3 x4 F R L G → W p l e (rmo 0 0) s m ([.ref h, .int p1, .int p2] : List Value).toArray below meth c H locs 0 0 (MQ below (mQi post K h a) ([.ref h, .int p1, .int p2] : List Value).toArray s 0 0 (mA h a)) (F0 m 5 ls [])), ∀ (x1 : Int32) (x2 : Int32) (x4 : Int32) (F : mF) (R : mR) (L : mL) (G : mG) (H : Heap) (locs : List Loc) (ls : Array Slot), mP K h a F R L G H → va_S (mA h a) s.heap H locs → lv_has ls 7 [(0, .ref h), (1, .int x1), (2, .int x2), (4, .int x4)] → wpX3_arePair_101 post J5 x1 x2 x4 F R L G → W p l e (rmo 0 0) s m ([.ref h, .int p1, .int p2] : List Value).toArray below meth c H locs 0 0 (MQ below (mQi post K h a) ([.ref h, .int p1, .int p2] : List Value).toArray s 0 0 (mA h a)) (F0 m 101 ls []) := by
    intro J5 hJ5
    intro x1 x2 x4 F R L G H locs ls hP hS hl hw
    unfold wpX3_arePair_101 at hw
    refine lv_iconst (v := 1) hx hb dX3_arePair_101 (by decide) ?_
    refine lv_goto (tgt := 106) hx hb dX3_arePair_102 (by decide) ?_
    exact T106 _ hJ5 x1 x2 x4 1 F R L G _ _ ls hP hS (lv_sub hl [0, 1, 2, 3] rfl) hw
  have T85 : ∀ (J5 : Int32 → Int32 → Int32 → Int32 → mF → mR → mL → mG → Prop) (hJ5 : ∀ (x1 : Int32) (x2 : Int32) (x3 : Int32) (x4 : Int32) (F : mF) (R : mR) (L : mL) (G : mG) (H : Heap) (locs : List Loc) (ls : Array Slot), mP K h a F R L G H → va_S (mA h a) s.heap H locs → lv_has ls 7 [(0, .ref h), (1, .int x1), (2, .int x2), (3, .int x3), (4, .int x4)] → J5 x1 x2 x3 x4 F R L G → W p l e (rmo 0 0) s m ([.ref h, .int p1, .int p2] : List Value).toArray below meth c H locs 0 0 (MQ below (mQi post K h a) ([.ref h, .int p1, .int p2] : List Value).toArray s 0 0 (mA h a)) (F0 m 5 ls [])), ∀ (x1 : Int32) (x2 : Int32) (x3 : Int32) (x4 : Int32) (x5 : Int32) (z0 : Int32) (F : mF) (R : mR) (L : mL) (G : mG) (H : Heap) (locs : List Loc) (ls : Array Slot), mP K h a F R L G H → va_S (mA h a) s.heap H locs → lv_has ls 7 [(0, .ref h), (1, .int x1), (2, .int x2), (3, .int x3), (4, .int x4), (5, .int x5)] → wpX3_arePair_85 post J5 x1 x2 x3 x4 x5 z0 F R L G → W p l e (rmo 0 0) s m ([.ref h, .int p1, .int p2] : List Value).toArray below meth c H locs 0 0 (MQ below (mQi post K h a) ([.ref h, .int p1, .int p2] : List Value).toArray s 0 0 (mA h a)) (F0 m 85 ls [.int z0]) := by
    intro J5 hJ5
    intro x1 x2 x3 x4 x5 z0 F R L G H locs ls hP hS hl hw
    unfold wpX3_arePair_85 at hw
    refine lv_istore (lv' := [(6, .int z0), (0, .ref h), (1, .int x1), (2, .int x2), (3, .int x3), (4, .int x4), (5, .int x5)]) hx hb dX3_arePair_85 hl (by decide) rfl (fun ls hl => ?_)
    refine lv_iload_n hx hb dX3_arePair_87 rfl (lv_at hl 4 rfl) ?_
    refine lv_if_ne (tgt := 101) hx hb dX3_arePair_88 (by decide) (fun c_2 => ?_) (fun c_2 => ?_)
    · have hw := hw.2 (c_2)
      exact T101 _ hJ5 x1 x2 x4 F R L G _ _ ls hP hS (lv_sub hl [1, 2, 3, 5] rfl) hw
    · have hw := hw.1 (c_2)
      refine lv_iload hx hb dX3_arePair_91 (lv_at hl 6 rfl) ?_
      refine lv_if_ne (tgt := 101) hx hb dX3_arePair_93 (by decide) (fun c_3 => ?_) (fun c_3 => ?_)
      · have hw := hw.2 (c_3)
        exact T101 _ hJ5 x1 x2 x4 F R L G _ _ ls hP hS (lv_sub hl [1, 2, 3, 5] rfl) hw
      · have hw := hw.1 (c_3)
        refine lv_iload hx hb dX3_arePair_96 (lv_at hl 0 rfl) ?_
        refine lv_if_eq (tgt := 105) hx hb dX3_arePair_98 (by decide) (fun c_4 => ?_) (fun c_4 => ?_)
        · have hw := hw.1 c_4
          refine lv_iconst (v := 0) hx hb dX3_arePair_105 (by decide) ?_
          exact T106 _ hJ5 x1 x2 x4 0 F R L G _ _ ls hP hS (lv_sub hl [1, 2, 3, 5] rfl) hw
        · have hw := hw.2 c_4
          exact T101 _ hJ5 x1 x2 x4 F R L G _ _ ls hP hS (lv_sub hl [1, 2, 3, 5] rfl) hw
  have T84 : ∀ (J5 : Int32 → Int32 → Int32 → Int32 → mF → mR → mL → mG → Prop) (hJ5 : ∀ (x1 : Int32) (x2 : Int32) (x3 : Int32) (x4 : Int32) (F : mF) (R : mR) (L : mL) (G : mG) (H : Heap) (locs : List Loc) (ls : Array Slot), mP K h a F R L G H → va_S (mA h a) s.heap H locs → lv_has ls 7 [(0, .ref h), (1, .int x1), (2, .int x2), (3, .int x3), (4, .int x4)] → J5 x1 x2 x3 x4 F R L G → W p l e (rmo 0 0) s m ([.ref h, .int p1, .int p2] : List Value).toArray below meth c H locs 0 0 (MQ below (mQi post K h a) ([.ref h, .int p1, .int p2] : List Value).toArray s 0 0 (mA h a)) (F0 m 5 ls [])), ∀ (x1 : Int32) (x2 : Int32) (x3 : Int32) (x4 : Int32) (x5 : Int32) (F : mF) (R : mR) (L : mL) (G : mG) (H : Heap) (locs : List Loc) (ls : Array Slot), mP K h a F R L G H → va_S (mA h a) s.heap H locs → lv_has ls 7 [(0, .ref h), (1, .int x1), (2, .int x2), (3, .int x3), (4, .int x4), (5, .int x5)] → wpX3_arePair_84 post J5 x1 x2 x3 x4 x5 F R L G → W p l e (rmo 0 0) s m ([.ref h, .int p1, .int p2] : List Value).toArray below meth c H locs 0 0 (MQ below (mQi post K h a) ([.ref h, .int p1, .int p2] : List Value).toArray s 0 0 (mA h a)) (F0 m 84 ls []) := by
    intro J5 hJ5
    intro x1 x2 x3 x4 x5 F R L G H locs ls hP hS hl hw
    unfold wpX3_arePair_84 at hw
    refine lv_iconst (v := 0) hx hb dX3_arePair_84 (by decide) ?_
    exact T85 _ hJ5 x1 x2 x3 x4 x5 0 F R L G _ _ ls hP hS (lv_sub hl [0, 1, 2, 3, 4, 5] rfl) hw
  have T50 : ∀ (J5 : Int32 → Int32 → Int32 → Int32 → mF → mR → mL → mG → Prop) (hJ5 : ∀ (x1 : Int32) (x2 : Int32) (x3 : Int32) (x4 : Int32) (F : mF) (R : mR) (L : mL) (G : mG) (H : Heap) (locs : List Loc) (ls : Array Slot), mP K h a F R L G H → va_S (mA h a) s.heap H locs → lv_has ls 7 [(0, .ref h), (1, .int x1), (2, .int x2), (3, .int x3), (4, .int x4)] → J5 x1 x2 x3 x4 F R L G → W p l e (rmo 0 0) s m ([.ref h, .int p1, .int p2] : List Value).toArray below meth c H locs 0 0 (MQ below (mQi post K h a) ([.ref h, .int p1, .int p2] : List Value).toArray s 0 0 (mA h a)) (F0 m 5 ls [])), ∀ (x1 : Int32) (x2 : Int32) (x3 : Int32) (x4 : Int32) (z0 : Int32) (F : mF) (R : mR) (L : mL) (G : mG) (H : Heap) (locs : List Loc) (ls : Array Slot), mP K h a F R L G H → va_S (mA h a) s.heap H locs → lv_has ls 7 [(0, .ref h), (1, .int x1), (2, .int x2), (3, .int x3), (4, .int x4)] → wpX3_arePair_50 post J5 x1 x2 x3 x4 z0 F R L G → W p l e (rmo 0 0) s m ([.ref h, .int p1, .int p2] : List Value).toArray below meth c H locs 0 0 (MQ below (mQi post K h a) ([.ref h, .int p1, .int p2] : List Value).toArray s 0 0 (mA h a)) (F0 m 50 ls [.int z0]) := by
    intro J5 hJ5
    intro x1 x2 x3 x4 z0 F R L G H locs ls hP hS hl hw
    unfold wpX3_arePair_50 at hw
    refine lv_istore (lv' := [(5, .int z0), (0, .ref h), (1, .int x1), (2, .int x2), (3, .int x3), (4, .int x4)]) hx hb dX3_arePair_50 hl (by decide) rfl (fun ls hl => ?_)
    refine lv_aload_n hx hb dX3_arePair_52 rfl (lv_at hl 1 rfl) ?_
    refine m_get hx hb hts hown hK hP 0 (by decide) q1728 rfl dX3_arePair_53 ?_
    refine lv_bipush (v := 51) hx hb dX3_arePair_56 (by decide) ?_
    refine lv_iload hx hb dX3_arePair_58 (lv_at hl 5 rfl) ?_
    refine lv_iadd hx hb dX3_arePair_60 ?_
    obtain ⟨h_5, hw⟩ := hw
    refine m_iald (j := (Int32.toNatClampNeg (51 + x4))) hx hb hK hP 0 1 113 rfl rfl h_5 dX3_arePair_61 ?_
    refine lv_iload_n hx hb dX3_arePair_62 rfl (lv_at hl 3 rfl) ?_
    refine lv_icmp_ne (tgt := 84) hx hb dX3_arePair_63 (by decide) (fun c_6 => ?_) (fun c_6 => ?_)
    · have hw := hw.2 (c_6)
      exact T84 _ hJ5 x1 x2 x3 x4 z0 F R L G _ _ ls hP hS (lv_sub hl [1, 2, 3, 4, 5, 0] rfl) hw
    · have hw := hw.1 (c_6)
      refine lv_aload_n hx hb dX3_arePair_66 rfl (lv_at hl 1 rfl) ?_
      refine m_get hx hb hts hown hK hP 0 (by decide) q1728 rfl dX3_arePair_67 ?_
      refine lv_bipush (v := 67) hx hb dX3_arePair_70 (by decide) ?_
      refine lv_iload hx hb dX3_arePair_72 (lv_at hl 5 rfl) ?_
      refine lv_iadd hx hb dX3_arePair_74 ?_
      obtain ⟨h_7, hw⟩ := hw
      refine m_iald (j := (Int32.toNatClampNeg (67 + x4))) hx hb hK hP 0 1 113 rfl rfl h_7 dX3_arePair_75 ?_
      refine lv_iload_n hx hb dX3_arePair_76 rfl (lv_at hl 2 rfl) ?_
      refine lv_icmp_ne (tgt := 84) hx hb dX3_arePair_77 (by decide) (fun c_8 => ?_) (fun c_8 => ?_)
      · have hw := hw.2 (c_8)
        exact T84 _ hJ5 x1 x2 x3 x4 z0 F R L G _ _ ls hP hS (lv_sub hl [1, 2, 3, 4, 5, 0] rfl) hw
      · have hw := hw.1 (c_8)
        refine lv_iconst (v := 1) hx hb dX3_arePair_80 (by decide) ?_
        refine lv_goto (tgt := 85) hx hb dX3_arePair_81 (by decide) ?_
        exact T85 _ hJ5 x1 x2 x3 x4 z0 1 F R L G _ _ ls hP hS (lv_sub hl [1, 2, 3, 4, 5, 0] rfl) hw
  have T49 : ∀ (J5 : Int32 → Int32 → Int32 → Int32 → mF → mR → mL → mG → Prop) (hJ5 : ∀ (x1 : Int32) (x2 : Int32) (x3 : Int32) (x4 : Int32) (F : mF) (R : mR) (L : mL) (G : mG) (H : Heap) (locs : List Loc) (ls : Array Slot), mP K h a F R L G H → va_S (mA h a) s.heap H locs → lv_has ls 7 [(0, .ref h), (1, .int x1), (2, .int x2), (3, .int x3), (4, .int x4)] → J5 x1 x2 x3 x4 F R L G → W p l e (rmo 0 0) s m ([.ref h, .int p1, .int p2] : List Value).toArray below meth c H locs 0 0 (MQ below (mQi post K h a) ([.ref h, .int p1, .int p2] : List Value).toArray s 0 0 (mA h a)) (F0 m 5 ls [])), ∀ (x1 : Int32) (x2 : Int32) (x3 : Int32) (x4 : Int32) (F : mF) (R : mR) (L : mL) (G : mG) (H : Heap) (locs : List Loc) (ls : Array Slot), mP K h a F R L G H → va_S (mA h a) s.heap H locs → lv_has ls 7 [(0, .ref h), (1, .int x1), (2, .int x2), (3, .int x3), (4, .int x4)] → wpX3_arePair_49 post J5 x1 x2 x3 x4 F R L G → W p l e (rmo 0 0) s m ([.ref h, .int p1, .int p2] : List Value).toArray below meth c H locs 0 0 (MQ below (mQi post K h a) ([.ref h, .int p1, .int p2] : List Value).toArray s 0 0 (mA h a)) (F0 m 49 ls []) := by
    intro J5 hJ5
    intro x1 x2 x3 x4 F R L G H locs ls hP hS hl hw
    unfold wpX3_arePair_49 at hw
    refine lv_iconst (v := 0) hx hb dX3_arePair_49 (by decide) ?_
    exact T50 _ hJ5 x1 x2 x3 x4 0 F R L G _ _ ls hP hS (lv_sub hl [0, 1, 2, 3, 4] rfl) hw
  have T5 : ∀ (n : Nat), ∀ (x1 : Int32) (x2 : Int32) (x3 : Int32) (x4 : Int32) (F : mF) (R : mR) (L : mL) (G : mG) (H : Heap) (locs : List Loc) (ls : Array Slot), mP K h a F R L G H → va_S (mA h a) s.heap H locs → lv_has ls 7 [(0, .ref h), (1, .int x1), (2, .int x2), (3, .int x3), (4, .int x4)] → wpX3_arePair_5 post n x1 x2 x3 x4 F R L G → W p l e (rmo 0 0) s m ([.ref h, .int p1, .int p2] : List Value).toArray below meth c H locs 0 0 (MQ below (mQi post K h a) ([.ref h, .int p1, .int p2] : List Value).toArray s 0 0 (mA h a)) (F0 m 5 ls []) := by
    intro n
    induction n with
    | zero =>
      intro x1 x2 x3 x4 F R L G H locs ls hP hS hl hw
      exact False.elim hw
    | succ n ih =>
      intro x1 x2 x3 x4 F R L G H locs ls hP hS hl hw
      unfold wpX3_arePair_5 at hw
      refine lv_iload hx hb dX3_arePair_5 (lv_at hl 4 rfl) ?_
      refine lv_aload_n hx hb dX3_arePair_7 rfl (lv_at hl 0 rfl) ?_
      refine m_get hx hb hts hown hK hP 0 (by decide) q1728 rfl dX3_arePair_8 ?_
      refine lv_bipush (v := 50) hx hb dX3_arePair_11 (by decide) ?_
      refine m_iald (j := 50) hx hb hK hP 0 1 113 rfl (by decide) (vpd (by decide)) dX3_arePair_13 ?_
      refine lv_icmp_ge (tgt := 113) hx hb dX3_arePair_14 (by decide) (fun c_9 => ?_) (fun c_9 => ?_)
      · have hw := hw.1 c_9
        refine lv_iload_n hx hb dX3_arePair_113 rfl (lv_at hl 3 rfl) ?_
        obtain ⟨h_10, hw⟩ := hw
        exact m_zret hx hb hr hlocks hP hS dX3_arePair_114 h_10 hw
      · have hw := hw.2 c_9
        refine lv_aload_n hx hb dX3_arePair_17 rfl (lv_at hl 0 rfl) ?_
        refine m_get hx hb hts hown hK hP 0 (by decide) q1728 rfl dX3_arePair_18 ?_
        refine lv_bipush (v := 51) hx hb dX3_arePair_21 (by decide) ?_
        refine lv_iload hx hb dX3_arePair_23 (lv_at hl 4 rfl) ?_
        refine lv_iadd hx hb dX3_arePair_25 ?_
        obtain ⟨h_11, hw⟩ := hw
        refine m_iald (j := (Int32.toNatClampNeg (51 + x4))) hx hb hK hP 0 1 113 rfl rfl h_11 dX3_arePair_26 ?_
        refine lv_iload_n hx hb dX3_arePair_27 rfl (lv_at hl 1 rfl) ?_
        refine lv_icmp_ne (tgt := 49) hx hb dX3_arePair_28 (by decide) (fun c_12 => ?_) (fun c_12 => ?_)
        · have hw := hw.2 (c_12)
          exact T49 _ ih x1 x2 x3 x4 F R L G _ _ ls hP hS (lv_sub hl [0, 1, 2, 3, 4] rfl) hw
        · have hw := hw.1 (c_12)
          refine lv_aload_n hx hb dX3_arePair_31 rfl (lv_at hl 0 rfl) ?_
          refine m_get hx hb hts hown hK hP 0 (by decide) q1728 rfl dX3_arePair_32 ?_
          refine lv_bipush (v := 67) hx hb dX3_arePair_35 (by decide) ?_
          refine lv_iload hx hb dX3_arePair_37 (lv_at hl 4 rfl) ?_
          refine lv_iadd hx hb dX3_arePair_39 ?_
          obtain ⟨h_13, hw⟩ := hw
          refine m_iald (j := (Int32.toNatClampNeg (67 + x4))) hx hb hK hP 0 1 113 rfl rfl h_13 dX3_arePair_40 ?_
          refine lv_iload_n hx hb dX3_arePair_41 rfl (lv_at hl 2 rfl) ?_
          refine lv_icmp_ne (tgt := 49) hx hb dX3_arePair_42 (by decide) (fun c_14 => ?_) (fun c_14 => ?_)
          · have hw := hw.2 (c_14)
            exact T49 _ ih x1 x2 x3 x4 F R L G _ _ ls hP hS (lv_sub hl [0, 1, 2, 3, 4] rfl) hw
          · have hw := hw.1 (c_14)
            refine lv_iconst (v := 1) hx hb dX3_arePair_45 (by decide) ?_
            refine lv_goto (tgt := 50) hx hb dX3_arePair_46 (by decide) ?_
            exact T50 _ ih x1 x2 x3 x4 1 F R L G _ _ ls hP hS (lv_sub hl [0, 1, 2, 3, 4] rfl) hw
  unfold wpX3_arePair at hw
  refine lv_iconst (v := 0) hx hb dX3_arePair_0 (by decide) ?_
  refine lv_istore_n (lv' := [(3, .int 0), (0, .ref h), (1, .int p1), (2, .int p2)]) hx hb dX3_arePair_1 rfl hl (by decide) rfl (fun ls hl => ?_)
  refine lv_iconst (v := 0) hx hb dX3_arePair_2 (by decide) ?_
  refine lv_istore (lv' := [(4, .int 0), (3, .int 0), (0, .ref h), (1, .int p1), (2, .int p2)]) hx hb dX3_arePair_3 hl (by decide) rfl (fun ls hl => ?_)
  obtain ⟨fu, hw⟩ := hw
  exact T5 fu p1 p2 0 0 F R L G _ _ ls hP hS (lv_sub hl [2, 3, 4, 1, 0] rfl) hw
def wpX3_adds (post : mF → mR → mL → mG → Prop) (F : mF) (R : mR) (L : mL) (G : mG) (p1 : Int32) (p2 : Int32) : Prop := (vp_in (51 + (R 0 50)) 113 ∧ (∀ R_2 : mR, R_2 = va_up R 0 (upd (R 0) (Int32.toNatClampNeg (51 + (R 0 50))) p1) → (vp_in (67 + (R_2 0 50)) 113 ∧ (∀ R_4 : mR, R_4 = va_up R_2 0 (upd (R_2 0) (Int32.toNatClampNeg (67 + (R_2 0 50))) p2) → post F (va_up R_4 0 (upd (R_4 0) 50 ((R_4 0 50) + 1))) L G))))
abbrev wsX3_adds : List Cond := ws_ yX3_adds cX3_adds 3 none
set_option maxHeartbeats 8000000 in
theorem metX3_adds (l : Launch) (K : KT) (h : Nat) (a : Nat → Nat) (hap : mAp h a) (post : mF → mR → mL → mG → Prop) (F : mF) (R : mR) (L : mL) (G : mG) (p1 : Int32) (p2 : Int32) : Met l yX3_adds wsX3_adds (rmo 0 0) (mPre K h a F R L G [.int p1, .int p2] (wpX3_adds post F R L G p1 p2)) (mQv post K h a) 0 0 (mA h a) := by
  refine Met.ofW (cc := cX3_adds) (maxL := 3) (ret := none) (by decide) rfl ?_
  intro p e s m args below meth c s₁ B hml hv
  obtain ⟨rfl, hP, hK, hw⟩ := hv
  have hx := B.exec
  have hb := B.bytes
  have hr := B.returns
  have hts := atoms_spec (ws := wsX3_adds) B.pre
  have hts : ∀ w ∈ lw_all, w.before _ s = true := fun w h => hts w (List.mem_cons_of_mem _ h)
  have hown : s.vm.findClass RX3 = some m.cls := findClass_of_methodNamed B.named
  have hlocks := B.notSynchronized
  have hl := lv_entry ([.ref h, .int p1, .int p2]) (n := 3) (Nat.le_of_ble_eq_true rfl)
  rw [lg_entry_eq]
  generalize (lg_sl ([.ref h, .int p1, .int p2]) ++ List.replicate (3 - (lg_sl ([.ref h, .int p1, .int p2])).length) Slot.unset).toArray = ls at hl ⊢
  have hl : lv_has ls 3 [(0, .ref h), (1, .int p1), (2, .int p2)] := hl
  have hS : va_S (mA h a) s.heap s.heap [] := va_S.rf
  unfold wpX3_adds at hw
  refine lv_aload_n hx hb dX3_adds_0 rfl (lv_at hl 0 rfl) ?_
  refine m_get hx hb hts hown hK hP 0 (by decide) q1728 rfl dX3_adds_1 ?_
  refine lv_bipush (v := 51) hx hb dX3_adds_4 (by decide) ?_
  refine lv_aload_n hx hb dX3_adds_6 rfl (lv_at hl 0 rfl) ?_
  refine m_get hx hb hts hown hK hP 0 (by decide) q1728 rfl dX3_adds_7 ?_
  refine lv_bipush (v := 50) hx hb dX3_adds_10 (by decide) ?_
  refine m_iald (j := 50) hx hb hK hP 0 1 113 rfl (by decide) (vpd (by decide)) dX3_adds_12 ?_
  refine lv_iadd hx hb dX3_adds_13 ?_
  refine lv_iload_n hx hb dX3_adds_14 rfl (lv_at hl 1 rfl) ?_
  obtain ⟨h_1, hw⟩ := hw
  refine m_iast (j := (Int32.toNatClampNeg (51 + (R 0 50)))) hx hb hK hap hP hS 0 1 113 rfl rfl rfl h_1 dX3_adds_15 (fun H locs hP hS => ?_)
  obtain ⟨R_2, eR_2⟩ : ∃ y : mR, y = va_up R 0 (upd (R 0) (Int32.toNatClampNeg (51 + (R 0 50))) p1) := ⟨_, rfl⟩
  rw [← eR_2] at hP
  have hw := hw R_2 eR_2
  refine lv_aload_n hx hb dX3_adds_16 rfl (lv_at hl 0 rfl) ?_
  refine m_get hx hb hts hown hK hP 0 (by decide) q1728 rfl dX3_adds_17 ?_
  refine lv_bipush (v := 67) hx hb dX3_adds_20 (by decide) ?_
  refine lv_aload_n hx hb dX3_adds_22 rfl (lv_at hl 0 rfl) ?_
  refine m_get hx hb hts hown hK hP 0 (by decide) q1728 rfl dX3_adds_23 ?_
  refine lv_bipush (v := 50) hx hb dX3_adds_26 (by decide) ?_
  refine m_iald (j := 50) hx hb hK hP 0 1 113 rfl (by decide) (vpd (by decide)) dX3_adds_28 ?_
  refine lv_iadd hx hb dX3_adds_29 ?_
  refine lv_iload_n hx hb dX3_adds_30 rfl (lv_at hl 2 rfl) ?_
  obtain ⟨h_3, hw⟩ := hw
  refine m_iast (j := (Int32.toNatClampNeg (67 + (R_2 0 50)))) hx hb hK hap hP hS 0 1 113 rfl rfl rfl h_3 dX3_adds_31 (fun H locs hP hS => ?_)
  obtain ⟨R_4, eR_4⟩ : ∃ y : mR, y = va_up R_2 0 (upd (R_2 0) (Int32.toNatClampNeg (67 + (R_2 0 50))) p2) := ⟨_, rfl⟩
  rw [← eR_4] at hP
  have hw := hw R_4 eR_4
  refine lv_aload_n hx hb dX3_adds_32 rfl (lv_at hl 0 rfl) ?_
  refine m_get hx hb hts hown hK hP 0 (by decide) q1728 rfl dX3_adds_33 ?_
  refine lv_bipush (v := 50) hx hb dX3_adds_36 (by decide) ?_
  refine lv_dup2_11 hx hb dX3_adds_38 rfl rfl ?_
  refine m_iald (j := 50) hx hb hK hP 0 1 113 rfl (by decide) (vpd (by decide)) dX3_adds_39 ?_
  refine lv_iconst (v := 1) hx hb dX3_adds_40 (by decide) ?_
  refine lv_iadd hx hb dX3_adds_41 ?_
  refine m_iast (j := 50) hx hb hK hap hP hS 0 1 113 rfl (by decide) rfl (vpd (by decide)) dX3_adds_42 (fun H locs hP hS => ?_)
  exact m_vret hx hb hr hlocks hP hS dX3_adds_43 hw
def wpX3_divisor_17 (post : Int64 → Prop) : Nat → Int64 → Int64 → Prop
  | 0 => fun _ _ => False
  | n + 1 => fun x4 x6 => ((x6 = 0 → post x4) ∧ (¬ x6 = 0 → (¬ x6 = 0 ∧ (∀ x8_3 : Int64, x8_3 = lRem x4 x6 → wpX3_divisor_17 post n x6 x8_3))))
def wpX3_divisor_12 (post : Int64 → Prop) (x2 : Int64) (z0 : Int64) : Prop := ∃ fu : Nat, wpX3_divisor_17 post fu z0 x2
def wpX3_divisor (post : Int64 → Prop) (p0 : Int64) (p2 : Int64) : Prop := ((0 ≤ p0 → wpX3_divisor_12 post p2 p0) ∧ (¬ 0 ≤ p0 → wpX3_divisor_12 post p2 (-p0)))
abbrev wsX3_divisor : List Cond := ws_ yX3_divisor cX3_divisor 10 (some .long)
set_option maxHeartbeats 8000000 in
theorem metX3_divisor (l : Launch) (post : Int64 → Prop) (p0 : Int64) (p2 : Int64) : Met l yX3_divisor wsX3_divisor (rmo 0 0) (sPre [.long p0, .long p2] (wpX3_divisor post p0 p2)) (vp_Sl post) 0 0 (fun _ => False) := by
  refine Met.ofW (cc := cX3_divisor) (maxL := 10) (ret := (some .long)) (by decide) rfl ?_
  intro p e s m args below meth c s₁ B hml hv
  obtain ⟨rfl, hw⟩ := hv
  have hx := B.exec
  have hb := B.bytes
  have hr := B.returns
  have hts := atoms_spec (ws := wsX3_divisor) B.pre
  have hts : ∀ w ∈ lw_all, w.before _ s = true := fun w h => hts w (List.mem_cons_of_mem _ h)
  have hown : s.vm.findClass RX3 = some m.cls := findClass_of_methodNamed B.named
  have hlocks := B.notSynchronized
  have hl := lv_entry ([.long p0, .long p2]) (n := 10) (Nat.le_of_ble_eq_true rfl)
  rw [lg_entry_eq]
  generalize (lg_sl ([.long p0, .long p2]) ++ List.replicate (10 - (lg_sl ([.long p0, .long p2])).length) Slot.unset).toArray = ls at hl ⊢
  have hl : lv_has ls 10 [(0, .long p0), (2, .long p2)] := hl
  have T17 : ∀ (n : Nat), ∀ (x4 : Int64) (x6 : Int64) (ls : Array Slot), lv_has ls 10 [(4, .long x4), (6, .long x6)] → wpX3_divisor_17 post n x4 x6 → W p l e (rmo 0 0) s m ([.long p0, .long p2] : List Value).toArray below meth c s.heap [] 0 0 (MQ below (vp_Sl post) ([.long p0, .long p2] : List Value).toArray s 0 0 (fun _ => False)) (F0 m 17 ls []) := by
    intro n
    induction n with
    | zero =>
      intro x4 x6 ls hl hw
      exact False.elim hw
    | succ n ih =>
      intro x4 x6 ls hl hw
      unfold wpX3_divisor_17 at hw
      refine lv_lload hx hb dX3_divisor_17 (lv_at hl 1 rfl) ?_
      refine lv_lconst (v := 0) hx hb dX3_divisor_19 (by decide) ?_
      refine W.lcmp hx hb dX3_divisor_20 ?_
      refine lv_if_eq (tgt := 42) hx hb dX3_divisor_21 (by decide) (fun c_1 => ?_) (fun c_1 => ?_)
      · rw [lc_eq] at c_1
        have hw := hw.1 c_1
        refine lv_lload hx hb dX3_divisor_42 (lv_at hl 0 rfl) ?_
        exact s_lret hx hb hr hlocks dX3_divisor_44 hw
      · rw [lc_eq] at c_1
        have hw := hw.2 c_1
        refine lv_lload hx hb dX3_divisor_24 (lv_at hl 0 rfl) ?_
        refine lv_lload hx hb dX3_divisor_26 (lv_at hl 1 rfl) ?_
        obtain ⟨h_2, hw⟩ := hw
        refine lv_lrem hx hb dX3_divisor_28 h_2 ?_
        refine lv_topl (fun x8_3 ex8_3 => ?_)
        have hw := hw x8_3 ex8_3
        refine lv_lstore (lv' := [(8, .long x8_3), (4, .long x4), (6, .long x6)]) hx hb dX3_divisor_29 hl (by decide) rfl (fun ls hl => ?_)
        refine lv_lload hx hb dX3_divisor_31 (lv_at hl 2 rfl) ?_
        refine lv_lstore (lv' := [(4, .long x6), (8, .long x8_3), (6, .long x6)]) hx hb dX3_divisor_33 hl (by decide) rfl (fun ls hl => ?_)
        refine lv_lload hx hb dX3_divisor_35 (lv_at hl 1 rfl) ?_
        refine lv_lstore (lv' := [(6, .long x8_3), (4, .long x6), (8, .long x8_3)]) hx hb dX3_divisor_37 hl (by decide) rfl (fun ls hl => ?_)
        refine lv_goto (tgt := 17) hx hb dX3_divisor_39 (by decide) ?_
        exact ih x6 x8_3 ls (lv_sub hl [1, 0] rfl) hw
  have T12 : ∀ (x2 : Int64) (z0 : Int64) (ls : Array Slot), lv_has ls 10 [(2, .long x2)] → wpX3_divisor_12 post x2 z0 → W p l e (rmo 0 0) s m ([.long p0, .long p2] : List Value).toArray below meth c s.heap [] 0 0 (MQ below (vp_Sl post) ([.long p0, .long p2] : List Value).toArray s 0 0 (fun _ => False)) (F0 m 12 ls [.long z0]) := by
    intro x2 z0 ls hl hw
    unfold wpX3_divisor_12 at hw
    refine lv_lstore (lv' := [(4, .long z0), (2, .long x2)]) hx hb dX3_divisor_12 hl (by decide) rfl (fun ls hl => ?_)
    refine lv_lload_n hx hb dX3_divisor_14 rfl (lv_at hl 1 rfl) ?_
    refine lv_lstore (lv' := [(6, .long x2), (4, .long z0), (2, .long x2)]) hx hb dX3_divisor_15 hl (by decide) rfl (fun ls hl => ?_)
    obtain ⟨fu, hw⟩ := hw
    exact T17 fu z0 x2 ls (lv_sub hl [1, 0] rfl) hw
  unfold wpX3_divisor at hw
  refine lv_lload_n hx hb dX3_divisor_0 rfl (lv_at hl 0 rfl) ?_
  refine lv_lconst (v := 0) hx hb dX3_divisor_1 (by decide) ?_
  refine W.lcmp hx hb dX3_divisor_2 ?_
  refine lv_if_ge (tgt := 11) hx hb dX3_divisor_3 (by decide) (fun c_4 => ?_) (fun c_4 => ?_)
  · rw [lc_ge] at c_4
    have hw := hw.1 c_4
    refine lv_lload_n hx hb dX3_divisor_11 rfl (lv_at hl 0 rfl) ?_
    exact T12 p2 p0 ls (lv_sub hl [1] rfl) hw
  · rw [lc_ge] at c_4
    have hw := hw.2 c_4
    refine lv_lload_n hx hb dX3_divisor_6 rfl (lv_at hl 0 rfl) ?_
    refine lv_lneg hx hb dX3_divisor_7 ?_
    refine lv_goto (tgt := 12) hx hb dX3_divisor_8 (by decide) ?_
    exact T12 p2 (-p0) ls (lv_sub hl [1] rfl) hw
def wpX3_comes (post : mF → mR → mL → mG → Prop) (F : mF) (R : mR) (L : mL) (G : mG) (p1 : Int32) (p2 : Int32) (p3 : Int32) (p4 : Int32) : Prop := (vp_in p1 12 ∧ (((R 9 (Int32.toNatClampNeg p1)) = (-1) → (vp_in p2 12 ∧ (vp_in p1 12 ∧ (∀ R_5 : mR, R_5 = va_up R 9 (upd (R 9) (Int32.toNatClampNeg p1) ((R 9 (Int32.toNatClampNeg p2)) + 1)) → (vp_in (F 13) 12 ∧ (vp_in p1 12 ∧ ((4 < ((va_up R_5 12 (upd (R_5 12) (Int32.toNatClampNeg (F 13)) p1)) 9 (Int32.toNatClampNeg p1)) → post (va_up F 13 ((F 13) + 1)) (va_up R_5 12 (upd (R_5 12) (Int32.toNatClampNeg (F 13)) p1)) L G) ∧ (¬ 4 < ((va_up R_5 12 (upd (R_5 12) (Int32.toNatClampNeg (F 13)) p1)) 9 (Int32.toNatClampNeg p1)) → (vp_in p2 12 ∧ (∀ x5_10 : Int64, x5_10 = (-(L 10 (Int32.toNatClampNeg p2))) * (Int32.toInt64 p3) → (vp_in p2 12 ∧ (∀ x7_12 : Int64, x7_12 = (L 11 (Int32.toNatClampNeg p2)) * (Int32.toInt64 p4) → wpX3_divisor (fun r_13 => (¬ r_13 = 0 ∧ (vp_in p1 12 ∧ (∀ L_16 : mL, L_16 = va_up L 10 (vp_updL (L 10) (Int32.toNatClampNeg p1) (x5_10 / r_13)) → (¬ r_13 = 0 ∧ (vp_in p1 12 ∧ (∀ L_19 : mL, L_19 = va_up L_16 11 (vp_updL (L_16 11) (Int32.toNatClampNeg p1) (x7_12 / r_13)) → post (va_up F 13 ((F 13) + 1)) (va_up R_5 12 (upd (R_5 12) (Int32.toNatClampNeg (F 13)) p1)) L_19 G))))))) x5_10 x7_12)))))))))))) ∧ (¬ (R 9 (Int32.toNatClampNeg p1)) = (-1) → post F R L G)))
abbrev wsX3_comes : List Cond := ws_ yX3_comes cX3_comes 11 none
set_option maxHeartbeats 8000000 in
theorem metX3_comes (l : Launch) (K : KT) (h : Nat) (a : Nat → Nat) (hap : mAp h a) (post : mF → mR → mL → mG → Prop) (F : mF) (R : mR) (L : mL) (G : mG) (p1 : Int32) (p2 : Int32) (p3 : Int32) (p4 : Int32) : Met l yX3_comes wsX3_comes (rmo 1 29) (mPre K h a F R L G [.int p1, .int p2, .int p3, .int p4] (wpX3_comes post F R L G p1 p2 p3 p4)) (mQv post K h a) 0 0 (mA h a) := by
  refine Met.ofW (cc := cX3_comes) (maxL := 11) (ret := none) (by decide) rfl ?_
  intro p e s m args below meth c s₁ B hml hv
  obtain ⟨rfl, hP, hK, hw⟩ := hv
  have hx := B.exec
  have hb := B.bytes
  have hr := B.returns
  have hts := atoms_spec (ws := wsX3_comes) B.pre
  have hts : ∀ w ∈ lw_all, w.before _ s = true := fun w h => hts w (List.mem_cons_of_mem _ h)
  have hown : s.vm.findClass RX3 = some m.cls := findClass_of_methodNamed B.named
  have hlocks := B.notSynchronized
  have hl := lv_entry ([.ref h, .int p1, .int p2, .int p3, .int p4]) (n := 11) (Nat.le_of_ble_eq_true rfl)
  rw [lg_entry_eq]
  generalize (lg_sl ([.ref h, .int p1, .int p2, .int p3, .int p4]) ++ List.replicate (11 - (lg_sl ([.ref h, .int p1, .int p2, .int p3, .int p4])).length) Slot.unset).toArray = ls at hl ⊢
  have hl : lv_has ls 11 [(0, .ref h), (1, .int p1), (2, .int p2), (3, .int p3), (4, .int p4)] := hl
  have hS : va_S (mA h a) s.heap s.heap [] := va_S.rf
  unfold wpX3_comes at hw
  refine lv_aload_n hx hb dX3_comes_0 rfl (lv_at hl 0 rfl) ?_
  refine m_get hx hb hts hown hK hP 9 (by decide) q1737 rfl dX3_comes_1 ?_
  refine lv_iload_n hx hb dX3_comes_4 rfl (lv_at hl 1 rfl) ?_
  obtain ⟨h_1, hw⟩ := hw
  refine m_iald (j := (Int32.toNatClampNeg p1)) hx hb hK hP 9 6 12 rfl rfl h_1 dX3_comes_5 ?_
  refine lv_iconst (v := (-1)) hx hb dX3_comes_6 (by decide) ?_
  refine lv_icmp_eq (tgt := 11) hx hb dX3_comes_7 (by decide) (fun c_2 => ?_) (fun c_2 => ?_)
  · have hw := hw.1 c_2
    refine lv_aload_n hx hb dX3_comes_11 rfl (lv_at hl 0 rfl) ?_
    refine m_get hx hb hts hown hK hP 9 (by decide) q1737 rfl dX3_comes_12 ?_
    refine lv_iload_n hx hb dX3_comes_15 rfl (lv_at hl 1 rfl) ?_
    refine lv_aload_n hx hb dX3_comes_16 rfl (lv_at hl 0 rfl) ?_
    refine m_get hx hb hts hown hK hP 9 (by decide) q1737 rfl dX3_comes_17 ?_
    refine lv_iload_n hx hb dX3_comes_20 rfl (lv_at hl 2 rfl) ?_
    obtain ⟨h_3, hw⟩ := hw
    refine m_iald (j := (Int32.toNatClampNeg p2)) hx hb hK hP 9 6 12 rfl rfl h_3 dX3_comes_21 ?_
    refine lv_iconst (v := 1) hx hb dX3_comes_22 (by decide) ?_
    refine lv_iadd hx hb dX3_comes_23 ?_
    obtain ⟨h_4, hw⟩ := hw
    refine m_iast (j := (Int32.toNatClampNeg p1)) hx hb hK hap hP hS 9 6 12 rfl rfl rfl h_4 dX3_comes_24 (fun H locs hP hS => ?_)
    obtain ⟨R_5, eR_5⟩ : ∃ y : mR, y = va_up R 9 (upd (R 9) (Int32.toNatClampNeg p1) ((R 9 (Int32.toNatClampNeg p2)) + 1)) := ⟨_, rfl⟩
    rw [← eR_5] at hP
    have hw := hw R_5 eR_5
    refine lv_aload_n hx hb dX3_comes_25 rfl (lv_at hl 0 rfl) ?_
    refine m_get hx hb hts hown hK hP 12 (by decide) q1740 rfl dX3_comes_26 ?_
    refine lv_aload_n hx hb dX3_comes_29 rfl (lv_at hl 0 rfl) ?_
    refine m_get hx hb hts hown hK hP 13 (by decide) q1741 rfl dX3_comes_30 ?_
    refine lv_iload_n hx hb dX3_comes_33 rfl (lv_at hl 1 rfl) ?_
    obtain ⟨h_6, hw⟩ := hw
    refine m_iast (j := (Int32.toNatClampNeg (F 13))) hx hb hK hap hP hS 12 9 12 rfl rfl rfl h_6 dX3_comes_34 (fun H locs hP hS => ?_)
    refine lv_aload_n hx hb dX3_comes_35 rfl (lv_at hl 0 rfl) ?_
    refine lv_dup hx hb dX3_comes_36 rfl ?_
    refine m_get hx hb hts hown hK hP 13 (by decide) q1741 rfl dX3_comes_37 ?_
    refine lv_iconst (v := 1) hx hb dX3_comes_40 (by decide) ?_
    refine lv_iadd hx hb dX3_comes_41 ?_
    refine m_puti hx hb hts hown hK hap hP hS 13 (by decide) q1741 rfl rfl rfl rfl dX3_comes_42 (fun H locs hP hS => ?_)
    refine lv_aload_n hx hb dX3_comes_45 rfl (lv_at hl 0 rfl) ?_
    refine m_get hx hb hts hown hK hP 9 (by decide) q1737 rfl dX3_comes_46 ?_
    refine lv_iload_n hx hb dX3_comes_49 rfl (lv_at hl 1 rfl) ?_
    obtain ⟨h_7, hw⟩ := hw
    refine m_iald (j := (Int32.toNatClampNeg p1)) hx hb hK hP 9 6 12 rfl rfl h_7 dX3_comes_50 ?_
    refine lv_iconst (v := 4) hx hb dX3_comes_51 (by decide) ?_
    refine lv_icmp_gt (tgt := 110) hx hb dX3_comes_52 (by decide) (fun c_8 => ?_) (fun c_8 => ?_)
    · have hw := hw.1 c_8
      exact m_vret hx hb hr hlocks hP hS dX3_comes_110 hw
    · have hw := hw.2 c_8
      refine lv_aload_n hx hb dX3_comes_55 rfl (lv_at hl 0 rfl) ?_
      refine m_get hx hb hts hown hK hP 10 (by decide) q1738 rfl dX3_comes_56 ?_
      refine lv_iload_n hx hb dX3_comes_59 rfl (lv_at hl 2 rfl) ?_
      obtain ⟨h_9, hw⟩ := hw
      refine m_lald (j := (Int32.toNatClampNeg p2)) hx hb hK hP 10 7 12 rfl rfl h_9 dX3_comes_60 ?_
      refine lv_lneg hx hb dX3_comes_61 ?_
      refine lv_iload_n hx hb dX3_comes_62 rfl (lv_at hl 3 rfl) ?_
      refine lv_i2l hx hb dX3_comes_63 rfl ?_
      refine lv_lmul hx hb dX3_comes_64 ?_
      refine lv_topl (fun x5_10 ex5_10 => ?_)
      have hw := hw x5_10 ex5_10
      refine lv_lstore (lv' := [(5, .long x5_10), (0, .ref h), (1, .int p1), (2, .int p2), (3, .int p3), (4, .int p4)]) hx hb dX3_comes_65 hl (by decide) rfl (fun ls hl => ?_)
      refine lv_aload_n hx hb dX3_comes_67 rfl (lv_at hl 1 rfl) ?_
      refine m_get hx hb hts hown hK hP 11 (by decide) q1739 rfl dX3_comes_68 ?_
      refine lv_iload_n hx hb dX3_comes_71 rfl (lv_at hl 3 rfl) ?_
      obtain ⟨h_11, hw⟩ := hw
      refine m_lald (j := (Int32.toNatClampNeg p2)) hx hb hK hP 11 8 12 rfl rfl h_11 dX3_comes_72 ?_
      refine lv_iload hx hb dX3_comes_73 (lv_at hl 5 rfl) ?_
      refine lv_i2l hx hb dX3_comes_75 rfl ?_
      refine lv_lmul hx hb dX3_comes_76 ?_
      refine lv_topl (fun x7_12 ex7_12 => ?_)
      have hw := hw x7_12 ex7_12
      refine lv_lstore (lv' := [(7, .long x7_12), (5, .long x5_10), (0, .ref h), (1, .int p1), (2, .int p2), (3, .int p3), (4, .int p4)]) hx hb dX3_comes_77 hl (by decide) rfl (fun ls hl => ?_)
      refine lv_lload hx hb dX3_comes_79 (lv_at hl 1 rfl) ?_
      refine lv_lload hx hb dX3_comes_81 (lv_at hl 0 rfl) ?_
      refine s_calll (As := [.long x5_10, .long x7_12]) (rest := []) ⟨hx, hb, hml, hown, hts⟩ (metX3_divisor l _ x5_10 x7_12) (va_cwS 2 hts (lw_S q1900 q1901 q85 q1902) rfl rfl rfl (by decide +kernel) ⟨Nat.le_of_ble_eq_true rfl, Nat.le_of_ble_eq_true rfl⟩) hw rfl hl.1 rfl (Nat.le_of_ble_eq_true rfl) dX3_comes_83 ⟨Nat.le_refl _, Nat.le_refl _⟩ (fun r_13 hw => ?_)
      refine lv_lstore (lv' := [(9, .long r_13), (7, .long x7_12), (5, .long x5_10), (0, .ref h), (1, .int p1), (2, .int p2), (3, .int p3), (4, .int p4)]) hx hb dX3_comes_86 hl (by decide) rfl (fun ls hl => ?_)
      refine lv_aload_n hx hb dX3_comes_88 rfl (lv_at hl 3 rfl) ?_
      refine m_get hx hb hts hown hK hP 10 (by decide) q1738 rfl dX3_comes_89 ?_
      refine lv_iload_n hx hb dX3_comes_92 rfl (lv_at hl 4 rfl) ?_
      refine lv_lload hx hb dX3_comes_93 (lv_at hl 2 rfl) ?_
      refine lv_lload hx hb dX3_comes_95 (lv_at hl 0 rfl) ?_
      obtain ⟨h_14, hw⟩ := hw
      refine lv_ldiv hx hb dX3_comes_97 h_14 ?_
      obtain ⟨h_15, hw⟩ := hw
      refine m_last (j := (Int32.toNatClampNeg p1)) hx hb hK hap hP hS 10 7 12 rfl rfl rfl h_15 dX3_comes_98 (fun H locs hP hS => ?_)
      obtain ⟨L_16, eL_16⟩ : ∃ y : mL, y = va_up L 10 (vp_updL (L 10) (Int32.toNatClampNeg p1) (x5_10 / r_13)) := ⟨_, rfl⟩
      rw [← eL_16] at hP
      have hw := hw L_16 eL_16
      refine lv_aload_n hx hb dX3_comes_99 rfl (lv_at hl 3 rfl) ?_
      refine m_get hx hb hts hown hK hP 11 (by decide) q1739 rfl dX3_comes_100 ?_
      refine lv_iload_n hx hb dX3_comes_103 rfl (lv_at hl 4 rfl) ?_
      refine lv_lload hx hb dX3_comes_104 (lv_at hl 1 rfl) ?_
      refine lv_lload hx hb dX3_comes_106 (lv_at hl 0 rfl) ?_
      obtain ⟨h_17, hw⟩ := hw
      refine lv_ldiv hx hb dX3_comes_108 h_17 ?_
      obtain ⟨h_18, hw⟩ := hw
      refine m_last (j := (Int32.toNatClampNeg p1)) hx hb hK hap hP hS 11 8 12 rfl rfl rfl h_18 dX3_comes_109 (fun H locs hP hS => ?_)
      obtain ⟨L_19, eL_19⟩ : ∃ y : mL, y = va_up L_16 11 (vp_updL (L_16 11) (Int32.toNatClampNeg p1) (x7_12 / r_13)) := ⟨_, rfl⟩
      rw [← eL_19] at hP
      have hw := hw L_19 eL_19
      exact m_vret hx hb hr hlocks hP hS dX3_comes_110 hw
  · have hw := hw.2 c_2
    exact m_vret hx hb hr hlocks hP hS dX3_comes_10 hw
def wpX3_drives_229 (post : Int32 → mF → mR → mL → mG → Prop) (J58 : Int32 → Int32 → mF → mR → mL → mG → Prop) (J96 : Int32 → Int32 → Int32 → Int32 → mF → mR → mL → mG → Prop) (x1 : Int32) (x2 : Int32) (x3 : Int32) (x4 : Int32) (F : mF) (R : mR) (L : mL) (G : mG) : Prop := (∀ x4_1 : Int32, x4_1 = x4 + 1 → J96 x1 x2 x3 x4_1 F R L G)
def wpX3_drives_96 (post : Int32 → mF → mR → mL → mG → Prop) (J58 : Int32 → Int32 → mF → mR → mL → mG → Prop) : Nat → Int32 → Int32 → Int32 → Int32 → mF → mR → mL → mG → Prop
  | 0 => fun _ _ _ _ _ _ _ _ => False
  | n + 1 => fun x1 x2 x3 x4 F R L G => (((R 0 50) ≤ x4 → (∀ x2_3 : Int32, x2_3 = x2 + 1 → J58 x1 x2_3 F R L G)) ∧ (¬ (R 0 50) ≤ x4 → (vp_in (51 + x4) 113 ∧ (∀ x5_5 : Int32, x5_5 = R 0 (Int32.toNatClampNeg (51 + x4)) → (vp_in (67 + x4) 113 ∧ (∀ x6_7 : Int32, x6_7 = R 0 (Int32.toNatClampNeg (67 + x4)) → (vp_in (26 + x5_5) 113 ∧ (((R 0 (Int32.toNatClampNeg (26 + x5_5))) = x3 → (vp_in (26 + x6_7) 113 ∧ (vp_in (2 + x5_5) 113 ∧ (vp_in (2 + x6_7) 113 ∧ wpX3_comes (fun F_22 R_23 L_24 G_25 => wpX3_drives_229 post J58 (wpX3_drives_96 post J58 n) x1 x2 x3 x4 F_22 R_23 L_24 G_25) F R L G (R 0 (Int32.toNatClampNeg (26 + x6_7))) x3 (R 0 (Int32.toNatClampNeg (2 + x5_5))) (R 0 (Int32.toNatClampNeg (2 + x6_7))))))) ∧ (¬ (R 0 (Int32.toNatClampNeg (26 + x5_5))) = x3 → (vp_in (26 + x6_7) 113 ∧ (((R 0 (Int32.toNatClampNeg (26 + x6_7))) = x3 → (vp_in (26 + x5_5) 113 ∧ (vp_in (2 + x6_7) 113 ∧ (vp_in (2 + x5_5) 113 ∧ wpX3_comes (fun F_15 R_16 L_17 G_18 => wpX3_drives_229 post J58 (wpX3_drives_96 post J58 n) x1 x2 x3 x4 F_15 R_16 L_17 G_18) F R L G (R 0 (Int32.toNatClampNeg (26 + x5_5))) x3 (R 0 (Int32.toNatClampNeg (2 + x6_7))) (R 0 (Int32.toNatClampNeg (2 + x5_5))))))) ∧ (¬ (R 0 (Int32.toNatClampNeg (26 + x6_7))) = x3 → wpX3_drives_229 post J58 (wpX3_drives_96 post J58 n) x1 x2 x3 x4 F R L G))))))))))))
def wpX3_drives_92 (post : Int32 → mF → mR → mL → mG → Prop) (J58 : Int32 → Int32 → mF → mR → mL → mG → Prop) (x2 : Int32) (x3 : Int32) (z0 : Int32) (F : mF) (R : mR) (L : mL) (G : mG) : Prop := ∃ fu : Nat, wpX3_drives_96 post J58 fu z0 x2 x3 0 F R L G
def wpX3_drives_91 (post : Int32 → mF → mR → mL → mG → Prop) (J58 : Int32 → Int32 → mF → mR → mL → mG → Prop) (x2 : Int32) (x3 : Int32) (F : mF) (R : mR) (L : mL) (G : mG) : Prop := wpX3_drives_92 post J58 x2 x3 0 F R L G
def wpX3_drives_58 (post : Int32 → mF → mR → mL → mG → Prop) : Nat → Int32 → Int32 → mF → mR → mL → mG → Prop
  | 0 => fun _ _ _ _ _ _ => False
  | n + 1 => fun x1 x2 F R L G => (((F 13) ≤ x2 → ((x1 = 0 ∨ x1 = 1) ∧ post x1 F R L G)) ∧ (¬ (F 13) ≤ x2 → (vp_in x2 12 ∧ (∀ x3_29 : Int32, x3_29 = R 12 (Int32.toNatClampNeg x2) → ((x1 = 0 → wpX3_drives_91 post (wpX3_drives_58 post n) x2 x3_29 F R L G) ∧ (¬ x1 = 0 → (vp_in x3_29 12 ∧ ((4 < (R 9 (Int32.toNatClampNeg x3_29)) → wpX3_drives_91 post (wpX3_drives_58 post n) x2 x3_29 F R L G) ∧ (¬ 4 < (R 9 (Int32.toNatClampNeg x3_29)) → wpX3_drives_92 post (wpX3_drives_58 post n) x2 x3_29 1 F R L G)))))))))
def wpX3_drives_2 (post : Int32 → mF → mR → mL → mG → Prop) : Nat → Int32 → mF → mR → mL → mG → Prop
  | 0 => fun _ _ _ _ _ => False
  | n + 1 => fun x1 F R L G => ((12 ≤ x1 → (∀ L_34 : mL, L_34 = va_up (va_up L 10 (vp_updL (L 10) 0 1)) 11 (vp_updL ((va_up L 10 (vp_updL (L 10) 0 1)) 11) 0 1) → (∀ R_35 : mR, R_35 = va_up (va_up R 9 (upd (R 9) 0 0)) 12 (upd ((va_up R 9 (upd (R 9) 0 0)) 12) 0 0) → ∃ fu : Nat, wpX3_drives_58 post fu 1 0 (va_up F 13 1) R_35 L_34 G))) ∧ (¬ 12 ≤ x1 → (vp_in x1 12 ∧ (∀ x1_37 : Int32, x1_37 = x1 + 1 → wpX3_drives_2 post n x1_37 F (va_up R 9 (upd (R 9) (Int32.toNatClampNeg x1) (-1))) L G))))
def wpX3_drives (post : Int32 → mF → mR → mL → mG → Prop) (F : mF) (R : mR) (L : mL) (G : mG) : Prop := ∃ fu : Nat, wpX3_drives_2 post fu 0 F R L G
abbrev wsX3_drives : List Cond := ws_ yX3_drives cX3_drives 7 (some .boolean)
set_option maxHeartbeats 8000000 in
theorem metX3_drives (l : Launch) (K : KT) (h : Nat) (a : Nat → Nat) (hap : mAp h a) (post : Int32 → mF → mR → mL → mG → Prop) (F : mF) (R : mR) (L : mL) (G : mG) : Met l yX3_drives wsX3_drives (rmo 2 59) (mPre K h a F R L G [] (wpX3_drives post F R L G )) (mQi post K h a) 0 0 (mA h a) := by
  refine Met.ofW (cc := cX3_drives) (maxL := 7) (ret := (some .boolean)) (by decide) rfl ?_
  intro p e s m args below meth c s₁ B hml hv
  obtain ⟨rfl, hP, hK, hw⟩ := hv
  have hx := B.exec
  have hb := B.bytes
  have hr := B.returns
  have hts := atoms_spec (ws := wsX3_drives) B.pre
  have hts : ∀ w ∈ lw_all, w.before _ s = true := fun w h => hts w (List.mem_cons_of_mem _ h)
  have hown : s.vm.findClass RX3 = some m.cls := findClass_of_methodNamed B.named
  have hlocks := B.notSynchronized
  have hl := lv_entry ([.ref h]) (n := 7) (Nat.le_of_ble_eq_true rfl)
  rw [lg_entry_eq]
  generalize (lg_sl ([.ref h]) ++ List.replicate (7 - (lg_sl ([.ref h])).length) Slot.unset).toArray = ls at hl ⊢
  have hl : lv_has ls 7 [(0, .ref h)] := hl
  have hS : va_S (mA h a) s.heap s.heap [] := va_S.rf
  have T229 : ∀ (J58 : Int32 → Int32 → mF → mR → mL → mG → Prop) (hJ58 : ∀ (x1 : Int32) (x2 : Int32) (F : mF) (R : mR) (L : mL) (G : mG) (H : Heap) (locs : List Loc) (ls : Array Slot), mP K h a F R L G H → va_S (mA h a) s.heap H locs → lv_has ls 7 [(0, .ref h), (1, .int x1), (2, .int x2)] → J58 x1 x2 F R L G → W p l e (rmo 2 59) s m ([.ref h] : List Value).toArray below meth c H locs 0 0 (MQ below (mQi post K h a) ([.ref h] : List Value).toArray s 0 0 (mA h a)) (F0 m 58 ls [])), ∀ (J96 : Int32 → Int32 → Int32 → Int32 → mF → mR → mL → mG → Prop) (hJ96 : ∀ (x1 : Int32) (x2 : Int32) (x3 : Int32) (x4 : Int32) (F : mF) (R : mR) (L : mL) (G : mG) (H : Heap) (locs : List Loc) (ls : Array Slot), mP K h a F R L G H → va_S (mA h a) s.heap H locs → lv_has ls 7 [(0, .ref h), (1, .int x1), (2, .int x2), (3, .int x3), (4, .int x4)] → J96 x1 x2 x3 x4 F R L G → W p l e (rmo 2 59) s m ([.ref h] : List Value).toArray below meth c H locs 0 0 (MQ below (mQi post K h a) ([.ref h] : List Value).toArray s 0 0 (mA h a)) (F0 m 96 ls [])), ∀ (x1 : Int32) (x2 : Int32) (x3 : Int32) (x4 : Int32) (F : mF) (R : mR) (L : mL) (G : mG) (H : Heap) (locs : List Loc) (ls : Array Slot), mP K h a F R L G H → va_S (mA h a) s.heap H locs → lv_has ls 7 [(0, .ref h), (1, .int x1), (2, .int x2), (3, .int x3), (4, .int x4)] → wpX3_drives_229 post J58 J96 x1 x2 x3 x4 F R L G → W p l e (rmo 2 59) s m ([.ref h] : List Value).toArray below meth c H locs 0 0 (MQ below (mQi post K h a) ([.ref h] : List Value).toArray s 0 0 (mA h a)) (F0 m 229 ls []) := by
    intro J58 hJ58 J96 hJ96
    intro x1 x2 x3 x4 F R L G H locs ls hP hS hl hw
    unfold wpX3_drives_229 at hw
    obtain ⟨x4_1, ex4_1⟩ : ∃ y : Int32, y = x4 + 1 := ⟨_, rfl⟩
    have hw := hw x4_1 ex4_1
    refine lv_iinc (v := x4_1) (lv' := [(4, .int x4_1), (0, .ref h), (1, .int x1), (2, .int x2), (3, .int x3)]) hx hb dX3_drives_229 hl (k := 4) rfl (by rw [ex4_1]; rfl) (by decide) rfl (fun ls hl => ?_)
    refine lv_goto (tgt := 96) hx hb dX3_drives_232 (by decide) ?_
    exact hJ96 x1 x2 x3 x4_1 F R L G _ _ ls hP hS (lv_sub hl [1, 2, 3, 4, 0] rfl) hw
  have T96 : ∀ (J58 : Int32 → Int32 → mF → mR → mL → mG → Prop) (hJ58 : ∀ (x1 : Int32) (x2 : Int32) (F : mF) (R : mR) (L : mL) (G : mG) (H : Heap) (locs : List Loc) (ls : Array Slot), mP K h a F R L G H → va_S (mA h a) s.heap H locs → lv_has ls 7 [(0, .ref h), (1, .int x1), (2, .int x2)] → J58 x1 x2 F R L G → W p l e (rmo 2 59) s m ([.ref h] : List Value).toArray below meth c H locs 0 0 (MQ below (mQi post K h a) ([.ref h] : List Value).toArray s 0 0 (mA h a)) (F0 m 58 ls [])), ∀ (n : Nat), ∀ (x1 : Int32) (x2 : Int32) (x3 : Int32) (x4 : Int32) (F : mF) (R : mR) (L : mL) (G : mG) (H : Heap) (locs : List Loc) (ls : Array Slot), mP K h a F R L G H → va_S (mA h a) s.heap H locs → lv_has ls 7 [(0, .ref h), (1, .int x1), (2, .int x2), (3, .int x3), (4, .int x4)] → wpX3_drives_96 post J58 n x1 x2 x3 x4 F R L G → W p l e (rmo 2 59) s m ([.ref h] : List Value).toArray below meth c H locs 0 0 (MQ below (mQi post K h a) ([.ref h] : List Value).toArray s 0 0 (mA h a)) (F0 m 96 ls []) := by
    intro J58 hJ58
    intro n
    induction n with
    | zero =>
      intro x1 x2 x3 x4 F R L G H locs ls hP hS hl hw
      exact False.elim hw
    | succ n ih =>
      intro x1 x2 x3 x4 F R L G H locs ls hP hS hl hw
      unfold wpX3_drives_96 at hw
      refine lv_iload hx hb dX3_drives_96 (lv_at hl 4 rfl) ?_
      refine lv_aload_n hx hb dX3_drives_98 rfl (lv_at hl 0 rfl) ?_
      refine m_get hx hb hts hown hK hP 0 (by decide) q1728 rfl dX3_drives_99 ?_
      refine lv_bipush (v := 50) hx hb dX3_drives_102 (by decide) ?_
      refine m_iald (j := 50) hx hb hK hP 0 1 113 rfl (by decide) (vpd (by decide)) dX3_drives_104 ?_
      refine lv_icmp_ge (tgt := 235) hx hb dX3_drives_105 (by decide) (fun c_2 => ?_) (fun c_2 => ?_)
      · have hw := hw.1 c_2
        obtain ⟨x2_3, ex2_3⟩ : ∃ y : Int32, y = x2 + 1 := ⟨_, rfl⟩
        have hw := hw x2_3 ex2_3
        refine lv_iinc (v := x2_3) (lv' := [(2, .int x2_3), (0, .ref h), (1, .int x1), (3, .int x3), (4, .int x4)]) hx hb dX3_drives_235 hl (k := 2) rfl (by rw [ex2_3]; rfl) (by decide) rfl (fun ls hl => ?_)
        refine lv_goto (tgt := 58) hx hb dX3_drives_238 (by decide) ?_
        exact hJ58 x1 x2_3 F R L G _ _ ls hP hS (lv_sub hl [1, 2, 0] rfl) hw
      · have hw := hw.2 c_2
        refine lv_aload_n hx hb dX3_drives_108 rfl (lv_at hl 0 rfl) ?_
        refine m_get hx hb hts hown hK hP 0 (by decide) q1728 rfl dX3_drives_109 ?_
        refine lv_bipush (v := 51) hx hb dX3_drives_112 (by decide) ?_
        refine lv_iload hx hb dX3_drives_114 (lv_at hl 4 rfl) ?_
        refine lv_iadd hx hb dX3_drives_116 ?_
        obtain ⟨h_4, hw⟩ := hw
        refine m_iald (j := (Int32.toNatClampNeg (51 + x4))) hx hb hK hP 0 1 113 rfl rfl h_4 dX3_drives_117 ?_
        refine lv_topi (fun x5_5 ex5_5 => ?_)
        have hw := hw x5_5 ex5_5
        refine lv_istore (lv' := [(5, .int x5_5), (0, .ref h), (1, .int x1), (2, .int x2), (3, .int x3), (4, .int x4)]) hx hb dX3_drives_118 hl (by decide) rfl (fun ls hl => ?_)
        refine lv_aload_n hx hb dX3_drives_120 rfl (lv_at hl 1 rfl) ?_
        refine m_get hx hb hts hown hK hP 0 (by decide) q1728 rfl dX3_drives_121 ?_
        refine lv_bipush (v := 67) hx hb dX3_drives_124 (by decide) ?_
        refine lv_iload hx hb dX3_drives_126 (lv_at hl 5 rfl) ?_
        refine lv_iadd hx hb dX3_drives_128 ?_
        obtain ⟨h_6, hw⟩ := hw
        refine m_iald (j := (Int32.toNatClampNeg (67 + x4))) hx hb hK hP 0 1 113 rfl rfl h_6 dX3_drives_129 ?_
        refine lv_topi (fun x6_7 ex6_7 => ?_)
        have hw := hw x6_7 ex6_7
        refine lv_istore (lv' := [(6, .int x6_7), (5, .int x5_5), (0, .ref h), (1, .int x1), (2, .int x2), (3, .int x3), (4, .int x4)]) hx hb dX3_drives_130 hl (by decide) rfl (fun ls hl => ?_)
        refine lv_aload_n hx hb dX3_drives_132 rfl (lv_at hl 2 rfl) ?_
        refine m_get hx hb hts hown hK hP 0 (by decide) q1728 rfl dX3_drives_133 ?_
        refine lv_bipush (v := 26) hx hb dX3_drives_136 (by decide) ?_
        refine lv_iload hx hb dX3_drives_138 (lv_at hl 1 rfl) ?_
        refine lv_iadd hx hb dX3_drives_140 ?_
        obtain ⟨h_8, hw⟩ := hw
        refine m_iald (j := (Int32.toNatClampNeg (26 + x5_5))) hx hb hK hP 0 1 113 rfl rfl h_8 dX3_drives_141 ?_
        refine lv_iload_n hx hb dX3_drives_142 rfl (lv_at hl 5 rfl) ?_
        refine lv_icmp_ne (tgt := 182) hx hb dX3_drives_143 (by decide) (fun c_9 => ?_) (fun c_9 => ?_)
        · have hw := hw.2 (c_9)
          refine lv_aload_n hx hb dX3_drives_182 rfl (lv_at hl 2 rfl) ?_
          refine m_get hx hb hts hown hK hP 0 (by decide) q1728 rfl dX3_drives_183 ?_
          refine lv_bipush (v := 26) hx hb dX3_drives_186 (by decide) ?_
          refine lv_iload hx hb dX3_drives_188 (lv_at hl 0 rfl) ?_
          refine lv_iadd hx hb dX3_drives_190 ?_
          obtain ⟨h_10, hw⟩ := hw
          refine m_iald (j := (Int32.toNatClampNeg (26 + x6_7))) hx hb hK hP 0 1 113 rfl rfl h_10 dX3_drives_191 ?_
          refine lv_iload_n hx hb dX3_drives_192 rfl (lv_at hl 5 rfl) ?_
          refine lv_icmp_ne (tgt := 229) hx hb dX3_drives_193 (by decide) (fun c_11 => ?_) (fun c_11 => ?_)
          · have hw := hw.2 (c_11)
            exact T229 _ hJ58 _ ih x1 x2 x3 x4 F R L G _ _ ls hP hS (lv_sub hl [2, 3, 4, 5, 6] rfl) hw
          · have hw := hw.1 (c_11)
            refine lv_aload_n hx hb dX3_drives_196 rfl (lv_at hl 2 rfl) ?_
            refine lv_aload_n hx hb dX3_drives_197 rfl (lv_at hl 2 rfl) ?_
            refine m_get hx hb hts hown hK hP 0 (by decide) q1728 rfl dX3_drives_198 ?_
            refine lv_bipush (v := 26) hx hb dX3_drives_201 (by decide) ?_
            refine lv_iload hx hb dX3_drives_203 (lv_at hl 1 rfl) ?_
            refine lv_iadd hx hb dX3_drives_205 ?_
            obtain ⟨h_12, hw⟩ := hw
            refine m_iald (j := (Int32.toNatClampNeg (26 + x5_5))) hx hb hK hP 0 1 113 rfl rfl h_12 dX3_drives_206 ?_
            refine lv_iload_n hx hb dX3_drives_207 rfl (lv_at hl 5 rfl) ?_
            refine lv_aload_n hx hb dX3_drives_208 rfl (lv_at hl 2 rfl) ?_
            refine m_get hx hb hts hown hK hP 0 (by decide) q1728 rfl dX3_drives_209 ?_
            refine lv_iconst (v := 2) hx hb dX3_drives_212 (by decide) ?_
            refine lv_iload hx hb dX3_drives_213 (lv_at hl 0 rfl) ?_
            refine lv_iadd hx hb dX3_drives_215 ?_
            obtain ⟨h_13, hw⟩ := hw
            refine m_iald (j := (Int32.toNatClampNeg (2 + x6_7))) hx hb hK hP 0 1 113 rfl rfl h_13 dX3_drives_216 ?_
            refine lv_aload_n hx hb dX3_drives_217 rfl (lv_at hl 2 rfl) ?_
            refine m_get hx hb hts hown hK hP 0 (by decide) q1728 rfl dX3_drives_218 ?_
            refine lv_iconst (v := 2) hx hb dX3_drives_221 (by decide) ?_
            refine lv_iload hx hb dX3_drives_222 (lv_at hl 1 rfl) ?_
            refine lv_iadd hx hb dX3_drives_224 ?_
            obtain ⟨h_14, hw⟩ := hw
            refine m_iald (j := (Int32.toNatClampNeg (2 + x5_5))) hx hb hK hP 0 1 113 rfl rfl h_14 dX3_drives_225 ?_
            refine m_callv (As := [.int (R 0 (Int32.toNatClampNeg (26 + x5_5))), .int x3, .int (R 0 (Int32.toNatClampNeg (2 + x6_7))), .int (R 0 (Int32.toNatClampNeg (2 + x5_5)))]) (rest := []) ⟨hx, hb, hml, hown, hts⟩ (metX3_comes l K h a hap _ F R L G (R 0 (Int32.toNatClampNeg (26 + x5_5))) x3 (R 0 (Int32.toNatClampNeg (2 + x6_7))) (R 0 (Int32.toNatClampNeg (2 + x5_5)))) (cwV 4 hts (lw_V q1896 q1898 qs38 q85 q1899) rfl rfl rfl (by decide +kernel) ⟨Nat.le_of_ble_eq_true rfl, Nat.le_of_ble_eq_true rfl⟩) hK hP hS hw rfl hl.1 rfl (Nat.le_of_ble_eq_true rfl) dX3_drives_226 ⟨Nat.le_refl _, Nat.le_refl _⟩ (fun F_15 R_16 L_17 G_18 H locs hw hP hS => ?_)
            exact T229 _ hJ58 _ ih x1 x2 x3 x4 F_15 R_16 L_17 G_18 _ _ ls hP hS (lv_sub hl [2, 3, 4, 5, 6] rfl) hw
        · have hw := hw.1 (c_9)
          refine lv_aload_n hx hb dX3_drives_146 rfl (lv_at hl 2 rfl) ?_
          refine lv_aload_n hx hb dX3_drives_147 rfl (lv_at hl 2 rfl) ?_
          refine m_get hx hb hts hown hK hP 0 (by decide) q1728 rfl dX3_drives_148 ?_
          refine lv_bipush (v := 26) hx hb dX3_drives_151 (by decide) ?_
          refine lv_iload hx hb dX3_drives_153 (lv_at hl 0 rfl) ?_
          refine lv_iadd hx hb dX3_drives_155 ?_
          obtain ⟨h_19, hw⟩ := hw
          refine m_iald (j := (Int32.toNatClampNeg (26 + x6_7))) hx hb hK hP 0 1 113 rfl rfl h_19 dX3_drives_156 ?_
          refine lv_iload_n hx hb dX3_drives_157 rfl (lv_at hl 5 rfl) ?_
          refine lv_aload_n hx hb dX3_drives_158 rfl (lv_at hl 2 rfl) ?_
          refine m_get hx hb hts hown hK hP 0 (by decide) q1728 rfl dX3_drives_159 ?_
          refine lv_iconst (v := 2) hx hb dX3_drives_162 (by decide) ?_
          refine lv_iload hx hb dX3_drives_163 (lv_at hl 1 rfl) ?_
          refine lv_iadd hx hb dX3_drives_165 ?_
          obtain ⟨h_20, hw⟩ := hw
          refine m_iald (j := (Int32.toNatClampNeg (2 + x5_5))) hx hb hK hP 0 1 113 rfl rfl h_20 dX3_drives_166 ?_
          refine lv_aload_n hx hb dX3_drives_167 rfl (lv_at hl 2 rfl) ?_
          refine m_get hx hb hts hown hK hP 0 (by decide) q1728 rfl dX3_drives_168 ?_
          refine lv_iconst (v := 2) hx hb dX3_drives_171 (by decide) ?_
          refine lv_iload hx hb dX3_drives_172 (lv_at hl 0 rfl) ?_
          refine lv_iadd hx hb dX3_drives_174 ?_
          obtain ⟨h_21, hw⟩ := hw
          refine m_iald (j := (Int32.toNatClampNeg (2 + x6_7))) hx hb hK hP 0 1 113 rfl rfl h_21 dX3_drives_175 ?_
          refine m_callv (As := [.int (R 0 (Int32.toNatClampNeg (26 + x6_7))), .int x3, .int (R 0 (Int32.toNatClampNeg (2 + x5_5))), .int (R 0 (Int32.toNatClampNeg (2 + x6_7)))]) (rest := []) ⟨hx, hb, hml, hown, hts⟩ (metX3_comes l K h a hap _ F R L G (R 0 (Int32.toNatClampNeg (26 + x6_7))) x3 (R 0 (Int32.toNatClampNeg (2 + x5_5))) (R 0 (Int32.toNatClampNeg (2 + x6_7)))) (cwV 4 hts (lw_V q1896 q1898 qs38 q85 q1899) rfl rfl rfl (by decide +kernel) ⟨Nat.le_of_ble_eq_true rfl, Nat.le_of_ble_eq_true rfl⟩) hK hP hS hw rfl hl.1 rfl (Nat.le_of_ble_eq_true rfl) dX3_drives_176 ⟨Nat.le_refl _, Nat.le_refl _⟩ (fun F_22 R_23 L_24 G_25 H locs hw hP hS => ?_)
          refine lv_goto (tgt := 229) hx hb dX3_drives_179 (by decide) ?_
          exact T229 _ hJ58 _ ih x1 x2 x3 x4 F_22 R_23 L_24 G_25 _ _ ls hP hS (lv_sub hl [2, 3, 4, 5, 6] rfl) hw
  have T92 : ∀ (J58 : Int32 → Int32 → mF → mR → mL → mG → Prop) (hJ58 : ∀ (x1 : Int32) (x2 : Int32) (F : mF) (R : mR) (L : mL) (G : mG) (H : Heap) (locs : List Loc) (ls : Array Slot), mP K h a F R L G H → va_S (mA h a) s.heap H locs → lv_has ls 7 [(0, .ref h), (1, .int x1), (2, .int x2)] → J58 x1 x2 F R L G → W p l e (rmo 2 59) s m ([.ref h] : List Value).toArray below meth c H locs 0 0 (MQ below (mQi post K h a) ([.ref h] : List Value).toArray s 0 0 (mA h a)) (F0 m 58 ls [])), ∀ (x2 : Int32) (x3 : Int32) (z0 : Int32) (F : mF) (R : mR) (L : mL) (G : mG) (H : Heap) (locs : List Loc) (ls : Array Slot), mP K h a F R L G H → va_S (mA h a) s.heap H locs → lv_has ls 7 [(0, .ref h), (2, .int x2), (3, .int x3)] → wpX3_drives_92 post J58 x2 x3 z0 F R L G → W p l e (rmo 2 59) s m ([.ref h] : List Value).toArray below meth c H locs 0 0 (MQ below (mQi post K h a) ([.ref h] : List Value).toArray s 0 0 (mA h a)) (F0 m 92 ls [.int z0]) := by
    intro J58 hJ58
    intro x2 x3 z0 F R L G H locs ls hP hS hl hw
    unfold wpX3_drives_92 at hw
    refine lv_istore_n (lv' := [(1, .int z0), (0, .ref h), (2, .int x2), (3, .int x3)]) hx hb dX3_drives_92 rfl hl (by decide) rfl (fun ls hl => ?_)
    refine lv_iconst (v := 0) hx hb dX3_drives_93 (by decide) ?_
    refine lv_istore (lv' := [(4, .int 0), (1, .int z0), (0, .ref h), (2, .int x2), (3, .int x3)]) hx hb dX3_drives_94 hl (by decide) rfl (fun ls hl => ?_)
    obtain ⟨fu, hw⟩ := hw
    exact T96 _ hJ58 fu z0 x2 x3 0 F R L G _ _ ls hP hS (lv_sub hl [2, 1, 3, 4, 0] rfl) hw
  have T91 : ∀ (J58 : Int32 → Int32 → mF → mR → mL → mG → Prop) (hJ58 : ∀ (x1 : Int32) (x2 : Int32) (F : mF) (R : mR) (L : mL) (G : mG) (H : Heap) (locs : List Loc) (ls : Array Slot), mP K h a F R L G H → va_S (mA h a) s.heap H locs → lv_has ls 7 [(0, .ref h), (1, .int x1), (2, .int x2)] → J58 x1 x2 F R L G → W p l e (rmo 2 59) s m ([.ref h] : List Value).toArray below meth c H locs 0 0 (MQ below (mQi post K h a) ([.ref h] : List Value).toArray s 0 0 (mA h a)) (F0 m 58 ls [])), ∀ (x2 : Int32) (x3 : Int32) (F : mF) (R : mR) (L : mL) (G : mG) (H : Heap) (locs : List Loc) (ls : Array Slot), mP K h a F R L G H → va_S (mA h a) s.heap H locs → lv_has ls 7 [(0, .ref h), (2, .int x2), (3, .int x3)] → wpX3_drives_91 post J58 x2 x3 F R L G → W p l e (rmo 2 59) s m ([.ref h] : List Value).toArray below meth c H locs 0 0 (MQ below (mQi post K h a) ([.ref h] : List Value).toArray s 0 0 (mA h a)) (F0 m 91 ls []) := by
    intro J58 hJ58
    intro x2 x3 F R L G H locs ls hP hS hl hw
    unfold wpX3_drives_91 at hw
    refine lv_iconst (v := 0) hx hb dX3_drives_91 (by decide) ?_
    exact T92 _ hJ58 x2 x3 0 F R L G _ _ ls hP hS (lv_sub hl [0, 1, 2] rfl) hw
  have T58 : ∀ (n : Nat), ∀ (x1 : Int32) (x2 : Int32) (F : mF) (R : mR) (L : mL) (G : mG) (H : Heap) (locs : List Loc) (ls : Array Slot), mP K h a F R L G H → va_S (mA h a) s.heap H locs → lv_has ls 7 [(0, .ref h), (1, .int x1), (2, .int x2)] → wpX3_drives_58 post n x1 x2 F R L G → W p l e (rmo 2 59) s m ([.ref h] : List Value).toArray below meth c H locs 0 0 (MQ below (mQi post K h a) ([.ref h] : List Value).toArray s 0 0 (mA h a)) (F0 m 58 ls []) := by
    intro n
    induction n with
    | zero =>
      intro x1 x2 F R L G H locs ls hP hS hl hw
      exact False.elim hw
    | succ n ih =>
      intro x1 x2 F R L G H locs ls hP hS hl hw
      unfold wpX3_drives_58 at hw
      refine lv_iload_n hx hb dX3_drives_58 rfl (lv_at hl 2 rfl) ?_
      refine lv_aload_n hx hb dX3_drives_59 rfl (lv_at hl 0 rfl) ?_
      refine m_get hx hb hts hown hK hP 13 (by decide) q1741 rfl dX3_drives_60 ?_
      refine lv_icmp_ge (tgt := 241) hx hb dX3_drives_63 (by decide) (fun c_26 => ?_) (fun c_26 => ?_)
      · have hw := hw.1 c_26
        refine lv_iload_n hx hb dX3_drives_241 rfl (lv_at hl 1 rfl) ?_
        obtain ⟨h_27, hw⟩ := hw
        exact m_zret hx hb hr hlocks hP hS dX3_drives_242 h_27 hw
      · have hw := hw.2 c_26
        refine lv_aload_n hx hb dX3_drives_66 rfl (lv_at hl 0 rfl) ?_
        refine m_get hx hb hts hown hK hP 12 (by decide) q1740 rfl dX3_drives_67 ?_
        refine lv_iload_n hx hb dX3_drives_70 rfl (lv_at hl 2 rfl) ?_
        obtain ⟨h_28, hw⟩ := hw
        refine m_iald (j := (Int32.toNatClampNeg x2)) hx hb hK hP 12 9 12 rfl rfl h_28 dX3_drives_71 ?_
        refine lv_topi (fun x3_29 ex3_29 => ?_)
        have hw := hw x3_29 ex3_29
        refine lv_istore_n (lv' := [(3, .int x3_29), (0, .ref h), (1, .int x1), (2, .int x2)]) hx hb dX3_drives_72 rfl hl (by decide) rfl (fun ls hl => ?_)
        refine lv_iload_n hx hb dX3_drives_73 rfl (lv_at hl 2 rfl) ?_
        refine lv_if_eq (tgt := 91) hx hb dX3_drives_74 (by decide) (fun c_30 => ?_) (fun c_30 => ?_)
        · have hw := hw.1 c_30
          exact T91 _ ih x2 x3_29 F R L G _ _ ls hP hS (lv_sub hl [1, 3, 0] rfl) hw
        · have hw := hw.2 c_30
          refine lv_aload_n hx hb dX3_drives_77 rfl (lv_at hl 1 rfl) ?_
          refine m_get hx hb hts hown hK hP 9 (by decide) q1737 rfl dX3_drives_78 ?_
          refine lv_iload_n hx hb dX3_drives_81 rfl (lv_at hl 0 rfl) ?_
          obtain ⟨h_31, hw⟩ := hw
          refine m_iald (j := (Int32.toNatClampNeg x3_29)) hx hb hK hP 9 6 12 rfl rfl h_31 dX3_drives_82 ?_
          refine lv_iconst (v := 4) hx hb dX3_drives_83 (by decide) ?_
          refine lv_icmp_gt (tgt := 91) hx hb dX3_drives_84 (by decide) (fun c_32 => ?_) (fun c_32 => ?_)
          · have hw := hw.1 c_32
            exact T91 _ ih x2 x3_29 F R L G _ _ ls hP hS (lv_sub hl [1, 3, 0] rfl) hw
          · have hw := hw.2 c_32
            refine lv_iconst (v := 1) hx hb dX3_drives_87 (by decide) ?_
            refine lv_goto (tgt := 92) hx hb dX3_drives_88 (by decide) ?_
            exact T92 _ ih x2 x3_29 1 F R L G _ _ ls hP hS (lv_sub hl [1, 3, 0] rfl) hw
  have T2 : ∀ (n : Nat), ∀ (x1 : Int32) (F : mF) (R : mR) (L : mL) (G : mG) (H : Heap) (locs : List Loc) (ls : Array Slot), mP K h a F R L G H → va_S (mA h a) s.heap H locs → lv_has ls 7 [(0, .ref h), (1, .int x1)] → wpX3_drives_2 post n x1 F R L G → W p l e (rmo 2 59) s m ([.ref h] : List Value).toArray below meth c H locs 0 0 (MQ below (mQi post K h a) ([.ref h] : List Value).toArray s 0 0 (mA h a)) (F0 m 2 ls []) := by
    intro n
    induction n with
    | zero =>
      intro x1 F R L G H locs ls hP hS hl hw
      exact False.elim hw
    | succ n ih =>
      intro x1 F R L G H locs ls hP hS hl hw
      unfold wpX3_drives_2 at hw
      refine lv_iload_n hx hb dX3_drives_2 rfl (lv_at hl 1 rfl) ?_
      refine lv_bipush (v := 12) hx hb dX3_drives_3 (by decide) ?_
      refine lv_icmp_ge (tgt := 21) hx hb dX3_drives_5 (by decide) (fun c_33 => ?_) (fun c_33 => ?_)
      · have hw := hw.1 c_33
        refine lv_aload_n hx hb dX3_drives_21 rfl (lv_at hl 0 rfl) ?_
        refine m_get hx hb hts hown hK hP 9 (by decide) q1737 rfl dX3_drives_22 ?_
        refine lv_iconst (v := 0) hx hb dX3_drives_25 (by decide) ?_
        refine lv_iconst (v := 0) hx hb dX3_drives_26 (by decide) ?_
        refine m_iast (j := 0) hx hb hK hap hP hS 9 6 12 rfl (by decide) rfl (vpd (by decide)) dX3_drives_27 (fun H locs hP hS => ?_)
        refine lv_aload_n hx hb dX3_drives_28 rfl (lv_at hl 0 rfl) ?_
        refine m_get hx hb hts hown hK hP 10 (by decide) q1738 rfl dX3_drives_29 ?_
        refine lv_iconst (v := 0) hx hb dX3_drives_32 (by decide) ?_
        refine lv_lconst (v := 1) hx hb dX3_drives_33 (by decide) ?_
        refine m_last (j := 0) hx hb hK hap hP hS 10 7 12 rfl (by decide) rfl (vpd (by decide)) dX3_drives_34 (fun H locs hP hS => ?_)
        refine lv_aload_n hx hb dX3_drives_35 rfl (lv_at hl 0 rfl) ?_
        refine m_get hx hb hts hown hK hP 11 (by decide) q1739 rfl dX3_drives_36 ?_
        refine lv_iconst (v := 0) hx hb dX3_drives_39 (by decide) ?_
        refine lv_lconst (v := 1) hx hb dX3_drives_40 (by decide) ?_
        refine m_last (j := 0) hx hb hK hap hP hS 11 8 12 rfl (by decide) rfl (vpd (by decide)) dX3_drives_41 (fun H locs hP hS => ?_)
        obtain ⟨L_34, eL_34⟩ : ∃ y : mL, y = va_up (va_up L 10 (vp_updL (L 10) 0 1)) 11 (vp_updL ((va_up L 10 (vp_updL (L 10) 0 1)) 11) 0 1) := ⟨_, rfl⟩
        rw [← eL_34] at hP
        have hw := hw L_34 eL_34
        refine lv_aload_n hx hb dX3_drives_42 rfl (lv_at hl 0 rfl) ?_
        refine m_get hx hb hts hown hK hP 12 (by decide) q1740 rfl dX3_drives_43 ?_
        refine lv_iconst (v := 0) hx hb dX3_drives_46 (by decide) ?_
        refine lv_iconst (v := 0) hx hb dX3_drives_47 (by decide) ?_
        refine m_iast (j := 0) hx hb hK hap hP hS 12 9 12 rfl (by decide) rfl (vpd (by decide)) dX3_drives_48 (fun H locs hP hS => ?_)
        obtain ⟨R_35, eR_35⟩ : ∃ y : mR, y = va_up (va_up R 9 (upd (R 9) 0 0)) 12 (upd ((va_up R 9 (upd (R 9) 0 0)) 12) 0 0) := ⟨_, rfl⟩
        rw [← eR_35] at hP
        have hw := hw R_35 eR_35
        refine lv_aload_n hx hb dX3_drives_49 rfl (lv_at hl 0 rfl) ?_
        refine lv_iconst (v := 1) hx hb dX3_drives_50 (by decide) ?_
        refine m_puti hx hb hts hown hK hap hP hS 13 (by decide) q1741 rfl rfl rfl rfl dX3_drives_51 (fun H locs hP hS => ?_)
        refine lv_iconst (v := 1) hx hb dX3_drives_54 (by decide) ?_
        refine lv_istore_n (lv' := [(1, .int 1), (0, .ref h)]) hx hb dX3_drives_55 rfl hl (by decide) rfl (fun ls hl => ?_)
        refine lv_iconst (v := 0) hx hb dX3_drives_56 (by decide) ?_
        refine lv_istore_n (lv' := [(2, .int 0), (1, .int 1), (0, .ref h)]) hx hb dX3_drives_57 rfl hl (by decide) rfl (fun ls hl => ?_)
        obtain ⟨fu, hw⟩ := hw
        exact T58 fu 1 0 (va_up F 13 1) R_35 L_34 G _ _ ls hP hS (lv_sub hl [2, 1, 0] rfl) hw
      · have hw := hw.2 c_33
        refine lv_aload_n hx hb dX3_drives_8 rfl (lv_at hl 0 rfl) ?_
        refine m_get hx hb hts hown hK hP 9 (by decide) q1737 rfl dX3_drives_9 ?_
        refine lv_iload_n hx hb dX3_drives_12 rfl (lv_at hl 1 rfl) ?_
        refine lv_iconst (v := (-1)) hx hb dX3_drives_13 (by decide) ?_
        obtain ⟨h_36, hw⟩ := hw
        refine m_iast (j := (Int32.toNatClampNeg x1)) hx hb hK hap hP hS 9 6 12 rfl rfl rfl h_36 dX3_drives_14 (fun H locs hP hS => ?_)
        obtain ⟨x1_37, ex1_37⟩ : ∃ y : Int32, y = x1 + 1 := ⟨_, rfl⟩
        have hw := hw x1_37 ex1_37
        refine lv_iinc (v := x1_37) (lv' := [(1, .int x1_37), (0, .ref h)]) hx hb dX3_drives_15 hl (k := 1) rfl (by rw [ex1_37]; rfl) (by decide) rfl (fun ls hl => ?_)
        refine lv_goto (tgt := 2) hx hb dX3_drives_18 (by decide) ?_
        exact ih x1_37 F (va_up R 9 (upd (R 9) (Int32.toNatClampNeg x1) (-1))) L G _ _ ls hP hS (lv_sub hl [1, 0] rfl) hw
  unfold wpX3_drives at hw
  refine lv_iconst (v := 0) hx hb dX3_drives_0 (by decide) ?_
  refine lv_istore_n (lv' := [(1, .int 0), (0, .ref h)]) hx hb dX3_drives_1 rfl hl (by decide) rfl (fun ls hl => ?_)
  obtain ⟨fu, hw⟩ := hw
  exact T2 fu 0 F R L G _ _ ls hP hS (lv_sub hl [1, 0] rfl) hw

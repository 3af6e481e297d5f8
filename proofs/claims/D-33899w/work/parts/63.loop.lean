/-! THE LAW, walked by program: its loop -/
set_option maxRecDepth 100000
def wpL_373 (E mc ms N : Nat) (xs : Nat → Int32) (J28 : Nat → Nat → Nat → Int32 → hX → mF → mR → mL → mG → Nat → Nat → Prop) (x1 : Nat) (x3 : Nat) (x4 : Nat) (x5 : Int32) (X : hX) (F : mF) (R : mR) (L : mL) (G : mG) (kc ks : Nat) : Prop := (∀ x5_1 : Int32, x5_1 = x5 + 5 → J28 x1 x3 x4 x5_1 X F R L G kc ks)
set_option maxHeartbeats 8000000 in
theorem Tl373 {p : Program} {e : Env} {s : State} {m : MethodId} {below : List Frame} {meth : Method} {c : Code} (l : Launch) (hlt : l.stackTraces = false) (K : HK) {b N : Nat} {xs : Nat → Int32} (X0 : hX) (hF : CallFix p m c code 9 s #[Value.ref b] lw_all R_law) (hr : meth.sig.returnType = ret) (hlocks : meth.locks = false) (hC : HC K X0 s) (hx : va_X b N xs s s.heap) (hbl : b < s.heap.size) (hA0 : ∀ q, hA X0 s.heap.size q → s.heap.size ≤ q) (h : Nat) (a : Nat → Nat) (hap : mAp h a) (hmA : ∀ q, mA h a q → hA X0 s.heap.size q) (J28 : Nat → Nat → Nat → Int32 → hX → mF → mR → mL → mG → Nat → Nat → Prop) (hJ28 : ∀ (x1 : Nat) (x3 : Nat) (x4 : Nat) (x5 : Int32) (X : hX) (F : mF) (R : mR) (L : mL) (G : mG) (kc ks : Nat) (H : Heap) (locs : List Loc) (ls : Array Slot), hI K X0 s.heap.size X H → mP K.1 h a F R L G H → hdis X h a → va_S (hA X0 s.heap.size) s.heap H locs → kc ≤ 1200048 ∧ ks ≤ 5501818 → lv_has ls 9 [(0, .ref b), (1, .ref x1), (2, .ref h), (3, .ref x3), (4, .ref x4), (5, .int x5)] → J28 x1 x3 x4 x5 X F R L G kc ks → W p l e room_1 s m #[Value.ref b] below meth c H locs kc ks (lw_Z below #[Value.ref b] s) (F0 m 28 ls [])) : ∀ (x1 : Nat) (x3 : Nat) (x4 : Nat) (x5 : Int32) (X : hX) (F : mF) (R : mR) (L : mL) (G : mG) (kc ks : Nat) (H : Heap) (locs : List Loc) (ls : Array Slot), hI K X0 s.heap.size X H → mP K.1 h a F R L G H → hdis X h a → va_S (hA X0 s.heap.size) s.heap H locs → kc ≤ 1200048 ∧ ks ≤ 5501818 → lv_has ls 9 [(0, .ref b), (1, .ref x1), (2, .ref h), (3, .ref x3), (4, .ref x4), (5, .int x5)] → wpL_373 (K.2.2 0) 1200048 5501818 N xs J28 x1 x3 x4 x5 X F R L G kc ks → W p l e room_1 s m #[Value.ref b] below meth c H locs kc ks (lw_Z below #[Value.ref b] s) (F0 m 373 ls []) := by
  have hbA : ¬ hA X0 s.heap.size b := fun z => Nat.not_lt.mpr (hA0 b z) hbl
  intro x1 x3 x4 x5 X F R L G kc ks H locs ls hP hM hD hS hk hl hw
  unfold wpL_373 at hw
  refine lv_goto (tgt := 3714) hF.1 hF.2.1 dL_law_373 (by decide) ?_
  obtain ⟨x5_1, ex5_1⟩ : ∃ y : Int32, y = x5 + 5 := ⟨_, rfl⟩
  have hw := hw x5_1 ex5_1
  refine lv_iinc (v := x5_1) (lv' := [(5, .int x5_1), (0, .ref b), (1, .ref x1), (2, .ref h), (3, .ref x3), (4, .ref x4)]) hF.1 hF.2.1 dL_law_3714 hl (k := 5) rfl (by rw [ex5_1]; rfl) (by decide) rfl (fun ls hl => ?_)
  refine lv_goto (tgt := 28) hF.1 hF.2.1 dL_law_3717 (by decide) ?_
  exact hJ28 x1 x3 x4 x5_1 X F R L G kc ks _ _ ls hP hM hD hS hk (lv_sub hl [1, 2, 3, 4, 5, 0] rfl) hw
def wpL_332 (E mc ms N : Nat) (xs : Nat → Int32) (J28 : Nat → Nat → Nat → Int32 → hX → mF → mR → mL → mG → Nat → Nat → Prop) (x1 : Nat) (x3 : Nat) (x4 : Nat) (x5 : Int32) (X : hX) (F : mF) (R : mR) (L : mL) (G : mG) (kc ks : Nat) : Prop := (∃ mc_4 ms_5 : Nat, kc + mc_4 ≤ mc ∧ ks + ms_5 ≤ ms ∧ wpX0_addAxle (fun r_2 X_3 => wpX3_addAxle (fun r_8 F_9 R_10 L_11 G_12 => wpX3_thrown (fun r_13 F_14 R_15 L_16 G_17 => ((r_13 = r_2 → ((r_2 = 0 → alJ X_3 x3 0 (fun v_24 => ((v_24 = (Int32.toInt64 r_8) → wpL_373 E mc ms N xs J28 x1 x3 x4 x5 X_3 F_14 R_15 L_16 G_17 (kc + mc_4) (ks + ms_5)) ∧ (¬ v_24 = (Int32.toInt64 r_8) → (0 : Int32) = 1)))) ∧ (¬ r_2 = 0 → wpL_373 E mc ms N xs J28 x1 x3 x4 x5 X_3 F_14 R_15 L_16 G_17 (kc + mc_4) (ks + ms_5)))) ∧ (¬ r_13 = r_2 → (0 : Int32) = 1))) F_9 R_10 L_11 G_12) F R L G) (fun _ _ _ => False) E mc_4 ms_5 X x1 x3)
set_option maxHeartbeats 8000000 in
theorem Tl332 {p : Program} {e : Env} {s : State} {m : MethodId} {below : List Frame} {meth : Method} {c : Code} (l : Launch) (hlt : l.stackTraces = false) (K : HK) {b N : Nat} {xs : Nat → Int32} (X0 : hX) (hF : CallFix p m c code 9 s #[Value.ref b] lw_all R_law) (hr : meth.sig.returnType = ret) (hlocks : meth.locks = false) (hC : HC K X0 s) (hx : va_X b N xs s s.heap) (hbl : b < s.heap.size) (hA0 : ∀ q, hA X0 s.heap.size q → s.heap.size ≤ q) (h : Nat) (a : Nat → Nat) (hap : mAp h a) (hmA : ∀ q, mA h a q → hA X0 s.heap.size q) (J28 : Nat → Nat → Nat → Int32 → hX → mF → mR → mL → mG → Nat → Nat → Prop) (hJ28 : ∀ (x1 : Nat) (x3 : Nat) (x4 : Nat) (x5 : Int32) (X : hX) (F : mF) (R : mR) (L : mL) (G : mG) (kc ks : Nat) (H : Heap) (locs : List Loc) (ls : Array Slot), hI K X0 s.heap.size X H → mP K.1 h a F R L G H → hdis X h a → va_S (hA X0 s.heap.size) s.heap H locs → kc ≤ 1200048 ∧ ks ≤ 5501818 → lv_has ls 9 [(0, .ref b), (1, .ref x1), (2, .ref h), (3, .ref x3), (4, .ref x4), (5, .int x5)] → J28 x1 x3 x4 x5 X F R L G kc ks → W p l e room_1 s m #[Value.ref b] below meth c H locs kc ks (lw_Z below #[Value.ref b] s) (F0 m 28 ls [])) : ∀ (x1 : Nat) (x3 : Nat) (x4 : Nat) (x5 : Int32) (X : hX) (F : mF) (R : mR) (L : mL) (G : mG) (kc ks : Nat) (H : Heap) (locs : List Loc) (ls : Array Slot), hI K X0 s.heap.size X H → mP K.1 h a F R L G H → hdis X h a → va_S (hA X0 s.heap.size) s.heap H locs → kc ≤ 1200048 ∧ ks ≤ 5501818 → lv_has ls 9 [(0, .ref b), (1, .ref x1), (2, .ref h), (3, .ref x3), (4, .ref x4), (5, .int x5)] → wpL_332 (K.2.2 0) 1200048 5501818 N xs J28 x1 x3 x4 x5 X F R L G kc ks → W p l e room_1 s m #[Value.ref b] below meth c H locs kc ks (lw_Z below #[Value.ref b] s) (F0 m 332 ls []) := by
  have hbA : ¬ hA X0 s.heap.size b := fun z => Nat.not_lt.mpr (hA0 b z) hbl
  intro x1 x3 x4 x5 X F R L G kc ks H locs ls hP hM hD hS hk hl hw
  unfold wpL_332 at hw
  refine lv_aload_n hF.1 hF.2.1 dL_law_332 rfl (lv_at hl 1 rfl) ?_
  refine lv_aload_n hF.1 hF.2.1 dL_law_333 rfl (lv_at hl 3 rfl) ?_
  obtain ⟨mc_4, ms_5, hc_6, hs_7, hw⟩ := hw
  refine lkx_i (hrx_SX (As := [.ref x1, .ref x3]) (rest := []) hF hl.1 hC hP hS (metX0_addAxle l hlt K mc_4 ms_5 _ _ _ X x1 x3) (vx_cwSW 2 hF.2.2.2.2 (lw_SW q736 q737 q74 q738) rfl rfl rfl (by decide +kernel) ⟨Nat.le_of_ble_eq_true rfl, Nat.le_of_ble_eq_true rfl⟩) hw rfl rfl (Nat.le_of_ble_eq_true rfl) dL_law_334 ⟨hc_6, hs_7⟩) hP hM hD hS (fun r_2 X_3 H locs hw hP hM hD hS => ?_)
  refine lv_istore (lv' := [(6, .int r_2), (0, .ref b), (1, .ref x1), (2, .ref h), (3, .ref x3), (4, .ref x4), (5, .int x5)]) hF.1 hF.2.1 dL_law_337 hl (by decide) rfl (fun ls hl => ?_)
  refine lv_aload_n hF.1 hF.2.1 dL_law_339 rfl (lv_at hl 3 rfl) ?_
  refine lm_i (As := []) (rest := []) hF hl.1 hC (metX3_addAxle l K.1 h a hap _ F R L G) (cwV 0 hF.2.2.2.2 (lw_V q1817 q1818 q1819 q85 q1820) rfl rfl rfl (by decide +kernel) ⟨Nat.le_of_ble_eq_true rfl, Nat.le_of_ble_eq_true rfl⟩) hP hM hD hS hmA hw rfl rfl (Nat.le_of_ble_eq_true rfl) dL_law_340 ⟨hc_6, hs_7⟩ (fun r_8 F_9 R_10 L_11 G_12 H locs hw hP hM hS => ?_)
  refine lv_istore (lv' := [(7, .int r_8), (6, .int r_2), (0, .ref b), (1, .ref x1), (2, .ref h), (3, .ref x3), (4, .ref x4), (5, .int x5)]) hF.1 hF.2.1 dL_law_343 hl (by decide) rfl (fun ls hl => ?_)
  refine lv_aload_n hF.1 hF.2.1 dL_law_345 rfl (lv_at hl 4 rfl) ?_
  refine lm_i (As := []) (rest := []) hF hl.1 hC (metX3_thrown l K.1 h a hap _ F_9 R_10 L_11 G_12) (cwV 0 hF.2.2.2.2 (lw_V q1813 q1814 q1815 q85 q1816) rfl rfl rfl (by decide +kernel) ⟨Nat.le_of_ble_eq_true rfl, Nat.le_of_ble_eq_true rfl⟩) hP hM hD hS hmA hw rfl rfl (Nat.le_of_ble_eq_true rfl) dL_law_346 ⟨hc_6, hs_7⟩ (fun r_13 F_14 R_15 L_16 G_17 H locs hw hP hM hS => ?_)
  refine lv_iload hF.1 hF.2.1 dL_law_349 (lv_at hl 1 rfl) ?_
  refine lv_icmp_eq (tgt := 356) hF.1 hF.2.1 dL_law_351 (by decide) (fun c_18 => ?_) (fun c_18 => ?_)
  · have hw := hw.1 c_18
    refine lv_iload hF.1 hF.2.1 dL_law_356 (lv_at hl 1 rfl) ?_
    refine lv_if_ne (tgt := 373) hF.1 hF.2.1 dL_law_358 (by decide) (fun c_19 => ?_) (fun c_19 => ?_)
    · have hw := hw.2 c_19
      exact Tl373 l hlt K X0 hF hr hlocks hC hx hbl hA0 h a hap hmA _ hJ28 x1 x3 x4 x5 X_3 F_14 R_15 L_16 G_17 (kc + mc_4) (ks + ms_5) _ _ ls hP hM hD hS ⟨hc_6, hs_7⟩ (lv_sub hl [2, 3, 4, 5, 6, 7] rfl) hw
    · have hw := hw.1 c_19
      refine lv_aload_n hF.1 hF.2.1 dL_law_361 rfl (lv_at hl 5 rfl) ?_
      refine lv_iconst (v := 0) hF.1 hF.2.1 dL_law_362 (by decide) ?_
      obtain ⟨n_20, f_21, hx_22, hi_23, hw⟩ := hw
      refine x_lald hF hC hP hx_22 hi_23 dL_law_363 ?_
      generalize f_21 (Int32.toNatClampNeg 0) = v_24 at hw ⊢
      refine lv_iload hF.1 hF.2.1 dL_law_364 (lv_at hl 0 rfl) ?_
      refine lv_i2l hF.1 hF.2.1 dL_law_366 rfl ?_
      refine W.lcmp hF.1 hF.2.1 dL_law_367 ?_
      refine lv_if_eq (tgt := 373) hF.1 hF.2.1 dL_law_368 (by decide) (fun c_25 => ?_) (fun c_25 => ?_)
      · rw [lc_eq] at c_25
        have hw := hw.1 c_25
        exact Tl373 l hlt K X0 hF hr hlocks hC hx hbl hA0 h a hap hmA _ hJ28 x1 x3 x4 x5 X_3 F_14 R_15 L_16 G_17 (kc + mc_4) (ks + ms_5) _ _ ls hP hM hD hS ⟨hc_6, hs_7⟩ (lv_sub hl [2, 3, 4, 5, 6, 7] rfl) hw
      · rw [lc_eq] at c_25
        have hw := hw.2 c_25
        refine lv_iconst (v := 0) hF.1 hF.2.1 dL_law_371 (by decide) ?_
        exact l_end hF hr hlocks hA0 hS ⟨hc_6, hs_7⟩ dL_law_372 hw
  · have hw := hw.2 c_18
    refine lv_iconst (v := 0) hF.1 hF.2.1 dL_law_354 (by decide) ?_
    exact l_end hF hr hlocks hA0 hS ⟨hc_6, hs_7⟩ dL_law_355 hw
def wpL_441 (E mc ms N : Nat) (xs : Nat → Int32) (J28 : Nat → Nat → Nat → Int32 → hX → mF → mR → mL → mG → Nat → Nat → Prop) (x1 : Nat) (x3 : Nat) (x4 : Nat) (x5 : Int32) (X : hX) (F : mF) (R : mR) (L : mL) (G : mG) (kc ks : Nat) : Prop := (∀ x5_26 : Int32, x5_26 = x5 + 5 → J28 x1 x3 x4 x5_26 X F R L G kc ks)
set_option maxHeartbeats 8000000 in
theorem Tl441 {p : Program} {e : Env} {s : State} {m : MethodId} {below : List Frame} {meth : Method} {c : Code} (l : Launch) (hlt : l.stackTraces = false) (K : HK) {b N : Nat} {xs : Nat → Int32} (X0 : hX) (hF : CallFix p m c code 9 s #[Value.ref b] lw_all R_law) (hr : meth.sig.returnType = ret) (hlocks : meth.locks = false) (hC : HC K X0 s) (hx : va_X b N xs s s.heap) (hbl : b < s.heap.size) (hA0 : ∀ q, hA X0 s.heap.size q → s.heap.size ≤ q) (h : Nat) (a : Nat → Nat) (hap : mAp h a) (hmA : ∀ q, mA h a q → hA X0 s.heap.size q) (J28 : Nat → Nat → Nat → Int32 → hX → mF → mR → mL → mG → Nat → Nat → Prop) (hJ28 : ∀ (x1 : Nat) (x3 : Nat) (x4 : Nat) (x5 : Int32) (X : hX) (F : mF) (R : mR) (L : mL) (G : mG) (kc ks : Nat) (H : Heap) (locs : List Loc) (ls : Array Slot), hI K X0 s.heap.size X H → mP K.1 h a F R L G H → hdis X h a → va_S (hA X0 s.heap.size) s.heap H locs → kc ≤ 1200048 ∧ ks ≤ 5501818 → lv_has ls 9 [(0, .ref b), (1, .ref x1), (2, .ref h), (3, .ref x3), (4, .ref x4), (5, .int x5)] → J28 x1 x3 x4 x5 X F R L G kc ks → W p l e room_1 s m #[Value.ref b] below meth c H locs kc ks (lw_Z below #[Value.ref b] s) (F0 m 28 ls [])) : ∀ (x1 : Nat) (x3 : Nat) (x4 : Nat) (x5 : Int32) (X : hX) (F : mF) (R : mR) (L : mL) (G : mG) (kc ks : Nat) (H : Heap) (locs : List Loc) (ls : Array Slot), hI K X0 s.heap.size X H → mP K.1 h a F R L G H → hdis X h a → va_S (hA X0 s.heap.size) s.heap H locs → kc ≤ 1200048 ∧ ks ≤ 5501818 → lv_has ls 9 [(0, .ref b), (1, .ref x1), (2, .ref h), (3, .ref x3), (4, .ref x4), (5, .int x5)] → wpL_441 (K.2.2 0) 1200048 5501818 N xs J28 x1 x3 x4 x5 X F R L G kc ks → W p l e room_1 s m #[Value.ref b] below meth c H locs kc ks (lw_Z below #[Value.ref b] s) (F0 m 441 ls []) := by
  have hbA : ¬ hA X0 s.heap.size b := fun z => Nat.not_lt.mpr (hA0 b z) hbl
  intro x1 x3 x4 x5 X F R L G kc ks H locs ls hP hM hD hS hk hl hw
  unfold wpL_441 at hw
  refine lv_goto (tgt := 3714) hF.1 hF.2.1 dL_law_441 (by decide) ?_
  obtain ⟨x5_26, ex5_26⟩ : ∃ y : Int32, y = x5 + 5 := ⟨_, rfl⟩
  have hw := hw x5_26 ex5_26
  refine lv_iinc (v := x5_26) (lv' := [(5, .int x5_26), (0, .ref b), (1, .ref x1), (2, .ref h), (3, .ref x3), (4, .ref x4)]) hF.1 hF.2.1 dL_law_3714 hl (k := 5) rfl (by rw [ex5_26]; rfl) (by decide) rfl (fun ls hl => ?_)
  refine lv_goto (tgt := 28) hF.1 hF.2.1 dL_law_3717 (by decide) ?_
  exact hJ28 x1 x3 x4 x5_26 X F R L G kc ks _ _ ls hP hM hD hS hk (lv_sub hl [1, 2, 3, 4, 5, 0] rfl) hw
def wpL_376 (E mc ms N : Nat) (xs : Nat → Int32) (J28 : Nat → Nat → Nat → Int32 → hX → mF → mR → mL → mG → Nat → Nat → Prop) (x1 : Nat) (x3 : Nat) (x4 : Nat) (x5 : Int32) (X : hX) (F : mF) (R : mR) (L : mL) (G : mG) (kc ks : Nat) : Prop := (vp_in (x5 + 1) N ∧ (vp_in (x5 + 2) N ∧ (∃ mc_31 ms_32 : Nat, kc + mc_31 ≤ mc ∧ ks + ms_32 ≤ ms ∧ wpX0_addWheel (fun r_29 X_30 => (vp_in (x5 + 1) N ∧ (vp_in (x5 + 2) N ∧ wpX3_addWheel (fun r_37 F_38 R_39 L_40 G_41 => wpX3_thrown (fun r_42 F_43 R_44 L_45 G_46 => ((r_42 = r_29 → ((r_29 = 0 → alJ X_30 x3 0 (fun v_53 => ((v_53 = (Int32.toInt64 r_37) → wpL_441 E mc ms N xs J28 x1 x3 x4 x5 X_30 F_43 R_44 L_45 G_46 (kc + mc_31) (ks + ms_32)) ∧ (¬ v_53 = (Int32.toInt64 r_37) → (0 : Int32) = 1)))) ∧ (¬ r_29 = 0 → wpL_441 E mc ms N xs J28 x1 x3 x4 x5 X_30 F_43 R_44 L_45 G_46 (kc + mc_31) (ks + ms_32)))) ∧ (¬ r_42 = r_29 → (0 : Int32) = 1))) F_38 R_39 L_40 G_41) F R L G (xs (Int32.toNatClampNeg (x5 + 1))) (xs (Int32.toNatClampNeg (x5 + 2)))))) (fun _ _ _ => False) E mc_31 ms_32 X x1 (xs (Int32.toNatClampNeg (x5 + 1))) (xs (Int32.toNatClampNeg (x5 + 2))) x3)))
set_option maxHeartbeats 8000000 in
theorem Tl376 {p : Program} {e : Env} {s : State} {m : MethodId} {below : List Frame} {meth : Method} {c : Code} (l : Launch) (hlt : l.stackTraces = false) (K : HK) {b N : Nat} {xs : Nat → Int32} (X0 : hX) (hF : CallFix p m c code 9 s #[Value.ref b] lw_all R_law) (hr : meth.sig.returnType = ret) (hlocks : meth.locks = false) (hC : HC K X0 s) (hx : va_X b N xs s s.heap) (hbl : b < s.heap.size) (hA0 : ∀ q, hA X0 s.heap.size q → s.heap.size ≤ q) (h : Nat) (a : Nat → Nat) (hap : mAp h a) (hmA : ∀ q, mA h a q → hA X0 s.heap.size q) (J28 : Nat → Nat → Nat → Int32 → hX → mF → mR → mL → mG → Nat → Nat → Prop) (hJ28 : ∀ (x1 : Nat) (x3 : Nat) (x4 : Nat) (x5 : Int32) (X : hX) (F : mF) (R : mR) (L : mL) (G : mG) (kc ks : Nat) (H : Heap) (locs : List Loc) (ls : Array Slot), hI K X0 s.heap.size X H → mP K.1 h a F R L G H → hdis X h a → va_S (hA X0 s.heap.size) s.heap H locs → kc ≤ 1200048 ∧ ks ≤ 5501818 → lv_has ls 9 [(0, .ref b), (1, .ref x1), (2, .ref h), (3, .ref x3), (4, .ref x4), (5, .int x5)] → J28 x1 x3 x4 x5 X F R L G kc ks → W p l e room_1 s m #[Value.ref b] below meth c H locs kc ks (lw_Z below #[Value.ref b] s) (F0 m 28 ls [])) : ∀ (x1 : Nat) (x3 : Nat) (x4 : Nat) (x5 : Int32) (X : hX) (F : mF) (R : mR) (L : mL) (G : mG) (kc ks : Nat) (H : Heap) (locs : List Loc) (ls : Array Slot), hI K X0 s.heap.size X H → mP K.1 h a F R L G H → hdis X h a → va_S (hA X0 s.heap.size) s.heap H locs → kc ≤ 1200048 ∧ ks ≤ 5501818 → lv_has ls 9 [(0, .ref b), (1, .ref x1), (2, .ref h), (3, .ref x3), (4, .ref x4), (5, .int x5)] → wpL_376 (K.2.2 0) 1200048 5501818 N xs J28 x1 x3 x4 x5 X F R L G kc ks → W p l e room_1 s m #[Value.ref b] below meth c H locs kc ks (lw_Z below #[Value.ref b] s) (F0 m 376 ls []) := by
  have hbA : ¬ hA X0 s.heap.size b := fun z => Nat.not_lt.mpr (hA0 b z) hbl
  intro x1 x3 x4 x5 X F R L G kc ks H locs ls hP hM hD hS hk hl hw
  unfold wpL_376 at hw
  refine lv_aload_n hF.1 hF.2.1 dL_law_376 rfl (lv_at hl 1 rfl) ?_
  refine lv_aload_n hF.1 hF.2.1 dL_law_377 rfl (lv_at hl 0 rfl) ?_
  refine lv_iload hF.1 hF.2.1 dL_law_378 (lv_at hl 5 rfl) ?_
  refine lv_iconst (v := 1) hF.1 hF.2.1 dL_law_380 (by decide) ?_
  refine lv_iadd hF.1 hF.2.1 dL_law_381 ?_
  obtain ⟨h_27, hw⟩ := hw
  refine va_sld hF.1 hF.2.1 hx hbl hbA hS h_27 dL_law_382 ?_
  refine lv_aload_n hF.1 hF.2.1 dL_law_383 rfl (lv_at hl 0 rfl) ?_
  refine lv_iload hF.1 hF.2.1 dL_law_384 (lv_at hl 5 rfl) ?_
  refine lv_iconst (v := 2) hF.1 hF.2.1 dL_law_386 (by decide) ?_
  refine lv_iadd hF.1 hF.2.1 dL_law_387 ?_
  obtain ⟨h_28, hw⟩ := hw
  refine va_sld hF.1 hF.2.1 hx hbl hbA hS h_28 dL_law_388 ?_
  refine lv_aload_n hF.1 hF.2.1 dL_law_389 rfl (lv_at hl 3 rfl) ?_
  obtain ⟨mc_31, ms_32, hc_33, hs_34, hw⟩ := hw
  refine lkx_i (hrx_SX (As := [.ref x1, .int (xs (Int32.toNatClampNeg (x5 + 1))), .int (xs (Int32.toNatClampNeg (x5 + 2))), .ref x3]) (rest := []) hF hl.1 hC hP hS (metX0_addWheel l hlt K mc_31 ms_32 _ _ _ X x1 (xs (Int32.toNatClampNeg (x5 + 1))) (xs (Int32.toNatClampNeg (x5 + 2))) x3) (vx_cwSW 4 hF.2.2.2.2 (lw_SW q1057 q1058 q74 q1059) rfl rfl rfl (by decide +kernel) ⟨Nat.le_of_ble_eq_true rfl, Nat.le_of_ble_eq_true rfl⟩) hw rfl rfl (Nat.le_of_ble_eq_true rfl) dL_law_390 ⟨hc_33, hs_34⟩) hP hM hD hS (fun r_29 X_30 H locs hw hP hM hD hS => ?_)
  refine lv_istore (lv' := [(6, .int r_29), (0, .ref b), (1, .ref x1), (2, .ref h), (3, .ref x3), (4, .ref x4), (5, .int x5)]) hF.1 hF.2.1 dL_law_393 hl (by decide) rfl (fun ls hl => ?_)
  refine lv_aload_n hF.1 hF.2.1 dL_law_395 rfl (lv_at hl 3 rfl) ?_
  refine lv_aload_n hF.1 hF.2.1 dL_law_396 rfl (lv_at hl 1 rfl) ?_
  refine lv_iload hF.1 hF.2.1 dL_law_397 (lv_at hl 6 rfl) ?_
  refine lv_iconst (v := 1) hF.1 hF.2.1 dL_law_399 (by decide) ?_
  refine lv_iadd hF.1 hF.2.1 dL_law_400 ?_
  obtain ⟨h_35, hw⟩ := hw
  refine va_sld hF.1 hF.2.1 hx hbl hbA hS h_35 dL_law_401 ?_
  refine lv_aload_n hF.1 hF.2.1 dL_law_402 rfl (lv_at hl 1 rfl) ?_
  refine lv_iload hF.1 hF.2.1 dL_law_403 (lv_at hl 6 rfl) ?_
  refine lv_iconst (v := 2) hF.1 hF.2.1 dL_law_405 (by decide) ?_
  refine lv_iadd hF.1 hF.2.1 dL_law_406 ?_
  obtain ⟨h_36, hw⟩ := hw
  refine va_sld hF.1 hF.2.1 hx hbl hbA hS h_36 dL_law_407 ?_
  refine lm_i (As := [.int (xs (Int32.toNatClampNeg (x5 + 1))), .int (xs (Int32.toNatClampNeg (x5 + 2)))]) (rest := []) hF hl.1 hC (metX3_addWheel l K.1 h a hap _ F R L G (xs (Int32.toNatClampNeg (x5 + 1))) (xs (Int32.toNatClampNeg (x5 + 2)))) (cwV 2 hF.2.2.2.2 (lw_V q1846 q1847 q1848 q85 q1849) rfl rfl rfl (by decide +kernel) ⟨Nat.le_of_ble_eq_true rfl, Nat.le_of_ble_eq_true rfl⟩) hP hM hD hS hmA hw rfl rfl (Nat.le_of_ble_eq_true rfl) dL_law_408 ⟨hc_33, hs_34⟩ (fun r_37 F_38 R_39 L_40 G_41 H locs hw hP hM hS => ?_)
  refine lv_istore (lv' := [(7, .int r_37), (6, .int r_29), (0, .ref b), (1, .ref x1), (2, .ref h), (3, .ref x3), (4, .ref x4), (5, .int x5)]) hF.1 hF.2.1 dL_law_411 hl (by decide) rfl (fun ls hl => ?_)
  refine lv_aload_n hF.1 hF.2.1 dL_law_413 rfl (lv_at hl 4 rfl) ?_
  refine lm_i (As := []) (rest := []) hF hl.1 hC (metX3_thrown l K.1 h a hap _ F_38 R_39 L_40 G_41) (cwV 0 hF.2.2.2.2 (lw_V q1813 q1814 q1815 q85 q1816) rfl rfl rfl (by decide +kernel) ⟨Nat.le_of_ble_eq_true rfl, Nat.le_of_ble_eq_true rfl⟩) hP hM hD hS hmA hw rfl rfl (Nat.le_of_ble_eq_true rfl) dL_law_414 ⟨hc_33, hs_34⟩ (fun r_42 F_43 R_44 L_45 G_46 H locs hw hP hM hS => ?_)
  refine lv_iload hF.1 hF.2.1 dL_law_417 (lv_at hl 1 rfl) ?_
  refine lv_icmp_eq (tgt := 424) hF.1 hF.2.1 dL_law_419 (by decide) (fun c_47 => ?_) (fun c_47 => ?_)
  · have hw := hw.1 c_47
    refine lv_iload hF.1 hF.2.1 dL_law_424 (lv_at hl 1 rfl) ?_
    refine lv_if_ne (tgt := 441) hF.1 hF.2.1 dL_law_426 (by decide) (fun c_48 => ?_) (fun c_48 => ?_)
    · have hw := hw.2 c_48
      exact Tl441 l hlt K X0 hF hr hlocks hC hx hbl hA0 h a hap hmA _ hJ28 x1 x3 x4 x5 X_30 F_43 R_44 L_45 G_46 (kc + mc_31) (ks + ms_32) _ _ ls hP hM hD hS ⟨hc_33, hs_34⟩ (lv_sub hl [2, 3, 4, 5, 6, 7] rfl) hw
    · have hw := hw.1 c_48
      refine lv_aload_n hF.1 hF.2.1 dL_law_429 rfl (lv_at hl 5 rfl) ?_
      refine lv_iconst (v := 0) hF.1 hF.2.1 dL_law_430 (by decide) ?_
      obtain ⟨n_49, f_50, hx_51, hi_52, hw⟩ := hw
      refine x_lald hF hC hP hx_51 hi_52 dL_law_431 ?_
      generalize f_50 (Int32.toNatClampNeg 0) = v_53 at hw ⊢
      refine lv_iload hF.1 hF.2.1 dL_law_432 (lv_at hl 0 rfl) ?_
      refine lv_i2l hF.1 hF.2.1 dL_law_434 rfl ?_
      refine W.lcmp hF.1 hF.2.1 dL_law_435 ?_
      refine lv_if_eq (tgt := 441) hF.1 hF.2.1 dL_law_436 (by decide) (fun c_54 => ?_) (fun c_54 => ?_)
      · rw [lc_eq] at c_54
        have hw := hw.1 c_54
        exact Tl441 l hlt K X0 hF hr hlocks hC hx hbl hA0 h a hap hmA _ hJ28 x1 x3 x4 x5 X_30 F_43 R_44 L_45 G_46 (kc + mc_31) (ks + ms_32) _ _ ls hP hM hD hS ⟨hc_33, hs_34⟩ (lv_sub hl [2, 3, 4, 5, 6, 7] rfl) hw
      · rw [lc_eq] at c_54
        have hw := hw.2 c_54
        refine lv_iconst (v := 0) hF.1 hF.2.1 dL_law_439 (by decide) ?_
        exact l_end hF hr hlocks hA0 hS ⟨hc_33, hs_34⟩ dL_law_440 hw
  · have hw := hw.2 c_47
    refine lv_iconst (v := 0) hF.1 hF.2.1 dL_law_422 (by decide) ?_
    exact l_end hF hr hlocks hA0 hS ⟨hc_33, hs_34⟩ dL_law_423 hw
def wpL_509 (E mc ms N : Nat) (xs : Nat → Int32) (J28 : Nat → Nat → Nat → Int32 → hX → mF → mR → mL → mG → Nat → Nat → Prop) (x1 : Nat) (x3 : Nat) (x4 : Nat) (x5 : Int32) (X : hX) (F : mF) (R : mR) (L : mL) (G : mG) (kc ks : Nat) : Prop := (∀ x5_55 : Int32, x5_55 = x5 + 5 → J28 x1 x3 x4 x5_55 X F R L G kc ks)
set_option maxHeartbeats 8000000 in
theorem Tl509 {p : Program} {e : Env} {s : State} {m : MethodId} {below : List Frame} {meth : Method} {c : Code} (l : Launch) (hlt : l.stackTraces = false) (K : HK) {b N : Nat} {xs : Nat → Int32} (X0 : hX) (hF : CallFix p m c code 9 s #[Value.ref b] lw_all R_law) (hr : meth.sig.returnType = ret) (hlocks : meth.locks = false) (hC : HC K X0 s) (hx : va_X b N xs s s.heap) (hbl : b < s.heap.size) (hA0 : ∀ q, hA X0 s.heap.size q → s.heap.size ≤ q) (h : Nat) (a : Nat → Nat) (hap : mAp h a) (hmA : ∀ q, mA h a q → hA X0 s.heap.size q) (J28 : Nat → Nat → Nat → Int32 → hX → mF → mR → mL → mG → Nat → Nat → Prop) (hJ28 : ∀ (x1 : Nat) (x3 : Nat) (x4 : Nat) (x5 : Int32) (X : hX) (F : mF) (R : mR) (L : mL) (G : mG) (kc ks : Nat) (H : Heap) (locs : List Loc) (ls : Array Slot), hI K X0 s.heap.size X H → mP K.1 h a F R L G H → hdis X h a → va_S (hA X0 s.heap.size) s.heap H locs → kc ≤ 1200048 ∧ ks ≤ 5501818 → lv_has ls 9 [(0, .ref b), (1, .ref x1), (2, .ref h), (3, .ref x3), (4, .ref x4), (5, .int x5)] → J28 x1 x3 x4 x5 X F R L G kc ks → W p l e room_1 s m #[Value.ref b] below meth c H locs kc ks (lw_Z below #[Value.ref b] s) (F0 m 28 ls [])) : ∀ (x1 : Nat) (x3 : Nat) (x4 : Nat) (x5 : Int32) (X : hX) (F : mF) (R : mR) (L : mL) (G : mG) (kc ks : Nat) (H : Heap) (locs : List Loc) (ls : Array Slot), hI K X0 s.heap.size X H → mP K.1 h a F R L G H → hdis X h a → va_S (hA X0 s.heap.size) s.heap H locs → kc ≤ 1200048 ∧ ks ≤ 5501818 → lv_has ls 9 [(0, .ref b), (1, .ref x1), (2, .ref h), (3, .ref x3), (4, .ref x4), (5, .int x5)] → wpL_509 (K.2.2 0) 1200048 5501818 N xs J28 x1 x3 x4 x5 X F R L G kc ks → W p l e room_1 s m #[Value.ref b] below meth c H locs kc ks (lw_Z below #[Value.ref b] s) (F0 m 509 ls []) := by
  have hbA : ¬ hA X0 s.heap.size b := fun z => Nat.not_lt.mpr (hA0 b z) hbl
  intro x1 x3 x4 x5 X F R L G kc ks H locs ls hP hM hD hS hk hl hw
  unfold wpL_509 at hw
  refine lv_goto (tgt := 3714) hF.1 hF.2.1 dL_law_509 (by decide) ?_
  obtain ⟨x5_55, ex5_55⟩ : ∃ y : Int32, y = x5 + 5 := ⟨_, rfl⟩
  have hw := hw x5_55 ex5_55
  refine lv_iinc (v := x5_55) (lv' := [(5, .int x5_55), (0, .ref b), (1, .ref x1), (2, .ref h), (3, .ref x3), (4, .ref x4)]) hF.1 hF.2.1 dL_law_3714 hl (k := 5) rfl (by rw [ex5_55]; rfl) (by decide) rfl (fun ls hl => ?_)
  refine lv_goto (tgt := 28) hF.1 hF.2.1 dL_law_3717 (by decide) ?_
  exact hJ28 x1 x3 x4 x5_55 X F R L G kc ks _ _ ls hP hM hD hS hk (lv_sub hl [1, 2, 3, 4, 5, 0] rfl) hw
def wpL_444 (E mc ms N : Nat) (xs : Nat → Int32) (J28 : Nat → Nat → Nat → Int32 → hX → mF → mR → mL → mG → Nat → Nat → Prop) (x1 : Nat) (x3 : Nat) (x4 : Nat) (x5 : Int32) (X : hX) (F : mF) (R : mR) (L : mL) (G : mG) (kc ks : Nat) : Prop := (vp_in (x5 + 1) N ∧ (vp_in (x5 + 2) N ∧ (∃ mc_60 ms_61 : Nat, kc + mc_60 ≤ mc ∧ ks + ms_61 ≤ ms ∧ wpX0_mesh (fun r_58 X_59 => (vp_in (x5 + 1) N ∧ (vp_in (x5 + 2) N ∧ wpX3_mesh (fun r_66 F_67 R_68 L_69 G_70 => wpX3_thrown (fun r_71 F_72 R_73 L_74 G_75 => ((r_71 = r_58 → ((r_58 = 0 → alJ X_59 x3 0 (fun v_82 => ((v_82 = (Int32.toInt64 r_66) → wpL_509 E mc ms N xs J28 x1 x3 x4 x5 X_59 F_72 R_73 L_74 G_75 (kc + mc_60) (ks + ms_61)) ∧ (¬ v_82 = (Int32.toInt64 r_66) → (0 : Int32) = 1)))) ∧ (¬ r_58 = 0 → wpL_509 E mc ms N xs J28 x1 x3 x4 x5 X_59 F_72 R_73 L_74 G_75 (kc + mc_60) (ks + ms_61)))) ∧ (¬ r_71 = r_58 → (0 : Int32) = 1))) F_67 R_68 L_69 G_70) F R L G (xs (Int32.toNatClampNeg (x5 + 1))) (xs (Int32.toNatClampNeg (x5 + 2)))))) (fun _ _ _ => False) E mc_60 ms_61 X x1 (xs (Int32.toNatClampNeg (x5 + 1))) (xs (Int32.toNatClampNeg (x5 + 2))) x3)))
set_option maxHeartbeats 8000000 in
theorem Tl444 {p : Program} {e : Env} {s : State} {m : MethodId} {below : List Frame} {meth : Method} {c : Code} (l : Launch) (hlt : l.stackTraces = false) (K : HK) {b N : Nat} {xs : Nat → Int32} (X0 : hX) (hF : CallFix p m c code 9 s #[Value.ref b] lw_all R_law) (hr : meth.sig.returnType = ret) (hlocks : meth.locks = false) (hC : HC K X0 s) (hx : va_X b N xs s s.heap) (hbl : b < s.heap.size) (hA0 : ∀ q, hA X0 s.heap.size q → s.heap.size ≤ q) (h : Nat) (a : Nat → Nat) (hap : mAp h a) (hmA : ∀ q, mA h a q → hA X0 s.heap.size q) (J28 : Nat → Nat → Nat → Int32 → hX → mF → mR → mL → mG → Nat → Nat → Prop) (hJ28 : ∀ (x1 : Nat) (x3 : Nat) (x4 : Nat) (x5 : Int32) (X : hX) (F : mF) (R : mR) (L : mL) (G : mG) (kc ks : Nat) (H : Heap) (locs : List Loc) (ls : Array Slot), hI K X0 s.heap.size X H → mP K.1 h a F R L G H → hdis X h a → va_S (hA X0 s.heap.size) s.heap H locs → kc ≤ 1200048 ∧ ks ≤ 5501818 → lv_has ls 9 [(0, .ref b), (1, .ref x1), (2, .ref h), (3, .ref x3), (4, .ref x4), (5, .int x5)] → J28 x1 x3 x4 x5 X F R L G kc ks → W p l e room_1 s m #[Value.ref b] below meth c H locs kc ks (lw_Z below #[Value.ref b] s) (F0 m 28 ls [])) : ∀ (x1 : Nat) (x3 : Nat) (x4 : Nat) (x5 : Int32) (X : hX) (F : mF) (R : mR) (L : mL) (G : mG) (kc ks : Nat) (H : Heap) (locs : List Loc) (ls : Array Slot), hI K X0 s.heap.size X H → mP K.1 h a F R L G H → hdis X h a → va_S (hA X0 s.heap.size) s.heap H locs → kc ≤ 1200048 ∧ ks ≤ 5501818 → lv_has ls 9 [(0, .ref b), (1, .ref x1), (2, .ref h), (3, .ref x3), (4, .ref x4), (5, .int x5)] → wpL_444 (K.2.2 0) 1200048 5501818 N xs J28 x1 x3 x4 x5 X F R L G kc ks → W p l e room_1 s m #[Value.ref b] below meth c H locs kc ks (lw_Z below #[Value.ref b] s) (F0 m 444 ls []) := by
  have hbA : ¬ hA X0 s.heap.size b := fun z => Nat.not_lt.mpr (hA0 b z) hbl
  intro x1 x3 x4 x5 X F R L G kc ks H locs ls hP hM hD hS hk hl hw
  unfold wpL_444 at hw
  refine lv_aload_n hF.1 hF.2.1 dL_law_444 rfl (lv_at hl 1 rfl) ?_
  refine lv_aload_n hF.1 hF.2.1 dL_law_445 rfl (lv_at hl 0 rfl) ?_
  refine lv_iload hF.1 hF.2.1 dL_law_446 (lv_at hl 5 rfl) ?_
  refine lv_iconst (v := 1) hF.1 hF.2.1 dL_law_448 (by decide) ?_
  refine lv_iadd hF.1 hF.2.1 dL_law_449 ?_
  obtain ⟨h_56, hw⟩ := hw
  refine va_sld hF.1 hF.2.1 hx hbl hbA hS h_56 dL_law_450 ?_
  refine lv_aload_n hF.1 hF.2.1 dL_law_451 rfl (lv_at hl 0 rfl) ?_
  refine lv_iload hF.1 hF.2.1 dL_law_452 (lv_at hl 5 rfl) ?_
  refine lv_iconst (v := 2) hF.1 hF.2.1 dL_law_454 (by decide) ?_
  refine lv_iadd hF.1 hF.2.1 dL_law_455 ?_
  obtain ⟨h_57, hw⟩ := hw
  refine va_sld hF.1 hF.2.1 hx hbl hbA hS h_57 dL_law_456 ?_
  refine lv_aload_n hF.1 hF.2.1 dL_law_457 rfl (lv_at hl 3 rfl) ?_
  obtain ⟨mc_60, ms_61, hc_62, hs_63, hw⟩ := hw
  refine lkx_i (hrx_SX (As := [.ref x1, .int (xs (Int32.toNatClampNeg (x5 + 1))), .int (xs (Int32.toNatClampNeg (x5 + 2))), .ref x3]) (rest := []) hF hl.1 hC hP hS (metX0_mesh l hlt K mc_60 ms_61 _ _ _ X x1 (xs (Int32.toNatClampNeg (x5 + 1))) (xs (Int32.toNatClampNeg (x5 + 2))) x3) (vx_cwSW 4 hF.2.2.2.2 (lw_SW q1065 q1066 q74 q1067) rfl rfl rfl (by decide +kernel) ⟨Nat.le_of_ble_eq_true rfl, Nat.le_of_ble_eq_true rfl⟩) hw rfl rfl (Nat.le_of_ble_eq_true rfl) dL_law_458 ⟨hc_62, hs_63⟩) hP hM hD hS (fun r_58 X_59 H locs hw hP hM hD hS => ?_)
  refine lv_istore (lv' := [(6, .int r_58), (0, .ref b), (1, .ref x1), (2, .ref h), (3, .ref x3), (4, .ref x4), (5, .int x5)]) hF.1 hF.2.1 dL_law_461 hl (by decide) rfl (fun ls hl => ?_)
  refine lv_aload_n hF.1 hF.2.1 dL_law_463 rfl (lv_at hl 3 rfl) ?_
  refine lv_aload_n hF.1 hF.2.1 dL_law_464 rfl (lv_at hl 1 rfl) ?_
  refine lv_iload hF.1 hF.2.1 dL_law_465 (lv_at hl 6 rfl) ?_
  refine lv_iconst (v := 1) hF.1 hF.2.1 dL_law_467 (by decide) ?_
  refine lv_iadd hF.1 hF.2.1 dL_law_468 ?_
  obtain ⟨h_64, hw⟩ := hw
  refine va_sld hF.1 hF.2.1 hx hbl hbA hS h_64 dL_law_469 ?_
  refine lv_aload_n hF.1 hF.2.1 dL_law_470 rfl (lv_at hl 1 rfl) ?_
  refine lv_iload hF.1 hF.2.1 dL_law_471 (lv_at hl 6 rfl) ?_
  refine lv_iconst (v := 2) hF.1 hF.2.1 dL_law_473 (by decide) ?_
  refine lv_iadd hF.1 hF.2.1 dL_law_474 ?_
  obtain ⟨h_65, hw⟩ := hw
  refine va_sld hF.1 hF.2.1 hx hbl hbA hS h_65 dL_law_475 ?_
  refine lm_i (As := [.int (xs (Int32.toNatClampNeg (x5 + 1))), .int (xs (Int32.toNatClampNeg (x5 + 2)))]) (rest := []) hF hl.1 hC (metX3_mesh l K.1 h a hap _ F R L G (xs (Int32.toNatClampNeg (x5 + 1))) (xs (Int32.toNatClampNeg (x5 + 2)))) (cwV 2 hF.2.2.2.2 (lw_V q1864 q1865 q1866 q85 q1867) rfl rfl rfl (by decide +kernel) ⟨Nat.le_of_ble_eq_true rfl, Nat.le_of_ble_eq_true rfl⟩) hP hM hD hS hmA hw rfl rfl (Nat.le_of_ble_eq_true rfl) dL_law_476 ⟨hc_62, hs_63⟩ (fun r_66 F_67 R_68 L_69 G_70 H locs hw hP hM hS => ?_)
  refine lv_istore (lv' := [(7, .int r_66), (6, .int r_58), (0, .ref b), (1, .ref x1), (2, .ref h), (3, .ref x3), (4, .ref x4), (5, .int x5)]) hF.1 hF.2.1 dL_law_479 hl (by decide) rfl (fun ls hl => ?_)
  refine lv_aload_n hF.1 hF.2.1 dL_law_481 rfl (lv_at hl 4 rfl) ?_
  refine lm_i (As := []) (rest := []) hF hl.1 hC (metX3_thrown l K.1 h a hap _ F_67 R_68 L_69 G_70) (cwV 0 hF.2.2.2.2 (lw_V q1813 q1814 q1815 q85 q1816) rfl rfl rfl (by decide +kernel) ⟨Nat.le_of_ble_eq_true rfl, Nat.le_of_ble_eq_true rfl⟩) hP hM hD hS hmA hw rfl rfl (Nat.le_of_ble_eq_true rfl) dL_law_482 ⟨hc_62, hs_63⟩ (fun r_71 F_72 R_73 L_74 G_75 H locs hw hP hM hS => ?_)
  refine lv_iload hF.1 hF.2.1 dL_law_485 (lv_at hl 1 rfl) ?_
  refine lv_icmp_eq (tgt := 492) hF.1 hF.2.1 dL_law_487 (by decide) (fun c_76 => ?_) (fun c_76 => ?_)
  · have hw := hw.1 c_76
    refine lv_iload hF.1 hF.2.1 dL_law_492 (lv_at hl 1 rfl) ?_
    refine lv_if_ne (tgt := 509) hF.1 hF.2.1 dL_law_494 (by decide) (fun c_77 => ?_) (fun c_77 => ?_)
    · have hw := hw.2 c_77
      exact Tl509 l hlt K X0 hF hr hlocks hC hx hbl hA0 h a hap hmA _ hJ28 x1 x3 x4 x5 X_59 F_72 R_73 L_74 G_75 (kc + mc_60) (ks + ms_61) _ _ ls hP hM hD hS ⟨hc_62, hs_63⟩ (lv_sub hl [2, 3, 4, 5, 6, 7] rfl) hw
    · have hw := hw.1 c_77
      refine lv_aload_n hF.1 hF.2.1 dL_law_497 rfl (lv_at hl 5 rfl) ?_
      refine lv_iconst (v := 0) hF.1 hF.2.1 dL_law_498 (by decide) ?_
      obtain ⟨n_78, f_79, hx_80, hi_81, hw⟩ := hw
      refine x_lald hF hC hP hx_80 hi_81 dL_law_499 ?_
      generalize f_79 (Int32.toNatClampNeg 0) = v_82 at hw ⊢
      refine lv_iload hF.1 hF.2.1 dL_law_500 (lv_at hl 0 rfl) ?_
      refine lv_i2l hF.1 hF.2.1 dL_law_502 rfl ?_
      refine W.lcmp hF.1 hF.2.1 dL_law_503 ?_
      refine lv_if_eq (tgt := 509) hF.1 hF.2.1 dL_law_504 (by decide) (fun c_83 => ?_) (fun c_83 => ?_)
      · rw [lc_eq] at c_83
        have hw := hw.1 c_83
        exact Tl509 l hlt K X0 hF hr hlocks hC hx hbl hA0 h a hap hmA _ hJ28 x1 x3 x4 x5 X_59 F_72 R_73 L_74 G_75 (kc + mc_60) (ks + ms_61) _ _ ls hP hM hD hS ⟨hc_62, hs_63⟩ (lv_sub hl [2, 3, 4, 5, 6, 7] rfl) hw
      · rw [lc_eq] at c_83
        have hw := hw.2 c_83
        refine lv_iconst (v := 0) hF.1 hF.2.1 dL_law_507 (by decide) ?_
        exact l_end hF hr hlocks hA0 hS ⟨hc_62, hs_63⟩ dL_law_508 hw
  · have hw := hw.2 c_76
    refine lv_iconst (v := 0) hF.1 hF.2.1 dL_law_490 (by decide) ?_
    exact l_end hF hr hlocks hA0 hS ⟨hc_62, hs_63⟩ dL_law_491 hw
def wpL_565 (E mc ms N : Nat) (xs : Nat → Int32) (J28 : Nat → Nat → Nat → Int32 → hX → mF → mR → mL → mG → Nat → Nat → Prop) (x1 : Nat) (x3 : Nat) (x4 : Nat) (x5 : Int32) (X : hX) (F : mF) (R : mR) (L : mL) (G : mG) (kc ks : Nat) : Prop := (∀ x5_84 : Int32, x5_84 = x5 + 5 → J28 x1 x3 x4 x5_84 X F R L G kc ks)
set_option maxHeartbeats 8000000 in
theorem Tl565 {p : Program} {e : Env} {s : State} {m : MethodId} {below : List Frame} {meth : Method} {c : Code} (l : Launch) (hlt : l.stackTraces = false) (K : HK) {b N : Nat} {xs : Nat → Int32} (X0 : hX) (hF : CallFix p m c code 9 s #[Value.ref b] lw_all R_law) (hr : meth.sig.returnType = ret) (hlocks : meth.locks = false) (hC : HC K X0 s) (hx : va_X b N xs s s.heap) (hbl : b < s.heap.size) (hA0 : ∀ q, hA X0 s.heap.size q → s.heap.size ≤ q) (h : Nat) (a : Nat → Nat) (hap : mAp h a) (hmA : ∀ q, mA h a q → hA X0 s.heap.size q) (J28 : Nat → Nat → Nat → Int32 → hX → mF → mR → mL → mG → Nat → Nat → Prop) (hJ28 : ∀ (x1 : Nat) (x3 : Nat) (x4 : Nat) (x5 : Int32) (X : hX) (F : mF) (R : mR) (L : mL) (G : mG) (kc ks : Nat) (H : Heap) (locs : List Loc) (ls : Array Slot), hI K X0 s.heap.size X H → mP K.1 h a F R L G H → hdis X h a → va_S (hA X0 s.heap.size) s.heap H locs → kc ≤ 1200048 ∧ ks ≤ 5501818 → lv_has ls 9 [(0, .ref b), (1, .ref x1), (2, .ref h), (3, .ref x3), (4, .ref x4), (5, .int x5)] → J28 x1 x3 x4 x5 X F R L G kc ks → W p l e room_1 s m #[Value.ref b] below meth c H locs kc ks (lw_Z below #[Value.ref b] s) (F0 m 28 ls [])) : ∀ (x1 : Nat) (x3 : Nat) (x4 : Nat) (x5 : Int32) (X : hX) (F : mF) (R : mR) (L : mL) (G : mG) (kc ks : Nat) (H : Heap) (locs : List Loc) (ls : Array Slot), hI K X0 s.heap.size X H → mP K.1 h a F R L G H → hdis X h a → va_S (hA X0 s.heap.size) s.heap H locs → kc ≤ 1200048 ∧ ks ≤ 5501818 → lv_has ls 9 [(0, .ref b), (1, .ref x1), (2, .ref h), (3, .ref x3), (4, .ref x4), (5, .int x5)] → wpL_565 (K.2.2 0) 1200048 5501818 N xs J28 x1 x3 x4 x5 X F R L G kc ks → W p l e room_1 s m #[Value.ref b] below meth c H locs kc ks (lw_Z below #[Value.ref b] s) (F0 m 565 ls []) := by
  have hbA : ¬ hA X0 s.heap.size b := fun z => Nat.not_lt.mpr (hA0 b z) hbl
  intro x1 x3 x4 x5 X F R L G kc ks H locs ls hP hM hD hS hk hl hw
  unfold wpL_565 at hw
  refine lv_goto (tgt := 3714) hF.1 hF.2.1 dL_law_565 (by decide) ?_
  obtain ⟨x5_84, ex5_84⟩ : ∃ y : Int32, y = x5 + 5 := ⟨_, rfl⟩
  have hw := hw x5_84 ex5_84
  refine lv_iinc (v := x5_84) (lv' := [(5, .int x5_84), (0, .ref b), (1, .ref x1), (2, .ref h), (3, .ref x3), (4, .ref x4)]) hF.1 hF.2.1 dL_law_3714 hl (k := 5) rfl (by rw [ex5_84]; rfl) (by decide) rfl (fun ls hl => ?_)
  refine lv_goto (tgt := 28) hF.1 hF.2.1 dL_law_3717 (by decide) ?_
  exact hJ28 x1 x3 x4 x5_84 X F R L G kc ks _ _ ls hP hM hD hS hk (lv_sub hl [1, 2, 3, 4, 5, 0] rfl) hw
def wpL_512 (E mc ms N : Nat) (xs : Nat → Int32) (J28 : Nat → Nat → Nat → Int32 → hX → mF → mR → mL → mG → Nat → Nat → Prop) (x1 : Nat) (x3 : Nat) (x4 : Nat) (x5 : Int32) (X : hX) (F : mF) (R : mR) (L : mL) (G : mG) (kc ks : Nat) : Prop := (vp_in (x5 + 1) N ∧ (∃ mc_88 ms_89 : Nat, kc + mc_88 ≤ mc ∧ ks + ms_89 ≤ ms ∧ wpX0_unmesh (fun r_86 X_87 => (vp_in (x5 + 1) N ∧ wpX3_unmesh (fun r_93 F_94 R_95 L_96 G_97 => wpX3_thrown (fun r_98 F_99 R_100 L_101 G_102 => ((r_98 = r_86 → ((r_86 = 0 → alJ X_87 x3 0 (fun v_109 => ((v_109 = (Int32.toInt64 r_93) → wpL_565 E mc ms N xs J28 x1 x3 x4 x5 X_87 F_99 R_100 L_101 G_102 (kc + mc_88) (ks + ms_89)) ∧ (¬ v_109 = (Int32.toInt64 r_93) → (0 : Int32) = 1)))) ∧ (¬ r_86 = 0 → wpL_565 E mc ms N xs J28 x1 x3 x4 x5 X_87 F_99 R_100 L_101 G_102 (kc + mc_88) (ks + ms_89)))) ∧ (¬ r_98 = r_86 → (0 : Int32) = 1))) F_94 R_95 L_96 G_97) F R L G (xs (Int32.toNatClampNeg (x5 + 1))))) (fun _ _ _ => False) E mc_88 ms_89 X x1 (xs (Int32.toNatClampNeg (x5 + 1))) x3))
set_option maxHeartbeats 8000000 in
theorem Tl512 {p : Program} {e : Env} {s : State} {m : MethodId} {below : List Frame} {meth : Method} {c : Code} (l : Launch) (hlt : l.stackTraces = false) (K : HK) {b N : Nat} {xs : Nat → Int32} (X0 : hX) (hF : CallFix p m c code 9 s #[Value.ref b] lw_all R_law) (hr : meth.sig.returnType = ret) (hlocks : meth.locks = false) (hC : HC K X0 s) (hx : va_X b N xs s s.heap) (hbl : b < s.heap.size) (hA0 : ∀ q, hA X0 s.heap.size q → s.heap.size ≤ q) (h : Nat) (a : Nat → Nat) (hap : mAp h a) (hmA : ∀ q, mA h a q → hA X0 s.heap.size q) (J28 : Nat → Nat → Nat → Int32 → hX → mF → mR → mL → mG → Nat → Nat → Prop) (hJ28 : ∀ (x1 : Nat) (x3 : Nat) (x4 : Nat) (x5 : Int32) (X : hX) (F : mF) (R : mR) (L : mL) (G : mG) (kc ks : Nat) (H : Heap) (locs : List Loc) (ls : Array Slot), hI K X0 s.heap.size X H → mP K.1 h a F R L G H → hdis X h a → va_S (hA X0 s.heap.size) s.heap H locs → kc ≤ 1200048 ∧ ks ≤ 5501818 → lv_has ls 9 [(0, .ref b), (1, .ref x1), (2, .ref h), (3, .ref x3), (4, .ref x4), (5, .int x5)] → J28 x1 x3 x4 x5 X F R L G kc ks → W p l e room_1 s m #[Value.ref b] below meth c H locs kc ks (lw_Z below #[Value.ref b] s) (F0 m 28 ls [])) : ∀ (x1 : Nat) (x3 : Nat) (x4 : Nat) (x5 : Int32) (X : hX) (F : mF) (R : mR) (L : mL) (G : mG) (kc ks : Nat) (H : Heap) (locs : List Loc) (ls : Array Slot), hI K X0 s.heap.size X H → mP K.1 h a F R L G H → hdis X h a → va_S (hA X0 s.heap.size) s.heap H locs → kc ≤ 1200048 ∧ ks ≤ 5501818 → lv_has ls 9 [(0, .ref b), (1, .ref x1), (2, .ref h), (3, .ref x3), (4, .ref x4), (5, .int x5)] → wpL_512 (K.2.2 0) 1200048 5501818 N xs J28 x1 x3 x4 x5 X F R L G kc ks → W p l e room_1 s m #[Value.ref b] below meth c H locs kc ks (lw_Z below #[Value.ref b] s) (F0 m 512 ls []) := by
  have hbA : ¬ hA X0 s.heap.size b := fun z => Nat.not_lt.mpr (hA0 b z) hbl
  intro x1 x3 x4 x5 X F R L G kc ks H locs ls hP hM hD hS hk hl hw
  unfold wpL_512 at hw
  refine lv_aload_n hF.1 hF.2.1 dL_law_512 rfl (lv_at hl 1 rfl) ?_
  refine lv_aload_n hF.1 hF.2.1 dL_law_513 rfl (lv_at hl 0 rfl) ?_
  refine lv_iload hF.1 hF.2.1 dL_law_514 (lv_at hl 5 rfl) ?_
  refine lv_iconst (v := 1) hF.1 hF.2.1 dL_law_516 (by decide) ?_
  refine lv_iadd hF.1 hF.2.1 dL_law_517 ?_
  obtain ⟨h_85, hw⟩ := hw
  refine va_sld hF.1 hF.2.1 hx hbl hbA hS h_85 dL_law_518 ?_
  refine lv_aload_n hF.1 hF.2.1 dL_law_519 rfl (lv_at hl 3 rfl) ?_
  obtain ⟨mc_88, ms_89, hc_90, hs_91, hw⟩ := hw
  refine lkx_i (hrx_SX (As := [.ref x1, .int (xs (Int32.toNatClampNeg (x5 + 1))), .ref x3]) (rest := []) hF hl.1 hC hP hS (metX0_unmesh l hlt K mc_88 ms_89 _ _ _ X x1 (xs (Int32.toNatClampNeg (x5 + 1))) x3) (vx_cwSW 3 hF.2.2.2.2 (lw_SW q1072 q1073 q74 q1074) rfl rfl rfl (by decide +kernel) ⟨Nat.le_of_ble_eq_true rfl, Nat.le_of_ble_eq_true rfl⟩) hw rfl rfl (Nat.le_of_ble_eq_true rfl) dL_law_520 ⟨hc_90, hs_91⟩) hP hM hD hS (fun r_86 X_87 H locs hw hP hM hD hS => ?_)
  refine lv_istore (lv' := [(6, .int r_86), (0, .ref b), (1, .ref x1), (2, .ref h), (3, .ref x3), (4, .ref x4), (5, .int x5)]) hF.1 hF.2.1 dL_law_523 hl (by decide) rfl (fun ls hl => ?_)
  refine lv_aload_n hF.1 hF.2.1 dL_law_525 rfl (lv_at hl 3 rfl) ?_
  refine lv_aload_n hF.1 hF.2.1 dL_law_526 rfl (lv_at hl 1 rfl) ?_
  refine lv_iload hF.1 hF.2.1 dL_law_527 (lv_at hl 6 rfl) ?_
  refine lv_iconst (v := 1) hF.1 hF.2.1 dL_law_529 (by decide) ?_
  refine lv_iadd hF.1 hF.2.1 dL_law_530 ?_
  obtain ⟨h_92, hw⟩ := hw
  refine va_sld hF.1 hF.2.1 hx hbl hbA hS h_92 dL_law_531 ?_
  refine lm_i (As := [.int (xs (Int32.toNatClampNeg (x5 + 1)))]) (rest := []) hF hl.1 hC (metX3_unmesh l K.1 h a hap _ F R L G (xs (Int32.toNatClampNeg (x5 + 1)))) (cwV 1 hF.2.2.2.2 (lw_V q1911 q1912 q1913 q85 q1914) rfl rfl rfl (by decide +kernel) ⟨Nat.le_of_ble_eq_true rfl, Nat.le_of_ble_eq_true rfl⟩) hP hM hD hS hmA hw rfl rfl (Nat.le_of_ble_eq_true rfl) dL_law_532 ⟨hc_90, hs_91⟩ (fun r_93 F_94 R_95 L_96 G_97 H locs hw hP hM hS => ?_)
  refine lv_istore (lv' := [(7, .int r_93), (6, .int r_86), (0, .ref b), (1, .ref x1), (2, .ref h), (3, .ref x3), (4, .ref x4), (5, .int x5)]) hF.1 hF.2.1 dL_law_535 hl (by decide) rfl (fun ls hl => ?_)
  refine lv_aload_n hF.1 hF.2.1 dL_law_537 rfl (lv_at hl 4 rfl) ?_
  refine lm_i (As := []) (rest := []) hF hl.1 hC (metX3_thrown l K.1 h a hap _ F_94 R_95 L_96 G_97) (cwV 0 hF.2.2.2.2 (lw_V q1813 q1814 q1815 q85 q1816) rfl rfl rfl (by decide +kernel) ⟨Nat.le_of_ble_eq_true rfl, Nat.le_of_ble_eq_true rfl⟩) hP hM hD hS hmA hw rfl rfl (Nat.le_of_ble_eq_true rfl) dL_law_538 ⟨hc_90, hs_91⟩ (fun r_98 F_99 R_100 L_101 G_102 H locs hw hP hM hS => ?_)
  refine lv_iload hF.1 hF.2.1 dL_law_541 (lv_at hl 1 rfl) ?_
  refine lv_icmp_eq (tgt := 548) hF.1 hF.2.1 dL_law_543 (by decide) (fun c_103 => ?_) (fun c_103 => ?_)
  · have hw := hw.1 c_103
    refine lv_iload hF.1 hF.2.1 dL_law_548 (lv_at hl 1 rfl) ?_
    refine lv_if_ne (tgt := 565) hF.1 hF.2.1 dL_law_550 (by decide) (fun c_104 => ?_) (fun c_104 => ?_)
    · have hw := hw.2 c_104
      exact Tl565 l hlt K X0 hF hr hlocks hC hx hbl hA0 h a hap hmA _ hJ28 x1 x3 x4 x5 X_87 F_99 R_100 L_101 G_102 (kc + mc_88) (ks + ms_89) _ _ ls hP hM hD hS ⟨hc_90, hs_91⟩ (lv_sub hl [2, 3, 4, 5, 6, 7] rfl) hw
    · have hw := hw.1 c_104
      refine lv_aload_n hF.1 hF.2.1 dL_law_553 rfl (lv_at hl 5 rfl) ?_
      refine lv_iconst (v := 0) hF.1 hF.2.1 dL_law_554 (by decide) ?_
      obtain ⟨n_105, f_106, hx_107, hi_108, hw⟩ := hw
      refine x_lald hF hC hP hx_107 hi_108 dL_law_555 ?_
      generalize f_106 (Int32.toNatClampNeg 0) = v_109 at hw ⊢
      refine lv_iload hF.1 hF.2.1 dL_law_556 (lv_at hl 0 rfl) ?_
      refine lv_i2l hF.1 hF.2.1 dL_law_558 rfl ?_
      refine W.lcmp hF.1 hF.2.1 dL_law_559 ?_
      refine lv_if_eq (tgt := 565) hF.1 hF.2.1 dL_law_560 (by decide) (fun c_110 => ?_) (fun c_110 => ?_)
      · rw [lc_eq] at c_110
        have hw := hw.1 c_110
        exact Tl565 l hlt K X0 hF hr hlocks hC hx hbl hA0 h a hap hmA _ hJ28 x1 x3 x4 x5 X_87 F_99 R_100 L_101 G_102 (kc + mc_88) (ks + ms_89) _ _ ls hP hM hD hS ⟨hc_90, hs_91⟩ (lv_sub hl [2, 3, 4, 5, 6, 7] rfl) hw
      · rw [lc_eq] at c_110
        have hw := hw.2 c_110
        refine lv_iconst (v := 0) hF.1 hF.2.1 dL_law_563 (by decide) ?_
        exact l_end hF hr hlocks hA0 hS ⟨hc_90, hs_91⟩ dL_law_564 hw
  · have hw := hw.2 c_103
    refine lv_iconst (v := 0) hF.1 hF.2.1 dL_law_546 (by decide) ?_
    exact l_end hF hr hlocks hA0 hS ⟨hc_90, hs_91⟩ dL_law_547 hw
def wpL_633 (E mc ms N : Nat) (xs : Nat → Int32) (J28 : Nat → Nat → Nat → Int32 → hX → mF → mR → mL → mG → Nat → Nat → Prop) (x1 : Nat) (x3 : Nat) (x4 : Nat) (x5 : Int32) (X : hX) (F : mF) (R : mR) (L : mL) (G : mG) (kc ks : Nat) : Prop := (∀ x5_111 : Int32, x5_111 = x5 + 5 → J28 x1 x3 x4 x5_111 X F R L G kc ks)
set_option maxHeartbeats 8000000 in
theorem Tl633 {p : Program} {e : Env} {s : State} {m : MethodId} {below : List Frame} {meth : Method} {c : Code} (l : Launch) (hlt : l.stackTraces = false) (K : HK) {b N : Nat} {xs : Nat → Int32} (X0 : hX) (hF : CallFix p m c code 9 s #[Value.ref b] lw_all R_law) (hr : meth.sig.returnType = ret) (hlocks : meth.locks = false) (hC : HC K X0 s) (hx : va_X b N xs s s.heap) (hbl : b < s.heap.size) (hA0 : ∀ q, hA X0 s.heap.size q → s.heap.size ≤ q) (h : Nat) (a : Nat → Nat) (hap : mAp h a) (hmA : ∀ q, mA h a q → hA X0 s.heap.size q) (J28 : Nat → Nat → Nat → Int32 → hX → mF → mR → mL → mG → Nat → Nat → Prop) (hJ28 : ∀ (x1 : Nat) (x3 : Nat) (x4 : Nat) (x5 : Int32) (X : hX) (F : mF) (R : mR) (L : mL) (G : mG) (kc ks : Nat) (H : Heap) (locs : List Loc) (ls : Array Slot), hI K X0 s.heap.size X H → mP K.1 h a F R L G H → hdis X h a → va_S (hA X0 s.heap.size) s.heap H locs → kc ≤ 1200048 ∧ ks ≤ 5501818 → lv_has ls 9 [(0, .ref b), (1, .ref x1), (2, .ref h), (3, .ref x3), (4, .ref x4), (5, .int x5)] → J28 x1 x3 x4 x5 X F R L G kc ks → W p l e room_1 s m #[Value.ref b] below meth c H locs kc ks (lw_Z below #[Value.ref b] s) (F0 m 28 ls [])) : ∀ (x1 : Nat) (x3 : Nat) (x4 : Nat) (x5 : Int32) (X : hX) (F : mF) (R : mR) (L : mL) (G : mG) (kc ks : Nat) (H : Heap) (locs : List Loc) (ls : Array Slot), hI K X0 s.heap.size X H → mP K.1 h a F R L G H → hdis X h a → va_S (hA X0 s.heap.size) s.heap H locs → kc ≤ 1200048 ∧ ks ≤ 5501818 → lv_has ls 9 [(0, .ref b), (1, .ref x1), (2, .ref h), (3, .ref x3), (4, .ref x4), (5, .int x5)] → wpL_633 (K.2.2 0) 1200048 5501818 N xs J28 x1 x3 x4 x5 X F R L G kc ks → W p l e room_1 s m #[Value.ref b] below meth c H locs kc ks (lw_Z below #[Value.ref b] s) (F0 m 633 ls []) := by
  have hbA : ¬ hA X0 s.heap.size b := fun z => Nat.not_lt.mpr (hA0 b z) hbl
  intro x1 x3 x4 x5 X F R L G kc ks H locs ls hP hM hD hS hk hl hw
  unfold wpL_633 at hw
  refine lv_goto (tgt := 3714) hF.1 hF.2.1 dL_law_633 (by decide) ?_
  obtain ⟨x5_111, ex5_111⟩ : ∃ y : Int32, y = x5 + 5 := ⟨_, rfl⟩
  have hw := hw x5_111 ex5_111
  refine lv_iinc (v := x5_111) (lv' := [(5, .int x5_111), (0, .ref b), (1, .ref x1), (2, .ref h), (3, .ref x3), (4, .ref x4)]) hF.1 hF.2.1 dL_law_3714 hl (k := 5) rfl (by rw [ex5_111]; rfl) (by decide) rfl (fun ls hl => ?_)
  refine lv_goto (tgt := 28) hF.1 hF.2.1 dL_law_3717 (by decide) ?_
  exact hJ28 x1 x3 x4 x5_111 X F R L G kc ks _ _ ls hP hM hD hS hk (lv_sub hl [1, 2, 3, 4, 5, 0] rfl) hw
def wpL_568 (E mc ms N : Nat) (xs : Nat → Int32) (J28 : Nat → Nat → Nat → Int32 → hX → mF → mR → mL → mG → Nat → Nat → Prop) (x1 : Nat) (x3 : Nat) (x4 : Nat) (x5 : Int32) (X : hX) (F : mF) (R : mR) (L : mL) (G : mG) (kc ks : Nat) : Prop := (vp_in (x5 + 1) N ∧ (vp_in (x5 + 2) N ∧ (∃ mc_116 ms_117 : Nat, kc + mc_116 ≤ mc ∧ ks + ms_117 ≤ ms ∧ wpX0_setTeeth (fun r_114 X_115 => (vp_in (x5 + 1) N ∧ (vp_in (x5 + 2) N ∧ wpX3_setTeeth (fun r_122 F_123 R_124 L_125 G_126 => wpX3_thrown (fun r_127 F_128 R_129 L_130 G_131 => ((r_127 = r_114 → ((r_114 = 0 → alJ X_115 x3 0 (fun v_138 => ((v_138 = (Int32.toInt64 r_122) → wpL_633 E mc ms N xs J28 x1 x3 x4 x5 X_115 F_128 R_129 L_130 G_131 (kc + mc_116) (ks + ms_117)) ∧ (¬ v_138 = (Int32.toInt64 r_122) → (0 : Int32) = 1)))) ∧ (¬ r_114 = 0 → wpL_633 E mc ms N xs J28 x1 x3 x4 x5 X_115 F_128 R_129 L_130 G_131 (kc + mc_116) (ks + ms_117)))) ∧ (¬ r_127 = r_114 → (0 : Int32) = 1))) F_123 R_124 L_125 G_126) F R L G (xs (Int32.toNatClampNeg (x5 + 1))) (xs (Int32.toNatClampNeg (x5 + 2)))))) (fun _ _ _ => False) E mc_116 ms_117 X x1 (xs (Int32.toNatClampNeg (x5 + 1))) (xs (Int32.toNatClampNeg (x5 + 2))) x3)))
set_option maxHeartbeats 8000000 in
theorem Tl568 {p : Program} {e : Env} {s : State} {m : MethodId} {below : List Frame} {meth : Method} {c : Code} (l : Launch) (hlt : l.stackTraces = false) (K : HK) {b N : Nat} {xs : Nat → Int32} (X0 : hX) (hF : CallFix p m c code 9 s #[Value.ref b] lw_all R_law) (hr : meth.sig.returnType = ret) (hlocks : meth.locks = false) (hC : HC K X0 s) (hx : va_X b N xs s s.heap) (hbl : b < s.heap.size) (hA0 : ∀ q, hA X0 s.heap.size q → s.heap.size ≤ q) (h : Nat) (a : Nat → Nat) (hap : mAp h a) (hmA : ∀ q, mA h a q → hA X0 s.heap.size q) (J28 : Nat → Nat → Nat → Int32 → hX → mF → mR → mL → mG → Nat → Nat → Prop) (hJ28 : ∀ (x1 : Nat) (x3 : Nat) (x4 : Nat) (x5 : Int32) (X : hX) (F : mF) (R : mR) (L : mL) (G : mG) (kc ks : Nat) (H : Heap) (locs : List Loc) (ls : Array Slot), hI K X0 s.heap.size X H → mP K.1 h a F R L G H → hdis X h a → va_S (hA X0 s.heap.size) s.heap H locs → kc ≤ 1200048 ∧ ks ≤ 5501818 → lv_has ls 9 [(0, .ref b), (1, .ref x1), (2, .ref h), (3, .ref x3), (4, .ref x4), (5, .int x5)] → J28 x1 x3 x4 x5 X F R L G kc ks → W p l e room_1 s m #[Value.ref b] below meth c H locs kc ks (lw_Z below #[Value.ref b] s) (F0 m 28 ls [])) : ∀ (x1 : Nat) (x3 : Nat) (x4 : Nat) (x5 : Int32) (X : hX) (F : mF) (R : mR) (L : mL) (G : mG) (kc ks : Nat) (H : Heap) (locs : List Loc) (ls : Array Slot), hI K X0 s.heap.size X H → mP K.1 h a F R L G H → hdis X h a → va_S (hA X0 s.heap.size) s.heap H locs → kc ≤ 1200048 ∧ ks ≤ 5501818 → lv_has ls 9 [(0, .ref b), (1, .ref x1), (2, .ref h), (3, .ref x3), (4, .ref x4), (5, .int x5)] → wpL_568 (K.2.2 0) 1200048 5501818 N xs J28 x1 x3 x4 x5 X F R L G kc ks → W p l e room_1 s m #[Value.ref b] below meth c H locs kc ks (lw_Z below #[Value.ref b] s) (F0 m 568 ls []) := by
  have hbA : ¬ hA X0 s.heap.size b := fun z => Nat.not_lt.mpr (hA0 b z) hbl
  intro x1 x3 x4 x5 X F R L G kc ks H locs ls hP hM hD hS hk hl hw
  unfold wpL_568 at hw
  refine lv_aload_n hF.1 hF.2.1 dL_law_568 rfl (lv_at hl 1 rfl) ?_
  refine lv_aload_n hF.1 hF.2.1 dL_law_569 rfl (lv_at hl 0 rfl) ?_
  refine lv_iload hF.1 hF.2.1 dL_law_570 (lv_at hl 5 rfl) ?_
  refine lv_iconst (v := 1) hF.1 hF.2.1 dL_law_572 (by decide) ?_
  refine lv_iadd hF.1 hF.2.1 dL_law_573 ?_
  obtain ⟨h_112, hw⟩ := hw
  refine va_sld hF.1 hF.2.1 hx hbl hbA hS h_112 dL_law_574 ?_
  refine lv_aload_n hF.1 hF.2.1 dL_law_575 rfl (lv_at hl 0 rfl) ?_
  refine lv_iload hF.1 hF.2.1 dL_law_576 (lv_at hl 5 rfl) ?_
  refine lv_iconst (v := 2) hF.1 hF.2.1 dL_law_578 (by decide) ?_
  refine lv_iadd hF.1 hF.2.1 dL_law_579 ?_
  obtain ⟨h_113, hw⟩ := hw
  refine va_sld hF.1 hF.2.1 hx hbl hbA hS h_113 dL_law_580 ?_
  refine lv_aload_n hF.1 hF.2.1 dL_law_581 rfl (lv_at hl 3 rfl) ?_
  obtain ⟨mc_116, ms_117, hc_118, hs_119, hw⟩ := hw
  refine lkx_i (hrx_SX (As := [.ref x1, .int (xs (Int32.toNatClampNeg (x5 + 1))), .int (xs (Int32.toNatClampNeg (x5 + 2))), .ref x3]) (rest := []) hF hl.1 hC hP hS (metX0_setTeeth l hlt K mc_116 ms_117 _ _ _ X x1 (xs (Int32.toNatClampNeg (x5 + 1))) (xs (Int32.toNatClampNeg (x5 + 2))) x3) (vx_cwSW 4 hF.2.2.2.2 (lw_SW q1079 q1080 q74 q1081) rfl rfl rfl (by decide +kernel) ⟨Nat.le_of_ble_eq_true rfl, Nat.le_of_ble_eq_true rfl⟩) hw rfl rfl (Nat.le_of_ble_eq_true rfl) dL_law_582 ⟨hc_118, hs_119⟩) hP hM hD hS (fun r_114 X_115 H locs hw hP hM hD hS => ?_)
  refine lv_istore (lv' := [(6, .int r_114), (0, .ref b), (1, .ref x1), (2, .ref h), (3, .ref x3), (4, .ref x4), (5, .int x5)]) hF.1 hF.2.1 dL_law_585 hl (by decide) rfl (fun ls hl => ?_)
  refine lv_aload_n hF.1 hF.2.1 dL_law_587 rfl (lv_at hl 3 rfl) ?_
  refine lv_aload_n hF.1 hF.2.1 dL_law_588 rfl (lv_at hl 1 rfl) ?_
  refine lv_iload hF.1 hF.2.1 dL_law_589 (lv_at hl 6 rfl) ?_
  refine lv_iconst (v := 1) hF.1 hF.2.1 dL_law_591 (by decide) ?_
  refine lv_iadd hF.1 hF.2.1 dL_law_592 ?_
  obtain ⟨h_120, hw⟩ := hw
  refine va_sld hF.1 hF.2.1 hx hbl hbA hS h_120 dL_law_593 ?_
  refine lv_aload_n hF.1 hF.2.1 dL_law_594 rfl (lv_at hl 1 rfl) ?_
  refine lv_iload hF.1 hF.2.1 dL_law_595 (lv_at hl 6 rfl) ?_
  refine lv_iconst (v := 2) hF.1 hF.2.1 dL_law_597 (by decide) ?_
  refine lv_iadd hF.1 hF.2.1 dL_law_598 ?_
  obtain ⟨h_121, hw⟩ := hw
  refine va_sld hF.1 hF.2.1 hx hbl hbA hS h_121 dL_law_599 ?_
  refine lm_i (As := [.int (xs (Int32.toNatClampNeg (x5 + 1))), .int (xs (Int32.toNatClampNeg (x5 + 2)))]) (rest := []) hF hl.1 hC (metX3_setTeeth l K.1 h a hap _ F R L G (xs (Int32.toNatClampNeg (x5 + 1))) (xs (Int32.toNatClampNeg (x5 + 2)))) (cwV 2 hF.2.2.2.2 (lw_V q1923 q1924 q1925 q85 q1926) rfl rfl rfl (by decide +kernel) ⟨Nat.le_of_ble_eq_true rfl, Nat.le_of_ble_eq_true rfl⟩) hP hM hD hS hmA hw rfl rfl (Nat.le_of_ble_eq_true rfl) dL_law_600 ⟨hc_118, hs_119⟩ (fun r_122 F_123 R_124 L_125 G_126 H locs hw hP hM hS => ?_)
  refine lv_istore (lv' := [(7, .int r_122), (6, .int r_114), (0, .ref b), (1, .ref x1), (2, .ref h), (3, .ref x3), (4, .ref x4), (5, .int x5)]) hF.1 hF.2.1 dL_law_603 hl (by decide) rfl (fun ls hl => ?_)
  refine lv_aload_n hF.1 hF.2.1 dL_law_605 rfl (lv_at hl 4 rfl) ?_
  refine lm_i (As := []) (rest := []) hF hl.1 hC (metX3_thrown l K.1 h a hap _ F_123 R_124 L_125 G_126) (cwV 0 hF.2.2.2.2 (lw_V q1813 q1814 q1815 q85 q1816) rfl rfl rfl (by decide +kernel) ⟨Nat.le_of_ble_eq_true rfl, Nat.le_of_ble_eq_true rfl⟩) hP hM hD hS hmA hw rfl rfl (Nat.le_of_ble_eq_true rfl) dL_law_606 ⟨hc_118, hs_119⟩ (fun r_127 F_128 R_129 L_130 G_131 H locs hw hP hM hS => ?_)
  refine lv_iload hF.1 hF.2.1 dL_law_609 (lv_at hl 1 rfl) ?_
  refine lv_icmp_eq (tgt := 616) hF.1 hF.2.1 dL_law_611 (by decide) (fun c_132 => ?_) (fun c_132 => ?_)
  · have hw := hw.1 c_132
    refine lv_iload hF.1 hF.2.1 dL_law_616 (lv_at hl 1 rfl) ?_
    refine lv_if_ne (tgt := 633) hF.1 hF.2.1 dL_law_618 (by decide) (fun c_133 => ?_) (fun c_133 => ?_)
    · have hw := hw.2 c_133
      exact Tl633 l hlt K X0 hF hr hlocks hC hx hbl hA0 h a hap hmA _ hJ28 x1 x3 x4 x5 X_115 F_128 R_129 L_130 G_131 (kc + mc_116) (ks + ms_117) _ _ ls hP hM hD hS ⟨hc_118, hs_119⟩ (lv_sub hl [2, 3, 4, 5, 6, 7] rfl) hw
    · have hw := hw.1 c_133
      refine lv_aload_n hF.1 hF.2.1 dL_law_621 rfl (lv_at hl 5 rfl) ?_
      refine lv_iconst (v := 0) hF.1 hF.2.1 dL_law_622 (by decide) ?_
      obtain ⟨n_134, f_135, hx_136, hi_137, hw⟩ := hw
      refine x_lald hF hC hP hx_136 hi_137 dL_law_623 ?_
      generalize f_135 (Int32.toNatClampNeg 0) = v_138 at hw ⊢
      refine lv_iload hF.1 hF.2.1 dL_law_624 (lv_at hl 0 rfl) ?_
      refine lv_i2l hF.1 hF.2.1 dL_law_626 rfl ?_
      refine W.lcmp hF.1 hF.2.1 dL_law_627 ?_
      refine lv_if_eq (tgt := 633) hF.1 hF.2.1 dL_law_628 (by decide) (fun c_139 => ?_) (fun c_139 => ?_)
      · rw [lc_eq] at c_139
        have hw := hw.1 c_139
        exact Tl633 l hlt K X0 hF hr hlocks hC hx hbl hA0 h a hap hmA _ hJ28 x1 x3 x4 x5 X_115 F_128 R_129 L_130 G_131 (kc + mc_116) (ks + ms_117) _ _ ls hP hM hD hS ⟨hc_118, hs_119⟩ (lv_sub hl [2, 3, 4, 5, 6, 7] rfl) hw
      · rw [lc_eq] at c_139
        have hw := hw.2 c_139
        refine lv_iconst (v := 0) hF.1 hF.2.1 dL_law_631 (by decide) ?_
        exact l_end hF hr hlocks hA0 hS ⟨hc_118, hs_119⟩ dL_law_632 hw
  · have hw := hw.2 c_132
    refine lv_iconst (v := 0) hF.1 hF.2.1 dL_law_614 (by decide) ?_
    exact l_end hF hr hlocks hA0 hS ⟨hc_118, hs_119⟩ dL_law_615 hw
def wpL_701 (E mc ms N : Nat) (xs : Nat → Int32) (J28 : Nat → Nat → Nat → Int32 → hX → mF → mR → mL → mG → Nat → Nat → Prop) (x1 : Nat) (x3 : Nat) (x4 : Nat) (x5 : Int32) (X : hX) (F : mF) (R : mR) (L : mL) (G : mG) (kc ks : Nat) : Prop := (∀ x5_140 : Int32, x5_140 = x5 + 5 → J28 x1 x3 x4 x5_140 X F R L G kc ks)
set_option maxHeartbeats 8000000 in
theorem Tl701 {p : Program} {e : Env} {s : State} {m : MethodId} {below : List Frame} {meth : Method} {c : Code} (l : Launch) (hlt : l.stackTraces = false) (K : HK) {b N : Nat} {xs : Nat → Int32} (X0 : hX) (hF : CallFix p m c code 9 s #[Value.ref b] lw_all R_law) (hr : meth.sig.returnType = ret) (hlocks : meth.locks = false) (hC : HC K X0 s) (hx : va_X b N xs s s.heap) (hbl : b < s.heap.size) (hA0 : ∀ q, hA X0 s.heap.size q → s.heap.size ≤ q) (h : Nat) (a : Nat → Nat) (hap : mAp h a) (hmA : ∀ q, mA h a q → hA X0 s.heap.size q) (J28 : Nat → Nat → Nat → Int32 → hX → mF → mR → mL → mG → Nat → Nat → Prop) (hJ28 : ∀ (x1 : Nat) (x3 : Nat) (x4 : Nat) (x5 : Int32) (X : hX) (F : mF) (R : mR) (L : mL) (G : mG) (kc ks : Nat) (H : Heap) (locs : List Loc) (ls : Array Slot), hI K X0 s.heap.size X H → mP K.1 h a F R L G H → hdis X h a → va_S (hA X0 s.heap.size) s.heap H locs → kc ≤ 1200048 ∧ ks ≤ 5501818 → lv_has ls 9 [(0, .ref b), (1, .ref x1), (2, .ref h), (3, .ref x3), (4, .ref x4), (5, .int x5)] → J28 x1 x3 x4 x5 X F R L G kc ks → W p l e room_1 s m #[Value.ref b] below meth c H locs kc ks (lw_Z below #[Value.ref b] s) (F0 m 28 ls [])) : ∀ (x1 : Nat) (x3 : Nat) (x4 : Nat) (x5 : Int32) (X : hX) (F : mF) (R : mR) (L : mL) (G : mG) (kc ks : Nat) (H : Heap) (locs : List Loc) (ls : Array Slot), hI K X0 s.heap.size X H → mP K.1 h a F R L G H → hdis X h a → va_S (hA X0 s.heap.size) s.heap H locs → kc ≤ 1200048 ∧ ks ≤ 5501818 → lv_has ls 9 [(0, .ref b), (1, .ref x1), (2, .ref h), (3, .ref x3), (4, .ref x4), (5, .int x5)] → wpL_701 (K.2.2 0) 1200048 5501818 N xs J28 x1 x3 x4 x5 X F R L G kc ks → W p l e room_1 s m #[Value.ref b] below meth c H locs kc ks (lw_Z below #[Value.ref b] s) (F0 m 701 ls []) := by
  have hbA : ¬ hA X0 s.heap.size b := fun z => Nat.not_lt.mpr (hA0 b z) hbl
  intro x1 x3 x4 x5 X F R L G kc ks H locs ls hP hM hD hS hk hl hw
  unfold wpL_701 at hw
  refine lv_goto (tgt := 3714) hF.1 hF.2.1 dL_law_701 (by decide) ?_
  obtain ⟨x5_140, ex5_140⟩ : ∃ y : Int32, y = x5 + 5 := ⟨_, rfl⟩
  have hw := hw x5_140 ex5_140
  refine lv_iinc (v := x5_140) (lv' := [(5, .int x5_140), (0, .ref b), (1, .ref x1), (2, .ref h), (3, .ref x3), (4, .ref x4)]) hF.1 hF.2.1 dL_law_3714 hl (k := 5) rfl (by rw [ex5_140]; rfl) (by decide) rfl (fun ls hl => ?_)
  refine lv_goto (tgt := 28) hF.1 hF.2.1 dL_law_3717 (by decide) ?_
  exact hJ28 x1 x3 x4 x5_140 X F R L G kc ks _ _ ls hP hM hD hS hk (lv_sub hl [1, 2, 3, 4, 5, 0] rfl) hw
def wpL_636 (E mc ms N : Nat) (xs : Nat → Int32) (J28 : Nat → Nat → Nat → Int32 → hX → mF → mR → mL → mG → Nat → Nat → Prop) (x1 : Nat) (x3 : Nat) (x4 : Nat) (x5 : Int32) (X : hX) (F : mF) (R : mR) (L : mL) (G : mG) (kc ks : Nat) : Prop := (vp_in (x5 + 1) N ∧ (vp_in (x5 + 2) N ∧ (∃ mc_145 ms_146 : Nat, kc + mc_145 ≤ mc ∧ ks + ms_146 ≤ ms ∧ wpX0_addArm (fun r_143 X_144 => (vp_in (x5 + 1) N ∧ (vp_in (x5 + 2) N ∧ wpX3_addArm (fun r_151 F_152 R_153 L_154 G_155 => wpX3_thrown (fun r_156 F_157 R_158 L_159 G_160 => ((r_156 = r_143 → ((r_143 = 0 → alJ X_144 x3 0 (fun v_167 => ((v_167 = (Int32.toInt64 r_151) → wpL_701 E mc ms N xs J28 x1 x3 x4 x5 X_144 F_157 R_158 L_159 G_160 (kc + mc_145) (ks + ms_146)) ∧ (¬ v_167 = (Int32.toInt64 r_151) → (0 : Int32) = 1)))) ∧ (¬ r_143 = 0 → wpL_701 E mc ms N xs J28 x1 x3 x4 x5 X_144 F_157 R_158 L_159 G_160 (kc + mc_145) (ks + ms_146)))) ∧ (¬ r_156 = r_143 → (0 : Int32) = 1))) F_152 R_153 L_154 G_155) F R L G (xs (Int32.toNatClampNeg (x5 + 1))) (xs (Int32.toNatClampNeg (x5 + 2)))))) (fun _ _ _ => False) E mc_145 ms_146 X x1 (xs (Int32.toNatClampNeg (x5 + 1))) (xs (Int32.toNatClampNeg (x5 + 2))) x3)))
set_option maxHeartbeats 8000000 in
theorem Tl636 {p : Program} {e : Env} {s : State} {m : MethodId} {below : List Frame} {meth : Method} {c : Code} (l : Launch) (hlt : l.stackTraces = false) (K : HK) {b N : Nat} {xs : Nat → Int32} (X0 : hX) (hF : CallFix p m c code 9 s #[Value.ref b] lw_all R_law) (hr : meth.sig.returnType = ret) (hlocks : meth.locks = false) (hC : HC K X0 s) (hx : va_X b N xs s s.heap) (hbl : b < s.heap.size) (hA0 : ∀ q, hA X0 s.heap.size q → s.heap.size ≤ q) (h : Nat) (a : Nat → Nat) (hap : mAp h a) (hmA : ∀ q, mA h a q → hA X0 s.heap.size q) (J28 : Nat → Nat → Nat → Int32 → hX → mF → mR → mL → mG → Nat → Nat → Prop) (hJ28 : ∀ (x1 : Nat) (x3 : Nat) (x4 : Nat) (x5 : Int32) (X : hX) (F : mF) (R : mR) (L : mL) (G : mG) (kc ks : Nat) (H : Heap) (locs : List Loc) (ls : Array Slot), hI K X0 s.heap.size X H → mP K.1 h a F R L G H → hdis X h a → va_S (hA X0 s.heap.size) s.heap H locs → kc ≤ 1200048 ∧ ks ≤ 5501818 → lv_has ls 9 [(0, .ref b), (1, .ref x1), (2, .ref h), (3, .ref x3), (4, .ref x4), (5, .int x5)] → J28 x1 x3 x4 x5 X F R L G kc ks → W p l e room_1 s m #[Value.ref b] below meth c H locs kc ks (lw_Z below #[Value.ref b] s) (F0 m 28 ls [])) : ∀ (x1 : Nat) (x3 : Nat) (x4 : Nat) (x5 : Int32) (X : hX) (F : mF) (R : mR) (L : mL) (G : mG) (kc ks : Nat) (H : Heap) (locs : List Loc) (ls : Array Slot), hI K X0 s.heap.size X H → mP K.1 h a F R L G H → hdis X h a → va_S (hA X0 s.heap.size) s.heap H locs → kc ≤ 1200048 ∧ ks ≤ 5501818 → lv_has ls 9 [(0, .ref b), (1, .ref x1), (2, .ref h), (3, .ref x3), (4, .ref x4), (5, .int x5)] → wpL_636 (K.2.2 0) 1200048 5501818 N xs J28 x1 x3 x4 x5 X F R L G kc ks → W p l e room_1 s m #[Value.ref b] below meth c H locs kc ks (lw_Z below #[Value.ref b] s) (F0 m 636 ls []) := by
  have hbA : ¬ hA X0 s.heap.size b := fun z => Nat.not_lt.mpr (hA0 b z) hbl
  intro x1 x3 x4 x5 X F R L G kc ks H locs ls hP hM hD hS hk hl hw
  unfold wpL_636 at hw
  refine lv_aload_n hF.1 hF.2.1 dL_law_636 rfl (lv_at hl 1 rfl) ?_
  refine lv_aload_n hF.1 hF.2.1 dL_law_637 rfl (lv_at hl 0 rfl) ?_
  refine lv_iload hF.1 hF.2.1 dL_law_638 (lv_at hl 5 rfl) ?_
  refine lv_iconst (v := 1) hF.1 hF.2.1 dL_law_640 (by decide) ?_
  refine lv_iadd hF.1 hF.2.1 dL_law_641 ?_
  obtain ⟨h_141, hw⟩ := hw
  refine va_sld hF.1 hF.2.1 hx hbl hbA hS h_141 dL_law_642 ?_
  refine lv_aload_n hF.1 hF.2.1 dL_law_643 rfl (lv_at hl 0 rfl) ?_
  refine lv_iload hF.1 hF.2.1 dL_law_644 (lv_at hl 5 rfl) ?_
  refine lv_iconst (v := 2) hF.1 hF.2.1 dL_law_646 (by decide) ?_
  refine lv_iadd hF.1 hF.2.1 dL_law_647 ?_
  obtain ⟨h_142, hw⟩ := hw
  refine va_sld hF.1 hF.2.1 hx hbl hbA hS h_142 dL_law_648 ?_
  refine lv_aload_n hF.1 hF.2.1 dL_law_649 rfl (lv_at hl 3 rfl) ?_
  obtain ⟨mc_145, ms_146, hc_147, hs_148, hw⟩ := hw
  refine lkx_i (hrx_SX (As := [.ref x1, .int (xs (Int32.toNatClampNeg (x5 + 1))), .int (xs (Int32.toNatClampNeg (x5 + 2))), .ref x3]) (rest := []) hF hl.1 hC hP hS (metX0_addArm l hlt K mc_145 ms_146 _ _ _ X x1 (xs (Int32.toNatClampNeg (x5 + 1))) (xs (Int32.toNatClampNeg (x5 + 2))) x3) (vx_cwSW 4 hF.2.2.2.2 (lw_SW q1086 q1087 q74 q1088) rfl rfl rfl (by decide +kernel) ⟨Nat.le_of_ble_eq_true rfl, Nat.le_of_ble_eq_true rfl⟩) hw rfl rfl (Nat.le_of_ble_eq_true rfl) dL_law_650 ⟨hc_147, hs_148⟩) hP hM hD hS (fun r_143 X_144 H locs hw hP hM hD hS => ?_)
  refine lv_istore (lv' := [(6, .int r_143), (0, .ref b), (1, .ref x1), (2, .ref h), (3, .ref x3), (4, .ref x4), (5, .int x5)]) hF.1 hF.2.1 dL_law_653 hl (by decide) rfl (fun ls hl => ?_)
  refine lv_aload_n hF.1 hF.2.1 dL_law_655 rfl (lv_at hl 3 rfl) ?_
  refine lv_aload_n hF.1 hF.2.1 dL_law_656 rfl (lv_at hl 1 rfl) ?_
  refine lv_iload hF.1 hF.2.1 dL_law_657 (lv_at hl 6 rfl) ?_
  refine lv_iconst (v := 1) hF.1 hF.2.1 dL_law_659 (by decide) ?_
  refine lv_iadd hF.1 hF.2.1 dL_law_660 ?_
  obtain ⟨h_149, hw⟩ := hw
  refine va_sld hF.1 hF.2.1 hx hbl hbA hS h_149 dL_law_661 ?_
  refine lv_aload_n hF.1 hF.2.1 dL_law_662 rfl (lv_at hl 1 rfl) ?_
  refine lv_iload hF.1 hF.2.1 dL_law_663 (lv_at hl 6 rfl) ?_
  refine lv_iconst (v := 2) hF.1 hF.2.1 dL_law_665 (by decide) ?_
  refine lv_iadd hF.1 hF.2.1 dL_law_666 ?_
  obtain ⟨h_150, hw⟩ := hw
  refine va_sld hF.1 hF.2.1 hx hbl hbA hS h_150 dL_law_667 ?_
  refine lm_i (As := [.int (xs (Int32.toNatClampNeg (x5 + 1))), .int (xs (Int32.toNatClampNeg (x5 + 2)))]) (rest := []) hF hl.1 hC (metX3_addArm l K.1 h a hap _ F R L G (xs (Int32.toNatClampNeg (x5 + 1))) (xs (Int32.toNatClampNeg (x5 + 2)))) (cwV 2 hF.2.2.2.2 (lw_V q1931 q1932 q1933 q85 q1934) rfl rfl rfl (by decide +kernel) ⟨Nat.le_of_ble_eq_true rfl, Nat.le_of_ble_eq_true rfl⟩) hP hM hD hS hmA hw rfl rfl (Nat.le_of_ble_eq_true rfl) dL_law_668 ⟨hc_147, hs_148⟩ (fun r_151 F_152 R_153 L_154 G_155 H locs hw hP hM hS => ?_)
  refine lv_istore (lv' := [(7, .int r_151), (6, .int r_143), (0, .ref b), (1, .ref x1), (2, .ref h), (3, .ref x3), (4, .ref x4), (5, .int x5)]) hF.1 hF.2.1 dL_law_671 hl (by decide) rfl (fun ls hl => ?_)
  refine lv_aload_n hF.1 hF.2.1 dL_law_673 rfl (lv_at hl 4 rfl) ?_
  refine lm_i (As := []) (rest := []) hF hl.1 hC (metX3_thrown l K.1 h a hap _ F_152 R_153 L_154 G_155) (cwV 0 hF.2.2.2.2 (lw_V q1813 q1814 q1815 q85 q1816) rfl rfl rfl (by decide +kernel) ⟨Nat.le_of_ble_eq_true rfl, Nat.le_of_ble_eq_true rfl⟩) hP hM hD hS hmA hw rfl rfl (Nat.le_of_ble_eq_true rfl) dL_law_674 ⟨hc_147, hs_148⟩ (fun r_156 F_157 R_158 L_159 G_160 H locs hw hP hM hS => ?_)
  refine lv_iload hF.1 hF.2.1 dL_law_677 (lv_at hl 1 rfl) ?_
  refine lv_icmp_eq (tgt := 684) hF.1 hF.2.1 dL_law_679 (by decide) (fun c_161 => ?_) (fun c_161 => ?_)
  · have hw := hw.1 c_161
    refine lv_iload hF.1 hF.2.1 dL_law_684 (lv_at hl 1 rfl) ?_
    refine lv_if_ne (tgt := 701) hF.1 hF.2.1 dL_law_686 (by decide) (fun c_162 => ?_) (fun c_162 => ?_)
    · have hw := hw.2 c_162
      exact Tl701 l hlt K X0 hF hr hlocks hC hx hbl hA0 h a hap hmA _ hJ28 x1 x3 x4 x5 X_144 F_157 R_158 L_159 G_160 (kc + mc_145) (ks + ms_146) _ _ ls hP hM hD hS ⟨hc_147, hs_148⟩ (lv_sub hl [2, 3, 4, 5, 6, 7] rfl) hw
    · have hw := hw.1 c_162
      refine lv_aload_n hF.1 hF.2.1 dL_law_689 rfl (lv_at hl 5 rfl) ?_
      refine lv_iconst (v := 0) hF.1 hF.2.1 dL_law_690 (by decide) ?_
      obtain ⟨n_163, f_164, hx_165, hi_166, hw⟩ := hw
      refine x_lald hF hC hP hx_165 hi_166 dL_law_691 ?_
      generalize f_164 (Int32.toNatClampNeg 0) = v_167 at hw ⊢
      refine lv_iload hF.1 hF.2.1 dL_law_692 (lv_at hl 0 rfl) ?_
      refine lv_i2l hF.1 hF.2.1 dL_law_694 rfl ?_
      refine W.lcmp hF.1 hF.2.1 dL_law_695 ?_
      refine lv_if_eq (tgt := 701) hF.1 hF.2.1 dL_law_696 (by decide) (fun c_168 => ?_) (fun c_168 => ?_)
      · rw [lc_eq] at c_168
        have hw := hw.1 c_168
        exact Tl701 l hlt K X0 hF hr hlocks hC hx hbl hA0 h a hap hmA _ hJ28 x1 x3 x4 x5 X_144 F_157 R_158 L_159 G_160 (kc + mc_145) (ks + ms_146) _ _ ls hP hM hD hS ⟨hc_147, hs_148⟩ (lv_sub hl [2, 3, 4, 5, 6, 7] rfl) hw
      · rw [lc_eq] at c_168
        have hw := hw.2 c_168
        refine lv_iconst (v := 0) hF.1 hF.2.1 dL_law_699 (by decide) ?_
        exact l_end hF hr hlocks hA0 hS ⟨hc_147, hs_148⟩ dL_law_700 hw
  · have hw := hw.2 c_161
    refine lv_iconst (v := 0) hF.1 hF.2.1 dL_law_682 (by decide) ?_
    exact l_end hF hr hlocks hA0 hS ⟨hc_147, hs_148⟩ dL_law_683 hw
def wpL_769 (E mc ms N : Nat) (xs : Nat → Int32) (J28 : Nat → Nat → Nat → Int32 → hX → mF → mR → mL → mG → Nat → Nat → Prop) (x1 : Nat) (x3 : Nat) (x4 : Nat) (x5 : Int32) (X : hX) (F : mF) (R : mR) (L : mL) (G : mG) (kc ks : Nat) : Prop := (∀ x5_169 : Int32, x5_169 = x5 + 5 → J28 x1 x3 x4 x5_169 X F R L G kc ks)
set_option maxHeartbeats 8000000 in
theorem Tl769 {p : Program} {e : Env} {s : State} {m : MethodId} {below : List Frame} {meth : Method} {c : Code} (l : Launch) (hlt : l.stackTraces = false) (K : HK) {b N : Nat} {xs : Nat → Int32} (X0 : hX) (hF : CallFix p m c code 9 s #[Value.ref b] lw_all R_law) (hr : meth.sig.returnType = ret) (hlocks : meth.locks = false) (hC : HC K X0 s) (hx : va_X b N xs s s.heap) (hbl : b < s.heap.size) (hA0 : ∀ q, hA X0 s.heap.size q → s.heap.size ≤ q) (h : Nat) (a : Nat → Nat) (hap : mAp h a) (hmA : ∀ q, mA h a q → hA X0 s.heap.size q) (J28 : Nat → Nat → Nat → Int32 → hX → mF → mR → mL → mG → Nat → Nat → Prop) (hJ28 : ∀ (x1 : Nat) (x3 : Nat) (x4 : Nat) (x5 : Int32) (X : hX) (F : mF) (R : mR) (L : mL) (G : mG) (kc ks : Nat) (H : Heap) (locs : List Loc) (ls : Array Slot), hI K X0 s.heap.size X H → mP K.1 h a F R L G H → hdis X h a → va_S (hA X0 s.heap.size) s.heap H locs → kc ≤ 1200048 ∧ ks ≤ 5501818 → lv_has ls 9 [(0, .ref b), (1, .ref x1), (2, .ref h), (3, .ref x3), (4, .ref x4), (5, .int x5)] → J28 x1 x3 x4 x5 X F R L G kc ks → W p l e room_1 s m #[Value.ref b] below meth c H locs kc ks (lw_Z below #[Value.ref b] s) (F0 m 28 ls [])) : ∀ (x1 : Nat) (x3 : Nat) (x4 : Nat) (x5 : Int32) (X : hX) (F : mF) (R : mR) (L : mL) (G : mG) (kc ks : Nat) (H : Heap) (locs : List Loc) (ls : Array Slot), hI K X0 s.heap.size X H → mP K.1 h a F R L G H → hdis X h a → va_S (hA X0 s.heap.size) s.heap H locs → kc ≤ 1200048 ∧ ks ≤ 5501818 → lv_has ls 9 [(0, .ref b), (1, .ref x1), (2, .ref h), (3, .ref x3), (4, .ref x4), (5, .int x5)] → wpL_769 (K.2.2 0) 1200048 5501818 N xs J28 x1 x3 x4 x5 X F R L G kc ks → W p l e room_1 s m #[Value.ref b] below meth c H locs kc ks (lw_Z below #[Value.ref b] s) (F0 m 769 ls []) := by
  have hbA : ¬ hA X0 s.heap.size b := fun z => Nat.not_lt.mpr (hA0 b z) hbl
  intro x1 x3 x4 x5 X F R L G kc ks H locs ls hP hM hD hS hk hl hw
  unfold wpL_769 at hw
  refine lv_goto (tgt := 3714) hF.1 hF.2.1 dL_law_769 (by decide) ?_
  obtain ⟨x5_169, ex5_169⟩ : ∃ y : Int32, y = x5 + 5 := ⟨_, rfl⟩
  have hw := hw x5_169 ex5_169
  refine lv_iinc (v := x5_169) (lv' := [(5, .int x5_169), (0, .ref b), (1, .ref x1), (2, .ref h), (3, .ref x3), (4, .ref x4)]) hF.1 hF.2.1 dL_law_3714 hl (k := 5) rfl (by rw [ex5_169]; rfl) (by decide) rfl (fun ls hl => ?_)
  refine lv_goto (tgt := 28) hF.1 hF.2.1 dL_law_3717 (by decide) ?_
  exact hJ28 x1 x3 x4 x5_169 X F R L G kc ks _ _ ls hP hM hD hS hk (lv_sub hl [1, 2, 3, 4, 5, 0] rfl) hw
def wpL_704 (E mc ms N : Nat) (xs : Nat → Int32) (J28 : Nat → Nat → Nat → Int32 → hX → mF → mR → mL → mG → Nat → Nat → Prop) (x1 : Nat) (x3 : Nat) (x4 : Nat) (x5 : Int32) (X : hX) (F : mF) (R : mR) (L : mL) (G : mG) (kc ks : Nat) : Prop := (vp_in (x5 + 1) N ∧ (vp_in (x5 + 2) N ∧ (∃ mc_174 ms_175 : Nat, kc + mc_174 ≤ mc ∧ ks + ms_175 ≤ ms ∧ wpX0_setBend (fun r_172 X_173 => (vp_in (x5 + 1) N ∧ (vp_in (x5 + 2) N ∧ wpX3_setBend (fun r_180 F_181 R_182 L_183 G_184 => wpX3_thrown (fun r_185 F_186 R_187 L_188 G_189 => ((r_185 = r_172 → ((r_172 = 0 → alJ X_173 x3 0 (fun v_196 => ((v_196 = (Int32.toInt64 r_180) → wpL_769 E mc ms N xs J28 x1 x3 x4 x5 X_173 F_186 R_187 L_188 G_189 (kc + mc_174) (ks + ms_175)) ∧ (¬ v_196 = (Int32.toInt64 r_180) → (0 : Int32) = 1)))) ∧ (¬ r_172 = 0 → wpL_769 E mc ms N xs J28 x1 x3 x4 x5 X_173 F_186 R_187 L_188 G_189 (kc + mc_174) (ks + ms_175)))) ∧ (¬ r_185 = r_172 → (0 : Int32) = 1))) F_181 R_182 L_183 G_184) F R L G (xs (Int32.toNatClampNeg (x5 + 1))) (xs (Int32.toNatClampNeg (x5 + 2)))))) (fun _ _ _ => False) E mc_174 ms_175 X x1 (xs (Int32.toNatClampNeg (x5 + 1))) (xs (Int32.toNatClampNeg (x5 + 2))) x3)))
set_option maxHeartbeats 8000000 in
theorem Tl704 {p : Program} {e : Env} {s : State} {m : MethodId} {below : List Frame} {meth : Method} {c : Code} (l : Launch) (hlt : l.stackTraces = false) (K : HK) {b N : Nat} {xs : Nat → Int32} (X0 : hX) (hF : CallFix p m c code 9 s #[Value.ref b] lw_all R_law) (hr : meth.sig.returnType = ret) (hlocks : meth.locks = false) (hC : HC K X0 s) (hx : va_X b N xs s s.heap) (hbl : b < s.heap.size) (hA0 : ∀ q, hA X0 s.heap.size q → s.heap.size ≤ q) (h : Nat) (a : Nat → Nat) (hap : mAp h a) (hmA : ∀ q, mA h a q → hA X0 s.heap.size q) (J28 : Nat → Nat → Nat → Int32 → hX → mF → mR → mL → mG → Nat → Nat → Prop) (hJ28 : ∀ (x1 : Nat) (x3 : Nat) (x4 : Nat) (x5 : Int32) (X : hX) (F : mF) (R : mR) (L : mL) (G : mG) (kc ks : Nat) (H : Heap) (locs : List Loc) (ls : Array Slot), hI K X0 s.heap.size X H → mP K.1 h a F R L G H → hdis X h a → va_S (hA X0 s.heap.size) s.heap H locs → kc ≤ 1200048 ∧ ks ≤ 5501818 → lv_has ls 9 [(0, .ref b), (1, .ref x1), (2, .ref h), (3, .ref x3), (4, .ref x4), (5, .int x5)] → J28 x1 x3 x4 x5 X F R L G kc ks → W p l e room_1 s m #[Value.ref b] below meth c H locs kc ks (lw_Z below #[Value.ref b] s) (F0 m 28 ls [])) : ∀ (x1 : Nat) (x3 : Nat) (x4 : Nat) (x5 : Int32) (X : hX) (F : mF) (R : mR) (L : mL) (G : mG) (kc ks : Nat) (H : Heap) (locs : List Loc) (ls : Array Slot), hI K X0 s.heap.size X H → mP K.1 h a F R L G H → hdis X h a → va_S (hA X0 s.heap.size) s.heap H locs → kc ≤ 1200048 ∧ ks ≤ 5501818 → lv_has ls 9 [(0, .ref b), (1, .ref x1), (2, .ref h), (3, .ref x3), (4, .ref x4), (5, .int x5)] → wpL_704 (K.2.2 0) 1200048 5501818 N xs J28 x1 x3 x4 x5 X F R L G kc ks → W p l e room_1 s m #[Value.ref b] below meth c H locs kc ks (lw_Z below #[Value.ref b] s) (F0 m 704 ls []) := by
  have hbA : ¬ hA X0 s.heap.size b := fun z => Nat.not_lt.mpr (hA0 b z) hbl
  intro x1 x3 x4 x5 X F R L G kc ks H locs ls hP hM hD hS hk hl hw
  unfold wpL_704 at hw
  refine lv_aload_n hF.1 hF.2.1 dL_law_704 rfl (lv_at hl 1 rfl) ?_
  refine lv_aload_n hF.1 hF.2.1 dL_law_705 rfl (lv_at hl 0 rfl) ?_
  refine lv_iload hF.1 hF.2.1 dL_law_706 (lv_at hl 5 rfl) ?_
  refine lv_iconst (v := 1) hF.1 hF.2.1 dL_law_708 (by decide) ?_
  refine lv_iadd hF.1 hF.2.1 dL_law_709 ?_
  obtain ⟨h_170, hw⟩ := hw
  refine va_sld hF.1 hF.2.1 hx hbl hbA hS h_170 dL_law_710 ?_
  refine lv_aload_n hF.1 hF.2.1 dL_law_711 rfl (lv_at hl 0 rfl) ?_
  refine lv_iload hF.1 hF.2.1 dL_law_712 (lv_at hl 5 rfl) ?_
  refine lv_iconst (v := 2) hF.1 hF.2.1 dL_law_714 (by decide) ?_
  refine lv_iadd hF.1 hF.2.1 dL_law_715 ?_
  obtain ⟨h_171, hw⟩ := hw
  refine va_sld hF.1 hF.2.1 hx hbl hbA hS h_171 dL_law_716 ?_
  refine lv_aload_n hF.1 hF.2.1 dL_law_717 rfl (lv_at hl 3 rfl) ?_
  obtain ⟨mc_174, ms_175, hc_176, hs_177, hw⟩ := hw
  refine lkx_i (hrx_SX (As := [.ref x1, .int (xs (Int32.toNatClampNeg (x5 + 1))), .int (xs (Int32.toNatClampNeg (x5 + 2))), .ref x3]) (rest := []) hF hl.1 hC hP hS (metX0_setBend l hlt K mc_174 ms_175 _ _ _ X x1 (xs (Int32.toNatClampNeg (x5 + 1))) (xs (Int32.toNatClampNeg (x5 + 2))) x3) (vx_cwSW 4 hF.2.2.2.2 (lw_SW q1093 q1094 q74 q1095) rfl rfl rfl (by decide +kernel) ⟨Nat.le_of_ble_eq_true rfl, Nat.le_of_ble_eq_true rfl⟩) hw rfl rfl (Nat.le_of_ble_eq_true rfl) dL_law_718 ⟨hc_176, hs_177⟩) hP hM hD hS (fun r_172 X_173 H locs hw hP hM hD hS => ?_)
  refine lv_istore (lv' := [(6, .int r_172), (0, .ref b), (1, .ref x1), (2, .ref h), (3, .ref x3), (4, .ref x4), (5, .int x5)]) hF.1 hF.2.1 dL_law_721 hl (by decide) rfl (fun ls hl => ?_)
  refine lv_aload_n hF.1 hF.2.1 dL_law_723 rfl (lv_at hl 3 rfl) ?_
  refine lv_aload_n hF.1 hF.2.1 dL_law_724 rfl (lv_at hl 1 rfl) ?_
  refine lv_iload hF.1 hF.2.1 dL_law_725 (lv_at hl 6 rfl) ?_
  refine lv_iconst (v := 1) hF.1 hF.2.1 dL_law_727 (by decide) ?_
  refine lv_iadd hF.1 hF.2.1 dL_law_728 ?_
  obtain ⟨h_178, hw⟩ := hw
  refine va_sld hF.1 hF.2.1 hx hbl hbA hS h_178 dL_law_729 ?_
  refine lv_aload_n hF.1 hF.2.1 dL_law_730 rfl (lv_at hl 1 rfl) ?_
  refine lv_iload hF.1 hF.2.1 dL_law_731 (lv_at hl 6 rfl) ?_
  refine lv_iconst (v := 2) hF.1 hF.2.1 dL_law_733 (by decide) ?_
  refine lv_iadd hF.1 hF.2.1 dL_law_734 ?_
  obtain ⟨h_179, hw⟩ := hw
  refine va_sld hF.1 hF.2.1 hx hbl hbA hS h_179 dL_law_735 ?_
  refine lm_i (As := [.int (xs (Int32.toNatClampNeg (x5 + 1))), .int (xs (Int32.toNatClampNeg (x5 + 2)))]) (rest := []) hF hl.1 hC (metX3_setBend l K.1 h a hap _ F R L G (xs (Int32.toNatClampNeg (x5 + 1))) (xs (Int32.toNatClampNeg (x5 + 2)))) (cwV 2 hF.2.2.2.2 (lw_V q1939 q1940 q1941 q85 q1942) rfl rfl rfl (by decide +kernel) ⟨Nat.le_of_ble_eq_true rfl, Nat.le_of_ble_eq_true rfl⟩) hP hM hD hS hmA hw rfl rfl (Nat.le_of_ble_eq_true rfl) dL_law_736 ⟨hc_176, hs_177⟩ (fun r_180 F_181 R_182 L_183 G_184 H locs hw hP hM hS => ?_)
  refine lv_istore (lv' := [(7, .int r_180), (6, .int r_172), (0, .ref b), (1, .ref x1), (2, .ref h), (3, .ref x3), (4, .ref x4), (5, .int x5)]) hF.1 hF.2.1 dL_law_739 hl (by decide) rfl (fun ls hl => ?_)
  refine lv_aload_n hF.1 hF.2.1 dL_law_741 rfl (lv_at hl 4 rfl) ?_
  refine lm_i (As := []) (rest := []) hF hl.1 hC (metX3_thrown l K.1 h a hap _ F_181 R_182 L_183 G_184) (cwV 0 hF.2.2.2.2 (lw_V q1813 q1814 q1815 q85 q1816) rfl rfl rfl (by decide +kernel) ⟨Nat.le_of_ble_eq_true rfl, Nat.le_of_ble_eq_true rfl⟩) hP hM hD hS hmA hw rfl rfl (Nat.le_of_ble_eq_true rfl) dL_law_742 ⟨hc_176, hs_177⟩ (fun r_185 F_186 R_187 L_188 G_189 H locs hw hP hM hS => ?_)
  refine lv_iload hF.1 hF.2.1 dL_law_745 (lv_at hl 1 rfl) ?_
  refine lv_icmp_eq (tgt := 752) hF.1 hF.2.1 dL_law_747 (by decide) (fun c_190 => ?_) (fun c_190 => ?_)
  · have hw := hw.1 c_190
    refine lv_iload hF.1 hF.2.1 dL_law_752 (lv_at hl 1 rfl) ?_
    refine lv_if_ne (tgt := 769) hF.1 hF.2.1 dL_law_754 (by decide) (fun c_191 => ?_) (fun c_191 => ?_)
    · have hw := hw.2 c_191
      exact Tl769 l hlt K X0 hF hr hlocks hC hx hbl hA0 h a hap hmA _ hJ28 x1 x3 x4 x5 X_173 F_186 R_187 L_188 G_189 (kc + mc_174) (ks + ms_175) _ _ ls hP hM hD hS ⟨hc_176, hs_177⟩ (lv_sub hl [2, 3, 4, 5, 6, 7] rfl) hw
    · have hw := hw.1 c_191
      refine lv_aload_n hF.1 hF.2.1 dL_law_757 rfl (lv_at hl 5 rfl) ?_
      refine lv_iconst (v := 0) hF.1 hF.2.1 dL_law_758 (by decide) ?_
      obtain ⟨n_192, f_193, hx_194, hi_195, hw⟩ := hw
      refine x_lald hF hC hP hx_194 hi_195 dL_law_759 ?_
      generalize f_193 (Int32.toNatClampNeg 0) = v_196 at hw ⊢
      refine lv_iload hF.1 hF.2.1 dL_law_760 (lv_at hl 0 rfl) ?_
      refine lv_i2l hF.1 hF.2.1 dL_law_762 rfl ?_
      refine W.lcmp hF.1 hF.2.1 dL_law_763 ?_
      refine lv_if_eq (tgt := 769) hF.1 hF.2.1 dL_law_764 (by decide) (fun c_197 => ?_) (fun c_197 => ?_)
      · rw [lc_eq] at c_197
        have hw := hw.1 c_197
        exact Tl769 l hlt K X0 hF hr hlocks hC hx hbl hA0 h a hap hmA _ hJ28 x1 x3 x4 x5 X_173 F_186 R_187 L_188 G_189 (kc + mc_174) (ks + ms_175) _ _ ls hP hM hD hS ⟨hc_176, hs_177⟩ (lv_sub hl [2, 3, 4, 5, 6, 7] rfl) hw
      · rw [lc_eq] at c_197
        have hw := hw.2 c_197
        refine lv_iconst (v := 0) hF.1 hF.2.1 dL_law_767 (by decide) ?_
        exact l_end hF hr hlocks hA0 hS ⟨hc_176, hs_177⟩ dL_law_768 hw
  · have hw := hw.2 c_190
    refine lv_iconst (v := 0) hF.1 hF.2.1 dL_law_750 (by decide) ?_
    exact l_end hF hr hlocks hA0 hS ⟨hc_176, hs_177⟩ dL_law_751 hw
def wpL_837 (E mc ms N : Nat) (xs : Nat → Int32) (J28 : Nat → Nat → Nat → Int32 → hX → mF → mR → mL → mG → Nat → Nat → Prop) (x1 : Nat) (x3 : Nat) (x4 : Nat) (x5 : Int32) (X : hX) (F : mF) (R : mR) (L : mL) (G : mG) (kc ks : Nat) : Prop := (∀ x5_198 : Int32, x5_198 = x5 + 5 → J28 x1 x3 x4 x5_198 X F R L G kc ks)
set_option maxHeartbeats 8000000 in
theorem Tl837 {p : Program} {e : Env} {s : State} {m : MethodId} {below : List Frame} {meth : Method} {c : Code} (l : Launch) (hlt : l.stackTraces = false) (K : HK) {b N : Nat} {xs : Nat → Int32} (X0 : hX) (hF : CallFix p m c code 9 s #[Value.ref b] lw_all R_law) (hr : meth.sig.returnType = ret) (hlocks : meth.locks = false) (hC : HC K X0 s) (hx : va_X b N xs s s.heap) (hbl : b < s.heap.size) (hA0 : ∀ q, hA X0 s.heap.size q → s.heap.size ≤ q) (h : Nat) (a : Nat → Nat) (hap : mAp h a) (hmA : ∀ q, mA h a q → hA X0 s.heap.size q) (J28 : Nat → Nat → Nat → Int32 → hX → mF → mR → mL → mG → Nat → Nat → Prop) (hJ28 : ∀ (x1 : Nat) (x3 : Nat) (x4 : Nat) (x5 : Int32) (X : hX) (F : mF) (R : mR) (L : mL) (G : mG) (kc ks : Nat) (H : Heap) (locs : List Loc) (ls : Array Slot), hI K X0 s.heap.size X H → mP K.1 h a F R L G H → hdis X h a → va_S (hA X0 s.heap.size) s.heap H locs → kc ≤ 1200048 ∧ ks ≤ 5501818 → lv_has ls 9 [(0, .ref b), (1, .ref x1), (2, .ref h), (3, .ref x3), (4, .ref x4), (5, .int x5)] → J28 x1 x3 x4 x5 X F R L G kc ks → W p l e room_1 s m #[Value.ref b] below meth c H locs kc ks (lw_Z below #[Value.ref b] s) (F0 m 28 ls [])) : ∀ (x1 : Nat) (x3 : Nat) (x4 : Nat) (x5 : Int32) (X : hX) (F : mF) (R : mR) (L : mL) (G : mG) (kc ks : Nat) (H : Heap) (locs : List Loc) (ls : Array Slot), hI K X0 s.heap.size X H → mP K.1 h a F R L G H → hdis X h a → va_S (hA X0 s.heap.size) s.heap H locs → kc ≤ 1200048 ∧ ks ≤ 5501818 → lv_has ls 9 [(0, .ref b), (1, .ref x1), (2, .ref h), (3, .ref x3), (4, .ref x4), (5, .int x5)] → wpL_837 (K.2.2 0) 1200048 5501818 N xs J28 x1 x3 x4 x5 X F R L G kc ks → W p l e room_1 s m #[Value.ref b] below meth c H locs kc ks (lw_Z below #[Value.ref b] s) (F0 m 837 ls []) := by
  have hbA : ¬ hA X0 s.heap.size b := fun z => Nat.not_lt.mpr (hA0 b z) hbl
  intro x1 x3 x4 x5 X F R L G kc ks H locs ls hP hM hD hS hk hl hw
  unfold wpL_837 at hw
  refine lv_goto (tgt := 3714) hF.1 hF.2.1 dL_law_837 (by decide) ?_
  obtain ⟨x5_198, ex5_198⟩ : ∃ y : Int32, y = x5 + 5 := ⟨_, rfl⟩
  have hw := hw x5_198 ex5_198
  refine lv_iinc (v := x5_198) (lv' := [(5, .int x5_198), (0, .ref b), (1, .ref x1), (2, .ref h), (3, .ref x3), (4, .ref x4)]) hF.1 hF.2.1 dL_law_3714 hl (k := 5) rfl (by rw [ex5_198]; rfl) (by decide) rfl (fun ls hl => ?_)
  refine lv_goto (tgt := 28) hF.1 hF.2.1 dL_law_3717 (by decide) ?_
  exact hJ28 x1 x3 x4 x5_198 X F R L G kc ks _ _ ls hP hM hD hS hk (lv_sub hl [1, 2, 3, 4, 5, 0] rfl) hw
def wpL_772 (E mc ms N : Nat) (xs : Nat → Int32) (J28 : Nat → Nat → Nat → Int32 → hX → mF → mR → mL → mG → Nat → Nat → Prop) (x1 : Nat) (x3 : Nat) (x4 : Nat) (x5 : Int32) (X : hX) (F : mF) (R : mR) (L : mL) (G : mG) (kc ks : Nat) : Prop := (vp_in (x5 + 1) N ∧ (vp_in (x5 + 2) N ∧ (∃ mc_203 ms_204 : Nat, kc + mc_203 ≤ mc ∧ ks + ms_204 ≤ ms ∧ wpX0_addMoon (fun r_201 X_202 => (vp_in (x5 + 1) N ∧ (vp_in (x5 + 2) N ∧ wpX3_addMoon (fun r_209 F_210 R_211 L_212 G_213 => wpX3_thrown (fun r_214 F_215 R_216 L_217 G_218 => ((r_214 = r_201 → ((r_201 = 0 → alJ X_202 x3 0 (fun v_225 => ((v_225 = (Int32.toInt64 r_209) → wpL_837 E mc ms N xs J28 x1 x3 x4 x5 X_202 F_215 R_216 L_217 G_218 (kc + mc_203) (ks + ms_204)) ∧ (¬ v_225 = (Int32.toInt64 r_209) → (0 : Int32) = 1)))) ∧ (¬ r_201 = 0 → wpL_837 E mc ms N xs J28 x1 x3 x4 x5 X_202 F_215 R_216 L_217 G_218 (kc + mc_203) (ks + ms_204)))) ∧ (¬ r_214 = r_201 → (0 : Int32) = 1))) F_210 R_211 L_212 G_213) F R L G (xs (Int32.toNatClampNeg (x5 + 1))) (xs (Int32.toNatClampNeg (x5 + 2)))))) (fun _ _ _ => False) E mc_203 ms_204 X x1 (xs (Int32.toNatClampNeg (x5 + 1))) (xs (Int32.toNatClampNeg (x5 + 2))) x3)))
set_option maxHeartbeats 8000000 in
theorem Tl772 {p : Program} {e : Env} {s : State} {m : MethodId} {below : List Frame} {meth : Method} {c : Code} (l : Launch) (hlt : l.stackTraces = false) (K : HK) {b N : Nat} {xs : Nat → Int32} (X0 : hX) (hF : CallFix p m c code 9 s #[Value.ref b] lw_all R_law) (hr : meth.sig.returnType = ret) (hlocks : meth.locks = false) (hC : HC K X0 s) (hx : va_X b N xs s s.heap) (hbl : b < s.heap.size) (hA0 : ∀ q, hA X0 s.heap.size q → s.heap.size ≤ q) (h : Nat) (a : Nat → Nat) (hap : mAp h a) (hmA : ∀ q, mA h a q → hA X0 s.heap.size q) (J28 : Nat → Nat → Nat → Int32 → hX → mF → mR → mL → mG → Nat → Nat → Prop) (hJ28 : ∀ (x1 : Nat) (x3 : Nat) (x4 : Nat) (x5 : Int32) (X : hX) (F : mF) (R : mR) (L : mL) (G : mG) (kc ks : Nat) (H : Heap) (locs : List Loc) (ls : Array Slot), hI K X0 s.heap.size X H → mP K.1 h a F R L G H → hdis X h a → va_S (hA X0 s.heap.size) s.heap H locs → kc ≤ 1200048 ∧ ks ≤ 5501818 → lv_has ls 9 [(0, .ref b), (1, .ref x1), (2, .ref h), (3, .ref x3), (4, .ref x4), (5, .int x5)] → J28 x1 x3 x4 x5 X F R L G kc ks → W p l e room_1 s m #[Value.ref b] below meth c H locs kc ks (lw_Z below #[Value.ref b] s) (F0 m 28 ls [])) : ∀ (x1 : Nat) (x3 : Nat) (x4 : Nat) (x5 : Int32) (X : hX) (F : mF) (R : mR) (L : mL) (G : mG) (kc ks : Nat) (H : Heap) (locs : List Loc) (ls : Array Slot), hI K X0 s.heap.size X H → mP K.1 h a F R L G H → hdis X h a → va_S (hA X0 s.heap.size) s.heap H locs → kc ≤ 1200048 ∧ ks ≤ 5501818 → lv_has ls 9 [(0, .ref b), (1, .ref x1), (2, .ref h), (3, .ref x3), (4, .ref x4), (5, .int x5)] → wpL_772 (K.2.2 0) 1200048 5501818 N xs J28 x1 x3 x4 x5 X F R L G kc ks → W p l e room_1 s m #[Value.ref b] below meth c H locs kc ks (lw_Z below #[Value.ref b] s) (F0 m 772 ls []) := by
  have hbA : ¬ hA X0 s.heap.size b := fun z => Nat.not_lt.mpr (hA0 b z) hbl
  intro x1 x3 x4 x5 X F R L G kc ks H locs ls hP hM hD hS hk hl hw
  unfold wpL_772 at hw
  refine lv_aload_n hF.1 hF.2.1 dL_law_772 rfl (lv_at hl 1 rfl) ?_
  refine lv_aload_n hF.1 hF.2.1 dL_law_773 rfl (lv_at hl 0 rfl) ?_
  refine lv_iload hF.1 hF.2.1 dL_law_774 (lv_at hl 5 rfl) ?_
  refine lv_iconst (v := 1) hF.1 hF.2.1 dL_law_776 (by decide) ?_
  refine lv_iadd hF.1 hF.2.1 dL_law_777 ?_
  obtain ⟨h_199, hw⟩ := hw
  refine va_sld hF.1 hF.2.1 hx hbl hbA hS h_199 dL_law_778 ?_
  refine lv_aload_n hF.1 hF.2.1 dL_law_779 rfl (lv_at hl 0 rfl) ?_
  refine lv_iload hF.1 hF.2.1 dL_law_780 (lv_at hl 5 rfl) ?_
  refine lv_iconst (v := 2) hF.1 hF.2.1 dL_law_782 (by decide) ?_
  refine lv_iadd hF.1 hF.2.1 dL_law_783 ?_
  obtain ⟨h_200, hw⟩ := hw
  refine va_sld hF.1 hF.2.1 hx hbl hbA hS h_200 dL_law_784 ?_
  refine lv_aload_n hF.1 hF.2.1 dL_law_785 rfl (lv_at hl 3 rfl) ?_
  obtain ⟨mc_203, ms_204, hc_205, hs_206, hw⟩ := hw
  refine lkx_i (hrx_SX (As := [.ref x1, .int (xs (Int32.toNatClampNeg (x5 + 1))), .int (xs (Int32.toNatClampNeg (x5 + 2))), .ref x3]) (rest := []) hF hl.1 hC hP hS (metX0_addMoon l hlt K mc_203 ms_204 _ _ _ X x1 (xs (Int32.toNatClampNeg (x5 + 1))) (xs (Int32.toNatClampNeg (x5 + 2))) x3) (vx_cwSW 4 hF.2.2.2.2 (lw_SW q1100 q1101 q74 q1102) rfl rfl rfl (by decide +kernel) ⟨Nat.le_of_ble_eq_true rfl, Nat.le_of_ble_eq_true rfl⟩) hw rfl rfl (Nat.le_of_ble_eq_true rfl) dL_law_786 ⟨hc_205, hs_206⟩) hP hM hD hS (fun r_201 X_202 H locs hw hP hM hD hS => ?_)
  refine lv_istore (lv' := [(6, .int r_201), (0, .ref b), (1, .ref x1), (2, .ref h), (3, .ref x3), (4, .ref x4), (5, .int x5)]) hF.1 hF.2.1 dL_law_789 hl (by decide) rfl (fun ls hl => ?_)
  refine lv_aload_n hF.1 hF.2.1 dL_law_791 rfl (lv_at hl 3 rfl) ?_
  refine lv_aload_n hF.1 hF.2.1 dL_law_792 rfl (lv_at hl 1 rfl) ?_
  refine lv_iload hF.1 hF.2.1 dL_law_793 (lv_at hl 6 rfl) ?_
  refine lv_iconst (v := 1) hF.1 hF.2.1 dL_law_795 (by decide) ?_
  refine lv_iadd hF.1 hF.2.1 dL_law_796 ?_
  obtain ⟨h_207, hw⟩ := hw
  refine va_sld hF.1 hF.2.1 hx hbl hbA hS h_207 dL_law_797 ?_
  refine lv_aload_n hF.1 hF.2.1 dL_law_798 rfl (lv_at hl 1 rfl) ?_
  refine lv_iload hF.1 hF.2.1 dL_law_799 (lv_at hl 6 rfl) ?_
  refine lv_iconst (v := 2) hF.1 hF.2.1 dL_law_801 (by decide) ?_
  refine lv_iadd hF.1 hF.2.1 dL_law_802 ?_
  obtain ⟨h_208, hw⟩ := hw
  refine va_sld hF.1 hF.2.1 hx hbl hbA hS h_208 dL_law_803 ?_
  refine lm_i (As := [.int (xs (Int32.toNatClampNeg (x5 + 1))), .int (xs (Int32.toNatClampNeg (x5 + 2)))]) (rest := []) hF hl.1 hC (metX3_addMoon l K.1 h a hap _ F R L G (xs (Int32.toNatClampNeg (x5 + 1))) (xs (Int32.toNatClampNeg (x5 + 2)))) (cwV 2 hF.2.2.2.2 (lw_V q1951 q1952 q1953 q85 q1954) rfl rfl rfl (by decide +kernel) ⟨Nat.le_of_ble_eq_true rfl, Nat.le_of_ble_eq_true rfl⟩) hP hM hD hS hmA hw rfl rfl (Nat.le_of_ble_eq_true rfl) dL_law_804 ⟨hc_205, hs_206⟩ (fun r_209 F_210 R_211 L_212 G_213 H locs hw hP hM hS => ?_)
  refine lv_istore (lv' := [(7, .int r_209), (6, .int r_201), (0, .ref b), (1, .ref x1), (2, .ref h), (3, .ref x3), (4, .ref x4), (5, .int x5)]) hF.1 hF.2.1 dL_law_807 hl (by decide) rfl (fun ls hl => ?_)
  refine lv_aload_n hF.1 hF.2.1 dL_law_809 rfl (lv_at hl 4 rfl) ?_
  refine lm_i (As := []) (rest := []) hF hl.1 hC (metX3_thrown l K.1 h a hap _ F_210 R_211 L_212 G_213) (cwV 0 hF.2.2.2.2 (lw_V q1813 q1814 q1815 q85 q1816) rfl rfl rfl (by decide +kernel) ⟨Nat.le_of_ble_eq_true rfl, Nat.le_of_ble_eq_true rfl⟩) hP hM hD hS hmA hw rfl rfl (Nat.le_of_ble_eq_true rfl) dL_law_810 ⟨hc_205, hs_206⟩ (fun r_214 F_215 R_216 L_217 G_218 H locs hw hP hM hS => ?_)
  refine lv_iload hF.1 hF.2.1 dL_law_813 (lv_at hl 1 rfl) ?_
  refine lv_icmp_eq (tgt := 820) hF.1 hF.2.1 dL_law_815 (by decide) (fun c_219 => ?_) (fun c_219 => ?_)
  · have hw := hw.1 c_219
    refine lv_iload hF.1 hF.2.1 dL_law_820 (lv_at hl 1 rfl) ?_
    refine lv_if_ne (tgt := 837) hF.1 hF.2.1 dL_law_822 (by decide) (fun c_220 => ?_) (fun c_220 => ?_)
    · have hw := hw.2 c_220
      exact Tl837 l hlt K X0 hF hr hlocks hC hx hbl hA0 h a hap hmA _ hJ28 x1 x3 x4 x5 X_202 F_215 R_216 L_217 G_218 (kc + mc_203) (ks + ms_204) _ _ ls hP hM hD hS ⟨hc_205, hs_206⟩ (lv_sub hl [2, 3, 4, 5, 6, 7] rfl) hw
    · have hw := hw.1 c_220
      refine lv_aload_n hF.1 hF.2.1 dL_law_825 rfl (lv_at hl 5 rfl) ?_
      refine lv_iconst (v := 0) hF.1 hF.2.1 dL_law_826 (by decide) ?_
      obtain ⟨n_221, f_222, hx_223, hi_224, hw⟩ := hw
      refine x_lald hF hC hP hx_223 hi_224 dL_law_827 ?_
      generalize f_222 (Int32.toNatClampNeg 0) = v_225 at hw ⊢
      refine lv_iload hF.1 hF.2.1 dL_law_828 (lv_at hl 0 rfl) ?_
      refine lv_i2l hF.1 hF.2.1 dL_law_830 rfl ?_
      refine W.lcmp hF.1 hF.2.1 dL_law_831 ?_
      refine lv_if_eq (tgt := 837) hF.1 hF.2.1 dL_law_832 (by decide) (fun c_226 => ?_) (fun c_226 => ?_)
      · rw [lc_eq] at c_226
        have hw := hw.1 c_226
        exact Tl837 l hlt K X0 hF hr hlocks hC hx hbl hA0 h a hap hmA _ hJ28 x1 x3 x4 x5 X_202 F_215 R_216 L_217 G_218 (kc + mc_203) (ks + ms_204) _ _ ls hP hM hD hS ⟨hc_205, hs_206⟩ (lv_sub hl [2, 3, 4, 5, 6, 7] rfl) hw
      · rw [lc_eq] at c_226
        have hw := hw.2 c_226
        refine lv_iconst (v := 0) hF.1 hF.2.1 dL_law_835 (by decide) ?_
        exact l_end hF hr hlocks hA0 hS ⟨hc_205, hs_206⟩ dL_law_836 hw
  · have hw := hw.2 c_219
    refine lv_iconst (v := 0) hF.1 hF.2.1 dL_law_818 (by decide) ?_
    exact l_end hF hr hlocks hA0 hS ⟨hc_205, hs_206⟩ dL_law_819 hw
def wpL_905 (E mc ms N : Nat) (xs : Nat → Int32) (J28 : Nat → Nat → Nat → Int32 → hX → mF → mR → mL → mG → Nat → Nat → Prop) (x1 : Nat) (x3 : Nat) (x4 : Nat) (x5 : Int32) (X : hX) (F : mF) (R : mR) (L : mL) (G : mG) (kc ks : Nat) : Prop := (∀ x5_227 : Int32, x5_227 = x5 + 5 → J28 x1 x3 x4 x5_227 X F R L G kc ks)
set_option maxHeartbeats 8000000 in
theorem Tl905 {p : Program} {e : Env} {s : State} {m : MethodId} {below : List Frame} {meth : Method} {c : Code} (l : Launch) (hlt : l.stackTraces = false) (K : HK) {b N : Nat} {xs : Nat → Int32} (X0 : hX) (hF : CallFix p m c code 9 s #[Value.ref b] lw_all R_law) (hr : meth.sig.returnType = ret) (hlocks : meth.locks = false) (hC : HC K X0 s) (hx : va_X b N xs s s.heap) (hbl : b < s.heap.size) (hA0 : ∀ q, hA X0 s.heap.size q → s.heap.size ≤ q) (h : Nat) (a : Nat → Nat) (hap : mAp h a) (hmA : ∀ q, mA h a q → hA X0 s.heap.size q) (J28 : Nat → Nat → Nat → Int32 → hX → mF → mR → mL → mG → Nat → Nat → Prop) (hJ28 : ∀ (x1 : Nat) (x3 : Nat) (x4 : Nat) (x5 : Int32) (X : hX) (F : mF) (R : mR) (L : mL) (G : mG) (kc ks : Nat) (H : Heap) (locs : List Loc) (ls : Array Slot), hI K X0 s.heap.size X H → mP K.1 h a F R L G H → hdis X h a → va_S (hA X0 s.heap.size) s.heap H locs → kc ≤ 1200048 ∧ ks ≤ 5501818 → lv_has ls 9 [(0, .ref b), (1, .ref x1), (2, .ref h), (3, .ref x3), (4, .ref x4), (5, .int x5)] → J28 x1 x3 x4 x5 X F R L G kc ks → W p l e room_1 s m #[Value.ref b] below meth c H locs kc ks (lw_Z below #[Value.ref b] s) (F0 m 28 ls [])) : ∀ (x1 : Nat) (x3 : Nat) (x4 : Nat) (x5 : Int32) (X : hX) (F : mF) (R : mR) (L : mL) (G : mG) (kc ks : Nat) (H : Heap) (locs : List Loc) (ls : Array Slot), hI K X0 s.heap.size X H → mP K.1 h a F R L G H → hdis X h a → va_S (hA X0 s.heap.size) s.heap H locs → kc ≤ 1200048 ∧ ks ≤ 5501818 → lv_has ls 9 [(0, .ref b), (1, .ref x1), (2, .ref h), (3, .ref x3), (4, .ref x4), (5, .int x5)] → wpL_905 (K.2.2 0) 1200048 5501818 N xs J28 x1 x3 x4 x5 X F R L G kc ks → W p l e room_1 s m #[Value.ref b] below meth c H locs kc ks (lw_Z below #[Value.ref b] s) (F0 m 905 ls []) := by
  have hbA : ¬ hA X0 s.heap.size b := fun z => Nat.not_lt.mpr (hA0 b z) hbl
  intro x1 x3 x4 x5 X F R L G kc ks H locs ls hP hM hD hS hk hl hw
  unfold wpL_905 at hw
  refine lv_goto (tgt := 3714) hF.1 hF.2.1 dL_law_905 (by decide) ?_
  obtain ⟨x5_227, ex5_227⟩ : ∃ y : Int32, y = x5 + 5 := ⟨_, rfl⟩
  have hw := hw x5_227 ex5_227
  refine lv_iinc (v := x5_227) (lv' := [(5, .int x5_227), (0, .ref b), (1, .ref x1), (2, .ref h), (3, .ref x3), (4, .ref x4)]) hF.1 hF.2.1 dL_law_3714 hl (k := 5) rfl (by rw [ex5_227]; rfl) (by decide) rfl (fun ls hl => ?_)
  refine lv_goto (tgt := 28) hF.1 hF.2.1 dL_law_3717 (by decide) ?_
  exact hJ28 x1 x3 x4 x5_227 X F R L G kc ks _ _ ls hP hM hD hS hk (lv_sub hl [1, 2, 3, 4, 5, 0] rfl) hw
def wpL_840 (E mc ms N : Nat) (xs : Nat → Int32) (J28 : Nat → Nat → Nat → Int32 → hX → mF → mR → mL → mG → Nat → Nat → Prop) (x1 : Nat) (x3 : Nat) (x4 : Nat) (x5 : Int32) (X : hX) (F : mF) (R : mR) (L : mL) (G : mG) (kc ks : Nat) : Prop := (vp_in (x5 + 1) N ∧ (vp_in (x5 + 2) N ∧ (∃ mc_232 ms_233 : Nat, kc + mc_232 ≤ mc ∧ ks + ms_233 ≤ ms ∧ wpX0_setPeriod (fun r_230 X_231 => (vp_in (x5 + 1) N ∧ (vp_in (x5 + 2) N ∧ wpX3_setPeriod (fun r_238 F_239 R_240 L_241 G_242 => wpX3_thrown (fun r_243 F_244 R_245 L_246 G_247 => ((r_243 = r_230 → ((r_230 = 0 → alJ X_231 x3 0 (fun v_254 => ((v_254 = (Int32.toInt64 r_238) → wpL_905 E mc ms N xs J28 x1 x3 x4 x5 X_231 F_244 R_245 L_246 G_247 (kc + mc_232) (ks + ms_233)) ∧ (¬ v_254 = (Int32.toInt64 r_238) → (0 : Int32) = 1)))) ∧ (¬ r_230 = 0 → wpL_905 E mc ms N xs J28 x1 x3 x4 x5 X_231 F_244 R_245 L_246 G_247 (kc + mc_232) (ks + ms_233)))) ∧ (¬ r_243 = r_230 → (0 : Int32) = 1))) F_239 R_240 L_241 G_242) F R L G (xs (Int32.toNatClampNeg (x5 + 1))) (xs (Int32.toNatClampNeg (x5 + 2)))))) (fun _ _ _ => False) E mc_232 ms_233 X x1 (xs (Int32.toNatClampNeg (x5 + 1))) (xs (Int32.toNatClampNeg (x5 + 2))) x3)))
set_option maxHeartbeats 8000000 in
theorem Tl840 {p : Program} {e : Env} {s : State} {m : MethodId} {below : List Frame} {meth : Method} {c : Code} (l : Launch) (hlt : l.stackTraces = false) (K : HK) {b N : Nat} {xs : Nat → Int32} (X0 : hX) (hF : CallFix p m c code 9 s #[Value.ref b] lw_all R_law) (hr : meth.sig.returnType = ret) (hlocks : meth.locks = false) (hC : HC K X0 s) (hx : va_X b N xs s s.heap) (hbl : b < s.heap.size) (hA0 : ∀ q, hA X0 s.heap.size q → s.heap.size ≤ q) (h : Nat) (a : Nat → Nat) (hap : mAp h a) (hmA : ∀ q, mA h a q → hA X0 s.heap.size q) (J28 : Nat → Nat → Nat → Int32 → hX → mF → mR → mL → mG → Nat → Nat → Prop) (hJ28 : ∀ (x1 : Nat) (x3 : Nat) (x4 : Nat) (x5 : Int32) (X : hX) (F : mF) (R : mR) (L : mL) (G : mG) (kc ks : Nat) (H : Heap) (locs : List Loc) (ls : Array Slot), hI K X0 s.heap.size X H → mP K.1 h a F R L G H → hdis X h a → va_S (hA X0 s.heap.size) s.heap H locs → kc ≤ 1200048 ∧ ks ≤ 5501818 → lv_has ls 9 [(0, .ref b), (1, .ref x1), (2, .ref h), (3, .ref x3), (4, .ref x4), (5, .int x5)] → J28 x1 x3 x4 x5 X F R L G kc ks → W p l e room_1 s m #[Value.ref b] below meth c H locs kc ks (lw_Z below #[Value.ref b] s) (F0 m 28 ls [])) : ∀ (x1 : Nat) (x3 : Nat) (x4 : Nat) (x5 : Int32) (X : hX) (F : mF) (R : mR) (L : mL) (G : mG) (kc ks : Nat) (H : Heap) (locs : List Loc) (ls : Array Slot), hI K X0 s.heap.size X H → mP K.1 h a F R L G H → hdis X h a → va_S (hA X0 s.heap.size) s.heap H locs → kc ≤ 1200048 ∧ ks ≤ 5501818 → lv_has ls 9 [(0, .ref b), (1, .ref x1), (2, .ref h), (3, .ref x3), (4, .ref x4), (5, .int x5)] → wpL_840 (K.2.2 0) 1200048 5501818 N xs J28 x1 x3 x4 x5 X F R L G kc ks → W p l e room_1 s m #[Value.ref b] below meth c H locs kc ks (lw_Z below #[Value.ref b] s) (F0 m 840 ls []) := by
  have hbA : ¬ hA X0 s.heap.size b := fun z => Nat.not_lt.mpr (hA0 b z) hbl
  intro x1 x3 x4 x5 X F R L G kc ks H locs ls hP hM hD hS hk hl hw
  unfold wpL_840 at hw
  refine lv_aload_n hF.1 hF.2.1 dL_law_840 rfl (lv_at hl 1 rfl) ?_
  refine lv_aload_n hF.1 hF.2.1 dL_law_841 rfl (lv_at hl 0 rfl) ?_
  refine lv_iload hF.1 hF.2.1 dL_law_842 (lv_at hl 5 rfl) ?_
  refine lv_iconst (v := 1) hF.1 hF.2.1 dL_law_844 (by decide) ?_
  refine lv_iadd hF.1 hF.2.1 dL_law_845 ?_
  obtain ⟨h_228, hw⟩ := hw
  refine va_sld hF.1 hF.2.1 hx hbl hbA hS h_228 dL_law_846 ?_
  refine lv_aload_n hF.1 hF.2.1 dL_law_847 rfl (lv_at hl 0 rfl) ?_
  refine lv_iload hF.1 hF.2.1 dL_law_848 (lv_at hl 5 rfl) ?_
  refine lv_iconst (v := 2) hF.1 hF.2.1 dL_law_850 (by decide) ?_
  refine lv_iadd hF.1 hF.2.1 dL_law_851 ?_
  obtain ⟨h_229, hw⟩ := hw
  refine va_sld hF.1 hF.2.1 hx hbl hbA hS h_229 dL_law_852 ?_
  refine lv_aload_n hF.1 hF.2.1 dL_law_853 rfl (lv_at hl 3 rfl) ?_
  obtain ⟨mc_232, ms_233, hc_234, hs_235, hw⟩ := hw
  refine lkx_i (hrx_SX (As := [.ref x1, .int (xs (Int32.toNatClampNeg (x5 + 1))), .int (xs (Int32.toNatClampNeg (x5 + 2))), .ref x3]) (rest := []) hF hl.1 hC hP hS (metX0_setPeriod l hlt K mc_232 ms_233 _ _ _ X x1 (xs (Int32.toNatClampNeg (x5 + 1))) (xs (Int32.toNatClampNeg (x5 + 2))) x3) (vx_cwSW 4 hF.2.2.2.2 (lw_SW q1107 q1108 q74 q1109) rfl rfl rfl (by decide +kernel) ⟨Nat.le_of_ble_eq_true rfl, Nat.le_of_ble_eq_true rfl⟩) hw rfl rfl (Nat.le_of_ble_eq_true rfl) dL_law_854 ⟨hc_234, hs_235⟩) hP hM hD hS (fun r_230 X_231 H locs hw hP hM hD hS => ?_)
  refine lv_istore (lv' := [(6, .int r_230), (0, .ref b), (1, .ref x1), (2, .ref h), (3, .ref x3), (4, .ref x4), (5, .int x5)]) hF.1 hF.2.1 dL_law_857 hl (by decide) rfl (fun ls hl => ?_)
  refine lv_aload_n hF.1 hF.2.1 dL_law_859 rfl (lv_at hl 3 rfl) ?_
  refine lv_aload_n hF.1 hF.2.1 dL_law_860 rfl (lv_at hl 1 rfl) ?_
  refine lv_iload hF.1 hF.2.1 dL_law_861 (lv_at hl 6 rfl) ?_
  refine lv_iconst (v := 1) hF.1 hF.2.1 dL_law_863 (by decide) ?_
  refine lv_iadd hF.1 hF.2.1 dL_law_864 ?_
  obtain ⟨h_236, hw⟩ := hw
  refine va_sld hF.1 hF.2.1 hx hbl hbA hS h_236 dL_law_865 ?_
  refine lv_aload_n hF.1 hF.2.1 dL_law_866 rfl (lv_at hl 1 rfl) ?_
  refine lv_iload hF.1 hF.2.1 dL_law_867 (lv_at hl 6 rfl) ?_
  refine lv_iconst (v := 2) hF.1 hF.2.1 dL_law_869 (by decide) ?_
  refine lv_iadd hF.1 hF.2.1 dL_law_870 ?_
  obtain ⟨h_237, hw⟩ := hw
  refine va_sld hF.1 hF.2.1 hx hbl hbA hS h_237 dL_law_871 ?_
  refine lm_i (As := [.int (xs (Int32.toNatClampNeg (x5 + 1))), .int (xs (Int32.toNatClampNeg (x5 + 2)))]) (rest := []) hF hl.1 hC (metX3_setPeriod l K.1 h a hap _ F R L G (xs (Int32.toNatClampNeg (x5 + 1))) (xs (Int32.toNatClampNeg (x5 + 2)))) (cwV 2 hF.2.2.2.2 (lw_V q1955 q1956 q1957 q85 q1958) rfl rfl rfl (by decide +kernel) ⟨Nat.le_of_ble_eq_true rfl, Nat.le_of_ble_eq_true rfl⟩) hP hM hD hS hmA hw rfl rfl (Nat.le_of_ble_eq_true rfl) dL_law_872 ⟨hc_234, hs_235⟩ (fun r_238 F_239 R_240 L_241 G_242 H locs hw hP hM hS => ?_)
  refine lv_istore (lv' := [(7, .int r_238), (6, .int r_230), (0, .ref b), (1, .ref x1), (2, .ref h), (3, .ref x3), (4, .ref x4), (5, .int x5)]) hF.1 hF.2.1 dL_law_875 hl (by decide) rfl (fun ls hl => ?_)
  refine lv_aload_n hF.1 hF.2.1 dL_law_877 rfl (lv_at hl 4 rfl) ?_
  refine lm_i (As := []) (rest := []) hF hl.1 hC (metX3_thrown l K.1 h a hap _ F_239 R_240 L_241 G_242) (cwV 0 hF.2.2.2.2 (lw_V q1813 q1814 q1815 q85 q1816) rfl rfl rfl (by decide +kernel) ⟨Nat.le_of_ble_eq_true rfl, Nat.le_of_ble_eq_true rfl⟩) hP hM hD hS hmA hw rfl rfl (Nat.le_of_ble_eq_true rfl) dL_law_878 ⟨hc_234, hs_235⟩ (fun r_243 F_244 R_245 L_246 G_247 H locs hw hP hM hS => ?_)
  refine lv_iload hF.1 hF.2.1 dL_law_881 (lv_at hl 1 rfl) ?_
  refine lv_icmp_eq (tgt := 888) hF.1 hF.2.1 dL_law_883 (by decide) (fun c_248 => ?_) (fun c_248 => ?_)
  · have hw := hw.1 c_248
    refine lv_iload hF.1 hF.2.1 dL_law_888 (lv_at hl 1 rfl) ?_
    refine lv_if_ne (tgt := 905) hF.1 hF.2.1 dL_law_890 (by decide) (fun c_249 => ?_) (fun c_249 => ?_)
    · have hw := hw.2 c_249
      exact Tl905 l hlt K X0 hF hr hlocks hC hx hbl hA0 h a hap hmA _ hJ28 x1 x3 x4 x5 X_231 F_244 R_245 L_246 G_247 (kc + mc_232) (ks + ms_233) _ _ ls hP hM hD hS ⟨hc_234, hs_235⟩ (lv_sub hl [2, 3, 4, 5, 6, 7] rfl) hw
    · have hw := hw.1 c_249
      refine lv_aload_n hF.1 hF.2.1 dL_law_893 rfl (lv_at hl 5 rfl) ?_
      refine lv_iconst (v := 0) hF.1 hF.2.1 dL_law_894 (by decide) ?_
      obtain ⟨n_250, f_251, hx_252, hi_253, hw⟩ := hw
      refine x_lald hF hC hP hx_252 hi_253 dL_law_895 ?_
      generalize f_251 (Int32.toNatClampNeg 0) = v_254 at hw ⊢
      refine lv_iload hF.1 hF.2.1 dL_law_896 (lv_at hl 0 rfl) ?_
      refine lv_i2l hF.1 hF.2.1 dL_law_898 rfl ?_
      refine W.lcmp hF.1 hF.2.1 dL_law_899 ?_
      refine lv_if_eq (tgt := 905) hF.1 hF.2.1 dL_law_900 (by decide) (fun c_255 => ?_) (fun c_255 => ?_)
      · rw [lc_eq] at c_255
        have hw := hw.1 c_255
        exact Tl905 l hlt K X0 hF hr hlocks hC hx hbl hA0 h a hap hmA _ hJ28 x1 x3 x4 x5 X_231 F_244 R_245 L_246 G_247 (kc + mc_232) (ks + ms_233) _ _ ls hP hM hD hS ⟨hc_234, hs_235⟩ (lv_sub hl [2, 3, 4, 5, 6, 7] rfl) hw
      · rw [lc_eq] at c_255
        have hw := hw.2 c_255
        refine lv_iconst (v := 0) hF.1 hF.2.1 dL_law_903 (by decide) ?_
        exact l_end hF hr hlocks hA0 hS ⟨hc_234, hs_235⟩ dL_law_904 hw
  · have hw := hw.2 c_248
    refine lv_iconst (v := 0) hF.1 hF.2.1 dL_law_886 (by decide) ?_
    exact l_end hF hr hlocks hA0 hS ⟨hc_234, hs_235⟩ dL_law_887 hw
def wpL_961 (E mc ms N : Nat) (xs : Nat → Int32) (J28 : Nat → Nat → Nat → Int32 → hX → mF → mR → mL → mG → Nat → Nat → Prop) (x1 : Nat) (x3 : Nat) (x4 : Nat) (x5 : Int32) (X : hX) (F : mF) (R : mR) (L : mL) (G : mG) (kc ks : Nat) : Prop := (∀ x5_256 : Int32, x5_256 = x5 + 5 → J28 x1 x3 x4 x5_256 X F R L G kc ks)
set_option maxHeartbeats 8000000 in
theorem Tl961 {p : Program} {e : Env} {s : State} {m : MethodId} {below : List Frame} {meth : Method} {c : Code} (l : Launch) (hlt : l.stackTraces = false) (K : HK) {b N : Nat} {xs : Nat → Int32} (X0 : hX) (hF : CallFix p m c code 9 s #[Value.ref b] lw_all R_law) (hr : meth.sig.returnType = ret) (hlocks : meth.locks = false) (hC : HC K X0 s) (hx : va_X b N xs s s.heap) (hbl : b < s.heap.size) (hA0 : ∀ q, hA X0 s.heap.size q → s.heap.size ≤ q) (h : Nat) (a : Nat → Nat) (hap : mAp h a) (hmA : ∀ q, mA h a q → hA X0 s.heap.size q) (J28 : Nat → Nat → Nat → Int32 → hX → mF → mR → mL → mG → Nat → Nat → Prop) (hJ28 : ∀ (x1 : Nat) (x3 : Nat) (x4 : Nat) (x5 : Int32) (X : hX) (F : mF) (R : mR) (L : mL) (G : mG) (kc ks : Nat) (H : Heap) (locs : List Loc) (ls : Array Slot), hI K X0 s.heap.size X H → mP K.1 h a F R L G H → hdis X h a → va_S (hA X0 s.heap.size) s.heap H locs → kc ≤ 1200048 ∧ ks ≤ 5501818 → lv_has ls 9 [(0, .ref b), (1, .ref x1), (2, .ref h), (3, .ref x3), (4, .ref x4), (5, .int x5)] → J28 x1 x3 x4 x5 X F R L G kc ks → W p l e room_1 s m #[Value.ref b] below meth c H locs kc ks (lw_Z below #[Value.ref b] s) (F0 m 28 ls [])) : ∀ (x1 : Nat) (x3 : Nat) (x4 : Nat) (x5 : Int32) (X : hX) (F : mF) (R : mR) (L : mL) (G : mG) (kc ks : Nat) (H : Heap) (locs : List Loc) (ls : Array Slot), hI K X0 s.heap.size X H → mP K.1 h a F R L G H → hdis X h a → va_S (hA X0 s.heap.size) s.heap H locs → kc ≤ 1200048 ∧ ks ≤ 5501818 → lv_has ls 9 [(0, .ref b), (1, .ref x1), (2, .ref h), (3, .ref x3), (4, .ref x4), (5, .int x5)] → wpL_961 (K.2.2 0) 1200048 5501818 N xs J28 x1 x3 x4 x5 X F R L G kc ks → W p l e room_1 s m #[Value.ref b] below meth c H locs kc ks (lw_Z below #[Value.ref b] s) (F0 m 961 ls []) := by
  have hbA : ¬ hA X0 s.heap.size b := fun z => Nat.not_lt.mpr (hA0 b z) hbl
  intro x1 x3 x4 x5 X F R L G kc ks H locs ls hP hM hD hS hk hl hw
  unfold wpL_961 at hw
  refine lv_goto (tgt := 3714) hF.1 hF.2.1 dL_law_961 (by decide) ?_
  obtain ⟨x5_256, ex5_256⟩ : ∃ y : Int32, y = x5 + 5 := ⟨_, rfl⟩
  have hw := hw x5_256 ex5_256
  refine lv_iinc (v := x5_256) (lv' := [(5, .int x5_256), (0, .ref b), (1, .ref x1), (2, .ref h), (3, .ref x3), (4, .ref x4)]) hF.1 hF.2.1 dL_law_3714 hl (k := 5) rfl (by rw [ex5_256]; rfl) (by decide) rfl (fun ls hl => ?_)
  refine lv_goto (tgt := 28) hF.1 hF.2.1 dL_law_3717 (by decide) ?_
  exact hJ28 x1 x3 x4 x5_256 X F R L G kc ks _ _ ls hP hM hD hS hk (lv_sub hl [1, 2, 3, 4, 5, 0] rfl) hw
def wpL_908 (E mc ms N : Nat) (xs : Nat → Int32) (J28 : Nat → Nat → Nat → Int32 → hX → mF → mR → mL → mG → Nat → Nat → Prop) (x1 : Nat) (x3 : Nat) (x4 : Nat) (x5 : Int32) (X : hX) (F : mF) (R : mR) (L : mL) (G : mG) (kc ks : Nat) : Prop := (vp_in (x5 + 1) N ∧ (∃ mc_260 ms_261 : Nat, kc + mc_260 ≤ mc ∧ ks + ms_261 ≤ ms ∧ wpX0_pass (fun r_258 X_259 => (vp_in (x5 + 1) N ∧ wpX3_pass (fun r_265 F_266 R_267 L_268 G_269 => wpX3_thrown (fun r_270 F_271 R_272 L_273 G_274 => ((r_270 = r_258 → ((r_258 = 0 → alJ X_259 x3 0 (fun v_281 => ((v_281 = (Int32.toInt64 r_265) → wpL_961 E mc ms N xs J28 x1 x3 x4 x5 X_259 F_271 R_272 L_273 G_274 (kc + mc_260) (ks + ms_261)) ∧ (¬ v_281 = (Int32.toInt64 r_265) → (0 : Int32) = 1)))) ∧ (¬ r_258 = 0 → wpL_961 E mc ms N xs J28 x1 x3 x4 x5 X_259 F_271 R_272 L_273 G_274 (kc + mc_260) (ks + ms_261)))) ∧ (¬ r_270 = r_258 → (0 : Int32) = 1))) F_266 R_267 L_268 G_269) F R L G (xs (Int32.toNatClampNeg (x5 + 1))))) (fun _ _ _ => False) E mc_260 ms_261 X x1 (xs (Int32.toNatClampNeg (x5 + 1))) x3))
set_option maxHeartbeats 8000000 in
theorem Tl908 {p : Program} {e : Env} {s : State} {m : MethodId} {below : List Frame} {meth : Method} {c : Code} (l : Launch) (hlt : l.stackTraces = false) (K : HK) {b N : Nat} {xs : Nat → Int32} (X0 : hX) (hF : CallFix p m c code 9 s #[Value.ref b] lw_all R_law) (hr : meth.sig.returnType = ret) (hlocks : meth.locks = false) (hC : HC K X0 s) (hx : va_X b N xs s s.heap) (hbl : b < s.heap.size) (hA0 : ∀ q, hA X0 s.heap.size q → s.heap.size ≤ q) (h : Nat) (a : Nat → Nat) (hap : mAp h a) (hmA : ∀ q, mA h a q → hA X0 s.heap.size q) (J28 : Nat → Nat → Nat → Int32 → hX → mF → mR → mL → mG → Nat → Nat → Prop) (hJ28 : ∀ (x1 : Nat) (x3 : Nat) (x4 : Nat) (x5 : Int32) (X : hX) (F : mF) (R : mR) (L : mL) (G : mG) (kc ks : Nat) (H : Heap) (locs : List Loc) (ls : Array Slot), hI K X0 s.heap.size X H → mP K.1 h a F R L G H → hdis X h a → va_S (hA X0 s.heap.size) s.heap H locs → kc ≤ 1200048 ∧ ks ≤ 5501818 → lv_has ls 9 [(0, .ref b), (1, .ref x1), (2, .ref h), (3, .ref x3), (4, .ref x4), (5, .int x5)] → J28 x1 x3 x4 x5 X F R L G kc ks → W p l e room_1 s m #[Value.ref b] below meth c H locs kc ks (lw_Z below #[Value.ref b] s) (F0 m 28 ls [])) : ∀ (x1 : Nat) (x3 : Nat) (x4 : Nat) (x5 : Int32) (X : hX) (F : mF) (R : mR) (L : mL) (G : mG) (kc ks : Nat) (H : Heap) (locs : List Loc) (ls : Array Slot), hI K X0 s.heap.size X H → mP K.1 h a F R L G H → hdis X h a → va_S (hA X0 s.heap.size) s.heap H locs → kc ≤ 1200048 ∧ ks ≤ 5501818 → lv_has ls 9 [(0, .ref b), (1, .ref x1), (2, .ref h), (3, .ref x3), (4, .ref x4), (5, .int x5)] → wpL_908 (K.2.2 0) 1200048 5501818 N xs J28 x1 x3 x4 x5 X F R L G kc ks → W p l e room_1 s m #[Value.ref b] below meth c H locs kc ks (lw_Z below #[Value.ref b] s) (F0 m 908 ls []) := by
  have hbA : ¬ hA X0 s.heap.size b := fun z => Nat.not_lt.mpr (hA0 b z) hbl
  intro x1 x3 x4 x5 X F R L G kc ks H locs ls hP hM hD hS hk hl hw
  unfold wpL_908 at hw
  refine lv_aload_n hF.1 hF.2.1 dL_law_908 rfl (lv_at hl 1 rfl) ?_
  refine lv_aload_n hF.1 hF.2.1 dL_law_909 rfl (lv_at hl 0 rfl) ?_
  refine lv_iload hF.1 hF.2.1 dL_law_910 (lv_at hl 5 rfl) ?_
  refine lv_iconst (v := 1) hF.1 hF.2.1 dL_law_912 (by decide) ?_
  refine lv_iadd hF.1 hF.2.1 dL_law_913 ?_
  obtain ⟨h_257, hw⟩ := hw
  refine va_sld hF.1 hF.2.1 hx hbl hbA hS h_257 dL_law_914 ?_
  refine lv_aload_n hF.1 hF.2.1 dL_law_915 rfl (lv_at hl 3 rfl) ?_
  obtain ⟨mc_260, ms_261, hc_262, hs_263, hw⟩ := hw
  refine lkx_i (hrx_SX (As := [.ref x1, .int (xs (Int32.toNatClampNeg (x5 + 1))), .ref x3]) (rest := []) hF hl.1 hC hP hS (metX0_pass l hlt K mc_260 ms_261 _ _ _ X x1 (xs (Int32.toNatClampNeg (x5 + 1))) x3) (vx_cwSW 3 hF.2.2.2.2 (lw_SW q1114 q1115 q74 q1116) rfl rfl rfl (by decide +kernel) ⟨Nat.le_of_ble_eq_true rfl, Nat.le_of_ble_eq_true rfl⟩) hw rfl rfl (Nat.le_of_ble_eq_true rfl) dL_law_916 ⟨hc_262, hs_263⟩) hP hM hD hS (fun r_258 X_259 H locs hw hP hM hD hS => ?_)
  refine lv_istore (lv' := [(6, .int r_258), (0, .ref b), (1, .ref x1), (2, .ref h), (3, .ref x3), (4, .ref x4), (5, .int x5)]) hF.1 hF.2.1 dL_law_919 hl (by decide) rfl (fun ls hl => ?_)
  refine lv_aload_n hF.1 hF.2.1 dL_law_921 rfl (lv_at hl 3 rfl) ?_
  refine lv_aload_n hF.1 hF.2.1 dL_law_922 rfl (lv_at hl 1 rfl) ?_
  refine lv_iload hF.1 hF.2.1 dL_law_923 (lv_at hl 6 rfl) ?_
  refine lv_iconst (v := 1) hF.1 hF.2.1 dL_law_925 (by decide) ?_
  refine lv_iadd hF.1 hF.2.1 dL_law_926 ?_
  obtain ⟨h_264, hw⟩ := hw
  refine va_sld hF.1 hF.2.1 hx hbl hbA hS h_264 dL_law_927 ?_
  refine lm_i (As := [.int (xs (Int32.toNatClampNeg (x5 + 1)))]) (rest := []) hF hl.1 hC (metX3_pass l K.1 h a hap _ F R L G (xs (Int32.toNatClampNeg (x5 + 1)))) (cwV 1 hF.2.2.2.2 (lw_V q1960 q1961 q1962 q85 q1963) rfl rfl rfl (by decide +kernel) ⟨Nat.le_of_ble_eq_true rfl, Nat.le_of_ble_eq_true rfl⟩) hP hM hD hS hmA hw rfl rfl (Nat.le_of_ble_eq_true rfl) dL_law_928 ⟨hc_262, hs_263⟩ (fun r_265 F_266 R_267 L_268 G_269 H locs hw hP hM hS => ?_)
  refine lv_istore (lv' := [(7, .int r_265), (6, .int r_258), (0, .ref b), (1, .ref x1), (2, .ref h), (3, .ref x3), (4, .ref x4), (5, .int x5)]) hF.1 hF.2.1 dL_law_931 hl (by decide) rfl (fun ls hl => ?_)
  refine lv_aload_n hF.1 hF.2.1 dL_law_933 rfl (lv_at hl 4 rfl) ?_
  refine lm_i (As := []) (rest := []) hF hl.1 hC (metX3_thrown l K.1 h a hap _ F_266 R_267 L_268 G_269) (cwV 0 hF.2.2.2.2 (lw_V q1813 q1814 q1815 q85 q1816) rfl rfl rfl (by decide +kernel) ⟨Nat.le_of_ble_eq_true rfl, Nat.le_of_ble_eq_true rfl⟩) hP hM hD hS hmA hw rfl rfl (Nat.le_of_ble_eq_true rfl) dL_law_934 ⟨hc_262, hs_263⟩ (fun r_270 F_271 R_272 L_273 G_274 H locs hw hP hM hS => ?_)
  refine lv_iload hF.1 hF.2.1 dL_law_937 (lv_at hl 1 rfl) ?_
  refine lv_icmp_eq (tgt := 944) hF.1 hF.2.1 dL_law_939 (by decide) (fun c_275 => ?_) (fun c_275 => ?_)
  · have hw := hw.1 c_275
    refine lv_iload hF.1 hF.2.1 dL_law_944 (lv_at hl 1 rfl) ?_
    refine lv_if_ne (tgt := 961) hF.1 hF.2.1 dL_law_946 (by decide) (fun c_276 => ?_) (fun c_276 => ?_)
    · have hw := hw.2 c_276
      exact Tl961 l hlt K X0 hF hr hlocks hC hx hbl hA0 h a hap hmA _ hJ28 x1 x3 x4 x5 X_259 F_271 R_272 L_273 G_274 (kc + mc_260) (ks + ms_261) _ _ ls hP hM hD hS ⟨hc_262, hs_263⟩ (lv_sub hl [2, 3, 4, 5, 6, 7] rfl) hw
    · have hw := hw.1 c_276
      refine lv_aload_n hF.1 hF.2.1 dL_law_949 rfl (lv_at hl 5 rfl) ?_
      refine lv_iconst (v := 0) hF.1 hF.2.1 dL_law_950 (by decide) ?_
      obtain ⟨n_277, f_278, hx_279, hi_280, hw⟩ := hw
      refine x_lald hF hC hP hx_279 hi_280 dL_law_951 ?_
      generalize f_278 (Int32.toNatClampNeg 0) = v_281 at hw ⊢
      refine lv_iload hF.1 hF.2.1 dL_law_952 (lv_at hl 0 rfl) ?_
      refine lv_i2l hF.1 hF.2.1 dL_law_954 rfl ?_
      refine W.lcmp hF.1 hF.2.1 dL_law_955 ?_
      refine lv_if_eq (tgt := 961) hF.1 hF.2.1 dL_law_956 (by decide) (fun c_282 => ?_) (fun c_282 => ?_)
      · rw [lc_eq] at c_282
        have hw := hw.1 c_282
        exact Tl961 l hlt K X0 hF hr hlocks hC hx hbl hA0 h a hap hmA _ hJ28 x1 x3 x4 x5 X_259 F_271 R_272 L_273 G_274 (kc + mc_260) (ks + ms_261) _ _ ls hP hM hD hS ⟨hc_262, hs_263⟩ (lv_sub hl [2, 3, 4, 5, 6, 7] rfl) hw
      · rw [lc_eq] at c_282
        have hw := hw.2 c_282
        refine lv_iconst (v := 0) hF.1 hF.2.1 dL_law_959 (by decide) ?_
        exact l_end hF hr hlocks hA0 hS ⟨hc_262, hs_263⟩ dL_law_960 hw
  · have hw := hw.2 c_275
    refine lv_iconst (v := 0) hF.1 hF.2.1 dL_law_942 (by decide) ?_
    exact l_end hF hr hlocks hA0 hS ⟨hc_262, hs_263⟩ dL_law_943 hw
def wpL_1017 (E mc ms N : Nat) (xs : Nat → Int32) (J28 : Nat → Nat → Nat → Int32 → hX → mF → mR → mL → mG → Nat → Nat → Prop) (x1 : Nat) (x3 : Nat) (x4 : Nat) (x5 : Int32) (X : hX) (F : mF) (R : mR) (L : mL) (G : mG) (kc ks : Nat) : Prop := (∀ x5_283 : Int32, x5_283 = x5 + 5 → J28 x1 x3 x4 x5_283 X F R L G kc ks)
set_option maxHeartbeats 8000000 in
theorem Tl1017 {p : Program} {e : Env} {s : State} {m : MethodId} {below : List Frame} {meth : Method} {c : Code} (l : Launch) (hlt : l.stackTraces = false) (K : HK) {b N : Nat} {xs : Nat → Int32} (X0 : hX) (hF : CallFix p m c code 9 s #[Value.ref b] lw_all R_law) (hr : meth.sig.returnType = ret) (hlocks : meth.locks = false) (hC : HC K X0 s) (hx : va_X b N xs s s.heap) (hbl : b < s.heap.size) (hA0 : ∀ q, hA X0 s.heap.size q → s.heap.size ≤ q) (h : Nat) (a : Nat → Nat) (hap : mAp h a) (hmA : ∀ q, mA h a q → hA X0 s.heap.size q) (J28 : Nat → Nat → Nat → Int32 → hX → mF → mR → mL → mG → Nat → Nat → Prop) (hJ28 : ∀ (x1 : Nat) (x3 : Nat) (x4 : Nat) (x5 : Int32) (X : hX) (F : mF) (R : mR) (L : mL) (G : mG) (kc ks : Nat) (H : Heap) (locs : List Loc) (ls : Array Slot), hI K X0 s.heap.size X H → mP K.1 h a F R L G H → hdis X h a → va_S (hA X0 s.heap.size) s.heap H locs → kc ≤ 1200048 ∧ ks ≤ 5501818 → lv_has ls 9 [(0, .ref b), (1, .ref x1), (2, .ref h), (3, .ref x3), (4, .ref x4), (5, .int x5)] → J28 x1 x3 x4 x5 X F R L G kc ks → W p l e room_1 s m #[Value.ref b] below meth c H locs kc ks (lw_Z below #[Value.ref b] s) (F0 m 28 ls [])) : ∀ (x1 : Nat) (x3 : Nat) (x4 : Nat) (x5 : Int32) (X : hX) (F : mF) (R : mR) (L : mL) (G : mG) (kc ks : Nat) (H : Heap) (locs : List Loc) (ls : Array Slot), hI K X0 s.heap.size X H → mP K.1 h a F R L G H → hdis X h a → va_S (hA X0 s.heap.size) s.heap H locs → kc ≤ 1200048 ∧ ks ≤ 5501818 → lv_has ls 9 [(0, .ref b), (1, .ref x1), (2, .ref h), (3, .ref x3), (4, .ref x4), (5, .int x5)] → wpL_1017 (K.2.2 0) 1200048 5501818 N xs J28 x1 x3 x4 x5 X F R L G kc ks → W p l e room_1 s m #[Value.ref b] below meth c H locs kc ks (lw_Z below #[Value.ref b] s) (F0 m 1017 ls []) := by
  have hbA : ¬ hA X0 s.heap.size b := fun z => Nat.not_lt.mpr (hA0 b z) hbl
  intro x1 x3 x4 x5 X F R L G kc ks H locs ls hP hM hD hS hk hl hw
  unfold wpL_1017 at hw
  refine lv_goto (tgt := 3714) hF.1 hF.2.1 dL_law_1017 (by decide) ?_
  obtain ⟨x5_283, ex5_283⟩ : ∃ y : Int32, y = x5 + 5 := ⟨_, rfl⟩
  have hw := hw x5_283 ex5_283
  refine lv_iinc (v := x5_283) (lv' := [(5, .int x5_283), (0, .ref b), (1, .ref x1), (2, .ref h), (3, .ref x3), (4, .ref x4)]) hF.1 hF.2.1 dL_law_3714 hl (k := 5) rfl (by rw [ex5_283]; rfl) (by decide) rfl (fun ls hl => ?_)
  refine lv_goto (tgt := 28) hF.1 hF.2.1 dL_law_3717 (by decide) ?_
  exact hJ28 x1 x3 x4 x5_283 X F R L G kc ks _ _ ls hP hM hD hS hk (lv_sub hl [1, 2, 3, 4, 5, 0] rfl) hw
def wpL_964 (E mc ms N : Nat) (xs : Nat → Int32) (J28 : Nat → Nat → Nat → Int32 → hX → mF → mR → mL → mG → Nat → Nat → Prop) (x1 : Nat) (x3 : Nat) (x4 : Nat) (x5 : Int32) (X : hX) (F : mF) (R : mR) (L : mL) (G : mG) (kc ks : Nat) : Prop := (vp_in (x5 + 1) N ∧ (∃ mc_287 ms_288 : Nat, kc + mc_287 ≤ mc ∧ ks + ms_288 ≤ ms ∧ wpX0_setDay (fun r_285 X_286 => (vp_in (x5 + 1) N ∧ wpX3_setDay (fun r_292 F_293 R_294 L_295 G_296 => wpX3_thrown (fun r_297 F_298 R_299 L_300 G_301 => ((r_297 = r_285 → ((r_285 = 0 → alJ X_286 x3 0 (fun v_308 => ((v_308 = (Int32.toInt64 r_292) → wpL_1017 E mc ms N xs J28 x1 x3 x4 x5 X_286 F_298 R_299 L_300 G_301 (kc + mc_287) (ks + ms_288)) ∧ (¬ v_308 = (Int32.toInt64 r_292) → (0 : Int32) = 1)))) ∧ (¬ r_285 = 0 → wpL_1017 E mc ms N xs J28 x1 x3 x4 x5 X_286 F_298 R_299 L_300 G_301 (kc + mc_287) (ks + ms_288)))) ∧ (¬ r_297 = r_285 → (0 : Int32) = 1))) F_293 R_294 L_295 G_296) F R L G (xs (Int32.toNatClampNeg (x5 + 1))))) (fun _ _ _ => False) E mc_287 ms_288 X x1 (xs (Int32.toNatClampNeg (x5 + 1))) x3))
set_option maxHeartbeats 8000000 in
theorem Tl964 {p : Program} {e : Env} {s : State} {m : MethodId} {below : List Frame} {meth : Method} {c : Code} (l : Launch) (hlt : l.stackTraces = false) (K : HK) {b N : Nat} {xs : Nat → Int32} (X0 : hX) (hF : CallFix p m c code 9 s #[Value.ref b] lw_all R_law) (hr : meth.sig.returnType = ret) (hlocks : meth.locks = false) (hC : HC K X0 s) (hx : va_X b N xs s s.heap) (hbl : b < s.heap.size) (hA0 : ∀ q, hA X0 s.heap.size q → s.heap.size ≤ q) (h : Nat) (a : Nat → Nat) (hap : mAp h a) (hmA : ∀ q, mA h a q → hA X0 s.heap.size q) (J28 : Nat → Nat → Nat → Int32 → hX → mF → mR → mL → mG → Nat → Nat → Prop) (hJ28 : ∀ (x1 : Nat) (x3 : Nat) (x4 : Nat) (x5 : Int32) (X : hX) (F : mF) (R : mR) (L : mL) (G : mG) (kc ks : Nat) (H : Heap) (locs : List Loc) (ls : Array Slot), hI K X0 s.heap.size X H → mP K.1 h a F R L G H → hdis X h a → va_S (hA X0 s.heap.size) s.heap H locs → kc ≤ 1200048 ∧ ks ≤ 5501818 → lv_has ls 9 [(0, .ref b), (1, .ref x1), (2, .ref h), (3, .ref x3), (4, .ref x4), (5, .int x5)] → J28 x1 x3 x4 x5 X F R L G kc ks → W p l e room_1 s m #[Value.ref b] below meth c H locs kc ks (lw_Z below #[Value.ref b] s) (F0 m 28 ls [])) : ∀ (x1 : Nat) (x3 : Nat) (x4 : Nat) (x5 : Int32) (X : hX) (F : mF) (R : mR) (L : mL) (G : mG) (kc ks : Nat) (H : Heap) (locs : List Loc) (ls : Array Slot), hI K X0 s.heap.size X H → mP K.1 h a F R L G H → hdis X h a → va_S (hA X0 s.heap.size) s.heap H locs → kc ≤ 1200048 ∧ ks ≤ 5501818 → lv_has ls 9 [(0, .ref b), (1, .ref x1), (2, .ref h), (3, .ref x3), (4, .ref x4), (5, .int x5)] → wpL_964 (K.2.2 0) 1200048 5501818 N xs J28 x1 x3 x4 x5 X F R L G kc ks → W p l e room_1 s m #[Value.ref b] below meth c H locs kc ks (lw_Z below #[Value.ref b] s) (F0 m 964 ls []) := by
  have hbA : ¬ hA X0 s.heap.size b := fun z => Nat.not_lt.mpr (hA0 b z) hbl
  intro x1 x3 x4 x5 X F R L G kc ks H locs ls hP hM hD hS hk hl hw
  unfold wpL_964 at hw
  refine lv_aload_n hF.1 hF.2.1 dL_law_964 rfl (lv_at hl 1 rfl) ?_
  refine lv_aload_n hF.1 hF.2.1 dL_law_965 rfl (lv_at hl 0 rfl) ?_
  refine lv_iload hF.1 hF.2.1 dL_law_966 (lv_at hl 5 rfl) ?_
  refine lv_iconst (v := 1) hF.1 hF.2.1 dL_law_968 (by decide) ?_
  refine lv_iadd hF.1 hF.2.1 dL_law_969 ?_
  obtain ⟨h_284, hw⟩ := hw
  refine va_sld hF.1 hF.2.1 hx hbl hbA hS h_284 dL_law_970 ?_
  refine lv_aload_n hF.1 hF.2.1 dL_law_971 rfl (lv_at hl 3 rfl) ?_
  obtain ⟨mc_287, ms_288, hc_289, hs_290, hw⟩ := hw
  refine lkx_i (hrx_SX (As := [.ref x1, .int (xs (Int32.toNatClampNeg (x5 + 1))), .ref x3]) (rest := []) hF hl.1 hC hP hS (metX0_setDay l hlt K mc_287 ms_288 _ _ _ X x1 (xs (Int32.toNatClampNeg (x5 + 1))) x3) (vx_cwSW 3 hF.2.2.2.2 (lw_SW q1121 q1122 q74 q1123) rfl rfl rfl (by decide +kernel) ⟨Nat.le_of_ble_eq_true rfl, Nat.le_of_ble_eq_true rfl⟩) hw rfl rfl (Nat.le_of_ble_eq_true rfl) dL_law_972 ⟨hc_289, hs_290⟩) hP hM hD hS (fun r_285 X_286 H locs hw hP hM hD hS => ?_)
  refine lv_istore (lv' := [(6, .int r_285), (0, .ref b), (1, .ref x1), (2, .ref h), (3, .ref x3), (4, .ref x4), (5, .int x5)]) hF.1 hF.2.1 dL_law_975 hl (by decide) rfl (fun ls hl => ?_)
  refine lv_aload_n hF.1 hF.2.1 dL_law_977 rfl (lv_at hl 3 rfl) ?_
  refine lv_aload_n hF.1 hF.2.1 dL_law_978 rfl (lv_at hl 1 rfl) ?_
  refine lv_iload hF.1 hF.2.1 dL_law_979 (lv_at hl 6 rfl) ?_
  refine lv_iconst (v := 1) hF.1 hF.2.1 dL_law_981 (by decide) ?_
  refine lv_iadd hF.1 hF.2.1 dL_law_982 ?_
  obtain ⟨h_291, hw⟩ := hw
  refine va_sld hF.1 hF.2.1 hx hbl hbA hS h_291 dL_law_983 ?_
  refine lm_i (As := [.int (xs (Int32.toNatClampNeg (x5 + 1)))]) (rest := []) hF hl.1 hC (metX3_setDay l K.1 h a hap _ F R L G (xs (Int32.toNatClampNeg (x5 + 1)))) (cwV 1 hF.2.2.2.2 (lw_V q1969 q1970 q1971 q85 q1972) rfl rfl rfl (by decide +kernel) ⟨Nat.le_of_ble_eq_true rfl, Nat.le_of_ble_eq_true rfl⟩) hP hM hD hS hmA hw rfl rfl (Nat.le_of_ble_eq_true rfl) dL_law_984 ⟨hc_289, hs_290⟩ (fun r_292 F_293 R_294 L_295 G_296 H locs hw hP hM hS => ?_)
  refine lv_istore (lv' := [(7, .int r_292), (6, .int r_285), (0, .ref b), (1, .ref x1), (2, .ref h), (3, .ref x3), (4, .ref x4), (5, .int x5)]) hF.1 hF.2.1 dL_law_987 hl (by decide) rfl (fun ls hl => ?_)
  refine lv_aload_n hF.1 hF.2.1 dL_law_989 rfl (lv_at hl 4 rfl) ?_
  refine lm_i (As := []) (rest := []) hF hl.1 hC (metX3_thrown l K.1 h a hap _ F_293 R_294 L_295 G_296) (cwV 0 hF.2.2.2.2 (lw_V q1813 q1814 q1815 q85 q1816) rfl rfl rfl (by decide +kernel) ⟨Nat.le_of_ble_eq_true rfl, Nat.le_of_ble_eq_true rfl⟩) hP hM hD hS hmA hw rfl rfl (Nat.le_of_ble_eq_true rfl) dL_law_990 ⟨hc_289, hs_290⟩ (fun r_297 F_298 R_299 L_300 G_301 H locs hw hP hM hS => ?_)
  refine lv_iload hF.1 hF.2.1 dL_law_993 (lv_at hl 1 rfl) ?_
  refine lv_icmp_eq (tgt := 1000) hF.1 hF.2.1 dL_law_995 (by decide) (fun c_302 => ?_) (fun c_302 => ?_)
  · have hw := hw.1 c_302
    refine lv_iload hF.1 hF.2.1 dL_law_1000 (lv_at hl 1 rfl) ?_
    refine lv_if_ne (tgt := 1017) hF.1 hF.2.1 dL_law_1002 (by decide) (fun c_303 => ?_) (fun c_303 => ?_)
    · have hw := hw.2 c_303
      exact Tl1017 l hlt K X0 hF hr hlocks hC hx hbl hA0 h a hap hmA _ hJ28 x1 x3 x4 x5 X_286 F_298 R_299 L_300 G_301 (kc + mc_287) (ks + ms_288) _ _ ls hP hM hD hS ⟨hc_289, hs_290⟩ (lv_sub hl [2, 3, 4, 5, 6, 7] rfl) hw
    · have hw := hw.1 c_303
      refine lv_aload_n hF.1 hF.2.1 dL_law_1005 rfl (lv_at hl 5 rfl) ?_
      refine lv_iconst (v := 0) hF.1 hF.2.1 dL_law_1006 (by decide) ?_
      obtain ⟨n_304, f_305, hx_306, hi_307, hw⟩ := hw
      refine x_lald hF hC hP hx_306 hi_307 dL_law_1007 ?_
      generalize f_305 (Int32.toNatClampNeg 0) = v_308 at hw ⊢
      refine lv_iload hF.1 hF.2.1 dL_law_1008 (lv_at hl 0 rfl) ?_
      refine lv_i2l hF.1 hF.2.1 dL_law_1010 rfl ?_
      refine W.lcmp hF.1 hF.2.1 dL_law_1011 ?_
      refine lv_if_eq (tgt := 1017) hF.1 hF.2.1 dL_law_1012 (by decide) (fun c_309 => ?_) (fun c_309 => ?_)
      · rw [lc_eq] at c_309
        have hw := hw.1 c_309
        exact Tl1017 l hlt K X0 hF hr hlocks hC hx hbl hA0 h a hap hmA _ hJ28 x1 x3 x4 x5 X_286 F_298 R_299 L_300 G_301 (kc + mc_287) (ks + ms_288) _ _ ls hP hM hD hS ⟨hc_289, hs_290⟩ (lv_sub hl [2, 3, 4, 5, 6, 7] rfl) hw
      · rw [lc_eq] at c_309
        have hw := hw.2 c_309
        refine lv_iconst (v := 0) hF.1 hF.2.1 dL_law_1015 (by decide) ?_
        exact l_end hF hr hlocks hA0 hS ⟨hc_289, hs_290⟩ dL_law_1016 hw
  · have hw := hw.2 c_302
    refine lv_iconst (v := 0) hF.1 hF.2.1 dL_law_998 (by decide) ?_
    exact l_end hF hr hlocks hA0 hS ⟨hc_289, hs_290⟩ dL_law_999 hw
def wpL_1020 (E mc ms N : Nat) (xs : Nat → Int32) (J28 : Nat → Nat → Nat → Int32 → hX → mF → mR → mL → mG → Nat → Nat → Prop) (x1 : Nat) (x3 : Nat) (x4 : Nat) (x5 : Int32) (X : hX) (F : mF) (R : mR) (L : mL) (G : mG) (kc ks : Nat) : Prop := isO X x1 1 (wpX1_axles (fun r_310 X_311 => wpX3_axles (fun r_313 F_314 R_315 L_316 G_317 => ((r_310 = r_313 → (∀ x5_319 : Int32, x5_319 = x5 + 5 → J28 x1 x3 x4 x5_319 X_311 F_314 R_315 L_316 G_317 kc ks)) ∧ (¬ r_310 = r_313 → (0 : Int32) = 1))) F R L G) E X x1)
set_option maxHeartbeats 8000000 in
theorem Tl1020 {p : Program} {e : Env} {s : State} {m : MethodId} {below : List Frame} {meth : Method} {c : Code} (l : Launch) (hlt : l.stackTraces = false) (K : HK) {b N : Nat} {xs : Nat → Int32} (X0 : hX) (hF : CallFix p m c code 9 s #[Value.ref b] lw_all R_law) (hr : meth.sig.returnType = ret) (hlocks : meth.locks = false) (hC : HC K X0 s) (hx : va_X b N xs s s.heap) (hbl : b < s.heap.size) (hA0 : ∀ q, hA X0 s.heap.size q → s.heap.size ≤ q) (h : Nat) (a : Nat → Nat) (hap : mAp h a) (hmA : ∀ q, mA h a q → hA X0 s.heap.size q) (J28 : Nat → Nat → Nat → Int32 → hX → mF → mR → mL → mG → Nat → Nat → Prop) (hJ28 : ∀ (x1 : Nat) (x3 : Nat) (x4 : Nat) (x5 : Int32) (X : hX) (F : mF) (R : mR) (L : mL) (G : mG) (kc ks : Nat) (H : Heap) (locs : List Loc) (ls : Array Slot), hI K X0 s.heap.size X H → mP K.1 h a F R L G H → hdis X h a → va_S (hA X0 s.heap.size) s.heap H locs → kc ≤ 1200048 ∧ ks ≤ 5501818 → lv_has ls 9 [(0, .ref b), (1, .ref x1), (2, .ref h), (3, .ref x3), (4, .ref x4), (5, .int x5)] → J28 x1 x3 x4 x5 X F R L G kc ks → W p l e room_1 s m #[Value.ref b] below meth c H locs kc ks (lw_Z below #[Value.ref b] s) (F0 m 28 ls [])) : ∀ (x1 : Nat) (x3 : Nat) (x4 : Nat) (x5 : Int32) (X : hX) (F : mF) (R : mR) (L : mL) (G : mG) (kc ks : Nat) (H : Heap) (locs : List Loc) (ls : Array Slot), hI K X0 s.heap.size X H → mP K.1 h a F R L G H → hdis X h a → va_S (hA X0 s.heap.size) s.heap H locs → kc ≤ 1200048 ∧ ks ≤ 5501818 → lv_has ls 9 [(0, .ref b), (1, .ref x1), (2, .ref h), (3, .ref x3), (4, .ref x4), (5, .int x5)] → wpL_1020 (K.2.2 0) 1200048 5501818 N xs J28 x1 x3 x4 x5 X F R L G kc ks → W p l e room_1 s m #[Value.ref b] below meth c H locs kc ks (lw_Z below #[Value.ref b] s) (F0 m 1020 ls []) := by
  have hbA : ¬ hA X0 s.heap.size b := fun z => Nat.not_lt.mpr (hA0 b z) hbl
  intro x1 x3 x4 x5 X F R L G kc ks H locs ls hP hM hD hS hk hl hw
  unfold wpL_1020 at hw
  refine lv_aload_n hF.1 hF.2.1 dL_law_1020 rfl (lv_at hl 1 rfl) ?_
  obtain ⟨ho_312, hw⟩ := hw
  refine lk_i (hr_V (As := []) (rest := []) (T := TX1) (N := 4) (ci := 1) hF hl.1 hC hP hS (metX1_axles l K _ _ X x1) rfl (cwV 0 hF.2.2.2.2 (lw_V q258 q259 q260 q75 q261) rfl rfl rfl (by decide +kernel) ⟨Nat.le_of_ble_eq_true rfl, Nat.le_of_ble_eq_true rfl⟩) ho_312 hw rfl rfl (Nat.le_of_ble_eq_true rfl) dL_law_1021 hk) hP hM hD hS (fun r_310 X_311 H locs hw hP hM hD hS => ?_)
  refine lv_aload_n hF.1 hF.2.1 dL_law_1024 rfl (lv_at hl 2 rfl) ?_
  refine lm_i (As := []) (rest := [.int r_310]) hF hl.1 hC (metX3_axles l K.1 h a hap _ F R L G) (cwV 0 hF.2.2.2.2 (lw_V q1985 q1986 q1987 q85 q1988) rfl rfl rfl (by decide +kernel) ⟨Nat.le_of_ble_eq_true rfl, Nat.le_of_ble_eq_true rfl⟩) hP hM hD hS hmA hw rfl rfl (Nat.le_of_ble_eq_true rfl) dL_law_1025 hk (fun r_313 F_314 R_315 L_316 G_317 H locs hw hP hM hS => ?_)
  refine lv_icmp_eq (tgt := 3714) hF.1 hF.2.1 dL_law_1028 (by decide) (fun c_318 => ?_) (fun c_318 => ?_)
  · have hw := hw.1 c_318
    obtain ⟨x5_319, ex5_319⟩ : ∃ y : Int32, y = x5 + 5 := ⟨_, rfl⟩
    have hw := hw x5_319 ex5_319
    refine lv_iinc (v := x5_319) (lv' := [(5, .int x5_319), (0, .ref b), (1, .ref x1), (2, .ref h), (3, .ref x3), (4, .ref x4)]) hF.1 hF.2.1 dL_law_3714 hl (k := 5) rfl (by rw [ex5_319]; rfl) (by decide) rfl (fun ls hl => ?_)
    refine lv_goto (tgt := 28) hF.1 hF.2.1 dL_law_3717 (by decide) ?_
    exact hJ28 x1 x3 x4 x5_319 X_311 F_314 R_315 L_316 G_317 kc ks _ _ ls hP hM hD hS hk (lv_sub hl [1, 2, 3, 4, 5, 0] rfl) hw
  · have hw := hw.2 c_318
    refine lv_iconst (v := 0) hF.1 hF.2.1 dL_law_1031 (by decide) ?_
    exact l_end hF hr hlocks hA0 hS hk dL_law_1032 hw
def wpL_1033 (E mc ms N : Nat) (xs : Nat → Int32) (J28 : Nat → Nat → Nat → Int32 → hX → mF → mR → mL → mG → Nat → Nat → Prop) (x1 : Nat) (x3 : Nat) (x4 : Nat) (x5 : Int32) (X : hX) (F : mF) (R : mR) (L : mL) (G : mG) (kc ks : Nat) : Prop := isO X x1 1 (wpX1_wheels (fun r_320 X_321 => wpX3_wheels (fun r_323 F_324 R_325 L_326 G_327 => ((r_320 = r_323 → (∀ x5_329 : Int32, x5_329 = x5 + 5 → J28 x1 x3 x4 x5_329 X_321 F_324 R_325 L_326 G_327 kc ks)) ∧ (¬ r_320 = r_323 → (0 : Int32) = 1))) F R L G) E X x1)
set_option maxHeartbeats 8000000 in
theorem Tl1033 {p : Program} {e : Env} {s : State} {m : MethodId} {below : List Frame} {meth : Method} {c : Code} (l : Launch) (hlt : l.stackTraces = false) (K : HK) {b N : Nat} {xs : Nat → Int32} (X0 : hX) (hF : CallFix p m c code 9 s #[Value.ref b] lw_all R_law) (hr : meth.sig.returnType = ret) (hlocks : meth.locks = false) (hC : HC K X0 s) (hx : va_X b N xs s s.heap) (hbl : b < s.heap.size) (hA0 : ∀ q, hA X0 s.heap.size q → s.heap.size ≤ q) (h : Nat) (a : Nat → Nat) (hap : mAp h a) (hmA : ∀ q, mA h a q → hA X0 s.heap.size q) (J28 : Nat → Nat → Nat → Int32 → hX → mF → mR → mL → mG → Nat → Nat → Prop) (hJ28 : ∀ (x1 : Nat) (x3 : Nat) (x4 : Nat) (x5 : Int32) (X : hX) (F : mF) (R : mR) (L : mL) (G : mG) (kc ks : Nat) (H : Heap) (locs : List Loc) (ls : Array Slot), hI K X0 s.heap.size X H → mP K.1 h a F R L G H → hdis X h a → va_S (hA X0 s.heap.size) s.heap H locs → kc ≤ 1200048 ∧ ks ≤ 5501818 → lv_has ls 9 [(0, .ref b), (1, .ref x1), (2, .ref h), (3, .ref x3), (4, .ref x4), (5, .int x5)] → J28 x1 x3 x4 x5 X F R L G kc ks → W p l e room_1 s m #[Value.ref b] below meth c H locs kc ks (lw_Z below #[Value.ref b] s) (F0 m 28 ls [])) : ∀ (x1 : Nat) (x3 : Nat) (x4 : Nat) (x5 : Int32) (X : hX) (F : mF) (R : mR) (L : mL) (G : mG) (kc ks : Nat) (H : Heap) (locs : List Loc) (ls : Array Slot), hI K X0 s.heap.size X H → mP K.1 h a F R L G H → hdis X h a → va_S (hA X0 s.heap.size) s.heap H locs → kc ≤ 1200048 ∧ ks ≤ 5501818 → lv_has ls 9 [(0, .ref b), (1, .ref x1), (2, .ref h), (3, .ref x3), (4, .ref x4), (5, .int x5)] → wpL_1033 (K.2.2 0) 1200048 5501818 N xs J28 x1 x3 x4 x5 X F R L G kc ks → W p l e room_1 s m #[Value.ref b] below meth c H locs kc ks (lw_Z below #[Value.ref b] s) (F0 m 1033 ls []) := by
  have hbA : ¬ hA X0 s.heap.size b := fun z => Nat.not_lt.mpr (hA0 b z) hbl
  intro x1 x3 x4 x5 X F R L G kc ks H locs ls hP hM hD hS hk hl hw
  unfold wpL_1033 at hw
  refine lv_aload_n hF.1 hF.2.1 dL_law_1033 rfl (lv_at hl 1 rfl) ?_
  obtain ⟨ho_322, hw⟩ := hw
  refine lk_i (hr_V (As := []) (rest := []) (T := TX1) (N := 4) (ci := 1) hF hl.1 hC hP hS (metX1_wheels l K _ _ X x1) rfl (cwV 0 hF.2.2.2.2 (lw_V q262 q263 q264 q75 q265) rfl rfl rfl (by decide +kernel) ⟨Nat.le_of_ble_eq_true rfl, Nat.le_of_ble_eq_true rfl⟩) ho_322 hw rfl rfl (Nat.le_of_ble_eq_true rfl) dL_law_1034 hk) hP hM hD hS (fun r_320 X_321 H locs hw hP hM hD hS => ?_)
  refine lv_aload_n hF.1 hF.2.1 dL_law_1037 rfl (lv_at hl 2 rfl) ?_
  refine lm_i (As := []) (rest := [.int r_320]) hF hl.1 hC (metX3_wheels l K.1 h a hap _ F R L G) (cwV 0 hF.2.2.2.2 (lw_V q1993 q1994 q1995 q85 q1996) rfl rfl rfl (by decide +kernel) ⟨Nat.le_of_ble_eq_true rfl, Nat.le_of_ble_eq_true rfl⟩) hP hM hD hS hmA hw rfl rfl (Nat.le_of_ble_eq_true rfl) dL_law_1038 hk (fun r_323 F_324 R_325 L_326 G_327 H locs hw hP hM hS => ?_)
  refine lv_icmp_eq (tgt := 3714) hF.1 hF.2.1 dL_law_1041 (by decide) (fun c_328 => ?_) (fun c_328 => ?_)
  · have hw := hw.1 c_328
    obtain ⟨x5_329, ex5_329⟩ : ∃ y : Int32, y = x5 + 5 := ⟨_, rfl⟩
    have hw := hw x5_329 ex5_329
    refine lv_iinc (v := x5_329) (lv' := [(5, .int x5_329), (0, .ref b), (1, .ref x1), (2, .ref h), (3, .ref x3), (4, .ref x4)]) hF.1 hF.2.1 dL_law_3714 hl (k := 5) rfl (by rw [ex5_329]; rfl) (by decide) rfl (fun ls hl => ?_)
    refine lv_goto (tgt := 28) hF.1 hF.2.1 dL_law_3717 (by decide) ?_
    exact hJ28 x1 x3 x4 x5_329 X_321 F_324 R_325 L_326 G_327 kc ks _ _ ls hP hM hD hS hk (lv_sub hl [1, 2, 3, 4, 5, 0] rfl) hw
  · have hw := hw.2 c_328
    refine lv_iconst (v := 0) hF.1 hF.2.1 dL_law_1044 (by decide) ?_
    exact l_end hF hr hlocks hA0 hS hk dL_law_1045 hw
def wpL_1046 (E mc ms N : Nat) (xs : Nat → Int32) (J28 : Nat → Nat → Nat → Int32 → hX → mF → mR → mL → mG → Nat → Nat → Prop) (x1 : Nat) (x3 : Nat) (x4 : Nat) (x5 : Int32) (X : hX) (F : mF) (R : mR) (L : mL) (G : mG) (kc ks : Nat) : Prop := isO X x1 1 (wpX1_pairs (fun r_330 X_331 => wpX3_pairs (fun r_333 F_334 R_335 L_336 G_337 => ((r_330 = r_333 → (∀ x5_339 : Int32, x5_339 = x5 + 5 → J28 x1 x3 x4 x5_339 X_331 F_334 R_335 L_336 G_337 kc ks)) ∧ (¬ r_330 = r_333 → (0 : Int32) = 1))) F R L G) E X x1)
set_option maxHeartbeats 8000000 in
theorem Tl1046 {p : Program} {e : Env} {s : State} {m : MethodId} {below : List Frame} {meth : Method} {c : Code} (l : Launch) (hlt : l.stackTraces = false) (K : HK) {b N : Nat} {xs : Nat → Int32} (X0 : hX) (hF : CallFix p m c code 9 s #[Value.ref b] lw_all R_law) (hr : meth.sig.returnType = ret) (hlocks : meth.locks = false) (hC : HC K X0 s) (hx : va_X b N xs s s.heap) (hbl : b < s.heap.size) (hA0 : ∀ q, hA X0 s.heap.size q → s.heap.size ≤ q) (h : Nat) (a : Nat → Nat) (hap : mAp h a) (hmA : ∀ q, mA h a q → hA X0 s.heap.size q) (J28 : Nat → Nat → Nat → Int32 → hX → mF → mR → mL → mG → Nat → Nat → Prop) (hJ28 : ∀ (x1 : Nat) (x3 : Nat) (x4 : Nat) (x5 : Int32) (X : hX) (F : mF) (R : mR) (L : mL) (G : mG) (kc ks : Nat) (H : Heap) (locs : List Loc) (ls : Array Slot), hI K X0 s.heap.size X H → mP K.1 h a F R L G H → hdis X h a → va_S (hA X0 s.heap.size) s.heap H locs → kc ≤ 1200048 ∧ ks ≤ 5501818 → lv_has ls 9 [(0, .ref b), (1, .ref x1), (2, .ref h), (3, .ref x3), (4, .ref x4), (5, .int x5)] → J28 x1 x3 x4 x5 X F R L G kc ks → W p l e room_1 s m #[Value.ref b] below meth c H locs kc ks (lw_Z below #[Value.ref b] s) (F0 m 28 ls [])) : ∀ (x1 : Nat) (x3 : Nat) (x4 : Nat) (x5 : Int32) (X : hX) (F : mF) (R : mR) (L : mL) (G : mG) (kc ks : Nat) (H : Heap) (locs : List Loc) (ls : Array Slot), hI K X0 s.heap.size X H → mP K.1 h a F R L G H → hdis X h a → va_S (hA X0 s.heap.size) s.heap H locs → kc ≤ 1200048 ∧ ks ≤ 5501818 → lv_has ls 9 [(0, .ref b), (1, .ref x1), (2, .ref h), (3, .ref x3), (4, .ref x4), (5, .int x5)] → wpL_1046 (K.2.2 0) 1200048 5501818 N xs J28 x1 x3 x4 x5 X F R L G kc ks → W p l e room_1 s m #[Value.ref b] below meth c H locs kc ks (lw_Z below #[Value.ref b] s) (F0 m 1046 ls []) := by
  have hbA : ¬ hA X0 s.heap.size b := fun z => Nat.not_lt.mpr (hA0 b z) hbl
  intro x1 x3 x4 x5 X F R L G kc ks H locs ls hP hM hD hS hk hl hw
  unfold wpL_1046 at hw
  refine lv_aload_n hF.1 hF.2.1 dL_law_1046 rfl (lv_at hl 1 rfl) ?_
  obtain ⟨ho_332, hw⟩ := hw
  refine lk_i (hr_V (As := []) (rest := []) (T := TX1) (N := 4) (ci := 1) hF hl.1 hC hP hS (metX1_pairs l K _ _ X x1) rfl (cwV 0 hF.2.2.2.2 (lw_V q270 q271 q272 q75 q273) rfl rfl rfl (by decide +kernel) ⟨Nat.le_of_ble_eq_true rfl, Nat.le_of_ble_eq_true rfl⟩) ho_332 hw rfl rfl (Nat.le_of_ble_eq_true rfl) dL_law_1047 hk) hP hM hD hS (fun r_330 X_331 H locs hw hP hM hD hS => ?_)
  refine lv_aload_n hF.1 hF.2.1 dL_law_1050 rfl (lv_at hl 2 rfl) ?_
  refine lm_i (As := []) (rest := [.int r_330]) hF hl.1 hC (metX3_pairs l K.1 h a hap _ F R L G) (cwV 0 hF.2.2.2.2 (lw_V q1997 q1998 q1999 q85 q2000) rfl rfl rfl (by decide +kernel) ⟨Nat.le_of_ble_eq_true rfl, Nat.le_of_ble_eq_true rfl⟩) hP hM hD hS hmA hw rfl rfl (Nat.le_of_ble_eq_true rfl) dL_law_1051 hk (fun r_333 F_334 R_335 L_336 G_337 H locs hw hP hM hS => ?_)
  refine lv_icmp_eq (tgt := 3714) hF.1 hF.2.1 dL_law_1054 (by decide) (fun c_338 => ?_) (fun c_338 => ?_)
  · have hw := hw.1 c_338
    obtain ⟨x5_339, ex5_339⟩ : ∃ y : Int32, y = x5 + 5 := ⟨_, rfl⟩
    have hw := hw x5_339 ex5_339
    refine lv_iinc (v := x5_339) (lv' := [(5, .int x5_339), (0, .ref b), (1, .ref x1), (2, .ref h), (3, .ref x3), (4, .ref x4)]) hF.1 hF.2.1 dL_law_3714 hl (k := 5) rfl (by rw [ex5_339]; rfl) (by decide) rfl (fun ls hl => ?_)
    refine lv_goto (tgt := 28) hF.1 hF.2.1 dL_law_3717 (by decide) ?_
    exact hJ28 x1 x3 x4 x5_339 X_331 F_334 R_335 L_336 G_337 kc ks _ _ ls hP hM hD hS hk (lv_sub hl [1, 2, 3, 4, 5, 0] rfl) hw
  · have hw := hw.2 c_338
    refine lv_iconst (v := 0) hF.1 hF.2.1 dL_law_1057 (by decide) ?_
    exact l_end hF hr hlocks hA0 hS hk dL_law_1058 hw
def wpL_1112 (E mc ms N : Nat) (xs : Nat → Int32) (J28 : Nat → Nat → Nat → Int32 → hX → mF → mR → mL → mG → Nat → Nat → Prop) (x1 : Nat) (x3 : Nat) (x4 : Nat) (x5 : Int32) (X : hX) (F : mF) (R : mR) (L : mL) (G : mG) (kc ks : Nat) : Prop := (∀ x5_340 : Int32, x5_340 = x5 + 5 → J28 x1 x3 x4 x5_340 X F R L G kc ks)
set_option maxHeartbeats 8000000 in
theorem Tl1112 {p : Program} {e : Env} {s : State} {m : MethodId} {below : List Frame} {meth : Method} {c : Code} (l : Launch) (hlt : l.stackTraces = false) (K : HK) {b N : Nat} {xs : Nat → Int32} (X0 : hX) (hF : CallFix p m c code 9 s #[Value.ref b] lw_all R_law) (hr : meth.sig.returnType = ret) (hlocks : meth.locks = false) (hC : HC K X0 s) (hx : va_X b N xs s s.heap) (hbl : b < s.heap.size) (hA0 : ∀ q, hA X0 s.heap.size q → s.heap.size ≤ q) (h : Nat) (a : Nat → Nat) (hap : mAp h a) (hmA : ∀ q, mA h a q → hA X0 s.heap.size q) (J28 : Nat → Nat → Nat → Int32 → hX → mF → mR → mL → mG → Nat → Nat → Prop) (hJ28 : ∀ (x1 : Nat) (x3 : Nat) (x4 : Nat) (x5 : Int32) (X : hX) (F : mF) (R : mR) (L : mL) (G : mG) (kc ks : Nat) (H : Heap) (locs : List Loc) (ls : Array Slot), hI K X0 s.heap.size X H → mP K.1 h a F R L G H → hdis X h a → va_S (hA X0 s.heap.size) s.heap H locs → kc ≤ 1200048 ∧ ks ≤ 5501818 → lv_has ls 9 [(0, .ref b), (1, .ref x1), (2, .ref h), (3, .ref x3), (4, .ref x4), (5, .int x5)] → J28 x1 x3 x4 x5 X F R L G kc ks → W p l e room_1 s m #[Value.ref b] below meth c H locs kc ks (lw_Z below #[Value.ref b] s) (F0 m 28 ls [])) : ∀ (x1 : Nat) (x3 : Nat) (x4 : Nat) (x5 : Int32) (X : hX) (F : mF) (R : mR) (L : mL) (G : mG) (kc ks : Nat) (H : Heap) (locs : List Loc) (ls : Array Slot), hI K X0 s.heap.size X H → mP K.1 h a F R L G H → hdis X h a → va_S (hA X0 s.heap.size) s.heap H locs → kc ≤ 1200048 ∧ ks ≤ 5501818 → lv_has ls 9 [(0, .ref b), (1, .ref x1), (2, .ref h), (3, .ref x3), (4, .ref x4), (5, .int x5)] → wpL_1112 (K.2.2 0) 1200048 5501818 N xs J28 x1 x3 x4 x5 X F R L G kc ks → W p l e room_1 s m #[Value.ref b] below meth c H locs kc ks (lw_Z below #[Value.ref b] s) (F0 m 1112 ls []) := by
  have hbA : ¬ hA X0 s.heap.size b := fun z => Nat.not_lt.mpr (hA0 b z) hbl
  intro x1 x3 x4 x5 X F R L G kc ks H locs ls hP hM hD hS hk hl hw
  unfold wpL_1112 at hw
  refine lv_goto (tgt := 3714) hF.1 hF.2.1 dL_law_1112 (by decide) ?_
  obtain ⟨x5_340, ex5_340⟩ : ∃ y : Int32, y = x5 + 5 := ⟨_, rfl⟩
  have hw := hw x5_340 ex5_340
  refine lv_iinc (v := x5_340) (lv' := [(5, .int x5_340), (0, .ref b), (1, .ref x1), (2, .ref h), (3, .ref x3), (4, .ref x4)]) hF.1 hF.2.1 dL_law_3714 hl (k := 5) rfl (by rw [ex5_340]; rfl) (by decide) rfl (fun ls hl => ?_)
  refine lv_goto (tgt := 28) hF.1 hF.2.1 dL_law_3717 (by decide) ?_
  exact hJ28 x1 x3 x4 x5_340 X F R L G kc ks _ _ ls hP hM hD hS hk (lv_sub hl [1, 2, 3, 4, 5, 0] rfl) hw
def wpL_1059 (E mc ms N : Nat) (xs : Nat → Int32) (J28 : Nat → Nat → Nat → Int32 → hX → mF → mR → mL → mG → Nat → Nat → Prop) (x1 : Nat) (x3 : Nat) (x4 : Nat) (x5 : Int32) (X : hX) (F : mF) (R : mR) (L : mL) (G : mG) (kc ks : Nat) : Prop := (vp_in (x5 + 1) N ∧ (∃ mc_344 ms_345 : Nat, kc + mc_344 ≤ mc ∧ ks + ms_345 ≤ ms ∧ wpX0_teethOf (fun r_342 X_343 => (vp_in (x5 + 1) N ∧ wpX3_teethOf (fun r_349 F_350 R_351 L_352 G_353 => wpX3_thrown (fun r_354 F_355 R_356 L_357 G_358 => ((r_354 = r_342 → ((r_342 = 0 → alJ X_343 x3 0 (fun v_365 => ((v_365 = (Int32.toInt64 r_349) → wpL_1112 E mc ms N xs J28 x1 x3 x4 x5 X_343 F_355 R_356 L_357 G_358 (kc + mc_344) (ks + ms_345)) ∧ (¬ v_365 = (Int32.toInt64 r_349) → (0 : Int32) = 1)))) ∧ (¬ r_342 = 0 → wpL_1112 E mc ms N xs J28 x1 x3 x4 x5 X_343 F_355 R_356 L_357 G_358 (kc + mc_344) (ks + ms_345)))) ∧ (¬ r_354 = r_342 → (0 : Int32) = 1))) F_350 R_351 L_352 G_353) F R L G (xs (Int32.toNatClampNeg (x5 + 1))))) (fun _ _ _ => False) E mc_344 ms_345 X x1 (xs (Int32.toNatClampNeg (x5 + 1))) x3))
set_option maxHeartbeats 8000000 in
theorem Tl1059 {p : Program} {e : Env} {s : State} {m : MethodId} {below : List Frame} {meth : Method} {c : Code} (l : Launch) (hlt : l.stackTraces = false) (K : HK) {b N : Nat} {xs : Nat → Int32} (X0 : hX) (hF : CallFix p m c code 9 s #[Value.ref b] lw_all R_law) (hr : meth.sig.returnType = ret) (hlocks : meth.locks = false) (hC : HC K X0 s) (hx : va_X b N xs s s.heap) (hbl : b < s.heap.size) (hA0 : ∀ q, hA X0 s.heap.size q → s.heap.size ≤ q) (h : Nat) (a : Nat → Nat) (hap : mAp h a) (hmA : ∀ q, mA h a q → hA X0 s.heap.size q) (J28 : Nat → Nat → Nat → Int32 → hX → mF → mR → mL → mG → Nat → Nat → Prop) (hJ28 : ∀ (x1 : Nat) (x3 : Nat) (x4 : Nat) (x5 : Int32) (X : hX) (F : mF) (R : mR) (L : mL) (G : mG) (kc ks : Nat) (H : Heap) (locs : List Loc) (ls : Array Slot), hI K X0 s.heap.size X H → mP K.1 h a F R L G H → hdis X h a → va_S (hA X0 s.heap.size) s.heap H locs → kc ≤ 1200048 ∧ ks ≤ 5501818 → lv_has ls 9 [(0, .ref b), (1, .ref x1), (2, .ref h), (3, .ref x3), (4, .ref x4), (5, .int x5)] → J28 x1 x3 x4 x5 X F R L G kc ks → W p l e room_1 s m #[Value.ref b] below meth c H locs kc ks (lw_Z below #[Value.ref b] s) (F0 m 28 ls [])) : ∀ (x1 : Nat) (x3 : Nat) (x4 : Nat) (x5 : Int32) (X : hX) (F : mF) (R : mR) (L : mL) (G : mG) (kc ks : Nat) (H : Heap) (locs : List Loc) (ls : Array Slot), hI K X0 s.heap.size X H → mP K.1 h a F R L G H → hdis X h a → va_S (hA X0 s.heap.size) s.heap H locs → kc ≤ 1200048 ∧ ks ≤ 5501818 → lv_has ls 9 [(0, .ref b), (1, .ref x1), (2, .ref h), (3, .ref x3), (4, .ref x4), (5, .int x5)] → wpL_1059 (K.2.2 0) 1200048 5501818 N xs J28 x1 x3 x4 x5 X F R L G kc ks → W p l e room_1 s m #[Value.ref b] below meth c H locs kc ks (lw_Z below #[Value.ref b] s) (F0 m 1059 ls []) := by
  have hbA : ¬ hA X0 s.heap.size b := fun z => Nat.not_lt.mpr (hA0 b z) hbl
  intro x1 x3 x4 x5 X F R L G kc ks H locs ls hP hM hD hS hk hl hw
  unfold wpL_1059 at hw
  refine lv_aload_n hF.1 hF.2.1 dL_law_1059 rfl (lv_at hl 1 rfl) ?_
  refine lv_aload_n hF.1 hF.2.1 dL_law_1060 rfl (lv_at hl 0 rfl) ?_
  refine lv_iload hF.1 hF.2.1 dL_law_1061 (lv_at hl 5 rfl) ?_
  refine lv_iconst (v := 1) hF.1 hF.2.1 dL_law_1063 (by decide) ?_
  refine lv_iadd hF.1 hF.2.1 dL_law_1064 ?_
  obtain ⟨h_341, hw⟩ := hw
  refine va_sld hF.1 hF.2.1 hx hbl hbA hS h_341 dL_law_1065 ?_
  refine lv_aload_n hF.1 hF.2.1 dL_law_1066 rfl (lv_at hl 3 rfl) ?_
  obtain ⟨mc_344, ms_345, hc_346, hs_347, hw⟩ := hw
  refine lkx_i (hrx_SX (As := [.ref x1, .int (xs (Int32.toNatClampNeg (x5 + 1))), .ref x3]) (rest := []) hF hl.1 hC hP hS (metX0_teethOf l hlt K mc_344 ms_345 _ _ _ X x1 (xs (Int32.toNatClampNeg (x5 + 1))) x3) (vx_cwSW 3 hF.2.2.2.2 (lw_SW q1128 q1129 q74 q1130) rfl rfl rfl (by decide +kernel) ⟨Nat.le_of_ble_eq_true rfl, Nat.le_of_ble_eq_true rfl⟩) hw rfl rfl (Nat.le_of_ble_eq_true rfl) dL_law_1067 ⟨hc_346, hs_347⟩) hP hM hD hS (fun r_342 X_343 H locs hw hP hM hD hS => ?_)
  refine lv_istore (lv' := [(6, .int r_342), (0, .ref b), (1, .ref x1), (2, .ref h), (3, .ref x3), (4, .ref x4), (5, .int x5)]) hF.1 hF.2.1 dL_law_1070 hl (by decide) rfl (fun ls hl => ?_)
  refine lv_aload_n hF.1 hF.2.1 dL_law_1072 rfl (lv_at hl 3 rfl) ?_
  refine lv_aload_n hF.1 hF.2.1 dL_law_1073 rfl (lv_at hl 1 rfl) ?_
  refine lv_iload hF.1 hF.2.1 dL_law_1074 (lv_at hl 6 rfl) ?_
  refine lv_iconst (v := 1) hF.1 hF.2.1 dL_law_1076 (by decide) ?_
  refine lv_iadd hF.1 hF.2.1 dL_law_1077 ?_
  obtain ⟨h_348, hw⟩ := hw
  refine va_sld hF.1 hF.2.1 hx hbl hbA hS h_348 dL_law_1078 ?_
  refine lm_i (As := [.int (xs (Int32.toNatClampNeg (x5 + 1)))]) (rest := []) hF hl.1 hC (metX3_teethOf l K.1 h a hap _ F R L G (xs (Int32.toNatClampNeg (x5 + 1)))) (cwV 1 hF.2.2.2.2 (lw_V q2001 q2002 q2003 q85 q2004) rfl rfl rfl (by decide +kernel) ⟨Nat.le_of_ble_eq_true rfl, Nat.le_of_ble_eq_true rfl⟩) hP hM hD hS hmA hw rfl rfl (Nat.le_of_ble_eq_true rfl) dL_law_1079 ⟨hc_346, hs_347⟩ (fun r_349 F_350 R_351 L_352 G_353 H locs hw hP hM hS => ?_)
  refine lv_istore (lv' := [(7, .int r_349), (6, .int r_342), (0, .ref b), (1, .ref x1), (2, .ref h), (3, .ref x3), (4, .ref x4), (5, .int x5)]) hF.1 hF.2.1 dL_law_1082 hl (by decide) rfl (fun ls hl => ?_)
  refine lv_aload_n hF.1 hF.2.1 dL_law_1084 rfl (lv_at hl 4 rfl) ?_
  refine lm_i (As := []) (rest := []) hF hl.1 hC (metX3_thrown l K.1 h a hap _ F_350 R_351 L_352 G_353) (cwV 0 hF.2.2.2.2 (lw_V q1813 q1814 q1815 q85 q1816) rfl rfl rfl (by decide +kernel) ⟨Nat.le_of_ble_eq_true rfl, Nat.le_of_ble_eq_true rfl⟩) hP hM hD hS hmA hw rfl rfl (Nat.le_of_ble_eq_true rfl) dL_law_1085 ⟨hc_346, hs_347⟩ (fun r_354 F_355 R_356 L_357 G_358 H locs hw hP hM hS => ?_)
  refine lv_iload hF.1 hF.2.1 dL_law_1088 (lv_at hl 1 rfl) ?_
  refine lv_icmp_eq (tgt := 1095) hF.1 hF.2.1 dL_law_1090 (by decide) (fun c_359 => ?_) (fun c_359 => ?_)
  · have hw := hw.1 c_359
    refine lv_iload hF.1 hF.2.1 dL_law_1095 (lv_at hl 1 rfl) ?_
    refine lv_if_ne (tgt := 1112) hF.1 hF.2.1 dL_law_1097 (by decide) (fun c_360 => ?_) (fun c_360 => ?_)
    · have hw := hw.2 c_360
      exact Tl1112 l hlt K X0 hF hr hlocks hC hx hbl hA0 h a hap hmA _ hJ28 x1 x3 x4 x5 X_343 F_355 R_356 L_357 G_358 (kc + mc_344) (ks + ms_345) _ _ ls hP hM hD hS ⟨hc_346, hs_347⟩ (lv_sub hl [2, 3, 4, 5, 6, 7] rfl) hw
    · have hw := hw.1 c_360
      refine lv_aload_n hF.1 hF.2.1 dL_law_1100 rfl (lv_at hl 5 rfl) ?_
      refine lv_iconst (v := 0) hF.1 hF.2.1 dL_law_1101 (by decide) ?_
      obtain ⟨n_361, f_362, hx_363, hi_364, hw⟩ := hw
      refine x_lald hF hC hP hx_363 hi_364 dL_law_1102 ?_
      generalize f_362 (Int32.toNatClampNeg 0) = v_365 at hw ⊢
      refine lv_iload hF.1 hF.2.1 dL_law_1103 (lv_at hl 0 rfl) ?_
      refine lv_i2l hF.1 hF.2.1 dL_law_1105 rfl ?_
      refine W.lcmp hF.1 hF.2.1 dL_law_1106 ?_
      refine lv_if_eq (tgt := 1112) hF.1 hF.2.1 dL_law_1107 (by decide) (fun c_366 => ?_) (fun c_366 => ?_)
      · rw [lc_eq] at c_366
        have hw := hw.1 c_366
        exact Tl1112 l hlt K X0 hF hr hlocks hC hx hbl hA0 h a hap hmA _ hJ28 x1 x3 x4 x5 X_343 F_355 R_356 L_357 G_358 (kc + mc_344) (ks + ms_345) _ _ ls hP hM hD hS ⟨hc_346, hs_347⟩ (lv_sub hl [2, 3, 4, 5, 6, 7] rfl) hw
      · rw [lc_eq] at c_366
        have hw := hw.2 c_366
        refine lv_iconst (v := 0) hF.1 hF.2.1 dL_law_1110 (by decide) ?_
        exact l_end hF hr hlocks hA0 hS ⟨hc_346, hs_347⟩ dL_law_1111 hw
  · have hw := hw.2 c_359
    refine lv_iconst (v := 0) hF.1 hF.2.1 dL_law_1093 (by decide) ?_
    exact l_end hF hr hlocks hA0 hS ⟨hc_346, hs_347⟩ dL_law_1094 hw
def wpL_1168 (E mc ms N : Nat) (xs : Nat → Int32) (J28 : Nat → Nat → Nat → Int32 → hX → mF → mR → mL → mG → Nat → Nat → Prop) (x1 : Nat) (x3 : Nat) (x4 : Nat) (x5 : Int32) (X : hX) (F : mF) (R : mR) (L : mL) (G : mG) (kc ks : Nat) : Prop := (∀ x5_367 : Int32, x5_367 = x5 + 5 → J28 x1 x3 x4 x5_367 X F R L G kc ks)
set_option maxHeartbeats 8000000 in
theorem Tl1168 {p : Program} {e : Env} {s : State} {m : MethodId} {below : List Frame} {meth : Method} {c : Code} (l : Launch) (hlt : l.stackTraces = false) (K : HK) {b N : Nat} {xs : Nat → Int32} (X0 : hX) (hF : CallFix p m c code 9 s #[Value.ref b] lw_all R_law) (hr : meth.sig.returnType = ret) (hlocks : meth.locks = false) (hC : HC K X0 s) (hx : va_X b N xs s s.heap) (hbl : b < s.heap.size) (hA0 : ∀ q, hA X0 s.heap.size q → s.heap.size ≤ q) (h : Nat) (a : Nat → Nat) (hap : mAp h a) (hmA : ∀ q, mA h a q → hA X0 s.heap.size q) (J28 : Nat → Nat → Nat → Int32 → hX → mF → mR → mL → mG → Nat → Nat → Prop) (hJ28 : ∀ (x1 : Nat) (x3 : Nat) (x4 : Nat) (x5 : Int32) (X : hX) (F : mF) (R : mR) (L : mL) (G : mG) (kc ks : Nat) (H : Heap) (locs : List Loc) (ls : Array Slot), hI K X0 s.heap.size X H → mP K.1 h a F R L G H → hdis X h a → va_S (hA X0 s.heap.size) s.heap H locs → kc ≤ 1200048 ∧ ks ≤ 5501818 → lv_has ls 9 [(0, .ref b), (1, .ref x1), (2, .ref h), (3, .ref x3), (4, .ref x4), (5, .int x5)] → J28 x1 x3 x4 x5 X F R L G kc ks → W p l e room_1 s m #[Value.ref b] below meth c H locs kc ks (lw_Z below #[Value.ref b] s) (F0 m 28 ls [])) : ∀ (x1 : Nat) (x3 : Nat) (x4 : Nat) (x5 : Int32) (X : hX) (F : mF) (R : mR) (L : mL) (G : mG) (kc ks : Nat) (H : Heap) (locs : List Loc) (ls : Array Slot), hI K X0 s.heap.size X H → mP K.1 h a F R L G H → hdis X h a → va_S (hA X0 s.heap.size) s.heap H locs → kc ≤ 1200048 ∧ ks ≤ 5501818 → lv_has ls 9 [(0, .ref b), (1, .ref x1), (2, .ref h), (3, .ref x3), (4, .ref x4), (5, .int x5)] → wpL_1168 (K.2.2 0) 1200048 5501818 N xs J28 x1 x3 x4 x5 X F R L G kc ks → W p l e room_1 s m #[Value.ref b] below meth c H locs kc ks (lw_Z below #[Value.ref b] s) (F0 m 1168 ls []) := by
  have hbA : ¬ hA X0 s.heap.size b := fun z => Nat.not_lt.mpr (hA0 b z) hbl
  intro x1 x3 x4 x5 X F R L G kc ks H locs ls hP hM hD hS hk hl hw
  unfold wpL_1168 at hw
  refine lv_goto (tgt := 3714) hF.1 hF.2.1 dL_law_1168 (by decide) ?_
  obtain ⟨x5_367, ex5_367⟩ : ∃ y : Int32, y = x5 + 5 := ⟨_, rfl⟩
  have hw := hw x5_367 ex5_367
  refine lv_iinc (v := x5_367) (lv' := [(5, .int x5_367), (0, .ref b), (1, .ref x1), (2, .ref h), (3, .ref x3), (4, .ref x4)]) hF.1 hF.2.1 dL_law_3714 hl (k := 5) rfl (by rw [ex5_367]; rfl) (by decide) rfl (fun ls hl => ?_)
  refine lv_goto (tgt := 28) hF.1 hF.2.1 dL_law_3717 (by decide) ?_
  exact hJ28 x1 x3 x4 x5_367 X F R L G kc ks _ _ ls hP hM hD hS hk (lv_sub hl [1, 2, 3, 4, 5, 0] rfl) hw
def wpL_1115 (E mc ms N : Nat) (xs : Nat → Int32) (J28 : Nat → Nat → Nat → Int32 → hX → mF → mR → mL → mG → Nat → Nat → Prop) (x1 : Nat) (x3 : Nat) (x4 : Nat) (x5 : Int32) (X : hX) (F : mF) (R : mR) (L : mL) (G : mG) (kc ks : Nat) : Prop := (vp_in (x5 + 1) N ∧ (∃ mc_371 ms_372 : Nat, kc + mc_371 ≤ mc ∧ ks + ms_372 ≤ ms ∧ wpX0_axleOf (fun r_369 X_370 => (vp_in (x5 + 1) N ∧ wpX3_axleOf (fun r_376 F_377 R_378 L_379 G_380 => wpX3_thrown (fun r_381 F_382 R_383 L_384 G_385 => ((r_381 = r_369 → ((r_369 = 0 → alJ X_370 x3 0 (fun v_392 => ((v_392 = (Int32.toInt64 r_376) → wpL_1168 E mc ms N xs J28 x1 x3 x4 x5 X_370 F_382 R_383 L_384 G_385 (kc + mc_371) (ks + ms_372)) ∧ (¬ v_392 = (Int32.toInt64 r_376) → (0 : Int32) = 1)))) ∧ (¬ r_369 = 0 → wpL_1168 E mc ms N xs J28 x1 x3 x4 x5 X_370 F_382 R_383 L_384 G_385 (kc + mc_371) (ks + ms_372)))) ∧ (¬ r_381 = r_369 → (0 : Int32) = 1))) F_377 R_378 L_379 G_380) F R L G (xs (Int32.toNatClampNeg (x5 + 1))))) (fun _ _ _ => False) E mc_371 ms_372 X x1 (xs (Int32.toNatClampNeg (x5 + 1))) x3))
set_option maxHeartbeats 8000000 in
theorem Tl1115 {p : Program} {e : Env} {s : State} {m : MethodId} {below : List Frame} {meth : Method} {c : Code} (l : Launch) (hlt : l.stackTraces = false) (K : HK) {b N : Nat} {xs : Nat → Int32} (X0 : hX) (hF : CallFix p m c code 9 s #[Value.ref b] lw_all R_law) (hr : meth.sig.returnType = ret) (hlocks : meth.locks = false) (hC : HC K X0 s) (hx : va_X b N xs s s.heap) (hbl : b < s.heap.size) (hA0 : ∀ q, hA X0 s.heap.size q → s.heap.size ≤ q) (h : Nat) (a : Nat → Nat) (hap : mAp h a) (hmA : ∀ q, mA h a q → hA X0 s.heap.size q) (J28 : Nat → Nat → Nat → Int32 → hX → mF → mR → mL → mG → Nat → Nat → Prop) (hJ28 : ∀ (x1 : Nat) (x3 : Nat) (x4 : Nat) (x5 : Int32) (X : hX) (F : mF) (R : mR) (L : mL) (G : mG) (kc ks : Nat) (H : Heap) (locs : List Loc) (ls : Array Slot), hI K X0 s.heap.size X H → mP K.1 h a F R L G H → hdis X h a → va_S (hA X0 s.heap.size) s.heap H locs → kc ≤ 1200048 ∧ ks ≤ 5501818 → lv_has ls 9 [(0, .ref b), (1, .ref x1), (2, .ref h), (3, .ref x3), (4, .ref x4), (5, .int x5)] → J28 x1 x3 x4 x5 X F R L G kc ks → W p l e room_1 s m #[Value.ref b] below meth c H locs kc ks (lw_Z below #[Value.ref b] s) (F0 m 28 ls [])) : ∀ (x1 : Nat) (x3 : Nat) (x4 : Nat) (x5 : Int32) (X : hX) (F : mF) (R : mR) (L : mL) (G : mG) (kc ks : Nat) (H : Heap) (locs : List Loc) (ls : Array Slot), hI K X0 s.heap.size X H → mP K.1 h a F R L G H → hdis X h a → va_S (hA X0 s.heap.size) s.heap H locs → kc ≤ 1200048 ∧ ks ≤ 5501818 → lv_has ls 9 [(0, .ref b), (1, .ref x1), (2, .ref h), (3, .ref x3), (4, .ref x4), (5, .int x5)] → wpL_1115 (K.2.2 0) 1200048 5501818 N xs J28 x1 x3 x4 x5 X F R L G kc ks → W p l e room_1 s m #[Value.ref b] below meth c H locs kc ks (lw_Z below #[Value.ref b] s) (F0 m 1115 ls []) := by
  have hbA : ¬ hA X0 s.heap.size b := fun z => Nat.not_lt.mpr (hA0 b z) hbl
  intro x1 x3 x4 x5 X F R L G kc ks H locs ls hP hM hD hS hk hl hw
  unfold wpL_1115 at hw
  refine lv_aload_n hF.1 hF.2.1 dL_law_1115 rfl (lv_at hl 1 rfl) ?_
  refine lv_aload_n hF.1 hF.2.1 dL_law_1116 rfl (lv_at hl 0 rfl) ?_
  refine lv_iload hF.1 hF.2.1 dL_law_1117 (lv_at hl 5 rfl) ?_
  refine lv_iconst (v := 1) hF.1 hF.2.1 dL_law_1119 (by decide) ?_
  refine lv_iadd hF.1 hF.2.1 dL_law_1120 ?_
  obtain ⟨h_368, hw⟩ := hw
  refine va_sld hF.1 hF.2.1 hx hbl hbA hS h_368 dL_law_1121 ?_
  refine lv_aload_n hF.1 hF.2.1 dL_law_1122 rfl (lv_at hl 3 rfl) ?_
  obtain ⟨mc_371, ms_372, hc_373, hs_374, hw⟩ := hw
  refine lkx_i (hrx_SX (As := [.ref x1, .int (xs (Int32.toNatClampNeg (x5 + 1))), .ref x3]) (rest := []) hF hl.1 hC hP hS (metX0_axleOf l hlt K mc_371 ms_372 _ _ _ X x1 (xs (Int32.toNatClampNeg (x5 + 1))) x3) (vx_cwSW 3 hF.2.2.2.2 (lw_SW q1143 q1144 q74 q1145) rfl rfl rfl (by decide +kernel) ⟨Nat.le_of_ble_eq_true rfl, Nat.le_of_ble_eq_true rfl⟩) hw rfl rfl (Nat.le_of_ble_eq_true rfl) dL_law_1123 ⟨hc_373, hs_374⟩) hP hM hD hS (fun r_369 X_370 H locs hw hP hM hD hS => ?_)
  refine lv_istore (lv' := [(6, .int r_369), (0, .ref b), (1, .ref x1), (2, .ref h), (3, .ref x3), (4, .ref x4), (5, .int x5)]) hF.1 hF.2.1 dL_law_1126 hl (by decide) rfl (fun ls hl => ?_)
  refine lv_aload_n hF.1 hF.2.1 dL_law_1128 rfl (lv_at hl 3 rfl) ?_
  refine lv_aload_n hF.1 hF.2.1 dL_law_1129 rfl (lv_at hl 1 rfl) ?_
  refine lv_iload hF.1 hF.2.1 dL_law_1130 (lv_at hl 6 rfl) ?_
  refine lv_iconst (v := 1) hF.1 hF.2.1 dL_law_1132 (by decide) ?_
  refine lv_iadd hF.1 hF.2.1 dL_law_1133 ?_
  obtain ⟨h_375, hw⟩ := hw
  refine va_sld hF.1 hF.2.1 hx hbl hbA hS h_375 dL_law_1134 ?_
  refine lm_i (As := [.int (xs (Int32.toNatClampNeg (x5 + 1)))]) (rest := []) hF hl.1 hC (metX3_axleOf l K.1 h a hap _ F R L G (xs (Int32.toNatClampNeg (x5 + 1)))) (cwV 1 hF.2.2.2.2 (lw_V q2009 q2010 q2011 q85 q2012) rfl rfl rfl (by decide +kernel) ⟨Nat.le_of_ble_eq_true rfl, Nat.le_of_ble_eq_true rfl⟩) hP hM hD hS hmA hw rfl rfl (Nat.le_of_ble_eq_true rfl) dL_law_1135 ⟨hc_373, hs_374⟩ (fun r_376 F_377 R_378 L_379 G_380 H locs hw hP hM hS => ?_)
  refine lv_istore (lv' := [(7, .int r_376), (6, .int r_369), (0, .ref b), (1, .ref x1), (2, .ref h), (3, .ref x3), (4, .ref x4), (5, .int x5)]) hF.1 hF.2.1 dL_law_1138 hl (by decide) rfl (fun ls hl => ?_)
  refine lv_aload_n hF.1 hF.2.1 dL_law_1140 rfl (lv_at hl 4 rfl) ?_
  refine lm_i (As := []) (rest := []) hF hl.1 hC (metX3_thrown l K.1 h a hap _ F_377 R_378 L_379 G_380) (cwV 0 hF.2.2.2.2 (lw_V q1813 q1814 q1815 q85 q1816) rfl rfl rfl (by decide +kernel) ⟨Nat.le_of_ble_eq_true rfl, Nat.le_of_ble_eq_true rfl⟩) hP hM hD hS hmA hw rfl rfl (Nat.le_of_ble_eq_true rfl) dL_law_1141 ⟨hc_373, hs_374⟩ (fun r_381 F_382 R_383 L_384 G_385 H locs hw hP hM hS => ?_)
  refine lv_iload hF.1 hF.2.1 dL_law_1144 (lv_at hl 1 rfl) ?_
  refine lv_icmp_eq (tgt := 1151) hF.1 hF.2.1 dL_law_1146 (by decide) (fun c_386 => ?_) (fun c_386 => ?_)
  · have hw := hw.1 c_386
    refine lv_iload hF.1 hF.2.1 dL_law_1151 (lv_at hl 1 rfl) ?_
    refine lv_if_ne (tgt := 1168) hF.1 hF.2.1 dL_law_1153 (by decide) (fun c_387 => ?_) (fun c_387 => ?_)
    · have hw := hw.2 c_387
      exact Tl1168 l hlt K X0 hF hr hlocks hC hx hbl hA0 h a hap hmA _ hJ28 x1 x3 x4 x5 X_370 F_382 R_383 L_384 G_385 (kc + mc_371) (ks + ms_372) _ _ ls hP hM hD hS ⟨hc_373, hs_374⟩ (lv_sub hl [2, 3, 4, 5, 6, 7] rfl) hw
    · have hw := hw.1 c_387
      refine lv_aload_n hF.1 hF.2.1 dL_law_1156 rfl (lv_at hl 5 rfl) ?_
      refine lv_iconst (v := 0) hF.1 hF.2.1 dL_law_1157 (by decide) ?_
      obtain ⟨n_388, f_389, hx_390, hi_391, hw⟩ := hw
      refine x_lald hF hC hP hx_390 hi_391 dL_law_1158 ?_
      generalize f_389 (Int32.toNatClampNeg 0) = v_392 at hw ⊢
      refine lv_iload hF.1 hF.2.1 dL_law_1159 (lv_at hl 0 rfl) ?_
      refine lv_i2l hF.1 hF.2.1 dL_law_1161 rfl ?_
      refine W.lcmp hF.1 hF.2.1 dL_law_1162 ?_
      refine lv_if_eq (tgt := 1168) hF.1 hF.2.1 dL_law_1163 (by decide) (fun c_393 => ?_) (fun c_393 => ?_)
      · rw [lc_eq] at c_393
        have hw := hw.1 c_393
        exact Tl1168 l hlt K X0 hF hr hlocks hC hx hbl hA0 h a hap hmA _ hJ28 x1 x3 x4 x5 X_370 F_382 R_383 L_384 G_385 (kc + mc_371) (ks + ms_372) _ _ ls hP hM hD hS ⟨hc_373, hs_374⟩ (lv_sub hl [2, 3, 4, 5, 6, 7] rfl) hw
      · rw [lc_eq] at c_393
        have hw := hw.2 c_393
        refine lv_iconst (v := 0) hF.1 hF.2.1 dL_law_1166 (by decide) ?_
        exact l_end hF hr hlocks hA0 hS ⟨hc_373, hs_374⟩ dL_law_1167 hw
  · have hw := hw.2 c_386
    refine lv_iconst (v := 0) hF.1 hF.2.1 dL_law_1149 (by decide) ?_
    exact l_end hF hr hlocks hA0 hS ⟨hc_373, hs_374⟩ dL_law_1150 hw
def wpL_1236 (E mc ms N : Nat) (xs : Nat → Int32) (J28 : Nat → Nat → Nat → Int32 → hX → mF → mR → mL → mG → Nat → Nat → Prop) (x1 : Nat) (x3 : Nat) (x4 : Nat) (x5 : Int32) (X : hX) (F : mF) (R : mR) (L : mL) (G : mG) (kc ks : Nat) : Prop := (∀ x5_394 : Int32, x5_394 = x5 + 5 → J28 x1 x3 x4 x5_394 X F R L G kc ks)
set_option maxHeartbeats 8000000 in
theorem Tl1236 {p : Program} {e : Env} {s : State} {m : MethodId} {below : List Frame} {meth : Method} {c : Code} (l : Launch) (hlt : l.stackTraces = false) (K : HK) {b N : Nat} {xs : Nat → Int32} (X0 : hX) (hF : CallFix p m c code 9 s #[Value.ref b] lw_all R_law) (hr : meth.sig.returnType = ret) (hlocks : meth.locks = false) (hC : HC K X0 s) (hx : va_X b N xs s s.heap) (hbl : b < s.heap.size) (hA0 : ∀ q, hA X0 s.heap.size q → s.heap.size ≤ q) (h : Nat) (a : Nat → Nat) (hap : mAp h a) (hmA : ∀ q, mA h a q → hA X0 s.heap.size q) (J28 : Nat → Nat → Nat → Int32 → hX → mF → mR → mL → mG → Nat → Nat → Prop) (hJ28 : ∀ (x1 : Nat) (x3 : Nat) (x4 : Nat) (x5 : Int32) (X : hX) (F : mF) (R : mR) (L : mL) (G : mG) (kc ks : Nat) (H : Heap) (locs : List Loc) (ls : Array Slot), hI K X0 s.heap.size X H → mP K.1 h a F R L G H → hdis X h a → va_S (hA X0 s.heap.size) s.heap H locs → kc ≤ 1200048 ∧ ks ≤ 5501818 → lv_has ls 9 [(0, .ref b), (1, .ref x1), (2, .ref h), (3, .ref x3), (4, .ref x4), (5, .int x5)] → J28 x1 x3 x4 x5 X F R L G kc ks → W p l e room_1 s m #[Value.ref b] below meth c H locs kc ks (lw_Z below #[Value.ref b] s) (F0 m 28 ls [])) : ∀ (x1 : Nat) (x3 : Nat) (x4 : Nat) (x5 : Int32) (X : hX) (F : mF) (R : mR) (L : mL) (G : mG) (kc ks : Nat) (H : Heap) (locs : List Loc) (ls : Array Slot), hI K X0 s.heap.size X H → mP K.1 h a F R L G H → hdis X h a → va_S (hA X0 s.heap.size) s.heap H locs → kc ≤ 1200048 ∧ ks ≤ 5501818 → lv_has ls 9 [(0, .ref b), (1, .ref x1), (2, .ref h), (3, .ref x3), (4, .ref x4), (5, .int x5)] → wpL_1236 (K.2.2 0) 1200048 5501818 N xs J28 x1 x3 x4 x5 X F R L G kc ks → W p l e room_1 s m #[Value.ref b] below meth c H locs kc ks (lw_Z below #[Value.ref b] s) (F0 m 1236 ls []) := by
  have hbA : ¬ hA X0 s.heap.size b := fun z => Nat.not_lt.mpr (hA0 b z) hbl
  intro x1 x3 x4 x5 X F R L G kc ks H locs ls hP hM hD hS hk hl hw
  unfold wpL_1236 at hw
  refine lv_goto (tgt := 3714) hF.1 hF.2.1 dL_law_1236 (by decide) ?_
  obtain ⟨x5_394, ex5_394⟩ : ∃ y : Int32, y = x5 + 5 := ⟨_, rfl⟩
  have hw := hw x5_394 ex5_394
  refine lv_iinc (v := x5_394) (lv' := [(5, .int x5_394), (0, .ref b), (1, .ref x1), (2, .ref h), (3, .ref x3), (4, .ref x4)]) hF.1 hF.2.1 dL_law_3714 hl (k := 5) rfl (by rw [ex5_394]; rfl) (by decide) rfl (fun ls hl => ?_)
  refine lv_goto (tgt := 28) hF.1 hF.2.1 dL_law_3717 (by decide) ?_
  exact hJ28 x1 x3 x4 x5_394 X F R L G kc ks _ _ ls hP hM hD hS hk (lv_sub hl [1, 2, 3, 4, 5, 0] rfl) hw
def wpL_1171 (E mc ms N : Nat) (xs : Nat → Int32) (J28 : Nat → Nat → Nat → Int32 → hX → mF → mR → mL → mG → Nat → Nat → Prop) (x1 : Nat) (x3 : Nat) (x4 : Nat) (x5 : Int32) (X : hX) (F : mF) (R : mR) (L : mL) (G : mG) (kc ks : Nat) : Prop := (vp_in (x5 + 1) N ∧ (vp_in (x5 + 2) N ∧ (∃ mc_399 ms_400 : Nat, kc + mc_399 ≤ mc ∧ ks + ms_400 ≤ ms ∧ wpX0_whyNotMesh (fun r_397 X_398 => (vp_in (x5 + 1) N ∧ (vp_in (x5 + 2) N ∧ wpX3_whyNotMesh (fun r_405 F_406 R_407 L_408 G_409 => wpX3_thrown (fun r_410 F_411 R_412 L_413 G_414 => ((r_410 = r_397 → ((r_397 = 0 → alJ X_398 x3 0 (fun v_421 => ((v_421 = (Int32.toInt64 r_405) → wpL_1236 E mc ms N xs J28 x1 x3 x4 x5 X_398 F_411 R_412 L_413 G_414 (kc + mc_399) (ks + ms_400)) ∧ (¬ v_421 = (Int32.toInt64 r_405) → (0 : Int32) = 1)))) ∧ (¬ r_397 = 0 → wpL_1236 E mc ms N xs J28 x1 x3 x4 x5 X_398 F_411 R_412 L_413 G_414 (kc + mc_399) (ks + ms_400)))) ∧ (¬ r_410 = r_397 → (0 : Int32) = 1))) F_406 R_407 L_408 G_409) F R L G (xs (Int32.toNatClampNeg (x5 + 1))) (xs (Int32.toNatClampNeg (x5 + 2)))))) (fun _ _ _ => False) E mc_399 ms_400 X x1 (xs (Int32.toNatClampNeg (x5 + 1))) (xs (Int32.toNatClampNeg (x5 + 2))) x3)))
set_option maxHeartbeats 8000000 in
theorem Tl1171 {p : Program} {e : Env} {s : State} {m : MethodId} {below : List Frame} {meth : Method} {c : Code} (l : Launch) (hlt : l.stackTraces = false) (K : HK) {b N : Nat} {xs : Nat → Int32} (X0 : hX) (hF : CallFix p m c code 9 s #[Value.ref b] lw_all R_law) (hr : meth.sig.returnType = ret) (hlocks : meth.locks = false) (hC : HC K X0 s) (hx : va_X b N xs s s.heap) (hbl : b < s.heap.size) (hA0 : ∀ q, hA X0 s.heap.size q → s.heap.size ≤ q) (h : Nat) (a : Nat → Nat) (hap : mAp h a) (hmA : ∀ q, mA h a q → hA X0 s.heap.size q) (J28 : Nat → Nat → Nat → Int32 → hX → mF → mR → mL → mG → Nat → Nat → Prop) (hJ28 : ∀ (x1 : Nat) (x3 : Nat) (x4 : Nat) (x5 : Int32) (X : hX) (F : mF) (R : mR) (L : mL) (G : mG) (kc ks : Nat) (H : Heap) (locs : List Loc) (ls : Array Slot), hI K X0 s.heap.size X H → mP K.1 h a F R L G H → hdis X h a → va_S (hA X0 s.heap.size) s.heap H locs → kc ≤ 1200048 ∧ ks ≤ 5501818 → lv_has ls 9 [(0, .ref b), (1, .ref x1), (2, .ref h), (3, .ref x3), (4, .ref x4), (5, .int x5)] → J28 x1 x3 x4 x5 X F R L G kc ks → W p l e room_1 s m #[Value.ref b] below meth c H locs kc ks (lw_Z below #[Value.ref b] s) (F0 m 28 ls [])) : ∀ (x1 : Nat) (x3 : Nat) (x4 : Nat) (x5 : Int32) (X : hX) (F : mF) (R : mR) (L : mL) (G : mG) (kc ks : Nat) (H : Heap) (locs : List Loc) (ls : Array Slot), hI K X0 s.heap.size X H → mP K.1 h a F R L G H → hdis X h a → va_S (hA X0 s.heap.size) s.heap H locs → kc ≤ 1200048 ∧ ks ≤ 5501818 → lv_has ls 9 [(0, .ref b), (1, .ref x1), (2, .ref h), (3, .ref x3), (4, .ref x4), (5, .int x5)] → wpL_1171 (K.2.2 0) 1200048 5501818 N xs J28 x1 x3 x4 x5 X F R L G kc ks → W p l e room_1 s m #[Value.ref b] below meth c H locs kc ks (lw_Z below #[Value.ref b] s) (F0 m 1171 ls []) := by
  have hbA : ¬ hA X0 s.heap.size b := fun z => Nat.not_lt.mpr (hA0 b z) hbl
  intro x1 x3 x4 x5 X F R L G kc ks H locs ls hP hM hD hS hk hl hw
  unfold wpL_1171 at hw
  refine lv_aload_n hF.1 hF.2.1 dL_law_1171 rfl (lv_at hl 1 rfl) ?_
  refine lv_aload_n hF.1 hF.2.1 dL_law_1172 rfl (lv_at hl 0 rfl) ?_
  refine lv_iload hF.1 hF.2.1 dL_law_1173 (lv_at hl 5 rfl) ?_
  refine lv_iconst (v := 1) hF.1 hF.2.1 dL_law_1175 (by decide) ?_
  refine lv_iadd hF.1 hF.2.1 dL_law_1176 ?_
  obtain ⟨h_395, hw⟩ := hw
  refine va_sld hF.1 hF.2.1 hx hbl hbA hS h_395 dL_law_1177 ?_
  refine lv_aload_n hF.1 hF.2.1 dL_law_1178 rfl (lv_at hl 0 rfl) ?_
  refine lv_iload hF.1 hF.2.1 dL_law_1179 (lv_at hl 5 rfl) ?_
  refine lv_iconst (v := 2) hF.1 hF.2.1 dL_law_1181 (by decide) ?_
  refine lv_iadd hF.1 hF.2.1 dL_law_1182 ?_
  obtain ⟨h_396, hw⟩ := hw
  refine va_sld hF.1 hF.2.1 hx hbl hbA hS h_396 dL_law_1183 ?_
  refine lv_aload_n hF.1 hF.2.1 dL_law_1184 rfl (lv_at hl 3 rfl) ?_
  obtain ⟨mc_399, ms_400, hc_401, hs_402, hw⟩ := hw
  refine lkx_i (hrx_SX (As := [.ref x1, .int (xs (Int32.toNatClampNeg (x5 + 1))), .int (xs (Int32.toNatClampNeg (x5 + 2))), .ref x3]) (rest := []) hF hl.1 hC hP hS (metX0_whyNotMesh l hlt K mc_399 ms_400 _ _ _ X x1 (xs (Int32.toNatClampNeg (x5 + 1))) (xs (Int32.toNatClampNeg (x5 + 2))) x3) (vx_cwSW 4 hF.2.2.2.2 (lw_SW q1150 q1151 q74 q1152) rfl rfl rfl (by decide +kernel) ⟨Nat.le_of_ble_eq_true rfl, Nat.le_of_ble_eq_true rfl⟩) hw rfl rfl (Nat.le_of_ble_eq_true rfl) dL_law_1185 ⟨hc_401, hs_402⟩) hP hM hD hS (fun r_397 X_398 H locs hw hP hM hD hS => ?_)
  refine lv_istore (lv' := [(6, .int r_397), (0, .ref b), (1, .ref x1), (2, .ref h), (3, .ref x3), (4, .ref x4), (5, .int x5)]) hF.1 hF.2.1 dL_law_1188 hl (by decide) rfl (fun ls hl => ?_)
  refine lv_aload_n hF.1 hF.2.1 dL_law_1190 rfl (lv_at hl 3 rfl) ?_
  refine lv_aload_n hF.1 hF.2.1 dL_law_1191 rfl (lv_at hl 1 rfl) ?_
  refine lv_iload hF.1 hF.2.1 dL_law_1192 (lv_at hl 6 rfl) ?_
  refine lv_iconst (v := 1) hF.1 hF.2.1 dL_law_1194 (by decide) ?_
  refine lv_iadd hF.1 hF.2.1 dL_law_1195 ?_
  obtain ⟨h_403, hw⟩ := hw
  refine va_sld hF.1 hF.2.1 hx hbl hbA hS h_403 dL_law_1196 ?_
  refine lv_aload_n hF.1 hF.2.1 dL_law_1197 rfl (lv_at hl 1 rfl) ?_
  refine lv_iload hF.1 hF.2.1 dL_law_1198 (lv_at hl 6 rfl) ?_
  refine lv_iconst (v := 2) hF.1 hF.2.1 dL_law_1200 (by decide) ?_
  refine lv_iadd hF.1 hF.2.1 dL_law_1201 ?_
  obtain ⟨h_404, hw⟩ := hw
  refine va_sld hF.1 hF.2.1 hx hbl hbA hS h_404 dL_law_1202 ?_
  refine lm_i (As := [.int (xs (Int32.toNatClampNeg (x5 + 1))), .int (xs (Int32.toNatClampNeg (x5 + 2)))]) (rest := []) hF hl.1 hC (metX3_whyNotMesh l K.1 h a hap _ F R L G (xs (Int32.toNatClampNeg (x5 + 1))) (xs (Int32.toNatClampNeg (x5 + 2)))) (cwV 2 hF.2.2.2.2 (lw_V q2013 q2014 q2015 q85 q2016) rfl rfl rfl (by decide +kernel) ⟨Nat.le_of_ble_eq_true rfl, Nat.le_of_ble_eq_true rfl⟩) hP hM hD hS hmA hw rfl rfl (Nat.le_of_ble_eq_true rfl) dL_law_1203 ⟨hc_401, hs_402⟩ (fun r_405 F_406 R_407 L_408 G_409 H locs hw hP hM hS => ?_)
  refine lv_istore (lv' := [(7, .int r_405), (6, .int r_397), (0, .ref b), (1, .ref x1), (2, .ref h), (3, .ref x3), (4, .ref x4), (5, .int x5)]) hF.1 hF.2.1 dL_law_1206 hl (by decide) rfl (fun ls hl => ?_)
  refine lv_aload_n hF.1 hF.2.1 dL_law_1208 rfl (lv_at hl 4 rfl) ?_
  refine lm_i (As := []) (rest := []) hF hl.1 hC (metX3_thrown l K.1 h a hap _ F_406 R_407 L_408 G_409) (cwV 0 hF.2.2.2.2 (lw_V q1813 q1814 q1815 q85 q1816) rfl rfl rfl (by decide +kernel) ⟨Nat.le_of_ble_eq_true rfl, Nat.le_of_ble_eq_true rfl⟩) hP hM hD hS hmA hw rfl rfl (Nat.le_of_ble_eq_true rfl) dL_law_1209 ⟨hc_401, hs_402⟩ (fun r_410 F_411 R_412 L_413 G_414 H locs hw hP hM hS => ?_)
  refine lv_iload hF.1 hF.2.1 dL_law_1212 (lv_at hl 1 rfl) ?_
  refine lv_icmp_eq (tgt := 1219) hF.1 hF.2.1 dL_law_1214 (by decide) (fun c_415 => ?_) (fun c_415 => ?_)
  · have hw := hw.1 c_415
    refine lv_iload hF.1 hF.2.1 dL_law_1219 (lv_at hl 1 rfl) ?_
    refine lv_if_ne (tgt := 1236) hF.1 hF.2.1 dL_law_1221 (by decide) (fun c_416 => ?_) (fun c_416 => ?_)
    · have hw := hw.2 c_416
      exact Tl1236 l hlt K X0 hF hr hlocks hC hx hbl hA0 h a hap hmA _ hJ28 x1 x3 x4 x5 X_398 F_411 R_412 L_413 G_414 (kc + mc_399) (ks + ms_400) _ _ ls hP hM hD hS ⟨hc_401, hs_402⟩ (lv_sub hl [2, 3, 4, 5, 6, 7] rfl) hw
    · have hw := hw.1 c_416
      refine lv_aload_n hF.1 hF.2.1 dL_law_1224 rfl (lv_at hl 5 rfl) ?_
      refine lv_iconst (v := 0) hF.1 hF.2.1 dL_law_1225 (by decide) ?_
      obtain ⟨n_417, f_418, hx_419, hi_420, hw⟩ := hw
      refine x_lald hF hC hP hx_419 hi_420 dL_law_1226 ?_
      generalize f_418 (Int32.toNatClampNeg 0) = v_421 at hw ⊢
      refine lv_iload hF.1 hF.2.1 dL_law_1227 (lv_at hl 0 rfl) ?_
      refine lv_i2l hF.1 hF.2.1 dL_law_1229 rfl ?_
      refine W.lcmp hF.1 hF.2.1 dL_law_1230 ?_
      refine lv_if_eq (tgt := 1236) hF.1 hF.2.1 dL_law_1231 (by decide) (fun c_422 => ?_) (fun c_422 => ?_)
      · rw [lc_eq] at c_422
        have hw := hw.1 c_422
        exact Tl1236 l hlt K X0 hF hr hlocks hC hx hbl hA0 h a hap hmA _ hJ28 x1 x3 x4 x5 X_398 F_411 R_412 L_413 G_414 (kc + mc_399) (ks + ms_400) _ _ ls hP hM hD hS ⟨hc_401, hs_402⟩ (lv_sub hl [2, 3, 4, 5, 6, 7] rfl) hw
      · rw [lc_eq] at c_422
        have hw := hw.2 c_422
        refine lv_iconst (v := 0) hF.1 hF.2.1 dL_law_1234 (by decide) ?_
        exact l_end hF hr hlocks hA0 hS ⟨hc_401, hs_402⟩ dL_law_1235 hw
  · have hw := hw.2 c_415
    refine lv_iconst (v := 0) hF.1 hF.2.1 dL_law_1217 (by decide) ?_
    exact l_end hF hr hlocks hA0 hS ⟨hc_401, hs_402⟩ dL_law_1218 hw
def wpL_1299 (E mc ms N : Nat) (xs : Nat → Int32) (J28 : Nat → Nat → Nat → Int32 → hX → mF → mR → mL → mG → Nat → Nat → Prop) (x1 : Nat) (x3 : Nat) (x4 : Nat) (x5 : Int32) (X : hX) (F : mF) (R : mR) (L : mL) (G : mG) (kc ks : Nat) : Prop := (∀ x5_423 : Int32, x5_423 = x5 + 5 → J28 x1 x3 x4 x5_423 X F R L G kc ks)
set_option maxHeartbeats 8000000 in
theorem Tl1299 {p : Program} {e : Env} {s : State} {m : MethodId} {below : List Frame} {meth : Method} {c : Code} (l : Launch) (hlt : l.stackTraces = false) (K : HK) {b N : Nat} {xs : Nat → Int32} (X0 : hX) (hF : CallFix p m c code 9 s #[Value.ref b] lw_all R_law) (hr : meth.sig.returnType = ret) (hlocks : meth.locks = false) (hC : HC K X0 s) (hx : va_X b N xs s s.heap) (hbl : b < s.heap.size) (hA0 : ∀ q, hA X0 s.heap.size q → s.heap.size ≤ q) (h : Nat) (a : Nat → Nat) (hap : mAp h a) (hmA : ∀ q, mA h a q → hA X0 s.heap.size q) (J28 : Nat → Nat → Nat → Int32 → hX → mF → mR → mL → mG → Nat → Nat → Prop) (hJ28 : ∀ (x1 : Nat) (x3 : Nat) (x4 : Nat) (x5 : Int32) (X : hX) (F : mF) (R : mR) (L : mL) (G : mG) (kc ks : Nat) (H : Heap) (locs : List Loc) (ls : Array Slot), hI K X0 s.heap.size X H → mP K.1 h a F R L G H → hdis X h a → va_S (hA X0 s.heap.size) s.heap H locs → kc ≤ 1200048 ∧ ks ≤ 5501818 → lv_has ls 9 [(0, .ref b), (1, .ref x1), (2, .ref h), (3, .ref x3), (4, .ref x4), (5, .int x5)] → J28 x1 x3 x4 x5 X F R L G kc ks → W p l e room_1 s m #[Value.ref b] below meth c H locs kc ks (lw_Z below #[Value.ref b] s) (F0 m 28 ls [])) : ∀ (x1 : Nat) (x3 : Nat) (x4 : Nat) (x5 : Int32) (X : hX) (F : mF) (R : mR) (L : mL) (G : mG) (kc ks : Nat) (H : Heap) (locs : List Loc) (ls : Array Slot), hI K X0 s.heap.size X H → mP K.1 h a F R L G H → hdis X h a → va_S (hA X0 s.heap.size) s.heap H locs → kc ≤ 1200048 ∧ ks ≤ 5501818 → lv_has ls 9 [(0, .ref b), (1, .ref x1), (2, .ref h), (3, .ref x3), (4, .ref x4), (5, .int x5)] → wpL_1299 (K.2.2 0) 1200048 5501818 N xs J28 x1 x3 x4 x5 X F R L G kc ks → W p l e room_1 s m #[Value.ref b] below meth c H locs kc ks (lw_Z below #[Value.ref b] s) (F0 m 1299 ls []) := by
  have hbA : ¬ hA X0 s.heap.size b := fun z => Nat.not_lt.mpr (hA0 b z) hbl
  intro x1 x3 x4 x5 X F R L G kc ks H locs ls hP hM hD hS hk hl hw
  unfold wpL_1299 at hw
  refine lv_goto (tgt := 3714) hF.1 hF.2.1 dL_law_1299 (by decide) ?_
  obtain ⟨x5_423, ex5_423⟩ : ∃ y : Int32, y = x5 + 5 := ⟨_, rfl⟩
  have hw := hw x5_423 ex5_423
  refine lv_iinc (v := x5_423) (lv' := [(5, .int x5_423), (0, .ref b), (1, .ref x1), (2, .ref h), (3, .ref x3), (4, .ref x4)]) hF.1 hF.2.1 dL_law_3714 hl (k := 5) rfl (by rw [ex5_423]; rfl) (by decide) rfl (fun ls hl => ?_)
  refine lv_goto (tgt := 28) hF.1 hF.2.1 dL_law_3717 (by decide) ?_
  exact hJ28 x1 x3 x4 x5_423 X F R L G kc ks _ _ ls hP hM hD hS hk (lv_sub hl [1, 2, 3, 4, 5, 0] rfl) hw
def wpL_1293 (E mc ms N : Nat) (xs : Nat → Int32) (J28 : Nat → Nat → Nat → Int32 → hX → mF → mR → mL → mG → Nat → Nat → Prop) (x1 : Nat) (x3 : Nat) (x4 : Nat) (x5 : Int32) (z0 : Int64) (z1 : Int64) (X : hX) (F : mF) (R : mR) (L : mL) (G : mG) (kc ks : Nat) : Prop := ((z0 = z1 → wpL_1299 E mc ms N xs J28 x1 x3 x4 x5 X F R L G kc ks) ∧ (¬ z0 = z1 → (0 : Int32) = 1))
set_option maxHeartbeats 8000000 in
theorem Tl1293 {p : Program} {e : Env} {s : State} {m : MethodId} {below : List Frame} {meth : Method} {c : Code} (l : Launch) (hlt : l.stackTraces = false) (K : HK) {b N : Nat} {xs : Nat → Int32} (X0 : hX) (hF : CallFix p m c code 9 s #[Value.ref b] lw_all R_law) (hr : meth.sig.returnType = ret) (hlocks : meth.locks = false) (hC : HC K X0 s) (hx : va_X b N xs s s.heap) (hbl : b < s.heap.size) (hA0 : ∀ q, hA X0 s.heap.size q → s.heap.size ≤ q) (h : Nat) (a : Nat → Nat) (hap : mAp h a) (hmA : ∀ q, mA h a q → hA X0 s.heap.size q) (J28 : Nat → Nat → Nat → Int32 → hX → mF → mR → mL → mG → Nat → Nat → Prop) (hJ28 : ∀ (x1 : Nat) (x3 : Nat) (x4 : Nat) (x5 : Int32) (X : hX) (F : mF) (R : mR) (L : mL) (G : mG) (kc ks : Nat) (H : Heap) (locs : List Loc) (ls : Array Slot), hI K X0 s.heap.size X H → mP K.1 h a F R L G H → hdis X h a → va_S (hA X0 s.heap.size) s.heap H locs → kc ≤ 1200048 ∧ ks ≤ 5501818 → lv_has ls 9 [(0, .ref b), (1, .ref x1), (2, .ref h), (3, .ref x3), (4, .ref x4), (5, .int x5)] → J28 x1 x3 x4 x5 X F R L G kc ks → W p l e room_1 s m #[Value.ref b] below meth c H locs kc ks (lw_Z below #[Value.ref b] s) (F0 m 28 ls [])) : ∀ (x1 : Nat) (x3 : Nat) (x4 : Nat) (x5 : Int32) (z0 : Int64) (z1 : Int64) (X : hX) (F : mF) (R : mR) (L : mL) (G : mG) (kc ks : Nat) (H : Heap) (locs : List Loc) (ls : Array Slot), hI K X0 s.heap.size X H → mP K.1 h a F R L G H → hdis X h a → va_S (hA X0 s.heap.size) s.heap H locs → kc ≤ 1200048 ∧ ks ≤ 5501818 → lv_has ls 9 [(0, .ref b), (1, .ref x1), (2, .ref h), (3, .ref x3), (4, .ref x4), (5, .int x5)] → wpL_1293 (K.2.2 0) 1200048 5501818 N xs J28 x1 x3 x4 x5 z0 z1 X F R L G kc ks → W p l e room_1 s m #[Value.ref b] below meth c H locs kc ks (lw_Z below #[Value.ref b] s) (F0 m 1293 ls [.long z1, .long z0]) := by
  have hbA : ¬ hA X0 s.heap.size b := fun z => Nat.not_lt.mpr (hA0 b z) hbl
  intro x1 x3 x4 x5 z0 z1 X F R L G kc ks H locs ls hP hM hD hS hk hl hw
  unfold wpL_1293 at hw
  refine W.lcmp hF.1 hF.2.1 dL_law_1293 ?_
  refine lv_if_eq (tgt := 1299) hF.1 hF.2.1 dL_law_1294 (by decide) (fun c_424 => ?_) (fun c_424 => ?_)
  · rw [lc_eq] at c_424
    have hw := hw.1 c_424
    exact Tl1299 l hlt K X0 hF hr hlocks hC hx hbl hA0 h a hap hmA _ hJ28 x1 x3 x4 x5 X F R L G kc ks _ _ ls hP hM hD hS hk (lv_sub hl [0, 1, 2, 3, 4, 5] rfl) hw
  · rw [lc_eq] at c_424
    have hw := hw.2 c_424
    refine lv_iconst (v := 0) hF.1 hF.2.1 dL_law_1297 (by decide) ?_
    exact l_end hF hr hlocks hA0 hS hk dL_law_1298 hw
def wpL_1239 (E mc ms N : Nat) (xs : Nat → Int32) (J28 : Nat → Nat → Nat → Int32 → hX → mF → mR → mL → mG → Nat → Nat → Prop) (x1 : Nat) (x3 : Nat) (x4 : Nat) (x5 : Int32) (X : hX) (F : mF) (R : mR) (L : mL) (G : mG) (kc ks : Nat) : Prop := (vp_in (x5 + 1) N ∧ (∃ mc_428 ms_429 : Nat, kc + mc_428 ≤ mc ∧ ks + ms_429 ≤ ms ∧ wpX0_isDriven (fun r_426 X_427 => (vp_in (x5 + 1) N ∧ wpX3_isDriven (fun r_433 F_434 R_435 L_436 G_437 => wpX3_thrown (fun r_438 F_439 R_440 L_441 G_442 => ((r_438 = r_426 → ((r_426 = 0 → alJ X_427 x3 0 (fun v_449 => ((r_433 = 0 → wpL_1293 E mc ms N xs J28 x1 x3 x4 x5 v_449 0 X_427 F_439 R_440 L_441 G_442 (kc + mc_428) (ks + ms_429)) ∧ (¬ r_433 = 0 → wpL_1293 E mc ms N xs J28 x1 x3 x4 x5 v_449 1 X_427 F_439 R_440 L_441 G_442 (kc + mc_428) (ks + ms_429))))) ∧ (¬ r_426 = 0 → wpL_1299 E mc ms N xs J28 x1 x3 x4 x5 X_427 F_439 R_440 L_441 G_442 (kc + mc_428) (ks + ms_429)))) ∧ (¬ r_438 = r_426 → (0 : Int32) = 1))) F_434 R_435 L_436 G_437) F R L G (xs (Int32.toNatClampNeg (x5 + 1))))) (fun _ _ _ => False) E mc_428 ms_429 X x1 (xs (Int32.toNatClampNeg (x5 + 1))) x3))
set_option maxHeartbeats 8000000 in
theorem Tl1239 {p : Program} {e : Env} {s : State} {m : MethodId} {below : List Frame} {meth : Method} {c : Code} (l : Launch) (hlt : l.stackTraces = false) (K : HK) {b N : Nat} {xs : Nat → Int32} (X0 : hX) (hF : CallFix p m c code 9 s #[Value.ref b] lw_all R_law) (hr : meth.sig.returnType = ret) (hlocks : meth.locks = false) (hC : HC K X0 s) (hx : va_X b N xs s s.heap) (hbl : b < s.heap.size) (hA0 : ∀ q, hA X0 s.heap.size q → s.heap.size ≤ q) (h : Nat) (a : Nat → Nat) (hap : mAp h a) (hmA : ∀ q, mA h a q → hA X0 s.heap.size q) (J28 : Nat → Nat → Nat → Int32 → hX → mF → mR → mL → mG → Nat → Nat → Prop) (hJ28 : ∀ (x1 : Nat) (x3 : Nat) (x4 : Nat) (x5 : Int32) (X : hX) (F : mF) (R : mR) (L : mL) (G : mG) (kc ks : Nat) (H : Heap) (locs : List Loc) (ls : Array Slot), hI K X0 s.heap.size X H → mP K.1 h a F R L G H → hdis X h a → va_S (hA X0 s.heap.size) s.heap H locs → kc ≤ 1200048 ∧ ks ≤ 5501818 → lv_has ls 9 [(0, .ref b), (1, .ref x1), (2, .ref h), (3, .ref x3), (4, .ref x4), (5, .int x5)] → J28 x1 x3 x4 x5 X F R L G kc ks → W p l e room_1 s m #[Value.ref b] below meth c H locs kc ks (lw_Z below #[Value.ref b] s) (F0 m 28 ls [])) : ∀ (x1 : Nat) (x3 : Nat) (x4 : Nat) (x5 : Int32) (X : hX) (F : mF) (R : mR) (L : mL) (G : mG) (kc ks : Nat) (H : Heap) (locs : List Loc) (ls : Array Slot), hI K X0 s.heap.size X H → mP K.1 h a F R L G H → hdis X h a → va_S (hA X0 s.heap.size) s.heap H locs → kc ≤ 1200048 ∧ ks ≤ 5501818 → lv_has ls 9 [(0, .ref b), (1, .ref x1), (2, .ref h), (3, .ref x3), (4, .ref x4), (5, .int x5)] → wpL_1239 (K.2.2 0) 1200048 5501818 N xs J28 x1 x3 x4 x5 X F R L G kc ks → W p l e room_1 s m #[Value.ref b] below meth c H locs kc ks (lw_Z below #[Value.ref b] s) (F0 m 1239 ls []) := by
  have hbA : ¬ hA X0 s.heap.size b := fun z => Nat.not_lt.mpr (hA0 b z) hbl
  intro x1 x3 x4 x5 X F R L G kc ks H locs ls hP hM hD hS hk hl hw
  unfold wpL_1239 at hw
  refine lv_aload_n hF.1 hF.2.1 dL_law_1239 rfl (lv_at hl 1 rfl) ?_
  refine lv_aload_n hF.1 hF.2.1 dL_law_1240 rfl (lv_at hl 0 rfl) ?_
  refine lv_iload hF.1 hF.2.1 dL_law_1241 (lv_at hl 5 rfl) ?_
  refine lv_iconst (v := 1) hF.1 hF.2.1 dL_law_1243 (by decide) ?_
  refine lv_iadd hF.1 hF.2.1 dL_law_1244 ?_
  obtain ⟨h_425, hw⟩ := hw
  refine va_sld hF.1 hF.2.1 hx hbl hbA hS h_425 dL_law_1245 ?_
  refine lv_aload_n hF.1 hF.2.1 dL_law_1246 rfl (lv_at hl 3 rfl) ?_
  obtain ⟨mc_428, ms_429, hc_430, hs_431, hw⟩ := hw
  refine lkx_i (hrx_SX (As := [.ref x1, .int (xs (Int32.toNatClampNeg (x5 + 1))), .ref x3]) (rest := []) hF hl.1 hC hP hS (metX0_isDriven l hlt K mc_428 ms_429 _ _ _ X x1 (xs (Int32.toNatClampNeg (x5 + 1))) x3) (vx_cwSW 3 hF.2.2.2.2 (lw_SW q1159 q1160 q74 q1161) rfl rfl rfl (by decide +kernel) ⟨Nat.le_of_ble_eq_true rfl, Nat.le_of_ble_eq_true rfl⟩) hw rfl rfl (Nat.le_of_ble_eq_true rfl) dL_law_1247 ⟨hc_430, hs_431⟩) hP hM hD hS (fun r_426 X_427 H locs hw hP hM hD hS => ?_)
  refine lv_istore (lv' := [(6, .int r_426), (0, .ref b), (1, .ref x1), (2, .ref h), (3, .ref x3), (4, .ref x4), (5, .int x5)]) hF.1 hF.2.1 dL_law_1250 hl (by decide) rfl (fun ls hl => ?_)
  refine lv_aload_n hF.1 hF.2.1 dL_law_1252 rfl (lv_at hl 3 rfl) ?_
  refine lv_aload_n hF.1 hF.2.1 dL_law_1253 rfl (lv_at hl 1 rfl) ?_
  refine lv_iload hF.1 hF.2.1 dL_law_1254 (lv_at hl 6 rfl) ?_
  refine lv_iconst (v := 1) hF.1 hF.2.1 dL_law_1256 (by decide) ?_
  refine lv_iadd hF.1 hF.2.1 dL_law_1257 ?_
  obtain ⟨h_432, hw⟩ := hw
  refine va_sld hF.1 hF.2.1 hx hbl hbA hS h_432 dL_law_1258 ?_
  refine lm_i (As := [.int (xs (Int32.toNatClampNeg (x5 + 1)))]) (rest := []) hF hl.1 hC (metX3_isDriven l K.1 h a hap _ F R L G (xs (Int32.toNatClampNeg (x5 + 1)))) (cwV 1 hF.2.2.2.2 (lw_V q2017 q2018 q2019 q85 q2020) rfl rfl rfl (by decide +kernel) ⟨Nat.le_of_ble_eq_true rfl, Nat.le_of_ble_eq_true rfl⟩) hP hM hD hS hmA hw rfl rfl (Nat.le_of_ble_eq_true rfl) dL_law_1259 ⟨hc_430, hs_431⟩ (fun r_433 F_434 R_435 L_436 G_437 H locs hw hP hM hS => ?_)
  refine lv_istore (lv' := [(7, .int r_433), (6, .int r_426), (0, .ref b), (1, .ref x1), (2, .ref h), (3, .ref x3), (4, .ref x4), (5, .int x5)]) hF.1 hF.2.1 dL_law_1262 hl (by decide) rfl (fun ls hl => ?_)
  refine lv_aload_n hF.1 hF.2.1 dL_law_1264 rfl (lv_at hl 4 rfl) ?_
  refine lm_i (As := []) (rest := []) hF hl.1 hC (metX3_thrown l K.1 h a hap _ F_434 R_435 L_436 G_437) (cwV 0 hF.2.2.2.2 (lw_V q1813 q1814 q1815 q85 q1816) rfl rfl rfl (by decide +kernel) ⟨Nat.le_of_ble_eq_true rfl, Nat.le_of_ble_eq_true rfl⟩) hP hM hD hS hmA hw rfl rfl (Nat.le_of_ble_eq_true rfl) dL_law_1265 ⟨hc_430, hs_431⟩ (fun r_438 F_439 R_440 L_441 G_442 H locs hw hP hM hS => ?_)
  refine lv_iload hF.1 hF.2.1 dL_law_1268 (lv_at hl 1 rfl) ?_
  refine lv_icmp_eq (tgt := 1275) hF.1 hF.2.1 dL_law_1270 (by decide) (fun c_443 => ?_) (fun c_443 => ?_)
  · have hw := hw.1 c_443
    refine lv_iload hF.1 hF.2.1 dL_law_1275 (lv_at hl 1 rfl) ?_
    refine lv_if_ne (tgt := 1299) hF.1 hF.2.1 dL_law_1277 (by decide) (fun c_444 => ?_) (fun c_444 => ?_)
    · have hw := hw.2 c_444
      exact Tl1299 l hlt K X0 hF hr hlocks hC hx hbl hA0 h a hap hmA _ hJ28 x1 x3 x4 x5 X_427 F_439 R_440 L_441 G_442 (kc + mc_428) (ks + ms_429) _ _ ls hP hM hD hS ⟨hc_430, hs_431⟩ (lv_sub hl [2, 3, 4, 5, 6, 7] rfl) hw
    · have hw := hw.1 c_444
      refine lv_aload_n hF.1 hF.2.1 dL_law_1280 rfl (lv_at hl 5 rfl) ?_
      refine lv_iconst (v := 0) hF.1 hF.2.1 dL_law_1281 (by decide) ?_
      obtain ⟨n_445, f_446, hx_447, hi_448, hw⟩ := hw
      refine x_lald hF hC hP hx_447 hi_448 dL_law_1282 ?_
      generalize f_446 (Int32.toNatClampNeg 0) = v_449 at hw ⊢
      refine lv_iload hF.1 hF.2.1 dL_law_1283 (lv_at hl 0 rfl) ?_
      refine lv_if_eq (tgt := 1292) hF.1 hF.2.1 dL_law_1285 (by decide) (fun c_450 => ?_) (fun c_450 => ?_)
      · have hw := hw.1 c_450
        refine lv_lconst (v := 0) hF.1 hF.2.1 dL_law_1292 (by decide) ?_
        exact Tl1293 l hlt K X0 hF hr hlocks hC hx hbl hA0 h a hap hmA _ hJ28 x1 x3 x4 x5 v_449 0 X_427 F_439 R_440 L_441 G_442 (kc + mc_428) (ks + ms_429) _ _ ls hP hM hD hS ⟨hc_430, hs_431⟩ (lv_sub hl [2, 3, 4, 5, 6, 7] rfl) hw
      · have hw := hw.2 c_450
        refine lv_lconst (v := 1) hF.1 hF.2.1 dL_law_1288 (by decide) ?_
        refine lv_goto (tgt := 1293) hF.1 hF.2.1 dL_law_1289 (by decide) ?_
        exact Tl1293 l hlt K X0 hF hr hlocks hC hx hbl hA0 h a hap hmA _ hJ28 x1 x3 x4 x5 v_449 1 X_427 F_439 R_440 L_441 G_442 (kc + mc_428) (ks + ms_429) _ _ ls hP hM hD hS ⟨hc_430, hs_431⟩ (lv_sub hl [2, 3, 4, 5, 6, 7] rfl) hw
  · have hw := hw.2 c_443
    refine lv_iconst (v := 0) hF.1 hF.2.1 dL_law_1273 (by decide) ?_
    exact l_end hF hr hlocks hA0 hS ⟨hc_430, hs_431⟩ dL_law_1274 hw
def wpL_1355 (E mc ms N : Nat) (xs : Nat → Int32) (J28 : Nat → Nat → Nat → Int32 → hX → mF → mR → mL → mG → Nat → Nat → Prop) (x1 : Nat) (x3 : Nat) (x4 : Nat) (x5 : Int32) (X : hX) (F : mF) (R : mR) (L : mL) (G : mG) (kc ks : Nat) : Prop := (∀ x5_451 : Int32, x5_451 = x5 + 5 → J28 x1 x3 x4 x5_451 X F R L G kc ks)
set_option maxHeartbeats 8000000 in
theorem Tl1355 {p : Program} {e : Env} {s : State} {m : MethodId} {below : List Frame} {meth : Method} {c : Code} (l : Launch) (hlt : l.stackTraces = false) (K : HK) {b N : Nat} {xs : Nat → Int32} (X0 : hX) (hF : CallFix p m c code 9 s #[Value.ref b] lw_all R_law) (hr : meth.sig.returnType = ret) (hlocks : meth.locks = false) (hC : HC K X0 s) (hx : va_X b N xs s s.heap) (hbl : b < s.heap.size) (hA0 : ∀ q, hA X0 s.heap.size q → s.heap.size ≤ q) (h : Nat) (a : Nat → Nat) (hap : mAp h a) (hmA : ∀ q, mA h a q → hA X0 s.heap.size q) (J28 : Nat → Nat → Nat → Int32 → hX → mF → mR → mL → mG → Nat → Nat → Prop) (hJ28 : ∀ (x1 : Nat) (x3 : Nat) (x4 : Nat) (x5 : Int32) (X : hX) (F : mF) (R : mR) (L : mL) (G : mG) (kc ks : Nat) (H : Heap) (locs : List Loc) (ls : Array Slot), hI K X0 s.heap.size X H → mP K.1 h a F R L G H → hdis X h a → va_S (hA X0 s.heap.size) s.heap H locs → kc ≤ 1200048 ∧ ks ≤ 5501818 → lv_has ls 9 [(0, .ref b), (1, .ref x1), (2, .ref h), (3, .ref x3), (4, .ref x4), (5, .int x5)] → J28 x1 x3 x4 x5 X F R L G kc ks → W p l e room_1 s m #[Value.ref b] below meth c H locs kc ks (lw_Z below #[Value.ref b] s) (F0 m 28 ls [])) : ∀ (x1 : Nat) (x3 : Nat) (x4 : Nat) (x5 : Int32) (X : hX) (F : mF) (R : mR) (L : mL) (G : mG) (kc ks : Nat) (H : Heap) (locs : List Loc) (ls : Array Slot), hI K X0 s.heap.size X H → mP K.1 h a F R L G H → hdis X h a → va_S (hA X0 s.heap.size) s.heap H locs → kc ≤ 1200048 ∧ ks ≤ 5501818 → lv_has ls 9 [(0, .ref b), (1, .ref x1), (2, .ref h), (3, .ref x3), (4, .ref x4), (5, .int x5)] → wpL_1355 (K.2.2 0) 1200048 5501818 N xs J28 x1 x3 x4 x5 X F R L G kc ks → W p l e room_1 s m #[Value.ref b] below meth c H locs kc ks (lw_Z below #[Value.ref b] s) (F0 m 1355 ls []) := by
  have hbA : ¬ hA X0 s.heap.size b := fun z => Nat.not_lt.mpr (hA0 b z) hbl
  intro x1 x3 x4 x5 X F R L G kc ks H locs ls hP hM hD hS hk hl hw
  unfold wpL_1355 at hw
  refine lv_goto (tgt := 3714) hF.1 hF.2.1 dL_law_1355 (by decide) ?_
  obtain ⟨x5_451, ex5_451⟩ : ∃ y : Int32, y = x5 + 5 := ⟨_, rfl⟩
  have hw := hw x5_451 ex5_451
  refine lv_iinc (v := x5_451) (lv' := [(5, .int x5_451), (0, .ref b), (1, .ref x1), (2, .ref h), (3, .ref x3), (4, .ref x4)]) hF.1 hF.2.1 dL_law_3714 hl (k := 5) rfl (by rw [ex5_451]; rfl) (by decide) rfl (fun ls hl => ?_)
  refine lv_goto (tgt := 28) hF.1 hF.2.1 dL_law_3717 (by decide) ?_
  exact hJ28 x1 x3 x4 x5_451 X F R L G kc ks _ _ ls hP hM hD hS hk (lv_sub hl [1, 2, 3, 4, 5, 0] rfl) hw
def wpL_1302 (E mc ms N : Nat) (xs : Nat → Int32) (J28 : Nat → Nat → Nat → Int32 → hX → mF → mR → mL → mG → Nat → Nat → Prop) (x1 : Nat) (x3 : Nat) (x4 : Nat) (x5 : Int32) (X : hX) (F : mF) (R : mR) (L : mL) (G : mG) (kc ks : Nat) : Prop := (vp_in (x5 + 1) N ∧ (∃ mc_455 ms_456 : Nat, kc + mc_455 ≤ mc ∧ ks + ms_456 ≤ ms ∧ wpX0_wayTo (fun r_453 X_454 => (vp_in (x5 + 1) N ∧ wpX3_wayTo (fun r_460 F_461 R_462 L_463 G_464 => wpX3_thrown (fun r_465 F_466 R_467 L_468 G_469 => ((r_465 = r_453 → ((r_453 = 0 → alJ X_454 x3 0 (fun v_476 => ((v_476 = (Int32.toInt64 r_460) → wpL_1355 E mc ms N xs J28 x1 x3 x4 x5 X_454 F_466 R_467 L_468 G_469 (kc + mc_455) (ks + ms_456)) ∧ (¬ v_476 = (Int32.toInt64 r_460) → (0 : Int32) = 1)))) ∧ (¬ r_453 = 0 → wpL_1355 E mc ms N xs J28 x1 x3 x4 x5 X_454 F_466 R_467 L_468 G_469 (kc + mc_455) (ks + ms_456)))) ∧ (¬ r_465 = r_453 → (0 : Int32) = 1))) F_461 R_462 L_463 G_464) F R L G (xs (Int32.toNatClampNeg (x5 + 1))))) (fun _ _ _ => False) E mc_455 ms_456 X x1 (xs (Int32.toNatClampNeg (x5 + 1))) x3))
set_option maxHeartbeats 8000000 in
theorem Tl1302 {p : Program} {e : Env} {s : State} {m : MethodId} {below : List Frame} {meth : Method} {c : Code} (l : Launch) (hlt : l.stackTraces = false) (K : HK) {b N : Nat} {xs : Nat → Int32} (X0 : hX) (hF : CallFix p m c code 9 s #[Value.ref b] lw_all R_law) (hr : meth.sig.returnType = ret) (hlocks : meth.locks = false) (hC : HC K X0 s) (hx : va_X b N xs s s.heap) (hbl : b < s.heap.size) (hA0 : ∀ q, hA X0 s.heap.size q → s.heap.size ≤ q) (h : Nat) (a : Nat → Nat) (hap : mAp h a) (hmA : ∀ q, mA h a q → hA X0 s.heap.size q) (J28 : Nat → Nat → Nat → Int32 → hX → mF → mR → mL → mG → Nat → Nat → Prop) (hJ28 : ∀ (x1 : Nat) (x3 : Nat) (x4 : Nat) (x5 : Int32) (X : hX) (F : mF) (R : mR) (L : mL) (G : mG) (kc ks : Nat) (H : Heap) (locs : List Loc) (ls : Array Slot), hI K X0 s.heap.size X H → mP K.1 h a F R L G H → hdis X h a → va_S (hA X0 s.heap.size) s.heap H locs → kc ≤ 1200048 ∧ ks ≤ 5501818 → lv_has ls 9 [(0, .ref b), (1, .ref x1), (2, .ref h), (3, .ref x3), (4, .ref x4), (5, .int x5)] → J28 x1 x3 x4 x5 X F R L G kc ks → W p l e room_1 s m #[Value.ref b] below meth c H locs kc ks (lw_Z below #[Value.ref b] s) (F0 m 28 ls [])) : ∀ (x1 : Nat) (x3 : Nat) (x4 : Nat) (x5 : Int32) (X : hX) (F : mF) (R : mR) (L : mL) (G : mG) (kc ks : Nat) (H : Heap) (locs : List Loc) (ls : Array Slot), hI K X0 s.heap.size X H → mP K.1 h a F R L G H → hdis X h a → va_S (hA X0 s.heap.size) s.heap H locs → kc ≤ 1200048 ∧ ks ≤ 5501818 → lv_has ls 9 [(0, .ref b), (1, .ref x1), (2, .ref h), (3, .ref x3), (4, .ref x4), (5, .int x5)] → wpL_1302 (K.2.2 0) 1200048 5501818 N xs J28 x1 x3 x4 x5 X F R L G kc ks → W p l e room_1 s m #[Value.ref b] below meth c H locs kc ks (lw_Z below #[Value.ref b] s) (F0 m 1302 ls []) := by
  have hbA : ¬ hA X0 s.heap.size b := fun z => Nat.not_lt.mpr (hA0 b z) hbl
  intro x1 x3 x4 x5 X F R L G kc ks H locs ls hP hM hD hS hk hl hw
  unfold wpL_1302 at hw
  refine lv_aload_n hF.1 hF.2.1 dL_law_1302 rfl (lv_at hl 1 rfl) ?_
  refine lv_aload_n hF.1 hF.2.1 dL_law_1303 rfl (lv_at hl 0 rfl) ?_
  refine lv_iload hF.1 hF.2.1 dL_law_1304 (lv_at hl 5 rfl) ?_
  refine lv_iconst (v := 1) hF.1 hF.2.1 dL_law_1306 (by decide) ?_
  refine lv_iadd hF.1 hF.2.1 dL_law_1307 ?_
  obtain ⟨h_452, hw⟩ := hw
  refine va_sld hF.1 hF.2.1 hx hbl hbA hS h_452 dL_law_1308 ?_
  refine lv_aload_n hF.1 hF.2.1 dL_law_1309 rfl (lv_at hl 3 rfl) ?_
  obtain ⟨mc_455, ms_456, hc_457, hs_458, hw⟩ := hw
  refine lkx_i (hrx_SX (As := [.ref x1, .int (xs (Int32.toNatClampNeg (x5 + 1))), .ref x3]) (rest := []) hF hl.1 hC hP hS (metX0_wayTo l hlt K mc_455 ms_456 _ _ _ X x1 (xs (Int32.toNatClampNeg (x5 + 1))) x3) (vx_cwSW 3 hF.2.2.2.2 (lw_SW q1168 q1169 q74 q1170) rfl rfl rfl (by decide +kernel) ⟨Nat.le_of_ble_eq_true rfl, Nat.le_of_ble_eq_true rfl⟩) hw rfl rfl (Nat.le_of_ble_eq_true rfl) dL_law_1310 ⟨hc_457, hs_458⟩) hP hM hD hS (fun r_453 X_454 H locs hw hP hM hD hS => ?_)
  refine lv_istore (lv' := [(6, .int r_453), (0, .ref b), (1, .ref x1), (2, .ref h), (3, .ref x3), (4, .ref x4), (5, .int x5)]) hF.1 hF.2.1 dL_law_1313 hl (by decide) rfl (fun ls hl => ?_)
  refine lv_aload_n hF.1 hF.2.1 dL_law_1315 rfl (lv_at hl 3 rfl) ?_
  refine lv_aload_n hF.1 hF.2.1 dL_law_1316 rfl (lv_at hl 1 rfl) ?_
  refine lv_iload hF.1 hF.2.1 dL_law_1317 (lv_at hl 6 rfl) ?_
  refine lv_iconst (v := 1) hF.1 hF.2.1 dL_law_1319 (by decide) ?_
  refine lv_iadd hF.1 hF.2.1 dL_law_1320 ?_
  obtain ⟨h_459, hw⟩ := hw
  refine va_sld hF.1 hF.2.1 hx hbl hbA hS h_459 dL_law_1321 ?_
  refine lm_i (As := [.int (xs (Int32.toNatClampNeg (x5 + 1)))]) (rest := []) hF hl.1 hC (metX3_wayTo l K.1 h a hap _ F R L G (xs (Int32.toNatClampNeg (x5 + 1)))) (cwV 1 hF.2.2.2.2 (lw_V q2021 q2022 q2023 q85 q2024) rfl rfl rfl (by decide +kernel) ⟨Nat.le_of_ble_eq_true rfl, Nat.le_of_ble_eq_true rfl⟩) hP hM hD hS hmA hw rfl rfl (Nat.le_of_ble_eq_true rfl) dL_law_1322 ⟨hc_457, hs_458⟩ (fun r_460 F_461 R_462 L_463 G_464 H locs hw hP hM hS => ?_)
  refine lv_istore (lv' := [(7, .int r_460), (6, .int r_453), (0, .ref b), (1, .ref x1), (2, .ref h), (3, .ref x3), (4, .ref x4), (5, .int x5)]) hF.1 hF.2.1 dL_law_1325 hl (by decide) rfl (fun ls hl => ?_)
  refine lv_aload_n hF.1 hF.2.1 dL_law_1327 rfl (lv_at hl 4 rfl) ?_
  refine lm_i (As := []) (rest := []) hF hl.1 hC (metX3_thrown l K.1 h a hap _ F_461 R_462 L_463 G_464) (cwV 0 hF.2.2.2.2 (lw_V q1813 q1814 q1815 q85 q1816) rfl rfl rfl (by decide +kernel) ⟨Nat.le_of_ble_eq_true rfl, Nat.le_of_ble_eq_true rfl⟩) hP hM hD hS hmA hw rfl rfl (Nat.le_of_ble_eq_true rfl) dL_law_1328 ⟨hc_457, hs_458⟩ (fun r_465 F_466 R_467 L_468 G_469 H locs hw hP hM hS => ?_)
  refine lv_iload hF.1 hF.2.1 dL_law_1331 (lv_at hl 1 rfl) ?_
  refine lv_icmp_eq (tgt := 1338) hF.1 hF.2.1 dL_law_1333 (by decide) (fun c_470 => ?_) (fun c_470 => ?_)
  · have hw := hw.1 c_470
    refine lv_iload hF.1 hF.2.1 dL_law_1338 (lv_at hl 1 rfl) ?_
    refine lv_if_ne (tgt := 1355) hF.1 hF.2.1 dL_law_1340 (by decide) (fun c_471 => ?_) (fun c_471 => ?_)
    · have hw := hw.2 c_471
      exact Tl1355 l hlt K X0 hF hr hlocks hC hx hbl hA0 h a hap hmA _ hJ28 x1 x3 x4 x5 X_454 F_466 R_467 L_468 G_469 (kc + mc_455) (ks + ms_456) _ _ ls hP hM hD hS ⟨hc_457, hs_458⟩ (lv_sub hl [2, 3, 4, 5, 6, 7] rfl) hw
    · have hw := hw.1 c_471
      refine lv_aload_n hF.1 hF.2.1 dL_law_1343 rfl (lv_at hl 5 rfl) ?_
      refine lv_iconst (v := 0) hF.1 hF.2.1 dL_law_1344 (by decide) ?_
      obtain ⟨n_472, f_473, hx_474, hi_475, hw⟩ := hw
      refine x_lald hF hC hP hx_474 hi_475 dL_law_1345 ?_
      generalize f_473 (Int32.toNatClampNeg 0) = v_476 at hw ⊢
      refine lv_iload hF.1 hF.2.1 dL_law_1346 (lv_at hl 0 rfl) ?_
      refine lv_i2l hF.1 hF.2.1 dL_law_1348 rfl ?_
      refine W.lcmp hF.1 hF.2.1 dL_law_1349 ?_
      refine lv_if_eq (tgt := 1355) hF.1 hF.2.1 dL_law_1350 (by decide) (fun c_477 => ?_) (fun c_477 => ?_)
      · rw [lc_eq] at c_477
        have hw := hw.1 c_477
        exact Tl1355 l hlt K X0 hF hr hlocks hC hx hbl hA0 h a hap hmA _ hJ28 x1 x3 x4 x5 X_454 F_466 R_467 L_468 G_469 (kc + mc_455) (ks + ms_456) _ _ ls hP hM hD hS ⟨hc_457, hs_458⟩ (lv_sub hl [2, 3, 4, 5, 6, 7] rfl) hw
      · rw [lc_eq] at c_477
        have hw := hw.2 c_477
        refine lv_iconst (v := 0) hF.1 hF.2.1 dL_law_1353 (by decide) ?_
        exact l_end hF hr hlocks hA0 hS ⟨hc_457, hs_458⟩ dL_law_1354 hw
  · have hw := hw.2 c_470
    refine lv_iconst (v := 0) hF.1 hF.2.1 dL_law_1336 (by decide) ?_
    exact l_end hF hr hlocks hA0 hS ⟨hc_457, hs_458⟩ dL_law_1337 hw
def wpL_1410 (E mc ms N : Nat) (xs : Nat → Int32) (J28 : Nat → Nat → Nat → Int32 → hX → mF → mR → mL → mG → Nat → Nat → Prop) (x1 : Nat) (x3 : Nat) (x4 : Nat) (x5 : Int32) (X : hX) (F : mF) (R : mR) (L : mL) (G : mG) (kc ks : Nat) : Prop := (∀ x5_478 : Int32, x5_478 = x5 + 5 → J28 x1 x3 x4 x5_478 X F R L G kc ks)
set_option maxHeartbeats 8000000 in
theorem Tl1410 {p : Program} {e : Env} {s : State} {m : MethodId} {below : List Frame} {meth : Method} {c : Code} (l : Launch) (hlt : l.stackTraces = false) (K : HK) {b N : Nat} {xs : Nat → Int32} (X0 : hX) (hF : CallFix p m c code 9 s #[Value.ref b] lw_all R_law) (hr : meth.sig.returnType = ret) (hlocks : meth.locks = false) (hC : HC K X0 s) (hx : va_X b N xs s s.heap) (hbl : b < s.heap.size) (hA0 : ∀ q, hA X0 s.heap.size q → s.heap.size ≤ q) (h : Nat) (a : Nat → Nat) (hap : mAp h a) (hmA : ∀ q, mA h a q → hA X0 s.heap.size q) (J28 : Nat → Nat → Nat → Int32 → hX → mF → mR → mL → mG → Nat → Nat → Prop) (hJ28 : ∀ (x1 : Nat) (x3 : Nat) (x4 : Nat) (x5 : Int32) (X : hX) (F : mF) (R : mR) (L : mL) (G : mG) (kc ks : Nat) (H : Heap) (locs : List Loc) (ls : Array Slot), hI K X0 s.heap.size X H → mP K.1 h a F R L G H → hdis X h a → va_S (hA X0 s.heap.size) s.heap H locs → kc ≤ 1200048 ∧ ks ≤ 5501818 → lv_has ls 9 [(0, .ref b), (1, .ref x1), (2, .ref h), (3, .ref x3), (4, .ref x4), (5, .int x5)] → J28 x1 x3 x4 x5 X F R L G kc ks → W p l e room_1 s m #[Value.ref b] below meth c H locs kc ks (lw_Z below #[Value.ref b] s) (F0 m 28 ls [])) : ∀ (x1 : Nat) (x3 : Nat) (x4 : Nat) (x5 : Int32) (X : hX) (F : mF) (R : mR) (L : mL) (G : mG) (kc ks : Nat) (H : Heap) (locs : List Loc) (ls : Array Slot), hI K X0 s.heap.size X H → mP K.1 h a F R L G H → hdis X h a → va_S (hA X0 s.heap.size) s.heap H locs → kc ≤ 1200048 ∧ ks ≤ 5501818 → lv_has ls 9 [(0, .ref b), (1, .ref x1), (2, .ref h), (3, .ref x3), (4, .ref x4), (5, .int x5)] → wpL_1410 (K.2.2 0) 1200048 5501818 N xs J28 x1 x3 x4 x5 X F R L G kc ks → W p l e room_1 s m #[Value.ref b] below meth c H locs kc ks (lw_Z below #[Value.ref b] s) (F0 m 1410 ls []) := by
  have hbA : ¬ hA X0 s.heap.size b := fun z => Nat.not_lt.mpr (hA0 b z) hbl
  intro x1 x3 x4 x5 X F R L G kc ks H locs ls hP hM hD hS hk hl hw
  unfold wpL_1410 at hw
  refine lv_goto (tgt := 3714) hF.1 hF.2.1 dL_law_1410 (by decide) ?_
  obtain ⟨x5_478, ex5_478⟩ : ∃ y : Int32, y = x5 + 5 := ⟨_, rfl⟩
  have hw := hw x5_478 ex5_478
  refine lv_iinc (v := x5_478) (lv' := [(5, .int x5_478), (0, .ref b), (1, .ref x1), (2, .ref h), (3, .ref x3), (4, .ref x4)]) hF.1 hF.2.1 dL_law_3714 hl (k := 5) rfl (by rw [ex5_478]; rfl) (by decide) rfl (fun ls hl => ?_)
  refine lv_goto (tgt := 28) hF.1 hF.2.1 dL_law_3717 (by decide) ?_
  exact hJ28 x1 x3 x4 x5_478 X F R L G kc ks _ _ ls hP hM hD hS hk (lv_sub hl [1, 2, 3, 4, 5, 0] rfl) hw
def wpL_1358 (E mc ms N : Nat) (xs : Nat → Int32) (J28 : Nat → Nat → Nat → Int32 → hX → mF → mR → mL → mG → Nat → Nat → Prop) (x1 : Nat) (x3 : Nat) (x4 : Nat) (x5 : Int32) (X : hX) (F : mF) (R : mR) (L : mL) (G : mG) (kc ks : Nat) : Prop := (vp_in (x5 + 1) N ∧ (∃ mc_482 ms_483 : Nat, kc + mc_482 ≤ mc ∧ ks + ms_483 ≤ ms ∧ wpX0_ratioAbove (fun r_480 X_481 => (vp_in (x5 + 1) N ∧ wpX3_ratioAbove (fun r_487 F_488 R_489 L_490 G_491 => wpX3_thrown (fun r_492 F_493 R_494 L_495 G_496 => ((r_492 = r_480 → ((r_480 = 0 → alJ X_481 x3 0 (fun v_503 => ((v_503 = r_487 → wpL_1410 E mc ms N xs J28 x1 x3 x4 x5 X_481 F_493 R_494 L_495 G_496 (kc + mc_482) (ks + ms_483)) ∧ (¬ v_503 = r_487 → (0 : Int32) = 1)))) ∧ (¬ r_480 = 0 → wpL_1410 E mc ms N xs J28 x1 x3 x4 x5 X_481 F_493 R_494 L_495 G_496 (kc + mc_482) (ks + ms_483)))) ∧ (¬ r_492 = r_480 → (0 : Int32) = 1))) F_488 R_489 L_490 G_491) F R L G (xs (Int32.toNatClampNeg (x5 + 1))))) (fun _ _ _ => False) E mc_482 ms_483 X x1 (xs (Int32.toNatClampNeg (x5 + 1))) x3))
set_option maxHeartbeats 8000000 in
theorem Tl1358 {p : Program} {e : Env} {s : State} {m : MethodId} {below : List Frame} {meth : Method} {c : Code} (l : Launch) (hlt : l.stackTraces = false) (K : HK) {b N : Nat} {xs : Nat → Int32} (X0 : hX) (hF : CallFix p m c code 9 s #[Value.ref b] lw_all R_law) (hr : meth.sig.returnType = ret) (hlocks : meth.locks = false) (hC : HC K X0 s) (hx : va_X b N xs s s.heap) (hbl : b < s.heap.size) (hA0 : ∀ q, hA X0 s.heap.size q → s.heap.size ≤ q) (h : Nat) (a : Nat → Nat) (hap : mAp h a) (hmA : ∀ q, mA h a q → hA X0 s.heap.size q) (J28 : Nat → Nat → Nat → Int32 → hX → mF → mR → mL → mG → Nat → Nat → Prop) (hJ28 : ∀ (x1 : Nat) (x3 : Nat) (x4 : Nat) (x5 : Int32) (X : hX) (F : mF) (R : mR) (L : mL) (G : mG) (kc ks : Nat) (H : Heap) (locs : List Loc) (ls : Array Slot), hI K X0 s.heap.size X H → mP K.1 h a F R L G H → hdis X h a → va_S (hA X0 s.heap.size) s.heap H locs → kc ≤ 1200048 ∧ ks ≤ 5501818 → lv_has ls 9 [(0, .ref b), (1, .ref x1), (2, .ref h), (3, .ref x3), (4, .ref x4), (5, .int x5)] → J28 x1 x3 x4 x5 X F R L G kc ks → W p l e room_1 s m #[Value.ref b] below meth c H locs kc ks (lw_Z below #[Value.ref b] s) (F0 m 28 ls [])) : ∀ (x1 : Nat) (x3 : Nat) (x4 : Nat) (x5 : Int32) (X : hX) (F : mF) (R : mR) (L : mL) (G : mG) (kc ks : Nat) (H : Heap) (locs : List Loc) (ls : Array Slot), hI K X0 s.heap.size X H → mP K.1 h a F R L G H → hdis X h a → va_S (hA X0 s.heap.size) s.heap H locs → kc ≤ 1200048 ∧ ks ≤ 5501818 → lv_has ls 9 [(0, .ref b), (1, .ref x1), (2, .ref h), (3, .ref x3), (4, .ref x4), (5, .int x5)] → wpL_1358 (K.2.2 0) 1200048 5501818 N xs J28 x1 x3 x4 x5 X F R L G kc ks → W p l e room_1 s m #[Value.ref b] below meth c H locs kc ks (lw_Z below #[Value.ref b] s) (F0 m 1358 ls []) := by
  have hbA : ¬ hA X0 s.heap.size b := fun z => Nat.not_lt.mpr (hA0 b z) hbl
  intro x1 x3 x4 x5 X F R L G kc ks H locs ls hP hM hD hS hk hl hw
  unfold wpL_1358 at hw
  refine lv_aload_n hF.1 hF.2.1 dL_law_1358 rfl (lv_at hl 1 rfl) ?_
  refine lv_aload_n hF.1 hF.2.1 dL_law_1359 rfl (lv_at hl 0 rfl) ?_
  refine lv_iload hF.1 hF.2.1 dL_law_1360 (lv_at hl 5 rfl) ?_
  refine lv_iconst (v := 1) hF.1 hF.2.1 dL_law_1362 (by decide) ?_
  refine lv_iadd hF.1 hF.2.1 dL_law_1363 ?_
  obtain ⟨h_479, hw⟩ := hw
  refine va_sld hF.1 hF.2.1 hx hbl hbA hS h_479 dL_law_1364 ?_
  refine lv_aload_n hF.1 hF.2.1 dL_law_1365 rfl (lv_at hl 3 rfl) ?_
  obtain ⟨mc_482, ms_483, hc_484, hs_485, hw⟩ := hw
  refine lkx_i (hrx_SX (As := [.ref x1, .int (xs (Int32.toNatClampNeg (x5 + 1))), .ref x3]) (rest := []) hF hl.1 hC hP hS (metX0_ratioAbove l hlt K mc_482 ms_483 _ _ _ X x1 (xs (Int32.toNatClampNeg (x5 + 1))) x3) (vx_cwSW 3 hF.2.2.2.2 (lw_SW q1189 q1190 q74 q1191) rfl rfl rfl (by decide +kernel) ⟨Nat.le_of_ble_eq_true rfl, Nat.le_of_ble_eq_true rfl⟩) hw rfl rfl (Nat.le_of_ble_eq_true rfl) dL_law_1366 ⟨hc_484, hs_485⟩) hP hM hD hS (fun r_480 X_481 H locs hw hP hM hD hS => ?_)
  refine lv_istore (lv' := [(6, .int r_480), (0, .ref b), (1, .ref x1), (2, .ref h), (3, .ref x3), (4, .ref x4), (5, .int x5)]) hF.1 hF.2.1 dL_law_1369 hl (by decide) rfl (fun ls hl => ?_)
  refine lv_aload_n hF.1 hF.2.1 dL_law_1371 rfl (lv_at hl 3 rfl) ?_
  refine lv_aload_n hF.1 hF.2.1 dL_law_1372 rfl (lv_at hl 1 rfl) ?_
  refine lv_iload hF.1 hF.2.1 dL_law_1373 (lv_at hl 6 rfl) ?_
  refine lv_iconst (v := 1) hF.1 hF.2.1 dL_law_1375 (by decide) ?_
  refine lv_iadd hF.1 hF.2.1 dL_law_1376 ?_
  obtain ⟨h_486, hw⟩ := hw
  refine va_sld hF.1 hF.2.1 hx hbl hbA hS h_486 dL_law_1377 ?_
  refine lm_l (As := [.int (xs (Int32.toNatClampNeg (x5 + 1)))]) (rest := []) hF hl.1 hC (metX3_ratioAbove l K.1 h a hap _ F R L G (xs (Int32.toNatClampNeg (x5 + 1)))) (cwV 1 hF.2.2.2.2 (lw_V q2029 q2030 q2031 q85 q2032) rfl rfl rfl (by decide +kernel) ⟨Nat.le_of_ble_eq_true rfl, Nat.le_of_ble_eq_true rfl⟩) hP hM hD hS hmA hw rfl rfl (Nat.le_of_ble_eq_true rfl) dL_law_1378 ⟨hc_484, hs_485⟩ (fun r_487 F_488 R_489 L_490 G_491 H locs hw hP hM hS => ?_)
  refine lv_lstore (lv' := [(7, .long r_487), (6, .int r_480), (0, .ref b), (1, .ref x1), (2, .ref h), (3, .ref x3), (4, .ref x4), (5, .int x5)]) hF.1 hF.2.1 dL_law_1381 hl (by decide) rfl (fun ls hl => ?_)
  refine lv_aload_n hF.1 hF.2.1 dL_law_1383 rfl (lv_at hl 4 rfl) ?_
  refine lm_i (As := []) (rest := []) hF hl.1 hC (metX3_thrown l K.1 h a hap _ F_488 R_489 L_490 G_491) (cwV 0 hF.2.2.2.2 (lw_V q1813 q1814 q1815 q85 q1816) rfl rfl rfl (by decide +kernel) ⟨Nat.le_of_ble_eq_true rfl, Nat.le_of_ble_eq_true rfl⟩) hP hM hD hS hmA hw rfl rfl (Nat.le_of_ble_eq_true rfl) dL_law_1384 ⟨hc_484, hs_485⟩ (fun r_492 F_493 R_494 L_495 G_496 H locs hw hP hM hS => ?_)
  refine lv_iload hF.1 hF.2.1 dL_law_1387 (lv_at hl 1 rfl) ?_
  refine lv_icmp_eq (tgt := 1394) hF.1 hF.2.1 dL_law_1389 (by decide) (fun c_497 => ?_) (fun c_497 => ?_)
  · have hw := hw.1 c_497
    refine lv_iload hF.1 hF.2.1 dL_law_1394 (lv_at hl 1 rfl) ?_
    refine lv_if_ne (tgt := 1410) hF.1 hF.2.1 dL_law_1396 (by decide) (fun c_498 => ?_) (fun c_498 => ?_)
    · have hw := hw.2 c_498
      exact Tl1410 l hlt K X0 hF hr hlocks hC hx hbl hA0 h a hap hmA _ hJ28 x1 x3 x4 x5 X_481 F_493 R_494 L_495 G_496 (kc + mc_482) (ks + ms_483) _ _ ls hP hM hD hS ⟨hc_484, hs_485⟩ (lv_sub hl [2, 3, 4, 5, 6, 7] rfl) hw
    · have hw := hw.1 c_498
      refine lv_aload_n hF.1 hF.2.1 dL_law_1399 rfl (lv_at hl 5 rfl) ?_
      refine lv_iconst (v := 0) hF.1 hF.2.1 dL_law_1400 (by decide) ?_
      obtain ⟨n_499, f_500, hx_501, hi_502, hw⟩ := hw
      refine x_lald hF hC hP hx_501 hi_502 dL_law_1401 ?_
      generalize f_500 (Int32.toNatClampNeg 0) = v_503 at hw ⊢
      refine lv_lload hF.1 hF.2.1 dL_law_1402 (lv_at hl 0 rfl) ?_
      refine W.lcmp hF.1 hF.2.1 dL_law_1404 ?_
      refine lv_if_eq (tgt := 1410) hF.1 hF.2.1 dL_law_1405 (by decide) (fun c_504 => ?_) (fun c_504 => ?_)
      · rw [lc_eq] at c_504
        have hw := hw.1 c_504
        exact Tl1410 l hlt K X0 hF hr hlocks hC hx hbl hA0 h a hap hmA _ hJ28 x1 x3 x4 x5 X_481 F_493 R_494 L_495 G_496 (kc + mc_482) (ks + ms_483) _ _ ls hP hM hD hS ⟨hc_484, hs_485⟩ (lv_sub hl [2, 3, 4, 5, 6, 7] rfl) hw
      · rw [lc_eq] at c_504
        have hw := hw.2 c_504
        refine lv_iconst (v := 0) hF.1 hF.2.1 dL_law_1408 (by decide) ?_
        exact l_end hF hr hlocks hA0 hS ⟨hc_484, hs_485⟩ dL_law_1409 hw
  · have hw := hw.2 c_497
    refine lv_iconst (v := 0) hF.1 hF.2.1 dL_law_1392 (by decide) ?_
    exact l_end hF hr hlocks hA0 hS ⟨hc_484, hs_485⟩ dL_law_1393 hw
def wpL_1465 (E mc ms N : Nat) (xs : Nat → Int32) (J28 : Nat → Nat → Nat → Int32 → hX → mF → mR → mL → mG → Nat → Nat → Prop) (x1 : Nat) (x3 : Nat) (x4 : Nat) (x5 : Int32) (X : hX) (F : mF) (R : mR) (L : mL) (G : mG) (kc ks : Nat) : Prop := (∀ x5_505 : Int32, x5_505 = x5 + 5 → J28 x1 x3 x4 x5_505 X F R L G kc ks)
set_option maxHeartbeats 8000000 in
theorem Tl1465 {p : Program} {e : Env} {s : State} {m : MethodId} {below : List Frame} {meth : Method} {c : Code} (l : Launch) (hlt : l.stackTraces = false) (K : HK) {b N : Nat} {xs : Nat → Int32} (X0 : hX) (hF : CallFix p m c code 9 s #[Value.ref b] lw_all R_law) (hr : meth.sig.returnType = ret) (hlocks : meth.locks = false) (hC : HC K X0 s) (hx : va_X b N xs s s.heap) (hbl : b < s.heap.size) (hA0 : ∀ q, hA X0 s.heap.size q → s.heap.size ≤ q) (h : Nat) (a : Nat → Nat) (hap : mAp h a) (hmA : ∀ q, mA h a q → hA X0 s.heap.size q) (J28 : Nat → Nat → Nat → Int32 → hX → mF → mR → mL → mG → Nat → Nat → Prop) (hJ28 : ∀ (x1 : Nat) (x3 : Nat) (x4 : Nat) (x5 : Int32) (X : hX) (F : mF) (R : mR) (L : mL) (G : mG) (kc ks : Nat) (H : Heap) (locs : List Loc) (ls : Array Slot), hI K X0 s.heap.size X H → mP K.1 h a F R L G H → hdis X h a → va_S (hA X0 s.heap.size) s.heap H locs → kc ≤ 1200048 ∧ ks ≤ 5501818 → lv_has ls 9 [(0, .ref b), (1, .ref x1), (2, .ref h), (3, .ref x3), (4, .ref x4), (5, .int x5)] → J28 x1 x3 x4 x5 X F R L G kc ks → W p l e room_1 s m #[Value.ref b] below meth c H locs kc ks (lw_Z below #[Value.ref b] s) (F0 m 28 ls [])) : ∀ (x1 : Nat) (x3 : Nat) (x4 : Nat) (x5 : Int32) (X : hX) (F : mF) (R : mR) (L : mL) (G : mG) (kc ks : Nat) (H : Heap) (locs : List Loc) (ls : Array Slot), hI K X0 s.heap.size X H → mP K.1 h a F R L G H → hdis X h a → va_S (hA X0 s.heap.size) s.heap H locs → kc ≤ 1200048 ∧ ks ≤ 5501818 → lv_has ls 9 [(0, .ref b), (1, .ref x1), (2, .ref h), (3, .ref x3), (4, .ref x4), (5, .int x5)] → wpL_1465 (K.2.2 0) 1200048 5501818 N xs J28 x1 x3 x4 x5 X F R L G kc ks → W p l e room_1 s m #[Value.ref b] below meth c H locs kc ks (lw_Z below #[Value.ref b] s) (F0 m 1465 ls []) := by
  have hbA : ¬ hA X0 s.heap.size b := fun z => Nat.not_lt.mpr (hA0 b z) hbl
  intro x1 x3 x4 x5 X F R L G kc ks H locs ls hP hM hD hS hk hl hw
  unfold wpL_1465 at hw
  refine lv_goto (tgt := 3714) hF.1 hF.2.1 dL_law_1465 (by decide) ?_
  obtain ⟨x5_505, ex5_505⟩ : ∃ y : Int32, y = x5 + 5 := ⟨_, rfl⟩
  have hw := hw x5_505 ex5_505
  refine lv_iinc (v := x5_505) (lv' := [(5, .int x5_505), (0, .ref b), (1, .ref x1), (2, .ref h), (3, .ref x3), (4, .ref x4)]) hF.1 hF.2.1 dL_law_3714 hl (k := 5) rfl (by rw [ex5_505]; rfl) (by decide) rfl (fun ls hl => ?_)
  refine lv_goto (tgt := 28) hF.1 hF.2.1 dL_law_3717 (by decide) ?_
  exact hJ28 x1 x3 x4 x5_505 X F R L G kc ks _ _ ls hP hM hD hS hk (lv_sub hl [1, 2, 3, 4, 5, 0] rfl) hw
def wpL_1413 (E mc ms N : Nat) (xs : Nat → Int32) (J28 : Nat → Nat → Nat → Int32 → hX → mF → mR → mL → mG → Nat → Nat → Prop) (x1 : Nat) (x3 : Nat) (x4 : Nat) (x5 : Int32) (X : hX) (F : mF) (R : mR) (L : mL) (G : mG) (kc ks : Nat) : Prop := (vp_in (x5 + 1) N ∧ (∃ mc_509 ms_510 : Nat, kc + mc_509 ≤ mc ∧ ks + ms_510 ≤ ms ∧ wpX0_ratioBelow (fun r_507 X_508 => (vp_in (x5 + 1) N ∧ wpX3_ratioBelow (fun r_514 F_515 R_516 L_517 G_518 => wpX3_thrown (fun r_519 F_520 R_521 L_522 G_523 => ((r_519 = r_507 → ((r_507 = 0 → alJ X_508 x3 0 (fun v_530 => ((v_530 = r_514 → wpL_1465 E mc ms N xs J28 x1 x3 x4 x5 X_508 F_520 R_521 L_522 G_523 (kc + mc_509) (ks + ms_510)) ∧ (¬ v_530 = r_514 → (0 : Int32) = 1)))) ∧ (¬ r_507 = 0 → wpL_1465 E mc ms N xs J28 x1 x3 x4 x5 X_508 F_520 R_521 L_522 G_523 (kc + mc_509) (ks + ms_510)))) ∧ (¬ r_519 = r_507 → (0 : Int32) = 1))) F_515 R_516 L_517 G_518) F R L G (xs (Int32.toNatClampNeg (x5 + 1))))) (fun _ _ _ => False) E mc_509 ms_510 X x1 (xs (Int32.toNatClampNeg (x5 + 1))) x3))
set_option maxHeartbeats 8000000 in
theorem Tl1413 {p : Program} {e : Env} {s : State} {m : MethodId} {below : List Frame} {meth : Method} {c : Code} (l : Launch) (hlt : l.stackTraces = false) (K : HK) {b N : Nat} {xs : Nat → Int32} (X0 : hX) (hF : CallFix p m c code 9 s #[Value.ref b] lw_all R_law) (hr : meth.sig.returnType = ret) (hlocks : meth.locks = false) (hC : HC K X0 s) (hx : va_X b N xs s s.heap) (hbl : b < s.heap.size) (hA0 : ∀ q, hA X0 s.heap.size q → s.heap.size ≤ q) (h : Nat) (a : Nat → Nat) (hap : mAp h a) (hmA : ∀ q, mA h a q → hA X0 s.heap.size q) (J28 : Nat → Nat → Nat → Int32 → hX → mF → mR → mL → mG → Nat → Nat → Prop) (hJ28 : ∀ (x1 : Nat) (x3 : Nat) (x4 : Nat) (x5 : Int32) (X : hX) (F : mF) (R : mR) (L : mL) (G : mG) (kc ks : Nat) (H : Heap) (locs : List Loc) (ls : Array Slot), hI K X0 s.heap.size X H → mP K.1 h a F R L G H → hdis X h a → va_S (hA X0 s.heap.size) s.heap H locs → kc ≤ 1200048 ∧ ks ≤ 5501818 → lv_has ls 9 [(0, .ref b), (1, .ref x1), (2, .ref h), (3, .ref x3), (4, .ref x4), (5, .int x5)] → J28 x1 x3 x4 x5 X F R L G kc ks → W p l e room_1 s m #[Value.ref b] below meth c H locs kc ks (lw_Z below #[Value.ref b] s) (F0 m 28 ls [])) : ∀ (x1 : Nat) (x3 : Nat) (x4 : Nat) (x5 : Int32) (X : hX) (F : mF) (R : mR) (L : mL) (G : mG) (kc ks : Nat) (H : Heap) (locs : List Loc) (ls : Array Slot), hI K X0 s.heap.size X H → mP K.1 h a F R L G H → hdis X h a → va_S (hA X0 s.heap.size) s.heap H locs → kc ≤ 1200048 ∧ ks ≤ 5501818 → lv_has ls 9 [(0, .ref b), (1, .ref x1), (2, .ref h), (3, .ref x3), (4, .ref x4), (5, .int x5)] → wpL_1413 (K.2.2 0) 1200048 5501818 N xs J28 x1 x3 x4 x5 X F R L G kc ks → W p l e room_1 s m #[Value.ref b] below meth c H locs kc ks (lw_Z below #[Value.ref b] s) (F0 m 1413 ls []) := by
  have hbA : ¬ hA X0 s.heap.size b := fun z => Nat.not_lt.mpr (hA0 b z) hbl
  intro x1 x3 x4 x5 X F R L G kc ks H locs ls hP hM hD hS hk hl hw
  unfold wpL_1413 at hw
  refine lv_aload_n hF.1 hF.2.1 dL_law_1413 rfl (lv_at hl 1 rfl) ?_
  refine lv_aload_n hF.1 hF.2.1 dL_law_1414 rfl (lv_at hl 0 rfl) ?_
  refine lv_iload hF.1 hF.2.1 dL_law_1415 (lv_at hl 5 rfl) ?_
  refine lv_iconst (v := 1) hF.1 hF.2.1 dL_law_1417 (by decide) ?_
  refine lv_iadd hF.1 hF.2.1 dL_law_1418 ?_
  obtain ⟨h_506, hw⟩ := hw
  refine va_sld hF.1 hF.2.1 hx hbl hbA hS h_506 dL_law_1419 ?_
  refine lv_aload_n hF.1 hF.2.1 dL_law_1420 rfl (lv_at hl 3 rfl) ?_
  obtain ⟨mc_509, ms_510, hc_511, hs_512, hw⟩ := hw
  refine lkx_i (hrx_SX (As := [.ref x1, .int (xs (Int32.toNatClampNeg (x5 + 1))), .ref x3]) (rest := []) hF hl.1 hC hP hS (metX0_ratioBelow l hlt K mc_509 ms_510 _ _ _ X x1 (xs (Int32.toNatClampNeg (x5 + 1))) x3) (vx_cwSW 3 hF.2.2.2.2 (lw_SW q1196 q1197 q74 q1198) rfl rfl rfl (by decide +kernel) ⟨Nat.le_of_ble_eq_true rfl, Nat.le_of_ble_eq_true rfl⟩) hw rfl rfl (Nat.le_of_ble_eq_true rfl) dL_law_1421 ⟨hc_511, hs_512⟩) hP hM hD hS (fun r_507 X_508 H locs hw hP hM hD hS => ?_)
  refine lv_istore (lv' := [(6, .int r_507), (0, .ref b), (1, .ref x1), (2, .ref h), (3, .ref x3), (4, .ref x4), (5, .int x5)]) hF.1 hF.2.1 dL_law_1424 hl (by decide) rfl (fun ls hl => ?_)
  refine lv_aload_n hF.1 hF.2.1 dL_law_1426 rfl (lv_at hl 3 rfl) ?_
  refine lv_aload_n hF.1 hF.2.1 dL_law_1427 rfl (lv_at hl 1 rfl) ?_
  refine lv_iload hF.1 hF.2.1 dL_law_1428 (lv_at hl 6 rfl) ?_
  refine lv_iconst (v := 1) hF.1 hF.2.1 dL_law_1430 (by decide) ?_
  refine lv_iadd hF.1 hF.2.1 dL_law_1431 ?_
  obtain ⟨h_513, hw⟩ := hw
  refine va_sld hF.1 hF.2.1 hx hbl hbA hS h_513 dL_law_1432 ?_
  refine lm_l (As := [.int (xs (Int32.toNatClampNeg (x5 + 1)))]) (rest := []) hF hl.1 hC (metX3_ratioBelow l K.1 h a hap _ F R L G (xs (Int32.toNatClampNeg (x5 + 1)))) (cwV 1 hF.2.2.2.2 (lw_V q2033 q2034 q2035 q85 q2036) rfl rfl rfl (by decide +kernel) ⟨Nat.le_of_ble_eq_true rfl, Nat.le_of_ble_eq_true rfl⟩) hP hM hD hS hmA hw rfl rfl (Nat.le_of_ble_eq_true rfl) dL_law_1433 ⟨hc_511, hs_512⟩ (fun r_514 F_515 R_516 L_517 G_518 H locs hw hP hM hS => ?_)
  refine lv_lstore (lv' := [(7, .long r_514), (6, .int r_507), (0, .ref b), (1, .ref x1), (2, .ref h), (3, .ref x3), (4, .ref x4), (5, .int x5)]) hF.1 hF.2.1 dL_law_1436 hl (by decide) rfl (fun ls hl => ?_)
  refine lv_aload_n hF.1 hF.2.1 dL_law_1438 rfl (lv_at hl 4 rfl) ?_
  refine lm_i (As := []) (rest := []) hF hl.1 hC (metX3_thrown l K.1 h a hap _ F_515 R_516 L_517 G_518) (cwV 0 hF.2.2.2.2 (lw_V q1813 q1814 q1815 q85 q1816) rfl rfl rfl (by decide +kernel) ⟨Nat.le_of_ble_eq_true rfl, Nat.le_of_ble_eq_true rfl⟩) hP hM hD hS hmA hw rfl rfl (Nat.le_of_ble_eq_true rfl) dL_law_1439 ⟨hc_511, hs_512⟩ (fun r_519 F_520 R_521 L_522 G_523 H locs hw hP hM hS => ?_)
  refine lv_iload hF.1 hF.2.1 dL_law_1442 (lv_at hl 1 rfl) ?_
  refine lv_icmp_eq (tgt := 1449) hF.1 hF.2.1 dL_law_1444 (by decide) (fun c_524 => ?_) (fun c_524 => ?_)
  · have hw := hw.1 c_524
    refine lv_iload hF.1 hF.2.1 dL_law_1449 (lv_at hl 1 rfl) ?_
    refine lv_if_ne (tgt := 1465) hF.1 hF.2.1 dL_law_1451 (by decide) (fun c_525 => ?_) (fun c_525 => ?_)
    · have hw := hw.2 c_525
      exact Tl1465 l hlt K X0 hF hr hlocks hC hx hbl hA0 h a hap hmA _ hJ28 x1 x3 x4 x5 X_508 F_520 R_521 L_522 G_523 (kc + mc_509) (ks + ms_510) _ _ ls hP hM hD hS ⟨hc_511, hs_512⟩ (lv_sub hl [2, 3, 4, 5, 6, 7] rfl) hw
    · have hw := hw.1 c_525
      refine lv_aload_n hF.1 hF.2.1 dL_law_1454 rfl (lv_at hl 5 rfl) ?_
      refine lv_iconst (v := 0) hF.1 hF.2.1 dL_law_1455 (by decide) ?_
      obtain ⟨n_526, f_527, hx_528, hi_529, hw⟩ := hw
      refine x_lald hF hC hP hx_528 hi_529 dL_law_1456 ?_
      generalize f_527 (Int32.toNatClampNeg 0) = v_530 at hw ⊢
      refine lv_lload hF.1 hF.2.1 dL_law_1457 (lv_at hl 0 rfl) ?_
      refine W.lcmp hF.1 hF.2.1 dL_law_1459 ?_
      refine lv_if_eq (tgt := 1465) hF.1 hF.2.1 dL_law_1460 (by decide) (fun c_531 => ?_) (fun c_531 => ?_)
      · rw [lc_eq] at c_531
        have hw := hw.1 c_531
        exact Tl1465 l hlt K X0 hF hr hlocks hC hx hbl hA0 h a hap hmA _ hJ28 x1 x3 x4 x5 X_508 F_520 R_521 L_522 G_523 (kc + mc_509) (ks + ms_510) _ _ ls hP hM hD hS ⟨hc_511, hs_512⟩ (lv_sub hl [2, 3, 4, 5, 6, 7] rfl) hw
      · rw [lc_eq] at c_531
        have hw := hw.2 c_531
        refine lv_iconst (v := 0) hF.1 hF.2.1 dL_law_1463 (by decide) ?_
        exact l_end hF hr hlocks hA0 hS ⟨hc_511, hs_512⟩ dL_law_1464 hw
  · have hw := hw.2 c_524
    refine lv_iconst (v := 0) hF.1 hF.2.1 dL_law_1447 (by decide) ?_
    exact l_end hF hr hlocks hA0 hS ⟨hc_511, hs_512⟩ dL_law_1448 hw
def wpL_1528 (E mc ms N : Nat) (xs : Nat → Int32) (J28 : Nat → Nat → Nat → Int32 → hX → mF → mR → mL → mG → Nat → Nat → Prop) (x1 : Nat) (x3 : Nat) (x4 : Nat) (x5 : Int32) (X : hX) (F : mF) (R : mR) (L : mL) (G : mG) (kc ks : Nat) : Prop := (∀ x5_532 : Int32, x5_532 = x5 + 5 → J28 x1 x3 x4 x5_532 X F R L G kc ks)
set_option maxHeartbeats 8000000 in
theorem Tl1528 {p : Program} {e : Env} {s : State} {m : MethodId} {below : List Frame} {meth : Method} {c : Code} (l : Launch) (hlt : l.stackTraces = false) (K : HK) {b N : Nat} {xs : Nat → Int32} (X0 : hX) (hF : CallFix p m c code 9 s #[Value.ref b] lw_all R_law) (hr : meth.sig.returnType = ret) (hlocks : meth.locks = false) (hC : HC K X0 s) (hx : va_X b N xs s s.heap) (hbl : b < s.heap.size) (hA0 : ∀ q, hA X0 s.heap.size q → s.heap.size ≤ q) (h : Nat) (a : Nat → Nat) (hap : mAp h a) (hmA : ∀ q, mA h a q → hA X0 s.heap.size q) (J28 : Nat → Nat → Nat → Int32 → hX → mF → mR → mL → mG → Nat → Nat → Prop) (hJ28 : ∀ (x1 : Nat) (x3 : Nat) (x4 : Nat) (x5 : Int32) (X : hX) (F : mF) (R : mR) (L : mL) (G : mG) (kc ks : Nat) (H : Heap) (locs : List Loc) (ls : Array Slot), hI K X0 s.heap.size X H → mP K.1 h a F R L G H → hdis X h a → va_S (hA X0 s.heap.size) s.heap H locs → kc ≤ 1200048 ∧ ks ≤ 5501818 → lv_has ls 9 [(0, .ref b), (1, .ref x1), (2, .ref h), (3, .ref x3), (4, .ref x4), (5, .int x5)] → J28 x1 x3 x4 x5 X F R L G kc ks → W p l e room_1 s m #[Value.ref b] below meth c H locs kc ks (lw_Z below #[Value.ref b] s) (F0 m 28 ls [])) : ∀ (x1 : Nat) (x3 : Nat) (x4 : Nat) (x5 : Int32) (X : hX) (F : mF) (R : mR) (L : mL) (G : mG) (kc ks : Nat) (H : Heap) (locs : List Loc) (ls : Array Slot), hI K X0 s.heap.size X H → mP K.1 h a F R L G H → hdis X h a → va_S (hA X0 s.heap.size) s.heap H locs → kc ≤ 1200048 ∧ ks ≤ 5501818 → lv_has ls 9 [(0, .ref b), (1, .ref x1), (2, .ref h), (3, .ref x3), (4, .ref x4), (5, .int x5)] → wpL_1528 (K.2.2 0) 1200048 5501818 N xs J28 x1 x3 x4 x5 X F R L G kc ks → W p l e room_1 s m #[Value.ref b] below meth c H locs kc ks (lw_Z below #[Value.ref b] s) (F0 m 1528 ls []) := by
  have hbA : ¬ hA X0 s.heap.size b := fun z => Nat.not_lt.mpr (hA0 b z) hbl
  intro x1 x3 x4 x5 X F R L G kc ks H locs ls hP hM hD hS hk hl hw
  unfold wpL_1528 at hw
  refine lv_goto (tgt := 3714) hF.1 hF.2.1 dL_law_1528 (by decide) ?_
  obtain ⟨x5_532, ex5_532⟩ : ∃ y : Int32, y = x5 + 5 := ⟨_, rfl⟩
  have hw := hw x5_532 ex5_532
  refine lv_iinc (v := x5_532) (lv' := [(5, .int x5_532), (0, .ref b), (1, .ref x1), (2, .ref h), (3, .ref x3), (4, .ref x4)]) hF.1 hF.2.1 dL_law_3714 hl (k := 5) rfl (by rw [ex5_532]; rfl) (by decide) rfl (fun ls hl => ?_)
  refine lv_goto (tgt := 28) hF.1 hF.2.1 dL_law_3717 (by decide) ?_
  exact hJ28 x1 x3 x4 x5_532 X F R L G kc ks _ _ ls hP hM hD hS hk (lv_sub hl [1, 2, 3, 4, 5, 0] rfl) hw
def wpL_1522 (E mc ms N : Nat) (xs : Nat → Int32) (J28 : Nat → Nat → Nat → Int32 → hX → mF → mR → mL → mG → Nat → Nat → Prop) (x1 : Nat) (x3 : Nat) (x4 : Nat) (x5 : Int32) (z0 : Int64) (z1 : Int64) (X : hX) (F : mF) (R : mR) (L : mL) (G : mG) (kc ks : Nat) : Prop := ((z0 = z1 → wpL_1528 E mc ms N xs J28 x1 x3 x4 x5 X F R L G kc ks) ∧ (¬ z0 = z1 → (0 : Int32) = 1))
set_option maxHeartbeats 8000000 in
theorem Tl1522 {p : Program} {e : Env} {s : State} {m : MethodId} {below : List Frame} {meth : Method} {c : Code} (l : Launch) (hlt : l.stackTraces = false) (K : HK) {b N : Nat} {xs : Nat → Int32} (X0 : hX) (hF : CallFix p m c code 9 s #[Value.ref b] lw_all R_law) (hr : meth.sig.returnType = ret) (hlocks : meth.locks = false) (hC : HC K X0 s) (hx : va_X b N xs s s.heap) (hbl : b < s.heap.size) (hA0 : ∀ q, hA X0 s.heap.size q → s.heap.size ≤ q) (h : Nat) (a : Nat → Nat) (hap : mAp h a) (hmA : ∀ q, mA h a q → hA X0 s.heap.size q) (J28 : Nat → Nat → Nat → Int32 → hX → mF → mR → mL → mG → Nat → Nat → Prop) (hJ28 : ∀ (x1 : Nat) (x3 : Nat) (x4 : Nat) (x5 : Int32) (X : hX) (F : mF) (R : mR) (L : mL) (G : mG) (kc ks : Nat) (H : Heap) (locs : List Loc) (ls : Array Slot), hI K X0 s.heap.size X H → mP K.1 h a F R L G H → hdis X h a → va_S (hA X0 s.heap.size) s.heap H locs → kc ≤ 1200048 ∧ ks ≤ 5501818 → lv_has ls 9 [(0, .ref b), (1, .ref x1), (2, .ref h), (3, .ref x3), (4, .ref x4), (5, .int x5)] → J28 x1 x3 x4 x5 X F R L G kc ks → W p l e room_1 s m #[Value.ref b] below meth c H locs kc ks (lw_Z below #[Value.ref b] s) (F0 m 28 ls [])) : ∀ (x1 : Nat) (x3 : Nat) (x4 : Nat) (x5 : Int32) (z0 : Int64) (z1 : Int64) (X : hX) (F : mF) (R : mR) (L : mL) (G : mG) (kc ks : Nat) (H : Heap) (locs : List Loc) (ls : Array Slot), hI K X0 s.heap.size X H → mP K.1 h a F R L G H → hdis X h a → va_S (hA X0 s.heap.size) s.heap H locs → kc ≤ 1200048 ∧ ks ≤ 5501818 → lv_has ls 9 [(0, .ref b), (1, .ref x1), (2, .ref h), (3, .ref x3), (4, .ref x4), (5, .int x5)] → wpL_1522 (K.2.2 0) 1200048 5501818 N xs J28 x1 x3 x4 x5 z0 z1 X F R L G kc ks → W p l e room_1 s m #[Value.ref b] below meth c H locs kc ks (lw_Z below #[Value.ref b] s) (F0 m 1522 ls [.long z1, .long z0]) := by
  have hbA : ¬ hA X0 s.heap.size b := fun z => Nat.not_lt.mpr (hA0 b z) hbl
  intro x1 x3 x4 x5 z0 z1 X F R L G kc ks H locs ls hP hM hD hS hk hl hw
  unfold wpL_1522 at hw
  refine W.lcmp hF.1 hF.2.1 dL_law_1522 ?_
  refine lv_if_eq (tgt := 1528) hF.1 hF.2.1 dL_law_1523 (by decide) (fun c_533 => ?_) (fun c_533 => ?_)
  · rw [lc_eq] at c_533
    have hw := hw.1 c_533
    exact Tl1528 l hlt K X0 hF hr hlocks hC hx hbl hA0 h a hap hmA _ hJ28 x1 x3 x4 x5 X F R L G kc ks _ _ ls hP hM hD hS hk (lv_sub hl [0, 1, 2, 3, 4, 5] rfl) hw
  · rw [lc_eq] at c_533
    have hw := hw.2 c_533
    refine lv_iconst (v := 0) hF.1 hF.2.1 dL_law_1526 (by decide) ?_
    exact l_end hF hr hlocks hA0 hS hk dL_law_1527 hw
def wpL_1468 (E mc ms N : Nat) (xs : Nat → Int32) (J28 : Nat → Nat → Nat → Int32 → hX → mF → mR → mL → mG → Nat → Nat → Prop) (x1 : Nat) (x3 : Nat) (x4 : Nat) (x5 : Int32) (X : hX) (F : mF) (R : mR) (L : mL) (G : mG) (kc ks : Nat) : Prop := (vp_in (x5 + 1) N ∧ (∃ mc_537 ms_538 : Nat, kc + mc_537 ≤ mc ∧ ks + ms_538 ≤ ms ∧ wpX0_isRatioByTeeth (fun r_535 X_536 => (vp_in (x5 + 1) N ∧ wpX3_isRatioByTeeth (fun r_542 F_543 R_544 L_545 G_546 => wpX3_thrown (fun r_547 F_548 R_549 L_550 G_551 => ((r_547 = r_535 → ((r_535 = 0 → alJ X_536 x3 0 (fun v_558 => ((r_542 = 0 → wpL_1522 E mc ms N xs J28 x1 x3 x4 x5 v_558 0 X_536 F_548 R_549 L_550 G_551 (kc + mc_537) (ks + ms_538)) ∧ (¬ r_542 = 0 → wpL_1522 E mc ms N xs J28 x1 x3 x4 x5 v_558 1 X_536 F_548 R_549 L_550 G_551 (kc + mc_537) (ks + ms_538))))) ∧ (¬ r_535 = 0 → wpL_1528 E mc ms N xs J28 x1 x3 x4 x5 X_536 F_548 R_549 L_550 G_551 (kc + mc_537) (ks + ms_538)))) ∧ (¬ r_547 = r_535 → (0 : Int32) = 1))) F_543 R_544 L_545 G_546) F R L G (xs (Int32.toNatClampNeg (x5 + 1))))) (fun _ _ _ => False) E mc_537 ms_538 X x1 (xs (Int32.toNatClampNeg (x5 + 1))) x3))
set_option maxHeartbeats 8000000 in
theorem Tl1468 {p : Program} {e : Env} {s : State} {m : MethodId} {below : List Frame} {meth : Method} {c : Code} (l : Launch) (hlt : l.stackTraces = false) (K : HK) {b N : Nat} {xs : Nat → Int32} (X0 : hX) (hF : CallFix p m c code 9 s #[Value.ref b] lw_all R_law) (hr : meth.sig.returnType = ret) (hlocks : meth.locks = false) (hC : HC K X0 s) (hx : va_X b N xs s s.heap) (hbl : b < s.heap.size) (hA0 : ∀ q, hA X0 s.heap.size q → s.heap.size ≤ q) (h : Nat) (a : Nat → Nat) (hap : mAp h a) (hmA : ∀ q, mA h a q → hA X0 s.heap.size q) (J28 : Nat → Nat → Nat → Int32 → hX → mF → mR → mL → mG → Nat → Nat → Prop) (hJ28 : ∀ (x1 : Nat) (x3 : Nat) (x4 : Nat) (x5 : Int32) (X : hX) (F : mF) (R : mR) (L : mL) (G : mG) (kc ks : Nat) (H : Heap) (locs : List Loc) (ls : Array Slot), hI K X0 s.heap.size X H → mP K.1 h a F R L G H → hdis X h a → va_S (hA X0 s.heap.size) s.heap H locs → kc ≤ 1200048 ∧ ks ≤ 5501818 → lv_has ls 9 [(0, .ref b), (1, .ref x1), (2, .ref h), (3, .ref x3), (4, .ref x4), (5, .int x5)] → J28 x1 x3 x4 x5 X F R L G kc ks → W p l e room_1 s m #[Value.ref b] below meth c H locs kc ks (lw_Z below #[Value.ref b] s) (F0 m 28 ls [])) : ∀ (x1 : Nat) (x3 : Nat) (x4 : Nat) (x5 : Int32) (X : hX) (F : mF) (R : mR) (L : mL) (G : mG) (kc ks : Nat) (H : Heap) (locs : List Loc) (ls : Array Slot), hI K X0 s.heap.size X H → mP K.1 h a F R L G H → hdis X h a → va_S (hA X0 s.heap.size) s.heap H locs → kc ≤ 1200048 ∧ ks ≤ 5501818 → lv_has ls 9 [(0, .ref b), (1, .ref x1), (2, .ref h), (3, .ref x3), (4, .ref x4), (5, .int x5)] → wpL_1468 (K.2.2 0) 1200048 5501818 N xs J28 x1 x3 x4 x5 X F R L G kc ks → W p l e room_1 s m #[Value.ref b] below meth c H locs kc ks (lw_Z below #[Value.ref b] s) (F0 m 1468 ls []) := by
  have hbA : ¬ hA X0 s.heap.size b := fun z => Nat.not_lt.mpr (hA0 b z) hbl
  intro x1 x3 x4 x5 X F R L G kc ks H locs ls hP hM hD hS hk hl hw
  unfold wpL_1468 at hw
  refine lv_aload_n hF.1 hF.2.1 dL_law_1468 rfl (lv_at hl 1 rfl) ?_
  refine lv_aload_n hF.1 hF.2.1 dL_law_1469 rfl (lv_at hl 0 rfl) ?_
  refine lv_iload hF.1 hF.2.1 dL_law_1470 (lv_at hl 5 rfl) ?_
  refine lv_iconst (v := 1) hF.1 hF.2.1 dL_law_1472 (by decide) ?_
  refine lv_iadd hF.1 hF.2.1 dL_law_1473 ?_
  obtain ⟨h_534, hw⟩ := hw
  refine va_sld hF.1 hF.2.1 hx hbl hbA hS h_534 dL_law_1474 ?_
  refine lv_aload_n hF.1 hF.2.1 dL_law_1475 rfl (lv_at hl 3 rfl) ?_
  obtain ⟨mc_537, ms_538, hc_539, hs_540, hw⟩ := hw
  refine lkx_i (hrx_SX (As := [.ref x1, .int (xs (Int32.toNatClampNeg (x5 + 1))), .ref x3]) (rest := []) hF hl.1 hC hP hS (metX0_isRatioByTeeth l hlt K mc_537 ms_538 _ _ _ X x1 (xs (Int32.toNatClampNeg (x5 + 1))) x3) (vx_cwSW 3 hF.2.2.2.2 (lw_SW q1203 q1204 q74 q1205) rfl rfl rfl (by decide +kernel) ⟨Nat.le_of_ble_eq_true rfl, Nat.le_of_ble_eq_true rfl⟩) hw rfl rfl (Nat.le_of_ble_eq_true rfl) dL_law_1476 ⟨hc_539, hs_540⟩) hP hM hD hS (fun r_535 X_536 H locs hw hP hM hD hS => ?_)
  refine lv_istore (lv' := [(6, .int r_535), (0, .ref b), (1, .ref x1), (2, .ref h), (3, .ref x3), (4, .ref x4), (5, .int x5)]) hF.1 hF.2.1 dL_law_1479 hl (by decide) rfl (fun ls hl => ?_)
  refine lv_aload_n hF.1 hF.2.1 dL_law_1481 rfl (lv_at hl 3 rfl) ?_
  refine lv_aload_n hF.1 hF.2.1 dL_law_1482 rfl (lv_at hl 1 rfl) ?_
  refine lv_iload hF.1 hF.2.1 dL_law_1483 (lv_at hl 6 rfl) ?_
  refine lv_iconst (v := 1) hF.1 hF.2.1 dL_law_1485 (by decide) ?_
  refine lv_iadd hF.1 hF.2.1 dL_law_1486 ?_
  obtain ⟨h_541, hw⟩ := hw
  refine va_sld hF.1 hF.2.1 hx hbl hbA hS h_541 dL_law_1487 ?_
  refine lm_i (As := [.int (xs (Int32.toNatClampNeg (x5 + 1)))]) (rest := []) hF hl.1 hC (metX3_isRatioByTeeth l K.1 h a hap _ F R L G (xs (Int32.toNatClampNeg (x5 + 1)))) (cwV 1 hF.2.2.2.2 (lw_V q2037 q2038 q2039 q85 q2040) rfl rfl rfl (by decide +kernel) ⟨Nat.le_of_ble_eq_true rfl, Nat.le_of_ble_eq_true rfl⟩) hP hM hD hS hmA hw rfl rfl (Nat.le_of_ble_eq_true rfl) dL_law_1488 ⟨hc_539, hs_540⟩ (fun r_542 F_543 R_544 L_545 G_546 H locs hw hP hM hS => ?_)
  refine lv_istore (lv' := [(7, .int r_542), (6, .int r_535), (0, .ref b), (1, .ref x1), (2, .ref h), (3, .ref x3), (4, .ref x4), (5, .int x5)]) hF.1 hF.2.1 dL_law_1491 hl (by decide) rfl (fun ls hl => ?_)
  refine lv_aload_n hF.1 hF.2.1 dL_law_1493 rfl (lv_at hl 4 rfl) ?_
  refine lm_i (As := []) (rest := []) hF hl.1 hC (metX3_thrown l K.1 h a hap _ F_543 R_544 L_545 G_546) (cwV 0 hF.2.2.2.2 (lw_V q1813 q1814 q1815 q85 q1816) rfl rfl rfl (by decide +kernel) ⟨Nat.le_of_ble_eq_true rfl, Nat.le_of_ble_eq_true rfl⟩) hP hM hD hS hmA hw rfl rfl (Nat.le_of_ble_eq_true rfl) dL_law_1494 ⟨hc_539, hs_540⟩ (fun r_547 F_548 R_549 L_550 G_551 H locs hw hP hM hS => ?_)
  refine lv_iload hF.1 hF.2.1 dL_law_1497 (lv_at hl 1 rfl) ?_
  refine lv_icmp_eq (tgt := 1504) hF.1 hF.2.1 dL_law_1499 (by decide) (fun c_552 => ?_) (fun c_552 => ?_)
  · have hw := hw.1 c_552
    refine lv_iload hF.1 hF.2.1 dL_law_1504 (lv_at hl 1 rfl) ?_
    refine lv_if_ne (tgt := 1528) hF.1 hF.2.1 dL_law_1506 (by decide) (fun c_553 => ?_) (fun c_553 => ?_)
    · have hw := hw.2 c_553
      exact Tl1528 l hlt K X0 hF hr hlocks hC hx hbl hA0 h a hap hmA _ hJ28 x1 x3 x4 x5 X_536 F_548 R_549 L_550 G_551 (kc + mc_537) (ks + ms_538) _ _ ls hP hM hD hS ⟨hc_539, hs_540⟩ (lv_sub hl [2, 3, 4, 5, 6, 7] rfl) hw
    · have hw := hw.1 c_553
      refine lv_aload_n hF.1 hF.2.1 dL_law_1509 rfl (lv_at hl 5 rfl) ?_
      refine lv_iconst (v := 0) hF.1 hF.2.1 dL_law_1510 (by decide) ?_
      obtain ⟨n_554, f_555, hx_556, hi_557, hw⟩ := hw
      refine x_lald hF hC hP hx_556 hi_557 dL_law_1511 ?_
      generalize f_555 (Int32.toNatClampNeg 0) = v_558 at hw ⊢
      refine lv_iload hF.1 hF.2.1 dL_law_1512 (lv_at hl 0 rfl) ?_
      refine lv_if_eq (tgt := 1521) hF.1 hF.2.1 dL_law_1514 (by decide) (fun c_559 => ?_) (fun c_559 => ?_)
      · have hw := hw.1 c_559
        refine lv_lconst (v := 0) hF.1 hF.2.1 dL_law_1521 (by decide) ?_
        exact Tl1522 l hlt K X0 hF hr hlocks hC hx hbl hA0 h a hap hmA _ hJ28 x1 x3 x4 x5 v_558 0 X_536 F_548 R_549 L_550 G_551 (kc + mc_537) (ks + ms_538) _ _ ls hP hM hD hS ⟨hc_539, hs_540⟩ (lv_sub hl [2, 3, 4, 5, 6, 7] rfl) hw
      · have hw := hw.2 c_559
        refine lv_lconst (v := 1) hF.1 hF.2.1 dL_law_1517 (by decide) ?_
        refine lv_goto (tgt := 1522) hF.1 hF.2.1 dL_law_1518 (by decide) ?_
        exact Tl1522 l hlt K X0 hF hr hlocks hC hx hbl hA0 h a hap hmA _ hJ28 x1 x3 x4 x5 v_558 1 X_536 F_548 R_549 L_550 G_551 (kc + mc_537) (ks + ms_538) _ _ ls hP hM hD hS ⟨hc_539, hs_540⟩ (lv_sub hl [2, 3, 4, 5, 6, 7] rfl) hw
  · have hw := hw.2 c_552
    refine lv_iconst (v := 0) hF.1 hF.2.1 dL_law_1502 (by decide) ?_
    exact l_end hF hr hlocks hA0 hS ⟨hc_539, hs_540⟩ dL_law_1503 hw
def wpL_1583 (E mc ms N : Nat) (xs : Nat → Int32) (J28 : Nat → Nat → Nat → Int32 → hX → mF → mR → mL → mG → Nat → Nat → Prop) (x1 : Nat) (x3 : Nat) (x4 : Nat) (x5 : Int32) (X : hX) (F : mF) (R : mR) (L : mL) (G : mG) (kc ks : Nat) : Prop := (∀ x5_560 : Int32, x5_560 = x5 + 5 → J28 x1 x3 x4 x5_560 X F R L G kc ks)
set_option maxHeartbeats 8000000 in
theorem Tl1583 {p : Program} {e : Env} {s : State} {m : MethodId} {below : List Frame} {meth : Method} {c : Code} (l : Launch) (hlt : l.stackTraces = false) (K : HK) {b N : Nat} {xs : Nat → Int32} (X0 : hX) (hF : CallFix p m c code 9 s #[Value.ref b] lw_all R_law) (hr : meth.sig.returnType = ret) (hlocks : meth.locks = false) (hC : HC K X0 s) (hx : va_X b N xs s s.heap) (hbl : b < s.heap.size) (hA0 : ∀ q, hA X0 s.heap.size q → s.heap.size ≤ q) (h : Nat) (a : Nat → Nat) (hap : mAp h a) (hmA : ∀ q, mA h a q → hA X0 s.heap.size q) (J28 : Nat → Nat → Nat → Int32 → hX → mF → mR → mL → mG → Nat → Nat → Prop) (hJ28 : ∀ (x1 : Nat) (x3 : Nat) (x4 : Nat) (x5 : Int32) (X : hX) (F : mF) (R : mR) (L : mL) (G : mG) (kc ks : Nat) (H : Heap) (locs : List Loc) (ls : Array Slot), hI K X0 s.heap.size X H → mP K.1 h a F R L G H → hdis X h a → va_S (hA X0 s.heap.size) s.heap H locs → kc ≤ 1200048 ∧ ks ≤ 5501818 → lv_has ls 9 [(0, .ref b), (1, .ref x1), (2, .ref h), (3, .ref x3), (4, .ref x4), (5, .int x5)] → J28 x1 x3 x4 x5 X F R L G kc ks → W p l e room_1 s m #[Value.ref b] below meth c H locs kc ks (lw_Z below #[Value.ref b] s) (F0 m 28 ls [])) : ∀ (x1 : Nat) (x3 : Nat) (x4 : Nat) (x5 : Int32) (X : hX) (F : mF) (R : mR) (L : mL) (G : mG) (kc ks : Nat) (H : Heap) (locs : List Loc) (ls : Array Slot), hI K X0 s.heap.size X H → mP K.1 h a F R L G H → hdis X h a → va_S (hA X0 s.heap.size) s.heap H locs → kc ≤ 1200048 ∧ ks ≤ 5501818 → lv_has ls 9 [(0, .ref b), (1, .ref x1), (2, .ref h), (3, .ref x3), (4, .ref x4), (5, .int x5)] → wpL_1583 (K.2.2 0) 1200048 5501818 N xs J28 x1 x3 x4 x5 X F R L G kc ks → W p l e room_1 s m #[Value.ref b] below meth c H locs kc ks (lw_Z below #[Value.ref b] s) (F0 m 1583 ls []) := by
  have hbA : ¬ hA X0 s.heap.size b := fun z => Nat.not_lt.mpr (hA0 b z) hbl
  intro x1 x3 x4 x5 X F R L G kc ks H locs ls hP hM hD hS hk hl hw
  unfold wpL_1583 at hw
  refine lv_goto (tgt := 3714) hF.1 hF.2.1 dL_law_1583 (by decide) ?_
  obtain ⟨x5_560, ex5_560⟩ : ∃ y : Int32, y = x5 + 5 := ⟨_, rfl⟩
  have hw := hw x5_560 ex5_560
  refine lv_iinc (v := x5_560) (lv' := [(5, .int x5_560), (0, .ref b), (1, .ref x1), (2, .ref h), (3, .ref x3), (4, .ref x4)]) hF.1 hF.2.1 dL_law_3714 hl (k := 5) rfl (by rw [ex5_560]; rfl) (by decide) rfl (fun ls hl => ?_)
  refine lv_goto (tgt := 28) hF.1 hF.2.1 dL_law_3717 (by decide) ?_
  exact hJ28 x1 x3 x4 x5_560 X F R L G kc ks _ _ ls hP hM hD hS hk (lv_sub hl [1, 2, 3, 4, 5, 0] rfl) hw
def wpL_1531 (E mc ms N : Nat) (xs : Nat → Int32) (J28 : Nat → Nat → Nat → Int32 → hX → mF → mR → mL → mG → Nat → Nat → Prop) (x1 : Nat) (x3 : Nat) (x4 : Nat) (x5 : Int32) (X : hX) (F : mF) (R : mR) (L : mL) (G : mG) (kc ks : Nat) : Prop := (vp_in (x5 + 1) N ∧ (∃ mc_564 ms_565 : Nat, kc + mc_564 ≤ mc ∧ ks + ms_565 ≤ ms ∧ wpX0_turnsOf (fun r_562 X_563 => (vp_in (x5 + 1) N ∧ wpX3_turnsOf (fun r_569 F_570 R_571 L_572 G_573 => wpX3_thrown (fun r_574 F_575 R_576 L_577 G_578 => ((r_574 = r_562 → ((r_562 = 0 → alJ X_563 x3 0 (fun v_585 => ((v_585 = r_569 → wpL_1583 E mc ms N xs J28 x1 x3 x4 x5 X_563 F_575 R_576 L_577 G_578 (kc + mc_564) (ks + ms_565)) ∧ (¬ v_585 = r_569 → (0 : Int32) = 1)))) ∧ (¬ r_562 = 0 → wpL_1583 E mc ms N xs J28 x1 x3 x4 x5 X_563 F_575 R_576 L_577 G_578 (kc + mc_564) (ks + ms_565)))) ∧ (¬ r_574 = r_562 → (0 : Int32) = 1))) F_570 R_571 L_572 G_573) F R L G (xs (Int32.toNatClampNeg (x5 + 1))))) (fun _ _ _ => False) E mc_564 ms_565 X x1 (xs (Int32.toNatClampNeg (x5 + 1))) x3))
set_option maxHeartbeats 8000000 in
theorem Tl1531 {p : Program} {e : Env} {s : State} {m : MethodId} {below : List Frame} {meth : Method} {c : Code} (l : Launch) (hlt : l.stackTraces = false) (K : HK) {b N : Nat} {xs : Nat → Int32} (X0 : hX) (hF : CallFix p m c code 9 s #[Value.ref b] lw_all R_law) (hr : meth.sig.returnType = ret) (hlocks : meth.locks = false) (hC : HC K X0 s) (hx : va_X b N xs s s.heap) (hbl : b < s.heap.size) (hA0 : ∀ q, hA X0 s.heap.size q → s.heap.size ≤ q) (h : Nat) (a : Nat → Nat) (hap : mAp h a) (hmA : ∀ q, mA h a q → hA X0 s.heap.size q) (J28 : Nat → Nat → Nat → Int32 → hX → mF → mR → mL → mG → Nat → Nat → Prop) (hJ28 : ∀ (x1 : Nat) (x3 : Nat) (x4 : Nat) (x5 : Int32) (X : hX) (F : mF) (R : mR) (L : mL) (G : mG) (kc ks : Nat) (H : Heap) (locs : List Loc) (ls : Array Slot), hI K X0 s.heap.size X H → mP K.1 h a F R L G H → hdis X h a → va_S (hA X0 s.heap.size) s.heap H locs → kc ≤ 1200048 ∧ ks ≤ 5501818 → lv_has ls 9 [(0, .ref b), (1, .ref x1), (2, .ref h), (3, .ref x3), (4, .ref x4), (5, .int x5)] → J28 x1 x3 x4 x5 X F R L G kc ks → W p l e room_1 s m #[Value.ref b] below meth c H locs kc ks (lw_Z below #[Value.ref b] s) (F0 m 28 ls [])) : ∀ (x1 : Nat) (x3 : Nat) (x4 : Nat) (x5 : Int32) (X : hX) (F : mF) (R : mR) (L : mL) (G : mG) (kc ks : Nat) (H : Heap) (locs : List Loc) (ls : Array Slot), hI K X0 s.heap.size X H → mP K.1 h a F R L G H → hdis X h a → va_S (hA X0 s.heap.size) s.heap H locs → kc ≤ 1200048 ∧ ks ≤ 5501818 → lv_has ls 9 [(0, .ref b), (1, .ref x1), (2, .ref h), (3, .ref x3), (4, .ref x4), (5, .int x5)] → wpL_1531 (K.2.2 0) 1200048 5501818 N xs J28 x1 x3 x4 x5 X F R L G kc ks → W p l e room_1 s m #[Value.ref b] below meth c H locs kc ks (lw_Z below #[Value.ref b] s) (F0 m 1531 ls []) := by
  have hbA : ¬ hA X0 s.heap.size b := fun z => Nat.not_lt.mpr (hA0 b z) hbl
  intro x1 x3 x4 x5 X F R L G kc ks H locs ls hP hM hD hS hk hl hw
  unfold wpL_1531 at hw
  refine lv_aload_n hF.1 hF.2.1 dL_law_1531 rfl (lv_at hl 1 rfl) ?_
  refine lv_aload_n hF.1 hF.2.1 dL_law_1532 rfl (lv_at hl 0 rfl) ?_
  refine lv_iload hF.1 hF.2.1 dL_law_1533 (lv_at hl 5 rfl) ?_
  refine lv_iconst (v := 1) hF.1 hF.2.1 dL_law_1535 (by decide) ?_
  refine lv_iadd hF.1 hF.2.1 dL_law_1536 ?_
  obtain ⟨h_561, hw⟩ := hw
  refine va_sld hF.1 hF.2.1 hx hbl hbA hS h_561 dL_law_1537 ?_
  refine lv_aload_n hF.1 hF.2.1 dL_law_1538 rfl (lv_at hl 3 rfl) ?_
  obtain ⟨mc_564, ms_565, hc_566, hs_567, hw⟩ := hw
  refine lkx_i (hrx_SX (As := [.ref x1, .int (xs (Int32.toNatClampNeg (x5 + 1))), .ref x3]) (rest := []) hF hl.1 hC hP hS (metX0_turnsOf l hlt K mc_564 ms_565 _ _ _ X x1 (xs (Int32.toNatClampNeg (x5 + 1))) x3) (vx_cwSW 3 hF.2.2.2.2 (lw_SW q1214 q1215 q74 q1216) rfl rfl rfl (by decide +kernel) ⟨Nat.le_of_ble_eq_true rfl, Nat.le_of_ble_eq_true rfl⟩) hw rfl rfl (Nat.le_of_ble_eq_true rfl) dL_law_1539 ⟨hc_566, hs_567⟩) hP hM hD hS (fun r_562 X_563 H locs hw hP hM hD hS => ?_)
  refine lv_istore (lv' := [(6, .int r_562), (0, .ref b), (1, .ref x1), (2, .ref h), (3, .ref x3), (4, .ref x4), (5, .int x5)]) hF.1 hF.2.1 dL_law_1542 hl (by decide) rfl (fun ls hl => ?_)
  refine lv_aload_n hF.1 hF.2.1 dL_law_1544 rfl (lv_at hl 3 rfl) ?_
  refine lv_aload_n hF.1 hF.2.1 dL_law_1545 rfl (lv_at hl 1 rfl) ?_
  refine lv_iload hF.1 hF.2.1 dL_law_1546 (lv_at hl 6 rfl) ?_
  refine lv_iconst (v := 1) hF.1 hF.2.1 dL_law_1548 (by decide) ?_
  refine lv_iadd hF.1 hF.2.1 dL_law_1549 ?_
  obtain ⟨h_568, hw⟩ := hw
  refine va_sld hF.1 hF.2.1 hx hbl hbA hS h_568 dL_law_1550 ?_
  refine lm_l (As := [.int (xs (Int32.toNatClampNeg (x5 + 1)))]) (rest := []) hF hl.1 hC (metX3_turnsOf l K.1 h a hap _ F R L G (xs (Int32.toNatClampNeg (x5 + 1)))) (cwV 1 hF.2.2.2.2 (lw_V q2041 q2042 q2043 q85 q2044) rfl rfl rfl (by decide +kernel) ⟨Nat.le_of_ble_eq_true rfl, Nat.le_of_ble_eq_true rfl⟩) hP hM hD hS hmA hw rfl rfl (Nat.le_of_ble_eq_true rfl) dL_law_1551 ⟨hc_566, hs_567⟩ (fun r_569 F_570 R_571 L_572 G_573 H locs hw hP hM hS => ?_)
  refine lv_lstore (lv' := [(7, .long r_569), (6, .int r_562), (0, .ref b), (1, .ref x1), (2, .ref h), (3, .ref x3), (4, .ref x4), (5, .int x5)]) hF.1 hF.2.1 dL_law_1554 hl (by decide) rfl (fun ls hl => ?_)
  refine lv_aload_n hF.1 hF.2.1 dL_law_1556 rfl (lv_at hl 4 rfl) ?_
  refine lm_i (As := []) (rest := []) hF hl.1 hC (metX3_thrown l K.1 h a hap _ F_570 R_571 L_572 G_573) (cwV 0 hF.2.2.2.2 (lw_V q1813 q1814 q1815 q85 q1816) rfl rfl rfl (by decide +kernel) ⟨Nat.le_of_ble_eq_true rfl, Nat.le_of_ble_eq_true rfl⟩) hP hM hD hS hmA hw rfl rfl (Nat.le_of_ble_eq_true rfl) dL_law_1557 ⟨hc_566, hs_567⟩ (fun r_574 F_575 R_576 L_577 G_578 H locs hw hP hM hS => ?_)
  refine lv_iload hF.1 hF.2.1 dL_law_1560 (lv_at hl 1 rfl) ?_
  refine lv_icmp_eq (tgt := 1567) hF.1 hF.2.1 dL_law_1562 (by decide) (fun c_579 => ?_) (fun c_579 => ?_)
  · have hw := hw.1 c_579
    refine lv_iload hF.1 hF.2.1 dL_law_1567 (lv_at hl 1 rfl) ?_
    refine lv_if_ne (tgt := 1583) hF.1 hF.2.1 dL_law_1569 (by decide) (fun c_580 => ?_) (fun c_580 => ?_)
    · have hw := hw.2 c_580
      exact Tl1583 l hlt K X0 hF hr hlocks hC hx hbl hA0 h a hap hmA _ hJ28 x1 x3 x4 x5 X_563 F_575 R_576 L_577 G_578 (kc + mc_564) (ks + ms_565) _ _ ls hP hM hD hS ⟨hc_566, hs_567⟩ (lv_sub hl [2, 3, 4, 5, 6, 7] rfl) hw
    · have hw := hw.1 c_580
      refine lv_aload_n hF.1 hF.2.1 dL_law_1572 rfl (lv_at hl 5 rfl) ?_
      refine lv_iconst (v := 0) hF.1 hF.2.1 dL_law_1573 (by decide) ?_
      obtain ⟨n_581, f_582, hx_583, hi_584, hw⟩ := hw
      refine x_lald hF hC hP hx_583 hi_584 dL_law_1574 ?_
      generalize f_582 (Int32.toNatClampNeg 0) = v_585 at hw ⊢
      refine lv_lload hF.1 hF.2.1 dL_law_1575 (lv_at hl 0 rfl) ?_
      refine W.lcmp hF.1 hF.2.1 dL_law_1577 ?_
      refine lv_if_eq (tgt := 1583) hF.1 hF.2.1 dL_law_1578 (by decide) (fun c_586 => ?_) (fun c_586 => ?_)
      · rw [lc_eq] at c_586
        have hw := hw.1 c_586
        exact Tl1583 l hlt K X0 hF hr hlocks hC hx hbl hA0 h a hap hmA _ hJ28 x1 x3 x4 x5 X_563 F_575 R_576 L_577 G_578 (kc + mc_564) (ks + ms_565) _ _ ls hP hM hD hS ⟨hc_566, hs_567⟩ (lv_sub hl [2, 3, 4, 5, 6, 7] rfl) hw
      · rw [lc_eq] at c_586
        have hw := hw.2 c_586
        refine lv_iconst (v := 0) hF.1 hF.2.1 dL_law_1581 (by decide) ?_
        exact l_end hF hr hlocks hA0 hS ⟨hc_566, hs_567⟩ dL_law_1582 hw
  · have hw := hw.2 c_579
    refine lv_iconst (v := 0) hF.1 hF.2.1 dL_law_1565 (by decide) ?_
    exact l_end hF hr hlocks hA0 hS ⟨hc_566, hs_567⟩ dL_law_1566 hw
def wpL_1667 (E mc ms N : Nat) (xs : Nat → Int32) (J28 : Nat → Nat → Nat → Int32 → hX → mF → mR → mL → mG → Nat → Nat → Prop) (x1 : Nat) (x3 : Nat) (x4 : Nat) (x5 : Int32) (X : hX) (F : mF) (R : mR) (L : mL) (G : mG) (kc ks : Nat) : Prop := (∀ x5_587 : Int32, x5_587 = x5 + 5 → J28 x1 x3 x4 x5_587 X F R L G kc ks)
set_option maxHeartbeats 8000000 in
theorem Tl1667 {p : Program} {e : Env} {s : State} {m : MethodId} {below : List Frame} {meth : Method} {c : Code} (l : Launch) (hlt : l.stackTraces = false) (K : HK) {b N : Nat} {xs : Nat → Int32} (X0 : hX) (hF : CallFix p m c code 9 s #[Value.ref b] lw_all R_law) (hr : meth.sig.returnType = ret) (hlocks : meth.locks = false) (hC : HC K X0 s) (hx : va_X b N xs s s.heap) (hbl : b < s.heap.size) (hA0 : ∀ q, hA X0 s.heap.size q → s.heap.size ≤ q) (h : Nat) (a : Nat → Nat) (hap : mAp h a) (hmA : ∀ q, mA h a q → hA X0 s.heap.size q) (J28 : Nat → Nat → Nat → Int32 → hX → mF → mR → mL → mG → Nat → Nat → Prop) (hJ28 : ∀ (x1 : Nat) (x3 : Nat) (x4 : Nat) (x5 : Int32) (X : hX) (F : mF) (R : mR) (L : mL) (G : mG) (kc ks : Nat) (H : Heap) (locs : List Loc) (ls : Array Slot), hI K X0 s.heap.size X H → mP K.1 h a F R L G H → hdis X h a → va_S (hA X0 s.heap.size) s.heap H locs → kc ≤ 1200048 ∧ ks ≤ 5501818 → lv_has ls 9 [(0, .ref b), (1, .ref x1), (2, .ref h), (3, .ref x3), (4, .ref x4), (5, .int x5)] → J28 x1 x3 x4 x5 X F R L G kc ks → W p l e room_1 s m #[Value.ref b] below meth c H locs kc ks (lw_Z below #[Value.ref b] s) (F0 m 28 ls [])) : ∀ (x1 : Nat) (x3 : Nat) (x4 : Nat) (x5 : Int32) (X : hX) (F : mF) (R : mR) (L : mL) (G : mG) (kc ks : Nat) (H : Heap) (locs : List Loc) (ls : Array Slot), hI K X0 s.heap.size X H → mP K.1 h a F R L G H → hdis X h a → va_S (hA X0 s.heap.size) s.heap H locs → kc ≤ 1200048 ∧ ks ≤ 5501818 → lv_has ls 9 [(0, .ref b), (1, .ref x1), (2, .ref h), (3, .ref x3), (4, .ref x4), (5, .int x5)] → wpL_1667 (K.2.2 0) 1200048 5501818 N xs J28 x1 x3 x4 x5 X F R L G kc ks → W p l e room_1 s m #[Value.ref b] below meth c H locs kc ks (lw_Z below #[Value.ref b] s) (F0 m 1667 ls []) := by
  have hbA : ¬ hA X0 s.heap.size b := fun z => Nat.not_lt.mpr (hA0 b z) hbl
  intro x1 x3 x4 x5 X F R L G kc ks H locs ls hP hM hD hS hk hl hw
  unfold wpL_1667 at hw
  refine lv_goto (tgt := 3714) hF.1 hF.2.1 dL_law_1667 (by decide) ?_
  obtain ⟨x5_587, ex5_587⟩ : ∃ y : Int32, y = x5 + 5 := ⟨_, rfl⟩
  have hw := hw x5_587 ex5_587
  refine lv_iinc (v := x5_587) (lv' := [(5, .int x5_587), (0, .ref b), (1, .ref x1), (2, .ref h), (3, .ref x3), (4, .ref x4)]) hF.1 hF.2.1 dL_law_3714 hl (k := 5) rfl (by rw [ex5_587]; rfl) (by decide) rfl (fun ls hl => ?_)
  refine lv_goto (tgt := 28) hF.1 hF.2.1 dL_law_3717 (by decide) ?_
  exact hJ28 x1 x3 x4 x5_587 X F R L G kc ks _ _ ls hP hM hD hS hk (lv_sub hl [1, 2, 3, 4, 5, 0] rfl) hw
def wpL_1634 (E mc ms N : Nat) (xs : Nat → Int32) (J28 : Nat → Nat → Nat → Int32 → hX → mF → mR → mL → mG → Nat → Nat → Prop) (x1 : Nat) (x3 : Nat) (x4 : Nat) (x5 : Int32) (x6 : Int32) (z1 : Int32) (z2 : Int32) (X : hX) (F : mF) (R : mR) (L : mL) (G : mG) (kc ks : Nat) : Prop := wpX3_wheelOf (fun r_588 F_589 R_590 L_591 G_592 => wpX3_thrown (fun r_593 F_594 R_595 L_596 G_597 => ((r_593 = x6 → ((x6 = 0 → alJ X x3 0 (fun v_604 => ((v_604 = (Int32.toInt64 r_588) → wpL_1667 E mc ms N xs J28 x1 x3 x4 x5 X F_594 R_595 L_596 G_597 kc ks) ∧ (¬ v_604 = (Int32.toInt64 r_588) → (0 : Int32) = 1)))) ∧ (¬ x6 = 0 → wpL_1667 E mc ms N xs J28 x1 x3 x4 x5 X F_594 R_595 L_596 G_597 kc ks))) ∧ (¬ r_593 = x6 → (0 : Int32) = 1))) F_589 R_590 L_591 G_592) F R L G z1 z2
set_option maxHeartbeats 8000000 in
theorem Tl1634 {p : Program} {e : Env} {s : State} {m : MethodId} {below : List Frame} {meth : Method} {c : Code} (l : Launch) (hlt : l.stackTraces = false) (K : HK) {b N : Nat} {xs : Nat → Int32} (X0 : hX) (hF : CallFix p m c code 9 s #[Value.ref b] lw_all R_law) (hr : meth.sig.returnType = ret) (hlocks : meth.locks = false) (hC : HC K X0 s) (hx : va_X b N xs s s.heap) (hbl : b < s.heap.size) (hA0 : ∀ q, hA X0 s.heap.size q → s.heap.size ≤ q) (h : Nat) (a : Nat → Nat) (hap : mAp h a) (hmA : ∀ q, mA h a q → hA X0 s.heap.size q) (J28 : Nat → Nat → Nat → Int32 → hX → mF → mR → mL → mG → Nat → Nat → Prop) (hJ28 : ∀ (x1 : Nat) (x3 : Nat) (x4 : Nat) (x5 : Int32) (X : hX) (F : mF) (R : mR) (L : mL) (G : mG) (kc ks : Nat) (H : Heap) (locs : List Loc) (ls : Array Slot), hI K X0 s.heap.size X H → mP K.1 h a F R L G H → hdis X h a → va_S (hA X0 s.heap.size) s.heap H locs → kc ≤ 1200048 ∧ ks ≤ 5501818 → lv_has ls 9 [(0, .ref b), (1, .ref x1), (2, .ref h), (3, .ref x3), (4, .ref x4), (5, .int x5)] → J28 x1 x3 x4 x5 X F R L G kc ks → W p l e room_1 s m #[Value.ref b] below meth c H locs kc ks (lw_Z below #[Value.ref b] s) (F0 m 28 ls [])) : ∀ (x1 : Nat) (x3 : Nat) (x4 : Nat) (x5 : Int32) (x6 : Int32) (z1 : Int32) (z2 : Int32) (X : hX) (F : mF) (R : mR) (L : mL) (G : mG) (kc ks : Nat) (H : Heap) (locs : List Loc) (ls : Array Slot), hI K X0 s.heap.size X H → mP K.1 h a F R L G H → hdis X h a → va_S (hA X0 s.heap.size) s.heap H locs → kc ≤ 1200048 ∧ ks ≤ 5501818 → lv_has ls 9 [(0, .ref b), (1, .ref x1), (2, .ref h), (3, .ref x3), (4, .ref x4), (5, .int x5), (6, .int x6)] → wpL_1634 (K.2.2 0) 1200048 5501818 N xs J28 x1 x3 x4 x5 x6 z1 z2 X F R L G kc ks → W p l e room_1 s m #[Value.ref b] below meth c H locs kc ks (lw_Z below #[Value.ref b] s) (F0 m 1634 ls [.int z2, .int z1, .ref h]) := by
  have hbA : ¬ hA X0 s.heap.size b := fun z => Nat.not_lt.mpr (hA0 b z) hbl
  intro x1 x3 x4 x5 x6 z1 z2 X F R L G kc ks H locs ls hP hM hD hS hk hl hw
  unfold wpL_1634 at hw
  refine lm_i (As := [.int z1, .int z2]) (rest := []) hF hl.1 hC (metX3_wheelOf l K.1 h a hap _ F R L G z1 z2) (cwV 2 hF.2.2.2.2 (lw_V q2049 q2050 q2051 q85 q2052) rfl rfl rfl (by decide +kernel) ⟨Nat.le_of_ble_eq_true rfl, Nat.le_of_ble_eq_true rfl⟩) hP hM hD hS hmA hw rfl rfl (Nat.le_of_ble_eq_true rfl) dL_law_1634 hk (fun r_588 F_589 R_590 L_591 G_592 H locs hw hP hM hS => ?_)
  refine lv_istore (lv' := [(7, .int r_588), (0, .ref b), (1, .ref x1), (2, .ref h), (3, .ref x3), (4, .ref x4), (5, .int x5), (6, .int x6)]) hF.1 hF.2.1 dL_law_1637 hl (by decide) rfl (fun ls hl => ?_)
  refine lv_aload_n hF.1 hF.2.1 dL_law_1639 rfl (lv_at hl 3 rfl) ?_
  refine lm_i (As := []) (rest := []) hF hl.1 hC (metX3_thrown l K.1 h a hap _ F_589 R_590 L_591 G_592) (cwV 0 hF.2.2.2.2 (lw_V q1813 q1814 q1815 q85 q1816) rfl rfl rfl (by decide +kernel) ⟨Nat.le_of_ble_eq_true rfl, Nat.le_of_ble_eq_true rfl⟩) hP hM hD hS hmA hw rfl rfl (Nat.le_of_ble_eq_true rfl) dL_law_1640 hk (fun r_593 F_594 R_595 L_596 G_597 H locs hw hP hM hS => ?_)
  refine lv_iload hF.1 hF.2.1 dL_law_1643 (lv_at hl 7 rfl) ?_
  refine lv_icmp_eq (tgt := 1650) hF.1 hF.2.1 dL_law_1645 (by decide) (fun c_598 => ?_) (fun c_598 => ?_)
  · have hw := hw.1 c_598
    refine lv_iload hF.1 hF.2.1 dL_law_1650 (lv_at hl 7 rfl) ?_
    refine lv_if_ne (tgt := 1667) hF.1 hF.2.1 dL_law_1652 (by decide) (fun c_599 => ?_) (fun c_599 => ?_)
    · have hw := hw.2 c_599
      exact Tl1667 l hlt K X0 hF hr hlocks hC hx hbl hA0 h a hap hmA _ hJ28 x1 x3 x4 x5 X F_594 R_595 L_596 G_597 kc ks _ _ ls hP hM hD hS hk (lv_sub hl [1, 2, 3, 4, 5, 6] rfl) hw
    · have hw := hw.1 c_599
      refine lv_aload_n hF.1 hF.2.1 dL_law_1655 rfl (lv_at hl 4 rfl) ?_
      refine lv_iconst (v := 0) hF.1 hF.2.1 dL_law_1656 (by decide) ?_
      obtain ⟨n_600, f_601, hx_602, hi_603, hw⟩ := hw
      refine x_lald hF hC hP hx_602 hi_603 dL_law_1657 ?_
      generalize f_601 (Int32.toNatClampNeg 0) = v_604 at hw ⊢
      refine lv_iload hF.1 hF.2.1 dL_law_1658 (lv_at hl 0 rfl) ?_
      refine lv_i2l hF.1 hF.2.1 dL_law_1660 rfl ?_
      refine W.lcmp hF.1 hF.2.1 dL_law_1661 ?_
      refine lv_if_eq (tgt := 1667) hF.1 hF.2.1 dL_law_1662 (by decide) (fun c_605 => ?_) (fun c_605 => ?_)
      · rw [lc_eq] at c_605
        have hw := hw.1 c_605
        exact Tl1667 l hlt K X0 hF hr hlocks hC hx hbl hA0 h a hap hmA _ hJ28 x1 x3 x4 x5 X F_594 R_595 L_596 G_597 kc ks _ _ ls hP hM hD hS hk (lv_sub hl [1, 2, 3, 4, 5, 6] rfl) hw
      · rw [lc_eq] at c_605
        have hw := hw.2 c_605
        refine lv_iconst (v := 0) hF.1 hF.2.1 dL_law_1665 (by decide) ?_
        exact l_end hF hr hlocks hA0 hS hk dL_law_1666 hw
  · have hw := hw.2 c_598
    refine lv_iconst (v := 0) hF.1 hF.2.1 dL_law_1648 (by decide) ?_
    exact l_end hF hr hlocks hA0 hS hk dL_law_1649 hw
def wpL_1607 (E mc ms N : Nat) (xs : Nat → Int32) (J28 : Nat → Nat → Nat → Int32 → hX → mF → mR → mL → mG → Nat → Nat → Prop) (x1 : Nat) (x3 : Nat) (x4 : Nat) (x5 : Int32) (z0 : Nat) (z1 : Int32) (z2 : Int32) (X : hX) (F : mF) (R : mR) (L : mL) (G : mG) (kc ks : Nat) : Prop := (∃ mc_608 ms_609 : Nat, kc + mc_608 ≤ mc ∧ ks + ms_609 ≤ ms ∧ wpX0_wheelOf (fun r_606 X_607 => (vp_in (x5 + 1) N ∧ (vp_in (x5 + 2) N ∧ (((xs (Int32.toNatClampNeg (x5 + 2))) = 0 → wpL_1634 E mc ms N xs J28 x1 x3 x4 x5 r_606 (xs (Int32.toNatClampNeg (x5 + 1))) 0 X_607 F R L G (kc + mc_608) (ks + ms_609)) ∧ (¬ (xs (Int32.toNatClampNeg (x5 + 2))) = 0 → wpL_1634 E mc ms N xs J28 x1 x3 x4 x5 r_606 (xs (Int32.toNatClampNeg (x5 + 1))) 1 X_607 F R L G (kc + mc_608) (ks + ms_609)))))) (fun _ _ _ => False) E mc_608 ms_609 X z0 z1 z2 x3)
set_option maxHeartbeats 8000000 in
theorem Tl1607 {p : Program} {e : Env} {s : State} {m : MethodId} {below : List Frame} {meth : Method} {c : Code} (l : Launch) (hlt : l.stackTraces = false) (K : HK) {b N : Nat} {xs : Nat → Int32} (X0 : hX) (hF : CallFix p m c code 9 s #[Value.ref b] lw_all R_law) (hr : meth.sig.returnType = ret) (hlocks : meth.locks = false) (hC : HC K X0 s) (hx : va_X b N xs s s.heap) (hbl : b < s.heap.size) (hA0 : ∀ q, hA X0 s.heap.size q → s.heap.size ≤ q) (h : Nat) (a : Nat → Nat) (hap : mAp h a) (hmA : ∀ q, mA h a q → hA X0 s.heap.size q) (J28 : Nat → Nat → Nat → Int32 → hX → mF → mR → mL → mG → Nat → Nat → Prop) (hJ28 : ∀ (x1 : Nat) (x3 : Nat) (x4 : Nat) (x5 : Int32) (X : hX) (F : mF) (R : mR) (L : mL) (G : mG) (kc ks : Nat) (H : Heap) (locs : List Loc) (ls : Array Slot), hI K X0 s.heap.size X H → mP K.1 h a F R L G H → hdis X h a → va_S (hA X0 s.heap.size) s.heap H locs → kc ≤ 1200048 ∧ ks ≤ 5501818 → lv_has ls 9 [(0, .ref b), (1, .ref x1), (2, .ref h), (3, .ref x3), (4, .ref x4), (5, .int x5)] → J28 x1 x3 x4 x5 X F R L G kc ks → W p l e room_1 s m #[Value.ref b] below meth c H locs kc ks (lw_Z below #[Value.ref b] s) (F0 m 28 ls [])) : ∀ (x1 : Nat) (x3 : Nat) (x4 : Nat) (x5 : Int32) (z0 : Nat) (z1 : Int32) (z2 : Int32) (X : hX) (F : mF) (R : mR) (L : mL) (G : mG) (kc ks : Nat) (H : Heap) (locs : List Loc) (ls : Array Slot), hI K X0 s.heap.size X H → mP K.1 h a F R L G H → hdis X h a → va_S (hA X0 s.heap.size) s.heap H locs → kc ≤ 1200048 ∧ ks ≤ 5501818 → lv_has ls 9 [(0, .ref b), (1, .ref x1), (2, .ref h), (3, .ref x3), (4, .ref x4), (5, .int x5)] → wpL_1607 (K.2.2 0) 1200048 5501818 N xs J28 x1 x3 x4 x5 z0 z1 z2 X F R L G kc ks → W p l e room_1 s m #[Value.ref b] below meth c H locs kc ks (lw_Z below #[Value.ref b] s) (F0 m 1607 ls [.int z2, .int z1, .ref z0]) := by
  have hbA : ¬ hA X0 s.heap.size b := fun z => Nat.not_lt.mpr (hA0 b z) hbl
  intro x1 x3 x4 x5 z0 z1 z2 X F R L G kc ks H locs ls hP hM hD hS hk hl hw
  unfold wpL_1607 at hw
  refine lv_aload_n hF.1 hF.2.1 dL_law_1607 rfl (lv_at hl 3 rfl) ?_
  obtain ⟨mc_608, ms_609, hc_610, hs_611, hw⟩ := hw
  refine lkx_i (hrx_SX (As := [.ref z0, .int z1, .int z2, .ref x3]) (rest := []) hF hl.1 hC hP hS (metX0_wheelOf l hlt K mc_608 ms_609 _ _ _ X z0 z1 z2 x3) (vx_cwSW 4 hF.2.2.2.2 (lw_SW q1221 q1222 q74 q1223) rfl rfl rfl (by decide +kernel) ⟨Nat.le_of_ble_eq_true rfl, Nat.le_of_ble_eq_true rfl⟩) hw rfl rfl (Nat.le_of_ble_eq_true rfl) dL_law_1608 ⟨hc_610, hs_611⟩) hP hM hD hS (fun r_606 X_607 H locs hw hP hM hD hS => ?_)
  refine lv_istore (lv' := [(6, .int r_606), (0, .ref b), (1, .ref x1), (2, .ref h), (3, .ref x3), (4, .ref x4), (5, .int x5)]) hF.1 hF.2.1 dL_law_1611 hl (by decide) rfl (fun ls hl => ?_)
  refine lv_aload_n hF.1 hF.2.1 dL_law_1613 rfl (lv_at hl 3 rfl) ?_
  refine lv_aload_n hF.1 hF.2.1 dL_law_1614 rfl (lv_at hl 1 rfl) ?_
  refine lv_iload hF.1 hF.2.1 dL_law_1615 (lv_at hl 6 rfl) ?_
  refine lv_iconst (v := 1) hF.1 hF.2.1 dL_law_1617 (by decide) ?_
  refine lv_iadd hF.1 hF.2.1 dL_law_1618 ?_
  obtain ⟨h_612, hw⟩ := hw
  refine va_sld hF.1 hF.2.1 hx hbl hbA hS h_612 dL_law_1619 ?_
  refine lv_aload_n hF.1 hF.2.1 dL_law_1620 rfl (lv_at hl 1 rfl) ?_
  refine lv_iload hF.1 hF.2.1 dL_law_1621 (lv_at hl 6 rfl) ?_
  refine lv_iconst (v := 2) hF.1 hF.2.1 dL_law_1623 (by decide) ?_
  refine lv_iadd hF.1 hF.2.1 dL_law_1624 ?_
  obtain ⟨h_613, hw⟩ := hw
  refine va_sld hF.1 hF.2.1 hx hbl hbA hS h_613 dL_law_1625 ?_
  refine lv_if_eq (tgt := 1633) hF.1 hF.2.1 dL_law_1626 (by decide) (fun c_614 => ?_) (fun c_614 => ?_)
  · have hw := hw.1 c_614
    refine lv_iconst (v := 0) hF.1 hF.2.1 dL_law_1633 (by decide) ?_
    exact Tl1634 l hlt K X0 hF hr hlocks hC hx hbl hA0 h a hap hmA _ hJ28 x1 x3 x4 x5 r_606 (xs (Int32.toNatClampNeg (x5 + 1))) 0 X_607 F R L G (kc + mc_608) (ks + ms_609) _ _ ls hP hM hD hS ⟨hc_610, hs_611⟩ (lv_sub hl [1, 2, 3, 4, 5, 6, 0] rfl) hw
  · have hw := hw.2 c_614
    refine lv_iconst (v := 1) hF.1 hF.2.1 dL_law_1629 (by decide) ?_
    refine lv_goto (tgt := 1634) hF.1 hF.2.1 dL_law_1630 (by decide) ?_
    exact Tl1634 l hlt K X0 hF hr hlocks hC hx hbl hA0 h a hap hmA _ hJ28 x1 x3 x4 x5 r_606 (xs (Int32.toNatClampNeg (x5 + 1))) 1 X_607 F R L G (kc + mc_608) (ks + ms_609) _ _ ls hP hM hD hS ⟨hc_610, hs_611⟩ (lv_sub hl [1, 2, 3, 4, 5, 6, 0] rfl) hw
def wpL_1586 (E mc ms N : Nat) (xs : Nat → Int32) (J28 : Nat → Nat → Nat → Int32 → hX → mF → mR → mL → mG → Nat → Nat → Prop) (x1 : Nat) (x3 : Nat) (x4 : Nat) (x5 : Int32) (X : hX) (F : mF) (R : mR) (L : mL) (G : mG) (kc ks : Nat) : Prop := (vp_in (x5 + 1) N ∧ (vp_in (x5 + 2) N ∧ (((xs (Int32.toNatClampNeg (x5 + 2))) = 0 → wpL_1607 E mc ms N xs J28 x1 x3 x4 x5 x1 (xs (Int32.toNatClampNeg (x5 + 1))) 0 X F R L G kc ks) ∧ (¬ (xs (Int32.toNatClampNeg (x5 + 2))) = 0 → wpL_1607 E mc ms N xs J28 x1 x3 x4 x5 x1 (xs (Int32.toNatClampNeg (x5 + 1))) 1 X F R L G kc ks))))
set_option maxHeartbeats 8000000 in
theorem Tl1586 {p : Program} {e : Env} {s : State} {m : MethodId} {below : List Frame} {meth : Method} {c : Code} (l : Launch) (hlt : l.stackTraces = false) (K : HK) {b N : Nat} {xs : Nat → Int32} (X0 : hX) (hF : CallFix p m c code 9 s #[Value.ref b] lw_all R_law) (hr : meth.sig.returnType = ret) (hlocks : meth.locks = false) (hC : HC K X0 s) (hx : va_X b N xs s s.heap) (hbl : b < s.heap.size) (hA0 : ∀ q, hA X0 s.heap.size q → s.heap.size ≤ q) (h : Nat) (a : Nat → Nat) (hap : mAp h a) (hmA : ∀ q, mA h a q → hA X0 s.heap.size q) (J28 : Nat → Nat → Nat → Int32 → hX → mF → mR → mL → mG → Nat → Nat → Prop) (hJ28 : ∀ (x1 : Nat) (x3 : Nat) (x4 : Nat) (x5 : Int32) (X : hX) (F : mF) (R : mR) (L : mL) (G : mG) (kc ks : Nat) (H : Heap) (locs : List Loc) (ls : Array Slot), hI K X0 s.heap.size X H → mP K.1 h a F R L G H → hdis X h a → va_S (hA X0 s.heap.size) s.heap H locs → kc ≤ 1200048 ∧ ks ≤ 5501818 → lv_has ls 9 [(0, .ref b), (1, .ref x1), (2, .ref h), (3, .ref x3), (4, .ref x4), (5, .int x5)] → J28 x1 x3 x4 x5 X F R L G kc ks → W p l e room_1 s m #[Value.ref b] below meth c H locs kc ks (lw_Z below #[Value.ref b] s) (F0 m 28 ls [])) : ∀ (x1 : Nat) (x3 : Nat) (x4 : Nat) (x5 : Int32) (X : hX) (F : mF) (R : mR) (L : mL) (G : mG) (kc ks : Nat) (H : Heap) (locs : List Loc) (ls : Array Slot), hI K X0 s.heap.size X H → mP K.1 h a F R L G H → hdis X h a → va_S (hA X0 s.heap.size) s.heap H locs → kc ≤ 1200048 ∧ ks ≤ 5501818 → lv_has ls 9 [(0, .ref b), (1, .ref x1), (2, .ref h), (3, .ref x3), (4, .ref x4), (5, .int x5)] → wpL_1586 (K.2.2 0) 1200048 5501818 N xs J28 x1 x3 x4 x5 X F R L G kc ks → W p l e room_1 s m #[Value.ref b] below meth c H locs kc ks (lw_Z below #[Value.ref b] s) (F0 m 1586 ls []) := by
  have hbA : ¬ hA X0 s.heap.size b := fun z => Nat.not_lt.mpr (hA0 b z) hbl
  intro x1 x3 x4 x5 X F R L G kc ks H locs ls hP hM hD hS hk hl hw
  unfold wpL_1586 at hw
  refine lv_aload_n hF.1 hF.2.1 dL_law_1586 rfl (lv_at hl 1 rfl) ?_
  refine lv_aload_n hF.1 hF.2.1 dL_law_1587 rfl (lv_at hl 0 rfl) ?_
  refine lv_iload hF.1 hF.2.1 dL_law_1588 (lv_at hl 5 rfl) ?_
  refine lv_iconst (v := 1) hF.1 hF.2.1 dL_law_1590 (by decide) ?_
  refine lv_iadd hF.1 hF.2.1 dL_law_1591 ?_
  obtain ⟨h_615, hw⟩ := hw
  refine va_sld hF.1 hF.2.1 hx hbl hbA hS h_615 dL_law_1592 ?_
  refine lv_aload_n hF.1 hF.2.1 dL_law_1593 rfl (lv_at hl 0 rfl) ?_
  refine lv_iload hF.1 hF.2.1 dL_law_1594 (lv_at hl 5 rfl) ?_
  refine lv_iconst (v := 2) hF.1 hF.2.1 dL_law_1596 (by decide) ?_
  refine lv_iadd hF.1 hF.2.1 dL_law_1597 ?_
  obtain ⟨h_616, hw⟩ := hw
  refine va_sld hF.1 hF.2.1 hx hbl hbA hS h_616 dL_law_1598 ?_
  refine lv_if_eq (tgt := 1606) hF.1 hF.2.1 dL_law_1599 (by decide) (fun c_617 => ?_) (fun c_617 => ?_)
  · have hw := hw.1 c_617
    refine lv_iconst (v := 0) hF.1 hF.2.1 dL_law_1606 (by decide) ?_
    exact Tl1607 l hlt K X0 hF hr hlocks hC hx hbl hA0 h a hap hmA _ hJ28 x1 x3 x4 x5 x1 (xs (Int32.toNatClampNeg (x5 + 1))) 0 X F R L G kc ks _ _ ls hP hM hD hS hk (lv_sub hl [0, 1, 2, 3, 4, 5] rfl) hw
  · have hw := hw.2 c_617
    refine lv_iconst (v := 1) hF.1 hF.2.1 dL_law_1602 (by decide) ?_
    refine lv_goto (tgt := 1607) hF.1 hF.2.1 dL_law_1603 (by decide) ?_
    exact Tl1607 l hlt K X0 hF hr hlocks hC hx hbl hA0 h a hap hmA _ hJ28 x1 x3 x4 x5 x1 (xs (Int32.toNatClampNeg (x5 + 1))) 1 X F R L G kc ks _ _ ls hP hM hD hS hk (lv_sub hl [0, 1, 2, 3, 4, 5] rfl) hw
def wpL_1723 (E mc ms N : Nat) (xs : Nat → Int32) (J28 : Nat → Nat → Nat → Int32 → hX → mF → mR → mL → mG → Nat → Nat → Prop) (x1 : Nat) (x3 : Nat) (x4 : Nat) (x5 : Int32) (X : hX) (F : mF) (R : mR) (L : mL) (G : mG) (kc ks : Nat) : Prop := (∀ x5_618 : Int32, x5_618 = x5 + 5 → J28 x1 x3 x4 x5_618 X F R L G kc ks)
set_option maxHeartbeats 8000000 in
theorem Tl1723 {p : Program} {e : Env} {s : State} {m : MethodId} {below : List Frame} {meth : Method} {c : Code} (l : Launch) (hlt : l.stackTraces = false) (K : HK) {b N : Nat} {xs : Nat → Int32} (X0 : hX) (hF : CallFix p m c code 9 s #[Value.ref b] lw_all R_law) (hr : meth.sig.returnType = ret) (hlocks : meth.locks = false) (hC : HC K X0 s) (hx : va_X b N xs s s.heap) (hbl : b < s.heap.size) (hA0 : ∀ q, hA X0 s.heap.size q → s.heap.size ≤ q) (h : Nat) (a : Nat → Nat) (hap : mAp h a) (hmA : ∀ q, mA h a q → hA X0 s.heap.size q) (J28 : Nat → Nat → Nat → Int32 → hX → mF → mR → mL → mG → Nat → Nat → Prop) (hJ28 : ∀ (x1 : Nat) (x3 : Nat) (x4 : Nat) (x5 : Int32) (X : hX) (F : mF) (R : mR) (L : mL) (G : mG) (kc ks : Nat) (H : Heap) (locs : List Loc) (ls : Array Slot), hI K X0 s.heap.size X H → mP K.1 h a F R L G H → hdis X h a → va_S (hA X0 s.heap.size) s.heap H locs → kc ≤ 1200048 ∧ ks ≤ 5501818 → lv_has ls 9 [(0, .ref b), (1, .ref x1), (2, .ref h), (3, .ref x3), (4, .ref x4), (5, .int x5)] → J28 x1 x3 x4 x5 X F R L G kc ks → W p l e room_1 s m #[Value.ref b] below meth c H locs kc ks (lw_Z below #[Value.ref b] s) (F0 m 28 ls [])) : ∀ (x1 : Nat) (x3 : Nat) (x4 : Nat) (x5 : Int32) (X : hX) (F : mF) (R : mR) (L : mL) (G : mG) (kc ks : Nat) (H : Heap) (locs : List Loc) (ls : Array Slot), hI K X0 s.heap.size X H → mP K.1 h a F R L G H → hdis X h a → va_S (hA X0 s.heap.size) s.heap H locs → kc ≤ 1200048 ∧ ks ≤ 5501818 → lv_has ls 9 [(0, .ref b), (1, .ref x1), (2, .ref h), (3, .ref x3), (4, .ref x4), (5, .int x5)] → wpL_1723 (K.2.2 0) 1200048 5501818 N xs J28 x1 x3 x4 x5 X F R L G kc ks → W p l e room_1 s m #[Value.ref b] below meth c H locs kc ks (lw_Z below #[Value.ref b] s) (F0 m 1723 ls []) := by
  have hbA : ¬ hA X0 s.heap.size b := fun z => Nat.not_lt.mpr (hA0 b z) hbl
  intro x1 x3 x4 x5 X F R L G kc ks H locs ls hP hM hD hS hk hl hw
  unfold wpL_1723 at hw
  refine lv_goto (tgt := 3714) hF.1 hF.2.1 dL_law_1723 (by decide) ?_
  obtain ⟨x5_618, ex5_618⟩ : ∃ y : Int32, y = x5 + 5 := ⟨_, rfl⟩
  have hw := hw x5_618 ex5_618
  refine lv_iinc (v := x5_618) (lv' := [(5, .int x5_618), (0, .ref b), (1, .ref x1), (2, .ref h), (3, .ref x3), (4, .ref x4)]) hF.1 hF.2.1 dL_law_3714 hl (k := 5) rfl (by rw [ex5_618]; rfl) (by decide) rfl (fun ls hl => ?_)
  refine lv_goto (tgt := 28) hF.1 hF.2.1 dL_law_3717 (by decide) ?_
  exact hJ28 x1 x3 x4 x5_618 X F R L G kc ks _ _ ls hP hM hD hS hk (lv_sub hl [1, 2, 3, 4, 5, 0] rfl) hw
def wpL_1670 (E mc ms N : Nat) (xs : Nat → Int32) (J28 : Nat → Nat → Nat → Int32 → hX → mF → mR → mL → mG → Nat → Nat → Prop) (x1 : Nat) (x3 : Nat) (x4 : Nat) (x5 : Int32) (X : hX) (F : mF) (R : mR) (L : mL) (G : mG) (kc ks : Nat) : Prop := (vp_in (x5 + 1) N ∧ (∃ mc_622 ms_623 : Nat, kc + mc_622 ≤ mc ∧ ks + ms_623 ≤ ms ∧ wpX0_sameTeethIn (fun r_620 X_621 => (vp_in (x5 + 1) N ∧ wpX3_sameTeethIn (fun r_627 F_628 R_629 L_630 G_631 => wpX3_thrown (fun r_632 F_633 R_634 L_635 G_636 => ((r_632 = r_620 → ((r_620 = 0 → alJ X_621 x3 0 (fun v_643 => ((v_643 = (Int32.toInt64 r_627) → wpL_1723 E mc ms N xs J28 x1 x3 x4 x5 X_621 F_633 R_634 L_635 G_636 (kc + mc_622) (ks + ms_623)) ∧ (¬ v_643 = (Int32.toInt64 r_627) → (0 : Int32) = 1)))) ∧ (¬ r_620 = 0 → wpL_1723 E mc ms N xs J28 x1 x3 x4 x5 X_621 F_633 R_634 L_635 G_636 (kc + mc_622) (ks + ms_623)))) ∧ (¬ r_632 = r_620 → (0 : Int32) = 1))) F_628 R_629 L_630 G_631) F R L G (xs (Int32.toNatClampNeg (x5 + 1))))) (fun _ _ _ => False) E mc_622 ms_623 X x1 (xs (Int32.toNatClampNeg (x5 + 1))) x3))
set_option maxHeartbeats 8000000 in
theorem Tl1670 {p : Program} {e : Env} {s : State} {m : MethodId} {below : List Frame} {meth : Method} {c : Code} (l : Launch) (hlt : l.stackTraces = false) (K : HK) {b N : Nat} {xs : Nat → Int32} (X0 : hX) (hF : CallFix p m c code 9 s #[Value.ref b] lw_all R_law) (hr : meth.sig.returnType = ret) (hlocks : meth.locks = false) (hC : HC K X0 s) (hx : va_X b N xs s s.heap) (hbl : b < s.heap.size) (hA0 : ∀ q, hA X0 s.heap.size q → s.heap.size ≤ q) (h : Nat) (a : Nat → Nat) (hap : mAp h a) (hmA : ∀ q, mA h a q → hA X0 s.heap.size q) (J28 : Nat → Nat → Nat → Int32 → hX → mF → mR → mL → mG → Nat → Nat → Prop) (hJ28 : ∀ (x1 : Nat) (x3 : Nat) (x4 : Nat) (x5 : Int32) (X : hX) (F : mF) (R : mR) (L : mL) (G : mG) (kc ks : Nat) (H : Heap) (locs : List Loc) (ls : Array Slot), hI K X0 s.heap.size X H → mP K.1 h a F R L G H → hdis X h a → va_S (hA X0 s.heap.size) s.heap H locs → kc ≤ 1200048 ∧ ks ≤ 5501818 → lv_has ls 9 [(0, .ref b), (1, .ref x1), (2, .ref h), (3, .ref x3), (4, .ref x4), (5, .int x5)] → J28 x1 x3 x4 x5 X F R L G kc ks → W p l e room_1 s m #[Value.ref b] below meth c H locs kc ks (lw_Z below #[Value.ref b] s) (F0 m 28 ls [])) : ∀ (x1 : Nat) (x3 : Nat) (x4 : Nat) (x5 : Int32) (X : hX) (F : mF) (R : mR) (L : mL) (G : mG) (kc ks : Nat) (H : Heap) (locs : List Loc) (ls : Array Slot), hI K X0 s.heap.size X H → mP K.1 h a F R L G H → hdis X h a → va_S (hA X0 s.heap.size) s.heap H locs → kc ≤ 1200048 ∧ ks ≤ 5501818 → lv_has ls 9 [(0, .ref b), (1, .ref x1), (2, .ref h), (3, .ref x3), (4, .ref x4), (5, .int x5)] → wpL_1670 (K.2.2 0) 1200048 5501818 N xs J28 x1 x3 x4 x5 X F R L G kc ks → W p l e room_1 s m #[Value.ref b] below meth c H locs kc ks (lw_Z below #[Value.ref b] s) (F0 m 1670 ls []) := by
  have hbA : ¬ hA X0 s.heap.size b := fun z => Nat.not_lt.mpr (hA0 b z) hbl
  intro x1 x3 x4 x5 X F R L G kc ks H locs ls hP hM hD hS hk hl hw
  unfold wpL_1670 at hw
  refine lv_aload_n hF.1 hF.2.1 dL_law_1670 rfl (lv_at hl 1 rfl) ?_
  refine lv_aload_n hF.1 hF.2.1 dL_law_1671 rfl (lv_at hl 0 rfl) ?_
  refine lv_iload hF.1 hF.2.1 dL_law_1672 (lv_at hl 5 rfl) ?_
  refine lv_iconst (v := 1) hF.1 hF.2.1 dL_law_1674 (by decide) ?_
  refine lv_iadd hF.1 hF.2.1 dL_law_1675 ?_
  obtain ⟨h_619, hw⟩ := hw
  refine va_sld hF.1 hF.2.1 hx hbl hbA hS h_619 dL_law_1676 ?_
  refine lv_aload_n hF.1 hF.2.1 dL_law_1677 rfl (lv_at hl 3 rfl) ?_
  obtain ⟨mc_622, ms_623, hc_624, hs_625, hw⟩ := hw
  refine lkx_i (hrx_SX (As := [.ref x1, .int (xs (Int32.toNatClampNeg (x5 + 1))), .ref x3]) (rest := []) hF hl.1 hC hP hS (metX0_sameTeethIn l hlt K mc_622 ms_623 _ _ _ X x1 (xs (Int32.toNatClampNeg (x5 + 1))) x3) (vx_cwSW 3 hF.2.2.2.2 (lw_SW q1229 q1230 q74 q1231) rfl rfl rfl (by decide +kernel) ⟨Nat.le_of_ble_eq_true rfl, Nat.le_of_ble_eq_true rfl⟩) hw rfl rfl (Nat.le_of_ble_eq_true rfl) dL_law_1678 ⟨hc_624, hs_625⟩) hP hM hD hS (fun r_620 X_621 H locs hw hP hM hD hS => ?_)
  refine lv_istore (lv' := [(6, .int r_620), (0, .ref b), (1, .ref x1), (2, .ref h), (3, .ref x3), (4, .ref x4), (5, .int x5)]) hF.1 hF.2.1 dL_law_1681 hl (by decide) rfl (fun ls hl => ?_)
  refine lv_aload_n hF.1 hF.2.1 dL_law_1683 rfl (lv_at hl 3 rfl) ?_
  refine lv_aload_n hF.1 hF.2.1 dL_law_1684 rfl (lv_at hl 1 rfl) ?_
  refine lv_iload hF.1 hF.2.1 dL_law_1685 (lv_at hl 6 rfl) ?_
  refine lv_iconst (v := 1) hF.1 hF.2.1 dL_law_1687 (by decide) ?_
  refine lv_iadd hF.1 hF.2.1 dL_law_1688 ?_
  obtain ⟨h_626, hw⟩ := hw
  refine va_sld hF.1 hF.2.1 hx hbl hbA hS h_626 dL_law_1689 ?_
  refine lm_i (As := [.int (xs (Int32.toNatClampNeg (x5 + 1)))]) (rest := []) hF hl.1 hC (metX3_sameTeethIn l K.1 h a hap _ F R L G (xs (Int32.toNatClampNeg (x5 + 1)))) (cwV 1 hF.2.2.2.2 (lw_V q2053 q2054 q2055 q85 q2056) rfl rfl rfl (by decide +kernel) ⟨Nat.le_of_ble_eq_true rfl, Nat.le_of_ble_eq_true rfl⟩) hP hM hD hS hmA hw rfl rfl (Nat.le_of_ble_eq_true rfl) dL_law_1690 ⟨hc_624, hs_625⟩ (fun r_627 F_628 R_629 L_630 G_631 H locs hw hP hM hS => ?_)
  refine lv_istore (lv' := [(7, .int r_627), (6, .int r_620), (0, .ref b), (1, .ref x1), (2, .ref h), (3, .ref x3), (4, .ref x4), (5, .int x5)]) hF.1 hF.2.1 dL_law_1693 hl (by decide) rfl (fun ls hl => ?_)
  refine lv_aload_n hF.1 hF.2.1 dL_law_1695 rfl (lv_at hl 4 rfl) ?_
  refine lm_i (As := []) (rest := []) hF hl.1 hC (metX3_thrown l K.1 h a hap _ F_628 R_629 L_630 G_631) (cwV 0 hF.2.2.2.2 (lw_V q1813 q1814 q1815 q85 q1816) rfl rfl rfl (by decide +kernel) ⟨Nat.le_of_ble_eq_true rfl, Nat.le_of_ble_eq_true rfl⟩) hP hM hD hS hmA hw rfl rfl (Nat.le_of_ble_eq_true rfl) dL_law_1696 ⟨hc_624, hs_625⟩ (fun r_632 F_633 R_634 L_635 G_636 H locs hw hP hM hS => ?_)
  refine lv_iload hF.1 hF.2.1 dL_law_1699 (lv_at hl 1 rfl) ?_
  refine lv_icmp_eq (tgt := 1706) hF.1 hF.2.1 dL_law_1701 (by decide) (fun c_637 => ?_) (fun c_637 => ?_)
  · have hw := hw.1 c_637
    refine lv_iload hF.1 hF.2.1 dL_law_1706 (lv_at hl 1 rfl) ?_
    refine lv_if_ne (tgt := 1723) hF.1 hF.2.1 dL_law_1708 (by decide) (fun c_638 => ?_) (fun c_638 => ?_)
    · have hw := hw.2 c_638
      exact Tl1723 l hlt K X0 hF hr hlocks hC hx hbl hA0 h a hap hmA _ hJ28 x1 x3 x4 x5 X_621 F_633 R_634 L_635 G_636 (kc + mc_622) (ks + ms_623) _ _ ls hP hM hD hS ⟨hc_624, hs_625⟩ (lv_sub hl [2, 3, 4, 5, 6, 7] rfl) hw
    · have hw := hw.1 c_638
      refine lv_aload_n hF.1 hF.2.1 dL_law_1711 rfl (lv_at hl 5 rfl) ?_
      refine lv_iconst (v := 0) hF.1 hF.2.1 dL_law_1712 (by decide) ?_
      obtain ⟨n_639, f_640, hx_641, hi_642, hw⟩ := hw
      refine x_lald hF hC hP hx_641 hi_642 dL_law_1713 ?_
      generalize f_640 (Int32.toNatClampNeg 0) = v_643 at hw ⊢
      refine lv_iload hF.1 hF.2.1 dL_law_1714 (lv_at hl 0 rfl) ?_
      refine lv_i2l hF.1 hF.2.1 dL_law_1716 rfl ?_
      refine W.lcmp hF.1 hF.2.1 dL_law_1717 ?_
      refine lv_if_eq (tgt := 1723) hF.1 hF.2.1 dL_law_1718 (by decide) (fun c_644 => ?_) (fun c_644 => ?_)
      · rw [lc_eq] at c_644
        have hw := hw.1 c_644
        exact Tl1723 l hlt K X0 hF hr hlocks hC hx hbl hA0 h a hap hmA _ hJ28 x1 x3 x4 x5 X_621 F_633 R_634 L_635 G_636 (kc + mc_622) (ks + ms_623) _ _ ls hP hM hD hS ⟨hc_624, hs_625⟩ (lv_sub hl [2, 3, 4, 5, 6, 7] rfl) hw
      · rw [lc_eq] at c_644
        have hw := hw.2 c_644
        refine lv_iconst (v := 0) hF.1 hF.2.1 dL_law_1721 (by decide) ?_
        exact l_end hF hr hlocks hA0 hS ⟨hc_624, hs_625⟩ dL_law_1722 hw
  · have hw := hw.2 c_637
    refine lv_iconst (v := 0) hF.1 hF.2.1 dL_law_1704 (by decide) ?_
    exact l_end hF hr hlocks hA0 hS ⟨hc_624, hs_625⟩ dL_law_1705 hw
def wpL_1779 (E mc ms N : Nat) (xs : Nat → Int32) (J28 : Nat → Nat → Nat → Int32 → hX → mF → mR → mL → mG → Nat → Nat → Prop) (x1 : Nat) (x3 : Nat) (x4 : Nat) (x5 : Int32) (X : hX) (F : mF) (R : mR) (L : mL) (G : mG) (kc ks : Nat) : Prop := (∀ x5_645 : Int32, x5_645 = x5 + 5 → J28 x1 x3 x4 x5_645 X F R L G kc ks)
set_option maxHeartbeats 8000000 in
theorem Tl1779 {p : Program} {e : Env} {s : State} {m : MethodId} {below : List Frame} {meth : Method} {c : Code} (l : Launch) (hlt : l.stackTraces = false) (K : HK) {b N : Nat} {xs : Nat → Int32} (X0 : hX) (hF : CallFix p m c code 9 s #[Value.ref b] lw_all R_law) (hr : meth.sig.returnType = ret) (hlocks : meth.locks = false) (hC : HC K X0 s) (hx : va_X b N xs s s.heap) (hbl : b < s.heap.size) (hA0 : ∀ q, hA X0 s.heap.size q → s.heap.size ≤ q) (h : Nat) (a : Nat → Nat) (hap : mAp h a) (hmA : ∀ q, mA h a q → hA X0 s.heap.size q) (J28 : Nat → Nat → Nat → Int32 → hX → mF → mR → mL → mG → Nat → Nat → Prop) (hJ28 : ∀ (x1 : Nat) (x3 : Nat) (x4 : Nat) (x5 : Int32) (X : hX) (F : mF) (R : mR) (L : mL) (G : mG) (kc ks : Nat) (H : Heap) (locs : List Loc) (ls : Array Slot), hI K X0 s.heap.size X H → mP K.1 h a F R L G H → hdis X h a → va_S (hA X0 s.heap.size) s.heap H locs → kc ≤ 1200048 ∧ ks ≤ 5501818 → lv_has ls 9 [(0, .ref b), (1, .ref x1), (2, .ref h), (3, .ref x3), (4, .ref x4), (5, .int x5)] → J28 x1 x3 x4 x5 X F R L G kc ks → W p l e room_1 s m #[Value.ref b] below meth c H locs kc ks (lw_Z below #[Value.ref b] s) (F0 m 28 ls [])) : ∀ (x1 : Nat) (x3 : Nat) (x4 : Nat) (x5 : Int32) (X : hX) (F : mF) (R : mR) (L : mL) (G : mG) (kc ks : Nat) (H : Heap) (locs : List Loc) (ls : Array Slot), hI K X0 s.heap.size X H → mP K.1 h a F R L G H → hdis X h a → va_S (hA X0 s.heap.size) s.heap H locs → kc ≤ 1200048 ∧ ks ≤ 5501818 → lv_has ls 9 [(0, .ref b), (1, .ref x1), (2, .ref h), (3, .ref x3), (4, .ref x4), (5, .int x5)] → wpL_1779 (K.2.2 0) 1200048 5501818 N xs J28 x1 x3 x4 x5 X F R L G kc ks → W p l e room_1 s m #[Value.ref b] below meth c H locs kc ks (lw_Z below #[Value.ref b] s) (F0 m 1779 ls []) := by
  have hbA : ¬ hA X0 s.heap.size b := fun z => Nat.not_lt.mpr (hA0 b z) hbl
  intro x1 x3 x4 x5 X F R L G kc ks H locs ls hP hM hD hS hk hl hw
  unfold wpL_1779 at hw
  refine lv_goto (tgt := 3714) hF.1 hF.2.1 dL_law_1779 (by decide) ?_
  obtain ⟨x5_645, ex5_645⟩ : ∃ y : Int32, y = x5 + 5 := ⟨_, rfl⟩
  have hw := hw x5_645 ex5_645
  refine lv_iinc (v := x5_645) (lv' := [(5, .int x5_645), (0, .ref b), (1, .ref x1), (2, .ref h), (3, .ref x3), (4, .ref x4)]) hF.1 hF.2.1 dL_law_3714 hl (k := 5) rfl (by rw [ex5_645]; rfl) (by decide) rfl (fun ls hl => ?_)
  refine lv_goto (tgt := 28) hF.1 hF.2.1 dL_law_3717 (by decide) ?_
  exact hJ28 x1 x3 x4 x5_645 X F R L G kc ks _ _ ls hP hM hD hS hk (lv_sub hl [1, 2, 3, 4, 5, 0] rfl) hw
def wpL_1726 (E mc ms N : Nat) (xs : Nat → Int32) (J28 : Nat → Nat → Nat → Int32 → hX → mF → mR → mL → mG → Nat → Nat → Prop) (x1 : Nat) (x3 : Nat) (x4 : Nat) (x5 : Int32) (X : hX) (F : mF) (R : mR) (L : mL) (G : mG) (kc ks : Nat) : Prop := (vp_in (x5 + 1) N ∧ (∃ mc_649 ms_650 : Nat, kc + mc_649 ≤ mc ∧ ks + ms_650 ≤ ms ∧ wpX0_sameTeethByGoing (fun r_647 X_648 => (vp_in (x5 + 1) N ∧ wpX3_sameTeethByGoing (fun r_654 F_655 R_656 L_657 G_658 => wpX3_thrown (fun r_659 F_660 R_661 L_662 G_663 => ((r_659 = r_647 → ((r_647 = 0 → alJ X_648 x3 0 (fun v_670 => ((v_670 = (Int32.toInt64 r_654) → wpL_1779 E mc ms N xs J28 x1 x3 x4 x5 X_648 F_660 R_661 L_662 G_663 (kc + mc_649) (ks + ms_650)) ∧ (¬ v_670 = (Int32.toInt64 r_654) → (0 : Int32) = 1)))) ∧ (¬ r_647 = 0 → wpL_1779 E mc ms N xs J28 x1 x3 x4 x5 X_648 F_660 R_661 L_662 G_663 (kc + mc_649) (ks + ms_650)))) ∧ (¬ r_659 = r_647 → (0 : Int32) = 1))) F_655 R_656 L_657 G_658) F R L G (xs (Int32.toNatClampNeg (x5 + 1))))) (fun _ _ _ => False) E mc_649 ms_650 X x1 (xs (Int32.toNatClampNeg (x5 + 1))) x3))
set_option maxHeartbeats 8000000 in
theorem Tl1726 {p : Program} {e : Env} {s : State} {m : MethodId} {below : List Frame} {meth : Method} {c : Code} (l : Launch) (hlt : l.stackTraces = false) (K : HK) {b N : Nat} {xs : Nat → Int32} (X0 : hX) (hF : CallFix p m c code 9 s #[Value.ref b] lw_all R_law) (hr : meth.sig.returnType = ret) (hlocks : meth.locks = false) (hC : HC K X0 s) (hx : va_X b N xs s s.heap) (hbl : b < s.heap.size) (hA0 : ∀ q, hA X0 s.heap.size q → s.heap.size ≤ q) (h : Nat) (a : Nat → Nat) (hap : mAp h a) (hmA : ∀ q, mA h a q → hA X0 s.heap.size q) (J28 : Nat → Nat → Nat → Int32 → hX → mF → mR → mL → mG → Nat → Nat → Prop) (hJ28 : ∀ (x1 : Nat) (x3 : Nat) (x4 : Nat) (x5 : Int32) (X : hX) (F : mF) (R : mR) (L : mL) (G : mG) (kc ks : Nat) (H : Heap) (locs : List Loc) (ls : Array Slot), hI K X0 s.heap.size X H → mP K.1 h a F R L G H → hdis X h a → va_S (hA X0 s.heap.size) s.heap H locs → kc ≤ 1200048 ∧ ks ≤ 5501818 → lv_has ls 9 [(0, .ref b), (1, .ref x1), (2, .ref h), (3, .ref x3), (4, .ref x4), (5, .int x5)] → J28 x1 x3 x4 x5 X F R L G kc ks → W p l e room_1 s m #[Value.ref b] below meth c H locs kc ks (lw_Z below #[Value.ref b] s) (F0 m 28 ls [])) : ∀ (x1 : Nat) (x3 : Nat) (x4 : Nat) (x5 : Int32) (X : hX) (F : mF) (R : mR) (L : mL) (G : mG) (kc ks : Nat) (H : Heap) (locs : List Loc) (ls : Array Slot), hI K X0 s.heap.size X H → mP K.1 h a F R L G H → hdis X h a → va_S (hA X0 s.heap.size) s.heap H locs → kc ≤ 1200048 ∧ ks ≤ 5501818 → lv_has ls 9 [(0, .ref b), (1, .ref x1), (2, .ref h), (3, .ref x3), (4, .ref x4), (5, .int x5)] → wpL_1726 (K.2.2 0) 1200048 5501818 N xs J28 x1 x3 x4 x5 X F R L G kc ks → W p l e room_1 s m #[Value.ref b] below meth c H locs kc ks (lw_Z below #[Value.ref b] s) (F0 m 1726 ls []) := by
  have hbA : ¬ hA X0 s.heap.size b := fun z => Nat.not_lt.mpr (hA0 b z) hbl
  intro x1 x3 x4 x5 X F R L G kc ks H locs ls hP hM hD hS hk hl hw
  unfold wpL_1726 at hw
  refine lv_aload_n hF.1 hF.2.1 dL_law_1726 rfl (lv_at hl 1 rfl) ?_
  refine lv_aload_n hF.1 hF.2.1 dL_law_1727 rfl (lv_at hl 0 rfl) ?_
  refine lv_iload hF.1 hF.2.1 dL_law_1728 (lv_at hl 5 rfl) ?_
  refine lv_iconst (v := 1) hF.1 hF.2.1 dL_law_1730 (by decide) ?_
  refine lv_iadd hF.1 hF.2.1 dL_law_1731 ?_
  obtain ⟨h_646, hw⟩ := hw
  refine va_sld hF.1 hF.2.1 hx hbl hbA hS h_646 dL_law_1732 ?_
  refine lv_aload_n hF.1 hF.2.1 dL_law_1733 rfl (lv_at hl 3 rfl) ?_
  obtain ⟨mc_649, ms_650, hc_651, hs_652, hw⟩ := hw
  refine lkx_i (hrx_SX (As := [.ref x1, .int (xs (Int32.toNatClampNeg (x5 + 1))), .ref x3]) (rest := []) hF hl.1 hC hP hS (metX0_sameTeethByGoing l hlt K mc_649 ms_650 _ _ _ X x1 (xs (Int32.toNatClampNeg (x5 + 1))) x3) (vx_cwSW 3 hF.2.2.2.2 (lw_SW q1241 q1242 q74 q1243) rfl rfl rfl (by decide +kernel) ⟨Nat.le_of_ble_eq_true rfl, Nat.le_of_ble_eq_true rfl⟩) hw rfl rfl (Nat.le_of_ble_eq_true rfl) dL_law_1734 ⟨hc_651, hs_652⟩) hP hM hD hS (fun r_647 X_648 H locs hw hP hM hD hS => ?_)
  refine lv_istore (lv' := [(6, .int r_647), (0, .ref b), (1, .ref x1), (2, .ref h), (3, .ref x3), (4, .ref x4), (5, .int x5)]) hF.1 hF.2.1 dL_law_1737 hl (by decide) rfl (fun ls hl => ?_)
  refine lv_aload_n hF.1 hF.2.1 dL_law_1739 rfl (lv_at hl 3 rfl) ?_
  refine lv_aload_n hF.1 hF.2.1 dL_law_1740 rfl (lv_at hl 1 rfl) ?_
  refine lv_iload hF.1 hF.2.1 dL_law_1741 (lv_at hl 6 rfl) ?_
  refine lv_iconst (v := 1) hF.1 hF.2.1 dL_law_1743 (by decide) ?_
  refine lv_iadd hF.1 hF.2.1 dL_law_1744 ?_
  obtain ⟨h_653, hw⟩ := hw
  refine va_sld hF.1 hF.2.1 hx hbl hbA hS h_653 dL_law_1745 ?_
  refine lm_i (As := [.int (xs (Int32.toNatClampNeg (x5 + 1)))]) (rest := []) hF hl.1 hC (metX3_sameTeethByGoing l K.1 h a hap _ F R L G (xs (Int32.toNatClampNeg (x5 + 1)))) (cwV 1 hF.2.2.2.2 (lw_V q2065 q2066 q2067 q85 q2068) rfl rfl rfl (by decide +kernel) ⟨Nat.le_of_ble_eq_true rfl, Nat.le_of_ble_eq_true rfl⟩) hP hM hD hS hmA hw rfl rfl (Nat.le_of_ble_eq_true rfl) dL_law_1746 ⟨hc_651, hs_652⟩ (fun r_654 F_655 R_656 L_657 G_658 H locs hw hP hM hS => ?_)
  refine lv_istore (lv' := [(7, .int r_654), (6, .int r_647), (0, .ref b), (1, .ref x1), (2, .ref h), (3, .ref x3), (4, .ref x4), (5, .int x5)]) hF.1 hF.2.1 dL_law_1749 hl (by decide) rfl (fun ls hl => ?_)
  refine lv_aload_n hF.1 hF.2.1 dL_law_1751 rfl (lv_at hl 4 rfl) ?_
  refine lm_i (As := []) (rest := []) hF hl.1 hC (metX3_thrown l K.1 h a hap _ F_655 R_656 L_657 G_658) (cwV 0 hF.2.2.2.2 (lw_V q1813 q1814 q1815 q85 q1816) rfl rfl rfl (by decide +kernel) ⟨Nat.le_of_ble_eq_true rfl, Nat.le_of_ble_eq_true rfl⟩) hP hM hD hS hmA hw rfl rfl (Nat.le_of_ble_eq_true rfl) dL_law_1752 ⟨hc_651, hs_652⟩ (fun r_659 F_660 R_661 L_662 G_663 H locs hw hP hM hS => ?_)
  refine lv_iload hF.1 hF.2.1 dL_law_1755 (lv_at hl 1 rfl) ?_
  refine lv_icmp_eq (tgt := 1762) hF.1 hF.2.1 dL_law_1757 (by decide) (fun c_664 => ?_) (fun c_664 => ?_)
  · have hw := hw.1 c_664
    refine lv_iload hF.1 hF.2.1 dL_law_1762 (lv_at hl 1 rfl) ?_
    refine lv_if_ne (tgt := 1779) hF.1 hF.2.1 dL_law_1764 (by decide) (fun c_665 => ?_) (fun c_665 => ?_)
    · have hw := hw.2 c_665
      exact Tl1779 l hlt K X0 hF hr hlocks hC hx hbl hA0 h a hap hmA _ hJ28 x1 x3 x4 x5 X_648 F_660 R_661 L_662 G_663 (kc + mc_649) (ks + ms_650) _ _ ls hP hM hD hS ⟨hc_651, hs_652⟩ (lv_sub hl [2, 3, 4, 5, 6, 7] rfl) hw
    · have hw := hw.1 c_665
      refine lv_aload_n hF.1 hF.2.1 dL_law_1767 rfl (lv_at hl 5 rfl) ?_
      refine lv_iconst (v := 0) hF.1 hF.2.1 dL_law_1768 (by decide) ?_
      obtain ⟨n_666, f_667, hx_668, hi_669, hw⟩ := hw
      refine x_lald hF hC hP hx_668 hi_669 dL_law_1769 ?_
      generalize f_667 (Int32.toNatClampNeg 0) = v_670 at hw ⊢
      refine lv_iload hF.1 hF.2.1 dL_law_1770 (lv_at hl 0 rfl) ?_
      refine lv_i2l hF.1 hF.2.1 dL_law_1772 rfl ?_
      refine W.lcmp hF.1 hF.2.1 dL_law_1773 ?_
      refine lv_if_eq (tgt := 1779) hF.1 hF.2.1 dL_law_1774 (by decide) (fun c_671 => ?_) (fun c_671 => ?_)
      · rw [lc_eq] at c_671
        have hw := hw.1 c_671
        exact Tl1779 l hlt K X0 hF hr hlocks hC hx hbl hA0 h a hap hmA _ hJ28 x1 x3 x4 x5 X_648 F_660 R_661 L_662 G_663 (kc + mc_649) (ks + ms_650) _ _ ls hP hM hD hS ⟨hc_651, hs_652⟩ (lv_sub hl [2, 3, 4, 5, 6, 7] rfl) hw
      · rw [lc_eq] at c_671
        have hw := hw.2 c_671
        refine lv_iconst (v := 0) hF.1 hF.2.1 dL_law_1777 (by decide) ?_
        exact l_end hF hr hlocks hA0 hS ⟨hc_651, hs_652⟩ dL_law_1778 hw
  · have hw := hw.2 c_664
    refine lv_iconst (v := 0) hF.1 hF.2.1 dL_law_1760 (by decide) ?_
    exact l_end hF hr hlocks hA0 hS ⟨hc_651, hs_652⟩ dL_law_1761 hw
def wpL_1842 (E mc ms N : Nat) (xs : Nat → Int32) (J28 : Nat → Nat → Nat → Int32 → hX → mF → mR → mL → mG → Nat → Nat → Prop) (x1 : Nat) (x3 : Nat) (x4 : Nat) (x5 : Int32) (X : hX) (F : mF) (R : mR) (L : mL) (G : mG) (kc ks : Nat) : Prop := (∀ x5_672 : Int32, x5_672 = x5 + 5 → J28 x1 x3 x4 x5_672 X F R L G kc ks)
set_option maxHeartbeats 8000000 in
theorem Tl1842 {p : Program} {e : Env} {s : State} {m : MethodId} {below : List Frame} {meth : Method} {c : Code} (l : Launch) (hlt : l.stackTraces = false) (K : HK) {b N : Nat} {xs : Nat → Int32} (X0 : hX) (hF : CallFix p m c code 9 s #[Value.ref b] lw_all R_law) (hr : meth.sig.returnType = ret) (hlocks : meth.locks = false) (hC : HC K X0 s) (hx : va_X b N xs s s.heap) (hbl : b < s.heap.size) (hA0 : ∀ q, hA X0 s.heap.size q → s.heap.size ≤ q) (h : Nat) (a : Nat → Nat) (hap : mAp h a) (hmA : ∀ q, mA h a q → hA X0 s.heap.size q) (J28 : Nat → Nat → Nat → Int32 → hX → mF → mR → mL → mG → Nat → Nat → Prop) (hJ28 : ∀ (x1 : Nat) (x3 : Nat) (x4 : Nat) (x5 : Int32) (X : hX) (F : mF) (R : mR) (L : mL) (G : mG) (kc ks : Nat) (H : Heap) (locs : List Loc) (ls : Array Slot), hI K X0 s.heap.size X H → mP K.1 h a F R L G H → hdis X h a → va_S (hA X0 s.heap.size) s.heap H locs → kc ≤ 1200048 ∧ ks ≤ 5501818 → lv_has ls 9 [(0, .ref b), (1, .ref x1), (2, .ref h), (3, .ref x3), (4, .ref x4), (5, .int x5)] → J28 x1 x3 x4 x5 X F R L G kc ks → W p l e room_1 s m #[Value.ref b] below meth c H locs kc ks (lw_Z below #[Value.ref b] s) (F0 m 28 ls [])) : ∀ (x1 : Nat) (x3 : Nat) (x4 : Nat) (x5 : Int32) (X : hX) (F : mF) (R : mR) (L : mL) (G : mG) (kc ks : Nat) (H : Heap) (locs : List Loc) (ls : Array Slot), hI K X0 s.heap.size X H → mP K.1 h a F R L G H → hdis X h a → va_S (hA X0 s.heap.size) s.heap H locs → kc ≤ 1200048 ∧ ks ≤ 5501818 → lv_has ls 9 [(0, .ref b), (1, .ref x1), (2, .ref h), (3, .ref x3), (4, .ref x4), (5, .int x5)] → wpL_1842 (K.2.2 0) 1200048 5501818 N xs J28 x1 x3 x4 x5 X F R L G kc ks → W p l e room_1 s m #[Value.ref b] below meth c H locs kc ks (lw_Z below #[Value.ref b] s) (F0 m 1842 ls []) := by
  have hbA : ¬ hA X0 s.heap.size b := fun z => Nat.not_lt.mpr (hA0 b z) hbl
  intro x1 x3 x4 x5 X F R L G kc ks H locs ls hP hM hD hS hk hl hw
  unfold wpL_1842 at hw
  refine lv_goto (tgt := 3714) hF.1 hF.2.1 dL_law_1842 (by decide) ?_
  obtain ⟨x5_672, ex5_672⟩ : ∃ y : Int32, y = x5 + 5 := ⟨_, rfl⟩
  have hw := hw x5_672 ex5_672
  refine lv_iinc (v := x5_672) (lv' := [(5, .int x5_672), (0, .ref b), (1, .ref x1), (2, .ref h), (3, .ref x3), (4, .ref x4)]) hF.1 hF.2.1 dL_law_3714 hl (k := 5) rfl (by rw [ex5_672]; rfl) (by decide) rfl (fun ls hl => ?_)
  refine lv_goto (tgt := 28) hF.1 hF.2.1 dL_law_3717 (by decide) ?_
  exact hJ28 x1 x3 x4 x5_672 X F R L G kc ks _ _ ls hP hM hD hS hk (lv_sub hl [1, 2, 3, 4, 5, 0] rfl) hw
def wpL_1836 (E mc ms N : Nat) (xs : Nat → Int32) (J28 : Nat → Nat → Nat → Int32 → hX → mF → mR → mL → mG → Nat → Nat → Prop) (x1 : Nat) (x3 : Nat) (x4 : Nat) (x5 : Int32) (z0 : Int64) (z1 : Int64) (X : hX) (F : mF) (R : mR) (L : mL) (G : mG) (kc ks : Nat) : Prop := ((z0 = z1 → wpL_1842 E mc ms N xs J28 x1 x3 x4 x5 X F R L G kc ks) ∧ (¬ z0 = z1 → (0 : Int32) = 1))
set_option maxHeartbeats 8000000 in
theorem Tl1836 {p : Program} {e : Env} {s : State} {m : MethodId} {below : List Frame} {meth : Method} {c : Code} (l : Launch) (hlt : l.stackTraces = false) (K : HK) {b N : Nat} {xs : Nat → Int32} (X0 : hX) (hF : CallFix p m c code 9 s #[Value.ref b] lw_all R_law) (hr : meth.sig.returnType = ret) (hlocks : meth.locks = false) (hC : HC K X0 s) (hx : va_X b N xs s s.heap) (hbl : b < s.heap.size) (hA0 : ∀ q, hA X0 s.heap.size q → s.heap.size ≤ q) (h : Nat) (a : Nat → Nat) (hap : mAp h a) (hmA : ∀ q, mA h a q → hA X0 s.heap.size q) (J28 : Nat → Nat → Nat → Int32 → hX → mF → mR → mL → mG → Nat → Nat → Prop) (hJ28 : ∀ (x1 : Nat) (x3 : Nat) (x4 : Nat) (x5 : Int32) (X : hX) (F : mF) (R : mR) (L : mL) (G : mG) (kc ks : Nat) (H : Heap) (locs : List Loc) (ls : Array Slot), hI K X0 s.heap.size X H → mP K.1 h a F R L G H → hdis X h a → va_S (hA X0 s.heap.size) s.heap H locs → kc ≤ 1200048 ∧ ks ≤ 5501818 → lv_has ls 9 [(0, .ref b), (1, .ref x1), (2, .ref h), (3, .ref x3), (4, .ref x4), (5, .int x5)] → J28 x1 x3 x4 x5 X F R L G kc ks → W p l e room_1 s m #[Value.ref b] below meth c H locs kc ks (lw_Z below #[Value.ref b] s) (F0 m 28 ls [])) : ∀ (x1 : Nat) (x3 : Nat) (x4 : Nat) (x5 : Int32) (z0 : Int64) (z1 : Int64) (X : hX) (F : mF) (R : mR) (L : mL) (G : mG) (kc ks : Nat) (H : Heap) (locs : List Loc) (ls : Array Slot), hI K X0 s.heap.size X H → mP K.1 h a F R L G H → hdis X h a → va_S (hA X0 s.heap.size) s.heap H locs → kc ≤ 1200048 ∧ ks ≤ 5501818 → lv_has ls 9 [(0, .ref b), (1, .ref x1), (2, .ref h), (3, .ref x3), (4, .ref x4), (5, .int x5)] → wpL_1836 (K.2.2 0) 1200048 5501818 N xs J28 x1 x3 x4 x5 z0 z1 X F R L G kc ks → W p l e room_1 s m #[Value.ref b] below meth c H locs kc ks (lw_Z below #[Value.ref b] s) (F0 m 1836 ls [.long z1, .long z0]) := by
  have hbA : ¬ hA X0 s.heap.size b := fun z => Nat.not_lt.mpr (hA0 b z) hbl
  intro x1 x3 x4 x5 z0 z1 X F R L G kc ks H locs ls hP hM hD hS hk hl hw
  unfold wpL_1836 at hw
  refine W.lcmp hF.1 hF.2.1 dL_law_1836 ?_
  refine lv_if_eq (tgt := 1842) hF.1 hF.2.1 dL_law_1837 (by decide) (fun c_673 => ?_) (fun c_673 => ?_)
  · rw [lc_eq] at c_673
    have hw := hw.1 c_673
    exact Tl1842 l hlt K X0 hF hr hlocks hC hx hbl hA0 h a hap hmA _ hJ28 x1 x3 x4 x5 X F R L G kc ks _ _ ls hP hM hD hS hk (lv_sub hl [0, 1, 2, 3, 4, 5] rfl) hw
  · rw [lc_eq] at c_673
    have hw := hw.2 c_673
    refine lv_iconst (v := 0) hF.1 hF.2.1 dL_law_1840 (by decide) ?_
    exact l_end hF hr hlocks hA0 hS hk dL_law_1841 hw
def wpL_1782 (E mc ms N : Nat) (xs : Nat → Int32) (J28 : Nat → Nat → Nat → Int32 → hX → mF → mR → mL → mG → Nat → Nat → Prop) (x1 : Nat) (x3 : Nat) (x4 : Nat) (x5 : Int32) (X : hX) (F : mF) (R : mR) (L : mL) (G : mG) (kc ks : Nat) : Prop := (vp_in (x5 + 1) N ∧ (∃ mc_677 ms_678 : Nat, kc + mc_677 ≤ mc ∧ ks + ms_678 ≤ ms ∧ wpX0_isEven (fun r_675 X_676 => (vp_in (x5 + 1) N ∧ wpX3_isEven (fun r_682 F_683 R_684 L_685 G_686 => wpX3_thrown (fun r_687 F_688 R_689 L_690 G_691 => ((r_687 = r_675 → ((r_675 = 0 → alJ X_676 x3 0 (fun v_698 => ((r_682 = 0 → wpL_1836 E mc ms N xs J28 x1 x3 x4 x5 v_698 0 X_676 F_688 R_689 L_690 G_691 (kc + mc_677) (ks + ms_678)) ∧ (¬ r_682 = 0 → wpL_1836 E mc ms N xs J28 x1 x3 x4 x5 v_698 1 X_676 F_688 R_689 L_690 G_691 (kc + mc_677) (ks + ms_678))))) ∧ (¬ r_675 = 0 → wpL_1842 E mc ms N xs J28 x1 x3 x4 x5 X_676 F_688 R_689 L_690 G_691 (kc + mc_677) (ks + ms_678)))) ∧ (¬ r_687 = r_675 → (0 : Int32) = 1))) F_683 R_684 L_685 G_686) F R L G (xs (Int32.toNatClampNeg (x5 + 1))))) (fun _ _ _ => False) E mc_677 ms_678 X x1 (xs (Int32.toNatClampNeg (x5 + 1))) x3))
set_option maxHeartbeats 8000000 in
theorem Tl1782 {p : Program} {e : Env} {s : State} {m : MethodId} {below : List Frame} {meth : Method} {c : Code} (l : Launch) (hlt : l.stackTraces = false) (K : HK) {b N : Nat} {xs : Nat → Int32} (X0 : hX) (hF : CallFix p m c code 9 s #[Value.ref b] lw_all R_law) (hr : meth.sig.returnType = ret) (hlocks : meth.locks = false) (hC : HC K X0 s) (hx : va_X b N xs s s.heap) (hbl : b < s.heap.size) (hA0 : ∀ q, hA X0 s.heap.size q → s.heap.size ≤ q) (h : Nat) (a : Nat → Nat) (hap : mAp h a) (hmA : ∀ q, mA h a q → hA X0 s.heap.size q) (J28 : Nat → Nat → Nat → Int32 → hX → mF → mR → mL → mG → Nat → Nat → Prop) (hJ28 : ∀ (x1 : Nat) (x3 : Nat) (x4 : Nat) (x5 : Int32) (X : hX) (F : mF) (R : mR) (L : mL) (G : mG) (kc ks : Nat) (H : Heap) (locs : List Loc) (ls : Array Slot), hI K X0 s.heap.size X H → mP K.1 h a F R L G H → hdis X h a → va_S (hA X0 s.heap.size) s.heap H locs → kc ≤ 1200048 ∧ ks ≤ 5501818 → lv_has ls 9 [(0, .ref b), (1, .ref x1), (2, .ref h), (3, .ref x3), (4, .ref x4), (5, .int x5)] → J28 x1 x3 x4 x5 X F R L G kc ks → W p l e room_1 s m #[Value.ref b] below meth c H locs kc ks (lw_Z below #[Value.ref b] s) (F0 m 28 ls [])) : ∀ (x1 : Nat) (x3 : Nat) (x4 : Nat) (x5 : Int32) (X : hX) (F : mF) (R : mR) (L : mL) (G : mG) (kc ks : Nat) (H : Heap) (locs : List Loc) (ls : Array Slot), hI K X0 s.heap.size X H → mP K.1 h a F R L G H → hdis X h a → va_S (hA X0 s.heap.size) s.heap H locs → kc ≤ 1200048 ∧ ks ≤ 5501818 → lv_has ls 9 [(0, .ref b), (1, .ref x1), (2, .ref h), (3, .ref x3), (4, .ref x4), (5, .int x5)] → wpL_1782 (K.2.2 0) 1200048 5501818 N xs J28 x1 x3 x4 x5 X F R L G kc ks → W p l e room_1 s m #[Value.ref b] below meth c H locs kc ks (lw_Z below #[Value.ref b] s) (F0 m 1782 ls []) := by
  have hbA : ¬ hA X0 s.heap.size b := fun z => Nat.not_lt.mpr (hA0 b z) hbl
  intro x1 x3 x4 x5 X F R L G kc ks H locs ls hP hM hD hS hk hl hw
  unfold wpL_1782 at hw
  refine lv_aload_n hF.1 hF.2.1 dL_law_1782 rfl (lv_at hl 1 rfl) ?_
  refine lv_aload_n hF.1 hF.2.1 dL_law_1783 rfl (lv_at hl 0 rfl) ?_
  refine lv_iload hF.1 hF.2.1 dL_law_1784 (lv_at hl 5 rfl) ?_
  refine lv_iconst (v := 1) hF.1 hF.2.1 dL_law_1786 (by decide) ?_
  refine lv_iadd hF.1 hF.2.1 dL_law_1787 ?_
  obtain ⟨h_674, hw⟩ := hw
  refine va_sld hF.1 hF.2.1 hx hbl hbA hS h_674 dL_law_1788 ?_
  refine lv_aload_n hF.1 hF.2.1 dL_law_1789 rfl (lv_at hl 3 rfl) ?_
  obtain ⟨mc_677, ms_678, hc_679, hs_680, hw⟩ := hw
  refine lkx_i (hrx_SX (As := [.ref x1, .int (xs (Int32.toNatClampNeg (x5 + 1))), .ref x3]) (rest := []) hF hl.1 hC hP hS (metX0_isEven l hlt K mc_677 ms_678 _ _ _ X x1 (xs (Int32.toNatClampNeg (x5 + 1))) x3) (vx_cwSW 3 hF.2.2.2.2 (lw_SW q1248 q1249 q74 q1250) rfl rfl rfl (by decide +kernel) ⟨Nat.le_of_ble_eq_true rfl, Nat.le_of_ble_eq_true rfl⟩) hw rfl rfl (Nat.le_of_ble_eq_true rfl) dL_law_1790 ⟨hc_679, hs_680⟩) hP hM hD hS (fun r_675 X_676 H locs hw hP hM hD hS => ?_)
  refine lv_istore (lv' := [(6, .int r_675), (0, .ref b), (1, .ref x1), (2, .ref h), (3, .ref x3), (4, .ref x4), (5, .int x5)]) hF.1 hF.2.1 dL_law_1793 hl (by decide) rfl (fun ls hl => ?_)
  refine lv_aload_n hF.1 hF.2.1 dL_law_1795 rfl (lv_at hl 3 rfl) ?_
  refine lv_aload_n hF.1 hF.2.1 dL_law_1796 rfl (lv_at hl 1 rfl) ?_
  refine lv_iload hF.1 hF.2.1 dL_law_1797 (lv_at hl 6 rfl) ?_
  refine lv_iconst (v := 1) hF.1 hF.2.1 dL_law_1799 (by decide) ?_
  refine lv_iadd hF.1 hF.2.1 dL_law_1800 ?_
  obtain ⟨h_681, hw⟩ := hw
  refine va_sld hF.1 hF.2.1 hx hbl hbA hS h_681 dL_law_1801 ?_
  refine lm_i (As := [.int (xs (Int32.toNatClampNeg (x5 + 1)))]) (rest := []) hF hl.1 hC (metX3_isEven l K.1 h a hap _ F R L G (xs (Int32.toNatClampNeg (x5 + 1)))) (cwV 1 hF.2.2.2.2 (lw_V q2069 q2070 q2071 q85 q2072) rfl rfl rfl (by decide +kernel) ⟨Nat.le_of_ble_eq_true rfl, Nat.le_of_ble_eq_true rfl⟩) hP hM hD hS hmA hw rfl rfl (Nat.le_of_ble_eq_true rfl) dL_law_1802 ⟨hc_679, hs_680⟩ (fun r_682 F_683 R_684 L_685 G_686 H locs hw hP hM hS => ?_)
  refine lv_istore (lv' := [(7, .int r_682), (6, .int r_675), (0, .ref b), (1, .ref x1), (2, .ref h), (3, .ref x3), (4, .ref x4), (5, .int x5)]) hF.1 hF.2.1 dL_law_1805 hl (by decide) rfl (fun ls hl => ?_)
  refine lv_aload_n hF.1 hF.2.1 dL_law_1807 rfl (lv_at hl 4 rfl) ?_
  refine lm_i (As := []) (rest := []) hF hl.1 hC (metX3_thrown l K.1 h a hap _ F_683 R_684 L_685 G_686) (cwV 0 hF.2.2.2.2 (lw_V q1813 q1814 q1815 q85 q1816) rfl rfl rfl (by decide +kernel) ⟨Nat.le_of_ble_eq_true rfl, Nat.le_of_ble_eq_true rfl⟩) hP hM hD hS hmA hw rfl rfl (Nat.le_of_ble_eq_true rfl) dL_law_1808 ⟨hc_679, hs_680⟩ (fun r_687 F_688 R_689 L_690 G_691 H locs hw hP hM hS => ?_)
  refine lv_iload hF.1 hF.2.1 dL_law_1811 (lv_at hl 1 rfl) ?_
  refine lv_icmp_eq (tgt := 1818) hF.1 hF.2.1 dL_law_1813 (by decide) (fun c_692 => ?_) (fun c_692 => ?_)
  · have hw := hw.1 c_692
    refine lv_iload hF.1 hF.2.1 dL_law_1818 (lv_at hl 1 rfl) ?_
    refine lv_if_ne (tgt := 1842) hF.1 hF.2.1 dL_law_1820 (by decide) (fun c_693 => ?_) (fun c_693 => ?_)
    · have hw := hw.2 c_693
      exact Tl1842 l hlt K X0 hF hr hlocks hC hx hbl hA0 h a hap hmA _ hJ28 x1 x3 x4 x5 X_676 F_688 R_689 L_690 G_691 (kc + mc_677) (ks + ms_678) _ _ ls hP hM hD hS ⟨hc_679, hs_680⟩ (lv_sub hl [2, 3, 4, 5, 6, 7] rfl) hw
    · have hw := hw.1 c_693
      refine lv_aload_n hF.1 hF.2.1 dL_law_1823 rfl (lv_at hl 5 rfl) ?_
      refine lv_iconst (v := 0) hF.1 hF.2.1 dL_law_1824 (by decide) ?_
      obtain ⟨n_694, f_695, hx_696, hi_697, hw⟩ := hw
      refine x_lald hF hC hP hx_696 hi_697 dL_law_1825 ?_
      generalize f_695 (Int32.toNatClampNeg 0) = v_698 at hw ⊢
      refine lv_iload hF.1 hF.2.1 dL_law_1826 (lv_at hl 0 rfl) ?_
      refine lv_if_eq (tgt := 1835) hF.1 hF.2.1 dL_law_1828 (by decide) (fun c_699 => ?_) (fun c_699 => ?_)
      · have hw := hw.1 c_699
        refine lv_lconst (v := 0) hF.1 hF.2.1 dL_law_1835 (by decide) ?_
        exact Tl1836 l hlt K X0 hF hr hlocks hC hx hbl hA0 h a hap hmA _ hJ28 x1 x3 x4 x5 v_698 0 X_676 F_688 R_689 L_690 G_691 (kc + mc_677) (ks + ms_678) _ _ ls hP hM hD hS ⟨hc_679, hs_680⟩ (lv_sub hl [2, 3, 4, 5, 6, 7] rfl) hw
      · have hw := hw.2 c_699
        refine lv_lconst (v := 1) hF.1 hF.2.1 dL_law_1831 (by decide) ?_
        refine lv_goto (tgt := 1836) hF.1 hF.2.1 dL_law_1832 (by decide) ?_
        exact Tl1836 l hlt K X0 hF hr hlocks hC hx hbl hA0 h a hap hmA _ hJ28 x1 x3 x4 x5 v_698 1 X_676 F_688 R_689 L_690 G_691 (kc + mc_677) (ks + ms_678) _ _ ls hP hM hD hS ⟨hc_679, hs_680⟩ (lv_sub hl [2, 3, 4, 5, 6, 7] rfl) hw
  · have hw := hw.2 c_692
    refine lv_iconst (v := 0) hF.1 hF.2.1 dL_law_1816 (by decide) ?_
    exact l_end hF hr hlocks hA0 hS ⟨hc_679, hs_680⟩ dL_law_1817 hw
def wpL_1897 (E mc ms N : Nat) (xs : Nat → Int32) (J28 : Nat → Nat → Nat → Int32 → hX → mF → mR → mL → mG → Nat → Nat → Prop) (x1 : Nat) (x3 : Nat) (x4 : Nat) (x5 : Int32) (X : hX) (F : mF) (R : mR) (L : mL) (G : mG) (kc ks : Nat) : Prop := (∀ x5_700 : Int32, x5_700 = x5 + 5 → J28 x1 x3 x4 x5_700 X F R L G kc ks)
set_option maxHeartbeats 8000000 in
theorem Tl1897 {p : Program} {e : Env} {s : State} {m : MethodId} {below : List Frame} {meth : Method} {c : Code} (l : Launch) (hlt : l.stackTraces = false) (K : HK) {b N : Nat} {xs : Nat → Int32} (X0 : hX) (hF : CallFix p m c code 9 s #[Value.ref b] lw_all R_law) (hr : meth.sig.returnType = ret) (hlocks : meth.locks = false) (hC : HC K X0 s) (hx : va_X b N xs s s.heap) (hbl : b < s.heap.size) (hA0 : ∀ q, hA X0 s.heap.size q → s.heap.size ≤ q) (h : Nat) (a : Nat → Nat) (hap : mAp h a) (hmA : ∀ q, mA h a q → hA X0 s.heap.size q) (J28 : Nat → Nat → Nat → Int32 → hX → mF → mR → mL → mG → Nat → Nat → Prop) (hJ28 : ∀ (x1 : Nat) (x3 : Nat) (x4 : Nat) (x5 : Int32) (X : hX) (F : mF) (R : mR) (L : mL) (G : mG) (kc ks : Nat) (H : Heap) (locs : List Loc) (ls : Array Slot), hI K X0 s.heap.size X H → mP K.1 h a F R L G H → hdis X h a → va_S (hA X0 s.heap.size) s.heap H locs → kc ≤ 1200048 ∧ ks ≤ 5501818 → lv_has ls 9 [(0, .ref b), (1, .ref x1), (2, .ref h), (3, .ref x3), (4, .ref x4), (5, .int x5)] → J28 x1 x3 x4 x5 X F R L G kc ks → W p l e room_1 s m #[Value.ref b] below meth c H locs kc ks (lw_Z below #[Value.ref b] s) (F0 m 28 ls [])) : ∀ (x1 : Nat) (x3 : Nat) (x4 : Nat) (x5 : Int32) (X : hX) (F : mF) (R : mR) (L : mL) (G : mG) (kc ks : Nat) (H : Heap) (locs : List Loc) (ls : Array Slot), hI K X0 s.heap.size X H → mP K.1 h a F R L G H → hdis X h a → va_S (hA X0 s.heap.size) s.heap H locs → kc ≤ 1200048 ∧ ks ≤ 5501818 → lv_has ls 9 [(0, .ref b), (1, .ref x1), (2, .ref h), (3, .ref x3), (4, .ref x4), (5, .int x5)] → wpL_1897 (K.2.2 0) 1200048 5501818 N xs J28 x1 x3 x4 x5 X F R L G kc ks → W p l e room_1 s m #[Value.ref b] below meth c H locs kc ks (lw_Z below #[Value.ref b] s) (F0 m 1897 ls []) := by
  have hbA : ¬ hA X0 s.heap.size b := fun z => Nat.not_lt.mpr (hA0 b z) hbl
  intro x1 x3 x4 x5 X F R L G kc ks H locs ls hP hM hD hS hk hl hw
  unfold wpL_1897 at hw
  refine lv_goto (tgt := 3714) hF.1 hF.2.1 dL_law_1897 (by decide) ?_
  obtain ⟨x5_700, ex5_700⟩ : ∃ y : Int32, y = x5 + 5 := ⟨_, rfl⟩
  have hw := hw x5_700 ex5_700
  refine lv_iinc (v := x5_700) (lv' := [(5, .int x5_700), (0, .ref b), (1, .ref x1), (2, .ref h), (3, .ref x3), (4, .ref x4)]) hF.1 hF.2.1 dL_law_3714 hl (k := 5) rfl (by rw [ex5_700]; rfl) (by decide) rfl (fun ls hl => ?_)
  refine lv_goto (tgt := 28) hF.1 hF.2.1 dL_law_3717 (by decide) ?_
  exact hJ28 x1 x3 x4 x5_700 X F R L G kc ks _ _ ls hP hM hD hS hk (lv_sub hl [1, 2, 3, 4, 5, 0] rfl) hw
def wpL_1845 (E mc ms N : Nat) (xs : Nat → Int32) (J28 : Nat → Nat → Nat → Int32 → hX → mF → mR → mL → mG → Nat → Nat → Prop) (x1 : Nat) (x3 : Nat) (x4 : Nat) (x5 : Int32) (X : hX) (F : mF) (R : mR) (L : mL) (G : mG) (kc ks : Nat) : Prop := (vp_in (x5 + 1) N ∧ (∃ mc_704 ms_705 : Nat, kc + mc_704 ≤ mc ∧ ks + ms_705 ≤ ms ∧ wpX0_teethGone (fun r_702 X_703 => (vp_in (x5 + 1) N ∧ wpX3_teethGone (fun r_709 F_710 R_711 L_712 G_713 => wpX3_thrown (fun r_714 F_715 R_716 L_717 G_718 => ((r_714 = r_702 → ((r_702 = 0 → alJ X_703 x3 0 (fun v_725 => ((v_725 = r_709 → wpL_1897 E mc ms N xs J28 x1 x3 x4 x5 X_703 F_715 R_716 L_717 G_718 (kc + mc_704) (ks + ms_705)) ∧ (¬ v_725 = r_709 → (0 : Int32) = 1)))) ∧ (¬ r_702 = 0 → wpL_1897 E mc ms N xs J28 x1 x3 x4 x5 X_703 F_715 R_716 L_717 G_718 (kc + mc_704) (ks + ms_705)))) ∧ (¬ r_714 = r_702 → (0 : Int32) = 1))) F_710 R_711 L_712 G_713) F R L G (xs (Int32.toNatClampNeg (x5 + 1))))) (fun _ _ _ => False) E mc_704 ms_705 X x1 (xs (Int32.toNatClampNeg (x5 + 1))) x3))
set_option maxHeartbeats 8000000 in
theorem Tl1845 {p : Program} {e : Env} {s : State} {m : MethodId} {below : List Frame} {meth : Method} {c : Code} (l : Launch) (hlt : l.stackTraces = false) (K : HK) {b N : Nat} {xs : Nat → Int32} (X0 : hX) (hF : CallFix p m c code 9 s #[Value.ref b] lw_all R_law) (hr : meth.sig.returnType = ret) (hlocks : meth.locks = false) (hC : HC K X0 s) (hx : va_X b N xs s s.heap) (hbl : b < s.heap.size) (hA0 : ∀ q, hA X0 s.heap.size q → s.heap.size ≤ q) (h : Nat) (a : Nat → Nat) (hap : mAp h a) (hmA : ∀ q, mA h a q → hA X0 s.heap.size q) (J28 : Nat → Nat → Nat → Int32 → hX → mF → mR → mL → mG → Nat → Nat → Prop) (hJ28 : ∀ (x1 : Nat) (x3 : Nat) (x4 : Nat) (x5 : Int32) (X : hX) (F : mF) (R : mR) (L : mL) (G : mG) (kc ks : Nat) (H : Heap) (locs : List Loc) (ls : Array Slot), hI K X0 s.heap.size X H → mP K.1 h a F R L G H → hdis X h a → va_S (hA X0 s.heap.size) s.heap H locs → kc ≤ 1200048 ∧ ks ≤ 5501818 → lv_has ls 9 [(0, .ref b), (1, .ref x1), (2, .ref h), (3, .ref x3), (4, .ref x4), (5, .int x5)] → J28 x1 x3 x4 x5 X F R L G kc ks → W p l e room_1 s m #[Value.ref b] below meth c H locs kc ks (lw_Z below #[Value.ref b] s) (F0 m 28 ls [])) : ∀ (x1 : Nat) (x3 : Nat) (x4 : Nat) (x5 : Int32) (X : hX) (F : mF) (R : mR) (L : mL) (G : mG) (kc ks : Nat) (H : Heap) (locs : List Loc) (ls : Array Slot), hI K X0 s.heap.size X H → mP K.1 h a F R L G H → hdis X h a → va_S (hA X0 s.heap.size) s.heap H locs → kc ≤ 1200048 ∧ ks ≤ 5501818 → lv_has ls 9 [(0, .ref b), (1, .ref x1), (2, .ref h), (3, .ref x3), (4, .ref x4), (5, .int x5)] → wpL_1845 (K.2.2 0) 1200048 5501818 N xs J28 x1 x3 x4 x5 X F R L G kc ks → W p l e room_1 s m #[Value.ref b] below meth c H locs kc ks (lw_Z below #[Value.ref b] s) (F0 m 1845 ls []) := by
  have hbA : ¬ hA X0 s.heap.size b := fun z => Nat.not_lt.mpr (hA0 b z) hbl
  intro x1 x3 x4 x5 X F R L G kc ks H locs ls hP hM hD hS hk hl hw
  unfold wpL_1845 at hw
  refine lv_aload_n hF.1 hF.2.1 dL_law_1845 rfl (lv_at hl 1 rfl) ?_
  refine lv_aload_n hF.1 hF.2.1 dL_law_1846 rfl (lv_at hl 0 rfl) ?_
  refine lv_iload hF.1 hF.2.1 dL_law_1847 (lv_at hl 5 rfl) ?_
  refine lv_iconst (v := 1) hF.1 hF.2.1 dL_law_1849 (by decide) ?_
  refine lv_iadd hF.1 hF.2.1 dL_law_1850 ?_
  obtain ⟨h_701, hw⟩ := hw
  refine va_sld hF.1 hF.2.1 hx hbl hbA hS h_701 dL_law_1851 ?_
  refine lv_aload_n hF.1 hF.2.1 dL_law_1852 rfl (lv_at hl 3 rfl) ?_
  obtain ⟨mc_704, ms_705, hc_706, hs_707, hw⟩ := hw
  refine lkx_i (hrx_SX (As := [.ref x1, .int (xs (Int32.toNatClampNeg (x5 + 1))), .ref x3]) (rest := []) hF hl.1 hC hP hS (metX0_teethGone l hlt K mc_704 ms_705 _ _ _ X x1 (xs (Int32.toNatClampNeg (x5 + 1))) x3) (vx_cwSW 3 hF.2.2.2.2 (lw_SW q1255 q1256 q74 q1257) rfl rfl rfl (by decide +kernel) ⟨Nat.le_of_ble_eq_true rfl, Nat.le_of_ble_eq_true rfl⟩) hw rfl rfl (Nat.le_of_ble_eq_true rfl) dL_law_1853 ⟨hc_706, hs_707⟩) hP hM hD hS (fun r_702 X_703 H locs hw hP hM hD hS => ?_)
  refine lv_istore (lv' := [(6, .int r_702), (0, .ref b), (1, .ref x1), (2, .ref h), (3, .ref x3), (4, .ref x4), (5, .int x5)]) hF.1 hF.2.1 dL_law_1856 hl (by decide) rfl (fun ls hl => ?_)
  refine lv_aload_n hF.1 hF.2.1 dL_law_1858 rfl (lv_at hl 3 rfl) ?_
  refine lv_aload_n hF.1 hF.2.1 dL_law_1859 rfl (lv_at hl 1 rfl) ?_
  refine lv_iload hF.1 hF.2.1 dL_law_1860 (lv_at hl 6 rfl) ?_
  refine lv_iconst (v := 1) hF.1 hF.2.1 dL_law_1862 (by decide) ?_
  refine lv_iadd hF.1 hF.2.1 dL_law_1863 ?_
  obtain ⟨h_708, hw⟩ := hw
  refine va_sld hF.1 hF.2.1 hx hbl hbA hS h_708 dL_law_1864 ?_
  refine lm_l (As := [.int (xs (Int32.toNatClampNeg (x5 + 1)))]) (rest := []) hF hl.1 hC (metX3_teethGone l K.1 h a hap _ F R L G (xs (Int32.toNatClampNeg (x5 + 1)))) (cwV 1 hF.2.2.2.2 (lw_V q2073 q2074 q2075 q85 q2076) rfl rfl rfl (by decide +kernel) ⟨Nat.le_of_ble_eq_true rfl, Nat.le_of_ble_eq_true rfl⟩) hP hM hD hS hmA hw rfl rfl (Nat.le_of_ble_eq_true rfl) dL_law_1865 ⟨hc_706, hs_707⟩ (fun r_709 F_710 R_711 L_712 G_713 H locs hw hP hM hS => ?_)
  refine lv_lstore (lv' := [(7, .long r_709), (6, .int r_702), (0, .ref b), (1, .ref x1), (2, .ref h), (3, .ref x3), (4, .ref x4), (5, .int x5)]) hF.1 hF.2.1 dL_law_1868 hl (by decide) rfl (fun ls hl => ?_)
  refine lv_aload_n hF.1 hF.2.1 dL_law_1870 rfl (lv_at hl 4 rfl) ?_
  refine lm_i (As := []) (rest := []) hF hl.1 hC (metX3_thrown l K.1 h a hap _ F_710 R_711 L_712 G_713) (cwV 0 hF.2.2.2.2 (lw_V q1813 q1814 q1815 q85 q1816) rfl rfl rfl (by decide +kernel) ⟨Nat.le_of_ble_eq_true rfl, Nat.le_of_ble_eq_true rfl⟩) hP hM hD hS hmA hw rfl rfl (Nat.le_of_ble_eq_true rfl) dL_law_1871 ⟨hc_706, hs_707⟩ (fun r_714 F_715 R_716 L_717 G_718 H locs hw hP hM hS => ?_)
  refine lv_iload hF.1 hF.2.1 dL_law_1874 (lv_at hl 1 rfl) ?_
  refine lv_icmp_eq (tgt := 1881) hF.1 hF.2.1 dL_law_1876 (by decide) (fun c_719 => ?_) (fun c_719 => ?_)
  · have hw := hw.1 c_719
    refine lv_iload hF.1 hF.2.1 dL_law_1881 (lv_at hl 1 rfl) ?_
    refine lv_if_ne (tgt := 1897) hF.1 hF.2.1 dL_law_1883 (by decide) (fun c_720 => ?_) (fun c_720 => ?_)
    · have hw := hw.2 c_720
      exact Tl1897 l hlt K X0 hF hr hlocks hC hx hbl hA0 h a hap hmA _ hJ28 x1 x3 x4 x5 X_703 F_715 R_716 L_717 G_718 (kc + mc_704) (ks + ms_705) _ _ ls hP hM hD hS ⟨hc_706, hs_707⟩ (lv_sub hl [2, 3, 4, 5, 6, 7] rfl) hw
    · have hw := hw.1 c_720
      refine lv_aload_n hF.1 hF.2.1 dL_law_1886 rfl (lv_at hl 5 rfl) ?_
      refine lv_iconst (v := 0) hF.1 hF.2.1 dL_law_1887 (by decide) ?_
      obtain ⟨n_721, f_722, hx_723, hi_724, hw⟩ := hw
      refine x_lald hF hC hP hx_723 hi_724 dL_law_1888 ?_
      generalize f_722 (Int32.toNatClampNeg 0) = v_725 at hw ⊢
      refine lv_lload hF.1 hF.2.1 dL_law_1889 (lv_at hl 0 rfl) ?_
      refine W.lcmp hF.1 hF.2.1 dL_law_1891 ?_
      refine lv_if_eq (tgt := 1897) hF.1 hF.2.1 dL_law_1892 (by decide) (fun c_726 => ?_) (fun c_726 => ?_)
      · rw [lc_eq] at c_726
        have hw := hw.1 c_726
        exact Tl1897 l hlt K X0 hF hr hlocks hC hx hbl hA0 h a hap hmA _ hJ28 x1 x3 x4 x5 X_703 F_715 R_716 L_717 G_718 (kc + mc_704) (ks + ms_705) _ _ ls hP hM hD hS ⟨hc_706, hs_707⟩ (lv_sub hl [2, 3, 4, 5, 6, 7] rfl) hw
      · rw [lc_eq] at c_726
        have hw := hw.2 c_726
        refine lv_iconst (v := 0) hF.1 hF.2.1 dL_law_1895 (by decide) ?_
        exact l_end hF hr hlocks hA0 hS ⟨hc_706, hs_707⟩ dL_law_1896 hw
  · have hw := hw.2 c_719
    refine lv_iconst (v := 0) hF.1 hF.2.1 dL_law_1879 (by decide) ?_
    exact l_end hF hr hlocks hA0 hS ⟨hc_706, hs_707⟩ dL_law_1880 hw
def wpL_1900 (E mc ms N : Nat) (xs : Nat → Int32) (J28 : Nat → Nat → Nat → Int32 → hX → mF → mR → mL → mG → Nat → Nat → Prop) (x1 : Nat) (x3 : Nat) (x4 : Nat) (x5 : Int32) (X : hX) (F : mF) (R : mR) (L : mL) (G : mG) (kc ks : Nat) : Prop := isO X x1 1 (wpX1_arms (fun r_727 X_728 => wpX3_arms (fun r_730 F_731 R_732 L_733 G_734 => ((r_727 = r_730 → (∀ x5_736 : Int32, x5_736 = x5 + 5 → J28 x1 x3 x4 x5_736 X_728 F_731 R_732 L_733 G_734 kc ks)) ∧ (¬ r_727 = r_730 → (0 : Int32) = 1))) F R L G) E X x1)
set_option maxHeartbeats 8000000 in
theorem Tl1900 {p : Program} {e : Env} {s : State} {m : MethodId} {below : List Frame} {meth : Method} {c : Code} (l : Launch) (hlt : l.stackTraces = false) (K : HK) {b N : Nat} {xs : Nat → Int32} (X0 : hX) (hF : CallFix p m c code 9 s #[Value.ref b] lw_all R_law) (hr : meth.sig.returnType = ret) (hlocks : meth.locks = false) (hC : HC K X0 s) (hx : va_X b N xs s s.heap) (hbl : b < s.heap.size) (hA0 : ∀ q, hA X0 s.heap.size q → s.heap.size ≤ q) (h : Nat) (a : Nat → Nat) (hap : mAp h a) (hmA : ∀ q, mA h a q → hA X0 s.heap.size q) (J28 : Nat → Nat → Nat → Int32 → hX → mF → mR → mL → mG → Nat → Nat → Prop) (hJ28 : ∀ (x1 : Nat) (x3 : Nat) (x4 : Nat) (x5 : Int32) (X : hX) (F : mF) (R : mR) (L : mL) (G : mG) (kc ks : Nat) (H : Heap) (locs : List Loc) (ls : Array Slot), hI K X0 s.heap.size X H → mP K.1 h a F R L G H → hdis X h a → va_S (hA X0 s.heap.size) s.heap H locs → kc ≤ 1200048 ∧ ks ≤ 5501818 → lv_has ls 9 [(0, .ref b), (1, .ref x1), (2, .ref h), (3, .ref x3), (4, .ref x4), (5, .int x5)] → J28 x1 x3 x4 x5 X F R L G kc ks → W p l e room_1 s m #[Value.ref b] below meth c H locs kc ks (lw_Z below #[Value.ref b] s) (F0 m 28 ls [])) : ∀ (x1 : Nat) (x3 : Nat) (x4 : Nat) (x5 : Int32) (X : hX) (F : mF) (R : mR) (L : mL) (G : mG) (kc ks : Nat) (H : Heap) (locs : List Loc) (ls : Array Slot), hI K X0 s.heap.size X H → mP K.1 h a F R L G H → hdis X h a → va_S (hA X0 s.heap.size) s.heap H locs → kc ≤ 1200048 ∧ ks ≤ 5501818 → lv_has ls 9 [(0, .ref b), (1, .ref x1), (2, .ref h), (3, .ref x3), (4, .ref x4), (5, .int x5)] → wpL_1900 (K.2.2 0) 1200048 5501818 N xs J28 x1 x3 x4 x5 X F R L G kc ks → W p l e room_1 s m #[Value.ref b] below meth c H locs kc ks (lw_Z below #[Value.ref b] s) (F0 m 1900 ls []) := by
  have hbA : ¬ hA X0 s.heap.size b := fun z => Nat.not_lt.mpr (hA0 b z) hbl
  intro x1 x3 x4 x5 X F R L G kc ks H locs ls hP hM hD hS hk hl hw
  unfold wpL_1900 at hw
  refine lv_aload_n hF.1 hF.2.1 dL_law_1900 rfl (lv_at hl 1 rfl) ?_
  obtain ⟨ho_729, hw⟩ := hw
  refine lk_i (hr_V (As := []) (rest := []) (T := TX1) (N := 4) (ci := 1) hF hl.1 hC hP hS (metX1_arms l K _ _ X x1) rfl (cwV 0 hF.2.2.2.2 (lw_V q274 q275 q276 q75 q277) rfl rfl rfl (by decide +kernel) ⟨Nat.le_of_ble_eq_true rfl, Nat.le_of_ble_eq_true rfl⟩) ho_729 hw rfl rfl (Nat.le_of_ble_eq_true rfl) dL_law_1901 hk) hP hM hD hS (fun r_727 X_728 H locs hw hP hM hD hS => ?_)
  refine lv_aload_n hF.1 hF.2.1 dL_law_1904 rfl (lv_at hl 2 rfl) ?_
  refine lm_i (As := []) (rest := [.int r_727]) hF hl.1 hC (metX3_arms l K.1 h a hap _ F R L G) (cwV 0 hF.2.2.2.2 (lw_V q2077 q2078 q2079 q85 q2080) rfl rfl rfl (by decide +kernel) ⟨Nat.le_of_ble_eq_true rfl, Nat.le_of_ble_eq_true rfl⟩) hP hM hD hS hmA hw rfl rfl (Nat.le_of_ble_eq_true rfl) dL_law_1905 hk (fun r_730 F_731 R_732 L_733 G_734 H locs hw hP hM hS => ?_)
  refine lv_icmp_eq (tgt := 3714) hF.1 hF.2.1 dL_law_1908 (by decide) (fun c_735 => ?_) (fun c_735 => ?_)
  · have hw := hw.1 c_735
    obtain ⟨x5_736, ex5_736⟩ : ∃ y : Int32, y = x5 + 5 := ⟨_, rfl⟩
    have hw := hw x5_736 ex5_736
    refine lv_iinc (v := x5_736) (lv' := [(5, .int x5_736), (0, .ref b), (1, .ref x1), (2, .ref h), (3, .ref x3), (4, .ref x4)]) hF.1 hF.2.1 dL_law_3714 hl (k := 5) rfl (by rw [ex5_736]; rfl) (by decide) rfl (fun ls hl => ?_)
    refine lv_goto (tgt := 28) hF.1 hF.2.1 dL_law_3717 (by decide) ?_
    exact hJ28 x1 x3 x4 x5_736 X_728 F_731 R_732 L_733 G_734 kc ks _ _ ls hP hM hD hS hk (lv_sub hl [1, 2, 3, 4, 5, 0] rfl) hw
  · have hw := hw.2 c_735
    refine lv_iconst (v := 0) hF.1 hF.2.1 dL_law_1911 (by decide) ?_
    exact l_end hF hr hlocks hA0 hS hk dL_law_1912 hw
def wpL_1913 (E mc ms N : Nat) (xs : Nat → Int32) (J28 : Nat → Nat → Nat → Int32 → hX → mF → mR → mL → mG → Nat → Nat → Prop) (x1 : Nat) (x3 : Nat) (x4 : Nat) (x5 : Int32) (X : hX) (F : mF) (R : mR) (L : mL) (G : mG) (kc ks : Nat) : Prop := isO X x1 1 (wpX1_moons (fun r_737 X_738 => wpX3_moons (fun r_740 F_741 R_742 L_743 G_744 => ((r_737 = r_740 → (∀ x5_746 : Int32, x5_746 = x5 + 5 → J28 x1 x3 x4 x5_746 X_738 F_741 R_742 L_743 G_744 kc ks)) ∧ (¬ r_737 = r_740 → (0 : Int32) = 1))) F R L G) E X x1)
set_option maxHeartbeats 8000000 in
theorem Tl1913 {p : Program} {e : Env} {s : State} {m : MethodId} {below : List Frame} {meth : Method} {c : Code} (l : Launch) (hlt : l.stackTraces = false) (K : HK) {b N : Nat} {xs : Nat → Int32} (X0 : hX) (hF : CallFix p m c code 9 s #[Value.ref b] lw_all R_law) (hr : meth.sig.returnType = ret) (hlocks : meth.locks = false) (hC : HC K X0 s) (hx : va_X b N xs s s.heap) (hbl : b < s.heap.size) (hA0 : ∀ q, hA X0 s.heap.size q → s.heap.size ≤ q) (h : Nat) (a : Nat → Nat) (hap : mAp h a) (hmA : ∀ q, mA h a q → hA X0 s.heap.size q) (J28 : Nat → Nat → Nat → Int32 → hX → mF → mR → mL → mG → Nat → Nat → Prop) (hJ28 : ∀ (x1 : Nat) (x3 : Nat) (x4 : Nat) (x5 : Int32) (X : hX) (F : mF) (R : mR) (L : mL) (G : mG) (kc ks : Nat) (H : Heap) (locs : List Loc) (ls : Array Slot), hI K X0 s.heap.size X H → mP K.1 h a F R L G H → hdis X h a → va_S (hA X0 s.heap.size) s.heap H locs → kc ≤ 1200048 ∧ ks ≤ 5501818 → lv_has ls 9 [(0, .ref b), (1, .ref x1), (2, .ref h), (3, .ref x3), (4, .ref x4), (5, .int x5)] → J28 x1 x3 x4 x5 X F R L G kc ks → W p l e room_1 s m #[Value.ref b] below meth c H locs kc ks (lw_Z below #[Value.ref b] s) (F0 m 28 ls [])) : ∀ (x1 : Nat) (x3 : Nat) (x4 : Nat) (x5 : Int32) (X : hX) (F : mF) (R : mR) (L : mL) (G : mG) (kc ks : Nat) (H : Heap) (locs : List Loc) (ls : Array Slot), hI K X0 s.heap.size X H → mP K.1 h a F R L G H → hdis X h a → va_S (hA X0 s.heap.size) s.heap H locs → kc ≤ 1200048 ∧ ks ≤ 5501818 → lv_has ls 9 [(0, .ref b), (1, .ref x1), (2, .ref h), (3, .ref x3), (4, .ref x4), (5, .int x5)] → wpL_1913 (K.2.2 0) 1200048 5501818 N xs J28 x1 x3 x4 x5 X F R L G kc ks → W p l e room_1 s m #[Value.ref b] below meth c H locs kc ks (lw_Z below #[Value.ref b] s) (F0 m 1913 ls []) := by
  have hbA : ¬ hA X0 s.heap.size b := fun z => Nat.not_lt.mpr (hA0 b z) hbl
  intro x1 x3 x4 x5 X F R L G kc ks H locs ls hP hM hD hS hk hl hw
  unfold wpL_1913 at hw
  refine lv_aload_n hF.1 hF.2.1 dL_law_1913 rfl (lv_at hl 1 rfl) ?_
  obtain ⟨ho_739, hw⟩ := hw
  refine lk_i (hr_V (As := []) (rest := []) (T := TX1) (N := 4) (ci := 1) hF hl.1 hC hP hS (metX1_moons l K _ _ X x1) rfl (cwV 0 hF.2.2.2.2 (lw_V q278 q279 q280 q75 q281) rfl rfl rfl (by decide +kernel) ⟨Nat.le_of_ble_eq_true rfl, Nat.le_of_ble_eq_true rfl⟩) ho_739 hw rfl rfl (Nat.le_of_ble_eq_true rfl) dL_law_1914 hk) hP hM hD hS (fun r_737 X_738 H locs hw hP hM hD hS => ?_)
  refine lv_aload_n hF.1 hF.2.1 dL_law_1917 rfl (lv_at hl 2 rfl) ?_
  refine lm_i (As := []) (rest := [.int r_737]) hF hl.1 hC (metX3_moons l K.1 h a hap _ F R L G) (cwV 0 hF.2.2.2.2 (lw_V q2081 q2082 q2083 q85 q2084) rfl rfl rfl (by decide +kernel) ⟨Nat.le_of_ble_eq_true rfl, Nat.le_of_ble_eq_true rfl⟩) hP hM hD hS hmA hw rfl rfl (Nat.le_of_ble_eq_true rfl) dL_law_1918 hk (fun r_740 F_741 R_742 L_743 G_744 H locs hw hP hM hS => ?_)
  refine lv_icmp_eq (tgt := 3714) hF.1 hF.2.1 dL_law_1921 (by decide) (fun c_745 => ?_) (fun c_745 => ?_)
  · have hw := hw.1 c_745
    obtain ⟨x5_746, ex5_746⟩ : ∃ y : Int32, y = x5 + 5 := ⟨_, rfl⟩
    have hw := hw x5_746 ex5_746
    refine lv_iinc (v := x5_746) (lv' := [(5, .int x5_746), (0, .ref b), (1, .ref x1), (2, .ref h), (3, .ref x3), (4, .ref x4)]) hF.1 hF.2.1 dL_law_3714 hl (k := 5) rfl (by rw [ex5_746]; rfl) (by decide) rfl (fun ls hl => ?_)
    refine lv_goto (tgt := 28) hF.1 hF.2.1 dL_law_3717 (by decide) ?_
    exact hJ28 x1 x3 x4 x5_746 X_738 F_741 R_742 L_743 G_744 kc ks _ _ ls hP hM hD hS hk (lv_sub hl [1, 2, 3, 4, 5, 0] rfl) hw
  · have hw := hw.2 c_745
    refine lv_iconst (v := 0) hF.1 hF.2.1 dL_law_1924 (by decide) ?_
    exact l_end hF hr hlocks hA0 hS hk dL_law_1925 hw
def wpL_1979 (E mc ms N : Nat) (xs : Nat → Int32) (J28 : Nat → Nat → Nat → Int32 → hX → mF → mR → mL → mG → Nat → Nat → Prop) (x1 : Nat) (x3 : Nat) (x4 : Nat) (x5 : Int32) (X : hX) (F : mF) (R : mR) (L : mL) (G : mG) (kc ks : Nat) : Prop := (∀ x5_747 : Int32, x5_747 = x5 + 5 → J28 x1 x3 x4 x5_747 X F R L G kc ks)
set_option maxHeartbeats 8000000 in
theorem Tl1979 {p : Program} {e : Env} {s : State} {m : MethodId} {below : List Frame} {meth : Method} {c : Code} (l : Launch) (hlt : l.stackTraces = false) (K : HK) {b N : Nat} {xs : Nat → Int32} (X0 : hX) (hF : CallFix p m c code 9 s #[Value.ref b] lw_all R_law) (hr : meth.sig.returnType = ret) (hlocks : meth.locks = false) (hC : HC K X0 s) (hx : va_X b N xs s s.heap) (hbl : b < s.heap.size) (hA0 : ∀ q, hA X0 s.heap.size q → s.heap.size ≤ q) (h : Nat) (a : Nat → Nat) (hap : mAp h a) (hmA : ∀ q, mA h a q → hA X0 s.heap.size q) (J28 : Nat → Nat → Nat → Int32 → hX → mF → mR → mL → mG → Nat → Nat → Prop) (hJ28 : ∀ (x1 : Nat) (x3 : Nat) (x4 : Nat) (x5 : Int32) (X : hX) (F : mF) (R : mR) (L : mL) (G : mG) (kc ks : Nat) (H : Heap) (locs : List Loc) (ls : Array Slot), hI K X0 s.heap.size X H → mP K.1 h a F R L G H → hdis X h a → va_S (hA X0 s.heap.size) s.heap H locs → kc ≤ 1200048 ∧ ks ≤ 5501818 → lv_has ls 9 [(0, .ref b), (1, .ref x1), (2, .ref h), (3, .ref x3), (4, .ref x4), (5, .int x5)] → J28 x1 x3 x4 x5 X F R L G kc ks → W p l e room_1 s m #[Value.ref b] below meth c H locs kc ks (lw_Z below #[Value.ref b] s) (F0 m 28 ls [])) : ∀ (x1 : Nat) (x3 : Nat) (x4 : Nat) (x5 : Int32) (X : hX) (F : mF) (R : mR) (L : mL) (G : mG) (kc ks : Nat) (H : Heap) (locs : List Loc) (ls : Array Slot), hI K X0 s.heap.size X H → mP K.1 h a F R L G H → hdis X h a → va_S (hA X0 s.heap.size) s.heap H locs → kc ≤ 1200048 ∧ ks ≤ 5501818 → lv_has ls 9 [(0, .ref b), (1, .ref x1), (2, .ref h), (3, .ref x3), (4, .ref x4), (5, .int x5)] → wpL_1979 (K.2.2 0) 1200048 5501818 N xs J28 x1 x3 x4 x5 X F R L G kc ks → W p l e room_1 s m #[Value.ref b] below meth c H locs kc ks (lw_Z below #[Value.ref b] s) (F0 m 1979 ls []) := by
  have hbA : ¬ hA X0 s.heap.size b := fun z => Nat.not_lt.mpr (hA0 b z) hbl
  intro x1 x3 x4 x5 X F R L G kc ks H locs ls hP hM hD hS hk hl hw
  unfold wpL_1979 at hw
  refine lv_goto (tgt := 3714) hF.1 hF.2.1 dL_law_1979 (by decide) ?_
  obtain ⟨x5_747, ex5_747⟩ : ∃ y : Int32, y = x5 + 5 := ⟨_, rfl⟩
  have hw := hw x5_747 ex5_747
  refine lv_iinc (v := x5_747) (lv' := [(5, .int x5_747), (0, .ref b), (1, .ref x1), (2, .ref h), (3, .ref x3), (4, .ref x4)]) hF.1 hF.2.1 dL_law_3714 hl (k := 5) rfl (by rw [ex5_747]; rfl) (by decide) rfl (fun ls hl => ?_)
  refine lv_goto (tgt := 28) hF.1 hF.2.1 dL_law_3717 (by decide) ?_
  exact hJ28 x1 x3 x4 x5_747 X F R L G kc ks _ _ ls hP hM hD hS hk (lv_sub hl [1, 2, 3, 4, 5, 0] rfl) hw
def wpL_1926 (E mc ms N : Nat) (xs : Nat → Int32) (J28 : Nat → Nat → Nat → Int32 → hX → mF → mR → mL → mG → Nat → Nat → Prop) (x1 : Nat) (x3 : Nat) (x4 : Nat) (x5 : Int32) (X : hX) (F : mF) (R : mR) (L : mL) (G : mG) (kc ks : Nat) : Prop := (vp_in (x5 + 1) N ∧ (∃ mc_751 ms_752 : Nat, kc + mc_751 ≤ mc ∧ ks + ms_752 ≤ ms ∧ wpX0_bendOf (fun r_749 X_750 => (vp_in (x5 + 1) N ∧ wpX3_bendOf (fun r_756 F_757 R_758 L_759 G_760 => wpX3_thrown (fun r_761 F_762 R_763 L_764 G_765 => ((r_761 = r_749 → ((r_749 = 0 → alJ X_750 x3 0 (fun v_772 => ((v_772 = (Int32.toInt64 r_756) → wpL_1979 E mc ms N xs J28 x1 x3 x4 x5 X_750 F_762 R_763 L_764 G_765 (kc + mc_751) (ks + ms_752)) ∧ (¬ v_772 = (Int32.toInt64 r_756) → (0 : Int32) = 1)))) ∧ (¬ r_749 = 0 → wpL_1979 E mc ms N xs J28 x1 x3 x4 x5 X_750 F_762 R_763 L_764 G_765 (kc + mc_751) (ks + ms_752)))) ∧ (¬ r_761 = r_749 → (0 : Int32) = 1))) F_757 R_758 L_759 G_760) F R L G (xs (Int32.toNatClampNeg (x5 + 1))))) (fun _ _ _ => False) E mc_751 ms_752 X x1 (xs (Int32.toNatClampNeg (x5 + 1))) x3))
set_option maxHeartbeats 8000000 in
theorem Tl1926 {p : Program} {e : Env} {s : State} {m : MethodId} {below : List Frame} {meth : Method} {c : Code} (l : Launch) (hlt : l.stackTraces = false) (K : HK) {b N : Nat} {xs : Nat → Int32} (X0 : hX) (hF : CallFix p m c code 9 s #[Value.ref b] lw_all R_law) (hr : meth.sig.returnType = ret) (hlocks : meth.locks = false) (hC : HC K X0 s) (hx : va_X b N xs s s.heap) (hbl : b < s.heap.size) (hA0 : ∀ q, hA X0 s.heap.size q → s.heap.size ≤ q) (h : Nat) (a : Nat → Nat) (hap : mAp h a) (hmA : ∀ q, mA h a q → hA X0 s.heap.size q) (J28 : Nat → Nat → Nat → Int32 → hX → mF → mR → mL → mG → Nat → Nat → Prop) (hJ28 : ∀ (x1 : Nat) (x3 : Nat) (x4 : Nat) (x5 : Int32) (X : hX) (F : mF) (R : mR) (L : mL) (G : mG) (kc ks : Nat) (H : Heap) (locs : List Loc) (ls : Array Slot), hI K X0 s.heap.size X H → mP K.1 h a F R L G H → hdis X h a → va_S (hA X0 s.heap.size) s.heap H locs → kc ≤ 1200048 ∧ ks ≤ 5501818 → lv_has ls 9 [(0, .ref b), (1, .ref x1), (2, .ref h), (3, .ref x3), (4, .ref x4), (5, .int x5)] → J28 x1 x3 x4 x5 X F R L G kc ks → W p l e room_1 s m #[Value.ref b] below meth c H locs kc ks (lw_Z below #[Value.ref b] s) (F0 m 28 ls [])) : ∀ (x1 : Nat) (x3 : Nat) (x4 : Nat) (x5 : Int32) (X : hX) (F : mF) (R : mR) (L : mL) (G : mG) (kc ks : Nat) (H : Heap) (locs : List Loc) (ls : Array Slot), hI K X0 s.heap.size X H → mP K.1 h a F R L G H → hdis X h a → va_S (hA X0 s.heap.size) s.heap H locs → kc ≤ 1200048 ∧ ks ≤ 5501818 → lv_has ls 9 [(0, .ref b), (1, .ref x1), (2, .ref h), (3, .ref x3), (4, .ref x4), (5, .int x5)] → wpL_1926 (K.2.2 0) 1200048 5501818 N xs J28 x1 x3 x4 x5 X F R L G kc ks → W p l e room_1 s m #[Value.ref b] below meth c H locs kc ks (lw_Z below #[Value.ref b] s) (F0 m 1926 ls []) := by
  have hbA : ¬ hA X0 s.heap.size b := fun z => Nat.not_lt.mpr (hA0 b z) hbl
  intro x1 x3 x4 x5 X F R L G kc ks H locs ls hP hM hD hS hk hl hw
  unfold wpL_1926 at hw
  refine lv_aload_n hF.1 hF.2.1 dL_law_1926 rfl (lv_at hl 1 rfl) ?_
  refine lv_aload_n hF.1 hF.2.1 dL_law_1927 rfl (lv_at hl 0 rfl) ?_
  refine lv_iload hF.1 hF.2.1 dL_law_1928 (lv_at hl 5 rfl) ?_
  refine lv_iconst (v := 1) hF.1 hF.2.1 dL_law_1930 (by decide) ?_
  refine lv_iadd hF.1 hF.2.1 dL_law_1931 ?_
  obtain ⟨h_748, hw⟩ := hw
  refine va_sld hF.1 hF.2.1 hx hbl hbA hS h_748 dL_law_1932 ?_
  refine lv_aload_n hF.1 hF.2.1 dL_law_1933 rfl (lv_at hl 3 rfl) ?_
  obtain ⟨mc_751, ms_752, hc_753, hs_754, hw⟩ := hw
  refine lkx_i (hrx_SX (As := [.ref x1, .int (xs (Int32.toNatClampNeg (x5 + 1))), .ref x3]) (rest := []) hF hl.1 hC hP hS (metX0_bendOf l hlt K mc_751 ms_752 _ _ _ X x1 (xs (Int32.toNatClampNeg (x5 + 1))) x3) (vx_cwSW 3 hF.2.2.2.2 (lw_SW q1262 q1263 q74 q1264) rfl rfl rfl (by decide +kernel) ⟨Nat.le_of_ble_eq_true rfl, Nat.le_of_ble_eq_true rfl⟩) hw rfl rfl (Nat.le_of_ble_eq_true rfl) dL_law_1934 ⟨hc_753, hs_754⟩) hP hM hD hS (fun r_749 X_750 H locs hw hP hM hD hS => ?_)
  refine lv_istore (lv' := [(6, .int r_749), (0, .ref b), (1, .ref x1), (2, .ref h), (3, .ref x3), (4, .ref x4), (5, .int x5)]) hF.1 hF.2.1 dL_law_1937 hl (by decide) rfl (fun ls hl => ?_)
  refine lv_aload_n hF.1 hF.2.1 dL_law_1939 rfl (lv_at hl 3 rfl) ?_
  refine lv_aload_n hF.1 hF.2.1 dL_law_1940 rfl (lv_at hl 1 rfl) ?_
  refine lv_iload hF.1 hF.2.1 dL_law_1941 (lv_at hl 6 rfl) ?_
  refine lv_iconst (v := 1) hF.1 hF.2.1 dL_law_1943 (by decide) ?_
  refine lv_iadd hF.1 hF.2.1 dL_law_1944 ?_
  obtain ⟨h_755, hw⟩ := hw
  refine va_sld hF.1 hF.2.1 hx hbl hbA hS h_755 dL_law_1945 ?_
  refine lm_i (As := [.int (xs (Int32.toNatClampNeg (x5 + 1)))]) (rest := []) hF hl.1 hC (metX3_bendOf l K.1 h a hap _ F R L G (xs (Int32.toNatClampNeg (x5 + 1)))) (cwV 1 hF.2.2.2.2 (lw_V q2085 q2086 q2087 q85 q2088) rfl rfl rfl (by decide +kernel) ⟨Nat.le_of_ble_eq_true rfl, Nat.le_of_ble_eq_true rfl⟩) hP hM hD hS hmA hw rfl rfl (Nat.le_of_ble_eq_true rfl) dL_law_1946 ⟨hc_753, hs_754⟩ (fun r_756 F_757 R_758 L_759 G_760 H locs hw hP hM hS => ?_)
  refine lv_istore (lv' := [(7, .int r_756), (6, .int r_749), (0, .ref b), (1, .ref x1), (2, .ref h), (3, .ref x3), (4, .ref x4), (5, .int x5)]) hF.1 hF.2.1 dL_law_1949 hl (by decide) rfl (fun ls hl => ?_)
  refine lv_aload_n hF.1 hF.2.1 dL_law_1951 rfl (lv_at hl 4 rfl) ?_
  refine lm_i (As := []) (rest := []) hF hl.1 hC (metX3_thrown l K.1 h a hap _ F_757 R_758 L_759 G_760) (cwV 0 hF.2.2.2.2 (lw_V q1813 q1814 q1815 q85 q1816) rfl rfl rfl (by decide +kernel) ⟨Nat.le_of_ble_eq_true rfl, Nat.le_of_ble_eq_true rfl⟩) hP hM hD hS hmA hw rfl rfl (Nat.le_of_ble_eq_true rfl) dL_law_1952 ⟨hc_753, hs_754⟩ (fun r_761 F_762 R_763 L_764 G_765 H locs hw hP hM hS => ?_)
  refine lv_iload hF.1 hF.2.1 dL_law_1955 (lv_at hl 1 rfl) ?_
  refine lv_icmp_eq (tgt := 1962) hF.1 hF.2.1 dL_law_1957 (by decide) (fun c_766 => ?_) (fun c_766 => ?_)
  · have hw := hw.1 c_766
    refine lv_iload hF.1 hF.2.1 dL_law_1962 (lv_at hl 1 rfl) ?_
    refine lv_if_ne (tgt := 1979) hF.1 hF.2.1 dL_law_1964 (by decide) (fun c_767 => ?_) (fun c_767 => ?_)
    · have hw := hw.2 c_767
      exact Tl1979 l hlt K X0 hF hr hlocks hC hx hbl hA0 h a hap hmA _ hJ28 x1 x3 x4 x5 X_750 F_762 R_763 L_764 G_765 (kc + mc_751) (ks + ms_752) _ _ ls hP hM hD hS ⟨hc_753, hs_754⟩ (lv_sub hl [2, 3, 4, 5, 6, 7] rfl) hw
    · have hw := hw.1 c_767
      refine lv_aload_n hF.1 hF.2.1 dL_law_1967 rfl (lv_at hl 5 rfl) ?_
      refine lv_iconst (v := 0) hF.1 hF.2.1 dL_law_1968 (by decide) ?_
      obtain ⟨n_768, f_769, hx_770, hi_771, hw⟩ := hw
      refine x_lald hF hC hP hx_770 hi_771 dL_law_1969 ?_
      generalize f_769 (Int32.toNatClampNeg 0) = v_772 at hw ⊢
      refine lv_iload hF.1 hF.2.1 dL_law_1970 (lv_at hl 0 rfl) ?_
      refine lv_i2l hF.1 hF.2.1 dL_law_1972 rfl ?_
      refine W.lcmp hF.1 hF.2.1 dL_law_1973 ?_
      refine lv_if_eq (tgt := 1979) hF.1 hF.2.1 dL_law_1974 (by decide) (fun c_773 => ?_) (fun c_773 => ?_)
      · rw [lc_eq] at c_773
        have hw := hw.1 c_773
        exact Tl1979 l hlt K X0 hF hr hlocks hC hx hbl hA0 h a hap hmA _ hJ28 x1 x3 x4 x5 X_750 F_762 R_763 L_764 G_765 (kc + mc_751) (ks + ms_752) _ _ ls hP hM hD hS ⟨hc_753, hs_754⟩ (lv_sub hl [2, 3, 4, 5, 6, 7] rfl) hw
      · rw [lc_eq] at c_773
        have hw := hw.2 c_773
        refine lv_iconst (v := 0) hF.1 hF.2.1 dL_law_1977 (by decide) ?_
        exact l_end hF hr hlocks hA0 hS ⟨hc_753, hs_754⟩ dL_law_1978 hw
  · have hw := hw.2 c_766
    refine lv_iconst (v := 0) hF.1 hF.2.1 dL_law_1960 (by decide) ?_
    exact l_end hF hr hlocks hA0 hS ⟨hc_753, hs_754⟩ dL_law_1961 hw
def wpL_2035 (E mc ms N : Nat) (xs : Nat → Int32) (J28 : Nat → Nat → Nat → Int32 → hX → mF → mR → mL → mG → Nat → Nat → Prop) (x1 : Nat) (x3 : Nat) (x4 : Nat) (x5 : Int32) (X : hX) (F : mF) (R : mR) (L : mL) (G : mG) (kc ks : Nat) : Prop := (∀ x5_774 : Int32, x5_774 = x5 + 5 → J28 x1 x3 x4 x5_774 X F R L G kc ks)
set_option maxHeartbeats 8000000 in
theorem Tl2035 {p : Program} {e : Env} {s : State} {m : MethodId} {below : List Frame} {meth : Method} {c : Code} (l : Launch) (hlt : l.stackTraces = false) (K : HK) {b N : Nat} {xs : Nat → Int32} (X0 : hX) (hF : CallFix p m c code 9 s #[Value.ref b] lw_all R_law) (hr : meth.sig.returnType = ret) (hlocks : meth.locks = false) (hC : HC K X0 s) (hx : va_X b N xs s s.heap) (hbl : b < s.heap.size) (hA0 : ∀ q, hA X0 s.heap.size q → s.heap.size ≤ q) (h : Nat) (a : Nat → Nat) (hap : mAp h a) (hmA : ∀ q, mA h a q → hA X0 s.heap.size q) (J28 : Nat → Nat → Nat → Int32 → hX → mF → mR → mL → mG → Nat → Nat → Prop) (hJ28 : ∀ (x1 : Nat) (x3 : Nat) (x4 : Nat) (x5 : Int32) (X : hX) (F : mF) (R : mR) (L : mL) (G : mG) (kc ks : Nat) (H : Heap) (locs : List Loc) (ls : Array Slot), hI K X0 s.heap.size X H → mP K.1 h a F R L G H → hdis X h a → va_S (hA X0 s.heap.size) s.heap H locs → kc ≤ 1200048 ∧ ks ≤ 5501818 → lv_has ls 9 [(0, .ref b), (1, .ref x1), (2, .ref h), (3, .ref x3), (4, .ref x4), (5, .int x5)] → J28 x1 x3 x4 x5 X F R L G kc ks → W p l e room_1 s m #[Value.ref b] below meth c H locs kc ks (lw_Z below #[Value.ref b] s) (F0 m 28 ls [])) : ∀ (x1 : Nat) (x3 : Nat) (x4 : Nat) (x5 : Int32) (X : hX) (F : mF) (R : mR) (L : mL) (G : mG) (kc ks : Nat) (H : Heap) (locs : List Loc) (ls : Array Slot), hI K X0 s.heap.size X H → mP K.1 h a F R L G H → hdis X h a → va_S (hA X0 s.heap.size) s.heap H locs → kc ≤ 1200048 ∧ ks ≤ 5501818 → lv_has ls 9 [(0, .ref b), (1, .ref x1), (2, .ref h), (3, .ref x3), (4, .ref x4), (5, .int x5)] → wpL_2035 (K.2.2 0) 1200048 5501818 N xs J28 x1 x3 x4 x5 X F R L G kc ks → W p l e room_1 s m #[Value.ref b] below meth c H locs kc ks (lw_Z below #[Value.ref b] s) (F0 m 2035 ls []) := by
  have hbA : ¬ hA X0 s.heap.size b := fun z => Nat.not_lt.mpr (hA0 b z) hbl
  intro x1 x3 x4 x5 X F R L G kc ks H locs ls hP hM hD hS hk hl hw
  unfold wpL_2035 at hw
  refine lv_goto (tgt := 3714) hF.1 hF.2.1 dL_law_2035 (by decide) ?_
  obtain ⟨x5_774, ex5_774⟩ : ∃ y : Int32, y = x5 + 5 := ⟨_, rfl⟩
  have hw := hw x5_774 ex5_774
  refine lv_iinc (v := x5_774) (lv' := [(5, .int x5_774), (0, .ref b), (1, .ref x1), (2, .ref h), (3, .ref x3), (4, .ref x4)]) hF.1 hF.2.1 dL_law_3714 hl (k := 5) rfl (by rw [ex5_774]; rfl) (by decide) rfl (fun ls hl => ?_)
  refine lv_goto (tgt := 28) hF.1 hF.2.1 dL_law_3717 (by decide) ?_
  exact hJ28 x1 x3 x4 x5_774 X F R L G kc ks _ _ ls hP hM hD hS hk (lv_sub hl [1, 2, 3, 4, 5, 0] rfl) hw
def wpL_1982 (E mc ms N : Nat) (xs : Nat → Int32) (J28 : Nat → Nat → Nat → Int32 → hX → mF → mR → mL → mG → Nat → Nat → Prop) (x1 : Nat) (x3 : Nat) (x4 : Nat) (x5 : Int32) (X : hX) (F : mF) (R : mR) (L : mL) (G : mG) (kc ks : Nat) : Prop := (vp_in (x5 + 1) N ∧ (∃ mc_778 ms_779 : Nat, kc + mc_778 ≤ mc ∧ ks + ms_779 ≤ ms ∧ wpX0_angleOf (fun r_776 X_777 => (vp_in (x5 + 1) N ∧ wpX3_angleOf (fun r_783 F_784 R_785 L_786 G_787 => wpX3_thrown (fun r_788 F_789 R_790 L_791 G_792 => ((r_788 = r_776 → ((r_776 = 0 → alJ X_777 x3 0 (fun v_799 => ((v_799 = (Int32.toInt64 r_783) → wpL_2035 E mc ms N xs J28 x1 x3 x4 x5 X_777 F_789 R_790 L_791 G_792 (kc + mc_778) (ks + ms_779)) ∧ (¬ v_799 = (Int32.toInt64 r_783) → (0 : Int32) = 1)))) ∧ (¬ r_776 = 0 → wpL_2035 E mc ms N xs J28 x1 x3 x4 x5 X_777 F_789 R_790 L_791 G_792 (kc + mc_778) (ks + ms_779)))) ∧ (¬ r_788 = r_776 → (0 : Int32) = 1))) F_784 R_785 L_786 G_787) F R L G (xs (Int32.toNatClampNeg (x5 + 1))))) (fun _ _ _ => False) E mc_778 ms_779 X x1 (xs (Int32.toNatClampNeg (x5 + 1))) x3))
set_option maxHeartbeats 8000000 in
theorem Tl1982 {p : Program} {e : Env} {s : State} {m : MethodId} {below : List Frame} {meth : Method} {c : Code} (l : Launch) (hlt : l.stackTraces = false) (K : HK) {b N : Nat} {xs : Nat → Int32} (X0 : hX) (hF : CallFix p m c code 9 s #[Value.ref b] lw_all R_law) (hr : meth.sig.returnType = ret) (hlocks : meth.locks = false) (hC : HC K X0 s) (hx : va_X b N xs s s.heap) (hbl : b < s.heap.size) (hA0 : ∀ q, hA X0 s.heap.size q → s.heap.size ≤ q) (h : Nat) (a : Nat → Nat) (hap : mAp h a) (hmA : ∀ q, mA h a q → hA X0 s.heap.size q) (J28 : Nat → Nat → Nat → Int32 → hX → mF → mR → mL → mG → Nat → Nat → Prop) (hJ28 : ∀ (x1 : Nat) (x3 : Nat) (x4 : Nat) (x5 : Int32) (X : hX) (F : mF) (R : mR) (L : mL) (G : mG) (kc ks : Nat) (H : Heap) (locs : List Loc) (ls : Array Slot), hI K X0 s.heap.size X H → mP K.1 h a F R L G H → hdis X h a → va_S (hA X0 s.heap.size) s.heap H locs → kc ≤ 1200048 ∧ ks ≤ 5501818 → lv_has ls 9 [(0, .ref b), (1, .ref x1), (2, .ref h), (3, .ref x3), (4, .ref x4), (5, .int x5)] → J28 x1 x3 x4 x5 X F R L G kc ks → W p l e room_1 s m #[Value.ref b] below meth c H locs kc ks (lw_Z below #[Value.ref b] s) (F0 m 28 ls [])) : ∀ (x1 : Nat) (x3 : Nat) (x4 : Nat) (x5 : Int32) (X : hX) (F : mF) (R : mR) (L : mL) (G : mG) (kc ks : Nat) (H : Heap) (locs : List Loc) (ls : Array Slot), hI K X0 s.heap.size X H → mP K.1 h a F R L G H → hdis X h a → va_S (hA X0 s.heap.size) s.heap H locs → kc ≤ 1200048 ∧ ks ≤ 5501818 → lv_has ls 9 [(0, .ref b), (1, .ref x1), (2, .ref h), (3, .ref x3), (4, .ref x4), (5, .int x5)] → wpL_1982 (K.2.2 0) 1200048 5501818 N xs J28 x1 x3 x4 x5 X F R L G kc ks → W p l e room_1 s m #[Value.ref b] below meth c H locs kc ks (lw_Z below #[Value.ref b] s) (F0 m 1982 ls []) := by
  have hbA : ¬ hA X0 s.heap.size b := fun z => Nat.not_lt.mpr (hA0 b z) hbl
  intro x1 x3 x4 x5 X F R L G kc ks H locs ls hP hM hD hS hk hl hw
  unfold wpL_1982 at hw
  refine lv_aload_n hF.1 hF.2.1 dL_law_1982 rfl (lv_at hl 1 rfl) ?_
  refine lv_aload_n hF.1 hF.2.1 dL_law_1983 rfl (lv_at hl 0 rfl) ?_
  refine lv_iload hF.1 hF.2.1 dL_law_1984 (lv_at hl 5 rfl) ?_
  refine lv_iconst (v := 1) hF.1 hF.2.1 dL_law_1986 (by decide) ?_
  refine lv_iadd hF.1 hF.2.1 dL_law_1987 ?_
  obtain ⟨h_775, hw⟩ := hw
  refine va_sld hF.1 hF.2.1 hx hbl hbA hS h_775 dL_law_1988 ?_
  refine lv_aload_n hF.1 hF.2.1 dL_law_1989 rfl (lv_at hl 3 rfl) ?_
  obtain ⟨mc_778, ms_779, hc_780, hs_781, hw⟩ := hw
  refine lkx_i (hrx_SX (As := [.ref x1, .int (xs (Int32.toNatClampNeg (x5 + 1))), .ref x3]) (rest := []) hF hl.1 hC hP hS (metX0_angleOf l hlt K mc_778 ms_779 _ _ _ X x1 (xs (Int32.toNatClampNeg (x5 + 1))) x3) (vx_cwSW 3 hF.2.2.2.2 (lw_SW q1275 q1276 q74 q1277) rfl rfl rfl (by decide +kernel) ⟨Nat.le_of_ble_eq_true rfl, Nat.le_of_ble_eq_true rfl⟩) hw rfl rfl (Nat.le_of_ble_eq_true rfl) dL_law_1990 ⟨hc_780, hs_781⟩) hP hM hD hS (fun r_776 X_777 H locs hw hP hM hD hS => ?_)
  refine lv_istore (lv' := [(6, .int r_776), (0, .ref b), (1, .ref x1), (2, .ref h), (3, .ref x3), (4, .ref x4), (5, .int x5)]) hF.1 hF.2.1 dL_law_1993 hl (by decide) rfl (fun ls hl => ?_)
  refine lv_aload_n hF.1 hF.2.1 dL_law_1995 rfl (lv_at hl 3 rfl) ?_
  refine lv_aload_n hF.1 hF.2.1 dL_law_1996 rfl (lv_at hl 1 rfl) ?_
  refine lv_iload hF.1 hF.2.1 dL_law_1997 (lv_at hl 6 rfl) ?_
  refine lv_iconst (v := 1) hF.1 hF.2.1 dL_law_1999 (by decide) ?_
  refine lv_iadd hF.1 hF.2.1 dL_law_2000 ?_
  obtain ⟨h_782, hw⟩ := hw
  refine va_sld hF.1 hF.2.1 hx hbl hbA hS h_782 dL_law_2001 ?_
  refine lm_i (As := [.int (xs (Int32.toNatClampNeg (x5 + 1)))]) (rest := []) hF hl.1 hC (metX3_angleOf l K.1 h a hap _ F R L G (xs (Int32.toNatClampNeg (x5 + 1)))) (cwV 1 hF.2.2.2.2 (lw_V q2089 q2090 q2091 q85 q2092) rfl rfl rfl (by decide +kernel) ⟨Nat.le_of_ble_eq_true rfl, Nat.le_of_ble_eq_true rfl⟩) hP hM hD hS hmA hw rfl rfl (Nat.le_of_ble_eq_true rfl) dL_law_2002 ⟨hc_780, hs_781⟩ (fun r_783 F_784 R_785 L_786 G_787 H locs hw hP hM hS => ?_)
  refine lv_istore (lv' := [(7, .int r_783), (6, .int r_776), (0, .ref b), (1, .ref x1), (2, .ref h), (3, .ref x3), (4, .ref x4), (5, .int x5)]) hF.1 hF.2.1 dL_law_2005 hl (by decide) rfl (fun ls hl => ?_)
  refine lv_aload_n hF.1 hF.2.1 dL_law_2007 rfl (lv_at hl 4 rfl) ?_
  refine lm_i (As := []) (rest := []) hF hl.1 hC (metX3_thrown l K.1 h a hap _ F_784 R_785 L_786 G_787) (cwV 0 hF.2.2.2.2 (lw_V q1813 q1814 q1815 q85 q1816) rfl rfl rfl (by decide +kernel) ⟨Nat.le_of_ble_eq_true rfl, Nat.le_of_ble_eq_true rfl⟩) hP hM hD hS hmA hw rfl rfl (Nat.le_of_ble_eq_true rfl) dL_law_2008 ⟨hc_780, hs_781⟩ (fun r_788 F_789 R_790 L_791 G_792 H locs hw hP hM hS => ?_)
  refine lv_iload hF.1 hF.2.1 dL_law_2011 (lv_at hl 1 rfl) ?_
  refine lv_icmp_eq (tgt := 2018) hF.1 hF.2.1 dL_law_2013 (by decide) (fun c_793 => ?_) (fun c_793 => ?_)
  · have hw := hw.1 c_793
    refine lv_iload hF.1 hF.2.1 dL_law_2018 (lv_at hl 1 rfl) ?_
    refine lv_if_ne (tgt := 2035) hF.1 hF.2.1 dL_law_2020 (by decide) (fun c_794 => ?_) (fun c_794 => ?_)
    · have hw := hw.2 c_794
      exact Tl2035 l hlt K X0 hF hr hlocks hC hx hbl hA0 h a hap hmA _ hJ28 x1 x3 x4 x5 X_777 F_789 R_790 L_791 G_792 (kc + mc_778) (ks + ms_779) _ _ ls hP hM hD hS ⟨hc_780, hs_781⟩ (lv_sub hl [2, 3, 4, 5, 6, 7] rfl) hw
    · have hw := hw.1 c_794
      refine lv_aload_n hF.1 hF.2.1 dL_law_2023 rfl (lv_at hl 5 rfl) ?_
      refine lv_iconst (v := 0) hF.1 hF.2.1 dL_law_2024 (by decide) ?_
      obtain ⟨n_795, f_796, hx_797, hi_798, hw⟩ := hw
      refine x_lald hF hC hP hx_797 hi_798 dL_law_2025 ?_
      generalize f_796 (Int32.toNatClampNeg 0) = v_799 at hw ⊢
      refine lv_iload hF.1 hF.2.1 dL_law_2026 (lv_at hl 0 rfl) ?_
      refine lv_i2l hF.1 hF.2.1 dL_law_2028 rfl ?_
      refine W.lcmp hF.1 hF.2.1 dL_law_2029 ?_
      refine lv_if_eq (tgt := 2035) hF.1 hF.2.1 dL_law_2030 (by decide) (fun c_800 => ?_) (fun c_800 => ?_)
      · rw [lc_eq] at c_800
        have hw := hw.1 c_800
        exact Tl2035 l hlt K X0 hF hr hlocks hC hx hbl hA0 h a hap hmA _ hJ28 x1 x3 x4 x5 X_777 F_789 R_790 L_791 G_792 (kc + mc_778) (ks + ms_779) _ _ ls hP hM hD hS ⟨hc_780, hs_781⟩ (lv_sub hl [2, 3, 4, 5, 6, 7] rfl) hw
      · rw [lc_eq] at c_800
        have hw := hw.2 c_800
        refine lv_iconst (v := 0) hF.1 hF.2.1 dL_law_2033 (by decide) ?_
        exact l_end hF hr hlocks hA0 hS ⟨hc_780, hs_781⟩ dL_law_2034 hw
  · have hw := hw.2 c_793
    refine lv_iconst (v := 0) hF.1 hF.2.1 dL_law_2016 (by decide) ?_
    exact l_end hF hr hlocks hA0 hS ⟨hc_780, hs_781⟩ dL_law_2017 hw
def wpL_2091 (E mc ms N : Nat) (xs : Nat → Int32) (J28 : Nat → Nat → Nat → Int32 → hX → mF → mR → mL → mG → Nat → Nat → Prop) (x1 : Nat) (x3 : Nat) (x4 : Nat) (x5 : Int32) (X : hX) (F : mF) (R : mR) (L : mL) (G : mG) (kc ks : Nat) : Prop := (∀ x5_801 : Int32, x5_801 = x5 + 5 → J28 x1 x3 x4 x5_801 X F R L G kc ks)
set_option maxHeartbeats 8000000 in
theorem Tl2091 {p : Program} {e : Env} {s : State} {m : MethodId} {below : List Frame} {meth : Method} {c : Code} (l : Launch) (hlt : l.stackTraces = false) (K : HK) {b N : Nat} {xs : Nat → Int32} (X0 : hX) (hF : CallFix p m c code 9 s #[Value.ref b] lw_all R_law) (hr : meth.sig.returnType = ret) (hlocks : meth.locks = false) (hC : HC K X0 s) (hx : va_X b N xs s s.heap) (hbl : b < s.heap.size) (hA0 : ∀ q, hA X0 s.heap.size q → s.heap.size ≤ q) (h : Nat) (a : Nat → Nat) (hap : mAp h a) (hmA : ∀ q, mA h a q → hA X0 s.heap.size q) (J28 : Nat → Nat → Nat → Int32 → hX → mF → mR → mL → mG → Nat → Nat → Prop) (hJ28 : ∀ (x1 : Nat) (x3 : Nat) (x4 : Nat) (x5 : Int32) (X : hX) (F : mF) (R : mR) (L : mL) (G : mG) (kc ks : Nat) (H : Heap) (locs : List Loc) (ls : Array Slot), hI K X0 s.heap.size X H → mP K.1 h a F R L G H → hdis X h a → va_S (hA X0 s.heap.size) s.heap H locs → kc ≤ 1200048 ∧ ks ≤ 5501818 → lv_has ls 9 [(0, .ref b), (1, .ref x1), (2, .ref h), (3, .ref x3), (4, .ref x4), (5, .int x5)] → J28 x1 x3 x4 x5 X F R L G kc ks → W p l e room_1 s m #[Value.ref b] below meth c H locs kc ks (lw_Z below #[Value.ref b] s) (F0 m 28 ls [])) : ∀ (x1 : Nat) (x3 : Nat) (x4 : Nat) (x5 : Int32) (X : hX) (F : mF) (R : mR) (L : mL) (G : mG) (kc ks : Nat) (H : Heap) (locs : List Loc) (ls : Array Slot), hI K X0 s.heap.size X H → mP K.1 h a F R L G H → hdis X h a → va_S (hA X0 s.heap.size) s.heap H locs → kc ≤ 1200048 ∧ ks ≤ 5501818 → lv_has ls 9 [(0, .ref b), (1, .ref x1), (2, .ref h), (3, .ref x3), (4, .ref x4), (5, .int x5)] → wpL_2091 (K.2.2 0) 1200048 5501818 N xs J28 x1 x3 x4 x5 X F R L G kc ks → W p l e room_1 s m #[Value.ref b] below meth c H locs kc ks (lw_Z below #[Value.ref b] s) (F0 m 2091 ls []) := by
  have hbA : ¬ hA X0 s.heap.size b := fun z => Nat.not_lt.mpr (hA0 b z) hbl
  intro x1 x3 x4 x5 X F R L G kc ks H locs ls hP hM hD hS hk hl hw
  unfold wpL_2091 at hw
  refine lv_goto (tgt := 3714) hF.1 hF.2.1 dL_law_2091 (by decide) ?_
  obtain ⟨x5_801, ex5_801⟩ : ∃ y : Int32, y = x5 + 5 := ⟨_, rfl⟩
  have hw := hw x5_801 ex5_801
  refine lv_iinc (v := x5_801) (lv' := [(5, .int x5_801), (0, .ref b), (1, .ref x1), (2, .ref h), (3, .ref x3), (4, .ref x4)]) hF.1 hF.2.1 dL_law_3714 hl (k := 5) rfl (by rw [ex5_801]; rfl) (by decide) rfl (fun ls hl => ?_)
  refine lv_goto (tgt := 28) hF.1 hF.2.1 dL_law_3717 (by decide) ?_
  exact hJ28 x1 x3 x4 x5_801 X F R L G kc ks _ _ ls hP hM hD hS hk (lv_sub hl [1, 2, 3, 4, 5, 0] rfl) hw
def wpL_2038 (E mc ms N : Nat) (xs : Nat → Int32) (J28 : Nat → Nat → Nat → Int32 → hX → mF → mR → mL → mG → Nat → Nat → Prop) (x1 : Nat) (x3 : Nat) (x4 : Nat) (x5 : Int32) (X : hX) (F : mF) (R : mR) (L : mL) (G : mG) (kc ks : Nat) : Prop := (vp_in (x5 + 1) N ∧ (∃ mc_805 ms_806 : Nat, kc + mc_805 ≤ mc ∧ ks + ms_806 ≤ ms ∧ wpX0_angleByTeeth (fun r_803 X_804 => (vp_in (x5 + 1) N ∧ wpX3_angleByTeeth (fun r_810 F_811 R_812 L_813 G_814 => wpX3_thrown (fun r_815 F_816 R_817 L_818 G_819 => ((r_815 = r_803 → ((r_803 = 0 → alJ X_804 x3 0 (fun v_826 => ((v_826 = (Int32.toInt64 r_810) → wpL_2091 E mc ms N xs J28 x1 x3 x4 x5 X_804 F_816 R_817 L_818 G_819 (kc + mc_805) (ks + ms_806)) ∧ (¬ v_826 = (Int32.toInt64 r_810) → (0 : Int32) = 1)))) ∧ (¬ r_803 = 0 → wpL_2091 E mc ms N xs J28 x1 x3 x4 x5 X_804 F_816 R_817 L_818 G_819 (kc + mc_805) (ks + ms_806)))) ∧ (¬ r_815 = r_803 → (0 : Int32) = 1))) F_811 R_812 L_813 G_814) F R L G (xs (Int32.toNatClampNeg (x5 + 1))))) (fun _ _ _ => False) E mc_805 ms_806 X x1 (xs (Int32.toNatClampNeg (x5 + 1))) x3))
set_option maxHeartbeats 8000000 in
theorem Tl2038 {p : Program} {e : Env} {s : State} {m : MethodId} {below : List Frame} {meth : Method} {c : Code} (l : Launch) (hlt : l.stackTraces = false) (K : HK) {b N : Nat} {xs : Nat → Int32} (X0 : hX) (hF : CallFix p m c code 9 s #[Value.ref b] lw_all R_law) (hr : meth.sig.returnType = ret) (hlocks : meth.locks = false) (hC : HC K X0 s) (hx : va_X b N xs s s.heap) (hbl : b < s.heap.size) (hA0 : ∀ q, hA X0 s.heap.size q → s.heap.size ≤ q) (h : Nat) (a : Nat → Nat) (hap : mAp h a) (hmA : ∀ q, mA h a q → hA X0 s.heap.size q) (J28 : Nat → Nat → Nat → Int32 → hX → mF → mR → mL → mG → Nat → Nat → Prop) (hJ28 : ∀ (x1 : Nat) (x3 : Nat) (x4 : Nat) (x5 : Int32) (X : hX) (F : mF) (R : mR) (L : mL) (G : mG) (kc ks : Nat) (H : Heap) (locs : List Loc) (ls : Array Slot), hI K X0 s.heap.size X H → mP K.1 h a F R L G H → hdis X h a → va_S (hA X0 s.heap.size) s.heap H locs → kc ≤ 1200048 ∧ ks ≤ 5501818 → lv_has ls 9 [(0, .ref b), (1, .ref x1), (2, .ref h), (3, .ref x3), (4, .ref x4), (5, .int x5)] → J28 x1 x3 x4 x5 X F R L G kc ks → W p l e room_1 s m #[Value.ref b] below meth c H locs kc ks (lw_Z below #[Value.ref b] s) (F0 m 28 ls [])) : ∀ (x1 : Nat) (x3 : Nat) (x4 : Nat) (x5 : Int32) (X : hX) (F : mF) (R : mR) (L : mL) (G : mG) (kc ks : Nat) (H : Heap) (locs : List Loc) (ls : Array Slot), hI K X0 s.heap.size X H → mP K.1 h a F R L G H → hdis X h a → va_S (hA X0 s.heap.size) s.heap H locs → kc ≤ 1200048 ∧ ks ≤ 5501818 → lv_has ls 9 [(0, .ref b), (1, .ref x1), (2, .ref h), (3, .ref x3), (4, .ref x4), (5, .int x5)] → wpL_2038 (K.2.2 0) 1200048 5501818 N xs J28 x1 x3 x4 x5 X F R L G kc ks → W p l e room_1 s m #[Value.ref b] below meth c H locs kc ks (lw_Z below #[Value.ref b] s) (F0 m 2038 ls []) := by
  have hbA : ¬ hA X0 s.heap.size b := fun z => Nat.not_lt.mpr (hA0 b z) hbl
  intro x1 x3 x4 x5 X F R L G kc ks H locs ls hP hM hD hS hk hl hw
  unfold wpL_2038 at hw
  refine lv_aload_n hF.1 hF.2.1 dL_law_2038 rfl (lv_at hl 1 rfl) ?_
  refine lv_aload_n hF.1 hF.2.1 dL_law_2039 rfl (lv_at hl 0 rfl) ?_
  refine lv_iload hF.1 hF.2.1 dL_law_2040 (lv_at hl 5 rfl) ?_
  refine lv_iconst (v := 1) hF.1 hF.2.1 dL_law_2042 (by decide) ?_
  refine lv_iadd hF.1 hF.2.1 dL_law_2043 ?_
  obtain ⟨h_802, hw⟩ := hw
  refine va_sld hF.1 hF.2.1 hx hbl hbA hS h_802 dL_law_2044 ?_
  refine lv_aload_n hF.1 hF.2.1 dL_law_2045 rfl (lv_at hl 3 rfl) ?_
  obtain ⟨mc_805, ms_806, hc_807, hs_808, hw⟩ := hw
  refine lkx_i (hrx_SX (As := [.ref x1, .int (xs (Int32.toNatClampNeg (x5 + 1))), .ref x3]) (rest := []) hF hl.1 hC hP hS (metX0_angleByTeeth l hlt K mc_805 ms_806 _ _ _ X x1 (xs (Int32.toNatClampNeg (x5 + 1))) x3) (vx_cwSW 3 hF.2.2.2.2 (lw_SW q1297 q1298 q74 q1299) rfl rfl rfl (by decide +kernel) ⟨Nat.le_of_ble_eq_true rfl, Nat.le_of_ble_eq_true rfl⟩) hw rfl rfl (Nat.le_of_ble_eq_true rfl) dL_law_2046 ⟨hc_807, hs_808⟩) hP hM hD hS (fun r_803 X_804 H locs hw hP hM hD hS => ?_)
  refine lv_istore (lv' := [(6, .int r_803), (0, .ref b), (1, .ref x1), (2, .ref h), (3, .ref x3), (4, .ref x4), (5, .int x5)]) hF.1 hF.2.1 dL_law_2049 hl (by decide) rfl (fun ls hl => ?_)
  refine lv_aload_n hF.1 hF.2.1 dL_law_2051 rfl (lv_at hl 3 rfl) ?_
  refine lv_aload_n hF.1 hF.2.1 dL_law_2052 rfl (lv_at hl 1 rfl) ?_
  refine lv_iload hF.1 hF.2.1 dL_law_2053 (lv_at hl 6 rfl) ?_
  refine lv_iconst (v := 1) hF.1 hF.2.1 dL_law_2055 (by decide) ?_
  refine lv_iadd hF.1 hF.2.1 dL_law_2056 ?_
  obtain ⟨h_809, hw⟩ := hw
  refine va_sld hF.1 hF.2.1 hx hbl hbA hS h_809 dL_law_2057 ?_
  refine lm_i (As := [.int (xs (Int32.toNatClampNeg (x5 + 1)))]) (rest := []) hF hl.1 hC (metX3_angleByTeeth l K.1 h a hap _ F R L G (xs (Int32.toNatClampNeg (x5 + 1)))) (cwV 1 hF.2.2.2.2 (lw_V q2113 q2114 q2115 q85 q2116) rfl rfl rfl (by decide +kernel) ⟨Nat.le_of_ble_eq_true rfl, Nat.le_of_ble_eq_true rfl⟩) hP hM hD hS hmA hw rfl rfl (Nat.le_of_ble_eq_true rfl) dL_law_2058 ⟨hc_807, hs_808⟩ (fun r_810 F_811 R_812 L_813 G_814 H locs hw hP hM hS => ?_)
  refine lv_istore (lv' := [(7, .int r_810), (6, .int r_803), (0, .ref b), (1, .ref x1), (2, .ref h), (3, .ref x3), (4, .ref x4), (5, .int x5)]) hF.1 hF.2.1 dL_law_2061 hl (by decide) rfl (fun ls hl => ?_)
  refine lv_aload_n hF.1 hF.2.1 dL_law_2063 rfl (lv_at hl 4 rfl) ?_
  refine lm_i (As := []) (rest := []) hF hl.1 hC (metX3_thrown l K.1 h a hap _ F_811 R_812 L_813 G_814) (cwV 0 hF.2.2.2.2 (lw_V q1813 q1814 q1815 q85 q1816) rfl rfl rfl (by decide +kernel) ⟨Nat.le_of_ble_eq_true rfl, Nat.le_of_ble_eq_true rfl⟩) hP hM hD hS hmA hw rfl rfl (Nat.le_of_ble_eq_true rfl) dL_law_2064 ⟨hc_807, hs_808⟩ (fun r_815 F_816 R_817 L_818 G_819 H locs hw hP hM hS => ?_)
  refine lv_iload hF.1 hF.2.1 dL_law_2067 (lv_at hl 1 rfl) ?_
  refine lv_icmp_eq (tgt := 2074) hF.1 hF.2.1 dL_law_2069 (by decide) (fun c_820 => ?_) (fun c_820 => ?_)
  · have hw := hw.1 c_820
    refine lv_iload hF.1 hF.2.1 dL_law_2074 (lv_at hl 1 rfl) ?_
    refine lv_if_ne (tgt := 2091) hF.1 hF.2.1 dL_law_2076 (by decide) (fun c_821 => ?_) (fun c_821 => ?_)
    · have hw := hw.2 c_821
      exact Tl2091 l hlt K X0 hF hr hlocks hC hx hbl hA0 h a hap hmA _ hJ28 x1 x3 x4 x5 X_804 F_816 R_817 L_818 G_819 (kc + mc_805) (ks + ms_806) _ _ ls hP hM hD hS ⟨hc_807, hs_808⟩ (lv_sub hl [2, 3, 4, 5, 6, 7] rfl) hw
    · have hw := hw.1 c_821
      refine lv_aload_n hF.1 hF.2.1 dL_law_2079 rfl (lv_at hl 5 rfl) ?_
      refine lv_iconst (v := 0) hF.1 hF.2.1 dL_law_2080 (by decide) ?_
      obtain ⟨n_822, f_823, hx_824, hi_825, hw⟩ := hw
      refine x_lald hF hC hP hx_824 hi_825 dL_law_2081 ?_
      generalize f_823 (Int32.toNatClampNeg 0) = v_826 at hw ⊢
      refine lv_iload hF.1 hF.2.1 dL_law_2082 (lv_at hl 0 rfl) ?_
      refine lv_i2l hF.1 hF.2.1 dL_law_2084 rfl ?_
      refine W.lcmp hF.1 hF.2.1 dL_law_2085 ?_
      refine lv_if_eq (tgt := 2091) hF.1 hF.2.1 dL_law_2086 (by decide) (fun c_827 => ?_) (fun c_827 => ?_)
      · rw [lc_eq] at c_827
        have hw := hw.1 c_827
        exact Tl2091 l hlt K X0 hF hr hlocks hC hx hbl hA0 h a hap hmA _ hJ28 x1 x3 x4 x5 X_804 F_816 R_817 L_818 G_819 (kc + mc_805) (ks + ms_806) _ _ ls hP hM hD hS ⟨hc_807, hs_808⟩ (lv_sub hl [2, 3, 4, 5, 6, 7] rfl) hw
      · rw [lc_eq] at c_827
        have hw := hw.2 c_827
        refine lv_iconst (v := 0) hF.1 hF.2.1 dL_law_2089 (by decide) ?_
        exact l_end hF hr hlocks hA0 hS ⟨hc_807, hs_808⟩ dL_law_2090 hw
  · have hw := hw.2 c_820
    refine lv_iconst (v := 0) hF.1 hF.2.1 dL_law_2072 (by decide) ?_
    exact l_end hF hr hlocks hA0 hS ⟨hc_807, hs_808⟩ dL_law_2073 hw
def wpL_2147 (E mc ms N : Nat) (xs : Nat → Int32) (J28 : Nat → Nat → Nat → Int32 → hX → mF → mR → mL → mG → Nat → Nat → Prop) (x1 : Nat) (x3 : Nat) (x4 : Nat) (x5 : Int32) (X : hX) (F : mF) (R : mR) (L : mL) (G : mG) (kc ks : Nat) : Prop := (∀ x5_828 : Int32, x5_828 = x5 + 5 → J28 x1 x3 x4 x5_828 X F R L G kc ks)
set_option maxHeartbeats 8000000 in
theorem Tl2147 {p : Program} {e : Env} {s : State} {m : MethodId} {below : List Frame} {meth : Method} {c : Code} (l : Launch) (hlt : l.stackTraces = false) (K : HK) {b N : Nat} {xs : Nat → Int32} (X0 : hX) (hF : CallFix p m c code 9 s #[Value.ref b] lw_all R_law) (hr : meth.sig.returnType = ret) (hlocks : meth.locks = false) (hC : HC K X0 s) (hx : va_X b N xs s s.heap) (hbl : b < s.heap.size) (hA0 : ∀ q, hA X0 s.heap.size q → s.heap.size ≤ q) (h : Nat) (a : Nat → Nat) (hap : mAp h a) (hmA : ∀ q, mA h a q → hA X0 s.heap.size q) (J28 : Nat → Nat → Nat → Int32 → hX → mF → mR → mL → mG → Nat → Nat → Prop) (hJ28 : ∀ (x1 : Nat) (x3 : Nat) (x4 : Nat) (x5 : Int32) (X : hX) (F : mF) (R : mR) (L : mL) (G : mG) (kc ks : Nat) (H : Heap) (locs : List Loc) (ls : Array Slot), hI K X0 s.heap.size X H → mP K.1 h a F R L G H → hdis X h a → va_S (hA X0 s.heap.size) s.heap H locs → kc ≤ 1200048 ∧ ks ≤ 5501818 → lv_has ls 9 [(0, .ref b), (1, .ref x1), (2, .ref h), (3, .ref x3), (4, .ref x4), (5, .int x5)] → J28 x1 x3 x4 x5 X F R L G kc ks → W p l e room_1 s m #[Value.ref b] below meth c H locs kc ks (lw_Z below #[Value.ref b] s) (F0 m 28 ls [])) : ∀ (x1 : Nat) (x3 : Nat) (x4 : Nat) (x5 : Int32) (X : hX) (F : mF) (R : mR) (L : mL) (G : mG) (kc ks : Nat) (H : Heap) (locs : List Loc) (ls : Array Slot), hI K X0 s.heap.size X H → mP K.1 h a F R L G H → hdis X h a → va_S (hA X0 s.heap.size) s.heap H locs → kc ≤ 1200048 ∧ ks ≤ 5501818 → lv_has ls 9 [(0, .ref b), (1, .ref x1), (2, .ref h), (3, .ref x3), (4, .ref x4), (5, .int x5)] → wpL_2147 (K.2.2 0) 1200048 5501818 N xs J28 x1 x3 x4 x5 X F R L G kc ks → W p l e room_1 s m #[Value.ref b] below meth c H locs kc ks (lw_Z below #[Value.ref b] s) (F0 m 2147 ls []) := by
  have hbA : ¬ hA X0 s.heap.size b := fun z => Nat.not_lt.mpr (hA0 b z) hbl
  intro x1 x3 x4 x5 X F R L G kc ks H locs ls hP hM hD hS hk hl hw
  unfold wpL_2147 at hw
  refine lv_goto (tgt := 3714) hF.1 hF.2.1 dL_law_2147 (by decide) ?_
  obtain ⟨x5_828, ex5_828⟩ : ∃ y : Int32, y = x5 + 5 := ⟨_, rfl⟩
  have hw := hw x5_828 ex5_828
  refine lv_iinc (v := x5_828) (lv' := [(5, .int x5_828), (0, .ref b), (1, .ref x1), (2, .ref h), (3, .ref x3), (4, .ref x4)]) hF.1 hF.2.1 dL_law_3714 hl (k := 5) rfl (by rw [ex5_828]; rfl) (by decide) rfl (fun ls hl => ?_)
  refine lv_goto (tgt := 28) hF.1 hF.2.1 dL_law_3717 (by decide) ?_
  exact hJ28 x1 x3 x4 x5_828 X F R L G kc ks _ _ ls hP hM hD hS hk (lv_sub hl [1, 2, 3, 4, 5, 0] rfl) hw
def wpL_2094 (E mc ms N : Nat) (xs : Nat → Int32) (J28 : Nat → Nat → Nat → Int32 → hX → mF → mR → mL → mG → Nat → Nat → Prop) (x1 : Nat) (x3 : Nat) (x4 : Nat) (x5 : Int32) (X : hX) (F : mF) (R : mR) (L : mL) (G : mG) (kc ks : Nat) : Prop := (vp_in (x5 + 1) N ∧ (∃ mc_832 ms_833 : Nat, kc + mc_832 ≤ mc ∧ ks + ms_833 ≤ ms ∧ wpX0_moonAngle (fun r_830 X_831 => (vp_in (x5 + 1) N ∧ wpX3_moonAngle (fun r_837 F_838 R_839 L_840 G_841 => wpX3_thrown (fun r_842 F_843 R_844 L_845 G_846 => ((r_842 = r_830 → ((r_830 = 0 → alJ X_831 x3 0 (fun v_853 => ((v_853 = (Int32.toInt64 r_837) → wpL_2147 E mc ms N xs J28 x1 x3 x4 x5 X_831 F_843 R_844 L_845 G_846 (kc + mc_832) (ks + ms_833)) ∧ (¬ v_853 = (Int32.toInt64 r_837) → (0 : Int32) = 1)))) ∧ (¬ r_830 = 0 → wpL_2147 E mc ms N xs J28 x1 x3 x4 x5 X_831 F_843 R_844 L_845 G_846 (kc + mc_832) (ks + ms_833)))) ∧ (¬ r_842 = r_830 → (0 : Int32) = 1))) F_838 R_839 L_840 G_841) F R L G (xs (Int32.toNatClampNeg (x5 + 1))))) (fun _ _ _ => False) E mc_832 ms_833 X x1 (xs (Int32.toNatClampNeg (x5 + 1))) x3))
set_option maxHeartbeats 8000000 in
theorem Tl2094 {p : Program} {e : Env} {s : State} {m : MethodId} {below : List Frame} {meth : Method} {c : Code} (l : Launch) (hlt : l.stackTraces = false) (K : HK) {b N : Nat} {xs : Nat → Int32} (X0 : hX) (hF : CallFix p m c code 9 s #[Value.ref b] lw_all R_law) (hr : meth.sig.returnType = ret) (hlocks : meth.locks = false) (hC : HC K X0 s) (hx : va_X b N xs s s.heap) (hbl : b < s.heap.size) (hA0 : ∀ q, hA X0 s.heap.size q → s.heap.size ≤ q) (h : Nat) (a : Nat → Nat) (hap : mAp h a) (hmA : ∀ q, mA h a q → hA X0 s.heap.size q) (J28 : Nat → Nat → Nat → Int32 → hX → mF → mR → mL → mG → Nat → Nat → Prop) (hJ28 : ∀ (x1 : Nat) (x3 : Nat) (x4 : Nat) (x5 : Int32) (X : hX) (F : mF) (R : mR) (L : mL) (G : mG) (kc ks : Nat) (H : Heap) (locs : List Loc) (ls : Array Slot), hI K X0 s.heap.size X H → mP K.1 h a F R L G H → hdis X h a → va_S (hA X0 s.heap.size) s.heap H locs → kc ≤ 1200048 ∧ ks ≤ 5501818 → lv_has ls 9 [(0, .ref b), (1, .ref x1), (2, .ref h), (3, .ref x3), (4, .ref x4), (5, .int x5)] → J28 x1 x3 x4 x5 X F R L G kc ks → W p l e room_1 s m #[Value.ref b] below meth c H locs kc ks (lw_Z below #[Value.ref b] s) (F0 m 28 ls [])) : ∀ (x1 : Nat) (x3 : Nat) (x4 : Nat) (x5 : Int32) (X : hX) (F : mF) (R : mR) (L : mL) (G : mG) (kc ks : Nat) (H : Heap) (locs : List Loc) (ls : Array Slot), hI K X0 s.heap.size X H → mP K.1 h a F R L G H → hdis X h a → va_S (hA X0 s.heap.size) s.heap H locs → kc ≤ 1200048 ∧ ks ≤ 5501818 → lv_has ls 9 [(0, .ref b), (1, .ref x1), (2, .ref h), (3, .ref x3), (4, .ref x4), (5, .int x5)] → wpL_2094 (K.2.2 0) 1200048 5501818 N xs J28 x1 x3 x4 x5 X F R L G kc ks → W p l e room_1 s m #[Value.ref b] below meth c H locs kc ks (lw_Z below #[Value.ref b] s) (F0 m 2094 ls []) := by
  have hbA : ¬ hA X0 s.heap.size b := fun z => Nat.not_lt.mpr (hA0 b z) hbl
  intro x1 x3 x4 x5 X F R L G kc ks H locs ls hP hM hD hS hk hl hw
  unfold wpL_2094 at hw
  refine lv_aload_n hF.1 hF.2.1 dL_law_2094 rfl (lv_at hl 1 rfl) ?_
  refine lv_aload_n hF.1 hF.2.1 dL_law_2095 rfl (lv_at hl 0 rfl) ?_
  refine lv_iload hF.1 hF.2.1 dL_law_2096 (lv_at hl 5 rfl) ?_
  refine lv_iconst (v := 1) hF.1 hF.2.1 dL_law_2098 (by decide) ?_
  refine lv_iadd hF.1 hF.2.1 dL_law_2099 ?_
  obtain ⟨h_829, hw⟩ := hw
  refine va_sld hF.1 hF.2.1 hx hbl hbA hS h_829 dL_law_2100 ?_
  refine lv_aload_n hF.1 hF.2.1 dL_law_2101 rfl (lv_at hl 3 rfl) ?_
  obtain ⟨mc_832, ms_833, hc_834, hs_835, hw⟩ := hw
  refine lkx_i (hrx_SX (As := [.ref x1, .int (xs (Int32.toNatClampNeg (x5 + 1))), .ref x3]) (rest := []) hF hl.1 hC hP hS (metX0_moonAngle l hlt K mc_832 ms_833 _ _ _ X x1 (xs (Int32.toNatClampNeg (x5 + 1))) x3) (vx_cwSW 3 hF.2.2.2.2 (lw_SW q1308 q1309 q74 q1310) rfl rfl rfl (by decide +kernel) ⟨Nat.le_of_ble_eq_true rfl, Nat.le_of_ble_eq_true rfl⟩) hw rfl rfl (Nat.le_of_ble_eq_true rfl) dL_law_2102 ⟨hc_834, hs_835⟩) hP hM hD hS (fun r_830 X_831 H locs hw hP hM hD hS => ?_)
  refine lv_istore (lv' := [(6, .int r_830), (0, .ref b), (1, .ref x1), (2, .ref h), (3, .ref x3), (4, .ref x4), (5, .int x5)]) hF.1 hF.2.1 dL_law_2105 hl (by decide) rfl (fun ls hl => ?_)
  refine lv_aload_n hF.1 hF.2.1 dL_law_2107 rfl (lv_at hl 3 rfl) ?_
  refine lv_aload_n hF.1 hF.2.1 dL_law_2108 rfl (lv_at hl 1 rfl) ?_
  refine lv_iload hF.1 hF.2.1 dL_law_2109 (lv_at hl 6 rfl) ?_
  refine lv_iconst (v := 1) hF.1 hF.2.1 dL_law_2111 (by decide) ?_
  refine lv_iadd hF.1 hF.2.1 dL_law_2112 ?_
  obtain ⟨h_836, hw⟩ := hw
  refine va_sld hF.1 hF.2.1 hx hbl hbA hS h_836 dL_law_2113 ?_
  refine lm_i (As := [.int (xs (Int32.toNatClampNeg (x5 + 1)))]) (rest := []) hF hl.1 hC (metX3_moonAngle l K.1 h a hap _ F R L G (xs (Int32.toNatClampNeg (x5 + 1)))) (cwV 1 hF.2.2.2.2 (lw_V q2117 q2118 q2119 q85 q2120) rfl rfl rfl (by decide +kernel) ⟨Nat.le_of_ble_eq_true rfl, Nat.le_of_ble_eq_true rfl⟩) hP hM hD hS hmA hw rfl rfl (Nat.le_of_ble_eq_true rfl) dL_law_2114 ⟨hc_834, hs_835⟩ (fun r_837 F_838 R_839 L_840 G_841 H locs hw hP hM hS => ?_)
  refine lv_istore (lv' := [(7, .int r_837), (6, .int r_830), (0, .ref b), (1, .ref x1), (2, .ref h), (3, .ref x3), (4, .ref x4), (5, .int x5)]) hF.1 hF.2.1 dL_law_2117 hl (by decide) rfl (fun ls hl => ?_)
  refine lv_aload_n hF.1 hF.2.1 dL_law_2119 rfl (lv_at hl 4 rfl) ?_
  refine lm_i (As := []) (rest := []) hF hl.1 hC (metX3_thrown l K.1 h a hap _ F_838 R_839 L_840 G_841) (cwV 0 hF.2.2.2.2 (lw_V q1813 q1814 q1815 q85 q1816) rfl rfl rfl (by decide +kernel) ⟨Nat.le_of_ble_eq_true rfl, Nat.le_of_ble_eq_true rfl⟩) hP hM hD hS hmA hw rfl rfl (Nat.le_of_ble_eq_true rfl) dL_law_2120 ⟨hc_834, hs_835⟩ (fun r_842 F_843 R_844 L_845 G_846 H locs hw hP hM hS => ?_)
  refine lv_iload hF.1 hF.2.1 dL_law_2123 (lv_at hl 1 rfl) ?_
  refine lv_icmp_eq (tgt := 2130) hF.1 hF.2.1 dL_law_2125 (by decide) (fun c_847 => ?_) (fun c_847 => ?_)
  · have hw := hw.1 c_847
    refine lv_iload hF.1 hF.2.1 dL_law_2130 (lv_at hl 1 rfl) ?_
    refine lv_if_ne (tgt := 2147) hF.1 hF.2.1 dL_law_2132 (by decide) (fun c_848 => ?_) (fun c_848 => ?_)
    · have hw := hw.2 c_848
      exact Tl2147 l hlt K X0 hF hr hlocks hC hx hbl hA0 h a hap hmA _ hJ28 x1 x3 x4 x5 X_831 F_843 R_844 L_845 G_846 (kc + mc_832) (ks + ms_833) _ _ ls hP hM hD hS ⟨hc_834, hs_835⟩ (lv_sub hl [2, 3, 4, 5, 6, 7] rfl) hw
    · have hw := hw.1 c_848
      refine lv_aload_n hF.1 hF.2.1 dL_law_2135 rfl (lv_at hl 5 rfl) ?_
      refine lv_iconst (v := 0) hF.1 hF.2.1 dL_law_2136 (by decide) ?_
      obtain ⟨n_849, f_850, hx_851, hi_852, hw⟩ := hw
      refine x_lald hF hC hP hx_851 hi_852 dL_law_2137 ?_
      generalize f_850 (Int32.toNatClampNeg 0) = v_853 at hw ⊢
      refine lv_iload hF.1 hF.2.1 dL_law_2138 (lv_at hl 0 rfl) ?_
      refine lv_i2l hF.1 hF.2.1 dL_law_2140 rfl ?_
      refine W.lcmp hF.1 hF.2.1 dL_law_2141 ?_
      refine lv_if_eq (tgt := 2147) hF.1 hF.2.1 dL_law_2142 (by decide) (fun c_854 => ?_) (fun c_854 => ?_)
      · rw [lc_eq] at c_854
        have hw := hw.1 c_854
        exact Tl2147 l hlt K X0 hF hr hlocks hC hx hbl hA0 h a hap hmA _ hJ28 x1 x3 x4 x5 X_831 F_843 R_844 L_845 G_846 (kc + mc_832) (ks + ms_833) _ _ ls hP hM hD hS ⟨hc_834, hs_835⟩ (lv_sub hl [2, 3, 4, 5, 6, 7] rfl) hw
      · rw [lc_eq] at c_854
        have hw := hw.2 c_854
        refine lv_iconst (v := 0) hF.1 hF.2.1 dL_law_2145 (by decide) ?_
        exact l_end hF hr hlocks hA0 hS ⟨hc_834, hs_835⟩ dL_law_2146 hw
  · have hw := hw.2 c_847
    refine lv_iconst (v := 0) hF.1 hF.2.1 dL_law_2128 (by decide) ?_
    exact l_end hF hr hlocks hA0 hS ⟨hc_834, hs_835⟩ dL_law_2129 hw
def wpL_2210 (E mc ms N : Nat) (xs : Nat → Int32) (J28 : Nat → Nat → Nat → Int32 → hX → mF → mR → mL → mG → Nat → Nat → Prop) (x1 : Nat) (x3 : Nat) (x4 : Nat) (x5 : Int32) (X : hX) (F : mF) (R : mR) (L : mL) (G : mG) (kc ks : Nat) : Prop := (∀ x5_855 : Int32, x5_855 = x5 + 5 → J28 x1 x3 x4 x5_855 X F R L G kc ks)
set_option maxHeartbeats 8000000 in
theorem Tl2210 {p : Program} {e : Env} {s : State} {m : MethodId} {below : List Frame} {meth : Method} {c : Code} (l : Launch) (hlt : l.stackTraces = false) (K : HK) {b N : Nat} {xs : Nat → Int32} (X0 : hX) (hF : CallFix p m c code 9 s #[Value.ref b] lw_all R_law) (hr : meth.sig.returnType = ret) (hlocks : meth.locks = false) (hC : HC K X0 s) (hx : va_X b N xs s s.heap) (hbl : b < s.heap.size) (hA0 : ∀ q, hA X0 s.heap.size q → s.heap.size ≤ q) (h : Nat) (a : Nat → Nat) (hap : mAp h a) (hmA : ∀ q, mA h a q → hA X0 s.heap.size q) (J28 : Nat → Nat → Nat → Int32 → hX → mF → mR → mL → mG → Nat → Nat → Prop) (hJ28 : ∀ (x1 : Nat) (x3 : Nat) (x4 : Nat) (x5 : Int32) (X : hX) (F : mF) (R : mR) (L : mL) (G : mG) (kc ks : Nat) (H : Heap) (locs : List Loc) (ls : Array Slot), hI K X0 s.heap.size X H → mP K.1 h a F R L G H → hdis X h a → va_S (hA X0 s.heap.size) s.heap H locs → kc ≤ 1200048 ∧ ks ≤ 5501818 → lv_has ls 9 [(0, .ref b), (1, .ref x1), (2, .ref h), (3, .ref x3), (4, .ref x4), (5, .int x5)] → J28 x1 x3 x4 x5 X F R L G kc ks → W p l e room_1 s m #[Value.ref b] below meth c H locs kc ks (lw_Z below #[Value.ref b] s) (F0 m 28 ls [])) : ∀ (x1 : Nat) (x3 : Nat) (x4 : Nat) (x5 : Int32) (X : hX) (F : mF) (R : mR) (L : mL) (G : mG) (kc ks : Nat) (H : Heap) (locs : List Loc) (ls : Array Slot), hI K X0 s.heap.size X H → mP K.1 h a F R L G H → hdis X h a → va_S (hA X0 s.heap.size) s.heap H locs → kc ≤ 1200048 ∧ ks ≤ 5501818 → lv_has ls 9 [(0, .ref b), (1, .ref x1), (2, .ref h), (3, .ref x3), (4, .ref x4), (5, .int x5)] → wpL_2210 (K.2.2 0) 1200048 5501818 N xs J28 x1 x3 x4 x5 X F R L G kc ks → W p l e room_1 s m #[Value.ref b] below meth c H locs kc ks (lw_Z below #[Value.ref b] s) (F0 m 2210 ls []) := by
  have hbA : ¬ hA X0 s.heap.size b := fun z => Nat.not_lt.mpr (hA0 b z) hbl
  intro x1 x3 x4 x5 X F R L G kc ks H locs ls hP hM hD hS hk hl hw
  unfold wpL_2210 at hw
  refine lv_goto (tgt := 3714) hF.1 hF.2.1 dL_law_2210 (by decide) ?_
  obtain ⟨x5_855, ex5_855⟩ : ∃ y : Int32, y = x5 + 5 := ⟨_, rfl⟩
  have hw := hw x5_855 ex5_855
  refine lv_iinc (v := x5_855) (lv' := [(5, .int x5_855), (0, .ref b), (1, .ref x1), (2, .ref h), (3, .ref x3), (4, .ref x4)]) hF.1 hF.2.1 dL_law_3714 hl (k := 5) rfl (by rw [ex5_855]; rfl) (by decide) rfl (fun ls hl => ?_)
  refine lv_goto (tgt := 28) hF.1 hF.2.1 dL_law_3717 (by decide) ?_
  exact hJ28 x1 x3 x4 x5_855 X F R L G kc ks _ _ ls hP hM hD hS hk (lv_sub hl [1, 2, 3, 4, 5, 0] rfl) hw
def wpL_2204 (E mc ms N : Nat) (xs : Nat → Int32) (J28 : Nat → Nat → Nat → Int32 → hX → mF → mR → mL → mG → Nat → Nat → Prop) (x1 : Nat) (x3 : Nat) (x4 : Nat) (x5 : Int32) (z0 : Int64) (z1 : Int64) (X : hX) (F : mF) (R : mR) (L : mL) (G : mG) (kc ks : Nat) : Prop := ((z0 = z1 → wpL_2210 E mc ms N xs J28 x1 x3 x4 x5 X F R L G kc ks) ∧ (¬ z0 = z1 → (0 : Int32) = 1))
set_option maxHeartbeats 8000000 in
theorem Tl2204 {p : Program} {e : Env} {s : State} {m : MethodId} {below : List Frame} {meth : Method} {c : Code} (l : Launch) (hlt : l.stackTraces = false) (K : HK) {b N : Nat} {xs : Nat → Int32} (X0 : hX) (hF : CallFix p m c code 9 s #[Value.ref b] lw_all R_law) (hr : meth.sig.returnType = ret) (hlocks : meth.locks = false) (hC : HC K X0 s) (hx : va_X b N xs s s.heap) (hbl : b < s.heap.size) (hA0 : ∀ q, hA X0 s.heap.size q → s.heap.size ≤ q) (h : Nat) (a : Nat → Nat) (hap : mAp h a) (hmA : ∀ q, mA h a q → hA X0 s.heap.size q) (J28 : Nat → Nat → Nat → Int32 → hX → mF → mR → mL → mG → Nat → Nat → Prop) (hJ28 : ∀ (x1 : Nat) (x3 : Nat) (x4 : Nat) (x5 : Int32) (X : hX) (F : mF) (R : mR) (L : mL) (G : mG) (kc ks : Nat) (H : Heap) (locs : List Loc) (ls : Array Slot), hI K X0 s.heap.size X H → mP K.1 h a F R L G H → hdis X h a → va_S (hA X0 s.heap.size) s.heap H locs → kc ≤ 1200048 ∧ ks ≤ 5501818 → lv_has ls 9 [(0, .ref b), (1, .ref x1), (2, .ref h), (3, .ref x3), (4, .ref x4), (5, .int x5)] → J28 x1 x3 x4 x5 X F R L G kc ks → W p l e room_1 s m #[Value.ref b] below meth c H locs kc ks (lw_Z below #[Value.ref b] s) (F0 m 28 ls [])) : ∀ (x1 : Nat) (x3 : Nat) (x4 : Nat) (x5 : Int32) (z0 : Int64) (z1 : Int64) (X : hX) (F : mF) (R : mR) (L : mL) (G : mG) (kc ks : Nat) (H : Heap) (locs : List Loc) (ls : Array Slot), hI K X0 s.heap.size X H → mP K.1 h a F R L G H → hdis X h a → va_S (hA X0 s.heap.size) s.heap H locs → kc ≤ 1200048 ∧ ks ≤ 5501818 → lv_has ls 9 [(0, .ref b), (1, .ref x1), (2, .ref h), (3, .ref x3), (4, .ref x4), (5, .int x5)] → wpL_2204 (K.2.2 0) 1200048 5501818 N xs J28 x1 x3 x4 x5 z0 z1 X F R L G kc ks → W p l e room_1 s m #[Value.ref b] below meth c H locs kc ks (lw_Z below #[Value.ref b] s) (F0 m 2204 ls [.long z1, .long z0]) := by
  have hbA : ¬ hA X0 s.heap.size b := fun z => Nat.not_lt.mpr (hA0 b z) hbl
  intro x1 x3 x4 x5 z0 z1 X F R L G kc ks H locs ls hP hM hD hS hk hl hw
  unfold wpL_2204 at hw
  refine W.lcmp hF.1 hF.2.1 dL_law_2204 ?_
  refine lv_if_eq (tgt := 2210) hF.1 hF.2.1 dL_law_2205 (by decide) (fun c_856 => ?_) (fun c_856 => ?_)
  · rw [lc_eq] at c_856
    have hw := hw.1 c_856
    exact Tl2210 l hlt K X0 hF hr hlocks hC hx hbl hA0 h a hap hmA _ hJ28 x1 x3 x4 x5 X F R L G kc ks _ _ ls hP hM hD hS hk (lv_sub hl [0, 1, 2, 3, 4, 5] rfl) hw
  · rw [lc_eq] at c_856
    have hw := hw.2 c_856
    refine lv_iconst (v := 0) hF.1 hF.2.1 dL_law_2208 (by decide) ?_
    exact l_end hF hr hlocks hA0 hS hk dL_law_2209 hw
def wpL_2150 (E mc ms N : Nat) (xs : Nat → Int32) (J28 : Nat → Nat → Nat → Int32 → hX → mF → mR → mL → mG → Nat → Nat → Prop) (x1 : Nat) (x3 : Nat) (x4 : Nat) (x5 : Int32) (X : hX) (F : mF) (R : mR) (L : mL) (G : mG) (kc ks : Nat) : Prop := (vp_in (x5 + 1) N ∧ (∃ mc_860 ms_861 : Nat, kc + mc_860 ≤ mc ∧ ks + ms_861 ≤ ms ∧ wpX0_isSlow (fun r_858 X_859 => (vp_in (x5 + 1) N ∧ wpX3_isSlow (fun r_865 F_866 R_867 L_868 G_869 => wpX3_thrown (fun r_870 F_871 R_872 L_873 G_874 => ((r_870 = r_858 → ((r_858 = 0 → alJ X_859 x3 0 (fun v_881 => ((r_865 = 0 → wpL_2204 E mc ms N xs J28 x1 x3 x4 x5 v_881 0 X_859 F_871 R_872 L_873 G_874 (kc + mc_860) (ks + ms_861)) ∧ (¬ r_865 = 0 → wpL_2204 E mc ms N xs J28 x1 x3 x4 x5 v_881 1 X_859 F_871 R_872 L_873 G_874 (kc + mc_860) (ks + ms_861))))) ∧ (¬ r_858 = 0 → wpL_2210 E mc ms N xs J28 x1 x3 x4 x5 X_859 F_871 R_872 L_873 G_874 (kc + mc_860) (ks + ms_861)))) ∧ (¬ r_870 = r_858 → (0 : Int32) = 1))) F_866 R_867 L_868 G_869) F R L G (xs (Int32.toNatClampNeg (x5 + 1))))) (fun _ _ _ => False) E mc_860 ms_861 X x1 (xs (Int32.toNatClampNeg (x5 + 1))) x3))
set_option maxHeartbeats 8000000 in
theorem Tl2150 {p : Program} {e : Env} {s : State} {m : MethodId} {below : List Frame} {meth : Method} {c : Code} (l : Launch) (hlt : l.stackTraces = false) (K : HK) {b N : Nat} {xs : Nat → Int32} (X0 : hX) (hF : CallFix p m c code 9 s #[Value.ref b] lw_all R_law) (hr : meth.sig.returnType = ret) (hlocks : meth.locks = false) (hC : HC K X0 s) (hx : va_X b N xs s s.heap) (hbl : b < s.heap.size) (hA0 : ∀ q, hA X0 s.heap.size q → s.heap.size ≤ q) (h : Nat) (a : Nat → Nat) (hap : mAp h a) (hmA : ∀ q, mA h a q → hA X0 s.heap.size q) (J28 : Nat → Nat → Nat → Int32 → hX → mF → mR → mL → mG → Nat → Nat → Prop) (hJ28 : ∀ (x1 : Nat) (x3 : Nat) (x4 : Nat) (x5 : Int32) (X : hX) (F : mF) (R : mR) (L : mL) (G : mG) (kc ks : Nat) (H : Heap) (locs : List Loc) (ls : Array Slot), hI K X0 s.heap.size X H → mP K.1 h a F R L G H → hdis X h a → va_S (hA X0 s.heap.size) s.heap H locs → kc ≤ 1200048 ∧ ks ≤ 5501818 → lv_has ls 9 [(0, .ref b), (1, .ref x1), (2, .ref h), (3, .ref x3), (4, .ref x4), (5, .int x5)] → J28 x1 x3 x4 x5 X F R L G kc ks → W p l e room_1 s m #[Value.ref b] below meth c H locs kc ks (lw_Z below #[Value.ref b] s) (F0 m 28 ls [])) : ∀ (x1 : Nat) (x3 : Nat) (x4 : Nat) (x5 : Int32) (X : hX) (F : mF) (R : mR) (L : mL) (G : mG) (kc ks : Nat) (H : Heap) (locs : List Loc) (ls : Array Slot), hI K X0 s.heap.size X H → mP K.1 h a F R L G H → hdis X h a → va_S (hA X0 s.heap.size) s.heap H locs → kc ≤ 1200048 ∧ ks ≤ 5501818 → lv_has ls 9 [(0, .ref b), (1, .ref x1), (2, .ref h), (3, .ref x3), (4, .ref x4), (5, .int x5)] → wpL_2150 (K.2.2 0) 1200048 5501818 N xs J28 x1 x3 x4 x5 X F R L G kc ks → W p l e room_1 s m #[Value.ref b] below meth c H locs kc ks (lw_Z below #[Value.ref b] s) (F0 m 2150 ls []) := by
  have hbA : ¬ hA X0 s.heap.size b := fun z => Nat.not_lt.mpr (hA0 b z) hbl
  intro x1 x3 x4 x5 X F R L G kc ks H locs ls hP hM hD hS hk hl hw
  unfold wpL_2150 at hw
  refine lv_aload_n hF.1 hF.2.1 dL_law_2150 rfl (lv_at hl 1 rfl) ?_
  refine lv_aload_n hF.1 hF.2.1 dL_law_2151 rfl (lv_at hl 0 rfl) ?_
  refine lv_iload hF.1 hF.2.1 dL_law_2152 (lv_at hl 5 rfl) ?_
  refine lv_iconst (v := 1) hF.1 hF.2.1 dL_law_2154 (by decide) ?_
  refine lv_iadd hF.1 hF.2.1 dL_law_2155 ?_
  obtain ⟨h_857, hw⟩ := hw
  refine va_sld hF.1 hF.2.1 hx hbl hbA hS h_857 dL_law_2156 ?_
  refine lv_aload_n hF.1 hF.2.1 dL_law_2157 rfl (lv_at hl 3 rfl) ?_
  obtain ⟨mc_860, ms_861, hc_862, hs_863, hw⟩ := hw
  refine lkx_i (hrx_SX (As := [.ref x1, .int (xs (Int32.toNatClampNeg (x5 + 1))), .ref x3]) (rest := []) hF hl.1 hC hP hS (metX0_isSlow l hlt K mc_860 ms_861 _ _ _ X x1 (xs (Int32.toNatClampNeg (x5 + 1))) x3) (vx_cwSW 3 hF.2.2.2.2 (lw_SW q1324 q1325 q74 q1326) rfl rfl rfl (by decide +kernel) ⟨Nat.le_of_ble_eq_true rfl, Nat.le_of_ble_eq_true rfl⟩) hw rfl rfl (Nat.le_of_ble_eq_true rfl) dL_law_2158 ⟨hc_862, hs_863⟩) hP hM hD hS (fun r_858 X_859 H locs hw hP hM hD hS => ?_)
  refine lv_istore (lv' := [(6, .int r_858), (0, .ref b), (1, .ref x1), (2, .ref h), (3, .ref x3), (4, .ref x4), (5, .int x5)]) hF.1 hF.2.1 dL_law_2161 hl (by decide) rfl (fun ls hl => ?_)
  refine lv_aload_n hF.1 hF.2.1 dL_law_2163 rfl (lv_at hl 3 rfl) ?_
  refine lv_aload_n hF.1 hF.2.1 dL_law_2164 rfl (lv_at hl 1 rfl) ?_
  refine lv_iload hF.1 hF.2.1 dL_law_2165 (lv_at hl 6 rfl) ?_
  refine lv_iconst (v := 1) hF.1 hF.2.1 dL_law_2167 (by decide) ?_
  refine lv_iadd hF.1 hF.2.1 dL_law_2168 ?_
  obtain ⟨h_864, hw⟩ := hw
  refine va_sld hF.1 hF.2.1 hx hbl hbA hS h_864 dL_law_2169 ?_
  refine lm_i (As := [.int (xs (Int32.toNatClampNeg (x5 + 1)))]) (rest := []) hF hl.1 hC (metX3_isSlow l K.1 h a hap _ F R L G (xs (Int32.toNatClampNeg (x5 + 1)))) (cwV 1 hF.2.2.2.2 (lw_V q2129 q2130 q2131 q85 q2132) rfl rfl rfl (by decide +kernel) ⟨Nat.le_of_ble_eq_true rfl, Nat.le_of_ble_eq_true rfl⟩) hP hM hD hS hmA hw rfl rfl (Nat.le_of_ble_eq_true rfl) dL_law_2170 ⟨hc_862, hs_863⟩ (fun r_865 F_866 R_867 L_868 G_869 H locs hw hP hM hS => ?_)
  refine lv_istore (lv' := [(7, .int r_865), (6, .int r_858), (0, .ref b), (1, .ref x1), (2, .ref h), (3, .ref x3), (4, .ref x4), (5, .int x5)]) hF.1 hF.2.1 dL_law_2173 hl (by decide) rfl (fun ls hl => ?_)
  refine lv_aload_n hF.1 hF.2.1 dL_law_2175 rfl (lv_at hl 4 rfl) ?_
  refine lm_i (As := []) (rest := []) hF hl.1 hC (metX3_thrown l K.1 h a hap _ F_866 R_867 L_868 G_869) (cwV 0 hF.2.2.2.2 (lw_V q1813 q1814 q1815 q85 q1816) rfl rfl rfl (by decide +kernel) ⟨Nat.le_of_ble_eq_true rfl, Nat.le_of_ble_eq_true rfl⟩) hP hM hD hS hmA hw rfl rfl (Nat.le_of_ble_eq_true rfl) dL_law_2176 ⟨hc_862, hs_863⟩ (fun r_870 F_871 R_872 L_873 G_874 H locs hw hP hM hS => ?_)
  refine lv_iload hF.1 hF.2.1 dL_law_2179 (lv_at hl 1 rfl) ?_
  refine lv_icmp_eq (tgt := 2186) hF.1 hF.2.1 dL_law_2181 (by decide) (fun c_875 => ?_) (fun c_875 => ?_)
  · have hw := hw.1 c_875
    refine lv_iload hF.1 hF.2.1 dL_law_2186 (lv_at hl 1 rfl) ?_
    refine lv_if_ne (tgt := 2210) hF.1 hF.2.1 dL_law_2188 (by decide) (fun c_876 => ?_) (fun c_876 => ?_)
    · have hw := hw.2 c_876
      exact Tl2210 l hlt K X0 hF hr hlocks hC hx hbl hA0 h a hap hmA _ hJ28 x1 x3 x4 x5 X_859 F_871 R_872 L_873 G_874 (kc + mc_860) (ks + ms_861) _ _ ls hP hM hD hS ⟨hc_862, hs_863⟩ (lv_sub hl [2, 3, 4, 5, 6, 7] rfl) hw
    · have hw := hw.1 c_876
      refine lv_aload_n hF.1 hF.2.1 dL_law_2191 rfl (lv_at hl 5 rfl) ?_
      refine lv_iconst (v := 0) hF.1 hF.2.1 dL_law_2192 (by decide) ?_
      obtain ⟨n_877, f_878, hx_879, hi_880, hw⟩ := hw
      refine x_lald hF hC hP hx_879 hi_880 dL_law_2193 ?_
      generalize f_878 (Int32.toNatClampNeg 0) = v_881 at hw ⊢
      refine lv_iload hF.1 hF.2.1 dL_law_2194 (lv_at hl 0 rfl) ?_
      refine lv_if_eq (tgt := 2203) hF.1 hF.2.1 dL_law_2196 (by decide) (fun c_882 => ?_) (fun c_882 => ?_)
      · have hw := hw.1 c_882
        refine lv_lconst (v := 0) hF.1 hF.2.1 dL_law_2203 (by decide) ?_
        exact Tl2204 l hlt K X0 hF hr hlocks hC hx hbl hA0 h a hap hmA _ hJ28 x1 x3 x4 x5 v_881 0 X_859 F_871 R_872 L_873 G_874 (kc + mc_860) (ks + ms_861) _ _ ls hP hM hD hS ⟨hc_862, hs_863⟩ (lv_sub hl [2, 3, 4, 5, 6, 7] rfl) hw
      · have hw := hw.2 c_882
        refine lv_lconst (v := 1) hF.1 hF.2.1 dL_law_2199 (by decide) ?_
        refine lv_goto (tgt := 2204) hF.1 hF.2.1 dL_law_2200 (by decide) ?_
        exact Tl2204 l hlt K X0 hF hr hlocks hC hx hbl hA0 h a hap hmA _ hJ28 x1 x3 x4 x5 v_881 1 X_859 F_871 R_872 L_873 G_874 (kc + mc_860) (ks + ms_861) _ _ ls hP hM hD hS ⟨hc_862, hs_863⟩ (lv_sub hl [2, 3, 4, 5, 6, 7] rfl) hw
  · have hw := hw.2 c_875
    refine lv_iconst (v := 0) hF.1 hF.2.1 dL_law_2184 (by decide) ?_
    exact l_end hF hr hlocks hA0 hS ⟨hc_862, hs_863⟩ dL_law_2185 hw
def wpL_2290 (E mc ms N : Nat) (xs : Nat → Int32) (J28 : Nat → Nat → Nat → Int32 → hX → mF → mR → mL → mG → Nat → Nat → Prop) (x1 : Nat) (x3 : Nat) (x4 : Nat) (x5 : Int32) (X : hX) (F : mF) (R : mR) (L : mL) (G : mG) (kc ks : Nat) : Prop := (∀ x5_883 : Int32, x5_883 = x5 + 5 → J28 x1 x3 x4 x5_883 X F R L G kc ks)
set_option maxHeartbeats 8000000 in
theorem Tl2290 {p : Program} {e : Env} {s : State} {m : MethodId} {below : List Frame} {meth : Method} {c : Code} (l : Launch) (hlt : l.stackTraces = false) (K : HK) {b N : Nat} {xs : Nat → Int32} (X0 : hX) (hF : CallFix p m c code 9 s #[Value.ref b] lw_all R_law) (hr : meth.sig.returnType = ret) (hlocks : meth.locks = false) (hC : HC K X0 s) (hx : va_X b N xs s s.heap) (hbl : b < s.heap.size) (hA0 : ∀ q, hA X0 s.heap.size q → s.heap.size ≤ q) (h : Nat) (a : Nat → Nat) (hap : mAp h a) (hmA : ∀ q, mA h a q → hA X0 s.heap.size q) (J28 : Nat → Nat → Nat → Int32 → hX → mF → mR → mL → mG → Nat → Nat → Prop) (hJ28 : ∀ (x1 : Nat) (x3 : Nat) (x4 : Nat) (x5 : Int32) (X : hX) (F : mF) (R : mR) (L : mL) (G : mG) (kc ks : Nat) (H : Heap) (locs : List Loc) (ls : Array Slot), hI K X0 s.heap.size X H → mP K.1 h a F R L G H → hdis X h a → va_S (hA X0 s.heap.size) s.heap H locs → kc ≤ 1200048 ∧ ks ≤ 5501818 → lv_has ls 9 [(0, .ref b), (1, .ref x1), (2, .ref h), (3, .ref x3), (4, .ref x4), (5, .int x5)] → J28 x1 x3 x4 x5 X F R L G kc ks → W p l e room_1 s m #[Value.ref b] below meth c H locs kc ks (lw_Z below #[Value.ref b] s) (F0 m 28 ls [])) : ∀ (x1 : Nat) (x3 : Nat) (x4 : Nat) (x5 : Int32) (X : hX) (F : mF) (R : mR) (L : mL) (G : mG) (kc ks : Nat) (H : Heap) (locs : List Loc) (ls : Array Slot), hI K X0 s.heap.size X H → mP K.1 h a F R L G H → hdis X h a → va_S (hA X0 s.heap.size) s.heap H locs → kc ≤ 1200048 ∧ ks ≤ 5501818 → lv_has ls 9 [(0, .ref b), (1, .ref x1), (2, .ref h), (3, .ref x3), (4, .ref x4), (5, .int x5)] → wpL_2290 (K.2.2 0) 1200048 5501818 N xs J28 x1 x3 x4 x5 X F R L G kc ks → W p l e room_1 s m #[Value.ref b] below meth c H locs kc ks (lw_Z below #[Value.ref b] s) (F0 m 2290 ls []) := by
  have hbA : ¬ hA X0 s.heap.size b := fun z => Nat.not_lt.mpr (hA0 b z) hbl
  intro x1 x3 x4 x5 X F R L G kc ks H locs ls hP hM hD hS hk hl hw
  unfold wpL_2290 at hw
  refine lv_goto (tgt := 3714) hF.1 hF.2.1 dL_law_2290 (by decide) ?_
  obtain ⟨x5_883, ex5_883⟩ : ∃ y : Int32, y = x5 + 5 := ⟨_, rfl⟩
  have hw := hw x5_883 ex5_883
  refine lv_iinc (v := x5_883) (lv' := [(5, .int x5_883), (0, .ref b), (1, .ref x1), (2, .ref h), (3, .ref x3), (4, .ref x4)]) hF.1 hF.2.1 dL_law_3714 hl (k := 5) rfl (by rw [ex5_883]; rfl) (by decide) rfl (fun ls hl => ?_)
  refine lv_goto (tgt := 28) hF.1 hF.2.1 dL_law_3717 (by decide) ?_
  exact hJ28 x1 x3 x4 x5_883 X F R L G kc ks _ _ ls hP hM hD hS hk (lv_sub hl [1, 2, 3, 4, 5, 0] rfl) hw
def wpL_2213 (E mc ms N : Nat) (xs : Nat → Int32) (J28 : Nat → Nat → Nat → Int32 → hX → mF → mR → mL → mG → Nat → Nat → Prop) (x1 : Nat) (x3 : Nat) (x4 : Nat) (x5 : Int32) (X : hX) (F : mF) (R : mR) (L : mL) (G : mG) (kc ks : Nat) : Prop := (vp_in (x5 + 1) N ∧ (vp_in (x5 + 2) N ∧ (vp_in (x5 + 3) N ∧ (∃ mc_889 ms_890 : Nat, kc + mc_889 ≤ mc ∧ ks + ms_890 ≤ ms ∧ wpX0_meetIn (fun r_887 X_888 => (vp_in (x5 + 1) N ∧ (vp_in (x5 + 2) N ∧ (vp_in (x5 + 3) N ∧ wpX3_meetIn (fun r_896 F_897 R_898 L_899 G_900 => wpX3_thrown (fun r_901 F_902 R_903 L_904 G_905 => ((r_901 = r_887 → ((r_887 = 0 → alJ X_888 x3 0 (fun v_912 => ((v_912 = (Int32.toInt64 r_896) → wpL_2290 E mc ms N xs J28 x1 x3 x4 x5 X_888 F_902 R_903 L_904 G_905 (kc + mc_889) (ks + ms_890)) ∧ (¬ v_912 = (Int32.toInt64 r_896) → (0 : Int32) = 1)))) ∧ (¬ r_887 = 0 → wpL_2290 E mc ms N xs J28 x1 x3 x4 x5 X_888 F_902 R_903 L_904 G_905 (kc + mc_889) (ks + ms_890)))) ∧ (¬ r_901 = r_887 → (0 : Int32) = 1))) F_897 R_898 L_899 G_900) F R L G (xs (Int32.toNatClampNeg (x5 + 1))) (xs (Int32.toNatClampNeg (x5 + 2))) (xs (Int32.toNatClampNeg (x5 + 3))))))) (fun _ _ _ => False) E mc_889 ms_890 X x1 (xs (Int32.toNatClampNeg (x5 + 1))) (xs (Int32.toNatClampNeg (x5 + 2))) (xs (Int32.toNatClampNeg (x5 + 3))) x3))))
set_option maxHeartbeats 8000000 in
theorem Tl2213 {p : Program} {e : Env} {s : State} {m : MethodId} {below : List Frame} {meth : Method} {c : Code} (l : Launch) (hlt : l.stackTraces = false) (K : HK) {b N : Nat} {xs : Nat → Int32} (X0 : hX) (hF : CallFix p m c code 9 s #[Value.ref b] lw_all R_law) (hr : meth.sig.returnType = ret) (hlocks : meth.locks = false) (hC : HC K X0 s) (hx : va_X b N xs s s.heap) (hbl : b < s.heap.size) (hA0 : ∀ q, hA X0 s.heap.size q → s.heap.size ≤ q) (h : Nat) (a : Nat → Nat) (hap : mAp h a) (hmA : ∀ q, mA h a q → hA X0 s.heap.size q) (J28 : Nat → Nat → Nat → Int32 → hX → mF → mR → mL → mG → Nat → Nat → Prop) (hJ28 : ∀ (x1 : Nat) (x3 : Nat) (x4 : Nat) (x5 : Int32) (X : hX) (F : mF) (R : mR) (L : mL) (G : mG) (kc ks : Nat) (H : Heap) (locs : List Loc) (ls : Array Slot), hI K X0 s.heap.size X H → mP K.1 h a F R L G H → hdis X h a → va_S (hA X0 s.heap.size) s.heap H locs → kc ≤ 1200048 ∧ ks ≤ 5501818 → lv_has ls 9 [(0, .ref b), (1, .ref x1), (2, .ref h), (3, .ref x3), (4, .ref x4), (5, .int x5)] → J28 x1 x3 x4 x5 X F R L G kc ks → W p l e room_1 s m #[Value.ref b] below meth c H locs kc ks (lw_Z below #[Value.ref b] s) (F0 m 28 ls [])) : ∀ (x1 : Nat) (x3 : Nat) (x4 : Nat) (x5 : Int32) (X : hX) (F : mF) (R : mR) (L : mL) (G : mG) (kc ks : Nat) (H : Heap) (locs : List Loc) (ls : Array Slot), hI K X0 s.heap.size X H → mP K.1 h a F R L G H → hdis X h a → va_S (hA X0 s.heap.size) s.heap H locs → kc ≤ 1200048 ∧ ks ≤ 5501818 → lv_has ls 9 [(0, .ref b), (1, .ref x1), (2, .ref h), (3, .ref x3), (4, .ref x4), (5, .int x5)] → wpL_2213 (K.2.2 0) 1200048 5501818 N xs J28 x1 x3 x4 x5 X F R L G kc ks → W p l e room_1 s m #[Value.ref b] below meth c H locs kc ks (lw_Z below #[Value.ref b] s) (F0 m 2213 ls []) := by
  have hbA : ¬ hA X0 s.heap.size b := fun z => Nat.not_lt.mpr (hA0 b z) hbl
  intro x1 x3 x4 x5 X F R L G kc ks H locs ls hP hM hD hS hk hl hw
  unfold wpL_2213 at hw
  refine lv_aload_n hF.1 hF.2.1 dL_law_2213 rfl (lv_at hl 1 rfl) ?_
  refine lv_aload_n hF.1 hF.2.1 dL_law_2214 rfl (lv_at hl 0 rfl) ?_
  refine lv_iload hF.1 hF.2.1 dL_law_2215 (lv_at hl 5 rfl) ?_
  refine lv_iconst (v := 1) hF.1 hF.2.1 dL_law_2217 (by decide) ?_
  refine lv_iadd hF.1 hF.2.1 dL_law_2218 ?_
  obtain ⟨h_884, hw⟩ := hw
  refine va_sld hF.1 hF.2.1 hx hbl hbA hS h_884 dL_law_2219 ?_
  refine lv_aload_n hF.1 hF.2.1 dL_law_2220 rfl (lv_at hl 0 rfl) ?_
  refine lv_iload hF.1 hF.2.1 dL_law_2221 (lv_at hl 5 rfl) ?_
  refine lv_iconst (v := 2) hF.1 hF.2.1 dL_law_2223 (by decide) ?_
  refine lv_iadd hF.1 hF.2.1 dL_law_2224 ?_
  obtain ⟨h_885, hw⟩ := hw
  refine va_sld hF.1 hF.2.1 hx hbl hbA hS h_885 dL_law_2225 ?_
  refine lv_aload_n hF.1 hF.2.1 dL_law_2226 rfl (lv_at hl 0 rfl) ?_
  refine lv_iload hF.1 hF.2.1 dL_law_2227 (lv_at hl 5 rfl) ?_
  refine lv_iconst (v := 3) hF.1 hF.2.1 dL_law_2229 (by decide) ?_
  refine lv_iadd hF.1 hF.2.1 dL_law_2230 ?_
  obtain ⟨h_886, hw⟩ := hw
  refine va_sld hF.1 hF.2.1 hx hbl hbA hS h_886 dL_law_2231 ?_
  refine lv_aload_n hF.1 hF.2.1 dL_law_2232 rfl (lv_at hl 3 rfl) ?_
  obtain ⟨mc_889, ms_890, hc_891, hs_892, hw⟩ := hw
  refine lkx_i (hrx_SX (As := [.ref x1, .int (xs (Int32.toNatClampNeg (x5 + 1))), .int (xs (Int32.toNatClampNeg (x5 + 2))), .int (xs (Int32.toNatClampNeg (x5 + 3))), .ref x3]) (rest := []) hF hl.1 hC hP hS (metX0_meetIn l hlt K mc_889 ms_890 _ _ _ X x1 (xs (Int32.toNatClampNeg (x5 + 1))) (xs (Int32.toNatClampNeg (x5 + 2))) (xs (Int32.toNatClampNeg (x5 + 3))) x3) (vx_cwSW 5 hF.2.2.2.2 (lw_SW q1336 q1337 q74 q1338) rfl rfl rfl (by decide +kernel) ⟨Nat.le_of_ble_eq_true rfl, Nat.le_of_ble_eq_true rfl⟩) hw rfl rfl (Nat.le_of_ble_eq_true rfl) dL_law_2233 ⟨hc_891, hs_892⟩) hP hM hD hS (fun r_887 X_888 H locs hw hP hM hD hS => ?_)
  refine lv_istore (lv' := [(6, .int r_887), (0, .ref b), (1, .ref x1), (2, .ref h), (3, .ref x3), (4, .ref x4), (5, .int x5)]) hF.1 hF.2.1 dL_law_2236 hl (by decide) rfl (fun ls hl => ?_)
  refine lv_aload_n hF.1 hF.2.1 dL_law_2238 rfl (lv_at hl 3 rfl) ?_
  refine lv_aload_n hF.1 hF.2.1 dL_law_2239 rfl (lv_at hl 1 rfl) ?_
  refine lv_iload hF.1 hF.2.1 dL_law_2240 (lv_at hl 6 rfl) ?_
  refine lv_iconst (v := 1) hF.1 hF.2.1 dL_law_2242 (by decide) ?_
  refine lv_iadd hF.1 hF.2.1 dL_law_2243 ?_
  obtain ⟨h_893, hw⟩ := hw
  refine va_sld hF.1 hF.2.1 hx hbl hbA hS h_893 dL_law_2244 ?_
  refine lv_aload_n hF.1 hF.2.1 dL_law_2245 rfl (lv_at hl 1 rfl) ?_
  refine lv_iload hF.1 hF.2.1 dL_law_2246 (lv_at hl 6 rfl) ?_
  refine lv_iconst (v := 2) hF.1 hF.2.1 dL_law_2248 (by decide) ?_
  refine lv_iadd hF.1 hF.2.1 dL_law_2249 ?_
  obtain ⟨h_894, hw⟩ := hw
  refine va_sld hF.1 hF.2.1 hx hbl hbA hS h_894 dL_law_2250 ?_
  refine lv_aload_n hF.1 hF.2.1 dL_law_2251 rfl (lv_at hl 1 rfl) ?_
  refine lv_iload hF.1 hF.2.1 dL_law_2252 (lv_at hl 6 rfl) ?_
  refine lv_iconst (v := 3) hF.1 hF.2.1 dL_law_2254 (by decide) ?_
  refine lv_iadd hF.1 hF.2.1 dL_law_2255 ?_
  obtain ⟨h_895, hw⟩ := hw
  refine va_sld hF.1 hF.2.1 hx hbl hbA hS h_895 dL_law_2256 ?_
  refine lm_i (As := [.int (xs (Int32.toNatClampNeg (x5 + 1))), .int (xs (Int32.toNatClampNeg (x5 + 2))), .int (xs (Int32.toNatClampNeg (x5 + 3)))]) (rest := []) hF hl.1 hC (metX3_meetIn l K.1 h a hap _ F R L G (xs (Int32.toNatClampNeg (x5 + 1))) (xs (Int32.toNatClampNeg (x5 + 2))) (xs (Int32.toNatClampNeg (x5 + 3)))) (cwV 3 hF.2.2.2.2 (lw_V q2133 q2134 q2135 q85 q2136) rfl rfl rfl (by decide +kernel) ⟨Nat.le_of_ble_eq_true rfl, Nat.le_of_ble_eq_true rfl⟩) hP hM hD hS hmA hw rfl rfl (Nat.le_of_ble_eq_true rfl) dL_law_2257 ⟨hc_891, hs_892⟩ (fun r_896 F_897 R_898 L_899 G_900 H locs hw hP hM hS => ?_)
  refine lv_istore (lv' := [(7, .int r_896), (6, .int r_887), (0, .ref b), (1, .ref x1), (2, .ref h), (3, .ref x3), (4, .ref x4), (5, .int x5)]) hF.1 hF.2.1 dL_law_2260 hl (by decide) rfl (fun ls hl => ?_)
  refine lv_aload_n hF.1 hF.2.1 dL_law_2262 rfl (lv_at hl 4 rfl) ?_
  refine lm_i (As := []) (rest := []) hF hl.1 hC (metX3_thrown l K.1 h a hap _ F_897 R_898 L_899 G_900) (cwV 0 hF.2.2.2.2 (lw_V q1813 q1814 q1815 q85 q1816) rfl rfl rfl (by decide +kernel) ⟨Nat.le_of_ble_eq_true rfl, Nat.le_of_ble_eq_true rfl⟩) hP hM hD hS hmA hw rfl rfl (Nat.le_of_ble_eq_true rfl) dL_law_2263 ⟨hc_891, hs_892⟩ (fun r_901 F_902 R_903 L_904 G_905 H locs hw hP hM hS => ?_)
  refine lv_iload hF.1 hF.2.1 dL_law_2266 (lv_at hl 1 rfl) ?_
  refine lv_icmp_eq (tgt := 2273) hF.1 hF.2.1 dL_law_2268 (by decide) (fun c_906 => ?_) (fun c_906 => ?_)
  · have hw := hw.1 c_906
    refine lv_iload hF.1 hF.2.1 dL_law_2273 (lv_at hl 1 rfl) ?_
    refine lv_if_ne (tgt := 2290) hF.1 hF.2.1 dL_law_2275 (by decide) (fun c_907 => ?_) (fun c_907 => ?_)
    · have hw := hw.2 c_907
      exact Tl2290 l hlt K X0 hF hr hlocks hC hx hbl hA0 h a hap hmA _ hJ28 x1 x3 x4 x5 X_888 F_902 R_903 L_904 G_905 (kc + mc_889) (ks + ms_890) _ _ ls hP hM hD hS ⟨hc_891, hs_892⟩ (lv_sub hl [2, 3, 4, 5, 6, 7] rfl) hw
    · have hw := hw.1 c_907
      refine lv_aload_n hF.1 hF.2.1 dL_law_2278 rfl (lv_at hl 5 rfl) ?_
      refine lv_iconst (v := 0) hF.1 hF.2.1 dL_law_2279 (by decide) ?_
      obtain ⟨n_908, f_909, hx_910, hi_911, hw⟩ := hw
      refine x_lald hF hC hP hx_910 hi_911 dL_law_2280 ?_
      generalize f_909 (Int32.toNatClampNeg 0) = v_912 at hw ⊢
      refine lv_iload hF.1 hF.2.1 dL_law_2281 (lv_at hl 0 rfl) ?_
      refine lv_i2l hF.1 hF.2.1 dL_law_2283 rfl ?_
      refine W.lcmp hF.1 hF.2.1 dL_law_2284 ?_
      refine lv_if_eq (tgt := 2290) hF.1 hF.2.1 dL_law_2285 (by decide) (fun c_913 => ?_) (fun c_913 => ?_)
      · rw [lc_eq] at c_913
        have hw := hw.1 c_913
        exact Tl2290 l hlt K X0 hF hr hlocks hC hx hbl hA0 h a hap hmA _ hJ28 x1 x3 x4 x5 X_888 F_902 R_903 L_904 G_905 (kc + mc_889) (ks + ms_890) _ _ ls hP hM hD hS ⟨hc_891, hs_892⟩ (lv_sub hl [2, 3, 4, 5, 6, 7] rfl) hw
      · rw [lc_eq] at c_913
        have hw := hw.2 c_913
        refine lv_iconst (v := 0) hF.1 hF.2.1 dL_law_2288 (by decide) ?_
        exact l_end hF hr hlocks hA0 hS ⟨hc_891, hs_892⟩ dL_law_2289 hw
  · have hw := hw.2 c_906
    refine lv_iconst (v := 0) hF.1 hF.2.1 dL_law_2271 (by decide) ?_
    exact l_end hF hr hlocks hA0 hS ⟨hc_891, hs_892⟩ dL_law_2272 hw
def wpL_2370 (E mc ms N : Nat) (xs : Nat → Int32) (J28 : Nat → Nat → Nat → Int32 → hX → mF → mR → mL → mG → Nat → Nat → Prop) (x1 : Nat) (x3 : Nat) (x4 : Nat) (x5 : Int32) (X : hX) (F : mF) (R : mR) (L : mL) (G : mG) (kc ks : Nat) : Prop := (∀ x5_914 : Int32, x5_914 = x5 + 5 → J28 x1 x3 x4 x5_914 X F R L G kc ks)
set_option maxHeartbeats 8000000 in
theorem Tl2370 {p : Program} {e : Env} {s : State} {m : MethodId} {below : List Frame} {meth : Method} {c : Code} (l : Launch) (hlt : l.stackTraces = false) (K : HK) {b N : Nat} {xs : Nat → Int32} (X0 : hX) (hF : CallFix p m c code 9 s #[Value.ref b] lw_all R_law) (hr : meth.sig.returnType = ret) (hlocks : meth.locks = false) (hC : HC K X0 s) (hx : va_X b N xs s s.heap) (hbl : b < s.heap.size) (hA0 : ∀ q, hA X0 s.heap.size q → s.heap.size ≤ q) (h : Nat) (a : Nat → Nat) (hap : mAp h a) (hmA : ∀ q, mA h a q → hA X0 s.heap.size q) (J28 : Nat → Nat → Nat → Int32 → hX → mF → mR → mL → mG → Nat → Nat → Prop) (hJ28 : ∀ (x1 : Nat) (x3 : Nat) (x4 : Nat) (x5 : Int32) (X : hX) (F : mF) (R : mR) (L : mL) (G : mG) (kc ks : Nat) (H : Heap) (locs : List Loc) (ls : Array Slot), hI K X0 s.heap.size X H → mP K.1 h a F R L G H → hdis X h a → va_S (hA X0 s.heap.size) s.heap H locs → kc ≤ 1200048 ∧ ks ≤ 5501818 → lv_has ls 9 [(0, .ref b), (1, .ref x1), (2, .ref h), (3, .ref x3), (4, .ref x4), (5, .int x5)] → J28 x1 x3 x4 x5 X F R L G kc ks → W p l e room_1 s m #[Value.ref b] below meth c H locs kc ks (lw_Z below #[Value.ref b] s) (F0 m 28 ls [])) : ∀ (x1 : Nat) (x3 : Nat) (x4 : Nat) (x5 : Int32) (X : hX) (F : mF) (R : mR) (L : mL) (G : mG) (kc ks : Nat) (H : Heap) (locs : List Loc) (ls : Array Slot), hI K X0 s.heap.size X H → mP K.1 h a F R L G H → hdis X h a → va_S (hA X0 s.heap.size) s.heap H locs → kc ≤ 1200048 ∧ ks ≤ 5501818 → lv_has ls 9 [(0, .ref b), (1, .ref x1), (2, .ref h), (3, .ref x3), (4, .ref x4), (5, .int x5)] → wpL_2370 (K.2.2 0) 1200048 5501818 N xs J28 x1 x3 x4 x5 X F R L G kc ks → W p l e room_1 s m #[Value.ref b] below meth c H locs kc ks (lw_Z below #[Value.ref b] s) (F0 m 2370 ls []) := by
  have hbA : ¬ hA X0 s.heap.size b := fun z => Nat.not_lt.mpr (hA0 b z) hbl
  intro x1 x3 x4 x5 X F R L G kc ks H locs ls hP hM hD hS hk hl hw
  unfold wpL_2370 at hw
  refine lv_goto (tgt := 3714) hF.1 hF.2.1 dL_law_2370 (by decide) ?_
  obtain ⟨x5_914, ex5_914⟩ : ∃ y : Int32, y = x5 + 5 := ⟨_, rfl⟩
  have hw := hw x5_914 ex5_914
  refine lv_iinc (v := x5_914) (lv' := [(5, .int x5_914), (0, .ref b), (1, .ref x1), (2, .ref h), (3, .ref x3), (4, .ref x4)]) hF.1 hF.2.1 dL_law_3714 hl (k := 5) rfl (by rw [ex5_914]; rfl) (by decide) rfl (fun ls hl => ?_)
  refine lv_goto (tgt := 28) hF.1 hF.2.1 dL_law_3717 (by decide) ?_
  exact hJ28 x1 x3 x4 x5_914 X F R L G kc ks _ _ ls hP hM hD hS hk (lv_sub hl [1, 2, 3, 4, 5, 0] rfl) hw
def wpL_2293 (E mc ms N : Nat) (xs : Nat → Int32) (J28 : Nat → Nat → Nat → Int32 → hX → mF → mR → mL → mG → Nat → Nat → Prop) (x1 : Nat) (x3 : Nat) (x4 : Nat) (x5 : Int32) (X : hX) (F : mF) (R : mR) (L : mL) (G : mG) (kc ks : Nat) : Prop := (vp_in (x5 + 1) N ∧ (vp_in (x5 + 2) N ∧ (vp_in (x5 + 3) N ∧ (∃ mc_920 ms_921 : Nat, kc + mc_920 ≤ mc ∧ ks + ms_921 ≤ ms ∧ wpX0_meetings (fun r_918 X_919 => (vp_in (x5 + 1) N ∧ (vp_in (x5 + 2) N ∧ (vp_in (x5 + 3) N ∧ wpX3_meetings (fun r_927 F_928 R_929 L_930 G_931 => wpX3_thrown (fun r_932 F_933 R_934 L_935 G_936 => ((r_932 = r_918 → ((r_918 = 0 → alJ X_919 x3 0 (fun v_943 => ((v_943 = (Int32.toInt64 r_927) → wpL_2370 E mc ms N xs J28 x1 x3 x4 x5 X_919 F_933 R_934 L_935 G_936 (kc + mc_920) (ks + ms_921)) ∧ (¬ v_943 = (Int32.toInt64 r_927) → (0 : Int32) = 1)))) ∧ (¬ r_918 = 0 → wpL_2370 E mc ms N xs J28 x1 x3 x4 x5 X_919 F_933 R_934 L_935 G_936 (kc + mc_920) (ks + ms_921)))) ∧ (¬ r_932 = r_918 → (0 : Int32) = 1))) F_928 R_929 L_930 G_931) F R L G (xs (Int32.toNatClampNeg (x5 + 1))) (xs (Int32.toNatClampNeg (x5 + 2))) (xs (Int32.toNatClampNeg (x5 + 3))))))) (fun _ _ _ => False) E mc_920 ms_921 X x1 (xs (Int32.toNatClampNeg (x5 + 1))) (xs (Int32.toNatClampNeg (x5 + 2))) (xs (Int32.toNatClampNeg (x5 + 3))) x3))))
set_option maxHeartbeats 8000000 in
theorem Tl2293 {p : Program} {e : Env} {s : State} {m : MethodId} {below : List Frame} {meth : Method} {c : Code} (l : Launch) (hlt : l.stackTraces = false) (K : HK) {b N : Nat} {xs : Nat → Int32} (X0 : hX) (hF : CallFix p m c code 9 s #[Value.ref b] lw_all R_law) (hr : meth.sig.returnType = ret) (hlocks : meth.locks = false) (hC : HC K X0 s) (hx : va_X b N xs s s.heap) (hbl : b < s.heap.size) (hA0 : ∀ q, hA X0 s.heap.size q → s.heap.size ≤ q) (h : Nat) (a : Nat → Nat) (hap : mAp h a) (hmA : ∀ q, mA h a q → hA X0 s.heap.size q) (J28 : Nat → Nat → Nat → Int32 → hX → mF → mR → mL → mG → Nat → Nat → Prop) (hJ28 : ∀ (x1 : Nat) (x3 : Nat) (x4 : Nat) (x5 : Int32) (X : hX) (F : mF) (R : mR) (L : mL) (G : mG) (kc ks : Nat) (H : Heap) (locs : List Loc) (ls : Array Slot), hI K X0 s.heap.size X H → mP K.1 h a F R L G H → hdis X h a → va_S (hA X0 s.heap.size) s.heap H locs → kc ≤ 1200048 ∧ ks ≤ 5501818 → lv_has ls 9 [(0, .ref b), (1, .ref x1), (2, .ref h), (3, .ref x3), (4, .ref x4), (5, .int x5)] → J28 x1 x3 x4 x5 X F R L G kc ks → W p l e room_1 s m #[Value.ref b] below meth c H locs kc ks (lw_Z below #[Value.ref b] s) (F0 m 28 ls [])) : ∀ (x1 : Nat) (x3 : Nat) (x4 : Nat) (x5 : Int32) (X : hX) (F : mF) (R : mR) (L : mL) (G : mG) (kc ks : Nat) (H : Heap) (locs : List Loc) (ls : Array Slot), hI K X0 s.heap.size X H → mP K.1 h a F R L G H → hdis X h a → va_S (hA X0 s.heap.size) s.heap H locs → kc ≤ 1200048 ∧ ks ≤ 5501818 → lv_has ls 9 [(0, .ref b), (1, .ref x1), (2, .ref h), (3, .ref x3), (4, .ref x4), (5, .int x5)] → wpL_2293 (K.2.2 0) 1200048 5501818 N xs J28 x1 x3 x4 x5 X F R L G kc ks → W p l e room_1 s m #[Value.ref b] below meth c H locs kc ks (lw_Z below #[Value.ref b] s) (F0 m 2293 ls []) := by
  have hbA : ¬ hA X0 s.heap.size b := fun z => Nat.not_lt.mpr (hA0 b z) hbl
  intro x1 x3 x4 x5 X F R L G kc ks H locs ls hP hM hD hS hk hl hw
  unfold wpL_2293 at hw
  refine lv_aload_n hF.1 hF.2.1 dL_law_2293 rfl (lv_at hl 1 rfl) ?_
  refine lv_aload_n hF.1 hF.2.1 dL_law_2294 rfl (lv_at hl 0 rfl) ?_
  refine lv_iload hF.1 hF.2.1 dL_law_2295 (lv_at hl 5 rfl) ?_
  refine lv_iconst (v := 1) hF.1 hF.2.1 dL_law_2297 (by decide) ?_
  refine lv_iadd hF.1 hF.2.1 dL_law_2298 ?_
  obtain ⟨h_915, hw⟩ := hw
  refine va_sld hF.1 hF.2.1 hx hbl hbA hS h_915 dL_law_2299 ?_
  refine lv_aload_n hF.1 hF.2.1 dL_law_2300 rfl (lv_at hl 0 rfl) ?_
  refine lv_iload hF.1 hF.2.1 dL_law_2301 (lv_at hl 5 rfl) ?_
  refine lv_iconst (v := 2) hF.1 hF.2.1 dL_law_2303 (by decide) ?_
  refine lv_iadd hF.1 hF.2.1 dL_law_2304 ?_
  obtain ⟨h_916, hw⟩ := hw
  refine va_sld hF.1 hF.2.1 hx hbl hbA hS h_916 dL_law_2305 ?_
  refine lv_aload_n hF.1 hF.2.1 dL_law_2306 rfl (lv_at hl 0 rfl) ?_
  refine lv_iload hF.1 hF.2.1 dL_law_2307 (lv_at hl 5 rfl) ?_
  refine lv_iconst (v := 3) hF.1 hF.2.1 dL_law_2309 (by decide) ?_
  refine lv_iadd hF.1 hF.2.1 dL_law_2310 ?_
  obtain ⟨h_917, hw⟩ := hw
  refine va_sld hF.1 hF.2.1 hx hbl hbA hS h_917 dL_law_2311 ?_
  refine lv_aload_n hF.1 hF.2.1 dL_law_2312 rfl (lv_at hl 3 rfl) ?_
  obtain ⟨mc_920, ms_921, hc_922, hs_923, hw⟩ := hw
  refine lkx_i (hrx_SX (As := [.ref x1, .int (xs (Int32.toNatClampNeg (x5 + 1))), .int (xs (Int32.toNatClampNeg (x5 + 2))), .int (xs (Int32.toNatClampNeg (x5 + 3))), .ref x3]) (rest := []) hF hl.1 hC hP hS (metX0_meetings l hlt K mc_920 ms_921 _ _ _ X x1 (xs (Int32.toNatClampNeg (x5 + 1))) (xs (Int32.toNatClampNeg (x5 + 2))) (xs (Int32.toNatClampNeg (x5 + 3))) x3) (vx_cwSW 5 hF.2.2.2.2 (lw_SW q1359 q1360 q74 q1361) rfl rfl rfl (by decide +kernel) ⟨Nat.le_of_ble_eq_true rfl, Nat.le_of_ble_eq_true rfl⟩) hw rfl rfl (Nat.le_of_ble_eq_true rfl) dL_law_2313 ⟨hc_922, hs_923⟩) hP hM hD hS (fun r_918 X_919 H locs hw hP hM hD hS => ?_)
  refine lv_istore (lv' := [(6, .int r_918), (0, .ref b), (1, .ref x1), (2, .ref h), (3, .ref x3), (4, .ref x4), (5, .int x5)]) hF.1 hF.2.1 dL_law_2316 hl (by decide) rfl (fun ls hl => ?_)
  refine lv_aload_n hF.1 hF.2.1 dL_law_2318 rfl (lv_at hl 3 rfl) ?_
  refine lv_aload_n hF.1 hF.2.1 dL_law_2319 rfl (lv_at hl 1 rfl) ?_
  refine lv_iload hF.1 hF.2.1 dL_law_2320 (lv_at hl 6 rfl) ?_
  refine lv_iconst (v := 1) hF.1 hF.2.1 dL_law_2322 (by decide) ?_
  refine lv_iadd hF.1 hF.2.1 dL_law_2323 ?_
  obtain ⟨h_924, hw⟩ := hw
  refine va_sld hF.1 hF.2.1 hx hbl hbA hS h_924 dL_law_2324 ?_
  refine lv_aload_n hF.1 hF.2.1 dL_law_2325 rfl (lv_at hl 1 rfl) ?_
  refine lv_iload hF.1 hF.2.1 dL_law_2326 (lv_at hl 6 rfl) ?_
  refine lv_iconst (v := 2) hF.1 hF.2.1 dL_law_2328 (by decide) ?_
  refine lv_iadd hF.1 hF.2.1 dL_law_2329 ?_
  obtain ⟨h_925, hw⟩ := hw
  refine va_sld hF.1 hF.2.1 hx hbl hbA hS h_925 dL_law_2330 ?_
  refine lv_aload_n hF.1 hF.2.1 dL_law_2331 rfl (lv_at hl 1 rfl) ?_
  refine lv_iload hF.1 hF.2.1 dL_law_2332 (lv_at hl 6 rfl) ?_
  refine lv_iconst (v := 3) hF.1 hF.2.1 dL_law_2334 (by decide) ?_
  refine lv_iadd hF.1 hF.2.1 dL_law_2335 ?_
  obtain ⟨h_926, hw⟩ := hw
  refine va_sld hF.1 hF.2.1 hx hbl hbA hS h_926 dL_law_2336 ?_
  refine lm_i (As := [.int (xs (Int32.toNatClampNeg (x5 + 1))), .int (xs (Int32.toNatClampNeg (x5 + 2))), .int (xs (Int32.toNatClampNeg (x5 + 3)))]) (rest := []) hF hl.1 hC (metX3_meetings l K.1 h a hap _ F R L G (xs (Int32.toNatClampNeg (x5 + 1))) (xs (Int32.toNatClampNeg (x5 + 2))) (xs (Int32.toNatClampNeg (x5 + 3)))) (cwV 3 hF.2.2.2.2 (lw_V q2155 q2156 q2157 q85 q2158) rfl rfl rfl (by decide +kernel) ⟨Nat.le_of_ble_eq_true rfl, Nat.le_of_ble_eq_true rfl⟩) hP hM hD hS hmA hw rfl rfl (Nat.le_of_ble_eq_true rfl) dL_law_2337 ⟨hc_922, hs_923⟩ (fun r_927 F_928 R_929 L_930 G_931 H locs hw hP hM hS => ?_)
  refine lv_istore (lv' := [(7, .int r_927), (6, .int r_918), (0, .ref b), (1, .ref x1), (2, .ref h), (3, .ref x3), (4, .ref x4), (5, .int x5)]) hF.1 hF.2.1 dL_law_2340 hl (by decide) rfl (fun ls hl => ?_)
  refine lv_aload_n hF.1 hF.2.1 dL_law_2342 rfl (lv_at hl 4 rfl) ?_
  refine lm_i (As := []) (rest := []) hF hl.1 hC (metX3_thrown l K.1 h a hap _ F_928 R_929 L_930 G_931) (cwV 0 hF.2.2.2.2 (lw_V q1813 q1814 q1815 q85 q1816) rfl rfl rfl (by decide +kernel) ⟨Nat.le_of_ble_eq_true rfl, Nat.le_of_ble_eq_true rfl⟩) hP hM hD hS hmA hw rfl rfl (Nat.le_of_ble_eq_true rfl) dL_law_2343 ⟨hc_922, hs_923⟩ (fun r_932 F_933 R_934 L_935 G_936 H locs hw hP hM hS => ?_)
  refine lv_iload hF.1 hF.2.1 dL_law_2346 (lv_at hl 1 rfl) ?_
  refine lv_icmp_eq (tgt := 2353) hF.1 hF.2.1 dL_law_2348 (by decide) (fun c_937 => ?_) (fun c_937 => ?_)
  · have hw := hw.1 c_937
    refine lv_iload hF.1 hF.2.1 dL_law_2353 (lv_at hl 1 rfl) ?_
    refine lv_if_ne (tgt := 2370) hF.1 hF.2.1 dL_law_2355 (by decide) (fun c_938 => ?_) (fun c_938 => ?_)
    · have hw := hw.2 c_938
      exact Tl2370 l hlt K X0 hF hr hlocks hC hx hbl hA0 h a hap hmA _ hJ28 x1 x3 x4 x5 X_919 F_933 R_934 L_935 G_936 (kc + mc_920) (ks + ms_921) _ _ ls hP hM hD hS ⟨hc_922, hs_923⟩ (lv_sub hl [2, 3, 4, 5, 6, 7] rfl) hw
    · have hw := hw.1 c_938
      refine lv_aload_n hF.1 hF.2.1 dL_law_2358 rfl (lv_at hl 5 rfl) ?_
      refine lv_iconst (v := 0) hF.1 hF.2.1 dL_law_2359 (by decide) ?_
      obtain ⟨n_939, f_940, hx_941, hi_942, hw⟩ := hw
      refine x_lald hF hC hP hx_941 hi_942 dL_law_2360 ?_
      generalize f_940 (Int32.toNatClampNeg 0) = v_943 at hw ⊢
      refine lv_iload hF.1 hF.2.1 dL_law_2361 (lv_at hl 0 rfl) ?_
      refine lv_i2l hF.1 hF.2.1 dL_law_2363 rfl ?_
      refine W.lcmp hF.1 hF.2.1 dL_law_2364 ?_
      refine lv_if_eq (tgt := 2370) hF.1 hF.2.1 dL_law_2365 (by decide) (fun c_944 => ?_) (fun c_944 => ?_)
      · rw [lc_eq] at c_944
        have hw := hw.1 c_944
        exact Tl2370 l hlt K X0 hF hr hlocks hC hx hbl hA0 h a hap hmA _ hJ28 x1 x3 x4 x5 X_919 F_933 R_934 L_935 G_936 (kc + mc_920) (ks + ms_921) _ _ ls hP hM hD hS ⟨hc_922, hs_923⟩ (lv_sub hl [2, 3, 4, 5, 6, 7] rfl) hw
      · rw [lc_eq] at c_944
        have hw := hw.2 c_944
        refine lv_iconst (v := 0) hF.1 hF.2.1 dL_law_2368 (by decide) ?_
        exact l_end hF hr hlocks hA0 hS ⟨hc_922, hs_923⟩ dL_law_2369 hw
  · have hw := hw.2 c_937
    refine lv_iconst (v := 0) hF.1 hF.2.1 dL_law_2351 (by decide) ?_
    exact l_end hF hr hlocks hA0 hS ⟨hc_922, hs_923⟩ dL_law_2352 hw
def wpL_2437 (E mc ms N : Nat) (xs : Nat → Int32) (J28 : Nat → Nat → Nat → Int32 → hX → mF → mR → mL → mG → Nat → Nat → Prop) (x1 : Nat) (x3 : Nat) (x4 : Nat) (x5 : Int32) (X : hX) (F : mF) (R : mR) (L : mL) (G : mG) (kc ks : Nat) : Prop := (∀ x5_945 : Int32, x5_945 = x5 + 5 → J28 x1 x3 x4 x5_945 X F R L G kc ks)
set_option maxHeartbeats 8000000 in
theorem Tl2437 {p : Program} {e : Env} {s : State} {m : MethodId} {below : List Frame} {meth : Method} {c : Code} (l : Launch) (hlt : l.stackTraces = false) (K : HK) {b N : Nat} {xs : Nat → Int32} (X0 : hX) (hF : CallFix p m c code 9 s #[Value.ref b] lw_all R_law) (hr : meth.sig.returnType = ret) (hlocks : meth.locks = false) (hC : HC K X0 s) (hx : va_X b N xs s s.heap) (hbl : b < s.heap.size) (hA0 : ∀ q, hA X0 s.heap.size q → s.heap.size ≤ q) (h : Nat) (a : Nat → Nat) (hap : mAp h a) (hmA : ∀ q, mA h a q → hA X0 s.heap.size q) (J28 : Nat → Nat → Nat → Int32 → hX → mF → mR → mL → mG → Nat → Nat → Prop) (hJ28 : ∀ (x1 : Nat) (x3 : Nat) (x4 : Nat) (x5 : Int32) (X : hX) (F : mF) (R : mR) (L : mL) (G : mG) (kc ks : Nat) (H : Heap) (locs : List Loc) (ls : Array Slot), hI K X0 s.heap.size X H → mP K.1 h a F R L G H → hdis X h a → va_S (hA X0 s.heap.size) s.heap H locs → kc ≤ 1200048 ∧ ks ≤ 5501818 → lv_has ls 9 [(0, .ref b), (1, .ref x1), (2, .ref h), (3, .ref x3), (4, .ref x4), (5, .int x5)] → J28 x1 x3 x4 x5 X F R L G kc ks → W p l e room_1 s m #[Value.ref b] below meth c H locs kc ks (lw_Z below #[Value.ref b] s) (F0 m 28 ls [])) : ∀ (x1 : Nat) (x3 : Nat) (x4 : Nat) (x5 : Int32) (X : hX) (F : mF) (R : mR) (L : mL) (G : mG) (kc ks : Nat) (H : Heap) (locs : List Loc) (ls : Array Slot), hI K X0 s.heap.size X H → mP K.1 h a F R L G H → hdis X h a → va_S (hA X0 s.heap.size) s.heap H locs → kc ≤ 1200048 ∧ ks ≤ 5501818 → lv_has ls 9 [(0, .ref b), (1, .ref x1), (2, .ref h), (3, .ref x3), (4, .ref x4), (5, .int x5)] → wpL_2437 (K.2.2 0) 1200048 5501818 N xs J28 x1 x3 x4 x5 X F R L G kc ks → W p l e room_1 s m #[Value.ref b] below meth c H locs kc ks (lw_Z below #[Value.ref b] s) (F0 m 2437 ls []) := by
  have hbA : ¬ hA X0 s.heap.size b := fun z => Nat.not_lt.mpr (hA0 b z) hbl
  intro x1 x3 x4 x5 X F R L G kc ks H locs ls hP hM hD hS hk hl hw
  unfold wpL_2437 at hw
  refine lv_goto (tgt := 3714) hF.1 hF.2.1 dL_law_2437 (by decide) ?_
  obtain ⟨x5_945, ex5_945⟩ : ∃ y : Int32, y = x5 + 5 := ⟨_, rfl⟩
  have hw := hw x5_945 ex5_945
  refine lv_iinc (v := x5_945) (lv' := [(5, .int x5_945), (0, .ref b), (1, .ref x1), (2, .ref h), (3, .ref x3), (4, .ref x4)]) hF.1 hF.2.1 dL_law_3714 hl (k := 5) rfl (by rw [ex5_945]; rfl) (by decide) rfl (fun ls hl => ?_)
  refine lv_goto (tgt := 28) hF.1 hF.2.1 dL_law_3717 (by decide) ?_
  exact hJ28 x1 x3 x4 x5_945 X F R L G kc ks _ _ ls hP hM hD hS hk (lv_sub hl [1, 2, 3, 4, 5, 0] rfl) hw
def wpL_2373 (E mc ms N : Nat) (xs : Nat → Int32) (J28 : Nat → Nat → Nat → Int32 → hX → mF → mR → mL → mG → Nat → Nat → Prop) (x1 : Nat) (x3 : Nat) (x4 : Nat) (x5 : Int32) (X : hX) (F : mF) (R : mR) (L : mL) (G : mG) (kc ks : Nat) : Prop := (vp_in (x5 + 1) N ∧ (vp_in (x5 + 2) N ∧ (∃ mc_950 ms_951 : Nat, kc + mc_950 ≤ mc ∧ ks + ms_951 ≤ ms ∧ wpX0_differenceAbove (fun r_948 X_949 => (vp_in (x5 + 1) N ∧ (vp_in (x5 + 2) N ∧ wpX3_differenceAbove (fun r_956 F_957 R_958 L_959 G_960 => wpX3_thrown (fun r_961 F_962 R_963 L_964 G_965 => ((r_961 = r_948 → ((r_948 = 0 → alJ X_949 x3 0 (fun v_972 => ((v_972 = r_956 → wpL_2437 E mc ms N xs J28 x1 x3 x4 x5 X_949 F_962 R_963 L_964 G_965 (kc + mc_950) (ks + ms_951)) ∧ (¬ v_972 = r_956 → (0 : Int32) = 1)))) ∧ (¬ r_948 = 0 → wpL_2437 E mc ms N xs J28 x1 x3 x4 x5 X_949 F_962 R_963 L_964 G_965 (kc + mc_950) (ks + ms_951)))) ∧ (¬ r_961 = r_948 → (0 : Int32) = 1))) F_957 R_958 L_959 G_960) F R L G (xs (Int32.toNatClampNeg (x5 + 1))) (xs (Int32.toNatClampNeg (x5 + 2)))))) (fun _ _ _ => False) E mc_950 ms_951 X x1 (xs (Int32.toNatClampNeg (x5 + 1))) (xs (Int32.toNatClampNeg (x5 + 2))) x3)))
set_option maxHeartbeats 8000000 in
theorem Tl2373 {p : Program} {e : Env} {s : State} {m : MethodId} {below : List Frame} {meth : Method} {c : Code} (l : Launch) (hlt : l.stackTraces = false) (K : HK) {b N : Nat} {xs : Nat → Int32} (X0 : hX) (hF : CallFix p m c code 9 s #[Value.ref b] lw_all R_law) (hr : meth.sig.returnType = ret) (hlocks : meth.locks = false) (hC : HC K X0 s) (hx : va_X b N xs s s.heap) (hbl : b < s.heap.size) (hA0 : ∀ q, hA X0 s.heap.size q → s.heap.size ≤ q) (h : Nat) (a : Nat → Nat) (hap : mAp h a) (hmA : ∀ q, mA h a q → hA X0 s.heap.size q) (J28 : Nat → Nat → Nat → Int32 → hX → mF → mR → mL → mG → Nat → Nat → Prop) (hJ28 : ∀ (x1 : Nat) (x3 : Nat) (x4 : Nat) (x5 : Int32) (X : hX) (F : mF) (R : mR) (L : mL) (G : mG) (kc ks : Nat) (H : Heap) (locs : List Loc) (ls : Array Slot), hI K X0 s.heap.size X H → mP K.1 h a F R L G H → hdis X h a → va_S (hA X0 s.heap.size) s.heap H locs → kc ≤ 1200048 ∧ ks ≤ 5501818 → lv_has ls 9 [(0, .ref b), (1, .ref x1), (2, .ref h), (3, .ref x3), (4, .ref x4), (5, .int x5)] → J28 x1 x3 x4 x5 X F R L G kc ks → W p l e room_1 s m #[Value.ref b] below meth c H locs kc ks (lw_Z below #[Value.ref b] s) (F0 m 28 ls [])) : ∀ (x1 : Nat) (x3 : Nat) (x4 : Nat) (x5 : Int32) (X : hX) (F : mF) (R : mR) (L : mL) (G : mG) (kc ks : Nat) (H : Heap) (locs : List Loc) (ls : Array Slot), hI K X0 s.heap.size X H → mP K.1 h a F R L G H → hdis X h a → va_S (hA X0 s.heap.size) s.heap H locs → kc ≤ 1200048 ∧ ks ≤ 5501818 → lv_has ls 9 [(0, .ref b), (1, .ref x1), (2, .ref h), (3, .ref x3), (4, .ref x4), (5, .int x5)] → wpL_2373 (K.2.2 0) 1200048 5501818 N xs J28 x1 x3 x4 x5 X F R L G kc ks → W p l e room_1 s m #[Value.ref b] below meth c H locs kc ks (lw_Z below #[Value.ref b] s) (F0 m 2373 ls []) := by
  have hbA : ¬ hA X0 s.heap.size b := fun z => Nat.not_lt.mpr (hA0 b z) hbl
  intro x1 x3 x4 x5 X F R L G kc ks H locs ls hP hM hD hS hk hl hw
  unfold wpL_2373 at hw
  refine lv_aload_n hF.1 hF.2.1 dL_law_2373 rfl (lv_at hl 1 rfl) ?_
  refine lv_aload_n hF.1 hF.2.1 dL_law_2374 rfl (lv_at hl 0 rfl) ?_
  refine lv_iload hF.1 hF.2.1 dL_law_2375 (lv_at hl 5 rfl) ?_
  refine lv_iconst (v := 1) hF.1 hF.2.1 dL_law_2377 (by decide) ?_
  refine lv_iadd hF.1 hF.2.1 dL_law_2378 ?_
  obtain ⟨h_946, hw⟩ := hw
  refine va_sld hF.1 hF.2.1 hx hbl hbA hS h_946 dL_law_2379 ?_
  refine lv_aload_n hF.1 hF.2.1 dL_law_2380 rfl (lv_at hl 0 rfl) ?_
  refine lv_iload hF.1 hF.2.1 dL_law_2381 (lv_at hl 5 rfl) ?_
  refine lv_iconst (v := 2) hF.1 hF.2.1 dL_law_2383 (by decide) ?_
  refine lv_iadd hF.1 hF.2.1 dL_law_2384 ?_
  obtain ⟨h_947, hw⟩ := hw
  refine va_sld hF.1 hF.2.1 hx hbl hbA hS h_947 dL_law_2385 ?_
  refine lv_aload_n hF.1 hF.2.1 dL_law_2386 rfl (lv_at hl 3 rfl) ?_
  obtain ⟨mc_950, ms_951, hc_952, hs_953, hw⟩ := hw
  refine lkx_i (hrx_SX (As := [.ref x1, .int (xs (Int32.toNatClampNeg (x5 + 1))), .int (xs (Int32.toNatClampNeg (x5 + 2))), .ref x3]) (rest := []) hF hl.1 hC hP hS (metX0_differenceAbove l hlt K mc_950 ms_951 _ _ _ X x1 (xs (Int32.toNatClampNeg (x5 + 1))) (xs (Int32.toNatClampNeg (x5 + 2))) x3) (vx_cwSW 4 hF.2.2.2.2 (lw_SW q1366 q1367 q74 q1368) rfl rfl rfl (by decide +kernel) ⟨Nat.le_of_ble_eq_true rfl, Nat.le_of_ble_eq_true rfl⟩) hw rfl rfl (Nat.le_of_ble_eq_true rfl) dL_law_2387 ⟨hc_952, hs_953⟩) hP hM hD hS (fun r_948 X_949 H locs hw hP hM hD hS => ?_)
  refine lv_istore (lv' := [(6, .int r_948), (0, .ref b), (1, .ref x1), (2, .ref h), (3, .ref x3), (4, .ref x4), (5, .int x5)]) hF.1 hF.2.1 dL_law_2390 hl (by decide) rfl (fun ls hl => ?_)
  refine lv_aload_n hF.1 hF.2.1 dL_law_2392 rfl (lv_at hl 3 rfl) ?_
  refine lv_aload_n hF.1 hF.2.1 dL_law_2393 rfl (lv_at hl 1 rfl) ?_
  refine lv_iload hF.1 hF.2.1 dL_law_2394 (lv_at hl 6 rfl) ?_
  refine lv_iconst (v := 1) hF.1 hF.2.1 dL_law_2396 (by decide) ?_
  refine lv_iadd hF.1 hF.2.1 dL_law_2397 ?_
  obtain ⟨h_954, hw⟩ := hw
  refine va_sld hF.1 hF.2.1 hx hbl hbA hS h_954 dL_law_2398 ?_
  refine lv_aload_n hF.1 hF.2.1 dL_law_2399 rfl (lv_at hl 1 rfl) ?_
  refine lv_iload hF.1 hF.2.1 dL_law_2400 (lv_at hl 6 rfl) ?_
  refine lv_iconst (v := 2) hF.1 hF.2.1 dL_law_2402 (by decide) ?_
  refine lv_iadd hF.1 hF.2.1 dL_law_2403 ?_
  obtain ⟨h_955, hw⟩ := hw
  refine va_sld hF.1 hF.2.1 hx hbl hbA hS h_955 dL_law_2404 ?_
  refine lm_l (As := [.int (xs (Int32.toNatClampNeg (x5 + 1))), .int (xs (Int32.toNatClampNeg (x5 + 2)))]) (rest := []) hF hl.1 hC (metX3_differenceAbove l K.1 h a hap _ F R L G (xs (Int32.toNatClampNeg (x5 + 1))) (xs (Int32.toNatClampNeg (x5 + 2)))) (cwV 2 hF.2.2.2.2 (lw_V q2159 q2160 q2161 q85 q2162) rfl rfl rfl (by decide +kernel) ⟨Nat.le_of_ble_eq_true rfl, Nat.le_of_ble_eq_true rfl⟩) hP hM hD hS hmA hw rfl rfl (Nat.le_of_ble_eq_true rfl) dL_law_2405 ⟨hc_952, hs_953⟩ (fun r_956 F_957 R_958 L_959 G_960 H locs hw hP hM hS => ?_)
  refine lv_lstore (lv' := [(7, .long r_956), (6, .int r_948), (0, .ref b), (1, .ref x1), (2, .ref h), (3, .ref x3), (4, .ref x4), (5, .int x5)]) hF.1 hF.2.1 dL_law_2408 hl (by decide) rfl (fun ls hl => ?_)
  refine lv_aload_n hF.1 hF.2.1 dL_law_2410 rfl (lv_at hl 4 rfl) ?_
  refine lm_i (As := []) (rest := []) hF hl.1 hC (metX3_thrown l K.1 h a hap _ F_957 R_958 L_959 G_960) (cwV 0 hF.2.2.2.2 (lw_V q1813 q1814 q1815 q85 q1816) rfl rfl rfl (by decide +kernel) ⟨Nat.le_of_ble_eq_true rfl, Nat.le_of_ble_eq_true rfl⟩) hP hM hD hS hmA hw rfl rfl (Nat.le_of_ble_eq_true rfl) dL_law_2411 ⟨hc_952, hs_953⟩ (fun r_961 F_962 R_963 L_964 G_965 H locs hw hP hM hS => ?_)
  refine lv_iload hF.1 hF.2.1 dL_law_2414 (lv_at hl 1 rfl) ?_
  refine lv_icmp_eq (tgt := 2421) hF.1 hF.2.1 dL_law_2416 (by decide) (fun c_966 => ?_) (fun c_966 => ?_)
  · have hw := hw.1 c_966
    refine lv_iload hF.1 hF.2.1 dL_law_2421 (lv_at hl 1 rfl) ?_
    refine lv_if_ne (tgt := 2437) hF.1 hF.2.1 dL_law_2423 (by decide) (fun c_967 => ?_) (fun c_967 => ?_)
    · have hw := hw.2 c_967
      exact Tl2437 l hlt K X0 hF hr hlocks hC hx hbl hA0 h a hap hmA _ hJ28 x1 x3 x4 x5 X_949 F_962 R_963 L_964 G_965 (kc + mc_950) (ks + ms_951) _ _ ls hP hM hD hS ⟨hc_952, hs_953⟩ (lv_sub hl [2, 3, 4, 5, 6, 7] rfl) hw
    · have hw := hw.1 c_967
      refine lv_aload_n hF.1 hF.2.1 dL_law_2426 rfl (lv_at hl 5 rfl) ?_
      refine lv_iconst (v := 0) hF.1 hF.2.1 dL_law_2427 (by decide) ?_
      obtain ⟨n_968, f_969, hx_970, hi_971, hw⟩ := hw
      refine x_lald hF hC hP hx_970 hi_971 dL_law_2428 ?_
      generalize f_969 (Int32.toNatClampNeg 0) = v_972 at hw ⊢
      refine lv_lload hF.1 hF.2.1 dL_law_2429 (lv_at hl 0 rfl) ?_
      refine W.lcmp hF.1 hF.2.1 dL_law_2431 ?_
      refine lv_if_eq (tgt := 2437) hF.1 hF.2.1 dL_law_2432 (by decide) (fun c_973 => ?_) (fun c_973 => ?_)
      · rw [lc_eq] at c_973
        have hw := hw.1 c_973
        exact Tl2437 l hlt K X0 hF hr hlocks hC hx hbl hA0 h a hap hmA _ hJ28 x1 x3 x4 x5 X_949 F_962 R_963 L_964 G_965 (kc + mc_950) (ks + ms_951) _ _ ls hP hM hD hS ⟨hc_952, hs_953⟩ (lv_sub hl [2, 3, 4, 5, 6, 7] rfl) hw
      · rw [lc_eq] at c_973
        have hw := hw.2 c_973
        refine lv_iconst (v := 0) hF.1 hF.2.1 dL_law_2435 (by decide) ?_
        exact l_end hF hr hlocks hA0 hS ⟨hc_952, hs_953⟩ dL_law_2436 hw
  · have hw := hw.2 c_966
    refine lv_iconst (v := 0) hF.1 hF.2.1 dL_law_2419 (by decide) ?_
    exact l_end hF hr hlocks hA0 hS ⟨hc_952, hs_953⟩ dL_law_2420 hw
def wpL_2504 (E mc ms N : Nat) (xs : Nat → Int32) (J28 : Nat → Nat → Nat → Int32 → hX → mF → mR → mL → mG → Nat → Nat → Prop) (x1 : Nat) (x3 : Nat) (x4 : Nat) (x5 : Int32) (X : hX) (F : mF) (R : mR) (L : mL) (G : mG) (kc ks : Nat) : Prop := (∀ x5_974 : Int32, x5_974 = x5 + 5 → J28 x1 x3 x4 x5_974 X F R L G kc ks)
set_option maxHeartbeats 8000000 in
theorem Tl2504 {p : Program} {e : Env} {s : State} {m : MethodId} {below : List Frame} {meth : Method} {c : Code} (l : Launch) (hlt : l.stackTraces = false) (K : HK) {b N : Nat} {xs : Nat → Int32} (X0 : hX) (hF : CallFix p m c code 9 s #[Value.ref b] lw_all R_law) (hr : meth.sig.returnType = ret) (hlocks : meth.locks = false) (hC : HC K X0 s) (hx : va_X b N xs s s.heap) (hbl : b < s.heap.size) (hA0 : ∀ q, hA X0 s.heap.size q → s.heap.size ≤ q) (h : Nat) (a : Nat → Nat) (hap : mAp h a) (hmA : ∀ q, mA h a q → hA X0 s.heap.size q) (J28 : Nat → Nat → Nat → Int32 → hX → mF → mR → mL → mG → Nat → Nat → Prop) (hJ28 : ∀ (x1 : Nat) (x3 : Nat) (x4 : Nat) (x5 : Int32) (X : hX) (F : mF) (R : mR) (L : mL) (G : mG) (kc ks : Nat) (H : Heap) (locs : List Loc) (ls : Array Slot), hI K X0 s.heap.size X H → mP K.1 h a F R L G H → hdis X h a → va_S (hA X0 s.heap.size) s.heap H locs → kc ≤ 1200048 ∧ ks ≤ 5501818 → lv_has ls 9 [(0, .ref b), (1, .ref x1), (2, .ref h), (3, .ref x3), (4, .ref x4), (5, .int x5)] → J28 x1 x3 x4 x5 X F R L G kc ks → W p l e room_1 s m #[Value.ref b] below meth c H locs kc ks (lw_Z below #[Value.ref b] s) (F0 m 28 ls [])) : ∀ (x1 : Nat) (x3 : Nat) (x4 : Nat) (x5 : Int32) (X : hX) (F : mF) (R : mR) (L : mL) (G : mG) (kc ks : Nat) (H : Heap) (locs : List Loc) (ls : Array Slot), hI K X0 s.heap.size X H → mP K.1 h a F R L G H → hdis X h a → va_S (hA X0 s.heap.size) s.heap H locs → kc ≤ 1200048 ∧ ks ≤ 5501818 → lv_has ls 9 [(0, .ref b), (1, .ref x1), (2, .ref h), (3, .ref x3), (4, .ref x4), (5, .int x5)] → wpL_2504 (K.2.2 0) 1200048 5501818 N xs J28 x1 x3 x4 x5 X F R L G kc ks → W p l e room_1 s m #[Value.ref b] below meth c H locs kc ks (lw_Z below #[Value.ref b] s) (F0 m 2504 ls []) := by
  have hbA : ¬ hA X0 s.heap.size b := fun z => Nat.not_lt.mpr (hA0 b z) hbl
  intro x1 x3 x4 x5 X F R L G kc ks H locs ls hP hM hD hS hk hl hw
  unfold wpL_2504 at hw
  refine lv_goto (tgt := 3714) hF.1 hF.2.1 dL_law_2504 (by decide) ?_
  obtain ⟨x5_974, ex5_974⟩ : ∃ y : Int32, y = x5 + 5 := ⟨_, rfl⟩
  have hw := hw x5_974 ex5_974
  refine lv_iinc (v := x5_974) (lv' := [(5, .int x5_974), (0, .ref b), (1, .ref x1), (2, .ref h), (3, .ref x3), (4, .ref x4)]) hF.1 hF.2.1 dL_law_3714 hl (k := 5) rfl (by rw [ex5_974]; rfl) (by decide) rfl (fun ls hl => ?_)
  refine lv_goto (tgt := 28) hF.1 hF.2.1 dL_law_3717 (by decide) ?_
  exact hJ28 x1 x3 x4 x5_974 X F R L G kc ks _ _ ls hP hM hD hS hk (lv_sub hl [1, 2, 3, 4, 5, 0] rfl) hw
def wpL_2440 (E mc ms N : Nat) (xs : Nat → Int32) (J28 : Nat → Nat → Nat → Int32 → hX → mF → mR → mL → mG → Nat → Nat → Prop) (x1 : Nat) (x3 : Nat) (x4 : Nat) (x5 : Int32) (X : hX) (F : mF) (R : mR) (L : mL) (G : mG) (kc ks : Nat) : Prop := (vp_in (x5 + 1) N ∧ (vp_in (x5 + 2) N ∧ (∃ mc_979 ms_980 : Nat, kc + mc_979 ≤ mc ∧ ks + ms_980 ≤ ms ∧ wpX0_comeBackIn (fun r_977 X_978 => (vp_in (x5 + 1) N ∧ (vp_in (x5 + 2) N ∧ wpX3_comeBackIn (fun r_985 F_986 R_987 L_988 G_989 => wpX3_thrown (fun r_990 F_991 R_992 L_993 G_994 => ((r_990 = r_977 → ((r_977 = 0 → alJ X_978 x3 0 (fun v_1001 => ((v_1001 = r_985 → wpL_2504 E mc ms N xs J28 x1 x3 x4 x5 X_978 F_991 R_992 L_993 G_994 (kc + mc_979) (ks + ms_980)) ∧ (¬ v_1001 = r_985 → (0 : Int32) = 1)))) ∧ (¬ r_977 = 0 → wpL_2504 E mc ms N xs J28 x1 x3 x4 x5 X_978 F_991 R_992 L_993 G_994 (kc + mc_979) (ks + ms_980)))) ∧ (¬ r_990 = r_977 → (0 : Int32) = 1))) F_986 R_987 L_988 G_989) F R L G (xs (Int32.toNatClampNeg (x5 + 1))) (xs (Int32.toNatClampNeg (x5 + 2)))))) (fun _ _ _ => False) E mc_979 ms_980 X x1 (xs (Int32.toNatClampNeg (x5 + 1))) (xs (Int32.toNatClampNeg (x5 + 2))) x3)))
set_option maxHeartbeats 8000000 in
theorem Tl2440 {p : Program} {e : Env} {s : State} {m : MethodId} {below : List Frame} {meth : Method} {c : Code} (l : Launch) (hlt : l.stackTraces = false) (K : HK) {b N : Nat} {xs : Nat → Int32} (X0 : hX) (hF : CallFix p m c code 9 s #[Value.ref b] lw_all R_law) (hr : meth.sig.returnType = ret) (hlocks : meth.locks = false) (hC : HC K X0 s) (hx : va_X b N xs s s.heap) (hbl : b < s.heap.size) (hA0 : ∀ q, hA X0 s.heap.size q → s.heap.size ≤ q) (h : Nat) (a : Nat → Nat) (hap : mAp h a) (hmA : ∀ q, mA h a q → hA X0 s.heap.size q) (J28 : Nat → Nat → Nat → Int32 → hX → mF → mR → mL → mG → Nat → Nat → Prop) (hJ28 : ∀ (x1 : Nat) (x3 : Nat) (x4 : Nat) (x5 : Int32) (X : hX) (F : mF) (R : mR) (L : mL) (G : mG) (kc ks : Nat) (H : Heap) (locs : List Loc) (ls : Array Slot), hI K X0 s.heap.size X H → mP K.1 h a F R L G H → hdis X h a → va_S (hA X0 s.heap.size) s.heap H locs → kc ≤ 1200048 ∧ ks ≤ 5501818 → lv_has ls 9 [(0, .ref b), (1, .ref x1), (2, .ref h), (3, .ref x3), (4, .ref x4), (5, .int x5)] → J28 x1 x3 x4 x5 X F R L G kc ks → W p l e room_1 s m #[Value.ref b] below meth c H locs kc ks (lw_Z below #[Value.ref b] s) (F0 m 28 ls [])) : ∀ (x1 : Nat) (x3 : Nat) (x4 : Nat) (x5 : Int32) (X : hX) (F : mF) (R : mR) (L : mL) (G : mG) (kc ks : Nat) (H : Heap) (locs : List Loc) (ls : Array Slot), hI K X0 s.heap.size X H → mP K.1 h a F R L G H → hdis X h a → va_S (hA X0 s.heap.size) s.heap H locs → kc ≤ 1200048 ∧ ks ≤ 5501818 → lv_has ls 9 [(0, .ref b), (1, .ref x1), (2, .ref h), (3, .ref x3), (4, .ref x4), (5, .int x5)] → wpL_2440 (K.2.2 0) 1200048 5501818 N xs J28 x1 x3 x4 x5 X F R L G kc ks → W p l e room_1 s m #[Value.ref b] below meth c H locs kc ks (lw_Z below #[Value.ref b] s) (F0 m 2440 ls []) := by
  have hbA : ¬ hA X0 s.heap.size b := fun z => Nat.not_lt.mpr (hA0 b z) hbl
  intro x1 x3 x4 x5 X F R L G kc ks H locs ls hP hM hD hS hk hl hw
  unfold wpL_2440 at hw
  refine lv_aload_n hF.1 hF.2.1 dL_law_2440 rfl (lv_at hl 1 rfl) ?_
  refine lv_aload_n hF.1 hF.2.1 dL_law_2441 rfl (lv_at hl 0 rfl) ?_
  refine lv_iload hF.1 hF.2.1 dL_law_2442 (lv_at hl 5 rfl) ?_
  refine lv_iconst (v := 1) hF.1 hF.2.1 dL_law_2444 (by decide) ?_
  refine lv_iadd hF.1 hF.2.1 dL_law_2445 ?_
  obtain ⟨h_975, hw⟩ := hw
  refine va_sld hF.1 hF.2.1 hx hbl hbA hS h_975 dL_law_2446 ?_
  refine lv_aload_n hF.1 hF.2.1 dL_law_2447 rfl (lv_at hl 0 rfl) ?_
  refine lv_iload hF.1 hF.2.1 dL_law_2448 (lv_at hl 5 rfl) ?_
  refine lv_iconst (v := 2) hF.1 hF.2.1 dL_law_2450 (by decide) ?_
  refine lv_iadd hF.1 hF.2.1 dL_law_2451 ?_
  obtain ⟨h_976, hw⟩ := hw
  refine va_sld hF.1 hF.2.1 hx hbl hbA hS h_976 dL_law_2452 ?_
  refine lv_aload_n hF.1 hF.2.1 dL_law_2453 rfl (lv_at hl 3 rfl) ?_
  obtain ⟨mc_979, ms_980, hc_981, hs_982, hw⟩ := hw
  refine lkx_i (hrx_SX (As := [.ref x1, .int (xs (Int32.toNatClampNeg (x5 + 1))), .int (xs (Int32.toNatClampNeg (x5 + 2))), .ref x3]) (rest := []) hF hl.1 hC hP hS (metX0_comeBackIn l hlt K mc_979 ms_980 _ _ _ X x1 (xs (Int32.toNatClampNeg (x5 + 1))) (xs (Int32.toNatClampNeg (x5 + 2))) x3) (vx_cwSW 4 hF.2.2.2.2 (lw_SW q1377 q1378 q74 q1379) rfl rfl rfl (by decide +kernel) ⟨Nat.le_of_ble_eq_true rfl, Nat.le_of_ble_eq_true rfl⟩) hw rfl rfl (Nat.le_of_ble_eq_true rfl) dL_law_2454 ⟨hc_981, hs_982⟩) hP hM hD hS (fun r_977 X_978 H locs hw hP hM hD hS => ?_)
  refine lv_istore (lv' := [(6, .int r_977), (0, .ref b), (1, .ref x1), (2, .ref h), (3, .ref x3), (4, .ref x4), (5, .int x5)]) hF.1 hF.2.1 dL_law_2457 hl (by decide) rfl (fun ls hl => ?_)
  refine lv_aload_n hF.1 hF.2.1 dL_law_2459 rfl (lv_at hl 3 rfl) ?_
  refine lv_aload_n hF.1 hF.2.1 dL_law_2460 rfl (lv_at hl 1 rfl) ?_
  refine lv_iload hF.1 hF.2.1 dL_law_2461 (lv_at hl 6 rfl) ?_
  refine lv_iconst (v := 1) hF.1 hF.2.1 dL_law_2463 (by decide) ?_
  refine lv_iadd hF.1 hF.2.1 dL_law_2464 ?_
  obtain ⟨h_983, hw⟩ := hw
  refine va_sld hF.1 hF.2.1 hx hbl hbA hS h_983 dL_law_2465 ?_
  refine lv_aload_n hF.1 hF.2.1 dL_law_2466 rfl (lv_at hl 1 rfl) ?_
  refine lv_iload hF.1 hF.2.1 dL_law_2467 (lv_at hl 6 rfl) ?_
  refine lv_iconst (v := 2) hF.1 hF.2.1 dL_law_2469 (by decide) ?_
  refine lv_iadd hF.1 hF.2.1 dL_law_2470 ?_
  obtain ⟨h_984, hw⟩ := hw
  refine va_sld hF.1 hF.2.1 hx hbl hbA hS h_984 dL_law_2471 ?_
  refine lm_l (As := [.int (xs (Int32.toNatClampNeg (x5 + 1))), .int (xs (Int32.toNatClampNeg (x5 + 2)))]) (rest := []) hF hl.1 hC (metX3_comeBackIn l K.1 h a hap _ F R L G (xs (Int32.toNatClampNeg (x5 + 1))) (xs (Int32.toNatClampNeg (x5 + 2)))) (cwV 2 hF.2.2.2.2 (lw_V q2171 q2172 q2173 q85 q2174) rfl rfl rfl (by decide +kernel) ⟨Nat.le_of_ble_eq_true rfl, Nat.le_of_ble_eq_true rfl⟩) hP hM hD hS hmA hw rfl rfl (Nat.le_of_ble_eq_true rfl) dL_law_2472 ⟨hc_981, hs_982⟩ (fun r_985 F_986 R_987 L_988 G_989 H locs hw hP hM hS => ?_)
  refine lv_lstore (lv' := [(7, .long r_985), (6, .int r_977), (0, .ref b), (1, .ref x1), (2, .ref h), (3, .ref x3), (4, .ref x4), (5, .int x5)]) hF.1 hF.2.1 dL_law_2475 hl (by decide) rfl (fun ls hl => ?_)
  refine lv_aload_n hF.1 hF.2.1 dL_law_2477 rfl (lv_at hl 4 rfl) ?_
  refine lm_i (As := []) (rest := []) hF hl.1 hC (metX3_thrown l K.1 h a hap _ F_986 R_987 L_988 G_989) (cwV 0 hF.2.2.2.2 (lw_V q1813 q1814 q1815 q85 q1816) rfl rfl rfl (by decide +kernel) ⟨Nat.le_of_ble_eq_true rfl, Nat.le_of_ble_eq_true rfl⟩) hP hM hD hS hmA hw rfl rfl (Nat.le_of_ble_eq_true rfl) dL_law_2478 ⟨hc_981, hs_982⟩ (fun r_990 F_991 R_992 L_993 G_994 H locs hw hP hM hS => ?_)
  refine lv_iload hF.1 hF.2.1 dL_law_2481 (lv_at hl 1 rfl) ?_
  refine lv_icmp_eq (tgt := 2488) hF.1 hF.2.1 dL_law_2483 (by decide) (fun c_995 => ?_) (fun c_995 => ?_)
  · have hw := hw.1 c_995
    refine lv_iload hF.1 hF.2.1 dL_law_2488 (lv_at hl 1 rfl) ?_
    refine lv_if_ne (tgt := 2504) hF.1 hF.2.1 dL_law_2490 (by decide) (fun c_996 => ?_) (fun c_996 => ?_)
    · have hw := hw.2 c_996
      exact Tl2504 l hlt K X0 hF hr hlocks hC hx hbl hA0 h a hap hmA _ hJ28 x1 x3 x4 x5 X_978 F_991 R_992 L_993 G_994 (kc + mc_979) (ks + ms_980) _ _ ls hP hM hD hS ⟨hc_981, hs_982⟩ (lv_sub hl [2, 3, 4, 5, 6, 7] rfl) hw
    · have hw := hw.1 c_996
      refine lv_aload_n hF.1 hF.2.1 dL_law_2493 rfl (lv_at hl 5 rfl) ?_
      refine lv_iconst (v := 0) hF.1 hF.2.1 dL_law_2494 (by decide) ?_
      obtain ⟨n_997, f_998, hx_999, hi_1000, hw⟩ := hw
      refine x_lald hF hC hP hx_999 hi_1000 dL_law_2495 ?_
      generalize f_998 (Int32.toNatClampNeg 0) = v_1001 at hw ⊢
      refine lv_lload hF.1 hF.2.1 dL_law_2496 (lv_at hl 0 rfl) ?_
      refine W.lcmp hF.1 hF.2.1 dL_law_2498 ?_
      refine lv_if_eq (tgt := 2504) hF.1 hF.2.1 dL_law_2499 (by decide) (fun c_1002 => ?_) (fun c_1002 => ?_)
      · rw [lc_eq] at c_1002
        have hw := hw.1 c_1002
        exact Tl2504 l hlt K X0 hF hr hlocks hC hx hbl hA0 h a hap hmA _ hJ28 x1 x3 x4 x5 X_978 F_991 R_992 L_993 G_994 (kc + mc_979) (ks + ms_980) _ _ ls hP hM hD hS ⟨hc_981, hs_982⟩ (lv_sub hl [2, 3, 4, 5, 6, 7] rfl) hw
      · rw [lc_eq] at c_1002
        have hw := hw.2 c_1002
        refine lv_iconst (v := 0) hF.1 hF.2.1 dL_law_2502 (by decide) ?_
        exact l_end hF hr hlocks hA0 hS ⟨hc_981, hs_982⟩ dL_law_2503 hw
  · have hw := hw.2 c_995
    refine lv_iconst (v := 0) hF.1 hF.2.1 dL_law_2486 (by decide) ?_
    exact l_end hF hr hlocks hA0 hS ⟨hc_981, hs_982⟩ dL_law_2487 hw
def wpL_2596 (E mc ms N : Nat) (xs : Nat → Int32) (J28 : Nat → Nat → Nat → Int32 → hX → mF → mR → mL → mG → Nat → Nat → Prop) (x1 : Nat) (x3 : Nat) (x4 : Nat) (x5 : Int32) (X : hX) (F : mF) (R : mR) (L : mL) (G : mG) (kc ks : Nat) : Prop := (∀ x5_1003 : Int32, x5_1003 = x5 + 5 → J28 x1 x3 x4 x5_1003 X F R L G kc ks)
set_option maxHeartbeats 8000000 in
theorem Tl2596 {p : Program} {e : Env} {s : State} {m : MethodId} {below : List Frame} {meth : Method} {c : Code} (l : Launch) (hlt : l.stackTraces = false) (K : HK) {b N : Nat} {xs : Nat → Int32} (X0 : hX) (hF : CallFix p m c code 9 s #[Value.ref b] lw_all R_law) (hr : meth.sig.returnType = ret) (hlocks : meth.locks = false) (hC : HC K X0 s) (hx : va_X b N xs s s.heap) (hbl : b < s.heap.size) (hA0 : ∀ q, hA X0 s.heap.size q → s.heap.size ≤ q) (h : Nat) (a : Nat → Nat) (hap : mAp h a) (hmA : ∀ q, mA h a q → hA X0 s.heap.size q) (J28 : Nat → Nat → Nat → Int32 → hX → mF → mR → mL → mG → Nat → Nat → Prop) (hJ28 : ∀ (x1 : Nat) (x3 : Nat) (x4 : Nat) (x5 : Int32) (X : hX) (F : mF) (R : mR) (L : mL) (G : mG) (kc ks : Nat) (H : Heap) (locs : List Loc) (ls : Array Slot), hI K X0 s.heap.size X H → mP K.1 h a F R L G H → hdis X h a → va_S (hA X0 s.heap.size) s.heap H locs → kc ≤ 1200048 ∧ ks ≤ 5501818 → lv_has ls 9 [(0, .ref b), (1, .ref x1), (2, .ref h), (3, .ref x3), (4, .ref x4), (5, .int x5)] → J28 x1 x3 x4 x5 X F R L G kc ks → W p l e room_1 s m #[Value.ref b] below meth c H locs kc ks (lw_Z below #[Value.ref b] s) (F0 m 28 ls [])) : ∀ (x1 : Nat) (x3 : Nat) (x4 : Nat) (x5 : Int32) (X : hX) (F : mF) (R : mR) (L : mL) (G : mG) (kc ks : Nat) (H : Heap) (locs : List Loc) (ls : Array Slot), hI K X0 s.heap.size X H → mP K.1 h a F R L G H → hdis X h a → va_S (hA X0 s.heap.size) s.heap H locs → kc ≤ 1200048 ∧ ks ≤ 5501818 → lv_has ls 9 [(0, .ref b), (1, .ref x1), (2, .ref h), (3, .ref x3), (4, .ref x4), (5, .int x5)] → wpL_2596 (K.2.2 0) 1200048 5501818 N xs J28 x1 x3 x4 x5 X F R L G kc ks → W p l e room_1 s m #[Value.ref b] below meth c H locs kc ks (lw_Z below #[Value.ref b] s) (F0 m 2596 ls []) := by
  have hbA : ¬ hA X0 s.heap.size b := fun z => Nat.not_lt.mpr (hA0 b z) hbl
  intro x1 x3 x4 x5 X F R L G kc ks H locs ls hP hM hD hS hk hl hw
  unfold wpL_2596 at hw
  refine lv_goto (tgt := 3714) hF.1 hF.2.1 dL_law_2596 (by decide) ?_
  obtain ⟨x5_1003, ex5_1003⟩ : ∃ y : Int32, y = x5 + 5 := ⟨_, rfl⟩
  have hw := hw x5_1003 ex5_1003
  refine lv_iinc (v := x5_1003) (lv' := [(5, .int x5_1003), (0, .ref b), (1, .ref x1), (2, .ref h), (3, .ref x3), (4, .ref x4)]) hF.1 hF.2.1 dL_law_3714 hl (k := 5) rfl (by rw [ex5_1003]; rfl) (by decide) rfl (fun ls hl => ?_)
  refine lv_goto (tgt := 28) hF.1 hF.2.1 dL_law_3717 (by decide) ?_
  exact hJ28 x1 x3 x4 x5_1003 X F R L G kc ks _ _ ls hP hM hD hS hk (lv_sub hl [1, 2, 3, 4, 5, 0] rfl) hw
def wpL_2507 (E mc ms N : Nat) (xs : Nat → Int32) (J28 : Nat → Nat → Nat → Int32 → hX → mF → mR → mL → mG → Nat → Nat → Prop) (x1 : Nat) (x3 : Nat) (x4 : Nat) (x5 : Int32) (X : hX) (F : mF) (R : mR) (L : mL) (G : mG) (kc ks : Nat) : Prop := (vp_in (x5 + 1) N ∧ (vp_in (x5 + 2) N ∧ (vp_in (x5 + 3) N ∧ (vp_in (x5 + 4) N ∧ (∃ mc_1010 ms_1011 : Nat, kc + mc_1010 ≤ mc ∧ ks + ms_1011 ≤ ms ∧ wpX0_allMeetIn (fun r_1008 X_1009 => (vp_in (x5 + 1) N ∧ (vp_in (x5 + 2) N ∧ (vp_in (x5 + 3) N ∧ (vp_in (x5 + 4) N ∧ wpX3_allMeetIn (fun r_1018 F_1019 R_1020 L_1021 G_1022 => wpX3_thrown (fun r_1023 F_1024 R_1025 L_1026 G_1027 => ((r_1023 = r_1008 → ((r_1008 = 0 → alJ X_1009 x3 0 (fun v_1034 => ((v_1034 = (Int32.toInt64 r_1018) → wpL_2596 E mc ms N xs J28 x1 x3 x4 x5 X_1009 F_1024 R_1025 L_1026 G_1027 (kc + mc_1010) (ks + ms_1011)) ∧ (¬ v_1034 = (Int32.toInt64 r_1018) → (0 : Int32) = 1)))) ∧ (¬ r_1008 = 0 → wpL_2596 E mc ms N xs J28 x1 x3 x4 x5 X_1009 F_1024 R_1025 L_1026 G_1027 (kc + mc_1010) (ks + ms_1011)))) ∧ (¬ r_1023 = r_1008 → (0 : Int32) = 1))) F_1019 R_1020 L_1021 G_1022) F R L G (xs (Int32.toNatClampNeg (x5 + 1))) (xs (Int32.toNatClampNeg (x5 + 2))) (xs (Int32.toNatClampNeg (x5 + 3))) (xs (Int32.toNatClampNeg (x5 + 4)))))))) (fun _ _ _ => False) E mc_1010 ms_1011 X x1 (xs (Int32.toNatClampNeg (x5 + 1))) (xs (Int32.toNatClampNeg (x5 + 2))) (xs (Int32.toNatClampNeg (x5 + 3))) (xs (Int32.toNatClampNeg (x5 + 4))) x3)))))
set_option maxHeartbeats 8000000 in
theorem Tl2507 {p : Program} {e : Env} {s : State} {m : MethodId} {below : List Frame} {meth : Method} {c : Code} (l : Launch) (hlt : l.stackTraces = false) (K : HK) {b N : Nat} {xs : Nat → Int32} (X0 : hX) (hF : CallFix p m c code 9 s #[Value.ref b] lw_all R_law) (hr : meth.sig.returnType = ret) (hlocks : meth.locks = false) (hC : HC K X0 s) (hx : va_X b N xs s s.heap) (hbl : b < s.heap.size) (hA0 : ∀ q, hA X0 s.heap.size q → s.heap.size ≤ q) (h : Nat) (a : Nat → Nat) (hap : mAp h a) (hmA : ∀ q, mA h a q → hA X0 s.heap.size q) (J28 : Nat → Nat → Nat → Int32 → hX → mF → mR → mL → mG → Nat → Nat → Prop) (hJ28 : ∀ (x1 : Nat) (x3 : Nat) (x4 : Nat) (x5 : Int32) (X : hX) (F : mF) (R : mR) (L : mL) (G : mG) (kc ks : Nat) (H : Heap) (locs : List Loc) (ls : Array Slot), hI K X0 s.heap.size X H → mP K.1 h a F R L G H → hdis X h a → va_S (hA X0 s.heap.size) s.heap H locs → kc ≤ 1200048 ∧ ks ≤ 5501818 → lv_has ls 9 [(0, .ref b), (1, .ref x1), (2, .ref h), (3, .ref x3), (4, .ref x4), (5, .int x5)] → J28 x1 x3 x4 x5 X F R L G kc ks → W p l e room_1 s m #[Value.ref b] below meth c H locs kc ks (lw_Z below #[Value.ref b] s) (F0 m 28 ls [])) : ∀ (x1 : Nat) (x3 : Nat) (x4 : Nat) (x5 : Int32) (X : hX) (F : mF) (R : mR) (L : mL) (G : mG) (kc ks : Nat) (H : Heap) (locs : List Loc) (ls : Array Slot), hI K X0 s.heap.size X H → mP K.1 h a F R L G H → hdis X h a → va_S (hA X0 s.heap.size) s.heap H locs → kc ≤ 1200048 ∧ ks ≤ 5501818 → lv_has ls 9 [(0, .ref b), (1, .ref x1), (2, .ref h), (3, .ref x3), (4, .ref x4), (5, .int x5)] → wpL_2507 (K.2.2 0) 1200048 5501818 N xs J28 x1 x3 x4 x5 X F R L G kc ks → W p l e room_1 s m #[Value.ref b] below meth c H locs kc ks (lw_Z below #[Value.ref b] s) (F0 m 2507 ls []) := by
  have hbA : ¬ hA X0 s.heap.size b := fun z => Nat.not_lt.mpr (hA0 b z) hbl
  intro x1 x3 x4 x5 X F R L G kc ks H locs ls hP hM hD hS hk hl hw
  unfold wpL_2507 at hw
  refine lv_aload_n hF.1 hF.2.1 dL_law_2507 rfl (lv_at hl 1 rfl) ?_
  refine lv_aload_n hF.1 hF.2.1 dL_law_2508 rfl (lv_at hl 0 rfl) ?_
  refine lv_iload hF.1 hF.2.1 dL_law_2509 (lv_at hl 5 rfl) ?_
  refine lv_iconst (v := 1) hF.1 hF.2.1 dL_law_2511 (by decide) ?_
  refine lv_iadd hF.1 hF.2.1 dL_law_2512 ?_
  obtain ⟨h_1004, hw⟩ := hw
  refine va_sld hF.1 hF.2.1 hx hbl hbA hS h_1004 dL_law_2513 ?_
  refine lv_aload_n hF.1 hF.2.1 dL_law_2514 rfl (lv_at hl 0 rfl) ?_
  refine lv_iload hF.1 hF.2.1 dL_law_2515 (lv_at hl 5 rfl) ?_
  refine lv_iconst (v := 2) hF.1 hF.2.1 dL_law_2517 (by decide) ?_
  refine lv_iadd hF.1 hF.2.1 dL_law_2518 ?_
  obtain ⟨h_1005, hw⟩ := hw
  refine va_sld hF.1 hF.2.1 hx hbl hbA hS h_1005 dL_law_2519 ?_
  refine lv_aload_n hF.1 hF.2.1 dL_law_2520 rfl (lv_at hl 0 rfl) ?_
  refine lv_iload hF.1 hF.2.1 dL_law_2521 (lv_at hl 5 rfl) ?_
  refine lv_iconst (v := 3) hF.1 hF.2.1 dL_law_2523 (by decide) ?_
  refine lv_iadd hF.1 hF.2.1 dL_law_2524 ?_
  obtain ⟨h_1006, hw⟩ := hw
  refine va_sld hF.1 hF.2.1 hx hbl hbA hS h_1006 dL_law_2525 ?_
  refine lv_aload_n hF.1 hF.2.1 dL_law_2526 rfl (lv_at hl 0 rfl) ?_
  refine lv_iload hF.1 hF.2.1 dL_law_2527 (lv_at hl 5 rfl) ?_
  refine lv_iconst (v := 4) hF.1 hF.2.1 dL_law_2529 (by decide) ?_
  refine lv_iadd hF.1 hF.2.1 dL_law_2530 ?_
  obtain ⟨h_1007, hw⟩ := hw
  refine va_sld hF.1 hF.2.1 hx hbl hbA hS h_1007 dL_law_2531 ?_
  refine lv_aload_n hF.1 hF.2.1 dL_law_2532 rfl (lv_at hl 3 rfl) ?_
  obtain ⟨mc_1010, ms_1011, hc_1012, hs_1013, hw⟩ := hw
  refine lkx_i (hrx_SX (As := [.ref x1, .int (xs (Int32.toNatClampNeg (x5 + 1))), .int (xs (Int32.toNatClampNeg (x5 + 2))), .int (xs (Int32.toNatClampNeg (x5 + 3))), .int (xs (Int32.toNatClampNeg (x5 + 4))), .ref x3]) (rest := []) hF hl.1 hC hP hS (metX0_allMeetIn l hlt K mc_1010 ms_1011 _ _ _ X x1 (xs (Int32.toNatClampNeg (x5 + 1))) (xs (Int32.toNatClampNeg (x5 + 2))) (xs (Int32.toNatClampNeg (x5 + 3))) (xs (Int32.toNatClampNeg (x5 + 4))) x3) (vx_cwSW 6 hF.2.2.2.2 (lw_SW q1384 q1385 q74 q1386) rfl rfl rfl (by decide +kernel) ⟨Nat.le_of_ble_eq_true rfl, Nat.le_of_ble_eq_true rfl⟩) hw rfl rfl (Nat.le_of_ble_eq_true rfl) dL_law_2533 ⟨hc_1012, hs_1013⟩) hP hM hD hS (fun r_1008 X_1009 H locs hw hP hM hD hS => ?_)
  refine lv_istore (lv' := [(6, .int r_1008), (0, .ref b), (1, .ref x1), (2, .ref h), (3, .ref x3), (4, .ref x4), (5, .int x5)]) hF.1 hF.2.1 dL_law_2536 hl (by decide) rfl (fun ls hl => ?_)
  refine lv_aload_n hF.1 hF.2.1 dL_law_2538 rfl (lv_at hl 3 rfl) ?_
  refine lv_aload_n hF.1 hF.2.1 dL_law_2539 rfl (lv_at hl 1 rfl) ?_
  refine lv_iload hF.1 hF.2.1 dL_law_2540 (lv_at hl 6 rfl) ?_
  refine lv_iconst (v := 1) hF.1 hF.2.1 dL_law_2542 (by decide) ?_
  refine lv_iadd hF.1 hF.2.1 dL_law_2543 ?_
  obtain ⟨h_1014, hw⟩ := hw
  refine va_sld hF.1 hF.2.1 hx hbl hbA hS h_1014 dL_law_2544 ?_
  refine lv_aload_n hF.1 hF.2.1 dL_law_2545 rfl (lv_at hl 1 rfl) ?_
  refine lv_iload hF.1 hF.2.1 dL_law_2546 (lv_at hl 6 rfl) ?_
  refine lv_iconst (v := 2) hF.1 hF.2.1 dL_law_2548 (by decide) ?_
  refine lv_iadd hF.1 hF.2.1 dL_law_2549 ?_
  obtain ⟨h_1015, hw⟩ := hw
  refine va_sld hF.1 hF.2.1 hx hbl hbA hS h_1015 dL_law_2550 ?_
  refine lv_aload_n hF.1 hF.2.1 dL_law_2551 rfl (lv_at hl 1 rfl) ?_
  refine lv_iload hF.1 hF.2.1 dL_law_2552 (lv_at hl 6 rfl) ?_
  refine lv_iconst (v := 3) hF.1 hF.2.1 dL_law_2554 (by decide) ?_
  refine lv_iadd hF.1 hF.2.1 dL_law_2555 ?_
  obtain ⟨h_1016, hw⟩ := hw
  refine va_sld hF.1 hF.2.1 hx hbl hbA hS h_1016 dL_law_2556 ?_
  refine lv_aload_n hF.1 hF.2.1 dL_law_2557 rfl (lv_at hl 1 rfl) ?_
  refine lv_iload hF.1 hF.2.1 dL_law_2558 (lv_at hl 6 rfl) ?_
  refine lv_iconst (v := 4) hF.1 hF.2.1 dL_law_2560 (by decide) ?_
  refine lv_iadd hF.1 hF.2.1 dL_law_2561 ?_
  obtain ⟨h_1017, hw⟩ := hw
  refine va_sld hF.1 hF.2.1 hx hbl hbA hS h_1017 dL_law_2562 ?_
  refine lm_i (As := [.int (xs (Int32.toNatClampNeg (x5 + 1))), .int (xs (Int32.toNatClampNeg (x5 + 2))), .int (xs (Int32.toNatClampNeg (x5 + 3))), .int (xs (Int32.toNatClampNeg (x5 + 4)))]) (rest := []) hF hl.1 hC (metX3_allMeetIn l K.1 h a hap _ F R L G (xs (Int32.toNatClampNeg (x5 + 1))) (xs (Int32.toNatClampNeg (x5 + 2))) (xs (Int32.toNatClampNeg (x5 + 3))) (xs (Int32.toNatClampNeg (x5 + 4)))) (cwV 4 hF.2.2.2.2 (lw_V q2175 q2176 q2177 q85 q2178) rfl rfl rfl (by decide +kernel) ⟨Nat.le_of_ble_eq_true rfl, Nat.le_of_ble_eq_true rfl⟩) hP hM hD hS hmA hw rfl rfl (Nat.le_of_ble_eq_true rfl) dL_law_2563 ⟨hc_1012, hs_1013⟩ (fun r_1018 F_1019 R_1020 L_1021 G_1022 H locs hw hP hM hS => ?_)
  refine lv_istore (lv' := [(7, .int r_1018), (6, .int r_1008), (0, .ref b), (1, .ref x1), (2, .ref h), (3, .ref x3), (4, .ref x4), (5, .int x5)]) hF.1 hF.2.1 dL_law_2566 hl (by decide) rfl (fun ls hl => ?_)
  refine lv_aload_n hF.1 hF.2.1 dL_law_2568 rfl (lv_at hl 4 rfl) ?_
  refine lm_i (As := []) (rest := []) hF hl.1 hC (metX3_thrown l K.1 h a hap _ F_1019 R_1020 L_1021 G_1022) (cwV 0 hF.2.2.2.2 (lw_V q1813 q1814 q1815 q85 q1816) rfl rfl rfl (by decide +kernel) ⟨Nat.le_of_ble_eq_true rfl, Nat.le_of_ble_eq_true rfl⟩) hP hM hD hS hmA hw rfl rfl (Nat.le_of_ble_eq_true rfl) dL_law_2569 ⟨hc_1012, hs_1013⟩ (fun r_1023 F_1024 R_1025 L_1026 G_1027 H locs hw hP hM hS => ?_)
  refine lv_iload hF.1 hF.2.1 dL_law_2572 (lv_at hl 1 rfl) ?_
  refine lv_icmp_eq (tgt := 2579) hF.1 hF.2.1 dL_law_2574 (by decide) (fun c_1028 => ?_) (fun c_1028 => ?_)
  · have hw := hw.1 c_1028
    refine lv_iload hF.1 hF.2.1 dL_law_2579 (lv_at hl 1 rfl) ?_
    refine lv_if_ne (tgt := 2596) hF.1 hF.2.1 dL_law_2581 (by decide) (fun c_1029 => ?_) (fun c_1029 => ?_)
    · have hw := hw.2 c_1029
      exact Tl2596 l hlt K X0 hF hr hlocks hC hx hbl hA0 h a hap hmA _ hJ28 x1 x3 x4 x5 X_1009 F_1024 R_1025 L_1026 G_1027 (kc + mc_1010) (ks + ms_1011) _ _ ls hP hM hD hS ⟨hc_1012, hs_1013⟩ (lv_sub hl [2, 3, 4, 5, 6, 7] rfl) hw
    · have hw := hw.1 c_1029
      refine lv_aload_n hF.1 hF.2.1 dL_law_2584 rfl (lv_at hl 5 rfl) ?_
      refine lv_iconst (v := 0) hF.1 hF.2.1 dL_law_2585 (by decide) ?_
      obtain ⟨n_1030, f_1031, hx_1032, hi_1033, hw⟩ := hw
      refine x_lald hF hC hP hx_1032 hi_1033 dL_law_2586 ?_
      generalize f_1031 (Int32.toNatClampNeg 0) = v_1034 at hw ⊢
      refine lv_iload hF.1 hF.2.1 dL_law_2587 (lv_at hl 0 rfl) ?_
      refine lv_i2l hF.1 hF.2.1 dL_law_2589 rfl ?_
      refine W.lcmp hF.1 hF.2.1 dL_law_2590 ?_
      refine lv_if_eq (tgt := 2596) hF.1 hF.2.1 dL_law_2591 (by decide) (fun c_1035 => ?_) (fun c_1035 => ?_)
      · rw [lc_eq] at c_1035
        have hw := hw.1 c_1035
        exact Tl2596 l hlt K X0 hF hr hlocks hC hx hbl hA0 h a hap hmA _ hJ28 x1 x3 x4 x5 X_1009 F_1024 R_1025 L_1026 G_1027 (kc + mc_1010) (ks + ms_1011) _ _ ls hP hM hD hS ⟨hc_1012, hs_1013⟩ (lv_sub hl [2, 3, 4, 5, 6, 7] rfl) hw
      · rw [lc_eq] at c_1035
        have hw := hw.2 c_1035
        refine lv_iconst (v := 0) hF.1 hF.2.1 dL_law_2594 (by decide) ?_
        exact l_end hF hr hlocks hA0 hS ⟨hc_1012, hs_1013⟩ dL_law_2595 hw
  · have hw := hw.2 c_1028
    refine lv_iconst (v := 0) hF.1 hF.2.1 dL_law_2577 (by decide) ?_
    exact l_end hF hr hlocks hA0 hS ⟨hc_1012, hs_1013⟩ dL_law_2578 hw
def wpL_2664 (E mc ms N : Nat) (xs : Nat → Int32) (J28 : Nat → Nat → Nat → Int32 → hX → mF → mR → mL → mG → Nat → Nat → Prop) (x1 : Nat) (x3 : Nat) (x4 : Nat) (x5 : Int32) (X : hX) (F : mF) (R : mR) (L : mL) (G : mG) (kc ks : Nat) : Prop := (∀ x5_1036 : Int32, x5_1036 = x5 + 5 → J28 x1 x3 x4 x5_1036 X F R L G kc ks)
set_option maxHeartbeats 8000000 in
theorem Tl2664 {p : Program} {e : Env} {s : State} {m : MethodId} {below : List Frame} {meth : Method} {c : Code} (l : Launch) (hlt : l.stackTraces = false) (K : HK) {b N : Nat} {xs : Nat → Int32} (X0 : hX) (hF : CallFix p m c code 9 s #[Value.ref b] lw_all R_law) (hr : meth.sig.returnType = ret) (hlocks : meth.locks = false) (hC : HC K X0 s) (hx : va_X b N xs s s.heap) (hbl : b < s.heap.size) (hA0 : ∀ q, hA X0 s.heap.size q → s.heap.size ≤ q) (h : Nat) (a : Nat → Nat) (hap : mAp h a) (hmA : ∀ q, mA h a q → hA X0 s.heap.size q) (J28 : Nat → Nat → Nat → Int32 → hX → mF → mR → mL → mG → Nat → Nat → Prop) (hJ28 : ∀ (x1 : Nat) (x3 : Nat) (x4 : Nat) (x5 : Int32) (X : hX) (F : mF) (R : mR) (L : mL) (G : mG) (kc ks : Nat) (H : Heap) (locs : List Loc) (ls : Array Slot), hI K X0 s.heap.size X H → mP K.1 h a F R L G H → hdis X h a → va_S (hA X0 s.heap.size) s.heap H locs → kc ≤ 1200048 ∧ ks ≤ 5501818 → lv_has ls 9 [(0, .ref b), (1, .ref x1), (2, .ref h), (3, .ref x3), (4, .ref x4), (5, .int x5)] → J28 x1 x3 x4 x5 X F R L G kc ks → W p l e room_1 s m #[Value.ref b] below meth c H locs kc ks (lw_Z below #[Value.ref b] s) (F0 m 28 ls [])) : ∀ (x1 : Nat) (x3 : Nat) (x4 : Nat) (x5 : Int32) (X : hX) (F : mF) (R : mR) (L : mL) (G : mG) (kc ks : Nat) (H : Heap) (locs : List Loc) (ls : Array Slot), hI K X0 s.heap.size X H → mP K.1 h a F R L G H → hdis X h a → va_S (hA X0 s.heap.size) s.heap H locs → kc ≤ 1200048 ∧ ks ≤ 5501818 → lv_has ls 9 [(0, .ref b), (1, .ref x1), (2, .ref h), (3, .ref x3), (4, .ref x4), (5, .int x5)] → wpL_2664 (K.2.2 0) 1200048 5501818 N xs J28 x1 x3 x4 x5 X F R L G kc ks → W p l e room_1 s m #[Value.ref b] below meth c H locs kc ks (lw_Z below #[Value.ref b] s) (F0 m 2664 ls []) := by
  have hbA : ¬ hA X0 s.heap.size b := fun z => Nat.not_lt.mpr (hA0 b z) hbl
  intro x1 x3 x4 x5 X F R L G kc ks H locs ls hP hM hD hS hk hl hw
  unfold wpL_2664 at hw
  refine lv_goto (tgt := 3714) hF.1 hF.2.1 dL_law_2664 (by decide) ?_
  obtain ⟨x5_1036, ex5_1036⟩ : ∃ y : Int32, y = x5 + 5 := ⟨_, rfl⟩
  have hw := hw x5_1036 ex5_1036
  refine lv_iinc (v := x5_1036) (lv' := [(5, .int x5_1036), (0, .ref b), (1, .ref x1), (2, .ref h), (3, .ref x3), (4, .ref x4)]) hF.1 hF.2.1 dL_law_3714 hl (k := 5) rfl (by rw [ex5_1036]; rfl) (by decide) rfl (fun ls hl => ?_)
  refine lv_goto (tgt := 28) hF.1 hF.2.1 dL_law_3717 (by decide) ?_
  exact hJ28 x1 x3 x4 x5_1036 X F R L G kc ks _ _ ls hP hM hD hS hk (lv_sub hl [1, 2, 3, 4, 5, 0] rfl) hw
def wpL_2599 (E mc ms N : Nat) (xs : Nat → Int32) (J28 : Nat → Nat → Nat → Int32 → hX → mF → mR → mL → mG → Nat → Nat → Prop) (x1 : Nat) (x3 : Nat) (x4 : Nat) (x5 : Int32) (X : hX) (F : mF) (R : mR) (L : mL) (G : mG) (kc ks : Nat) : Prop := (vp_in (x5 + 1) N ∧ (vp_in (x5 + 2) N ∧ (∃ mc_1041 ms_1042 : Nat, kc + mc_1041 ≤ mc ∧ ks + ms_1042 ≤ ms ∧ wpX0_farthestIn (fun r_1039 X_1040 => (vp_in (x5 + 1) N ∧ (vp_in (x5 + 2) N ∧ wpX3_farthestIn (fun r_1047 F_1048 R_1049 L_1050 G_1051 => wpX3_thrown (fun r_1052 F_1053 R_1054 L_1055 G_1056 => ((r_1052 = r_1039 → ((r_1039 = 0 → alJ X_1040 x3 0 (fun v_1063 => ((v_1063 = (Int32.toInt64 r_1047) → wpL_2664 E mc ms N xs J28 x1 x3 x4 x5 X_1040 F_1053 R_1054 L_1055 G_1056 (kc + mc_1041) (ks + ms_1042)) ∧ (¬ v_1063 = (Int32.toInt64 r_1047) → (0 : Int32) = 1)))) ∧ (¬ r_1039 = 0 → wpL_2664 E mc ms N xs J28 x1 x3 x4 x5 X_1040 F_1053 R_1054 L_1055 G_1056 (kc + mc_1041) (ks + ms_1042)))) ∧ (¬ r_1052 = r_1039 → (0 : Int32) = 1))) F_1048 R_1049 L_1050 G_1051) F R L G (xs (Int32.toNatClampNeg (x5 + 1))) (xs (Int32.toNatClampNeg (x5 + 2)))))) (fun _ _ _ => False) E mc_1041 ms_1042 X x1 (xs (Int32.toNatClampNeg (x5 + 1))) (xs (Int32.toNatClampNeg (x5 + 2))) x3)))
set_option maxHeartbeats 8000000 in
theorem Tl2599 {p : Program} {e : Env} {s : State} {m : MethodId} {below : List Frame} {meth : Method} {c : Code} (l : Launch) (hlt : l.stackTraces = false) (K : HK) {b N : Nat} {xs : Nat → Int32} (X0 : hX) (hF : CallFix p m c code 9 s #[Value.ref b] lw_all R_law) (hr : meth.sig.returnType = ret) (hlocks : meth.locks = false) (hC : HC K X0 s) (hx : va_X b N xs s s.heap) (hbl : b < s.heap.size) (hA0 : ∀ q, hA X0 s.heap.size q → s.heap.size ≤ q) (h : Nat) (a : Nat → Nat) (hap : mAp h a) (hmA : ∀ q, mA h a q → hA X0 s.heap.size q) (J28 : Nat → Nat → Nat → Int32 → hX → mF → mR → mL → mG → Nat → Nat → Prop) (hJ28 : ∀ (x1 : Nat) (x3 : Nat) (x4 : Nat) (x5 : Int32) (X : hX) (F : mF) (R : mR) (L : mL) (G : mG) (kc ks : Nat) (H : Heap) (locs : List Loc) (ls : Array Slot), hI K X0 s.heap.size X H → mP K.1 h a F R L G H → hdis X h a → va_S (hA X0 s.heap.size) s.heap H locs → kc ≤ 1200048 ∧ ks ≤ 5501818 → lv_has ls 9 [(0, .ref b), (1, .ref x1), (2, .ref h), (3, .ref x3), (4, .ref x4), (5, .int x5)] → J28 x1 x3 x4 x5 X F R L G kc ks → W p l e room_1 s m #[Value.ref b] below meth c H locs kc ks (lw_Z below #[Value.ref b] s) (F0 m 28 ls [])) : ∀ (x1 : Nat) (x3 : Nat) (x4 : Nat) (x5 : Int32) (X : hX) (F : mF) (R : mR) (L : mL) (G : mG) (kc ks : Nat) (H : Heap) (locs : List Loc) (ls : Array Slot), hI K X0 s.heap.size X H → mP K.1 h a F R L G H → hdis X h a → va_S (hA X0 s.heap.size) s.heap H locs → kc ≤ 1200048 ∧ ks ≤ 5501818 → lv_has ls 9 [(0, .ref b), (1, .ref x1), (2, .ref h), (3, .ref x3), (4, .ref x4), (5, .int x5)] → wpL_2599 (K.2.2 0) 1200048 5501818 N xs J28 x1 x3 x4 x5 X F R L G kc ks → W p l e room_1 s m #[Value.ref b] below meth c H locs kc ks (lw_Z below #[Value.ref b] s) (F0 m 2599 ls []) := by
  have hbA : ¬ hA X0 s.heap.size b := fun z => Nat.not_lt.mpr (hA0 b z) hbl
  intro x1 x3 x4 x5 X F R L G kc ks H locs ls hP hM hD hS hk hl hw
  unfold wpL_2599 at hw
  refine lv_aload_n hF.1 hF.2.1 dL_law_2599 rfl (lv_at hl 1 rfl) ?_
  refine lv_aload_n hF.1 hF.2.1 dL_law_2600 rfl (lv_at hl 0 rfl) ?_
  refine lv_iload hF.1 hF.2.1 dL_law_2601 (lv_at hl 5 rfl) ?_
  refine lv_iconst (v := 1) hF.1 hF.2.1 dL_law_2603 (by decide) ?_
  refine lv_iadd hF.1 hF.2.1 dL_law_2604 ?_
  obtain ⟨h_1037, hw⟩ := hw
  refine va_sld hF.1 hF.2.1 hx hbl hbA hS h_1037 dL_law_2605 ?_
  refine lv_aload_n hF.1 hF.2.1 dL_law_2606 rfl (lv_at hl 0 rfl) ?_
  refine lv_iload hF.1 hF.2.1 dL_law_2607 (lv_at hl 5 rfl) ?_
  refine lv_iconst (v := 2) hF.1 hF.2.1 dL_law_2609 (by decide) ?_
  refine lv_iadd hF.1 hF.2.1 dL_law_2610 ?_
  obtain ⟨h_1038, hw⟩ := hw
  refine va_sld hF.1 hF.2.1 hx hbl hbA hS h_1038 dL_law_2611 ?_
  refine lv_aload_n hF.1 hF.2.1 dL_law_2612 rfl (lv_at hl 3 rfl) ?_
  obtain ⟨mc_1041, ms_1042, hc_1043, hs_1044, hw⟩ := hw
  refine lkx_i (hrx_SX (As := [.ref x1, .int (xs (Int32.toNatClampNeg (x5 + 1))), .int (xs (Int32.toNatClampNeg (x5 + 2))), .ref x3]) (rest := []) hF hl.1 hC hP hS (metX0_farthestIn l hlt K mc_1041 ms_1042 _ _ _ X x1 (xs (Int32.toNatClampNeg (x5 + 1))) (xs (Int32.toNatClampNeg (x5 + 2))) x3) (vx_cwSW 4 hF.2.2.2.2 (lw_SW q1391 q1392 q74 q1393) rfl rfl rfl (by decide +kernel) ⟨Nat.le_of_ble_eq_true rfl, Nat.le_of_ble_eq_true rfl⟩) hw rfl rfl (Nat.le_of_ble_eq_true rfl) dL_law_2613 ⟨hc_1043, hs_1044⟩) hP hM hD hS (fun r_1039 X_1040 H locs hw hP hM hD hS => ?_)
  refine lv_istore (lv' := [(6, .int r_1039), (0, .ref b), (1, .ref x1), (2, .ref h), (3, .ref x3), (4, .ref x4), (5, .int x5)]) hF.1 hF.2.1 dL_law_2616 hl (by decide) rfl (fun ls hl => ?_)
  refine lv_aload_n hF.1 hF.2.1 dL_law_2618 rfl (lv_at hl 3 rfl) ?_
  refine lv_aload_n hF.1 hF.2.1 dL_law_2619 rfl (lv_at hl 1 rfl) ?_
  refine lv_iload hF.1 hF.2.1 dL_law_2620 (lv_at hl 6 rfl) ?_
  refine lv_iconst (v := 1) hF.1 hF.2.1 dL_law_2622 (by decide) ?_
  refine lv_iadd hF.1 hF.2.1 dL_law_2623 ?_
  obtain ⟨h_1045, hw⟩ := hw
  refine va_sld hF.1 hF.2.1 hx hbl hbA hS h_1045 dL_law_2624 ?_
  refine lv_aload_n hF.1 hF.2.1 dL_law_2625 rfl (lv_at hl 1 rfl) ?_
  refine lv_iload hF.1 hF.2.1 dL_law_2626 (lv_at hl 6 rfl) ?_
  refine lv_iconst (v := 2) hF.1 hF.2.1 dL_law_2628 (by decide) ?_
  refine lv_iadd hF.1 hF.2.1 dL_law_2629 ?_
  obtain ⟨h_1046, hw⟩ := hw
  refine va_sld hF.1 hF.2.1 hx hbl hbA hS h_1046 dL_law_2630 ?_
  refine lm_i (As := [.int (xs (Int32.toNatClampNeg (x5 + 1))), .int (xs (Int32.toNatClampNeg (x5 + 2)))]) (rest := []) hF hl.1 hC (metX3_farthestIn l K.1 h a hap _ F R L G (xs (Int32.toNatClampNeg (x5 + 1))) (xs (Int32.toNatClampNeg (x5 + 2)))) (cwV 2 hF.2.2.2.2 (lw_V q2179 q2180 q2181 q85 q2182) rfl rfl rfl (by decide +kernel) ⟨Nat.le_of_ble_eq_true rfl, Nat.le_of_ble_eq_true rfl⟩) hP hM hD hS hmA hw rfl rfl (Nat.le_of_ble_eq_true rfl) dL_law_2631 ⟨hc_1043, hs_1044⟩ (fun r_1047 F_1048 R_1049 L_1050 G_1051 H locs hw hP hM hS => ?_)
  refine lv_istore (lv' := [(7, .int r_1047), (6, .int r_1039), (0, .ref b), (1, .ref x1), (2, .ref h), (3, .ref x3), (4, .ref x4), (5, .int x5)]) hF.1 hF.2.1 dL_law_2634 hl (by decide) rfl (fun ls hl => ?_)
  refine lv_aload_n hF.1 hF.2.1 dL_law_2636 rfl (lv_at hl 4 rfl) ?_
  refine lm_i (As := []) (rest := []) hF hl.1 hC (metX3_thrown l K.1 h a hap _ F_1048 R_1049 L_1050 G_1051) (cwV 0 hF.2.2.2.2 (lw_V q1813 q1814 q1815 q85 q1816) rfl rfl rfl (by decide +kernel) ⟨Nat.le_of_ble_eq_true rfl, Nat.le_of_ble_eq_true rfl⟩) hP hM hD hS hmA hw rfl rfl (Nat.le_of_ble_eq_true rfl) dL_law_2637 ⟨hc_1043, hs_1044⟩ (fun r_1052 F_1053 R_1054 L_1055 G_1056 H locs hw hP hM hS => ?_)
  refine lv_iload hF.1 hF.2.1 dL_law_2640 (lv_at hl 1 rfl) ?_
  refine lv_icmp_eq (tgt := 2647) hF.1 hF.2.1 dL_law_2642 (by decide) (fun c_1057 => ?_) (fun c_1057 => ?_)
  · have hw := hw.1 c_1057
    refine lv_iload hF.1 hF.2.1 dL_law_2647 (lv_at hl 1 rfl) ?_
    refine lv_if_ne (tgt := 2664) hF.1 hF.2.1 dL_law_2649 (by decide) (fun c_1058 => ?_) (fun c_1058 => ?_)
    · have hw := hw.2 c_1058
      exact Tl2664 l hlt K X0 hF hr hlocks hC hx hbl hA0 h a hap hmA _ hJ28 x1 x3 x4 x5 X_1040 F_1053 R_1054 L_1055 G_1056 (kc + mc_1041) (ks + ms_1042) _ _ ls hP hM hD hS ⟨hc_1043, hs_1044⟩ (lv_sub hl [2, 3, 4, 5, 6, 7] rfl) hw
    · have hw := hw.1 c_1058
      refine lv_aload_n hF.1 hF.2.1 dL_law_2652 rfl (lv_at hl 5 rfl) ?_
      refine lv_iconst (v := 0) hF.1 hF.2.1 dL_law_2653 (by decide) ?_
      obtain ⟨n_1059, f_1060, hx_1061, hi_1062, hw⟩ := hw
      refine x_lald hF hC hP hx_1061 hi_1062 dL_law_2654 ?_
      generalize f_1060 (Int32.toNatClampNeg 0) = v_1063 at hw ⊢
      refine lv_iload hF.1 hF.2.1 dL_law_2655 (lv_at hl 0 rfl) ?_
      refine lv_i2l hF.1 hF.2.1 dL_law_2657 rfl ?_
      refine W.lcmp hF.1 hF.2.1 dL_law_2658 ?_
      refine lv_if_eq (tgt := 2664) hF.1 hF.2.1 dL_law_2659 (by decide) (fun c_1064 => ?_) (fun c_1064 => ?_)
      · rw [lc_eq] at c_1064
        have hw := hw.1 c_1064
        exact Tl2664 l hlt K X0 hF hr hlocks hC hx hbl hA0 h a hap hmA _ hJ28 x1 x3 x4 x5 X_1040 F_1053 R_1054 L_1055 G_1056 (kc + mc_1041) (ks + ms_1042) _ _ ls hP hM hD hS ⟨hc_1043, hs_1044⟩ (lv_sub hl [2, 3, 4, 5, 6, 7] rfl) hw
      · rw [lc_eq] at c_1064
        have hw := hw.2 c_1064
        refine lv_iconst (v := 0) hF.1 hF.2.1 dL_law_2662 (by decide) ?_
        exact l_end hF hr hlocks hA0 hS ⟨hc_1043, hs_1044⟩ dL_law_2663 hw
  · have hw := hw.2 c_1057
    refine lv_iconst (v := 0) hF.1 hF.2.1 dL_law_2645 (by decide) ?_
    exact l_end hF hr hlocks hA0 hS ⟨hc_1043, hs_1044⟩ dL_law_2646 hw
def wpL_2732 (E mc ms N : Nat) (xs : Nat → Int32) (J28 : Nat → Nat → Nat → Int32 → hX → mF → mR → mL → mG → Nat → Nat → Prop) (x1 : Nat) (x3 : Nat) (x4 : Nat) (x5 : Int32) (X : hX) (F : mF) (R : mR) (L : mL) (G : mG) (kc ks : Nat) : Prop := (∀ x5_1065 : Int32, x5_1065 = x5 + 5 → J28 x1 x3 x4 x5_1065 X F R L G kc ks)
set_option maxHeartbeats 8000000 in
theorem Tl2732 {p : Program} {e : Env} {s : State} {m : MethodId} {below : List Frame} {meth : Method} {c : Code} (l : Launch) (hlt : l.stackTraces = false) (K : HK) {b N : Nat} {xs : Nat → Int32} (X0 : hX) (hF : CallFix p m c code 9 s #[Value.ref b] lw_all R_law) (hr : meth.sig.returnType = ret) (hlocks : meth.locks = false) (hC : HC K X0 s) (hx : va_X b N xs s s.heap) (hbl : b < s.heap.size) (hA0 : ∀ q, hA X0 s.heap.size q → s.heap.size ≤ q) (h : Nat) (a : Nat → Nat) (hap : mAp h a) (hmA : ∀ q, mA h a q → hA X0 s.heap.size q) (J28 : Nat → Nat → Nat → Int32 → hX → mF → mR → mL → mG → Nat → Nat → Prop) (hJ28 : ∀ (x1 : Nat) (x3 : Nat) (x4 : Nat) (x5 : Int32) (X : hX) (F : mF) (R : mR) (L : mL) (G : mG) (kc ks : Nat) (H : Heap) (locs : List Loc) (ls : Array Slot), hI K X0 s.heap.size X H → mP K.1 h a F R L G H → hdis X h a → va_S (hA X0 s.heap.size) s.heap H locs → kc ≤ 1200048 ∧ ks ≤ 5501818 → lv_has ls 9 [(0, .ref b), (1, .ref x1), (2, .ref h), (3, .ref x3), (4, .ref x4), (5, .int x5)] → J28 x1 x3 x4 x5 X F R L G kc ks → W p l e room_1 s m #[Value.ref b] below meth c H locs kc ks (lw_Z below #[Value.ref b] s) (F0 m 28 ls [])) : ∀ (x1 : Nat) (x3 : Nat) (x4 : Nat) (x5 : Int32) (X : hX) (F : mF) (R : mR) (L : mL) (G : mG) (kc ks : Nat) (H : Heap) (locs : List Loc) (ls : Array Slot), hI K X0 s.heap.size X H → mP K.1 h a F R L G H → hdis X h a → va_S (hA X0 s.heap.size) s.heap H locs → kc ≤ 1200048 ∧ ks ≤ 5501818 → lv_has ls 9 [(0, .ref b), (1, .ref x1), (2, .ref h), (3, .ref x3), (4, .ref x4), (5, .int x5)] → wpL_2732 (K.2.2 0) 1200048 5501818 N xs J28 x1 x3 x4 x5 X F R L G kc ks → W p l e room_1 s m #[Value.ref b] below meth c H locs kc ks (lw_Z below #[Value.ref b] s) (F0 m 2732 ls []) := by
  have hbA : ¬ hA X0 s.heap.size b := fun z => Nat.not_lt.mpr (hA0 b z) hbl
  intro x1 x3 x4 x5 X F R L G kc ks H locs ls hP hM hD hS hk hl hw
  unfold wpL_2732 at hw
  refine lv_goto (tgt := 3714) hF.1 hF.2.1 dL_law_2732 (by decide) ?_
  obtain ⟨x5_1065, ex5_1065⟩ : ∃ y : Int32, y = x5 + 5 := ⟨_, rfl⟩
  have hw := hw x5_1065 ex5_1065
  refine lv_iinc (v := x5_1065) (lv' := [(5, .int x5_1065), (0, .ref b), (1, .ref x1), (2, .ref h), (3, .ref x3), (4, .ref x4)]) hF.1 hF.2.1 dL_law_3714 hl (k := 5) rfl (by rw [ex5_1065]; rfl) (by decide) rfl (fun ls hl => ?_)
  refine lv_goto (tgt := 28) hF.1 hF.2.1 dL_law_3717 (by decide) ?_
  exact hJ28 x1 x3 x4 x5_1065 X F R L G kc ks _ _ ls hP hM hD hS hk (lv_sub hl [1, 2, 3, 4, 5, 0] rfl) hw
def wpL_2667 (E mc ms N : Nat) (xs : Nat → Int32) (J28 : Nat → Nat → Nat → Int32 → hX → mF → mR → mL → mG → Nat → Nat → Prop) (x1 : Nat) (x3 : Nat) (x4 : Nat) (x5 : Int32) (X : hX) (F : mF) (R : mR) (L : mL) (G : mG) (kc ks : Nat) : Prop := (vp_in (x5 + 1) N ∧ (vp_in (x5 + 2) N ∧ (∃ mc_1070 ms_1071 : Nat, kc + mc_1070 ≤ mc ∧ ks + ms_1071 ≤ ms ∧ wpX0_bendFor (fun r_1068 X_1069 => (vp_in (x5 + 1) N ∧ (vp_in (x5 + 2) N ∧ wpX3_bendFor (fun r_1076 F_1077 R_1078 L_1079 G_1080 => wpX3_thrown (fun r_1081 F_1082 R_1083 L_1084 G_1085 => ((r_1081 = r_1068 → ((r_1068 = 0 → alJ X_1069 x3 0 (fun v_1092 => ((v_1092 = (Int32.toInt64 r_1076) → wpL_2732 E mc ms N xs J28 x1 x3 x4 x5 X_1069 F_1082 R_1083 L_1084 G_1085 (kc + mc_1070) (ks + ms_1071)) ∧ (¬ v_1092 = (Int32.toInt64 r_1076) → (0 : Int32) = 1)))) ∧ (¬ r_1068 = 0 → wpL_2732 E mc ms N xs J28 x1 x3 x4 x5 X_1069 F_1082 R_1083 L_1084 G_1085 (kc + mc_1070) (ks + ms_1071)))) ∧ (¬ r_1081 = r_1068 → (0 : Int32) = 1))) F_1077 R_1078 L_1079 G_1080) F R L G (xs (Int32.toNatClampNeg (x5 + 1))) (xs (Int32.toNatClampNeg (x5 + 2)))))) (fun _ _ _ => False) E mc_1070 ms_1071 X x1 (xs (Int32.toNatClampNeg (x5 + 1))) (xs (Int32.toNatClampNeg (x5 + 2))) x3)))
set_option maxHeartbeats 8000000 in
theorem Tl2667 {p : Program} {e : Env} {s : State} {m : MethodId} {below : List Frame} {meth : Method} {c : Code} (l : Launch) (hlt : l.stackTraces = false) (K : HK) {b N : Nat} {xs : Nat → Int32} (X0 : hX) (hF : CallFix p m c code 9 s #[Value.ref b] lw_all R_law) (hr : meth.sig.returnType = ret) (hlocks : meth.locks = false) (hC : HC K X0 s) (hx : va_X b N xs s s.heap) (hbl : b < s.heap.size) (hA0 : ∀ q, hA X0 s.heap.size q → s.heap.size ≤ q) (h : Nat) (a : Nat → Nat) (hap : mAp h a) (hmA : ∀ q, mA h a q → hA X0 s.heap.size q) (J28 : Nat → Nat → Nat → Int32 → hX → mF → mR → mL → mG → Nat → Nat → Prop) (hJ28 : ∀ (x1 : Nat) (x3 : Nat) (x4 : Nat) (x5 : Int32) (X : hX) (F : mF) (R : mR) (L : mL) (G : mG) (kc ks : Nat) (H : Heap) (locs : List Loc) (ls : Array Slot), hI K X0 s.heap.size X H → mP K.1 h a F R L G H → hdis X h a → va_S (hA X0 s.heap.size) s.heap H locs → kc ≤ 1200048 ∧ ks ≤ 5501818 → lv_has ls 9 [(0, .ref b), (1, .ref x1), (2, .ref h), (3, .ref x3), (4, .ref x4), (5, .int x5)] → J28 x1 x3 x4 x5 X F R L G kc ks → W p l e room_1 s m #[Value.ref b] below meth c H locs kc ks (lw_Z below #[Value.ref b] s) (F0 m 28 ls [])) : ∀ (x1 : Nat) (x3 : Nat) (x4 : Nat) (x5 : Int32) (X : hX) (F : mF) (R : mR) (L : mL) (G : mG) (kc ks : Nat) (H : Heap) (locs : List Loc) (ls : Array Slot), hI K X0 s.heap.size X H → mP K.1 h a F R L G H → hdis X h a → va_S (hA X0 s.heap.size) s.heap H locs → kc ≤ 1200048 ∧ ks ≤ 5501818 → lv_has ls 9 [(0, .ref b), (1, .ref x1), (2, .ref h), (3, .ref x3), (4, .ref x4), (5, .int x5)] → wpL_2667 (K.2.2 0) 1200048 5501818 N xs J28 x1 x3 x4 x5 X F R L G kc ks → W p l e room_1 s m #[Value.ref b] below meth c H locs kc ks (lw_Z below #[Value.ref b] s) (F0 m 2667 ls []) := by
  have hbA : ¬ hA X0 s.heap.size b := fun z => Nat.not_lt.mpr (hA0 b z) hbl
  intro x1 x3 x4 x5 X F R L G kc ks H locs ls hP hM hD hS hk hl hw
  unfold wpL_2667 at hw
  refine lv_aload_n hF.1 hF.2.1 dL_law_2667 rfl (lv_at hl 1 rfl) ?_
  refine lv_aload_n hF.1 hF.2.1 dL_law_2668 rfl (lv_at hl 0 rfl) ?_
  refine lv_iload hF.1 hF.2.1 dL_law_2669 (lv_at hl 5 rfl) ?_
  refine lv_iconst (v := 1) hF.1 hF.2.1 dL_law_2671 (by decide) ?_
  refine lv_iadd hF.1 hF.2.1 dL_law_2672 ?_
  obtain ⟨h_1066, hw⟩ := hw
  refine va_sld hF.1 hF.2.1 hx hbl hbA hS h_1066 dL_law_2673 ?_
  refine lv_aload_n hF.1 hF.2.1 dL_law_2674 rfl (lv_at hl 0 rfl) ?_
  refine lv_iload hF.1 hF.2.1 dL_law_2675 (lv_at hl 5 rfl) ?_
  refine lv_iconst (v := 2) hF.1 hF.2.1 dL_law_2677 (by decide) ?_
  refine lv_iadd hF.1 hF.2.1 dL_law_2678 ?_
  obtain ⟨h_1067, hw⟩ := hw
  refine va_sld hF.1 hF.2.1 hx hbl hbA hS h_1067 dL_law_2679 ?_
  refine lv_aload_n hF.1 hF.2.1 dL_law_2680 rfl (lv_at hl 3 rfl) ?_
  obtain ⟨mc_1070, ms_1071, hc_1072, hs_1073, hw⟩ := hw
  refine lkx_i (hrx_SX (As := [.ref x1, .int (xs (Int32.toNatClampNeg (x5 + 1))), .int (xs (Int32.toNatClampNeg (x5 + 2))), .ref x3]) (rest := []) hF hl.1 hC hP hS (metX0_bendFor l hlt K mc_1070 ms_1071 _ _ _ X x1 (xs (Int32.toNatClampNeg (x5 + 1))) (xs (Int32.toNatClampNeg (x5 + 2))) x3) (vx_cwSW 4 hF.2.2.2.2 (lw_SW q1400 q1401 q74 q1402) rfl rfl rfl (by decide +kernel) ⟨Nat.le_of_ble_eq_true rfl, Nat.le_of_ble_eq_true rfl⟩) hw rfl rfl (Nat.le_of_ble_eq_true rfl) dL_law_2681 ⟨hc_1072, hs_1073⟩) hP hM hD hS (fun r_1068 X_1069 H locs hw hP hM hD hS => ?_)
  refine lv_istore (lv' := [(6, .int r_1068), (0, .ref b), (1, .ref x1), (2, .ref h), (3, .ref x3), (4, .ref x4), (5, .int x5)]) hF.1 hF.2.1 dL_law_2684 hl (by decide) rfl (fun ls hl => ?_)
  refine lv_aload_n hF.1 hF.2.1 dL_law_2686 rfl (lv_at hl 3 rfl) ?_
  refine lv_aload_n hF.1 hF.2.1 dL_law_2687 rfl (lv_at hl 1 rfl) ?_
  refine lv_iload hF.1 hF.2.1 dL_law_2688 (lv_at hl 6 rfl) ?_
  refine lv_iconst (v := 1) hF.1 hF.2.1 dL_law_2690 (by decide) ?_
  refine lv_iadd hF.1 hF.2.1 dL_law_2691 ?_
  obtain ⟨h_1074, hw⟩ := hw
  refine va_sld hF.1 hF.2.1 hx hbl hbA hS h_1074 dL_law_2692 ?_
  refine lv_aload_n hF.1 hF.2.1 dL_law_2693 rfl (lv_at hl 1 rfl) ?_
  refine lv_iload hF.1 hF.2.1 dL_law_2694 (lv_at hl 6 rfl) ?_
  refine lv_iconst (v := 2) hF.1 hF.2.1 dL_law_2696 (by decide) ?_
  refine lv_iadd hF.1 hF.2.1 dL_law_2697 ?_
  obtain ⟨h_1075, hw⟩ := hw
  refine va_sld hF.1 hF.2.1 hx hbl hbA hS h_1075 dL_law_2698 ?_
  refine lm_i (As := [.int (xs (Int32.toNatClampNeg (x5 + 1))), .int (xs (Int32.toNatClampNeg (x5 + 2)))]) (rest := []) hF hl.1 hC (metX3_bendFor l K.1 h a hap _ F R L G (xs (Int32.toNatClampNeg (x5 + 1))) (xs (Int32.toNatClampNeg (x5 + 2)))) (cwV 2 hF.2.2.2.2 (lw_V q2183 q2184 q2185 q85 q2186) rfl rfl rfl (by decide +kernel) ⟨Nat.le_of_ble_eq_true rfl, Nat.le_of_ble_eq_true rfl⟩) hP hM hD hS hmA hw rfl rfl (Nat.le_of_ble_eq_true rfl) dL_law_2699 ⟨hc_1072, hs_1073⟩ (fun r_1076 F_1077 R_1078 L_1079 G_1080 H locs hw hP hM hS => ?_)
  refine lv_istore (lv' := [(7, .int r_1076), (6, .int r_1068), (0, .ref b), (1, .ref x1), (2, .ref h), (3, .ref x3), (4, .ref x4), (5, .int x5)]) hF.1 hF.2.1 dL_law_2702 hl (by decide) rfl (fun ls hl => ?_)
  refine lv_aload_n hF.1 hF.2.1 dL_law_2704 rfl (lv_at hl 4 rfl) ?_
  refine lm_i (As := []) (rest := []) hF hl.1 hC (metX3_thrown l K.1 h a hap _ F_1077 R_1078 L_1079 G_1080) (cwV 0 hF.2.2.2.2 (lw_V q1813 q1814 q1815 q85 q1816) rfl rfl rfl (by decide +kernel) ⟨Nat.le_of_ble_eq_true rfl, Nat.le_of_ble_eq_true rfl⟩) hP hM hD hS hmA hw rfl rfl (Nat.le_of_ble_eq_true rfl) dL_law_2705 ⟨hc_1072, hs_1073⟩ (fun r_1081 F_1082 R_1083 L_1084 G_1085 H locs hw hP hM hS => ?_)
  refine lv_iload hF.1 hF.2.1 dL_law_2708 (lv_at hl 1 rfl) ?_
  refine lv_icmp_eq (tgt := 2715) hF.1 hF.2.1 dL_law_2710 (by decide) (fun c_1086 => ?_) (fun c_1086 => ?_)
  · have hw := hw.1 c_1086
    refine lv_iload hF.1 hF.2.1 dL_law_2715 (lv_at hl 1 rfl) ?_
    refine lv_if_ne (tgt := 2732) hF.1 hF.2.1 dL_law_2717 (by decide) (fun c_1087 => ?_) (fun c_1087 => ?_)
    · have hw := hw.2 c_1087
      exact Tl2732 l hlt K X0 hF hr hlocks hC hx hbl hA0 h a hap hmA _ hJ28 x1 x3 x4 x5 X_1069 F_1082 R_1083 L_1084 G_1085 (kc + mc_1070) (ks + ms_1071) _ _ ls hP hM hD hS ⟨hc_1072, hs_1073⟩ (lv_sub hl [2, 3, 4, 5, 6, 7] rfl) hw
    · have hw := hw.1 c_1087
      refine lv_aload_n hF.1 hF.2.1 dL_law_2720 rfl (lv_at hl 5 rfl) ?_
      refine lv_iconst (v := 0) hF.1 hF.2.1 dL_law_2721 (by decide) ?_
      obtain ⟨n_1088, f_1089, hx_1090, hi_1091, hw⟩ := hw
      refine x_lald hF hC hP hx_1090 hi_1091 dL_law_2722 ?_
      generalize f_1089 (Int32.toNatClampNeg 0) = v_1092 at hw ⊢
      refine lv_iload hF.1 hF.2.1 dL_law_2723 (lv_at hl 0 rfl) ?_
      refine lv_i2l hF.1 hF.2.1 dL_law_2725 rfl ?_
      refine W.lcmp hF.1 hF.2.1 dL_law_2726 ?_
      refine lv_if_eq (tgt := 2732) hF.1 hF.2.1 dL_law_2727 (by decide) (fun c_1093 => ?_) (fun c_1093 => ?_)
      · rw [lc_eq] at c_1093
        have hw := hw.1 c_1093
        exact Tl2732 l hlt K X0 hF hr hlocks hC hx hbl hA0 h a hap hmA _ hJ28 x1 x3 x4 x5 X_1069 F_1082 R_1083 L_1084 G_1085 (kc + mc_1070) (ks + ms_1071) _ _ ls hP hM hD hS ⟨hc_1072, hs_1073⟩ (lv_sub hl [2, 3, 4, 5, 6, 7] rfl) hw
      · rw [lc_eq] at c_1093
        have hw := hw.2 c_1093
        refine lv_iconst (v := 0) hF.1 hF.2.1 dL_law_2730 (by decide) ?_
        exact l_end hF hr hlocks hA0 hS ⟨hc_1072, hs_1073⟩ dL_law_2731 hw
  · have hw := hw.2 c_1086
    refine lv_iconst (v := 0) hF.1 hF.2.1 dL_law_2713 (by decide) ?_
    exact l_end hF hr hlocks hA0 hS ⟨hc_1072, hs_1073⟩ dL_law_2714 hw
def wpL_2735 (E mc ms N : Nat) (xs : Nat → Int32) (J28 : Nat → Nat → Nat → Int32 → hX → mF → mR → mL → mG → Nat → Nat → Prop) (x1 : Nat) (x3 : Nat) (x4 : Nat) (x5 : Int32) (X : hX) (F : mF) (R : mR) (L : mL) (G : mG) (kc ks : Nat) : Prop := isO X x1 1 (wpX1_day (fun r_1094 X_1095 => wpX3_day (fun r_1097 F_1098 R_1099 L_1100 G_1101 => ((r_1094 = r_1097 → (∀ x5_1103 : Int32, x5_1103 = x5 + 5 → J28 x1 x3 x4 x5_1103 X_1095 F_1098 R_1099 L_1100 G_1101 kc ks)) ∧ (¬ r_1094 = r_1097 → (0 : Int32) = 1))) F R L G) E X x1)
set_option maxHeartbeats 8000000 in
theorem Tl2735 {p : Program} {e : Env} {s : State} {m : MethodId} {below : List Frame} {meth : Method} {c : Code} (l : Launch) (hlt : l.stackTraces = false) (K : HK) {b N : Nat} {xs : Nat → Int32} (X0 : hX) (hF : CallFix p m c code 9 s #[Value.ref b] lw_all R_law) (hr : meth.sig.returnType = ret) (hlocks : meth.locks = false) (hC : HC K X0 s) (hx : va_X b N xs s s.heap) (hbl : b < s.heap.size) (hA0 : ∀ q, hA X0 s.heap.size q → s.heap.size ≤ q) (h : Nat) (a : Nat → Nat) (hap : mAp h a) (hmA : ∀ q, mA h a q → hA X0 s.heap.size q) (J28 : Nat → Nat → Nat → Int32 → hX → mF → mR → mL → mG → Nat → Nat → Prop) (hJ28 : ∀ (x1 : Nat) (x3 : Nat) (x4 : Nat) (x5 : Int32) (X : hX) (F : mF) (R : mR) (L : mL) (G : mG) (kc ks : Nat) (H : Heap) (locs : List Loc) (ls : Array Slot), hI K X0 s.heap.size X H → mP K.1 h a F R L G H → hdis X h a → va_S (hA X0 s.heap.size) s.heap H locs → kc ≤ 1200048 ∧ ks ≤ 5501818 → lv_has ls 9 [(0, .ref b), (1, .ref x1), (2, .ref h), (3, .ref x3), (4, .ref x4), (5, .int x5)] → J28 x1 x3 x4 x5 X F R L G kc ks → W p l e room_1 s m #[Value.ref b] below meth c H locs kc ks (lw_Z below #[Value.ref b] s) (F0 m 28 ls [])) : ∀ (x1 : Nat) (x3 : Nat) (x4 : Nat) (x5 : Int32) (X : hX) (F : mF) (R : mR) (L : mL) (G : mG) (kc ks : Nat) (H : Heap) (locs : List Loc) (ls : Array Slot), hI K X0 s.heap.size X H → mP K.1 h a F R L G H → hdis X h a → va_S (hA X0 s.heap.size) s.heap H locs → kc ≤ 1200048 ∧ ks ≤ 5501818 → lv_has ls 9 [(0, .ref b), (1, .ref x1), (2, .ref h), (3, .ref x3), (4, .ref x4), (5, .int x5)] → wpL_2735 (K.2.2 0) 1200048 5501818 N xs J28 x1 x3 x4 x5 X F R L G kc ks → W p l e room_1 s m #[Value.ref b] below meth c H locs kc ks (lw_Z below #[Value.ref b] s) (F0 m 2735 ls []) := by
  have hbA : ¬ hA X0 s.heap.size b := fun z => Nat.not_lt.mpr (hA0 b z) hbl
  intro x1 x3 x4 x5 X F R L G kc ks H locs ls hP hM hD hS hk hl hw
  unfold wpL_2735 at hw
  refine lv_aload_n hF.1 hF.2.1 dL_law_2735 rfl (lv_at hl 1 rfl) ?_
  obtain ⟨ho_1096, hw⟩ := hw
  refine lk_i (hr_V (As := []) (rest := []) (T := TX1) (N := 4) (ci := 1) hF hl.1 hC hP hS (metX1_day l K _ _ X x1) rfl (cwV 0 hF.2.2.2.2 (lw_V q282 q283 q284 q75 q285) rfl rfl rfl (by decide +kernel) ⟨Nat.le_of_ble_eq_true rfl, Nat.le_of_ble_eq_true rfl⟩) ho_1096 hw rfl rfl (Nat.le_of_ble_eq_true rfl) dL_law_2736 hk) hP hM hD hS (fun r_1094 X_1095 H locs hw hP hM hD hS => ?_)
  refine lv_aload_n hF.1 hF.2.1 dL_law_2739 rfl (lv_at hl 2 rfl) ?_
  refine lm_i (As := []) (rest := [.int r_1094]) hF hl.1 hC (metX3_day l K.1 h a hap _ F R L G) (cwV 0 hF.2.2.2.2 (lw_V q2187 q2188 q2189 q85 q2190) rfl rfl rfl (by decide +kernel) ⟨Nat.le_of_ble_eq_true rfl, Nat.le_of_ble_eq_true rfl⟩) hP hM hD hS hmA hw rfl rfl (Nat.le_of_ble_eq_true rfl) dL_law_2740 hk (fun r_1097 F_1098 R_1099 L_1100 G_1101 H locs hw hP hM hS => ?_)
  refine lv_icmp_eq (tgt := 3714) hF.1 hF.2.1 dL_law_2743 (by decide) (fun c_1102 => ?_) (fun c_1102 => ?_)
  · have hw := hw.1 c_1102
    obtain ⟨x5_1103, ex5_1103⟩ : ∃ y : Int32, y = x5 + 5 := ⟨_, rfl⟩
    have hw := hw x5_1103 ex5_1103
    refine lv_iinc (v := x5_1103) (lv' := [(5, .int x5_1103), (0, .ref b), (1, .ref x1), (2, .ref h), (3, .ref x3), (4, .ref x4)]) hF.1 hF.2.1 dL_law_3714 hl (k := 5) rfl (by rw [ex5_1103]; rfl) (by decide) rfl (fun ls hl => ?_)
    refine lv_goto (tgt := 28) hF.1 hF.2.1 dL_law_3717 (by decide) ?_
    exact hJ28 x1 x3 x4 x5_1103 X_1095 F_1098 R_1099 L_1100 G_1101 kc ks _ _ ls hP hM hD hS hk (lv_sub hl [1, 2, 3, 4, 5, 0] rfl) hw
  · have hw := hw.2 c_1102
    refine lv_iconst (v := 0) hF.1 hF.2.1 dL_law_2746 (by decide) ?_
    exact l_end hF hr hlocks hA0 hS hk dL_law_2747 hw
def wpL_2748 (E mc ms N : Nat) (xs : Nat → Int32) (J28 : Nat → Nat → Nat → Int32 → hX → mF → mR → mL → mG → Nat → Nat → Prop) (x1 : Nat) (x3 : Nat) (x4 : Nat) (x5 : Int32) (X : hX) (F : mF) (R : mR) (L : mL) (G : mG) (kc ks : Nat) : Prop := isO X x1 1 (wpX1_date (fun r_1104 X_1105 => wpX3_date (fun r_1107 F_1108 R_1109 L_1110 G_1111 => ((r_1104 = r_1107 → (∀ x5_1113 : Int32, x5_1113 = x5 + 5 → J28 x1 x3 x4 x5_1113 X_1105 F_1108 R_1109 L_1110 G_1111 kc ks)) ∧ (¬ r_1104 = r_1107 → (0 : Int32) = 1))) F R L G) E X x1)
set_option maxHeartbeats 8000000 in
theorem Tl2748 {p : Program} {e : Env} {s : State} {m : MethodId} {below : List Frame} {meth : Method} {c : Code} (l : Launch) (hlt : l.stackTraces = false) (K : HK) {b N : Nat} {xs : Nat → Int32} (X0 : hX) (hF : CallFix p m c code 9 s #[Value.ref b] lw_all R_law) (hr : meth.sig.returnType = ret) (hlocks : meth.locks = false) (hC : HC K X0 s) (hx : va_X b N xs s s.heap) (hbl : b < s.heap.size) (hA0 : ∀ q, hA X0 s.heap.size q → s.heap.size ≤ q) (h : Nat) (a : Nat → Nat) (hap : mAp h a) (hmA : ∀ q, mA h a q → hA X0 s.heap.size q) (J28 : Nat → Nat → Nat → Int32 → hX → mF → mR → mL → mG → Nat → Nat → Prop) (hJ28 : ∀ (x1 : Nat) (x3 : Nat) (x4 : Nat) (x5 : Int32) (X : hX) (F : mF) (R : mR) (L : mL) (G : mG) (kc ks : Nat) (H : Heap) (locs : List Loc) (ls : Array Slot), hI K X0 s.heap.size X H → mP K.1 h a F R L G H → hdis X h a → va_S (hA X0 s.heap.size) s.heap H locs → kc ≤ 1200048 ∧ ks ≤ 5501818 → lv_has ls 9 [(0, .ref b), (1, .ref x1), (2, .ref h), (3, .ref x3), (4, .ref x4), (5, .int x5)] → J28 x1 x3 x4 x5 X F R L G kc ks → W p l e room_1 s m #[Value.ref b] below meth c H locs kc ks (lw_Z below #[Value.ref b] s) (F0 m 28 ls [])) : ∀ (x1 : Nat) (x3 : Nat) (x4 : Nat) (x5 : Int32) (X : hX) (F : mF) (R : mR) (L : mL) (G : mG) (kc ks : Nat) (H : Heap) (locs : List Loc) (ls : Array Slot), hI K X0 s.heap.size X H → mP K.1 h a F R L G H → hdis X h a → va_S (hA X0 s.heap.size) s.heap H locs → kc ≤ 1200048 ∧ ks ≤ 5501818 → lv_has ls 9 [(0, .ref b), (1, .ref x1), (2, .ref h), (3, .ref x3), (4, .ref x4), (5, .int x5)] → wpL_2748 (K.2.2 0) 1200048 5501818 N xs J28 x1 x3 x4 x5 X F R L G kc ks → W p l e room_1 s m #[Value.ref b] below meth c H locs kc ks (lw_Z below #[Value.ref b] s) (F0 m 2748 ls []) := by
  have hbA : ¬ hA X0 s.heap.size b := fun z => Nat.not_lt.mpr (hA0 b z) hbl
  intro x1 x3 x4 x5 X F R L G kc ks H locs ls hP hM hD hS hk hl hw
  unfold wpL_2748 at hw
  refine lv_aload_n hF.1 hF.2.1 dL_law_2748 rfl (lv_at hl 1 rfl) ?_
  obtain ⟨ho_1106, hw⟩ := hw
  refine lk_i (hr_V (As := []) (rest := []) (T := TX1) (N := 4) (ci := 1) hF hl.1 hC hP hS (metX1_date l K _ _ X x1) rfl (cwV 0 hF.2.2.2.2 (lw_V q286 q287 q288 q75 q289) rfl rfl rfl (by decide +kernel) ⟨Nat.le_of_ble_eq_true rfl, Nat.le_of_ble_eq_true rfl⟩) ho_1106 hw rfl rfl (Nat.le_of_ble_eq_true rfl) dL_law_2749 hk) hP hM hD hS (fun r_1104 X_1105 H locs hw hP hM hD hS => ?_)
  refine lv_aload_n hF.1 hF.2.1 dL_law_2752 rfl (lv_at hl 2 rfl) ?_
  refine lm_i (As := []) (rest := [.int r_1104]) hF hl.1 hC (metX3_date l K.1 h a hap _ F R L G) (cwV 0 hF.2.2.2.2 (lw_V q2191 q2192 q2193 q85 q2194) rfl rfl rfl (by decide +kernel) ⟨Nat.le_of_ble_eq_true rfl, Nat.le_of_ble_eq_true rfl⟩) hP hM hD hS hmA hw rfl rfl (Nat.le_of_ble_eq_true rfl) dL_law_2753 hk (fun r_1107 F_1108 R_1109 L_1110 G_1111 H locs hw hP hM hS => ?_)
  refine lv_icmp_eq (tgt := 3714) hF.1 hF.2.1 dL_law_2756 (by decide) (fun c_1112 => ?_) (fun c_1112 => ?_)
  · have hw := hw.1 c_1112
    obtain ⟨x5_1113, ex5_1113⟩ : ∃ y : Int32, y = x5 + 5 := ⟨_, rfl⟩
    have hw := hw x5_1113 ex5_1113
    refine lv_iinc (v := x5_1113) (lv' := [(5, .int x5_1113), (0, .ref b), (1, .ref x1), (2, .ref h), (3, .ref x3), (4, .ref x4)]) hF.1 hF.2.1 dL_law_3714 hl (k := 5) rfl (by rw [ex5_1113]; rfl) (by decide) rfl (fun ls hl => ?_)
    refine lv_goto (tgt := 28) hF.1 hF.2.1 dL_law_3717 (by decide) ?_
    exact hJ28 x1 x3 x4 x5_1113 X_1105 F_1108 R_1109 L_1110 G_1111 kc ks _ _ ls hP hM hD hS hk (lv_sub hl [1, 2, 3, 4, 5, 0] rfl) hw
  · have hw := hw.2 c_1112
    refine lv_iconst (v := 0) hF.1 hF.2.1 dL_law_2759 (by decide) ?_
    exact l_end hF hr hlocks hA0 hS hk dL_law_2760 hw
def wpL_2761 (E mc ms N : Nat) (xs : Nat → Int32) (J28 : Nat → Nat → Nat → Int32 → hX → mF → mR → mL → mG → Nat → Nat → Prop) (x1 : Nat) (x3 : Nat) (x4 : Nat) (x5 : Int32) (X : hX) (F : mF) (R : mR) (L : mL) (G : mG) (kc ks : Nat) : Prop := isO X x1 1 (wpX1_dateByRule (fun r_1114 X_1115 => wpX3_dateByRule (fun r_1117 F_1118 R_1119 L_1120 G_1121 => ((r_1114 = r_1117 → (∀ x5_1123 : Int32, x5_1123 = x5 + 5 → J28 x1 x3 x4 x5_1123 X_1115 F_1118 R_1119 L_1120 G_1121 kc ks)) ∧ (¬ r_1114 = r_1117 → (0 : Int32) = 1))) F R L G) E X x1)
set_option maxHeartbeats 8000000 in
theorem Tl2761 {p : Program} {e : Env} {s : State} {m : MethodId} {below : List Frame} {meth : Method} {c : Code} (l : Launch) (hlt : l.stackTraces = false) (K : HK) {b N : Nat} {xs : Nat → Int32} (X0 : hX) (hF : CallFix p m c code 9 s #[Value.ref b] lw_all R_law) (hr : meth.sig.returnType = ret) (hlocks : meth.locks = false) (hC : HC K X0 s) (hx : va_X b N xs s s.heap) (hbl : b < s.heap.size) (hA0 : ∀ q, hA X0 s.heap.size q → s.heap.size ≤ q) (h : Nat) (a : Nat → Nat) (hap : mAp h a) (hmA : ∀ q, mA h a q → hA X0 s.heap.size q) (J28 : Nat → Nat → Nat → Int32 → hX → mF → mR → mL → mG → Nat → Nat → Prop) (hJ28 : ∀ (x1 : Nat) (x3 : Nat) (x4 : Nat) (x5 : Int32) (X : hX) (F : mF) (R : mR) (L : mL) (G : mG) (kc ks : Nat) (H : Heap) (locs : List Loc) (ls : Array Slot), hI K X0 s.heap.size X H → mP K.1 h a F R L G H → hdis X h a → va_S (hA X0 s.heap.size) s.heap H locs → kc ≤ 1200048 ∧ ks ≤ 5501818 → lv_has ls 9 [(0, .ref b), (1, .ref x1), (2, .ref h), (3, .ref x3), (4, .ref x4), (5, .int x5)] → J28 x1 x3 x4 x5 X F R L G kc ks → W p l e room_1 s m #[Value.ref b] below meth c H locs kc ks (lw_Z below #[Value.ref b] s) (F0 m 28 ls [])) : ∀ (x1 : Nat) (x3 : Nat) (x4 : Nat) (x5 : Int32) (X : hX) (F : mF) (R : mR) (L : mL) (G : mG) (kc ks : Nat) (H : Heap) (locs : List Loc) (ls : Array Slot), hI K X0 s.heap.size X H → mP K.1 h a F R L G H → hdis X h a → va_S (hA X0 s.heap.size) s.heap H locs → kc ≤ 1200048 ∧ ks ≤ 5501818 → lv_has ls 9 [(0, .ref b), (1, .ref x1), (2, .ref h), (3, .ref x3), (4, .ref x4), (5, .int x5)] → wpL_2761 (K.2.2 0) 1200048 5501818 N xs J28 x1 x3 x4 x5 X F R L G kc ks → W p l e room_1 s m #[Value.ref b] below meth c H locs kc ks (lw_Z below #[Value.ref b] s) (F0 m 2761 ls []) := by
  have hbA : ¬ hA X0 s.heap.size b := fun z => Nat.not_lt.mpr (hA0 b z) hbl
  intro x1 x3 x4 x5 X F R L G kc ks H locs ls hP hM hD hS hk hl hw
  unfold wpL_2761 at hw
  refine lv_aload_n hF.1 hF.2.1 dL_law_2761 rfl (lv_at hl 1 rfl) ?_
  obtain ⟨ho_1116, hw⟩ := hw
  refine lk_i (hr_V (As := []) (rest := []) (T := TX1) (N := 4) (ci := 1) hF hl.1 hC hP hS (metX1_dateByRule l K _ _ X x1) rfl (cwV 0 hF.2.2.2.2 (lw_V q302 q303 q304 q75 q305) rfl rfl rfl (by decide +kernel) ⟨Nat.le_of_ble_eq_true rfl, Nat.le_of_ble_eq_true rfl⟩) ho_1116 hw rfl rfl (Nat.le_of_ble_eq_true rfl) dL_law_2762 hk) hP hM hD hS (fun r_1114 X_1115 H locs hw hP hM hD hS => ?_)
  refine lv_aload_n hF.1 hF.2.1 dL_law_2765 rfl (lv_at hl 2 rfl) ?_
  refine lm_i (As := []) (rest := [.int r_1114]) hF hl.1 hC (metX3_dateByRule l K.1 h a hap _ F R L G) (cwV 0 hF.2.2.2.2 (lw_V q2209 q2210 q2211 q85 q2212) rfl rfl rfl (by decide +kernel) ⟨Nat.le_of_ble_eq_true rfl, Nat.le_of_ble_eq_true rfl⟩) hP hM hD hS hmA hw rfl rfl (Nat.le_of_ble_eq_true rfl) dL_law_2766 hk (fun r_1117 F_1118 R_1119 L_1120 G_1121 H locs hw hP hM hS => ?_)
  refine lv_icmp_eq (tgt := 3714) hF.1 hF.2.1 dL_law_2769 (by decide) (fun c_1122 => ?_) (fun c_1122 => ?_)
  · have hw := hw.1 c_1122
    obtain ⟨x5_1123, ex5_1123⟩ : ∃ y : Int32, y = x5 + 5 := ⟨_, rfl⟩
    have hw := hw x5_1123 ex5_1123
    refine lv_iinc (v := x5_1123) (lv' := [(5, .int x5_1123), (0, .ref b), (1, .ref x1), (2, .ref h), (3, .ref x3), (4, .ref x4)]) hF.1 hF.2.1 dL_law_3714 hl (k := 5) rfl (by rw [ex5_1123]; rfl) (by decide) rfl (fun ls hl => ?_)
    refine lv_goto (tgt := 28) hF.1 hF.2.1 dL_law_3717 (by decide) ?_
    exact hJ28 x1 x3 x4 x5_1123 X_1115 F_1118 R_1119 L_1120 G_1121 kc ks _ _ ls hP hM hD hS hk (lv_sub hl [1, 2, 3, 4, 5, 0] rfl) hw
  · have hw := hw.2 c_1122
    refine lv_iconst (v := 0) hF.1 hF.2.1 dL_law_2772 (by decide) ?_
    exact l_end hF hr hlocks hA0 hS hk dL_law_2773 hw
def wpL_2851 (E mc ms N : Nat) (xs : Nat → Int32) (J28 : Nat → Nat → Nat → Int32 → hX → mF → mR → mL → mG → Nat → Nat → Prop) (x1 : Nat) (x3 : Nat) (x4 : Nat) (x5 : Int32) (X : hX) (F : mF) (R : mR) (L : mL) (G : mG) (kc ks : Nat) : Prop := (∀ x5_1124 : Int32, x5_1124 = x5 + 5 → J28 x1 x3 x4 x5_1124 X F R L G kc ks)
set_option maxHeartbeats 8000000 in
theorem Tl2851 {p : Program} {e : Env} {s : State} {m : MethodId} {below : List Frame} {meth : Method} {c : Code} (l : Launch) (hlt : l.stackTraces = false) (K : HK) {b N : Nat} {xs : Nat → Int32} (X0 : hX) (hF : CallFix p m c code 9 s #[Value.ref b] lw_all R_law) (hr : meth.sig.returnType = ret) (hlocks : meth.locks = false) (hC : HC K X0 s) (hx : va_X b N xs s s.heap) (hbl : b < s.heap.size) (hA0 : ∀ q, hA X0 s.heap.size q → s.heap.size ≤ q) (h : Nat) (a : Nat → Nat) (hap : mAp h a) (hmA : ∀ q, mA h a q → hA X0 s.heap.size q) (J28 : Nat → Nat → Nat → Int32 → hX → mF → mR → mL → mG → Nat → Nat → Prop) (hJ28 : ∀ (x1 : Nat) (x3 : Nat) (x4 : Nat) (x5 : Int32) (X : hX) (F : mF) (R : mR) (L : mL) (G : mG) (kc ks : Nat) (H : Heap) (locs : List Loc) (ls : Array Slot), hI K X0 s.heap.size X H → mP K.1 h a F R L G H → hdis X h a → va_S (hA X0 s.heap.size) s.heap H locs → kc ≤ 1200048 ∧ ks ≤ 5501818 → lv_has ls 9 [(0, .ref b), (1, .ref x1), (2, .ref h), (3, .ref x3), (4, .ref x4), (5, .int x5)] → J28 x1 x3 x4 x5 X F R L G kc ks → W p l e room_1 s m #[Value.ref b] below meth c H locs kc ks (lw_Z below #[Value.ref b] s) (F0 m 28 ls [])) : ∀ (x1 : Nat) (x3 : Nat) (x4 : Nat) (x5 : Int32) (X : hX) (F : mF) (R : mR) (L : mL) (G : mG) (kc ks : Nat) (H : Heap) (locs : List Loc) (ls : Array Slot), hI K X0 s.heap.size X H → mP K.1 h a F R L G H → hdis X h a → va_S (hA X0 s.heap.size) s.heap H locs → kc ≤ 1200048 ∧ ks ≤ 5501818 → lv_has ls 9 [(0, .ref b), (1, .ref x1), (2, .ref h), (3, .ref x3), (4, .ref x4), (5, .int x5)] → wpL_2851 (K.2.2 0) 1200048 5501818 N xs J28 x1 x3 x4 x5 X F R L G kc ks → W p l e room_1 s m #[Value.ref b] below meth c H locs kc ks (lw_Z below #[Value.ref b] s) (F0 m 2851 ls []) := by
  have hbA : ¬ hA X0 s.heap.size b := fun z => Nat.not_lt.mpr (hA0 b z) hbl
  intro x1 x3 x4 x5 X F R L G kc ks H locs ls hP hM hD hS hk hl hw
  unfold wpL_2851 at hw
  refine lv_goto (tgt := 3714) hF.1 hF.2.1 dL_law_2851 (by decide) ?_
  obtain ⟨x5_1124, ex5_1124⟩ : ∃ y : Int32, y = x5 + 5 := ⟨_, rfl⟩
  have hw := hw x5_1124 ex5_1124
  refine lv_iinc (v := x5_1124) (lv' := [(5, .int x5_1124), (0, .ref b), (1, .ref x1), (2, .ref h), (3, .ref x3), (4, .ref x4)]) hF.1 hF.2.1 dL_law_3714 hl (k := 5) rfl (by rw [ex5_1124]; rfl) (by decide) rfl (fun ls hl => ?_)
  refine lv_goto (tgt := 28) hF.1 hF.2.1 dL_law_3717 (by decide) ?_
  exact hJ28 x1 x3 x4 x5_1124 X F R L G kc ks _ _ ls hP hM hD hS hk (lv_sub hl [1, 2, 3, 4, 5, 0] rfl) hw
def wpL_2774 (E mc ms N : Nat) (xs : Nat → Int32) (J28 : Nat → Nat → Nat → Int32 → hX → mF → mR → mL → mG → Nat → Nat → Prop) (x1 : Nat) (x3 : Nat) (x4 : Nat) (x5 : Int32) (X : hX) (F : mF) (R : mR) (L : mL) (G : mG) (kc ks : Nat) : Prop := (vp_in (x5 + 1) N ∧ (vp_in (x5 + 2) N ∧ (vp_in (x5 + 3) N ∧ (∃ mc_1130 ms_1131 : Nat, kc + mc_1130 ≤ mc ∧ ks + ms_1131 ≤ ms ∧ wpX0_dayOf (fun r_1128 X_1129 => (vp_in (x5 + 1) N ∧ (vp_in (x5 + 2) N ∧ (vp_in (x5 + 3) N ∧ wpX3_dayOf (fun r_1137 F_1138 R_1139 L_1140 G_1141 => wpX3_thrown (fun r_1142 F_1143 R_1144 L_1145 G_1146 => ((r_1142 = r_1128 → ((r_1128 = 0 → alJ X_1129 x3 0 (fun v_1153 => ((v_1153 = (Int32.toInt64 r_1137) → wpL_2851 E mc ms N xs J28 x1 x3 x4 x5 X_1129 F_1143 R_1144 L_1145 G_1146 (kc + mc_1130) (ks + ms_1131)) ∧ (¬ v_1153 = (Int32.toInt64 r_1137) → (0 : Int32) = 1)))) ∧ (¬ r_1128 = 0 → wpL_2851 E mc ms N xs J28 x1 x3 x4 x5 X_1129 F_1143 R_1144 L_1145 G_1146 (kc + mc_1130) (ks + ms_1131)))) ∧ (¬ r_1142 = r_1128 → (0 : Int32) = 1))) F_1138 R_1139 L_1140 G_1141) F R L G (xs (Int32.toNatClampNeg (x5 + 1))) (xs (Int32.toNatClampNeg (x5 + 2))) (xs (Int32.toNatClampNeg (x5 + 3))))))) (fun _ _ _ => False) E mc_1130 ms_1131 X x1 (xs (Int32.toNatClampNeg (x5 + 1))) (xs (Int32.toNatClampNeg (x5 + 2))) (xs (Int32.toNatClampNeg (x5 + 3))) x3))))
set_option maxHeartbeats 8000000 in
theorem Tl2774 {p : Program} {e : Env} {s : State} {m : MethodId} {below : List Frame} {meth : Method} {c : Code} (l : Launch) (hlt : l.stackTraces = false) (K : HK) {b N : Nat} {xs : Nat → Int32} (X0 : hX) (hF : CallFix p m c code 9 s #[Value.ref b] lw_all R_law) (hr : meth.sig.returnType = ret) (hlocks : meth.locks = false) (hC : HC K X0 s) (hx : va_X b N xs s s.heap) (hbl : b < s.heap.size) (hA0 : ∀ q, hA X0 s.heap.size q → s.heap.size ≤ q) (h : Nat) (a : Nat → Nat) (hap : mAp h a) (hmA : ∀ q, mA h a q → hA X0 s.heap.size q) (J28 : Nat → Nat → Nat → Int32 → hX → mF → mR → mL → mG → Nat → Nat → Prop) (hJ28 : ∀ (x1 : Nat) (x3 : Nat) (x4 : Nat) (x5 : Int32) (X : hX) (F : mF) (R : mR) (L : mL) (G : mG) (kc ks : Nat) (H : Heap) (locs : List Loc) (ls : Array Slot), hI K X0 s.heap.size X H → mP K.1 h a F R L G H → hdis X h a → va_S (hA X0 s.heap.size) s.heap H locs → kc ≤ 1200048 ∧ ks ≤ 5501818 → lv_has ls 9 [(0, .ref b), (1, .ref x1), (2, .ref h), (3, .ref x3), (4, .ref x4), (5, .int x5)] → J28 x1 x3 x4 x5 X F R L G kc ks → W p l e room_1 s m #[Value.ref b] below meth c H locs kc ks (lw_Z below #[Value.ref b] s) (F0 m 28 ls [])) : ∀ (x1 : Nat) (x3 : Nat) (x4 : Nat) (x5 : Int32) (X : hX) (F : mF) (R : mR) (L : mL) (G : mG) (kc ks : Nat) (H : Heap) (locs : List Loc) (ls : Array Slot), hI K X0 s.heap.size X H → mP K.1 h a F R L G H → hdis X h a → va_S (hA X0 s.heap.size) s.heap H locs → kc ≤ 1200048 ∧ ks ≤ 5501818 → lv_has ls 9 [(0, .ref b), (1, .ref x1), (2, .ref h), (3, .ref x3), (4, .ref x4), (5, .int x5)] → wpL_2774 (K.2.2 0) 1200048 5501818 N xs J28 x1 x3 x4 x5 X F R L G kc ks → W p l e room_1 s m #[Value.ref b] below meth c H locs kc ks (lw_Z below #[Value.ref b] s) (F0 m 2774 ls []) := by
  have hbA : ¬ hA X0 s.heap.size b := fun z => Nat.not_lt.mpr (hA0 b z) hbl
  intro x1 x3 x4 x5 X F R L G kc ks H locs ls hP hM hD hS hk hl hw
  unfold wpL_2774 at hw
  refine lv_aload_n hF.1 hF.2.1 dL_law_2774 rfl (lv_at hl 1 rfl) ?_
  refine lv_aload_n hF.1 hF.2.1 dL_law_2775 rfl (lv_at hl 0 rfl) ?_
  refine lv_iload hF.1 hF.2.1 dL_law_2776 (lv_at hl 5 rfl) ?_
  refine lv_iconst (v := 1) hF.1 hF.2.1 dL_law_2778 (by decide) ?_
  refine lv_iadd hF.1 hF.2.1 dL_law_2779 ?_
  obtain ⟨h_1125, hw⟩ := hw
  refine va_sld hF.1 hF.2.1 hx hbl hbA hS h_1125 dL_law_2780 ?_
  refine lv_aload_n hF.1 hF.2.1 dL_law_2781 rfl (lv_at hl 0 rfl) ?_
  refine lv_iload hF.1 hF.2.1 dL_law_2782 (lv_at hl 5 rfl) ?_
  refine lv_iconst (v := 2) hF.1 hF.2.1 dL_law_2784 (by decide) ?_
  refine lv_iadd hF.1 hF.2.1 dL_law_2785 ?_
  obtain ⟨h_1126, hw⟩ := hw
  refine va_sld hF.1 hF.2.1 hx hbl hbA hS h_1126 dL_law_2786 ?_
  refine lv_aload_n hF.1 hF.2.1 dL_law_2787 rfl (lv_at hl 0 rfl) ?_
  refine lv_iload hF.1 hF.2.1 dL_law_2788 (lv_at hl 5 rfl) ?_
  refine lv_iconst (v := 3) hF.1 hF.2.1 dL_law_2790 (by decide) ?_
  refine lv_iadd hF.1 hF.2.1 dL_law_2791 ?_
  obtain ⟨h_1127, hw⟩ := hw
  refine va_sld hF.1 hF.2.1 hx hbl hbA hS h_1127 dL_law_2792 ?_
  refine lv_aload_n hF.1 hF.2.1 dL_law_2793 rfl (lv_at hl 3 rfl) ?_
  obtain ⟨mc_1130, ms_1131, hc_1132, hs_1133, hw⟩ := hw
  refine lkx_i (hrx_SX (As := [.ref x1, .int (xs (Int32.toNatClampNeg (x5 + 1))), .int (xs (Int32.toNatClampNeg (x5 + 2))), .int (xs (Int32.toNatClampNeg (x5 + 3))), .ref x3]) (rest := []) hF hl.1 hC hP hS (metX0_dayOf l hlt K mc_1130 ms_1131 _ _ _ X x1 (xs (Int32.toNatClampNeg (x5 + 1))) (xs (Int32.toNatClampNeg (x5 + 2))) (xs (Int32.toNatClampNeg (x5 + 3))) x3) (vx_cwSW 5 hF.2.2.2.2 (lw_SW q1408 q1409 q74 q1410) rfl rfl rfl (by decide +kernel) ⟨Nat.le_of_ble_eq_true rfl, Nat.le_of_ble_eq_true rfl⟩) hw rfl rfl (Nat.le_of_ble_eq_true rfl) dL_law_2794 ⟨hc_1132, hs_1133⟩) hP hM hD hS (fun r_1128 X_1129 H locs hw hP hM hD hS => ?_)
  refine lv_istore (lv' := [(6, .int r_1128), (0, .ref b), (1, .ref x1), (2, .ref h), (3, .ref x3), (4, .ref x4), (5, .int x5)]) hF.1 hF.2.1 dL_law_2797 hl (by decide) rfl (fun ls hl => ?_)
  refine lv_aload_n hF.1 hF.2.1 dL_law_2799 rfl (lv_at hl 3 rfl) ?_
  refine lv_aload_n hF.1 hF.2.1 dL_law_2800 rfl (lv_at hl 1 rfl) ?_
  refine lv_iload hF.1 hF.2.1 dL_law_2801 (lv_at hl 6 rfl) ?_
  refine lv_iconst (v := 1) hF.1 hF.2.1 dL_law_2803 (by decide) ?_
  refine lv_iadd hF.1 hF.2.1 dL_law_2804 ?_
  obtain ⟨h_1134, hw⟩ := hw
  refine va_sld hF.1 hF.2.1 hx hbl hbA hS h_1134 dL_law_2805 ?_
  refine lv_aload_n hF.1 hF.2.1 dL_law_2806 rfl (lv_at hl 1 rfl) ?_
  refine lv_iload hF.1 hF.2.1 dL_law_2807 (lv_at hl 6 rfl) ?_
  refine lv_iconst (v := 2) hF.1 hF.2.1 dL_law_2809 (by decide) ?_
  refine lv_iadd hF.1 hF.2.1 dL_law_2810 ?_
  obtain ⟨h_1135, hw⟩ := hw
  refine va_sld hF.1 hF.2.1 hx hbl hbA hS h_1135 dL_law_2811 ?_
  refine lv_aload_n hF.1 hF.2.1 dL_law_2812 rfl (lv_at hl 1 rfl) ?_
  refine lv_iload hF.1 hF.2.1 dL_law_2813 (lv_at hl 6 rfl) ?_
  refine lv_iconst (v := 3) hF.1 hF.2.1 dL_law_2815 (by decide) ?_
  refine lv_iadd hF.1 hF.2.1 dL_law_2816 ?_
  obtain ⟨h_1136, hw⟩ := hw
  refine va_sld hF.1 hF.2.1 hx hbl hbA hS h_1136 dL_law_2817 ?_
  refine lm_i (As := [.int (xs (Int32.toNatClampNeg (x5 + 1))), .int (xs (Int32.toNatClampNeg (x5 + 2))), .int (xs (Int32.toNatClampNeg (x5 + 3)))]) (rest := []) hF hl.1 hC (metX3_dayOf l K.1 h a hap _ F R L G (xs (Int32.toNatClampNeg (x5 + 1))) (xs (Int32.toNatClampNeg (x5 + 2))) (xs (Int32.toNatClampNeg (x5 + 3)))) (cwV 3 hF.2.2.2.2 (lw_V q2213 q2214 q2215 q85 q2216) rfl rfl rfl (by decide +kernel) ⟨Nat.le_of_ble_eq_true rfl, Nat.le_of_ble_eq_true rfl⟩) hP hM hD hS hmA hw rfl rfl (Nat.le_of_ble_eq_true rfl) dL_law_2818 ⟨hc_1132, hs_1133⟩ (fun r_1137 F_1138 R_1139 L_1140 G_1141 H locs hw hP hM hS => ?_)
  refine lv_istore (lv' := [(7, .int r_1137), (6, .int r_1128), (0, .ref b), (1, .ref x1), (2, .ref h), (3, .ref x3), (4, .ref x4), (5, .int x5)]) hF.1 hF.2.1 dL_law_2821 hl (by decide) rfl (fun ls hl => ?_)
  refine lv_aload_n hF.1 hF.2.1 dL_law_2823 rfl (lv_at hl 4 rfl) ?_
  refine lm_i (As := []) (rest := []) hF hl.1 hC (metX3_thrown l K.1 h a hap _ F_1138 R_1139 L_1140 G_1141) (cwV 0 hF.2.2.2.2 (lw_V q1813 q1814 q1815 q85 q1816) rfl rfl rfl (by decide +kernel) ⟨Nat.le_of_ble_eq_true rfl, Nat.le_of_ble_eq_true rfl⟩) hP hM hD hS hmA hw rfl rfl (Nat.le_of_ble_eq_true rfl) dL_law_2824 ⟨hc_1132, hs_1133⟩ (fun r_1142 F_1143 R_1144 L_1145 G_1146 H locs hw hP hM hS => ?_)
  refine lv_iload hF.1 hF.2.1 dL_law_2827 (lv_at hl 1 rfl) ?_
  refine lv_icmp_eq (tgt := 2834) hF.1 hF.2.1 dL_law_2829 (by decide) (fun c_1147 => ?_) (fun c_1147 => ?_)
  · have hw := hw.1 c_1147
    refine lv_iload hF.1 hF.2.1 dL_law_2834 (lv_at hl 1 rfl) ?_
    refine lv_if_ne (tgt := 2851) hF.1 hF.2.1 dL_law_2836 (by decide) (fun c_1148 => ?_) (fun c_1148 => ?_)
    · have hw := hw.2 c_1148
      exact Tl2851 l hlt K X0 hF hr hlocks hC hx hbl hA0 h a hap hmA _ hJ28 x1 x3 x4 x5 X_1129 F_1143 R_1144 L_1145 G_1146 (kc + mc_1130) (ks + ms_1131) _ _ ls hP hM hD hS ⟨hc_1132, hs_1133⟩ (lv_sub hl [2, 3, 4, 5, 6, 7] rfl) hw
    · have hw := hw.1 c_1148
      refine lv_aload_n hF.1 hF.2.1 dL_law_2839 rfl (lv_at hl 5 rfl) ?_
      refine lv_iconst (v := 0) hF.1 hF.2.1 dL_law_2840 (by decide) ?_
      obtain ⟨n_1149, f_1150, hx_1151, hi_1152, hw⟩ := hw
      refine x_lald hF hC hP hx_1151 hi_1152 dL_law_2841 ?_
      generalize f_1150 (Int32.toNatClampNeg 0) = v_1153 at hw ⊢
      refine lv_iload hF.1 hF.2.1 dL_law_2842 (lv_at hl 0 rfl) ?_
      refine lv_i2l hF.1 hF.2.1 dL_law_2844 rfl ?_
      refine W.lcmp hF.1 hF.2.1 dL_law_2845 ?_
      refine lv_if_eq (tgt := 2851) hF.1 hF.2.1 dL_law_2846 (by decide) (fun c_1154 => ?_) (fun c_1154 => ?_)
      · rw [lc_eq] at c_1154
        have hw := hw.1 c_1154
        exact Tl2851 l hlt K X0 hF hr hlocks hC hx hbl hA0 h a hap hmA _ hJ28 x1 x3 x4 x5 X_1129 F_1143 R_1144 L_1145 G_1146 (kc + mc_1130) (ks + ms_1131) _ _ ls hP hM hD hS ⟨hc_1132, hs_1133⟩ (lv_sub hl [2, 3, 4, 5, 6, 7] rfl) hw
      · rw [lc_eq] at c_1154
        have hw := hw.2 c_1154
        refine lv_iconst (v := 0) hF.1 hF.2.1 dL_law_2849 (by decide) ?_
        exact l_end hF hr hlocks hA0 hS ⟨hc_1132, hs_1133⟩ dL_law_2850 hw
  · have hw := hw.2 c_1147
    refine lv_iconst (v := 0) hF.1 hF.2.1 dL_law_2832 (by decide) ?_
    exact l_end hF hr hlocks hA0 hS ⟨hc_1132, hs_1133⟩ dL_law_2833 hw
def wpL_2854 (E mc ms N : Nat) (xs : Nat → Int32) (J28 : Nat → Nat → Nat → Int32 → hX → mF → mR → mL → mG → Nat → Nat → Prop) (x1 : Nat) (x3 : Nat) (x4 : Nat) (x5 : Int32) (X : hX) (F : mF) (R : mR) (L : mL) (G : mG) (kc ks : Nat) : Prop := isO X x1 1 (wpX1_weekday (fun r_1155 X_1156 => wpX3_weekday (fun r_1158 F_1159 R_1160 L_1161 G_1162 => ((r_1155 = r_1158 → (∀ x5_1164 : Int32, x5_1164 = x5 + 5 → J28 x1 x3 x4 x5_1164 X_1156 F_1159 R_1160 L_1161 G_1162 kc ks)) ∧ (¬ r_1155 = r_1158 → (0 : Int32) = 1))) F R L G) E X x1)
set_option maxHeartbeats 8000000 in
theorem Tl2854 {p : Program} {e : Env} {s : State} {m : MethodId} {below : List Frame} {meth : Method} {c : Code} (l : Launch) (hlt : l.stackTraces = false) (K : HK) {b N : Nat} {xs : Nat → Int32} (X0 : hX) (hF : CallFix p m c code 9 s #[Value.ref b] lw_all R_law) (hr : meth.sig.returnType = ret) (hlocks : meth.locks = false) (hC : HC K X0 s) (hx : va_X b N xs s s.heap) (hbl : b < s.heap.size) (hA0 : ∀ q, hA X0 s.heap.size q → s.heap.size ≤ q) (h : Nat) (a : Nat → Nat) (hap : mAp h a) (hmA : ∀ q, mA h a q → hA X0 s.heap.size q) (J28 : Nat → Nat → Nat → Int32 → hX → mF → mR → mL → mG → Nat → Nat → Prop) (hJ28 : ∀ (x1 : Nat) (x3 : Nat) (x4 : Nat) (x5 : Int32) (X : hX) (F : mF) (R : mR) (L : mL) (G : mG) (kc ks : Nat) (H : Heap) (locs : List Loc) (ls : Array Slot), hI K X0 s.heap.size X H → mP K.1 h a F R L G H → hdis X h a → va_S (hA X0 s.heap.size) s.heap H locs → kc ≤ 1200048 ∧ ks ≤ 5501818 → lv_has ls 9 [(0, .ref b), (1, .ref x1), (2, .ref h), (3, .ref x3), (4, .ref x4), (5, .int x5)] → J28 x1 x3 x4 x5 X F R L G kc ks → W p l e room_1 s m #[Value.ref b] below meth c H locs kc ks (lw_Z below #[Value.ref b] s) (F0 m 28 ls [])) : ∀ (x1 : Nat) (x3 : Nat) (x4 : Nat) (x5 : Int32) (X : hX) (F : mF) (R : mR) (L : mL) (G : mG) (kc ks : Nat) (H : Heap) (locs : List Loc) (ls : Array Slot), hI K X0 s.heap.size X H → mP K.1 h a F R L G H → hdis X h a → va_S (hA X0 s.heap.size) s.heap H locs → kc ≤ 1200048 ∧ ks ≤ 5501818 → lv_has ls 9 [(0, .ref b), (1, .ref x1), (2, .ref h), (3, .ref x3), (4, .ref x4), (5, .int x5)] → wpL_2854 (K.2.2 0) 1200048 5501818 N xs J28 x1 x3 x4 x5 X F R L G kc ks → W p l e room_1 s m #[Value.ref b] below meth c H locs kc ks (lw_Z below #[Value.ref b] s) (F0 m 2854 ls []) := by
  have hbA : ¬ hA X0 s.heap.size b := fun z => Nat.not_lt.mpr (hA0 b z) hbl
  intro x1 x3 x4 x5 X F R L G kc ks H locs ls hP hM hD hS hk hl hw
  unfold wpL_2854 at hw
  refine lv_aload_n hF.1 hF.2.1 dL_law_2854 rfl (lv_at hl 1 rfl) ?_
  obtain ⟨ho_1157, hw⟩ := hw
  refine lk_i (hr_V (As := []) (rest := []) (T := TX1) (N := 4) (ci := 1) hF hl.1 hC hP hS (metX1_weekday l K _ _ X x1) rfl (cwV 0 hF.2.2.2.2 (lw_V q317 q318 q319 q75 q320) rfl rfl rfl (by decide +kernel) ⟨Nat.le_of_ble_eq_true rfl, Nat.le_of_ble_eq_true rfl⟩) ho_1157 hw rfl rfl (Nat.le_of_ble_eq_true rfl) dL_law_2855 hk) hP hM hD hS (fun r_1155 X_1156 H locs hw hP hM hD hS => ?_)
  refine lv_aload_n hF.1 hF.2.1 dL_law_2858 rfl (lv_at hl 2 rfl) ?_
  refine lm_i (As := []) (rest := [.int r_1155]) hF hl.1 hC (metX3_weekday l K.1 h a hap _ F R L G) (cwV 0 hF.2.2.2.2 (lw_V q2217 q2218 q2219 q85 q2220) rfl rfl rfl (by decide +kernel) ⟨Nat.le_of_ble_eq_true rfl, Nat.le_of_ble_eq_true rfl⟩) hP hM hD hS hmA hw rfl rfl (Nat.le_of_ble_eq_true rfl) dL_law_2859 hk (fun r_1158 F_1159 R_1160 L_1161 G_1162 H locs hw hP hM hS => ?_)
  refine lv_icmp_eq (tgt := 3714) hF.1 hF.2.1 dL_law_2862 (by decide) (fun c_1163 => ?_) (fun c_1163 => ?_)
  · have hw := hw.1 c_1163
    obtain ⟨x5_1164, ex5_1164⟩ : ∃ y : Int32, y = x5 + 5 := ⟨_, rfl⟩
    have hw := hw x5_1164 ex5_1164
    refine lv_iinc (v := x5_1164) (lv' := [(5, .int x5_1164), (0, .ref b), (1, .ref x1), (2, .ref h), (3, .ref x3), (4, .ref x4)]) hF.1 hF.2.1 dL_law_3714 hl (k := 5) rfl (by rw [ex5_1164]; rfl) (by decide) rfl (fun ls hl => ?_)
    refine lv_goto (tgt := 28) hF.1 hF.2.1 dL_law_3717 (by decide) ?_
    exact hJ28 x1 x3 x4 x5_1164 X_1156 F_1159 R_1160 L_1161 G_1162 kc ks _ _ ls hP hM hD hS hk (lv_sub hl [1, 2, 3, 4, 5, 0] rfl) hw
  · have hw := hw.2 c_1163
    refine lv_iconst (v := 0) hF.1 hF.2.1 dL_law_2865 (by decide) ?_
    exact l_end hF hr hlocks hA0 hS hk dL_law_2866 hw
def wpL_2932 (E mc ms N : Nat) (xs : Nat → Int32) (J28 : Nat → Nat → Nat → Int32 → hX → mF → mR → mL → mG → Nat → Nat → Prop) (x1 : Nat) (x3 : Nat) (x4 : Nat) (x5 : Int32) (X : hX) (F : mF) (R : mR) (L : mL) (G : mG) (kc ks : Nat) : Prop := (∀ x5_1165 : Int32, x5_1165 = x5 + 5 → J28 x1 x3 x4 x5_1165 X F R L G kc ks)
set_option maxHeartbeats 8000000 in
theorem Tl2932 {p : Program} {e : Env} {s : State} {m : MethodId} {below : List Frame} {meth : Method} {c : Code} (l : Launch) (hlt : l.stackTraces = false) (K : HK) {b N : Nat} {xs : Nat → Int32} (X0 : hX) (hF : CallFix p m c code 9 s #[Value.ref b] lw_all R_law) (hr : meth.sig.returnType = ret) (hlocks : meth.locks = false) (hC : HC K X0 s) (hx : va_X b N xs s s.heap) (hbl : b < s.heap.size) (hA0 : ∀ q, hA X0 s.heap.size q → s.heap.size ≤ q) (h : Nat) (a : Nat → Nat) (hap : mAp h a) (hmA : ∀ q, mA h a q → hA X0 s.heap.size q) (J28 : Nat → Nat → Nat → Int32 → hX → mF → mR → mL → mG → Nat → Nat → Prop) (hJ28 : ∀ (x1 : Nat) (x3 : Nat) (x4 : Nat) (x5 : Int32) (X : hX) (F : mF) (R : mR) (L : mL) (G : mG) (kc ks : Nat) (H : Heap) (locs : List Loc) (ls : Array Slot), hI K X0 s.heap.size X H → mP K.1 h a F R L G H → hdis X h a → va_S (hA X0 s.heap.size) s.heap H locs → kc ≤ 1200048 ∧ ks ≤ 5501818 → lv_has ls 9 [(0, .ref b), (1, .ref x1), (2, .ref h), (3, .ref x3), (4, .ref x4), (5, .int x5)] → J28 x1 x3 x4 x5 X F R L G kc ks → W p l e room_1 s m #[Value.ref b] below meth c H locs kc ks (lw_Z below #[Value.ref b] s) (F0 m 28 ls [])) : ∀ (x1 : Nat) (x3 : Nat) (x4 : Nat) (x5 : Int32) (X : hX) (F : mF) (R : mR) (L : mL) (G : mG) (kc ks : Nat) (H : Heap) (locs : List Loc) (ls : Array Slot), hI K X0 s.heap.size X H → mP K.1 h a F R L G H → hdis X h a → va_S (hA X0 s.heap.size) s.heap H locs → kc ≤ 1200048 ∧ ks ≤ 5501818 → lv_has ls 9 [(0, .ref b), (1, .ref x1), (2, .ref h), (3, .ref x3), (4, .ref x4), (5, .int x5)] → wpL_2932 (K.2.2 0) 1200048 5501818 N xs J28 x1 x3 x4 x5 X F R L G kc ks → W p l e room_1 s m #[Value.ref b] below meth c H locs kc ks (lw_Z below #[Value.ref b] s) (F0 m 2932 ls []) := by
  have hbA : ¬ hA X0 s.heap.size b := fun z => Nat.not_lt.mpr (hA0 b z) hbl
  intro x1 x3 x4 x5 X F R L G kc ks H locs ls hP hM hD hS hk hl hw
  unfold wpL_2932 at hw
  refine lv_goto (tgt := 3714) hF.1 hF.2.1 dL_law_2932 (by decide) ?_
  obtain ⟨x5_1165, ex5_1165⟩ : ∃ y : Int32, y = x5 + 5 := ⟨_, rfl⟩
  have hw := hw x5_1165 ex5_1165
  refine lv_iinc (v := x5_1165) (lv' := [(5, .int x5_1165), (0, .ref b), (1, .ref x1), (2, .ref h), (3, .ref x3), (4, .ref x4)]) hF.1 hF.2.1 dL_law_3714 hl (k := 5) rfl (by rw [ex5_1165]; rfl) (by decide) rfl (fun ls hl => ?_)
  refine lv_goto (tgt := 28) hF.1 hF.2.1 dL_law_3717 (by decide) ?_
  exact hJ28 x1 x3 x4 x5_1165 X F R L G kc ks _ _ ls hP hM hD hS hk (lv_sub hl [1, 2, 3, 4, 5, 0] rfl) hw
def wpL_2867 (E mc ms N : Nat) (xs : Nat → Int32) (J28 : Nat → Nat → Nat → Int32 → hX → mF → mR → mL → mG → Nat → Nat → Prop) (x1 : Nat) (x3 : Nat) (x4 : Nat) (x5 : Int32) (X : hX) (F : mF) (R : mR) (L : mL) (G : mG) (kc ks : Nat) : Prop := (vp_in (x5 + 1) N ∧ (vp_in (x5 + 2) N ∧ (∃ mc_1170 ms_1171 : Nat, kc + mc_1170 ≤ mc ∧ ks + ms_1171 ≤ ms ∧ wpX0_daysUntil (fun r_1168 X_1169 => (vp_in (x5 + 1) N ∧ (vp_in (x5 + 2) N ∧ wpX3_daysUntil (fun r_1176 F_1177 R_1178 L_1179 G_1180 => wpX3_thrown (fun r_1181 F_1182 R_1183 L_1184 G_1185 => ((r_1181 = r_1168 → ((r_1168 = 0 → alJ X_1169 x3 0 (fun v_1192 => ((v_1192 = (Int32.toInt64 r_1176) → wpL_2932 E mc ms N xs J28 x1 x3 x4 x5 X_1169 F_1182 R_1183 L_1184 G_1185 (kc + mc_1170) (ks + ms_1171)) ∧ (¬ v_1192 = (Int32.toInt64 r_1176) → (0 : Int32) = 1)))) ∧ (¬ r_1168 = 0 → wpL_2932 E mc ms N xs J28 x1 x3 x4 x5 X_1169 F_1182 R_1183 L_1184 G_1185 (kc + mc_1170) (ks + ms_1171)))) ∧ (¬ r_1181 = r_1168 → (0 : Int32) = 1))) F_1177 R_1178 L_1179 G_1180) F R L G (xs (Int32.toNatClampNeg (x5 + 1))) (xs (Int32.toNatClampNeg (x5 + 2)))))) (fun _ _ _ => False) E mc_1170 ms_1171 X x1 (xs (Int32.toNatClampNeg (x5 + 1))) (xs (Int32.toNatClampNeg (x5 + 2))) x3)))
set_option maxHeartbeats 8000000 in
theorem Tl2867 {p : Program} {e : Env} {s : State} {m : MethodId} {below : List Frame} {meth : Method} {c : Code} (l : Launch) (hlt : l.stackTraces = false) (K : HK) {b N : Nat} {xs : Nat → Int32} (X0 : hX) (hF : CallFix p m c code 9 s #[Value.ref b] lw_all R_law) (hr : meth.sig.returnType = ret) (hlocks : meth.locks = false) (hC : HC K X0 s) (hx : va_X b N xs s s.heap) (hbl : b < s.heap.size) (hA0 : ∀ q, hA X0 s.heap.size q → s.heap.size ≤ q) (h : Nat) (a : Nat → Nat) (hap : mAp h a) (hmA : ∀ q, mA h a q → hA X0 s.heap.size q) (J28 : Nat → Nat → Nat → Int32 → hX → mF → mR → mL → mG → Nat → Nat → Prop) (hJ28 : ∀ (x1 : Nat) (x3 : Nat) (x4 : Nat) (x5 : Int32) (X : hX) (F : mF) (R : mR) (L : mL) (G : mG) (kc ks : Nat) (H : Heap) (locs : List Loc) (ls : Array Slot), hI K X0 s.heap.size X H → mP K.1 h a F R L G H → hdis X h a → va_S (hA X0 s.heap.size) s.heap H locs → kc ≤ 1200048 ∧ ks ≤ 5501818 → lv_has ls 9 [(0, .ref b), (1, .ref x1), (2, .ref h), (3, .ref x3), (4, .ref x4), (5, .int x5)] → J28 x1 x3 x4 x5 X F R L G kc ks → W p l e room_1 s m #[Value.ref b] below meth c H locs kc ks (lw_Z below #[Value.ref b] s) (F0 m 28 ls [])) : ∀ (x1 : Nat) (x3 : Nat) (x4 : Nat) (x5 : Int32) (X : hX) (F : mF) (R : mR) (L : mL) (G : mG) (kc ks : Nat) (H : Heap) (locs : List Loc) (ls : Array Slot), hI K X0 s.heap.size X H → mP K.1 h a F R L G H → hdis X h a → va_S (hA X0 s.heap.size) s.heap H locs → kc ≤ 1200048 ∧ ks ≤ 5501818 → lv_has ls 9 [(0, .ref b), (1, .ref x1), (2, .ref h), (3, .ref x3), (4, .ref x4), (5, .int x5)] → wpL_2867 (K.2.2 0) 1200048 5501818 N xs J28 x1 x3 x4 x5 X F R L G kc ks → W p l e room_1 s m #[Value.ref b] below meth c H locs kc ks (lw_Z below #[Value.ref b] s) (F0 m 2867 ls []) := by
  have hbA : ¬ hA X0 s.heap.size b := fun z => Nat.not_lt.mpr (hA0 b z) hbl
  intro x1 x3 x4 x5 X F R L G kc ks H locs ls hP hM hD hS hk hl hw
  unfold wpL_2867 at hw
  refine lv_aload_n hF.1 hF.2.1 dL_law_2867 rfl (lv_at hl 1 rfl) ?_
  refine lv_aload_n hF.1 hF.2.1 dL_law_2868 rfl (lv_at hl 0 rfl) ?_
  refine lv_iload hF.1 hF.2.1 dL_law_2869 (lv_at hl 5 rfl) ?_
  refine lv_iconst (v := 1) hF.1 hF.2.1 dL_law_2871 (by decide) ?_
  refine lv_iadd hF.1 hF.2.1 dL_law_2872 ?_
  obtain ⟨h_1166, hw⟩ := hw
  refine va_sld hF.1 hF.2.1 hx hbl hbA hS h_1166 dL_law_2873 ?_
  refine lv_aload_n hF.1 hF.2.1 dL_law_2874 rfl (lv_at hl 0 rfl) ?_
  refine lv_iload hF.1 hF.2.1 dL_law_2875 (lv_at hl 5 rfl) ?_
  refine lv_iconst (v := 2) hF.1 hF.2.1 dL_law_2877 (by decide) ?_
  refine lv_iadd hF.1 hF.2.1 dL_law_2878 ?_
  obtain ⟨h_1167, hw⟩ := hw
  refine va_sld hF.1 hF.2.1 hx hbl hbA hS h_1167 dL_law_2879 ?_
  refine lv_aload_n hF.1 hF.2.1 dL_law_2880 rfl (lv_at hl 3 rfl) ?_
  obtain ⟨mc_1170, ms_1171, hc_1172, hs_1173, hw⟩ := hw
  refine lkx_i (hrx_SX (As := [.ref x1, .int (xs (Int32.toNatClampNeg (x5 + 1))), .int (xs (Int32.toNatClampNeg (x5 + 2))), .ref x3]) (rest := []) hF hl.1 hC hP hS (metX0_daysUntil l hlt K mc_1170 ms_1171 _ _ _ X x1 (xs (Int32.toNatClampNeg (x5 + 1))) (xs (Int32.toNatClampNeg (x5 + 2))) x3) (vx_cwSW 4 hF.2.2.2.2 (lw_SW q1417 q1418 q74 q1419) rfl rfl rfl (by decide +kernel) ⟨Nat.le_of_ble_eq_true rfl, Nat.le_of_ble_eq_true rfl⟩) hw rfl rfl (Nat.le_of_ble_eq_true rfl) dL_law_2881 ⟨hc_1172, hs_1173⟩) hP hM hD hS (fun r_1168 X_1169 H locs hw hP hM hD hS => ?_)
  refine lv_istore (lv' := [(6, .int r_1168), (0, .ref b), (1, .ref x1), (2, .ref h), (3, .ref x3), (4, .ref x4), (5, .int x5)]) hF.1 hF.2.1 dL_law_2884 hl (by decide) rfl (fun ls hl => ?_)
  refine lv_aload_n hF.1 hF.2.1 dL_law_2886 rfl (lv_at hl 3 rfl) ?_
  refine lv_aload_n hF.1 hF.2.1 dL_law_2887 rfl (lv_at hl 1 rfl) ?_
  refine lv_iload hF.1 hF.2.1 dL_law_2888 (lv_at hl 6 rfl) ?_
  refine lv_iconst (v := 1) hF.1 hF.2.1 dL_law_2890 (by decide) ?_
  refine lv_iadd hF.1 hF.2.1 dL_law_2891 ?_
  obtain ⟨h_1174, hw⟩ := hw
  refine va_sld hF.1 hF.2.1 hx hbl hbA hS h_1174 dL_law_2892 ?_
  refine lv_aload_n hF.1 hF.2.1 dL_law_2893 rfl (lv_at hl 1 rfl) ?_
  refine lv_iload hF.1 hF.2.1 dL_law_2894 (lv_at hl 6 rfl) ?_
  refine lv_iconst (v := 2) hF.1 hF.2.1 dL_law_2896 (by decide) ?_
  refine lv_iadd hF.1 hF.2.1 dL_law_2897 ?_
  obtain ⟨h_1175, hw⟩ := hw
  refine va_sld hF.1 hF.2.1 hx hbl hbA hS h_1175 dL_law_2898 ?_
  refine lm_i (As := [.int (xs (Int32.toNatClampNeg (x5 + 1))), .int (xs (Int32.toNatClampNeg (x5 + 2)))]) (rest := []) hF hl.1 hC (metX3_daysUntil l K.1 h a hap _ F R L G (xs (Int32.toNatClampNeg (x5 + 1))) (xs (Int32.toNatClampNeg (x5 + 2)))) (cwV 2 hF.2.2.2.2 (lw_V q2221 q2222 q2223 q85 q2224) rfl rfl rfl (by decide +kernel) ⟨Nat.le_of_ble_eq_true rfl, Nat.le_of_ble_eq_true rfl⟩) hP hM hD hS hmA hw rfl rfl (Nat.le_of_ble_eq_true rfl) dL_law_2899 ⟨hc_1172, hs_1173⟩ (fun r_1176 F_1177 R_1178 L_1179 G_1180 H locs hw hP hM hS => ?_)
  refine lv_istore (lv' := [(7, .int r_1176), (6, .int r_1168), (0, .ref b), (1, .ref x1), (2, .ref h), (3, .ref x3), (4, .ref x4), (5, .int x5)]) hF.1 hF.2.1 dL_law_2902 hl (by decide) rfl (fun ls hl => ?_)
  refine lv_aload_n hF.1 hF.2.1 dL_law_2904 rfl (lv_at hl 4 rfl) ?_
  refine lm_i (As := []) (rest := []) hF hl.1 hC (metX3_thrown l K.1 h a hap _ F_1177 R_1178 L_1179 G_1180) (cwV 0 hF.2.2.2.2 (lw_V q1813 q1814 q1815 q85 q1816) rfl rfl rfl (by decide +kernel) ⟨Nat.le_of_ble_eq_true rfl, Nat.le_of_ble_eq_true rfl⟩) hP hM hD hS hmA hw rfl rfl (Nat.le_of_ble_eq_true rfl) dL_law_2905 ⟨hc_1172, hs_1173⟩ (fun r_1181 F_1182 R_1183 L_1184 G_1185 H locs hw hP hM hS => ?_)
  refine lv_iload hF.1 hF.2.1 dL_law_2908 (lv_at hl 1 rfl) ?_
  refine lv_icmp_eq (tgt := 2915) hF.1 hF.2.1 dL_law_2910 (by decide) (fun c_1186 => ?_) (fun c_1186 => ?_)
  · have hw := hw.1 c_1186
    refine lv_iload hF.1 hF.2.1 dL_law_2915 (lv_at hl 1 rfl) ?_
    refine lv_if_ne (tgt := 2932) hF.1 hF.2.1 dL_law_2917 (by decide) (fun c_1187 => ?_) (fun c_1187 => ?_)
    · have hw := hw.2 c_1187
      exact Tl2932 l hlt K X0 hF hr hlocks hC hx hbl hA0 h a hap hmA _ hJ28 x1 x3 x4 x5 X_1169 F_1182 R_1183 L_1184 G_1185 (kc + mc_1170) (ks + ms_1171) _ _ ls hP hM hD hS ⟨hc_1172, hs_1173⟩ (lv_sub hl [2, 3, 4, 5, 6, 7] rfl) hw
    · have hw := hw.1 c_1187
      refine lv_aload_n hF.1 hF.2.1 dL_law_2920 rfl (lv_at hl 5 rfl) ?_
      refine lv_iconst (v := 0) hF.1 hF.2.1 dL_law_2921 (by decide) ?_
      obtain ⟨n_1188, f_1189, hx_1190, hi_1191, hw⟩ := hw
      refine x_lald hF hC hP hx_1190 hi_1191 dL_law_2922 ?_
      generalize f_1189 (Int32.toNatClampNeg 0) = v_1192 at hw ⊢
      refine lv_iload hF.1 hF.2.1 dL_law_2923 (lv_at hl 0 rfl) ?_
      refine lv_i2l hF.1 hF.2.1 dL_law_2925 rfl ?_
      refine W.lcmp hF.1 hF.2.1 dL_law_2926 ?_
      refine lv_if_eq (tgt := 2932) hF.1 hF.2.1 dL_law_2927 (by decide) (fun c_1193 => ?_) (fun c_1193 => ?_)
      · rw [lc_eq] at c_1193
        have hw := hw.1 c_1193
        exact Tl2932 l hlt K X0 hF hr hlocks hC hx hbl hA0 h a hap hmA _ hJ28 x1 x3 x4 x5 X_1169 F_1182 R_1183 L_1184 G_1185 (kc + mc_1170) (ks + ms_1171) _ _ ls hP hM hD hS ⟨hc_1172, hs_1173⟩ (lv_sub hl [2, 3, 4, 5, 6, 7] rfl) hw
      · rw [lc_eq] at c_1193
        have hw := hw.2 c_1193
        refine lv_iconst (v := 0) hF.1 hF.2.1 dL_law_2930 (by decide) ?_
        exact l_end hF hr hlocks hA0 hS ⟨hc_1172, hs_1173⟩ dL_law_2931 hw
  · have hw := hw.2 c_1186
    refine lv_iconst (v := 0) hF.1 hF.2.1 dL_law_2913 (by decide) ?_
    exact l_end hF hr hlocks hA0 hS ⟨hc_1172, hs_1173⟩ dL_law_2914 hw
def wpL_2935 (E mc ms N : Nat) (xs : Nat → Int32) (J28 : Nat → Nat → Nat → Int32 → hX → mF → mR → mL → mG → Nat → Nat → Prop) (x1 : Nat) (x3 : Nat) (x4 : Nat) (x5 : Int32) (X : hX) (F : mF) (R : mR) (L : mL) (G : mG) (kc ks : Nat) : Prop := isO X x1 1 (wpX1_dayOfYear (fun r_1194 X_1195 => wpX3_dayOfYear (fun r_1197 F_1198 R_1199 L_1200 G_1201 => ((r_1194 = r_1197 → (∀ x5_1203 : Int32, x5_1203 = x5 + 5 → J28 x1 x3 x4 x5_1203 X_1195 F_1198 R_1199 L_1200 G_1201 kc ks)) ∧ (¬ r_1194 = r_1197 → (0 : Int32) = 1))) F R L G) E X x1)
set_option maxHeartbeats 8000000 in
theorem Tl2935 {p : Program} {e : Env} {s : State} {m : MethodId} {below : List Frame} {meth : Method} {c : Code} (l : Launch) (hlt : l.stackTraces = false) (K : HK) {b N : Nat} {xs : Nat → Int32} (X0 : hX) (hF : CallFix p m c code 9 s #[Value.ref b] lw_all R_law) (hr : meth.sig.returnType = ret) (hlocks : meth.locks = false) (hC : HC K X0 s) (hx : va_X b N xs s s.heap) (hbl : b < s.heap.size) (hA0 : ∀ q, hA X0 s.heap.size q → s.heap.size ≤ q) (h : Nat) (a : Nat → Nat) (hap : mAp h a) (hmA : ∀ q, mA h a q → hA X0 s.heap.size q) (J28 : Nat → Nat → Nat → Int32 → hX → mF → mR → mL → mG → Nat → Nat → Prop) (hJ28 : ∀ (x1 : Nat) (x3 : Nat) (x4 : Nat) (x5 : Int32) (X : hX) (F : mF) (R : mR) (L : mL) (G : mG) (kc ks : Nat) (H : Heap) (locs : List Loc) (ls : Array Slot), hI K X0 s.heap.size X H → mP K.1 h a F R L G H → hdis X h a → va_S (hA X0 s.heap.size) s.heap H locs → kc ≤ 1200048 ∧ ks ≤ 5501818 → lv_has ls 9 [(0, .ref b), (1, .ref x1), (2, .ref h), (3, .ref x3), (4, .ref x4), (5, .int x5)] → J28 x1 x3 x4 x5 X F R L G kc ks → W p l e room_1 s m #[Value.ref b] below meth c H locs kc ks (lw_Z below #[Value.ref b] s) (F0 m 28 ls [])) : ∀ (x1 : Nat) (x3 : Nat) (x4 : Nat) (x5 : Int32) (X : hX) (F : mF) (R : mR) (L : mL) (G : mG) (kc ks : Nat) (H : Heap) (locs : List Loc) (ls : Array Slot), hI K X0 s.heap.size X H → mP K.1 h a F R L G H → hdis X h a → va_S (hA X0 s.heap.size) s.heap H locs → kc ≤ 1200048 ∧ ks ≤ 5501818 → lv_has ls 9 [(0, .ref b), (1, .ref x1), (2, .ref h), (3, .ref x3), (4, .ref x4), (5, .int x5)] → wpL_2935 (K.2.2 0) 1200048 5501818 N xs J28 x1 x3 x4 x5 X F R L G kc ks → W p l e room_1 s m #[Value.ref b] below meth c H locs kc ks (lw_Z below #[Value.ref b] s) (F0 m 2935 ls []) := by
  have hbA : ¬ hA X0 s.heap.size b := fun z => Nat.not_lt.mpr (hA0 b z) hbl
  intro x1 x3 x4 x5 X F R L G kc ks H locs ls hP hM hD hS hk hl hw
  unfold wpL_2935 at hw
  refine lv_aload_n hF.1 hF.2.1 dL_law_2935 rfl (lv_at hl 1 rfl) ?_
  obtain ⟨ho_1196, hw⟩ := hw
  refine lk_i (hr_V (As := []) (rest := []) (T := TX1) (N := 4) (ci := 1) hF hl.1 hC hP hS (metX1_dayOfYear l K _ _ X x1) rfl (cwV 0 hF.2.2.2.2 (lw_V q321 q322 q323 q75 q324) rfl rfl rfl (by decide +kernel) ⟨Nat.le_of_ble_eq_true rfl, Nat.le_of_ble_eq_true rfl⟩) ho_1196 hw rfl rfl (Nat.le_of_ble_eq_true rfl) dL_law_2936 hk) hP hM hD hS (fun r_1194 X_1195 H locs hw hP hM hD hS => ?_)
  refine lv_aload_n hF.1 hF.2.1 dL_law_2939 rfl (lv_at hl 2 rfl) ?_
  refine lm_i (As := []) (rest := [.int r_1194]) hF hl.1 hC (metX3_dayOfYear l K.1 h a hap _ F R L G) (cwV 0 hF.2.2.2.2 (lw_V q2225 q2226 q2227 q85 q2228) rfl rfl rfl (by decide +kernel) ⟨Nat.le_of_ble_eq_true rfl, Nat.le_of_ble_eq_true rfl⟩) hP hM hD hS hmA hw rfl rfl (Nat.le_of_ble_eq_true rfl) dL_law_2940 hk (fun r_1197 F_1198 R_1199 L_1200 G_1201 H locs hw hP hM hS => ?_)
  refine lv_icmp_eq (tgt := 3714) hF.1 hF.2.1 dL_law_2943 (by decide) (fun c_1202 => ?_) (fun c_1202 => ?_)
  · have hw := hw.1 c_1202
    obtain ⟨x5_1203, ex5_1203⟩ : ∃ y : Int32, y = x5 + 5 := ⟨_, rfl⟩
    have hw := hw x5_1203 ex5_1203
    refine lv_iinc (v := x5_1203) (lv' := [(5, .int x5_1203), (0, .ref b), (1, .ref x1), (2, .ref h), (3, .ref x3), (4, .ref x4)]) hF.1 hF.2.1 dL_law_3714 hl (k := 5) rfl (by rw [ex5_1203]; rfl) (by decide) rfl (fun ls hl => ?_)
    refine lv_goto (tgt := 28) hF.1 hF.2.1 dL_law_3717 (by decide) ?_
    exact hJ28 x1 x3 x4 x5_1203 X_1195 F_1198 R_1199 L_1200 G_1201 kc ks _ _ ls hP hM hD hS hk (lv_sub hl [1, 2, 3, 4, 5, 0] rfl) hw
  · have hw := hw.2 c_1202
    refine lv_iconst (v := 0) hF.1 hF.2.1 dL_law_2946 (by decide) ?_
    exact l_end hF hr hlocks hA0 hS hk dL_law_2947 hw
def wpL_3001 (E mc ms N : Nat) (xs : Nat → Int32) (J28 : Nat → Nat → Nat → Int32 → hX → mF → mR → mL → mG → Nat → Nat → Prop) (x1 : Nat) (x3 : Nat) (x4 : Nat) (x5 : Int32) (X : hX) (F : mF) (R : mR) (L : mL) (G : mG) (kc ks : Nat) : Prop := (∀ x5_1204 : Int32, x5_1204 = x5 + 5 → J28 x1 x3 x4 x5_1204 X F R L G kc ks)
set_option maxHeartbeats 8000000 in
theorem Tl3001 {p : Program} {e : Env} {s : State} {m : MethodId} {below : List Frame} {meth : Method} {c : Code} (l : Launch) (hlt : l.stackTraces = false) (K : HK) {b N : Nat} {xs : Nat → Int32} (X0 : hX) (hF : CallFix p m c code 9 s #[Value.ref b] lw_all R_law) (hr : meth.sig.returnType = ret) (hlocks : meth.locks = false) (hC : HC K X0 s) (hx : va_X b N xs s s.heap) (hbl : b < s.heap.size) (hA0 : ∀ q, hA X0 s.heap.size q → s.heap.size ≤ q) (h : Nat) (a : Nat → Nat) (hap : mAp h a) (hmA : ∀ q, mA h a q → hA X0 s.heap.size q) (J28 : Nat → Nat → Nat → Int32 → hX → mF → mR → mL → mG → Nat → Nat → Prop) (hJ28 : ∀ (x1 : Nat) (x3 : Nat) (x4 : Nat) (x5 : Int32) (X : hX) (F : mF) (R : mR) (L : mL) (G : mG) (kc ks : Nat) (H : Heap) (locs : List Loc) (ls : Array Slot), hI K X0 s.heap.size X H → mP K.1 h a F R L G H → hdis X h a → va_S (hA X0 s.heap.size) s.heap H locs → kc ≤ 1200048 ∧ ks ≤ 5501818 → lv_has ls 9 [(0, .ref b), (1, .ref x1), (2, .ref h), (3, .ref x3), (4, .ref x4), (5, .int x5)] → J28 x1 x3 x4 x5 X F R L G kc ks → W p l e room_1 s m #[Value.ref b] below meth c H locs kc ks (lw_Z below #[Value.ref b] s) (F0 m 28 ls [])) : ∀ (x1 : Nat) (x3 : Nat) (x4 : Nat) (x5 : Int32) (X : hX) (F : mF) (R : mR) (L : mL) (G : mG) (kc ks : Nat) (H : Heap) (locs : List Loc) (ls : Array Slot), hI K X0 s.heap.size X H → mP K.1 h a F R L G H → hdis X h a → va_S (hA X0 s.heap.size) s.heap H locs → kc ≤ 1200048 ∧ ks ≤ 5501818 → lv_has ls 9 [(0, .ref b), (1, .ref x1), (2, .ref h), (3, .ref x3), (4, .ref x4), (5, .int x5)] → wpL_3001 (K.2.2 0) 1200048 5501818 N xs J28 x1 x3 x4 x5 X F R L G kc ks → W p l e room_1 s m #[Value.ref b] below meth c H locs kc ks (lw_Z below #[Value.ref b] s) (F0 m 3001 ls []) := by
  have hbA : ¬ hA X0 s.heap.size b := fun z => Nat.not_lt.mpr (hA0 b z) hbl
  intro x1 x3 x4 x5 X F R L G kc ks H locs ls hP hM hD hS hk hl hw
  unfold wpL_3001 at hw
  refine lv_goto (tgt := 3714) hF.1 hF.2.1 dL_law_3001 (by decide) ?_
  obtain ⟨x5_1204, ex5_1204⟩ : ∃ y : Int32, y = x5 + 5 := ⟨_, rfl⟩
  have hw := hw x5_1204 ex5_1204
  refine lv_iinc (v := x5_1204) (lv' := [(5, .int x5_1204), (0, .ref b), (1, .ref x1), (2, .ref h), (3, .ref x3), (4, .ref x4)]) hF.1 hF.2.1 dL_law_3714 hl (k := 5) rfl (by rw [ex5_1204]; rfl) (by decide) rfl (fun ls hl => ?_)
  refine lv_goto (tgt := 28) hF.1 hF.2.1 dL_law_3717 (by decide) ?_
  exact hJ28 x1 x3 x4 x5_1204 X F R L G kc ks _ _ ls hP hM hD hS hk (lv_sub hl [1, 2, 3, 4, 5, 0] rfl) hw
def wpL_2948 (E mc ms N : Nat) (xs : Nat → Int32) (J28 : Nat → Nat → Nat → Int32 → hX → mF → mR → mL → mG → Nat → Nat → Prop) (x1 : Nat) (x3 : Nat) (x4 : Nat) (x5 : Int32) (X : hX) (F : mF) (R : mR) (L : mL) (G : mG) (kc ks : Nat) : Prop := (vp_in (x5 + 1) N ∧ (∃ mc_1208 ms_1209 : Nat, kc + mc_1208 ≤ mc ∧ ks + ms_1209 ≤ ms ∧ wpX0_periodOf (fun r_1206 X_1207 => (vp_in (x5 + 1) N ∧ wpX3_periodOf (fun r_1213 F_1214 R_1215 L_1216 G_1217 => wpX3_thrown (fun r_1218 F_1219 R_1220 L_1221 G_1222 => ((r_1218 = r_1206 → ((r_1206 = 0 → alJ X_1207 x3 0 (fun v_1229 => ((v_1229 = (Int32.toInt64 r_1213) → wpL_3001 E mc ms N xs J28 x1 x3 x4 x5 X_1207 F_1219 R_1220 L_1221 G_1222 (kc + mc_1208) (ks + ms_1209)) ∧ (¬ v_1229 = (Int32.toInt64 r_1213) → (0 : Int32) = 1)))) ∧ (¬ r_1206 = 0 → wpL_3001 E mc ms N xs J28 x1 x3 x4 x5 X_1207 F_1219 R_1220 L_1221 G_1222 (kc + mc_1208) (ks + ms_1209)))) ∧ (¬ r_1218 = r_1206 → (0 : Int32) = 1))) F_1214 R_1215 L_1216 G_1217) F R L G (xs (Int32.toNatClampNeg (x5 + 1))))) (fun _ _ _ => False) E mc_1208 ms_1209 X x1 (xs (Int32.toNatClampNeg (x5 + 1))) x3))
set_option maxHeartbeats 8000000 in
theorem Tl2948 {p : Program} {e : Env} {s : State} {m : MethodId} {below : List Frame} {meth : Method} {c : Code} (l : Launch) (hlt : l.stackTraces = false) (K : HK) {b N : Nat} {xs : Nat → Int32} (X0 : hX) (hF : CallFix p m c code 9 s #[Value.ref b] lw_all R_law) (hr : meth.sig.returnType = ret) (hlocks : meth.locks = false) (hC : HC K X0 s) (hx : va_X b N xs s s.heap) (hbl : b < s.heap.size) (hA0 : ∀ q, hA X0 s.heap.size q → s.heap.size ≤ q) (h : Nat) (a : Nat → Nat) (hap : mAp h a) (hmA : ∀ q, mA h a q → hA X0 s.heap.size q) (J28 : Nat → Nat → Nat → Int32 → hX → mF → mR → mL → mG → Nat → Nat → Prop) (hJ28 : ∀ (x1 : Nat) (x3 : Nat) (x4 : Nat) (x5 : Int32) (X : hX) (F : mF) (R : mR) (L : mL) (G : mG) (kc ks : Nat) (H : Heap) (locs : List Loc) (ls : Array Slot), hI K X0 s.heap.size X H → mP K.1 h a F R L G H → hdis X h a → va_S (hA X0 s.heap.size) s.heap H locs → kc ≤ 1200048 ∧ ks ≤ 5501818 → lv_has ls 9 [(0, .ref b), (1, .ref x1), (2, .ref h), (3, .ref x3), (4, .ref x4), (5, .int x5)] → J28 x1 x3 x4 x5 X F R L G kc ks → W p l e room_1 s m #[Value.ref b] below meth c H locs kc ks (lw_Z below #[Value.ref b] s) (F0 m 28 ls [])) : ∀ (x1 : Nat) (x3 : Nat) (x4 : Nat) (x5 : Int32) (X : hX) (F : mF) (R : mR) (L : mL) (G : mG) (kc ks : Nat) (H : Heap) (locs : List Loc) (ls : Array Slot), hI K X0 s.heap.size X H → mP K.1 h a F R L G H → hdis X h a → va_S (hA X0 s.heap.size) s.heap H locs → kc ≤ 1200048 ∧ ks ≤ 5501818 → lv_has ls 9 [(0, .ref b), (1, .ref x1), (2, .ref h), (3, .ref x3), (4, .ref x4), (5, .int x5)] → wpL_2948 (K.2.2 0) 1200048 5501818 N xs J28 x1 x3 x4 x5 X F R L G kc ks → W p l e room_1 s m #[Value.ref b] below meth c H locs kc ks (lw_Z below #[Value.ref b] s) (F0 m 2948 ls []) := by
  have hbA : ¬ hA X0 s.heap.size b := fun z => Nat.not_lt.mpr (hA0 b z) hbl
  intro x1 x3 x4 x5 X F R L G kc ks H locs ls hP hM hD hS hk hl hw
  unfold wpL_2948 at hw
  refine lv_aload_n hF.1 hF.2.1 dL_law_2948 rfl (lv_at hl 1 rfl) ?_
  refine lv_aload_n hF.1 hF.2.1 dL_law_2949 rfl (lv_at hl 0 rfl) ?_
  refine lv_iload hF.1 hF.2.1 dL_law_2950 (lv_at hl 5 rfl) ?_
  refine lv_iconst (v := 1) hF.1 hF.2.1 dL_law_2952 (by decide) ?_
  refine lv_iadd hF.1 hF.2.1 dL_law_2953 ?_
  obtain ⟨h_1205, hw⟩ := hw
  refine va_sld hF.1 hF.2.1 hx hbl hbA hS h_1205 dL_law_2954 ?_
  refine lv_aload_n hF.1 hF.2.1 dL_law_2955 rfl (lv_at hl 3 rfl) ?_
  obtain ⟨mc_1208, ms_1209, hc_1210, hs_1211, hw⟩ := hw
  refine lkx_i (hrx_SX (As := [.ref x1, .int (xs (Int32.toNatClampNeg (x5 + 1))), .ref x3]) (rest := []) hF hl.1 hC hP hS (metX0_periodOf l hlt K mc_1208 ms_1209 _ _ _ X x1 (xs (Int32.toNatClampNeg (x5 + 1))) x3) (vx_cwSW 3 hF.2.2.2.2 (lw_SW q1425 q1426 q74 q1427) rfl rfl rfl (by decide +kernel) ⟨Nat.le_of_ble_eq_true rfl, Nat.le_of_ble_eq_true rfl⟩) hw rfl rfl (Nat.le_of_ble_eq_true rfl) dL_law_2956 ⟨hc_1210, hs_1211⟩) hP hM hD hS (fun r_1206 X_1207 H locs hw hP hM hD hS => ?_)
  refine lv_istore (lv' := [(6, .int r_1206), (0, .ref b), (1, .ref x1), (2, .ref h), (3, .ref x3), (4, .ref x4), (5, .int x5)]) hF.1 hF.2.1 dL_law_2959 hl (by decide) rfl (fun ls hl => ?_)
  refine lv_aload_n hF.1 hF.2.1 dL_law_2961 rfl (lv_at hl 3 rfl) ?_
  refine lv_aload_n hF.1 hF.2.1 dL_law_2962 rfl (lv_at hl 1 rfl) ?_
  refine lv_iload hF.1 hF.2.1 dL_law_2963 (lv_at hl 6 rfl) ?_
  refine lv_iconst (v := 1) hF.1 hF.2.1 dL_law_2965 (by decide) ?_
  refine lv_iadd hF.1 hF.2.1 dL_law_2966 ?_
  obtain ⟨h_1212, hw⟩ := hw
  refine va_sld hF.1 hF.2.1 hx hbl hbA hS h_1212 dL_law_2967 ?_
  refine lm_i (As := [.int (xs (Int32.toNatClampNeg (x5 + 1)))]) (rest := []) hF hl.1 hC (metX3_periodOf l K.1 h a hap _ F R L G (xs (Int32.toNatClampNeg (x5 + 1)))) (cwV 1 hF.2.2.2.2 (lw_V q2229 q2230 q2231 q85 q2232) rfl rfl rfl (by decide +kernel) ⟨Nat.le_of_ble_eq_true rfl, Nat.le_of_ble_eq_true rfl⟩) hP hM hD hS hmA hw rfl rfl (Nat.le_of_ble_eq_true rfl) dL_law_2968 ⟨hc_1210, hs_1211⟩ (fun r_1213 F_1214 R_1215 L_1216 G_1217 H locs hw hP hM hS => ?_)
  refine lv_istore (lv' := [(7, .int r_1213), (6, .int r_1206), (0, .ref b), (1, .ref x1), (2, .ref h), (3, .ref x3), (4, .ref x4), (5, .int x5)]) hF.1 hF.2.1 dL_law_2971 hl (by decide) rfl (fun ls hl => ?_)
  refine lv_aload_n hF.1 hF.2.1 dL_law_2973 rfl (lv_at hl 4 rfl) ?_
  refine lm_i (As := []) (rest := []) hF hl.1 hC (metX3_thrown l K.1 h a hap _ F_1214 R_1215 L_1216 G_1217) (cwV 0 hF.2.2.2.2 (lw_V q1813 q1814 q1815 q85 q1816) rfl rfl rfl (by decide +kernel) ⟨Nat.le_of_ble_eq_true rfl, Nat.le_of_ble_eq_true rfl⟩) hP hM hD hS hmA hw rfl rfl (Nat.le_of_ble_eq_true rfl) dL_law_2974 ⟨hc_1210, hs_1211⟩ (fun r_1218 F_1219 R_1220 L_1221 G_1222 H locs hw hP hM hS => ?_)
  refine lv_iload hF.1 hF.2.1 dL_law_2977 (lv_at hl 1 rfl) ?_
  refine lv_icmp_eq (tgt := 2984) hF.1 hF.2.1 dL_law_2979 (by decide) (fun c_1223 => ?_) (fun c_1223 => ?_)
  · have hw := hw.1 c_1223
    refine lv_iload hF.1 hF.2.1 dL_law_2984 (lv_at hl 1 rfl) ?_
    refine lv_if_ne (tgt := 3001) hF.1 hF.2.1 dL_law_2986 (by decide) (fun c_1224 => ?_) (fun c_1224 => ?_)
    · have hw := hw.2 c_1224
      exact Tl3001 l hlt K X0 hF hr hlocks hC hx hbl hA0 h a hap hmA _ hJ28 x1 x3 x4 x5 X_1207 F_1219 R_1220 L_1221 G_1222 (kc + mc_1208) (ks + ms_1209) _ _ ls hP hM hD hS ⟨hc_1210, hs_1211⟩ (lv_sub hl [2, 3, 4, 5, 6, 7] rfl) hw
    · have hw := hw.1 c_1224
      refine lv_aload_n hF.1 hF.2.1 dL_law_2989 rfl (lv_at hl 5 rfl) ?_
      refine lv_iconst (v := 0) hF.1 hF.2.1 dL_law_2990 (by decide) ?_
      obtain ⟨n_1225, f_1226, hx_1227, hi_1228, hw⟩ := hw
      refine x_lald hF hC hP hx_1227 hi_1228 dL_law_2991 ?_
      generalize f_1226 (Int32.toNatClampNeg 0) = v_1229 at hw ⊢
      refine lv_iload hF.1 hF.2.1 dL_law_2992 (lv_at hl 0 rfl) ?_
      refine lv_i2l hF.1 hF.2.1 dL_law_2994 rfl ?_
      refine W.lcmp hF.1 hF.2.1 dL_law_2995 ?_
      refine lv_if_eq (tgt := 3001) hF.1 hF.2.1 dL_law_2996 (by decide) (fun c_1230 => ?_) (fun c_1230 => ?_)
      · rw [lc_eq] at c_1230
        have hw := hw.1 c_1230
        exact Tl3001 l hlt K X0 hF hr hlocks hC hx hbl hA0 h a hap hmA _ hJ28 x1 x3 x4 x5 X_1207 F_1219 R_1220 L_1221 G_1222 (kc + mc_1208) (ks + ms_1209) _ _ ls hP hM hD hS ⟨hc_1210, hs_1211⟩ (lv_sub hl [2, 3, 4, 5, 6, 7] rfl) hw
      · rw [lc_eq] at c_1230
        have hw := hw.2 c_1230
        refine lv_iconst (v := 0) hF.1 hF.2.1 dL_law_2999 (by decide) ?_
        exact l_end hF hr hlocks hA0 hS ⟨hc_1210, hs_1211⟩ dL_law_3000 hw
  · have hw := hw.2 c_1223
    refine lv_iconst (v := 0) hF.1 hF.2.1 dL_law_2982 (by decide) ?_
    exact l_end hF hr hlocks hA0 hS ⟨hc_1210, hs_1211⟩ dL_law_2983 hw
def wpL_3056 (E mc ms N : Nat) (xs : Nat → Int32) (J28 : Nat → Nat → Nat → Int32 → hX → mF → mR → mL → mG → Nat → Nat → Prop) (x1 : Nat) (x3 : Nat) (x4 : Nat) (x5 : Int32) (X : hX) (F : mF) (R : mR) (L : mL) (G : mG) (kc ks : Nat) : Prop := (∀ x5_1231 : Int32, x5_1231 = x5 + 5 → J28 x1 x3 x4 x5_1231 X F R L G kc ks)
set_option maxHeartbeats 8000000 in
theorem Tl3056 {p : Program} {e : Env} {s : State} {m : MethodId} {below : List Frame} {meth : Method} {c : Code} (l : Launch) (hlt : l.stackTraces = false) (K : HK) {b N : Nat} {xs : Nat → Int32} (X0 : hX) (hF : CallFix p m c code 9 s #[Value.ref b] lw_all R_law) (hr : meth.sig.returnType = ret) (hlocks : meth.locks = false) (hC : HC K X0 s) (hx : va_X b N xs s s.heap) (hbl : b < s.heap.size) (hA0 : ∀ q, hA X0 s.heap.size q → s.heap.size ≤ q) (h : Nat) (a : Nat → Nat) (hap : mAp h a) (hmA : ∀ q, mA h a q → hA X0 s.heap.size q) (J28 : Nat → Nat → Nat → Int32 → hX → mF → mR → mL → mG → Nat → Nat → Prop) (hJ28 : ∀ (x1 : Nat) (x3 : Nat) (x4 : Nat) (x5 : Int32) (X : hX) (F : mF) (R : mR) (L : mL) (G : mG) (kc ks : Nat) (H : Heap) (locs : List Loc) (ls : Array Slot), hI K X0 s.heap.size X H → mP K.1 h a F R L G H → hdis X h a → va_S (hA X0 s.heap.size) s.heap H locs → kc ≤ 1200048 ∧ ks ≤ 5501818 → lv_has ls 9 [(0, .ref b), (1, .ref x1), (2, .ref h), (3, .ref x3), (4, .ref x4), (5, .int x5)] → J28 x1 x3 x4 x5 X F R L G kc ks → W p l e room_1 s m #[Value.ref b] below meth c H locs kc ks (lw_Z below #[Value.ref b] s) (F0 m 28 ls [])) : ∀ (x1 : Nat) (x3 : Nat) (x4 : Nat) (x5 : Int32) (X : hX) (F : mF) (R : mR) (L : mL) (G : mG) (kc ks : Nat) (H : Heap) (locs : List Loc) (ls : Array Slot), hI K X0 s.heap.size X H → mP K.1 h a F R L G H → hdis X h a → va_S (hA X0 s.heap.size) s.heap H locs → kc ≤ 1200048 ∧ ks ≤ 5501818 → lv_has ls 9 [(0, .ref b), (1, .ref x1), (2, .ref h), (3, .ref x3), (4, .ref x4), (5, .int x5)] → wpL_3056 (K.2.2 0) 1200048 5501818 N xs J28 x1 x3 x4 x5 X F R L G kc ks → W p l e room_1 s m #[Value.ref b] below meth c H locs kc ks (lw_Z below #[Value.ref b] s) (F0 m 3056 ls []) := by
  have hbA : ¬ hA X0 s.heap.size b := fun z => Nat.not_lt.mpr (hA0 b z) hbl
  intro x1 x3 x4 x5 X F R L G kc ks H locs ls hP hM hD hS hk hl hw
  unfold wpL_3056 at hw
  refine lv_goto (tgt := 3714) hF.1 hF.2.1 dL_law_3056 (by decide) ?_
  obtain ⟨x5_1231, ex5_1231⟩ : ∃ y : Int32, y = x5 + 5 := ⟨_, rfl⟩
  have hw := hw x5_1231 ex5_1231
  refine lv_iinc (v := x5_1231) (lv' := [(5, .int x5_1231), (0, .ref b), (1, .ref x1), (2, .ref h), (3, .ref x3), (4, .ref x4)]) hF.1 hF.2.1 dL_law_3714 hl (k := 5) rfl (by rw [ex5_1231]; rfl) (by decide) rfl (fun ls hl => ?_)
  refine lv_goto (tgt := 28) hF.1 hF.2.1 dL_law_3717 (by decide) ?_
  exact hJ28 x1 x3 x4 x5_1231 X F R L G kc ks _ _ ls hP hM hD hS hk (lv_sub hl [1, 2, 3, 4, 5, 0] rfl) hw
def wpL_3004 (E mc ms N : Nat) (xs : Nat → Int32) (J28 : Nat → Nat → Nat → Int32 → hX → mF → mR → mL → mG → Nat → Nat → Prop) (x1 : Nat) (x3 : Nat) (x4 : Nat) (x5 : Int32) (X : hX) (F : mF) (R : mR) (L : mL) (G : mG) (kc ks : Nat) : Prop := (vp_in (x5 + 1) N ∧ (∃ mc_1235 ms_1236 : Nat, kc + mc_1235 ≤ mc ∧ ks + ms_1236 ≤ ms ∧ wpX0_errorBits (fun r_1233 X_1234 => (vp_in (x5 + 1) N ∧ wpX3_errorBits (fun r_1240 F_1241 R_1242 L_1243 G_1244 => wpX3_thrown (fun r_1245 F_1246 R_1247 L_1248 G_1249 => ((r_1245 = r_1233 → ((r_1233 = 0 → alJ X_1234 x3 0 (fun v_1256 => ((v_1256 = r_1240 → wpL_3056 E mc ms N xs J28 x1 x3 x4 x5 X_1234 F_1246 R_1247 L_1248 G_1249 (kc + mc_1235) (ks + ms_1236)) ∧ (¬ v_1256 = r_1240 → (0 : Int32) = 1)))) ∧ (¬ r_1233 = 0 → wpL_3056 E mc ms N xs J28 x1 x3 x4 x5 X_1234 F_1246 R_1247 L_1248 G_1249 (kc + mc_1235) (ks + ms_1236)))) ∧ (¬ r_1245 = r_1233 → (0 : Int32) = 1))) F_1241 R_1242 L_1243 G_1244) F R L G (xs (Int32.toNatClampNeg (x5 + 1))))) (fun _ _ _ => False) E mc_1235 ms_1236 X x1 (xs (Int32.toNatClampNeg (x5 + 1))) x3))
set_option maxHeartbeats 8000000 in
theorem Tl3004 {p : Program} {e : Env} {s : State} {m : MethodId} {below : List Frame} {meth : Method} {c : Code} (l : Launch) (hlt : l.stackTraces = false) (K : HK) {b N : Nat} {xs : Nat → Int32} (X0 : hX) (hF : CallFix p m c code 9 s #[Value.ref b] lw_all R_law) (hr : meth.sig.returnType = ret) (hlocks : meth.locks = false) (hC : HC K X0 s) (hx : va_X b N xs s s.heap) (hbl : b < s.heap.size) (hA0 : ∀ q, hA X0 s.heap.size q → s.heap.size ≤ q) (h : Nat) (a : Nat → Nat) (hap : mAp h a) (hmA : ∀ q, mA h a q → hA X0 s.heap.size q) (J28 : Nat → Nat → Nat → Int32 → hX → mF → mR → mL → mG → Nat → Nat → Prop) (hJ28 : ∀ (x1 : Nat) (x3 : Nat) (x4 : Nat) (x5 : Int32) (X : hX) (F : mF) (R : mR) (L : mL) (G : mG) (kc ks : Nat) (H : Heap) (locs : List Loc) (ls : Array Slot), hI K X0 s.heap.size X H → mP K.1 h a F R L G H → hdis X h a → va_S (hA X0 s.heap.size) s.heap H locs → kc ≤ 1200048 ∧ ks ≤ 5501818 → lv_has ls 9 [(0, .ref b), (1, .ref x1), (2, .ref h), (3, .ref x3), (4, .ref x4), (5, .int x5)] → J28 x1 x3 x4 x5 X F R L G kc ks → W p l e room_1 s m #[Value.ref b] below meth c H locs kc ks (lw_Z below #[Value.ref b] s) (F0 m 28 ls [])) : ∀ (x1 : Nat) (x3 : Nat) (x4 : Nat) (x5 : Int32) (X : hX) (F : mF) (R : mR) (L : mL) (G : mG) (kc ks : Nat) (H : Heap) (locs : List Loc) (ls : Array Slot), hI K X0 s.heap.size X H → mP K.1 h a F R L G H → hdis X h a → va_S (hA X0 s.heap.size) s.heap H locs → kc ≤ 1200048 ∧ ks ≤ 5501818 → lv_has ls 9 [(0, .ref b), (1, .ref x1), (2, .ref h), (3, .ref x3), (4, .ref x4), (5, .int x5)] → wpL_3004 (K.2.2 0) 1200048 5501818 N xs J28 x1 x3 x4 x5 X F R L G kc ks → W p l e room_1 s m #[Value.ref b] below meth c H locs kc ks (lw_Z below #[Value.ref b] s) (F0 m 3004 ls []) := by
  have hbA : ¬ hA X0 s.heap.size b := fun z => Nat.not_lt.mpr (hA0 b z) hbl
  intro x1 x3 x4 x5 X F R L G kc ks H locs ls hP hM hD hS hk hl hw
  unfold wpL_3004 at hw
  refine lv_aload_n hF.1 hF.2.1 dL_law_3004 rfl (lv_at hl 1 rfl) ?_
  refine lv_aload_n hF.1 hF.2.1 dL_law_3005 rfl (lv_at hl 0 rfl) ?_
  refine lv_iload hF.1 hF.2.1 dL_law_3006 (lv_at hl 5 rfl) ?_
  refine lv_iconst (v := 1) hF.1 hF.2.1 dL_law_3008 (by decide) ?_
  refine lv_iadd hF.1 hF.2.1 dL_law_3009 ?_
  obtain ⟨h_1232, hw⟩ := hw
  refine va_sld hF.1 hF.2.1 hx hbl hbA hS h_1232 dL_law_3010 ?_
  refine lv_aload_n hF.1 hF.2.1 dL_law_3011 rfl (lv_at hl 3 rfl) ?_
  obtain ⟨mc_1235, ms_1236, hc_1237, hs_1238, hw⟩ := hw
  refine lkx_i (hrx_SX (As := [.ref x1, .int (xs (Int32.toNatClampNeg (x5 + 1))), .ref x3]) (rest := []) hF hl.1 hC hP hS (metX0_errorBits l hlt K mc_1235 ms_1236 _ _ _ X x1 (xs (Int32.toNatClampNeg (x5 + 1))) x3) (vx_cwSW 3 hF.2.2.2.2 (lw_SW q1432 q1433 q74 q1434) rfl rfl rfl (by decide +kernel) ⟨Nat.le_of_ble_eq_true rfl, Nat.le_of_ble_eq_true rfl⟩) hw rfl rfl (Nat.le_of_ble_eq_true rfl) dL_law_3012 ⟨hc_1237, hs_1238⟩) hP hM hD hS (fun r_1233 X_1234 H locs hw hP hM hD hS => ?_)
  refine lv_istore (lv' := [(6, .int r_1233), (0, .ref b), (1, .ref x1), (2, .ref h), (3, .ref x3), (4, .ref x4), (5, .int x5)]) hF.1 hF.2.1 dL_law_3015 hl (by decide) rfl (fun ls hl => ?_)
  refine lv_aload_n hF.1 hF.2.1 dL_law_3017 rfl (lv_at hl 3 rfl) ?_
  refine lv_aload_n hF.1 hF.2.1 dL_law_3018 rfl (lv_at hl 1 rfl) ?_
  refine lv_iload hF.1 hF.2.1 dL_law_3019 (lv_at hl 6 rfl) ?_
  refine lv_iconst (v := 1) hF.1 hF.2.1 dL_law_3021 (by decide) ?_
  refine lv_iadd hF.1 hF.2.1 dL_law_3022 ?_
  obtain ⟨h_1239, hw⟩ := hw
  refine va_sld hF.1 hF.2.1 hx hbl hbA hS h_1239 dL_law_3023 ?_
  refine lm_l (As := [.int (xs (Int32.toNatClampNeg (x5 + 1)))]) (rest := []) hF hl.1 hC (metX3_errorBits l K.1 h a hap _ F R L G (xs (Int32.toNatClampNeg (x5 + 1)))) (cwV 1 hF.2.2.2.2 (lw_V q2233 q2234 q2235 q85 q2236) rfl rfl rfl (by decide +kernel) ⟨Nat.le_of_ble_eq_true rfl, Nat.le_of_ble_eq_true rfl⟩) hP hM hD hS hmA hw rfl rfl (Nat.le_of_ble_eq_true rfl) dL_law_3024 ⟨hc_1237, hs_1238⟩ (fun r_1240 F_1241 R_1242 L_1243 G_1244 H locs hw hP hM hS => ?_)
  refine lv_lstore (lv' := [(7, .long r_1240), (6, .int r_1233), (0, .ref b), (1, .ref x1), (2, .ref h), (3, .ref x3), (4, .ref x4), (5, .int x5)]) hF.1 hF.2.1 dL_law_3027 hl (by decide) rfl (fun ls hl => ?_)
  refine lv_aload_n hF.1 hF.2.1 dL_law_3029 rfl (lv_at hl 4 rfl) ?_
  refine lm_i (As := []) (rest := []) hF hl.1 hC (metX3_thrown l K.1 h a hap _ F_1241 R_1242 L_1243 G_1244) (cwV 0 hF.2.2.2.2 (lw_V q1813 q1814 q1815 q85 q1816) rfl rfl rfl (by decide +kernel) ⟨Nat.le_of_ble_eq_true rfl, Nat.le_of_ble_eq_true rfl⟩) hP hM hD hS hmA hw rfl rfl (Nat.le_of_ble_eq_true rfl) dL_law_3030 ⟨hc_1237, hs_1238⟩ (fun r_1245 F_1246 R_1247 L_1248 G_1249 H locs hw hP hM hS => ?_)
  refine lv_iload hF.1 hF.2.1 dL_law_3033 (lv_at hl 1 rfl) ?_
  refine lv_icmp_eq (tgt := 3040) hF.1 hF.2.1 dL_law_3035 (by decide) (fun c_1250 => ?_) (fun c_1250 => ?_)
  · have hw := hw.1 c_1250
    refine lv_iload hF.1 hF.2.1 dL_law_3040 (lv_at hl 1 rfl) ?_
    refine lv_if_ne (tgt := 3056) hF.1 hF.2.1 dL_law_3042 (by decide) (fun c_1251 => ?_) (fun c_1251 => ?_)
    · have hw := hw.2 c_1251
      exact Tl3056 l hlt K X0 hF hr hlocks hC hx hbl hA0 h a hap hmA _ hJ28 x1 x3 x4 x5 X_1234 F_1246 R_1247 L_1248 G_1249 (kc + mc_1235) (ks + ms_1236) _ _ ls hP hM hD hS ⟨hc_1237, hs_1238⟩ (lv_sub hl [2, 3, 4, 5, 6, 7] rfl) hw
    · have hw := hw.1 c_1251
      refine lv_aload_n hF.1 hF.2.1 dL_law_3045 rfl (lv_at hl 5 rfl) ?_
      refine lv_iconst (v := 0) hF.1 hF.2.1 dL_law_3046 (by decide) ?_
      obtain ⟨n_1252, f_1253, hx_1254, hi_1255, hw⟩ := hw
      refine x_lald hF hC hP hx_1254 hi_1255 dL_law_3047 ?_
      generalize f_1253 (Int32.toNatClampNeg 0) = v_1256 at hw ⊢
      refine lv_lload hF.1 hF.2.1 dL_law_3048 (lv_at hl 0 rfl) ?_
      refine W.lcmp hF.1 hF.2.1 dL_law_3050 ?_
      refine lv_if_eq (tgt := 3056) hF.1 hF.2.1 dL_law_3051 (by decide) (fun c_1257 => ?_) (fun c_1257 => ?_)
      · rw [lc_eq] at c_1257
        have hw := hw.1 c_1257
        exact Tl3056 l hlt K X0 hF hr hlocks hC hx hbl hA0 h a hap hmA _ hJ28 x1 x3 x4 x5 X_1234 F_1246 R_1247 L_1248 G_1249 (kc + mc_1235) (ks + ms_1236) _ _ ls hP hM hD hS ⟨hc_1237, hs_1238⟩ (lv_sub hl [2, 3, 4, 5, 6, 7] rfl) hw
      · rw [lc_eq] at c_1257
        have hw := hw.2 c_1257
        refine lv_iconst (v := 0) hF.1 hF.2.1 dL_law_3054 (by decide) ?_
        exact l_end hF hr hlocks hA0 hS ⟨hc_1237, hs_1238⟩ dL_law_3055 hw
  · have hw := hw.2 c_1250
    refine lv_iconst (v := 0) hF.1 hF.2.1 dL_law_3038 (by decide) ?_
    exact l_end hF hr hlocks hA0 hS ⟨hc_1237, hs_1238⟩ dL_law_3039 hw
def wpL_3124 (E mc ms N : Nat) (xs : Nat → Int32) (J28 : Nat → Nat → Nat → Int32 → hX → mF → mR → mL → mG → Nat → Nat → Prop) (x1 : Nat) (x3 : Nat) (x4 : Nat) (x5 : Int32) (X : hX) (F : mF) (R : mR) (L : mL) (G : mG) (kc ks : Nat) : Prop := (∀ x5_1258 : Int32, x5_1258 = x5 + 5 → J28 x1 x3 x4 x5_1258 X F R L G kc ks)
set_option maxHeartbeats 8000000 in
theorem Tl3124 {p : Program} {e : Env} {s : State} {m : MethodId} {below : List Frame} {meth : Method} {c : Code} (l : Launch) (hlt : l.stackTraces = false) (K : HK) {b N : Nat} {xs : Nat → Int32} (X0 : hX) (hF : CallFix p m c code 9 s #[Value.ref b] lw_all R_law) (hr : meth.sig.returnType = ret) (hlocks : meth.locks = false) (hC : HC K X0 s) (hx : va_X b N xs s s.heap) (hbl : b < s.heap.size) (hA0 : ∀ q, hA X0 s.heap.size q → s.heap.size ≤ q) (h : Nat) (a : Nat → Nat) (hap : mAp h a) (hmA : ∀ q, mA h a q → hA X0 s.heap.size q) (J28 : Nat → Nat → Nat → Int32 → hX → mF → mR → mL → mG → Nat → Nat → Prop) (hJ28 : ∀ (x1 : Nat) (x3 : Nat) (x4 : Nat) (x5 : Int32) (X : hX) (F : mF) (R : mR) (L : mL) (G : mG) (kc ks : Nat) (H : Heap) (locs : List Loc) (ls : Array Slot), hI K X0 s.heap.size X H → mP K.1 h a F R L G H → hdis X h a → va_S (hA X0 s.heap.size) s.heap H locs → kc ≤ 1200048 ∧ ks ≤ 5501818 → lv_has ls 9 [(0, .ref b), (1, .ref x1), (2, .ref h), (3, .ref x3), (4, .ref x4), (5, .int x5)] → J28 x1 x3 x4 x5 X F R L G kc ks → W p l e room_1 s m #[Value.ref b] below meth c H locs kc ks (lw_Z below #[Value.ref b] s) (F0 m 28 ls [])) : ∀ (x1 : Nat) (x3 : Nat) (x4 : Nat) (x5 : Int32) (X : hX) (F : mF) (R : mR) (L : mL) (G : mG) (kc ks : Nat) (H : Heap) (locs : List Loc) (ls : Array Slot), hI K X0 s.heap.size X H → mP K.1 h a F R L G H → hdis X h a → va_S (hA X0 s.heap.size) s.heap H locs → kc ≤ 1200048 ∧ ks ≤ 5501818 → lv_has ls 9 [(0, .ref b), (1, .ref x1), (2, .ref h), (3, .ref x3), (4, .ref x4), (5, .int x5)] → wpL_3124 (K.2.2 0) 1200048 5501818 N xs J28 x1 x3 x4 x5 X F R L G kc ks → W p l e room_1 s m #[Value.ref b] below meth c H locs kc ks (lw_Z below #[Value.ref b] s) (F0 m 3124 ls []) := by
  have hbA : ¬ hA X0 s.heap.size b := fun z => Nat.not_lt.mpr (hA0 b z) hbl
  intro x1 x3 x4 x5 X F R L G kc ks H locs ls hP hM hD hS hk hl hw
  unfold wpL_3124 at hw
  refine lv_goto (tgt := 3714) hF.1 hF.2.1 dL_law_3124 (by decide) ?_
  obtain ⟨x5_1258, ex5_1258⟩ : ∃ y : Int32, y = x5 + 5 := ⟨_, rfl⟩
  have hw := hw x5_1258 ex5_1258
  refine lv_iinc (v := x5_1258) (lv' := [(5, .int x5_1258), (0, .ref b), (1, .ref x1), (2, .ref h), (3, .ref x3), (4, .ref x4)]) hF.1 hF.2.1 dL_law_3714 hl (k := 5) rfl (by rw [ex5_1258]; rfl) (by decide) rfl (fun ls hl => ?_)
  refine lv_goto (tgt := 28) hF.1 hF.2.1 dL_law_3717 (by decide) ?_
  exact hJ28 x1 x3 x4 x5_1258 X F R L G kc ks _ _ ls hP hM hD hS hk (lv_sub hl [1, 2, 3, 4, 5, 0] rfl) hw
def wpL_3059 (E mc ms N : Nat) (xs : Nat → Int32) (J28 : Nat → Nat → Nat → Int32 → hX → mF → mR → mL → mG → Nat → Nat → Prop) (x1 : Nat) (x3 : Nat) (x4 : Nat) (x5 : Int32) (X : hX) (F : mF) (R : mR) (L : mL) (G : mG) (kc ks : Nat) : Prop := (vp_in (x5 + 1) N ∧ (vp_in (x5 + 2) N ∧ (∃ mc_1263 ms_1264 : Nat, kc + mc_1263 ≤ mc ∧ ks + ms_1264 ≤ ms ∧ wpX0_bestPair (fun r_1261 X_1262 => (vp_in (x5 + 1) N ∧ (vp_in (x5 + 2) N ∧ wpX3_bestPair (fun r_1269 F_1270 R_1271 L_1272 G_1273 => wpX3_thrown (fun r_1274 F_1275 R_1276 L_1277 G_1278 => ((r_1274 = r_1261 → ((r_1261 = 0 → alJ X_1262 x3 0 (fun v_1285 => ((v_1285 = (Int32.toInt64 r_1269) → wpL_3124 E mc ms N xs J28 x1 x3 x4 x5 X_1262 F_1275 R_1276 L_1277 G_1278 (kc + mc_1263) (ks + ms_1264)) ∧ (¬ v_1285 = (Int32.toInt64 r_1269) → (0 : Int32) = 1)))) ∧ (¬ r_1261 = 0 → wpL_3124 E mc ms N xs J28 x1 x3 x4 x5 X_1262 F_1275 R_1276 L_1277 G_1278 (kc + mc_1263) (ks + ms_1264)))) ∧ (¬ r_1274 = r_1261 → (0 : Int32) = 1))) F_1270 R_1271 L_1272 G_1273) F R L G (xs (Int32.toNatClampNeg (x5 + 1))) (xs (Int32.toNatClampNeg (x5 + 2)))))) (fun _ _ _ => False) E mc_1263 ms_1264 X x1 (xs (Int32.toNatClampNeg (x5 + 1))) (xs (Int32.toNatClampNeg (x5 + 2))) x3)))
set_option maxHeartbeats 8000000 in
theorem Tl3059 {p : Program} {e : Env} {s : State} {m : MethodId} {below : List Frame} {meth : Method} {c : Code} (l : Launch) (hlt : l.stackTraces = false) (K : HK) {b N : Nat} {xs : Nat → Int32} (X0 : hX) (hF : CallFix p m c code 9 s #[Value.ref b] lw_all R_law) (hr : meth.sig.returnType = ret) (hlocks : meth.locks = false) (hC : HC K X0 s) (hx : va_X b N xs s s.heap) (hbl : b < s.heap.size) (hA0 : ∀ q, hA X0 s.heap.size q → s.heap.size ≤ q) (h : Nat) (a : Nat → Nat) (hap : mAp h a) (hmA : ∀ q, mA h a q → hA X0 s.heap.size q) (J28 : Nat → Nat → Nat → Int32 → hX → mF → mR → mL → mG → Nat → Nat → Prop) (hJ28 : ∀ (x1 : Nat) (x3 : Nat) (x4 : Nat) (x5 : Int32) (X : hX) (F : mF) (R : mR) (L : mL) (G : mG) (kc ks : Nat) (H : Heap) (locs : List Loc) (ls : Array Slot), hI K X0 s.heap.size X H → mP K.1 h a F R L G H → hdis X h a → va_S (hA X0 s.heap.size) s.heap H locs → kc ≤ 1200048 ∧ ks ≤ 5501818 → lv_has ls 9 [(0, .ref b), (1, .ref x1), (2, .ref h), (3, .ref x3), (4, .ref x4), (5, .int x5)] → J28 x1 x3 x4 x5 X F R L G kc ks → W p l e room_1 s m #[Value.ref b] below meth c H locs kc ks (lw_Z below #[Value.ref b] s) (F0 m 28 ls [])) : ∀ (x1 : Nat) (x3 : Nat) (x4 : Nat) (x5 : Int32) (X : hX) (F : mF) (R : mR) (L : mL) (G : mG) (kc ks : Nat) (H : Heap) (locs : List Loc) (ls : Array Slot), hI K X0 s.heap.size X H → mP K.1 h a F R L G H → hdis X h a → va_S (hA X0 s.heap.size) s.heap H locs → kc ≤ 1200048 ∧ ks ≤ 5501818 → lv_has ls 9 [(0, .ref b), (1, .ref x1), (2, .ref h), (3, .ref x3), (4, .ref x4), (5, .int x5)] → wpL_3059 (K.2.2 0) 1200048 5501818 N xs J28 x1 x3 x4 x5 X F R L G kc ks → W p l e room_1 s m #[Value.ref b] below meth c H locs kc ks (lw_Z below #[Value.ref b] s) (F0 m 3059 ls []) := by
  have hbA : ¬ hA X0 s.heap.size b := fun z => Nat.not_lt.mpr (hA0 b z) hbl
  intro x1 x3 x4 x5 X F R L G kc ks H locs ls hP hM hD hS hk hl hw
  unfold wpL_3059 at hw
  refine lv_aload_n hF.1 hF.2.1 dL_law_3059 rfl (lv_at hl 1 rfl) ?_
  refine lv_aload_n hF.1 hF.2.1 dL_law_3060 rfl (lv_at hl 0 rfl) ?_
  refine lv_iload hF.1 hF.2.1 dL_law_3061 (lv_at hl 5 rfl) ?_
  refine lv_iconst (v := 1) hF.1 hF.2.1 dL_law_3063 (by decide) ?_
  refine lv_iadd hF.1 hF.2.1 dL_law_3064 ?_
  obtain ⟨h_1259, hw⟩ := hw
  refine va_sld hF.1 hF.2.1 hx hbl hbA hS h_1259 dL_law_3065 ?_
  refine lv_aload_n hF.1 hF.2.1 dL_law_3066 rfl (lv_at hl 0 rfl) ?_
  refine lv_iload hF.1 hF.2.1 dL_law_3067 (lv_at hl 5 rfl) ?_
  refine lv_iconst (v := 2) hF.1 hF.2.1 dL_law_3069 (by decide) ?_
  refine lv_iadd hF.1 hF.2.1 dL_law_3070 ?_
  obtain ⟨h_1260, hw⟩ := hw
  refine va_sld hF.1 hF.2.1 hx hbl hbA hS h_1260 dL_law_3071 ?_
  refine lv_aload_n hF.1 hF.2.1 dL_law_3072 rfl (lv_at hl 3 rfl) ?_
  obtain ⟨mc_1263, ms_1264, hc_1265, hs_1266, hw⟩ := hw
  refine lkx_i (hrx_SX (As := [.ref x1, .int (xs (Int32.toNatClampNeg (x5 + 1))), .int (xs (Int32.toNatClampNeg (x5 + 2))), .ref x3]) (rest := []) hF hl.1 hC hP hS (metX0_bestPair l hlt K mc_1263 ms_1264 _ _ _ X x1 (xs (Int32.toNatClampNeg (x5 + 1))) (xs (Int32.toNatClampNeg (x5 + 2))) x3) (vx_cwSW 4 hF.2.2.2.2 (lw_SW q1450 q1451 q74 q1452) rfl rfl rfl (by decide +kernel) ⟨Nat.le_of_ble_eq_true rfl, Nat.le_of_ble_eq_true rfl⟩) hw rfl rfl (Nat.le_of_ble_eq_true rfl) dL_law_3073 ⟨hc_1265, hs_1266⟩) hP hM hD hS (fun r_1261 X_1262 H locs hw hP hM hD hS => ?_)
  refine lv_istore (lv' := [(6, .int r_1261), (0, .ref b), (1, .ref x1), (2, .ref h), (3, .ref x3), (4, .ref x4), (5, .int x5)]) hF.1 hF.2.1 dL_law_3076 hl (by decide) rfl (fun ls hl => ?_)
  refine lv_aload_n hF.1 hF.2.1 dL_law_3078 rfl (lv_at hl 3 rfl) ?_
  refine lv_aload_n hF.1 hF.2.1 dL_law_3079 rfl (lv_at hl 1 rfl) ?_
  refine lv_iload hF.1 hF.2.1 dL_law_3080 (lv_at hl 6 rfl) ?_
  refine lv_iconst (v := 1) hF.1 hF.2.1 dL_law_3082 (by decide) ?_
  refine lv_iadd hF.1 hF.2.1 dL_law_3083 ?_
  obtain ⟨h_1267, hw⟩ := hw
  refine va_sld hF.1 hF.2.1 hx hbl hbA hS h_1267 dL_law_3084 ?_
  refine lv_aload_n hF.1 hF.2.1 dL_law_3085 rfl (lv_at hl 1 rfl) ?_
  refine lv_iload hF.1 hF.2.1 dL_law_3086 (lv_at hl 6 rfl) ?_
  refine lv_iconst (v := 2) hF.1 hF.2.1 dL_law_3088 (by decide) ?_
  refine lv_iadd hF.1 hF.2.1 dL_law_3089 ?_
  obtain ⟨h_1268, hw⟩ := hw
  refine va_sld hF.1 hF.2.1 hx hbl hbA hS h_1268 dL_law_3090 ?_
  refine lm_i (As := [.int (xs (Int32.toNatClampNeg (x5 + 1))), .int (xs (Int32.toNatClampNeg (x5 + 2)))]) (rest := []) hF hl.1 hC (metX3_bestPair l K.1 h a hap _ F R L G (xs (Int32.toNatClampNeg (x5 + 1))) (xs (Int32.toNatClampNeg (x5 + 2)))) (cwV 2 hF.2.2.2.2 (lw_V q2239 q2240 q2241 q85 q2242) rfl rfl rfl (by decide +kernel) ⟨Nat.le_of_ble_eq_true rfl, Nat.le_of_ble_eq_true rfl⟩) hP hM hD hS hmA hw rfl rfl (Nat.le_of_ble_eq_true rfl) dL_law_3091 ⟨hc_1265, hs_1266⟩ (fun r_1269 F_1270 R_1271 L_1272 G_1273 H locs hw hP hM hS => ?_)
  refine lv_istore (lv' := [(7, .int r_1269), (6, .int r_1261), (0, .ref b), (1, .ref x1), (2, .ref h), (3, .ref x3), (4, .ref x4), (5, .int x5)]) hF.1 hF.2.1 dL_law_3094 hl (by decide) rfl (fun ls hl => ?_)
  refine lv_aload_n hF.1 hF.2.1 dL_law_3096 rfl (lv_at hl 4 rfl) ?_
  refine lm_i (As := []) (rest := []) hF hl.1 hC (metX3_thrown l K.1 h a hap _ F_1270 R_1271 L_1272 G_1273) (cwV 0 hF.2.2.2.2 (lw_V q1813 q1814 q1815 q85 q1816) rfl rfl rfl (by decide +kernel) ⟨Nat.le_of_ble_eq_true rfl, Nat.le_of_ble_eq_true rfl⟩) hP hM hD hS hmA hw rfl rfl (Nat.le_of_ble_eq_true rfl) dL_law_3097 ⟨hc_1265, hs_1266⟩ (fun r_1274 F_1275 R_1276 L_1277 G_1278 H locs hw hP hM hS => ?_)
  refine lv_iload hF.1 hF.2.1 dL_law_3100 (lv_at hl 1 rfl) ?_
  refine lv_icmp_eq (tgt := 3107) hF.1 hF.2.1 dL_law_3102 (by decide) (fun c_1279 => ?_) (fun c_1279 => ?_)
  · have hw := hw.1 c_1279
    refine lv_iload hF.1 hF.2.1 dL_law_3107 (lv_at hl 1 rfl) ?_
    refine lv_if_ne (tgt := 3124) hF.1 hF.2.1 dL_law_3109 (by decide) (fun c_1280 => ?_) (fun c_1280 => ?_)
    · have hw := hw.2 c_1280
      exact Tl3124 l hlt K X0 hF hr hlocks hC hx hbl hA0 h a hap hmA _ hJ28 x1 x3 x4 x5 X_1262 F_1275 R_1276 L_1277 G_1278 (kc + mc_1263) (ks + ms_1264) _ _ ls hP hM hD hS ⟨hc_1265, hs_1266⟩ (lv_sub hl [2, 3, 4, 5, 6, 7] rfl) hw
    · have hw := hw.1 c_1280
      refine lv_aload_n hF.1 hF.2.1 dL_law_3112 rfl (lv_at hl 5 rfl) ?_
      refine lv_iconst (v := 0) hF.1 hF.2.1 dL_law_3113 (by decide) ?_
      obtain ⟨n_1281, f_1282, hx_1283, hi_1284, hw⟩ := hw
      refine x_lald hF hC hP hx_1283 hi_1284 dL_law_3114 ?_
      generalize f_1282 (Int32.toNatClampNeg 0) = v_1285 at hw ⊢
      refine lv_iload hF.1 hF.2.1 dL_law_3115 (lv_at hl 0 rfl) ?_
      refine lv_i2l hF.1 hF.2.1 dL_law_3117 rfl ?_
      refine W.lcmp hF.1 hF.2.1 dL_law_3118 ?_
      refine lv_if_eq (tgt := 3124) hF.1 hF.2.1 dL_law_3119 (by decide) (fun c_1286 => ?_) (fun c_1286 => ?_)
      · rw [lc_eq] at c_1286
        have hw := hw.1 c_1286
        exact Tl3124 l hlt K X0 hF hr hlocks hC hx hbl hA0 h a hap hmA _ hJ28 x1 x3 x4 x5 X_1262 F_1275 R_1276 L_1277 G_1278 (kc + mc_1263) (ks + ms_1264) _ _ ls hP hM hD hS ⟨hc_1265, hs_1266⟩ (lv_sub hl [2, 3, 4, 5, 6, 7] rfl) hw
      · rw [lc_eq] at c_1286
        have hw := hw.2 c_1286
        refine lv_iconst (v := 0) hF.1 hF.2.1 dL_law_3122 (by decide) ?_
        exact l_end hF hr hlocks hA0 hS ⟨hc_1265, hs_1266⟩ dL_law_3123 hw
  · have hw := hw.2 c_1279
    refine lv_iconst (v := 0) hF.1 hF.2.1 dL_law_3105 (by decide) ?_
    exact l_end hF hr hlocks hA0 hS ⟨hc_1265, hs_1266⟩ dL_law_3106 hw
def wpL_3201 (E mc ms N : Nat) (xs : Nat → Int32) (J28 : Nat → Nat → Nat → Int32 → hX → mF → mR → mL → mG → Nat → Nat → Prop) (x1 : Nat) (x3 : Nat) (x4 : Nat) (x5 : Int32) (X : hX) (F : mF) (R : mR) (L : mL) (G : mG) (kc ks : Nat) : Prop := (∀ x5_1287 : Int32, x5_1287 = x5 + 5 → J28 x1 x3 x4 x5_1287 X F R L G kc ks)
set_option maxHeartbeats 8000000 in
theorem Tl3201 {p : Program} {e : Env} {s : State} {m : MethodId} {below : List Frame} {meth : Method} {c : Code} (l : Launch) (hlt : l.stackTraces = false) (K : HK) {b N : Nat} {xs : Nat → Int32} (X0 : hX) (hF : CallFix p m c code 9 s #[Value.ref b] lw_all R_law) (hr : meth.sig.returnType = ret) (hlocks : meth.locks = false) (hC : HC K X0 s) (hx : va_X b N xs s s.heap) (hbl : b < s.heap.size) (hA0 : ∀ q, hA X0 s.heap.size q → s.heap.size ≤ q) (h : Nat) (a : Nat → Nat) (hap : mAp h a) (hmA : ∀ q, mA h a q → hA X0 s.heap.size q) (J28 : Nat → Nat → Nat → Int32 → hX → mF → mR → mL → mG → Nat → Nat → Prop) (hJ28 : ∀ (x1 : Nat) (x3 : Nat) (x4 : Nat) (x5 : Int32) (X : hX) (F : mF) (R : mR) (L : mL) (G : mG) (kc ks : Nat) (H : Heap) (locs : List Loc) (ls : Array Slot), hI K X0 s.heap.size X H → mP K.1 h a F R L G H → hdis X h a → va_S (hA X0 s.heap.size) s.heap H locs → kc ≤ 1200048 ∧ ks ≤ 5501818 → lv_has ls 9 [(0, .ref b), (1, .ref x1), (2, .ref h), (3, .ref x3), (4, .ref x4), (5, .int x5)] → J28 x1 x3 x4 x5 X F R L G kc ks → W p l e room_1 s m #[Value.ref b] below meth c H locs kc ks (lw_Z below #[Value.ref b] s) (F0 m 28 ls [])) : ∀ (x1 : Nat) (x3 : Nat) (x4 : Nat) (x5 : Int32) (X : hX) (F : mF) (R : mR) (L : mL) (G : mG) (kc ks : Nat) (H : Heap) (locs : List Loc) (ls : Array Slot), hI K X0 s.heap.size X H → mP K.1 h a F R L G H → hdis X h a → va_S (hA X0 s.heap.size) s.heap H locs → kc ≤ 1200048 ∧ ks ≤ 5501818 → lv_has ls 9 [(0, .ref b), (1, .ref x1), (2, .ref h), (3, .ref x3), (4, .ref x4), (5, .int x5)] → wpL_3201 (K.2.2 0) 1200048 5501818 N xs J28 x1 x3 x4 x5 X F R L G kc ks → W p l e room_1 s m #[Value.ref b] below meth c H locs kc ks (lw_Z below #[Value.ref b] s) (F0 m 3201 ls []) := by
  have hbA : ¬ hA X0 s.heap.size b := fun z => Nat.not_lt.mpr (hA0 b z) hbl
  intro x1 x3 x4 x5 X F R L G kc ks H locs ls hP hM hD hS hk hl hw
  unfold wpL_3201 at hw
  refine lv_goto (tgt := 3714) hF.1 hF.2.1 dL_law_3201 (by decide) ?_
  obtain ⟨x5_1287, ex5_1287⟩ : ∃ y : Int32, y = x5 + 5 := ⟨_, rfl⟩
  have hw := hw x5_1287 ex5_1287
  refine lv_iinc (v := x5_1287) (lv' := [(5, .int x5_1287), (0, .ref b), (1, .ref x1), (2, .ref h), (3, .ref x3), (4, .ref x4)]) hF.1 hF.2.1 dL_law_3714 hl (k := 5) rfl (by rw [ex5_1287]; rfl) (by decide) rfl (fun ls hl => ?_)
  refine lv_goto (tgt := 28) hF.1 hF.2.1 dL_law_3717 (by decide) ?_
  exact hJ28 x1 x3 x4 x5_1287 X F R L G kc ks _ _ ls hP hM hD hS hk (lv_sub hl [1, 2, 3, 4, 5, 0] rfl) hw
def wpL_3127 (E mc ms N : Nat) (xs : Nat → Int32) (J28 : Nat → Nat → Nat → Int32 → hX → mF → mR → mL → mG → Nat → Nat → Prop) (x1 : Nat) (x3 : Nat) (x4 : Nat) (x5 : Int32) (X : hX) (F : mF) (R : mR) (L : mL) (G : mG) (kc ks : Nat) : Prop := (vp_in (x5 + 1) N ∧ (∃ mc_1291 ms_1292 : Nat, kc + mc_1291 ≤ mc ∧ ks + ms_1292 ≤ ms ∧ wpX0_degrees (fun r_1289 X_1290 => (vp_in (x5 + 1) N ∧ wpX3_degrees (fun r_1296 F_1297 R_1298 L_1299 G_1300 => wpX3_thrown (fun r_1301 F_1302 R_1303 L_1304 G_1305 => ((r_1301 = r_1289 → ((r_1289 = 0 → alF X_1290 x4 0 (fun v_1312 => (((Op.cmpValue (FP.fcmp v_1312 r_1296) .l) = 0 → wpL_3201 E mc ms N xs J28 x1 x3 x4 x5 X_1290 F_1302 R_1303 L_1304 G_1305 (kc + mc_1291) (ks + ms_1292)) ∧ (¬ (Op.cmpValue (FP.fcmp v_1312 r_1296) .l) = 0 → alF X_1290 x4 0 (fun v_1318 => alF X_1290 x4 0 (fun v_1323 => (((Op.cmpValue (FP.fcmp v_1318 v_1323) .l) = 0 → (0 : Int32) = 1) ∧ (¬ (Op.cmpValue (FP.fcmp v_1318 v_1323) .l) = 0 → (((Op.cmpValue (FP.fcmp r_1296 r_1296) .l) = 0 → (0 : Int32) = 1) ∧ (¬ (Op.cmpValue (FP.fcmp r_1296 r_1296) .l) = 0 → wpL_3201 E mc ms N xs J28 x1 x3 x4 x5 X_1290 F_1302 R_1303 L_1304 G_1305 (kc + mc_1291) (ks + ms_1292))))))))))) ∧ (¬ r_1289 = 0 → wpL_3201 E mc ms N xs J28 x1 x3 x4 x5 X_1290 F_1302 R_1303 L_1304 G_1305 (kc + mc_1291) (ks + ms_1292)))) ∧ (¬ r_1301 = r_1289 → (0 : Int32) = 1))) F_1297 R_1298 L_1299 G_1300) F R L G (xs (Int32.toNatClampNeg (x5 + 1))))) (fun _ _ _ => False) E mc_1291 ms_1292 X x1 (xs (Int32.toNatClampNeg (x5 + 1))) x4))
set_option maxHeartbeats 8000000 in
theorem Tl3127 {p : Program} {e : Env} {s : State} {m : MethodId} {below : List Frame} {meth : Method} {c : Code} (l : Launch) (hlt : l.stackTraces = false) (K : HK) {b N : Nat} {xs : Nat → Int32} (X0 : hX) (hF : CallFix p m c code 9 s #[Value.ref b] lw_all R_law) (hr : meth.sig.returnType = ret) (hlocks : meth.locks = false) (hC : HC K X0 s) (hx : va_X b N xs s s.heap) (hbl : b < s.heap.size) (hA0 : ∀ q, hA X0 s.heap.size q → s.heap.size ≤ q) (h : Nat) (a : Nat → Nat) (hap : mAp h a) (hmA : ∀ q, mA h a q → hA X0 s.heap.size q) (J28 : Nat → Nat → Nat → Int32 → hX → mF → mR → mL → mG → Nat → Nat → Prop) (hJ28 : ∀ (x1 : Nat) (x3 : Nat) (x4 : Nat) (x5 : Int32) (X : hX) (F : mF) (R : mR) (L : mL) (G : mG) (kc ks : Nat) (H : Heap) (locs : List Loc) (ls : Array Slot), hI K X0 s.heap.size X H → mP K.1 h a F R L G H → hdis X h a → va_S (hA X0 s.heap.size) s.heap H locs → kc ≤ 1200048 ∧ ks ≤ 5501818 → lv_has ls 9 [(0, .ref b), (1, .ref x1), (2, .ref h), (3, .ref x3), (4, .ref x4), (5, .int x5)] → J28 x1 x3 x4 x5 X F R L G kc ks → W p l e room_1 s m #[Value.ref b] below meth c H locs kc ks (lw_Z below #[Value.ref b] s) (F0 m 28 ls [])) : ∀ (x1 : Nat) (x3 : Nat) (x4 : Nat) (x5 : Int32) (X : hX) (F : mF) (R : mR) (L : mL) (G : mG) (kc ks : Nat) (H : Heap) (locs : List Loc) (ls : Array Slot), hI K X0 s.heap.size X H → mP K.1 h a F R L G H → hdis X h a → va_S (hA X0 s.heap.size) s.heap H locs → kc ≤ 1200048 ∧ ks ≤ 5501818 → lv_has ls 9 [(0, .ref b), (1, .ref x1), (2, .ref h), (3, .ref x3), (4, .ref x4), (5, .int x5)] → wpL_3127 (K.2.2 0) 1200048 5501818 N xs J28 x1 x3 x4 x5 X F R L G kc ks → W p l e room_1 s m #[Value.ref b] below meth c H locs kc ks (lw_Z below #[Value.ref b] s) (F0 m 3127 ls []) := by
  have hbA : ¬ hA X0 s.heap.size b := fun z => Nat.not_lt.mpr (hA0 b z) hbl
  intro x1 x3 x4 x5 X F R L G kc ks H locs ls hP hM hD hS hk hl hw
  unfold wpL_3127 at hw
  refine lv_aload_n hF.1 hF.2.1 dL_law_3127 rfl (lv_at hl 1 rfl) ?_
  refine lv_aload_n hF.1 hF.2.1 dL_law_3128 rfl (lv_at hl 0 rfl) ?_
  refine lv_iload hF.1 hF.2.1 dL_law_3129 (lv_at hl 5 rfl) ?_
  refine lv_iconst (v := 1) hF.1 hF.2.1 dL_law_3131 (by decide) ?_
  refine lv_iadd hF.1 hF.2.1 dL_law_3132 ?_
  obtain ⟨h_1288, hw⟩ := hw
  refine va_sld hF.1 hF.2.1 hx hbl hbA hS h_1288 dL_law_3133 ?_
  refine lv_aload hF.1 hF.2.1 dL_law_3134 (lv_at hl 4 rfl) ?_
  obtain ⟨mc_1291, ms_1292, hc_1293, hs_1294, hw⟩ := hw
  refine lkx_i (hrx_SX (As := [.ref x1, .int (xs (Int32.toNatClampNeg (x5 + 1))), .ref x4]) (rest := []) hF hl.1 hC hP hS (metX0_degrees l hlt K mc_1291 ms_1292 _ _ _ X x1 (xs (Int32.toNatClampNeg (x5 + 1))) x4) (vx_cwSW 3 hF.2.2.2.2 (lw_SW q1458 q1459 q74 q1460) rfl rfl rfl (by decide +kernel) ⟨Nat.le_of_ble_eq_true rfl, Nat.le_of_ble_eq_true rfl⟩) hw rfl rfl (Nat.le_of_ble_eq_true rfl) dL_law_3136 ⟨hc_1293, hs_1294⟩) hP hM hD hS (fun r_1289 X_1290 H locs hw hP hM hD hS => ?_)
  refine lv_istore (lv' := [(6, .int r_1289), (0, .ref b), (1, .ref x1), (2, .ref h), (3, .ref x3), (4, .ref x4), (5, .int x5)]) hF.1 hF.2.1 dL_law_3139 hl (by decide) rfl (fun ls hl => ?_)
  refine lv_aload_n hF.1 hF.2.1 dL_law_3141 rfl (lv_at hl 3 rfl) ?_
  refine lv_aload_n hF.1 hF.2.1 dL_law_3142 rfl (lv_at hl 1 rfl) ?_
  refine lv_iload hF.1 hF.2.1 dL_law_3143 (lv_at hl 6 rfl) ?_
  refine lv_iconst (v := 1) hF.1 hF.2.1 dL_law_3145 (by decide) ?_
  refine lv_iadd hF.1 hF.2.1 dL_law_3146 ?_
  obtain ⟨h_1295, hw⟩ := hw
  refine va_sld hF.1 hF.2.1 hx hbl hbA hS h_1295 dL_law_3147 ?_
  refine lm_f (As := [.int (xs (Int32.toNatClampNeg (x5 + 1)))]) (rest := []) hF hl.1 hC (metX3_degrees l K.1 h a hap _ F R L G (xs (Int32.toNatClampNeg (x5 + 1)))) (cwV 1 hF.2.2.2.2 (lw_V q2243 q2244 q2245 q85 q2246) rfl rfl rfl (by decide +kernel) ⟨Nat.le_of_ble_eq_true rfl, Nat.le_of_ble_eq_true rfl⟩) hP hM hD hS hmA hw rfl rfl (Nat.le_of_ble_eq_true rfl) dL_law_3148 ⟨hc_1293, hs_1294⟩ (fun r_1296 F_1297 R_1298 L_1299 G_1300 H locs hw hP hM hS => ?_)
  refine lv_fstore (lv' := [(7, .float r_1296), (6, .int r_1289), (0, .ref b), (1, .ref x1), (2, .ref h), (3, .ref x3), (4, .ref x4), (5, .int x5)]) hF.1 hF.2.1 dL_law_3151 hl (by decide) rfl (fun ls hl => ?_)
  refine lv_aload_n hF.1 hF.2.1 dL_law_3153 rfl (lv_at hl 4 rfl) ?_
  refine lm_i (As := []) (rest := []) hF hl.1 hC (metX3_thrown l K.1 h a hap _ F_1297 R_1298 L_1299 G_1300) (cwV 0 hF.2.2.2.2 (lw_V q1813 q1814 q1815 q85 q1816) rfl rfl rfl (by decide +kernel) ⟨Nat.le_of_ble_eq_true rfl, Nat.le_of_ble_eq_true rfl⟩) hP hM hD hS hmA hw rfl rfl (Nat.le_of_ble_eq_true rfl) dL_law_3154 ⟨hc_1293, hs_1294⟩ (fun r_1301 F_1302 R_1303 L_1304 G_1305 H locs hw hP hM hS => ?_)
  refine lv_iload hF.1 hF.2.1 dL_law_3157 (lv_at hl 1 rfl) ?_
  refine lv_icmp_eq (tgt := 3164) hF.1 hF.2.1 dL_law_3159 (by decide) (fun c_1306 => ?_) (fun c_1306 => ?_)
  · have hw := hw.1 c_1306
    refine lv_iload hF.1 hF.2.1 dL_law_3164 (lv_at hl 1 rfl) ?_
    refine lv_if_ne (tgt := 3201) hF.1 hF.2.1 dL_law_3166 (by decide) (fun c_1307 => ?_) (fun c_1307 => ?_)
    · have hw := hw.2 c_1307
      exact Tl3201 l hlt K X0 hF hr hlocks hC hx hbl hA0 h a hap hmA _ hJ28 x1 x3 x4 x5 X_1290 F_1302 R_1303 L_1304 G_1305 (kc + mc_1291) (ks + ms_1292) _ _ ls hP hM hD hS ⟨hc_1293, hs_1294⟩ (lv_sub hl [2, 3, 4, 5, 6, 7] rfl) hw
    · have hw := hw.1 c_1307
      refine lv_aload hF.1 hF.2.1 dL_law_3169 (lv_at hl 6 rfl) ?_
      refine lv_iconst (v := 0) hF.1 hF.2.1 dL_law_3171 (by decide) ?_
      obtain ⟨n_1308, f_1309, hx_1310, hi_1311, hw⟩ := hw
      refine x_fald hF hC hP hx_1310 hi_1311 dL_law_3172 ?_
      generalize f_1309 (Int32.toNatClampNeg 0) = v_1312 at hw ⊢
      refine lv_fload hF.1 hF.2.1 dL_law_3173 (lv_at hl 0 rfl) ?_
      refine lv_fcmp hF.1 hF.2.1 dL_law_3175 ?_
      refine lv_if_eq (tgt := 3201) hF.1 hF.2.1 dL_law_3176 (by decide) (fun c_1313 => ?_) (fun c_1313 => ?_)
      · have hw := hw.1 c_1313
        exact Tl3201 l hlt K X0 hF hr hlocks hC hx hbl hA0 h a hap hmA _ hJ28 x1 x3 x4 x5 X_1290 F_1302 R_1303 L_1304 G_1305 (kc + mc_1291) (ks + ms_1292) _ _ ls hP hM hD hS ⟨hc_1293, hs_1294⟩ (lv_sub hl [2, 3, 4, 5, 6, 7] rfl) hw
      · have hw := hw.2 c_1313
        refine lv_aload hF.1 hF.2.1 dL_law_3179 (lv_at hl 6 rfl) ?_
        refine lv_iconst (v := 0) hF.1 hF.2.1 dL_law_3181 (by decide) ?_
        obtain ⟨n_1314, f_1315, hx_1316, hi_1317, hw⟩ := hw
        refine x_fald hF hC hP hx_1316 hi_1317 dL_law_3182 ?_
        generalize f_1315 (Int32.toNatClampNeg 0) = v_1318 at hw ⊢
        refine lv_aload hF.1 hF.2.1 dL_law_3183 (lv_at hl 6 rfl) ?_
        refine lv_iconst (v := 0) hF.1 hF.2.1 dL_law_3185 (by decide) ?_
        obtain ⟨n_1319, f_1320, hx_1321, hi_1322, hw⟩ := hw
        refine x_fald hF hC hP hx_1321 hi_1322 dL_law_3186 ?_
        generalize f_1320 (Int32.toNatClampNeg 0) = v_1323 at hw ⊢
        refine lv_fcmp hF.1 hF.2.1 dL_law_3187 ?_
        refine lv_if_eq (tgt := 3199) hF.1 hF.2.1 dL_law_3188 (by decide) (fun c_1324 => ?_) (fun c_1324 => ?_)
        · have hw := hw.1 c_1324
          refine lv_iconst (v := 0) hF.1 hF.2.1 dL_law_3199 (by decide) ?_
          exact l_end hF hr hlocks hA0 hS ⟨hc_1293, hs_1294⟩ dL_law_3200 hw
        · have hw := hw.2 c_1324
          refine lv_fload hF.1 hF.2.1 dL_law_3191 (lv_at hl 0 rfl) ?_
          refine lv_fload hF.1 hF.2.1 dL_law_3193 (lv_at hl 0 rfl) ?_
          refine lv_fcmp hF.1 hF.2.1 dL_law_3195 ?_
          refine lv_if_ne (tgt := 3201) hF.1 hF.2.1 dL_law_3196 (by decide) (fun c_1325 => ?_) (fun c_1325 => ?_)
          · have hw := hw.2 c_1325
            exact Tl3201 l hlt K X0 hF hr hlocks hC hx hbl hA0 h a hap hmA _ hJ28 x1 x3 x4 x5 X_1290 F_1302 R_1303 L_1304 G_1305 (kc + mc_1291) (ks + ms_1292) _ _ ls hP hM hD hS ⟨hc_1293, hs_1294⟩ (lv_sub hl [2, 3, 4, 5, 6, 7] rfl) hw
          · have hw := hw.1 c_1325
            refine lv_iconst (v := 0) hF.1 hF.2.1 dL_law_3199 (by decide) ?_
            exact l_end hF hr hlocks hA0 hS ⟨hc_1293, hs_1294⟩ dL_law_3200 hw
  · have hw := hw.2 c_1306
    refine lv_iconst (v := 0) hF.1 hF.2.1 dL_law_3162 (by decide) ?_
    exact l_end hF hr hlocks hA0 hS ⟨hc_1293, hs_1294⟩ dL_law_3163 hw
def wpL_3257 (E mc ms N : Nat) (xs : Nat → Int32) (J28 : Nat → Nat → Nat → Int32 → hX → mF → mR → mL → mG → Nat → Nat → Prop) (x1 : Nat) (x3 : Nat) (x4 : Nat) (x5 : Int32) (X : hX) (F : mF) (R : mR) (L : mL) (G : mG) (kc ks : Nat) : Prop := (∀ x5_1326 : Int32, x5_1326 = x5 + 5 → J28 x1 x3 x4 x5_1326 X F R L G kc ks)
set_option maxHeartbeats 8000000 in
theorem Tl3257 {p : Program} {e : Env} {s : State} {m : MethodId} {below : List Frame} {meth : Method} {c : Code} (l : Launch) (hlt : l.stackTraces = false) (K : HK) {b N : Nat} {xs : Nat → Int32} (X0 : hX) (hF : CallFix p m c code 9 s #[Value.ref b] lw_all R_law) (hr : meth.sig.returnType = ret) (hlocks : meth.locks = false) (hC : HC K X0 s) (hx : va_X b N xs s s.heap) (hbl : b < s.heap.size) (hA0 : ∀ q, hA X0 s.heap.size q → s.heap.size ≤ q) (h : Nat) (a : Nat → Nat) (hap : mAp h a) (hmA : ∀ q, mA h a q → hA X0 s.heap.size q) (J28 : Nat → Nat → Nat → Int32 → hX → mF → mR → mL → mG → Nat → Nat → Prop) (hJ28 : ∀ (x1 : Nat) (x3 : Nat) (x4 : Nat) (x5 : Int32) (X : hX) (F : mF) (R : mR) (L : mL) (G : mG) (kc ks : Nat) (H : Heap) (locs : List Loc) (ls : Array Slot), hI K X0 s.heap.size X H → mP K.1 h a F R L G H → hdis X h a → va_S (hA X0 s.heap.size) s.heap H locs → kc ≤ 1200048 ∧ ks ≤ 5501818 → lv_has ls 9 [(0, .ref b), (1, .ref x1), (2, .ref h), (3, .ref x3), (4, .ref x4), (5, .int x5)] → J28 x1 x3 x4 x5 X F R L G kc ks → W p l e room_1 s m #[Value.ref b] below meth c H locs kc ks (lw_Z below #[Value.ref b] s) (F0 m 28 ls [])) : ∀ (x1 : Nat) (x3 : Nat) (x4 : Nat) (x5 : Int32) (X : hX) (F : mF) (R : mR) (L : mL) (G : mG) (kc ks : Nat) (H : Heap) (locs : List Loc) (ls : Array Slot), hI K X0 s.heap.size X H → mP K.1 h a F R L G H → hdis X h a → va_S (hA X0 s.heap.size) s.heap H locs → kc ≤ 1200048 ∧ ks ≤ 5501818 → lv_has ls 9 [(0, .ref b), (1, .ref x1), (2, .ref h), (3, .ref x3), (4, .ref x4), (5, .int x5)] → wpL_3257 (K.2.2 0) 1200048 5501818 N xs J28 x1 x3 x4 x5 X F R L G kc ks → W p l e room_1 s m #[Value.ref b] below meth c H locs kc ks (lw_Z below #[Value.ref b] s) (F0 m 3257 ls []) := by
  have hbA : ¬ hA X0 s.heap.size b := fun z => Nat.not_lt.mpr (hA0 b z) hbl
  intro x1 x3 x4 x5 X F R L G kc ks H locs ls hP hM hD hS hk hl hw
  unfold wpL_3257 at hw
  refine lv_goto (tgt := 3714) hF.1 hF.2.1 dL_law_3257 (by decide) ?_
  obtain ⟨x5_1326, ex5_1326⟩ : ∃ y : Int32, y = x5 + 5 := ⟨_, rfl⟩
  have hw := hw x5_1326 ex5_1326
  refine lv_iinc (v := x5_1326) (lv' := [(5, .int x5_1326), (0, .ref b), (1, .ref x1), (2, .ref h), (3, .ref x3), (4, .ref x4)]) hF.1 hF.2.1 dL_law_3714 hl (k := 5) rfl (by rw [ex5_1326]; rfl) (by decide) rfl (fun ls hl => ?_)
  refine lv_goto (tgt := 28) hF.1 hF.2.1 dL_law_3717 (by decide) ?_
  exact hJ28 x1 x3 x4 x5_1326 X F R L G kc ks _ _ ls hP hM hD hS hk (lv_sub hl [1, 2, 3, 4, 5, 0] rfl) hw
def wpL_3204 (E mc ms N : Nat) (xs : Nat → Int32) (J28 : Nat → Nat → Nat → Int32 → hX → mF → mR → mL → mG → Nat → Nat → Prop) (x1 : Nat) (x3 : Nat) (x4 : Nat) (x5 : Int32) (X : hX) (F : mF) (R : mR) (L : mL) (G : mG) (kc ks : Nat) : Prop := (vp_in (x5 + 1) N ∧ (∃ mc_1330 ms_1331 : Nat, kc + mc_1330 ≤ mc ∧ ks + ms_1331 ≤ ms ∧ wpX0_degreeBits (fun r_1328 X_1329 => (vp_in (x5 + 1) N ∧ wpX3_degreeBits (fun r_1335 F_1336 R_1337 L_1338 G_1339 => wpX3_thrown (fun r_1340 F_1341 R_1342 L_1343 G_1344 => ((r_1340 = r_1328 → ((r_1328 = 0 → alJ X_1329 x3 0 (fun v_1351 => ((v_1351 = (Int32.toInt64 r_1335) → wpL_3257 E mc ms N xs J28 x1 x3 x4 x5 X_1329 F_1341 R_1342 L_1343 G_1344 (kc + mc_1330) (ks + ms_1331)) ∧ (¬ v_1351 = (Int32.toInt64 r_1335) → (0 : Int32) = 1)))) ∧ (¬ r_1328 = 0 → wpL_3257 E mc ms N xs J28 x1 x3 x4 x5 X_1329 F_1341 R_1342 L_1343 G_1344 (kc + mc_1330) (ks + ms_1331)))) ∧ (¬ r_1340 = r_1328 → (0 : Int32) = 1))) F_1336 R_1337 L_1338 G_1339) F R L G (xs (Int32.toNatClampNeg (x5 + 1))))) (fun _ _ _ => False) E mc_1330 ms_1331 X x1 (xs (Int32.toNatClampNeg (x5 + 1))) x3))
set_option maxHeartbeats 8000000 in
theorem Tl3204 {p : Program} {e : Env} {s : State} {m : MethodId} {below : List Frame} {meth : Method} {c : Code} (l : Launch) (hlt : l.stackTraces = false) (K : HK) {b N : Nat} {xs : Nat → Int32} (X0 : hX) (hF : CallFix p m c code 9 s #[Value.ref b] lw_all R_law) (hr : meth.sig.returnType = ret) (hlocks : meth.locks = false) (hC : HC K X0 s) (hx : va_X b N xs s s.heap) (hbl : b < s.heap.size) (hA0 : ∀ q, hA X0 s.heap.size q → s.heap.size ≤ q) (h : Nat) (a : Nat → Nat) (hap : mAp h a) (hmA : ∀ q, mA h a q → hA X0 s.heap.size q) (J28 : Nat → Nat → Nat → Int32 → hX → mF → mR → mL → mG → Nat → Nat → Prop) (hJ28 : ∀ (x1 : Nat) (x3 : Nat) (x4 : Nat) (x5 : Int32) (X : hX) (F : mF) (R : mR) (L : mL) (G : mG) (kc ks : Nat) (H : Heap) (locs : List Loc) (ls : Array Slot), hI K X0 s.heap.size X H → mP K.1 h a F R L G H → hdis X h a → va_S (hA X0 s.heap.size) s.heap H locs → kc ≤ 1200048 ∧ ks ≤ 5501818 → lv_has ls 9 [(0, .ref b), (1, .ref x1), (2, .ref h), (3, .ref x3), (4, .ref x4), (5, .int x5)] → J28 x1 x3 x4 x5 X F R L G kc ks → W p l e room_1 s m #[Value.ref b] below meth c H locs kc ks (lw_Z below #[Value.ref b] s) (F0 m 28 ls [])) : ∀ (x1 : Nat) (x3 : Nat) (x4 : Nat) (x5 : Int32) (X : hX) (F : mF) (R : mR) (L : mL) (G : mG) (kc ks : Nat) (H : Heap) (locs : List Loc) (ls : Array Slot), hI K X0 s.heap.size X H → mP K.1 h a F R L G H → hdis X h a → va_S (hA X0 s.heap.size) s.heap H locs → kc ≤ 1200048 ∧ ks ≤ 5501818 → lv_has ls 9 [(0, .ref b), (1, .ref x1), (2, .ref h), (3, .ref x3), (4, .ref x4), (5, .int x5)] → wpL_3204 (K.2.2 0) 1200048 5501818 N xs J28 x1 x3 x4 x5 X F R L G kc ks → W p l e room_1 s m #[Value.ref b] below meth c H locs kc ks (lw_Z below #[Value.ref b] s) (F0 m 3204 ls []) := by
  have hbA : ¬ hA X0 s.heap.size b := fun z => Nat.not_lt.mpr (hA0 b z) hbl
  intro x1 x3 x4 x5 X F R L G kc ks H locs ls hP hM hD hS hk hl hw
  unfold wpL_3204 at hw
  refine lv_aload_n hF.1 hF.2.1 dL_law_3204 rfl (lv_at hl 1 rfl) ?_
  refine lv_aload_n hF.1 hF.2.1 dL_law_3205 rfl (lv_at hl 0 rfl) ?_
  refine lv_iload hF.1 hF.2.1 dL_law_3206 (lv_at hl 5 rfl) ?_
  refine lv_iconst (v := 1) hF.1 hF.2.1 dL_law_3208 (by decide) ?_
  refine lv_iadd hF.1 hF.2.1 dL_law_3209 ?_
  obtain ⟨h_1327, hw⟩ := hw
  refine va_sld hF.1 hF.2.1 hx hbl hbA hS h_1327 dL_law_3210 ?_
  refine lv_aload_n hF.1 hF.2.1 dL_law_3211 rfl (lv_at hl 3 rfl) ?_
  obtain ⟨mc_1330, ms_1331, hc_1332, hs_1333, hw⟩ := hw
  refine lkx_i (hrx_SX (As := [.ref x1, .int (xs (Int32.toNatClampNeg (x5 + 1))), .ref x3]) (rest := []) hF hl.1 hC hP hS (metX0_degreeBits l hlt K mc_1330 ms_1331 _ _ _ X x1 (xs (Int32.toNatClampNeg (x5 + 1))) x3) (vx_cwSW 3 hF.2.2.2.2 (lw_SW q1467 q1468 q74 q1469) rfl rfl rfl (by decide +kernel) ⟨Nat.le_of_ble_eq_true rfl, Nat.le_of_ble_eq_true rfl⟩) hw rfl rfl (Nat.le_of_ble_eq_true rfl) dL_law_3212 ⟨hc_1332, hs_1333⟩) hP hM hD hS (fun r_1328 X_1329 H locs hw hP hM hD hS => ?_)
  refine lv_istore (lv' := [(6, .int r_1328), (0, .ref b), (1, .ref x1), (2, .ref h), (3, .ref x3), (4, .ref x4), (5, .int x5)]) hF.1 hF.2.1 dL_law_3215 hl (by decide) rfl (fun ls hl => ?_)
  refine lv_aload_n hF.1 hF.2.1 dL_law_3217 rfl (lv_at hl 3 rfl) ?_
  refine lv_aload_n hF.1 hF.2.1 dL_law_3218 rfl (lv_at hl 1 rfl) ?_
  refine lv_iload hF.1 hF.2.1 dL_law_3219 (lv_at hl 6 rfl) ?_
  refine lv_iconst (v := 1) hF.1 hF.2.1 dL_law_3221 (by decide) ?_
  refine lv_iadd hF.1 hF.2.1 dL_law_3222 ?_
  obtain ⟨h_1334, hw⟩ := hw
  refine va_sld hF.1 hF.2.1 hx hbl hbA hS h_1334 dL_law_3223 ?_
  refine lm_i (As := [.int (xs (Int32.toNatClampNeg (x5 + 1)))]) (rest := []) hF hl.1 hC (metX3_degreeBits l K.1 h a hap _ F R L G (xs (Int32.toNatClampNeg (x5 + 1)))) (cwV 1 hF.2.2.2.2 (lw_V q2248 q2249 q2250 q85 q2251) rfl rfl rfl (by decide +kernel) ⟨Nat.le_of_ble_eq_true rfl, Nat.le_of_ble_eq_true rfl⟩) hP hM hD hS hmA hw rfl rfl (Nat.le_of_ble_eq_true rfl) dL_law_3224 ⟨hc_1332, hs_1333⟩ (fun r_1335 F_1336 R_1337 L_1338 G_1339 H locs hw hP hM hS => ?_)
  refine lv_istore (lv' := [(7, .int r_1335), (6, .int r_1328), (0, .ref b), (1, .ref x1), (2, .ref h), (3, .ref x3), (4, .ref x4), (5, .int x5)]) hF.1 hF.2.1 dL_law_3227 hl (by decide) rfl (fun ls hl => ?_)
  refine lv_aload_n hF.1 hF.2.1 dL_law_3229 rfl (lv_at hl 4 rfl) ?_
  refine lm_i (As := []) (rest := []) hF hl.1 hC (metX3_thrown l K.1 h a hap _ F_1336 R_1337 L_1338 G_1339) (cwV 0 hF.2.2.2.2 (lw_V q1813 q1814 q1815 q85 q1816) rfl rfl rfl (by decide +kernel) ⟨Nat.le_of_ble_eq_true rfl, Nat.le_of_ble_eq_true rfl⟩) hP hM hD hS hmA hw rfl rfl (Nat.le_of_ble_eq_true rfl) dL_law_3230 ⟨hc_1332, hs_1333⟩ (fun r_1340 F_1341 R_1342 L_1343 G_1344 H locs hw hP hM hS => ?_)
  refine lv_iload hF.1 hF.2.1 dL_law_3233 (lv_at hl 1 rfl) ?_
  refine lv_icmp_eq (tgt := 3240) hF.1 hF.2.1 dL_law_3235 (by decide) (fun c_1345 => ?_) (fun c_1345 => ?_)
  · have hw := hw.1 c_1345
    refine lv_iload hF.1 hF.2.1 dL_law_3240 (lv_at hl 1 rfl) ?_
    refine lv_if_ne (tgt := 3257) hF.1 hF.2.1 dL_law_3242 (by decide) (fun c_1346 => ?_) (fun c_1346 => ?_)
    · have hw := hw.2 c_1346
      exact Tl3257 l hlt K X0 hF hr hlocks hC hx hbl hA0 h a hap hmA _ hJ28 x1 x3 x4 x5 X_1329 F_1341 R_1342 L_1343 G_1344 (kc + mc_1330) (ks + ms_1331) _ _ ls hP hM hD hS ⟨hc_1332, hs_1333⟩ (lv_sub hl [2, 3, 4, 5, 6, 7] rfl) hw
    · have hw := hw.1 c_1346
      refine lv_aload_n hF.1 hF.2.1 dL_law_3245 rfl (lv_at hl 5 rfl) ?_
      refine lv_iconst (v := 0) hF.1 hF.2.1 dL_law_3246 (by decide) ?_
      obtain ⟨n_1347, f_1348, hx_1349, hi_1350, hw⟩ := hw
      refine x_lald hF hC hP hx_1349 hi_1350 dL_law_3247 ?_
      generalize f_1348 (Int32.toNatClampNeg 0) = v_1351 at hw ⊢
      refine lv_iload hF.1 hF.2.1 dL_law_3248 (lv_at hl 0 rfl) ?_
      refine lv_i2l hF.1 hF.2.1 dL_law_3250 rfl ?_
      refine W.lcmp hF.1 hF.2.1 dL_law_3251 ?_
      refine lv_if_eq (tgt := 3257) hF.1 hF.2.1 dL_law_3252 (by decide) (fun c_1352 => ?_) (fun c_1352 => ?_)
      · rw [lc_eq] at c_1352
        have hw := hw.1 c_1352
        exact Tl3257 l hlt K X0 hF hr hlocks hC hx hbl hA0 h a hap hmA _ hJ28 x1 x3 x4 x5 X_1329 F_1341 R_1342 L_1343 G_1344 (kc + mc_1330) (ks + ms_1331) _ _ ls hP hM hD hS ⟨hc_1332, hs_1333⟩ (lv_sub hl [2, 3, 4, 5, 6, 7] rfl) hw
      · rw [lc_eq] at c_1352
        have hw := hw.2 c_1352
        refine lv_iconst (v := 0) hF.1 hF.2.1 dL_law_3255 (by decide) ?_
        exact l_end hF hr hlocks hA0 hS ⟨hc_1332, hs_1333⟩ dL_law_3256 hw
  · have hw := hw.2 c_1345
    refine lv_iconst (v := 0) hF.1 hF.2.1 dL_law_3238 (by decide) ?_
    exact l_end hF hr hlocks hA0 hS ⟨hc_1332, hs_1333⟩ dL_law_3239 hw
def wpL_3313 (E mc ms N : Nat) (xs : Nat → Int32) (J28 : Nat → Nat → Nat → Int32 → hX → mF → mR → mL → mG → Nat → Nat → Prop) (x1 : Nat) (x3 : Nat) (x4 : Nat) (x5 : Int32) (X : hX) (F : mF) (R : mR) (L : mL) (G : mG) (kc ks : Nat) : Prop := (∀ x5_1353 : Int32, x5_1353 = x5 + 5 → J28 x1 x3 x4 x5_1353 X F R L G kc ks)
set_option maxHeartbeats 8000000 in
theorem Tl3313 {p : Program} {e : Env} {s : State} {m : MethodId} {below : List Frame} {meth : Method} {c : Code} (l : Launch) (hlt : l.stackTraces = false) (K : HK) {b N : Nat} {xs : Nat → Int32} (X0 : hX) (hF : CallFix p m c code 9 s #[Value.ref b] lw_all R_law) (hr : meth.sig.returnType = ret) (hlocks : meth.locks = false) (hC : HC K X0 s) (hx : va_X b N xs s s.heap) (hbl : b < s.heap.size) (hA0 : ∀ q, hA X0 s.heap.size q → s.heap.size ≤ q) (h : Nat) (a : Nat → Nat) (hap : mAp h a) (hmA : ∀ q, mA h a q → hA X0 s.heap.size q) (J28 : Nat → Nat → Nat → Int32 → hX → mF → mR → mL → mG → Nat → Nat → Prop) (hJ28 : ∀ (x1 : Nat) (x3 : Nat) (x4 : Nat) (x5 : Int32) (X : hX) (F : mF) (R : mR) (L : mL) (G : mG) (kc ks : Nat) (H : Heap) (locs : List Loc) (ls : Array Slot), hI K X0 s.heap.size X H → mP K.1 h a F R L G H → hdis X h a → va_S (hA X0 s.heap.size) s.heap H locs → kc ≤ 1200048 ∧ ks ≤ 5501818 → lv_has ls 9 [(0, .ref b), (1, .ref x1), (2, .ref h), (3, .ref x3), (4, .ref x4), (5, .int x5)] → J28 x1 x3 x4 x5 X F R L G kc ks → W p l e room_1 s m #[Value.ref b] below meth c H locs kc ks (lw_Z below #[Value.ref b] s) (F0 m 28 ls [])) : ∀ (x1 : Nat) (x3 : Nat) (x4 : Nat) (x5 : Int32) (X : hX) (F : mF) (R : mR) (L : mL) (G : mG) (kc ks : Nat) (H : Heap) (locs : List Loc) (ls : Array Slot), hI K X0 s.heap.size X H → mP K.1 h a F R L G H → hdis X h a → va_S (hA X0 s.heap.size) s.heap H locs → kc ≤ 1200048 ∧ ks ≤ 5501818 → lv_has ls 9 [(0, .ref b), (1, .ref x1), (2, .ref h), (3, .ref x3), (4, .ref x4), (5, .int x5)] → wpL_3313 (K.2.2 0) 1200048 5501818 N xs J28 x1 x3 x4 x5 X F R L G kc ks → W p l e room_1 s m #[Value.ref b] below meth c H locs kc ks (lw_Z below #[Value.ref b] s) (F0 m 3313 ls []) := by
  have hbA : ¬ hA X0 s.heap.size b := fun z => Nat.not_lt.mpr (hA0 b z) hbl
  intro x1 x3 x4 x5 X F R L G kc ks H locs ls hP hM hD hS hk hl hw
  unfold wpL_3313 at hw
  refine lv_goto (tgt := 3714) hF.1 hF.2.1 dL_law_3313 (by decide) ?_
  obtain ⟨x5_1353, ex5_1353⟩ : ∃ y : Int32, y = x5 + 5 := ⟨_, rfl⟩
  have hw := hw x5_1353 ex5_1353
  refine lv_iinc (v := x5_1353) (lv' := [(5, .int x5_1353), (0, .ref b), (1, .ref x1), (2, .ref h), (3, .ref x3), (4, .ref x4)]) hF.1 hF.2.1 dL_law_3714 hl (k := 5) rfl (by rw [ex5_1353]; rfl) (by decide) rfl (fun ls hl => ?_)
  refine lv_goto (tgt := 28) hF.1 hF.2.1 dL_law_3717 (by decide) ?_
  exact hJ28 x1 x3 x4 x5_1353 X F R L G kc ks _ _ ls hP hM hD hS hk (lv_sub hl [1, 2, 3, 4, 5, 0] rfl) hw
def wpL_3260 (E mc ms N : Nat) (xs : Nat → Int32) (J28 : Nat → Nat → Nat → Int32 → hX → mF → mR → mL → mG → Nat → Nat → Prop) (x1 : Nat) (x3 : Nat) (x4 : Nat) (x5 : Int32) (X : hX) (F : mF) (R : mR) (L : mL) (G : mG) (kc ks : Nat) : Prop := (vp_in (x5 + 1) N ∧ (∃ mc_1357 ms_1358 : Nat, kc + mc_1357 ≤ mc ∧ ks + ms_1358 ≤ ms ∧ wpX0_bestTrain (fun r_1355 X_1356 => (vp_in (x5 + 1) N ∧ wpX3_bestTrain (fun r_1362 F_1363 R_1364 L_1365 G_1366 => wpX3_thrown (fun r_1367 F_1368 R_1369 L_1370 G_1371 => ((r_1367 = r_1355 → ((r_1355 = 0 → alJ X_1356 x3 0 (fun v_1378 => ((v_1378 = (Int32.toInt64 r_1362) → wpL_3313 E mc ms N xs J28 x1 x3 x4 x5 X_1356 F_1368 R_1369 L_1370 G_1371 (kc + mc_1357) (ks + ms_1358)) ∧ (¬ v_1378 = (Int32.toInt64 r_1362) → (0 : Int32) = 1)))) ∧ (¬ r_1355 = 0 → wpL_3313 E mc ms N xs J28 x1 x3 x4 x5 X_1356 F_1368 R_1369 L_1370 G_1371 (kc + mc_1357) (ks + ms_1358)))) ∧ (¬ r_1367 = r_1355 → (0 : Int32) = 1))) F_1363 R_1364 L_1365 G_1366) F R L G (xs (Int32.toNatClampNeg (x5 + 1))))) (fun _ _ _ => False) E mc_1357 ms_1358 X x1 (xs (Int32.toNatClampNeg (x5 + 1))) x3))
set_option maxHeartbeats 8000000 in
theorem Tl3260 {p : Program} {e : Env} {s : State} {m : MethodId} {below : List Frame} {meth : Method} {c : Code} (l : Launch) (hlt : l.stackTraces = false) (K : HK) {b N : Nat} {xs : Nat → Int32} (X0 : hX) (hF : CallFix p m c code 9 s #[Value.ref b] lw_all R_law) (hr : meth.sig.returnType = ret) (hlocks : meth.locks = false) (hC : HC K X0 s) (hx : va_X b N xs s s.heap) (hbl : b < s.heap.size) (hA0 : ∀ q, hA X0 s.heap.size q → s.heap.size ≤ q) (h : Nat) (a : Nat → Nat) (hap : mAp h a) (hmA : ∀ q, mA h a q → hA X0 s.heap.size q) (J28 : Nat → Nat → Nat → Int32 → hX → mF → mR → mL → mG → Nat → Nat → Prop) (hJ28 : ∀ (x1 : Nat) (x3 : Nat) (x4 : Nat) (x5 : Int32) (X : hX) (F : mF) (R : mR) (L : mL) (G : mG) (kc ks : Nat) (H : Heap) (locs : List Loc) (ls : Array Slot), hI K X0 s.heap.size X H → mP K.1 h a F R L G H → hdis X h a → va_S (hA X0 s.heap.size) s.heap H locs → kc ≤ 1200048 ∧ ks ≤ 5501818 → lv_has ls 9 [(0, .ref b), (1, .ref x1), (2, .ref h), (3, .ref x3), (4, .ref x4), (5, .int x5)] → J28 x1 x3 x4 x5 X F R L G kc ks → W p l e room_1 s m #[Value.ref b] below meth c H locs kc ks (lw_Z below #[Value.ref b] s) (F0 m 28 ls [])) : ∀ (x1 : Nat) (x3 : Nat) (x4 : Nat) (x5 : Int32) (X : hX) (F : mF) (R : mR) (L : mL) (G : mG) (kc ks : Nat) (H : Heap) (locs : List Loc) (ls : Array Slot), hI K X0 s.heap.size X H → mP K.1 h a F R L G H → hdis X h a → va_S (hA X0 s.heap.size) s.heap H locs → kc ≤ 1200048 ∧ ks ≤ 5501818 → lv_has ls 9 [(0, .ref b), (1, .ref x1), (2, .ref h), (3, .ref x3), (4, .ref x4), (5, .int x5)] → wpL_3260 (K.2.2 0) 1200048 5501818 N xs J28 x1 x3 x4 x5 X F R L G kc ks → W p l e room_1 s m #[Value.ref b] below meth c H locs kc ks (lw_Z below #[Value.ref b] s) (F0 m 3260 ls []) := by
  have hbA : ¬ hA X0 s.heap.size b := fun z => Nat.not_lt.mpr (hA0 b z) hbl
  intro x1 x3 x4 x5 X F R L G kc ks H locs ls hP hM hD hS hk hl hw
  unfold wpL_3260 at hw
  refine lv_aload_n hF.1 hF.2.1 dL_law_3260 rfl (lv_at hl 1 rfl) ?_
  refine lv_aload_n hF.1 hF.2.1 dL_law_3261 rfl (lv_at hl 0 rfl) ?_
  refine lv_iload hF.1 hF.2.1 dL_law_3262 (lv_at hl 5 rfl) ?_
  refine lv_iconst (v := 1) hF.1 hF.2.1 dL_law_3264 (by decide) ?_
  refine lv_iadd hF.1 hF.2.1 dL_law_3265 ?_
  obtain ⟨h_1354, hw⟩ := hw
  refine va_sld hF.1 hF.2.1 hx hbl hbA hS h_1354 dL_law_3266 ?_
  refine lv_aload_n hF.1 hF.2.1 dL_law_3267 rfl (lv_at hl 3 rfl) ?_
  obtain ⟨mc_1357, ms_1358, hc_1359, hs_1360, hw⟩ := hw
  refine lkx_i (hrx_SX (As := [.ref x1, .int (xs (Int32.toNatClampNeg (x5 + 1))), .ref x3]) (rest := []) hF hl.1 hC hP hS (metX0_bestTrain l hlt K mc_1357 ms_1358 _ _ _ X x1 (xs (Int32.toNatClampNeg (x5 + 1))) x3) (vx_cwSW 3 hF.2.2.2.2 (lw_SW q1485 q1486 q74 q1487) rfl rfl rfl (by decide +kernel) ⟨Nat.le_of_ble_eq_true rfl, Nat.le_of_ble_eq_true rfl⟩) hw rfl rfl (Nat.le_of_ble_eq_true rfl) dL_law_3268 ⟨hc_1359, hs_1360⟩) hP hM hD hS (fun r_1355 X_1356 H locs hw hP hM hD hS => ?_)
  refine lv_istore (lv' := [(6, .int r_1355), (0, .ref b), (1, .ref x1), (2, .ref h), (3, .ref x3), (4, .ref x4), (5, .int x5)]) hF.1 hF.2.1 dL_law_3271 hl (by decide) rfl (fun ls hl => ?_)
  refine lv_aload_n hF.1 hF.2.1 dL_law_3273 rfl (lv_at hl 3 rfl) ?_
  refine lv_aload_n hF.1 hF.2.1 dL_law_3274 rfl (lv_at hl 1 rfl) ?_
  refine lv_iload hF.1 hF.2.1 dL_law_3275 (lv_at hl 6 rfl) ?_
  refine lv_iconst (v := 1) hF.1 hF.2.1 dL_law_3277 (by decide) ?_
  refine lv_iadd hF.1 hF.2.1 dL_law_3278 ?_
  obtain ⟨h_1361, hw⟩ := hw
  refine va_sld hF.1 hF.2.1 hx hbl hbA hS h_1361 dL_law_3279 ?_
  refine lm_i (As := [.int (xs (Int32.toNatClampNeg (x5 + 1)))]) (rest := []) hF hl.1 hC (metX3_bestTrain l K.1 h a hap _ F R L G (xs (Int32.toNatClampNeg (x5 + 1)))) (cwV 1 hF.2.2.2.2 (lw_V q2253 q2254 q2255 q85 q2256) rfl rfl rfl (by decide +kernel) ⟨Nat.le_of_ble_eq_true rfl, Nat.le_of_ble_eq_true rfl⟩) hP hM hD hS hmA hw rfl rfl (Nat.le_of_ble_eq_true rfl) dL_law_3280 ⟨hc_1359, hs_1360⟩ (fun r_1362 F_1363 R_1364 L_1365 G_1366 H locs hw hP hM hS => ?_)
  refine lv_istore (lv' := [(7, .int r_1362), (6, .int r_1355), (0, .ref b), (1, .ref x1), (2, .ref h), (3, .ref x3), (4, .ref x4), (5, .int x5)]) hF.1 hF.2.1 dL_law_3283 hl (by decide) rfl (fun ls hl => ?_)
  refine lv_aload_n hF.1 hF.2.1 dL_law_3285 rfl (lv_at hl 4 rfl) ?_
  refine lm_i (As := []) (rest := []) hF hl.1 hC (metX3_thrown l K.1 h a hap _ F_1363 R_1364 L_1365 G_1366) (cwV 0 hF.2.2.2.2 (lw_V q1813 q1814 q1815 q85 q1816) rfl rfl rfl (by decide +kernel) ⟨Nat.le_of_ble_eq_true rfl, Nat.le_of_ble_eq_true rfl⟩) hP hM hD hS hmA hw rfl rfl (Nat.le_of_ble_eq_true rfl) dL_law_3286 ⟨hc_1359, hs_1360⟩ (fun r_1367 F_1368 R_1369 L_1370 G_1371 H locs hw hP hM hS => ?_)
  refine lv_iload hF.1 hF.2.1 dL_law_3289 (lv_at hl 1 rfl) ?_
  refine lv_icmp_eq (tgt := 3296) hF.1 hF.2.1 dL_law_3291 (by decide) (fun c_1372 => ?_) (fun c_1372 => ?_)
  · have hw := hw.1 c_1372
    refine lv_iload hF.1 hF.2.1 dL_law_3296 (lv_at hl 1 rfl) ?_
    refine lv_if_ne (tgt := 3313) hF.1 hF.2.1 dL_law_3298 (by decide) (fun c_1373 => ?_) (fun c_1373 => ?_)
    · have hw := hw.2 c_1373
      exact Tl3313 l hlt K X0 hF hr hlocks hC hx hbl hA0 h a hap hmA _ hJ28 x1 x3 x4 x5 X_1356 F_1368 R_1369 L_1370 G_1371 (kc + mc_1357) (ks + ms_1358) _ _ ls hP hM hD hS ⟨hc_1359, hs_1360⟩ (lv_sub hl [2, 3, 4, 5, 6, 7] rfl) hw
    · have hw := hw.1 c_1373
      refine lv_aload_n hF.1 hF.2.1 dL_law_3301 rfl (lv_at hl 5 rfl) ?_
      refine lv_iconst (v := 0) hF.1 hF.2.1 dL_law_3302 (by decide) ?_
      obtain ⟨n_1374, f_1375, hx_1376, hi_1377, hw⟩ := hw
      refine x_lald hF hC hP hx_1376 hi_1377 dL_law_3303 ?_
      generalize f_1375 (Int32.toNatClampNeg 0) = v_1378 at hw ⊢
      refine lv_iload hF.1 hF.2.1 dL_law_3304 (lv_at hl 0 rfl) ?_
      refine lv_i2l hF.1 hF.2.1 dL_law_3306 rfl ?_
      refine W.lcmp hF.1 hF.2.1 dL_law_3307 ?_
      refine lv_if_eq (tgt := 3313) hF.1 hF.2.1 dL_law_3308 (by decide) (fun c_1379 => ?_) (fun c_1379 => ?_)
      · rw [lc_eq] at c_1379
        have hw := hw.1 c_1379
        exact Tl3313 l hlt K X0 hF hr hlocks hC hx hbl hA0 h a hap hmA _ hJ28 x1 x3 x4 x5 X_1356 F_1368 R_1369 L_1370 G_1371 (kc + mc_1357) (ks + ms_1358) _ _ ls hP hM hD hS ⟨hc_1359, hs_1360⟩ (lv_sub hl [2, 3, 4, 5, 6, 7] rfl) hw
      · rw [lc_eq] at c_1379
        have hw := hw.2 c_1379
        refine lv_iconst (v := 0) hF.1 hF.2.1 dL_law_3311 (by decide) ?_
        exact l_end hF hr hlocks hA0 hS ⟨hc_1359, hs_1360⟩ dL_law_3312 hw
  · have hw := hw.2 c_1372
    refine lv_iconst (v := 0) hF.1 hF.2.1 dL_law_3294 (by decide) ?_
    exact l_end hF hr hlocks hA0 hS ⟨hc_1359, hs_1360⟩ dL_law_3295 hw
def wpL_3316 (E mc ms N : Nat) (xs : Nat → Int32) (J28 : Nat → Nat → Nat → Int32 → hX → mF → mR → mL → mG → Nat → Nat → Prop) (x1 : Nat) (x3 : Nat) (x4 : Nat) (x5 : Int32) (X : hX) (F : mF) (R : mR) (L : mL) (G : mG) (kc ks : Nat) : Prop := isO X x1 1 (wpX1_passed (fun r_1380 X_1381 => wpX3_passed (fun r_1383 F_1384 R_1385 L_1386 G_1387 => ((r_1380 = r_1383 → (∀ x5_1389 : Int32, x5_1389 = x5 + 5 → J28 x1 x3 x4 x5_1389 X_1381 F_1384 R_1385 L_1386 G_1387 kc ks)) ∧ (¬ r_1380 = r_1383 → (0 : Int32) = 1))) F R L G) E X x1)
set_option maxHeartbeats 8000000 in
theorem Tl3316 {p : Program} {e : Env} {s : State} {m : MethodId} {below : List Frame} {meth : Method} {c : Code} (l : Launch) (hlt : l.stackTraces = false) (K : HK) {b N : Nat} {xs : Nat → Int32} (X0 : hX) (hF : CallFix p m c code 9 s #[Value.ref b] lw_all R_law) (hr : meth.sig.returnType = ret) (hlocks : meth.locks = false) (hC : HC K X0 s) (hx : va_X b N xs s s.heap) (hbl : b < s.heap.size) (hA0 : ∀ q, hA X0 s.heap.size q → s.heap.size ≤ q) (h : Nat) (a : Nat → Nat) (hap : mAp h a) (hmA : ∀ q, mA h a q → hA X0 s.heap.size q) (J28 : Nat → Nat → Nat → Int32 → hX → mF → mR → mL → mG → Nat → Nat → Prop) (hJ28 : ∀ (x1 : Nat) (x3 : Nat) (x4 : Nat) (x5 : Int32) (X : hX) (F : mF) (R : mR) (L : mL) (G : mG) (kc ks : Nat) (H : Heap) (locs : List Loc) (ls : Array Slot), hI K X0 s.heap.size X H → mP K.1 h a F R L G H → hdis X h a → va_S (hA X0 s.heap.size) s.heap H locs → kc ≤ 1200048 ∧ ks ≤ 5501818 → lv_has ls 9 [(0, .ref b), (1, .ref x1), (2, .ref h), (3, .ref x3), (4, .ref x4), (5, .int x5)] → J28 x1 x3 x4 x5 X F R L G kc ks → W p l e room_1 s m #[Value.ref b] below meth c H locs kc ks (lw_Z below #[Value.ref b] s) (F0 m 28 ls [])) : ∀ (x1 : Nat) (x3 : Nat) (x4 : Nat) (x5 : Int32) (X : hX) (F : mF) (R : mR) (L : mL) (G : mG) (kc ks : Nat) (H : Heap) (locs : List Loc) (ls : Array Slot), hI K X0 s.heap.size X H → mP K.1 h a F R L G H → hdis X h a → va_S (hA X0 s.heap.size) s.heap H locs → kc ≤ 1200048 ∧ ks ≤ 5501818 → lv_has ls 9 [(0, .ref b), (1, .ref x1), (2, .ref h), (3, .ref x3), (4, .ref x4), (5, .int x5)] → wpL_3316 (K.2.2 0) 1200048 5501818 N xs J28 x1 x3 x4 x5 X F R L G kc ks → W p l e room_1 s m #[Value.ref b] below meth c H locs kc ks (lw_Z below #[Value.ref b] s) (F0 m 3316 ls []) := by
  have hbA : ¬ hA X0 s.heap.size b := fun z => Nat.not_lt.mpr (hA0 b z) hbl
  intro x1 x3 x4 x5 X F R L G kc ks H locs ls hP hM hD hS hk hl hw
  unfold wpL_3316 at hw
  refine lv_aload_n hF.1 hF.2.1 dL_law_3316 rfl (lv_at hl 1 rfl) ?_
  obtain ⟨ho_1382, hw⟩ := hw
  refine lk_i (hr_V (As := []) (rest := []) (T := TX1) (N := 4) (ci := 1) hF hl.1 hC hP hS (metX1_passed l K _ _ X x1) rfl (cwV 0 hF.2.2.2.2 (lw_V q328 q329 q330 q75 q331) rfl rfl rfl (by decide +kernel) ⟨Nat.le_of_ble_eq_true rfl, Nat.le_of_ble_eq_true rfl⟩) ho_1382 hw rfl rfl (Nat.le_of_ble_eq_true rfl) dL_law_3317 hk) hP hM hD hS (fun r_1380 X_1381 H locs hw hP hM hD hS => ?_)
  refine lv_aload_n hF.1 hF.2.1 dL_law_3320 rfl (lv_at hl 2 rfl) ?_
  refine lm_i (As := []) (rest := [.int r_1380]) hF hl.1 hC (metX3_passed l K.1 h a hap _ F R L G) (cwV 0 hF.2.2.2.2 (lw_V q2258 q2259 q2260 q85 q2261) rfl rfl rfl (by decide +kernel) ⟨Nat.le_of_ble_eq_true rfl, Nat.le_of_ble_eq_true rfl⟩) hP hM hD hS hmA hw rfl rfl (Nat.le_of_ble_eq_true rfl) dL_law_3321 hk (fun r_1383 F_1384 R_1385 L_1386 G_1387 H locs hw hP hM hS => ?_)
  refine lv_icmp_eq (tgt := 3714) hF.1 hF.2.1 dL_law_3324 (by decide) (fun c_1388 => ?_) (fun c_1388 => ?_)
  · have hw := hw.1 c_1388
    obtain ⟨x5_1389, ex5_1389⟩ : ∃ y : Int32, y = x5 + 5 := ⟨_, rfl⟩
    have hw := hw x5_1389 ex5_1389
    refine lv_iinc (v := x5_1389) (lv' := [(5, .int x5_1389), (0, .ref b), (1, .ref x1), (2, .ref h), (3, .ref x3), (4, .ref x4)]) hF.1 hF.2.1 dL_law_3714 hl (k := 5) rfl (by rw [ex5_1389]; rfl) (by decide) rfl (fun ls hl => ?_)
    refine lv_goto (tgt := 28) hF.1 hF.2.1 dL_law_3717 (by decide) ?_
    exact hJ28 x1 x3 x4 x5_1389 X_1381 F_1384 R_1385 L_1386 G_1387 kc ks _ _ ls hP hM hD hS hk (lv_sub hl [1, 2, 3, 4, 5, 0] rfl) hw
  · have hw := hw.2 c_1388
    refine lv_iconst (v := 0) hF.1 hF.2.1 dL_law_3327 (by decide) ?_
    exact l_end hF hr hlocks hA0 hS hk dL_law_3328 hw
def wpL_3329 (E mc ms N : Nat) (xs : Nat → Int32) (J28 : Nat → Nat → Nat → Int32 → hX → mF → mR → mL → mG → Nat → Nat → Prop) (x1 : Nat) (x3 : Nat) (x4 : Nat) (x5 : Int32) (X : hX) (F : mF) (R : mR) (L : mL) (G : mG) (kc ks : Nat) : Prop := isO X x1 1 ((∃ mc_1393 ms_1394 : Nat, kc + mc_1393 ≤ mc ∧ ks + ms_1394 ≤ ms ∧ wpX1_driven (fun r_1390 X_1391 => wpX3_driven (fun r_1397 F_1398 R_1399 L_1400 G_1401 => ((r_1390 = r_1397 → (∀ x5_1403 : Int32, x5_1403 = x5 + 5 → J28 x1 x3 x4 x5_1403 X_1391 F_1398 R_1399 L_1400 G_1401 (kc + mc_1393) (ks + ms_1394))) ∧ (¬ r_1390 = r_1397 → (0 : Int32) = 1))) F R L G) E mc_1393 ms_1394 X x1))
set_option maxHeartbeats 8000000 in
theorem Tl3329 {p : Program} {e : Env} {s : State} {m : MethodId} {below : List Frame} {meth : Method} {c : Code} (l : Launch) (hlt : l.stackTraces = false) (K : HK) {b N : Nat} {xs : Nat → Int32} (X0 : hX) (hF : CallFix p m c code 9 s #[Value.ref b] lw_all R_law) (hr : meth.sig.returnType = ret) (hlocks : meth.locks = false) (hC : HC K X0 s) (hx : va_X b N xs s s.heap) (hbl : b < s.heap.size) (hA0 : ∀ q, hA X0 s.heap.size q → s.heap.size ≤ q) (h : Nat) (a : Nat → Nat) (hap : mAp h a) (hmA : ∀ q, mA h a q → hA X0 s.heap.size q) (J28 : Nat → Nat → Nat → Int32 → hX → mF → mR → mL → mG → Nat → Nat → Prop) (hJ28 : ∀ (x1 : Nat) (x3 : Nat) (x4 : Nat) (x5 : Int32) (X : hX) (F : mF) (R : mR) (L : mL) (G : mG) (kc ks : Nat) (H : Heap) (locs : List Loc) (ls : Array Slot), hI K X0 s.heap.size X H → mP K.1 h a F R L G H → hdis X h a → va_S (hA X0 s.heap.size) s.heap H locs → kc ≤ 1200048 ∧ ks ≤ 5501818 → lv_has ls 9 [(0, .ref b), (1, .ref x1), (2, .ref h), (3, .ref x3), (4, .ref x4), (5, .int x5)] → J28 x1 x3 x4 x5 X F R L G kc ks → W p l e room_1 s m #[Value.ref b] below meth c H locs kc ks (lw_Z below #[Value.ref b] s) (F0 m 28 ls [])) : ∀ (x1 : Nat) (x3 : Nat) (x4 : Nat) (x5 : Int32) (X : hX) (F : mF) (R : mR) (L : mL) (G : mG) (kc ks : Nat) (H : Heap) (locs : List Loc) (ls : Array Slot), hI K X0 s.heap.size X H → mP K.1 h a F R L G H → hdis X h a → va_S (hA X0 s.heap.size) s.heap H locs → kc ≤ 1200048 ∧ ks ≤ 5501818 → lv_has ls 9 [(0, .ref b), (1, .ref x1), (2, .ref h), (3, .ref x3), (4, .ref x4), (5, .int x5)] → wpL_3329 (K.2.2 0) 1200048 5501818 N xs J28 x1 x3 x4 x5 X F R L G kc ks → W p l e room_1 s m #[Value.ref b] below meth c H locs kc ks (lw_Z below #[Value.ref b] s) (F0 m 3329 ls []) := by
  have hbA : ¬ hA X0 s.heap.size b := fun z => Nat.not_lt.mpr (hA0 b z) hbl
  intro x1 x3 x4 x5 X F R L G kc ks H locs ls hP hM hD hS hk hl hw
  unfold wpL_3329 at hw
  refine lv_aload_n hF.1 hF.2.1 dL_law_3329 rfl (lv_at hl 1 rfl) ?_
  obtain ⟨ho_1392, hw⟩ := hw
  obtain ⟨mc_1393, ms_1394, hc_1395, hs_1396, hw⟩ := hw
  refine lk_i (hr_V (As := []) (rest := []) (T := TX1) (N := 4) (ci := 1) hF hl.1 hC hP hS (metX1_driven l K mc_1393 ms_1394 _ _ X x1) rfl (cwV 0 hF.2.2.2.2 (lw_V q332 q333 q334 q75 q335) rfl rfl rfl (by decide +kernel) ⟨Nat.le_of_ble_eq_true rfl, Nat.le_of_ble_eq_true rfl⟩) ho_1392 hw rfl rfl (Nat.le_of_ble_eq_true rfl) dL_law_3330 ⟨hc_1395, hs_1396⟩) hP hM hD hS (fun r_1390 X_1391 H locs hw hP hM hD hS => ?_)
  refine lv_aload_n hF.1 hF.2.1 dL_law_3333 rfl (lv_at hl 2 rfl) ?_
  refine lm_i (As := []) (rest := [.int r_1390]) hF hl.1 hC (metX3_driven l K.1 h a hap _ F R L G) (cwV 0 hF.2.2.2.2 (lw_V q2262 q2263 q2264 q85 q2265) rfl rfl rfl (by decide +kernel) ⟨Nat.le_of_ble_eq_true rfl, Nat.le_of_ble_eq_true rfl⟩) hP hM hD hS hmA hw rfl rfl (Nat.le_of_ble_eq_true rfl) dL_law_3334 ⟨hc_1395, hs_1396⟩ (fun r_1397 F_1398 R_1399 L_1400 G_1401 H locs hw hP hM hS => ?_)
  refine lv_icmp_eq (tgt := 3714) hF.1 hF.2.1 dL_law_3337 (by decide) (fun c_1402 => ?_) (fun c_1402 => ?_)
  · have hw := hw.1 c_1402
    obtain ⟨x5_1403, ex5_1403⟩ : ∃ y : Int32, y = x5 + 5 := ⟨_, rfl⟩
    have hw := hw x5_1403 ex5_1403
    refine lv_iinc (v := x5_1403) (lv' := [(5, .int x5_1403), (0, .ref b), (1, .ref x1), (2, .ref h), (3, .ref x3), (4, .ref x4)]) hF.1 hF.2.1 dL_law_3714 hl (k := 5) rfl (by rw [ex5_1403]; rfl) (by decide) rfl (fun ls hl => ?_)
    refine lv_goto (tgt := 28) hF.1 hF.2.1 dL_law_3717 (by decide) ?_
    exact hJ28 x1 x3 x4 x5_1403 X_1391 F_1398 R_1399 L_1400 G_1401 (kc + mc_1393) (ks + ms_1394) _ _ ls hP hM hD hS ⟨hc_1395, hs_1396⟩ (lv_sub hl [1, 2, 3, 4, 5, 0] rfl) hw
  · have hw := hw.2 c_1402
    refine lv_iconst (v := 0) hF.1 hF.2.1 dL_law_3340 (by decide) ?_
    exact l_end hF hr hlocks hA0 hS ⟨hc_1395, hs_1396⟩ dL_law_3341 hw
def wpL_3342 (E mc ms N : Nat) (xs : Nat → Int32) (J28 : Nat → Nat → Nat → Int32 → hX → mF → mR → mL → mG → Nat → Nat → Prop) (x1 : Nat) (x3 : Nat) (x4 : Nat) (x5 : Int32) (X : hX) (F : mF) (R : mR) (L : mL) (G : mG) (kc ks : Nat) : Prop := isO X x1 1 (wpX1_allTeeth (fun r_1404 X_1405 => wpX3_allTeeth (fun r_1407 F_1408 R_1409 L_1410 G_1411 => ((r_1404 = r_1407 → (∀ x5_1413 : Int32, x5_1413 = x5 + 5 → J28 x1 x3 x4 x5_1413 X_1405 F_1408 R_1409 L_1410 G_1411 kc ks)) ∧ (¬ r_1404 = r_1407 → (0 : Int32) = 1))) F R L G) E X x1)
set_option maxHeartbeats 8000000 in
theorem Tl3342 {p : Program} {e : Env} {s : State} {m : MethodId} {below : List Frame} {meth : Method} {c : Code} (l : Launch) (hlt : l.stackTraces = false) (K : HK) {b N : Nat} {xs : Nat → Int32} (X0 : hX) (hF : CallFix p m c code 9 s #[Value.ref b] lw_all R_law) (hr : meth.sig.returnType = ret) (hlocks : meth.locks = false) (hC : HC K X0 s) (hx : va_X b N xs s s.heap) (hbl : b < s.heap.size) (hA0 : ∀ q, hA X0 s.heap.size q → s.heap.size ≤ q) (h : Nat) (a : Nat → Nat) (hap : mAp h a) (hmA : ∀ q, mA h a q → hA X0 s.heap.size q) (J28 : Nat → Nat → Nat → Int32 → hX → mF → mR → mL → mG → Nat → Nat → Prop) (hJ28 : ∀ (x1 : Nat) (x3 : Nat) (x4 : Nat) (x5 : Int32) (X : hX) (F : mF) (R : mR) (L : mL) (G : mG) (kc ks : Nat) (H : Heap) (locs : List Loc) (ls : Array Slot), hI K X0 s.heap.size X H → mP K.1 h a F R L G H → hdis X h a → va_S (hA X0 s.heap.size) s.heap H locs → kc ≤ 1200048 ∧ ks ≤ 5501818 → lv_has ls 9 [(0, .ref b), (1, .ref x1), (2, .ref h), (3, .ref x3), (4, .ref x4), (5, .int x5)] → J28 x1 x3 x4 x5 X F R L G kc ks → W p l e room_1 s m #[Value.ref b] below meth c H locs kc ks (lw_Z below #[Value.ref b] s) (F0 m 28 ls [])) : ∀ (x1 : Nat) (x3 : Nat) (x4 : Nat) (x5 : Int32) (X : hX) (F : mF) (R : mR) (L : mL) (G : mG) (kc ks : Nat) (H : Heap) (locs : List Loc) (ls : Array Slot), hI K X0 s.heap.size X H → mP K.1 h a F R L G H → hdis X h a → va_S (hA X0 s.heap.size) s.heap H locs → kc ≤ 1200048 ∧ ks ≤ 5501818 → lv_has ls 9 [(0, .ref b), (1, .ref x1), (2, .ref h), (3, .ref x3), (4, .ref x4), (5, .int x5)] → wpL_3342 (K.2.2 0) 1200048 5501818 N xs J28 x1 x3 x4 x5 X F R L G kc ks → W p l e room_1 s m #[Value.ref b] below meth c H locs kc ks (lw_Z below #[Value.ref b] s) (F0 m 3342 ls []) := by
  have hbA : ¬ hA X0 s.heap.size b := fun z => Nat.not_lt.mpr (hA0 b z) hbl
  intro x1 x3 x4 x5 X F R L G kc ks H locs ls hP hM hD hS hk hl hw
  unfold wpL_3342 at hw
  refine lv_aload_n hF.1 hF.2.1 dL_law_3342 rfl (lv_at hl 1 rfl) ?_
  obtain ⟨ho_1406, hw⟩ := hw
  refine lk_i (hr_V (As := []) (rest := []) (T := TX1) (N := 4) (ci := 1) hF hl.1 hC hP hS (metX1_allTeeth l K _ _ X x1) rfl (cwV 0 hF.2.2.2.2 (lw_V q415 q416 q417 q75 q418) rfl rfl rfl (by decide +kernel) ⟨Nat.le_of_ble_eq_true rfl, Nat.le_of_ble_eq_true rfl⟩) ho_1406 hw rfl rfl (Nat.le_of_ble_eq_true rfl) dL_law_3343 hk) hP hM hD hS (fun r_1404 X_1405 H locs hw hP hM hD hS => ?_)
  refine lv_aload_n hF.1 hF.2.1 dL_law_3346 rfl (lv_at hl 2 rfl) ?_
  refine lm_i (As := []) (rest := [.int r_1404]) hF hl.1 hC (metX3_allTeeth l K.1 h a hap _ F R L G) (cwV 0 hF.2.2.2.2 (lw_V q2266 q2267 q2268 q85 q2269) rfl rfl rfl (by decide +kernel) ⟨Nat.le_of_ble_eq_true rfl, Nat.le_of_ble_eq_true rfl⟩) hP hM hD hS hmA hw rfl rfl (Nat.le_of_ble_eq_true rfl) dL_law_3347 hk (fun r_1407 F_1408 R_1409 L_1410 G_1411 H locs hw hP hM hS => ?_)
  refine lv_icmp_eq (tgt := 3714) hF.1 hF.2.1 dL_law_3350 (by decide) (fun c_1412 => ?_) (fun c_1412 => ?_)
  · have hw := hw.1 c_1412
    obtain ⟨x5_1413, ex5_1413⟩ : ∃ y : Int32, y = x5 + 5 := ⟨_, rfl⟩
    have hw := hw x5_1413 ex5_1413
    refine lv_iinc (v := x5_1413) (lv' := [(5, .int x5_1413), (0, .ref b), (1, .ref x1), (2, .ref h), (3, .ref x3), (4, .ref x4)]) hF.1 hF.2.1 dL_law_3714 hl (k := 5) rfl (by rw [ex5_1413]; rfl) (by decide) rfl (fun ls hl => ?_)
    refine lv_goto (tgt := 28) hF.1 hF.2.1 dL_law_3717 (by decide) ?_
    exact hJ28 x1 x3 x4 x5_1413 X_1405 F_1408 R_1409 L_1410 G_1411 kc ks _ _ ls hP hM hD hS hk (lv_sub hl [1, 2, 3, 4, 5, 0] rfl) hw
  · have hw := hw.2 c_1412
    refine lv_iconst (v := 0) hF.1 hF.2.1 dL_law_3353 (by decide) ?_
    exact l_end hF hr hlocks hA0 hS hk dL_law_3354 hw
def wpL_3355 (E mc ms N : Nat) (xs : Nat → Int32) (J28 : Nat → Nat → Nat → Int32 → hX → mF → mR → mL → mG → Nat → Nat → Prop) (x1 : Nat) (x3 : Nat) (x4 : Nat) (x5 : Int32) (X : hX) (F : mF) (R : mR) (L : mL) (G : mG) (kc ks : Nat) : Prop := isO X x1 1 (wpX1_keep (fun r_1414 X_1415 => wpX3_keep (fun r_1417 F_1418 R_1419 L_1420 G_1421 => ((r_1414 = r_1417 → (∀ x5_1423 : Int32, x5_1423 = x5 + 5 → J28 x1 x3 x4 x5_1423 X_1415 F_1418 R_1419 L_1420 G_1421 kc ks)) ∧ (¬ r_1414 = r_1417 → (0 : Int32) = 1))) F R L G) E X x1)
set_option maxHeartbeats 8000000 in
theorem Tl3355 {p : Program} {e : Env} {s : State} {m : MethodId} {below : List Frame} {meth : Method} {c : Code} (l : Launch) (hlt : l.stackTraces = false) (K : HK) {b N : Nat} {xs : Nat → Int32} (X0 : hX) (hF : CallFix p m c code 9 s #[Value.ref b] lw_all R_law) (hr : meth.sig.returnType = ret) (hlocks : meth.locks = false) (hC : HC K X0 s) (hx : va_X b N xs s s.heap) (hbl : b < s.heap.size) (hA0 : ∀ q, hA X0 s.heap.size q → s.heap.size ≤ q) (h : Nat) (a : Nat → Nat) (hap : mAp h a) (hmA : ∀ q, mA h a q → hA X0 s.heap.size q) (J28 : Nat → Nat → Nat → Int32 → hX → mF → mR → mL → mG → Nat → Nat → Prop) (hJ28 : ∀ (x1 : Nat) (x3 : Nat) (x4 : Nat) (x5 : Int32) (X : hX) (F : mF) (R : mR) (L : mL) (G : mG) (kc ks : Nat) (H : Heap) (locs : List Loc) (ls : Array Slot), hI K X0 s.heap.size X H → mP K.1 h a F R L G H → hdis X h a → va_S (hA X0 s.heap.size) s.heap H locs → kc ≤ 1200048 ∧ ks ≤ 5501818 → lv_has ls 9 [(0, .ref b), (1, .ref x1), (2, .ref h), (3, .ref x3), (4, .ref x4), (5, .int x5)] → J28 x1 x3 x4 x5 X F R L G kc ks → W p l e room_1 s m #[Value.ref b] below meth c H locs kc ks (lw_Z below #[Value.ref b] s) (F0 m 28 ls [])) : ∀ (x1 : Nat) (x3 : Nat) (x4 : Nat) (x5 : Int32) (X : hX) (F : mF) (R : mR) (L : mL) (G : mG) (kc ks : Nat) (H : Heap) (locs : List Loc) (ls : Array Slot), hI K X0 s.heap.size X H → mP K.1 h a F R L G H → hdis X h a → va_S (hA X0 s.heap.size) s.heap H locs → kc ≤ 1200048 ∧ ks ≤ 5501818 → lv_has ls 9 [(0, .ref b), (1, .ref x1), (2, .ref h), (3, .ref x3), (4, .ref x4), (5, .int x5)] → wpL_3355 (K.2.2 0) 1200048 5501818 N xs J28 x1 x3 x4 x5 X F R L G kc ks → W p l e room_1 s m #[Value.ref b] below meth c H locs kc ks (lw_Z below #[Value.ref b] s) (F0 m 3355 ls []) := by
  have hbA : ¬ hA X0 s.heap.size b := fun z => Nat.not_lt.mpr (hA0 b z) hbl
  intro x1 x3 x4 x5 X F R L G kc ks H locs ls hP hM hD hS hk hl hw
  unfold wpL_3355 at hw
  refine lv_aload_n hF.1 hF.2.1 dL_law_3355 rfl (lv_at hl 1 rfl) ?_
  obtain ⟨ho_1416, hw⟩ := hw
  refine lk_i (hr_V (As := []) (rest := []) (T := TX1) (N := 4) (ci := 1) hF hl.1 hC hP hS (metX1_keep l K _ _ X x1) rfl (cwV 0 hF.2.2.2.2 (lw_V q421 q422 q423 q75 q424) rfl rfl rfl (by decide +kernel) ⟨Nat.le_of_ble_eq_true rfl, Nat.le_of_ble_eq_true rfl⟩) ho_1416 hw rfl rfl (Nat.le_of_ble_eq_true rfl) dL_law_3356 hk) hP hM hD hS (fun r_1414 X_1415 H locs hw hP hM hD hS => ?_)
  refine lv_aload_n hF.1 hF.2.1 dL_law_3359 rfl (lv_at hl 2 rfl) ?_
  refine lm_i (As := []) (rest := [.int r_1414]) hF hl.1 hC (metX3_keep l K.1 h a hap _ F R L G) (cwV 0 hF.2.2.2.2 (lw_V q1977 q1978 q1979 q85 q1980) rfl rfl rfl (by decide +kernel) ⟨Nat.le_of_ble_eq_true rfl, Nat.le_of_ble_eq_true rfl⟩) hP hM hD hS hmA hw rfl rfl (Nat.le_of_ble_eq_true rfl) dL_law_3360 hk (fun r_1417 F_1418 R_1419 L_1420 G_1421 H locs hw hP hM hS => ?_)
  refine lv_icmp_eq (tgt := 3714) hF.1 hF.2.1 dL_law_3363 (by decide) (fun c_1422 => ?_) (fun c_1422 => ?_)
  · have hw := hw.1 c_1422
    obtain ⟨x5_1423, ex5_1423⟩ : ∃ y : Int32, y = x5 + 5 := ⟨_, rfl⟩
    have hw := hw x5_1423 ex5_1423
    refine lv_iinc (v := x5_1423) (lv' := [(5, .int x5_1423), (0, .ref b), (1, .ref x1), (2, .ref h), (3, .ref x3), (4, .ref x4)]) hF.1 hF.2.1 dL_law_3714 hl (k := 5) rfl (by rw [ex5_1423]; rfl) (by decide) rfl (fun ls hl => ?_)
    refine lv_goto (tgt := 28) hF.1 hF.2.1 dL_law_3717 (by decide) ?_
    exact hJ28 x1 x3 x4 x5_1423 X_1415 F_1418 R_1419 L_1420 G_1421 kc ks _ _ ls hP hM hD hS hk (lv_sub hl [1, 2, 3, 4, 5, 0] rfl) hw
  · have hw := hw.2 c_1422
    refine lv_iconst (v := 0) hF.1 hF.2.1 dL_law_3366 (by decide) ?_
    exact l_end hF hr hlocks hA0 hS hk dL_law_3367 hw
def wpL_3409 (E mc ms N : Nat) (xs : Nat → Int32) (J28 : Nat → Nat → Nat → Int32 → hX → mF → mR → mL → mG → Nat → Nat → Prop) (x1 : Nat) (x3 : Nat) (x4 : Nat) (x5 : Int32) (X : hX) (F : mF) (R : mR) (L : mL) (G : mG) (kc ks : Nat) : Prop := (∀ x5_1424 : Int32, x5_1424 = x5 + 5 → J28 x1 x3 x4 x5_1424 X F R L G kc ks)
set_option maxHeartbeats 8000000 in
theorem Tl3409 {p : Program} {e : Env} {s : State} {m : MethodId} {below : List Frame} {meth : Method} {c : Code} (l : Launch) (hlt : l.stackTraces = false) (K : HK) {b N : Nat} {xs : Nat → Int32} (X0 : hX) (hF : CallFix p m c code 9 s #[Value.ref b] lw_all R_law) (hr : meth.sig.returnType = ret) (hlocks : meth.locks = false) (hC : HC K X0 s) (hx : va_X b N xs s s.heap) (hbl : b < s.heap.size) (hA0 : ∀ q, hA X0 s.heap.size q → s.heap.size ≤ q) (h : Nat) (a : Nat → Nat) (hap : mAp h a) (hmA : ∀ q, mA h a q → hA X0 s.heap.size q) (J28 : Nat → Nat → Nat → Int32 → hX → mF → mR → mL → mG → Nat → Nat → Prop) (hJ28 : ∀ (x1 : Nat) (x3 : Nat) (x4 : Nat) (x5 : Int32) (X : hX) (F : mF) (R : mR) (L : mL) (G : mG) (kc ks : Nat) (H : Heap) (locs : List Loc) (ls : Array Slot), hI K X0 s.heap.size X H → mP K.1 h a F R L G H → hdis X h a → va_S (hA X0 s.heap.size) s.heap H locs → kc ≤ 1200048 ∧ ks ≤ 5501818 → lv_has ls 9 [(0, .ref b), (1, .ref x1), (2, .ref h), (3, .ref x3), (4, .ref x4), (5, .int x5)] → J28 x1 x3 x4 x5 X F R L G kc ks → W p l e room_1 s m #[Value.ref b] below meth c H locs kc ks (lw_Z below #[Value.ref b] s) (F0 m 28 ls [])) : ∀ (x1 : Nat) (x3 : Nat) (x4 : Nat) (x5 : Int32) (X : hX) (F : mF) (R : mR) (L : mL) (G : mG) (kc ks : Nat) (H : Heap) (locs : List Loc) (ls : Array Slot), hI K X0 s.heap.size X H → mP K.1 h a F R L G H → hdis X h a → va_S (hA X0 s.heap.size) s.heap H locs → kc ≤ 1200048 ∧ ks ≤ 5501818 → lv_has ls 9 [(0, .ref b), (1, .ref x1), (2, .ref h), (3, .ref x3), (4, .ref x4), (5, .int x5)] → wpL_3409 (K.2.2 0) 1200048 5501818 N xs J28 x1 x3 x4 x5 X F R L G kc ks → W p l e room_1 s m #[Value.ref b] below meth c H locs kc ks (lw_Z below #[Value.ref b] s) (F0 m 3409 ls []) := by
  have hbA : ¬ hA X0 s.heap.size b := fun z => Nat.not_lt.mpr (hA0 b z) hbl
  intro x1 x3 x4 x5 X F R L G kc ks H locs ls hP hM hD hS hk hl hw
  unfold wpL_3409 at hw
  refine lv_goto (tgt := 3714) hF.1 hF.2.1 dL_law_3409 (by decide) ?_
  obtain ⟨x5_1424, ex5_1424⟩ : ∃ y : Int32, y = x5 + 5 := ⟨_, rfl⟩
  have hw := hw x5_1424 ex5_1424
  refine lv_iinc (v := x5_1424) (lv' := [(5, .int x5_1424), (0, .ref b), (1, .ref x1), (2, .ref h), (3, .ref x3), (4, .ref x4)]) hF.1 hF.2.1 dL_law_3714 hl (k := 5) rfl (by rw [ex5_1424]; rfl) (by decide) rfl (fun ls hl => ?_)
  refine lv_goto (tgt := 28) hF.1 hF.2.1 dL_law_3717 (by decide) ?_
  exact hJ28 x1 x3 x4 x5_1424 X F R L G kc ks _ _ ls hP hM hD hS hk (lv_sub hl [1, 2, 3, 4, 5, 0] rfl) hw
def wpL_3368 (E mc ms N : Nat) (xs : Nat → Int32) (J28 : Nat → Nat → Nat → Int32 → hX → mF → mR → mL → mG → Nat → Nat → Prop) (x1 : Nat) (x3 : Nat) (x4 : Nat) (x5 : Int32) (X : hX) (F : mF) (R : mR) (L : mL) (G : mG) (kc ks : Nat) : Prop := (∃ mc_1427 ms_1428 : Nat, kc + mc_1427 ≤ mc ∧ ks + ms_1428 ≤ ms ∧ wpX0_goBack (fun r_1425 X_1426 => wpX3_goBack (fun r_1431 F_1432 R_1433 L_1434 G_1435 => wpX3_thrown (fun r_1436 F_1437 R_1438 L_1439 G_1440 => ((r_1436 = r_1425 → ((r_1425 = 0 → alJ X_1426 x3 0 (fun v_1447 => ((v_1447 = (Int32.toInt64 r_1431) → wpL_3409 E mc ms N xs J28 x1 x3 x4 x5 X_1426 F_1437 R_1438 L_1439 G_1440 (kc + mc_1427) (ks + ms_1428)) ∧ (¬ v_1447 = (Int32.toInt64 r_1431) → (0 : Int32) = 1)))) ∧ (¬ r_1425 = 0 → wpL_3409 E mc ms N xs J28 x1 x3 x4 x5 X_1426 F_1437 R_1438 L_1439 G_1440 (kc + mc_1427) (ks + ms_1428)))) ∧ (¬ r_1436 = r_1425 → (0 : Int32) = 1))) F_1432 R_1433 L_1434 G_1435) F R L G) (fun _ _ _ => False) E mc_1427 ms_1428 X x1 x3)
set_option maxHeartbeats 8000000 in
theorem Tl3368 {p : Program} {e : Env} {s : State} {m : MethodId} {below : List Frame} {meth : Method} {c : Code} (l : Launch) (hlt : l.stackTraces = false) (K : HK) {b N : Nat} {xs : Nat → Int32} (X0 : hX) (hF : CallFix p m c code 9 s #[Value.ref b] lw_all R_law) (hr : meth.sig.returnType = ret) (hlocks : meth.locks = false) (hC : HC K X0 s) (hx : va_X b N xs s s.heap) (hbl : b < s.heap.size) (hA0 : ∀ q, hA X0 s.heap.size q → s.heap.size ≤ q) (h : Nat) (a : Nat → Nat) (hap : mAp h a) (hmA : ∀ q, mA h a q → hA X0 s.heap.size q) (J28 : Nat → Nat → Nat → Int32 → hX → mF → mR → mL → mG → Nat → Nat → Prop) (hJ28 : ∀ (x1 : Nat) (x3 : Nat) (x4 : Nat) (x5 : Int32) (X : hX) (F : mF) (R : mR) (L : mL) (G : mG) (kc ks : Nat) (H : Heap) (locs : List Loc) (ls : Array Slot), hI K X0 s.heap.size X H → mP K.1 h a F R L G H → hdis X h a → va_S (hA X0 s.heap.size) s.heap H locs → kc ≤ 1200048 ∧ ks ≤ 5501818 → lv_has ls 9 [(0, .ref b), (1, .ref x1), (2, .ref h), (3, .ref x3), (4, .ref x4), (5, .int x5)] → J28 x1 x3 x4 x5 X F R L G kc ks → W p l e room_1 s m #[Value.ref b] below meth c H locs kc ks (lw_Z below #[Value.ref b] s) (F0 m 28 ls [])) : ∀ (x1 : Nat) (x3 : Nat) (x4 : Nat) (x5 : Int32) (X : hX) (F : mF) (R : mR) (L : mL) (G : mG) (kc ks : Nat) (H : Heap) (locs : List Loc) (ls : Array Slot), hI K X0 s.heap.size X H → mP K.1 h a F R L G H → hdis X h a → va_S (hA X0 s.heap.size) s.heap H locs → kc ≤ 1200048 ∧ ks ≤ 5501818 → lv_has ls 9 [(0, .ref b), (1, .ref x1), (2, .ref h), (3, .ref x3), (4, .ref x4), (5, .int x5)] → wpL_3368 (K.2.2 0) 1200048 5501818 N xs J28 x1 x3 x4 x5 X F R L G kc ks → W p l e room_1 s m #[Value.ref b] below meth c H locs kc ks (lw_Z below #[Value.ref b] s) (F0 m 3368 ls []) := by
  have hbA : ¬ hA X0 s.heap.size b := fun z => Nat.not_lt.mpr (hA0 b z) hbl
  intro x1 x3 x4 x5 X F R L G kc ks H locs ls hP hM hD hS hk hl hw
  unfold wpL_3368 at hw
  refine lv_aload_n hF.1 hF.2.1 dL_law_3368 rfl (lv_at hl 1 rfl) ?_
  refine lv_aload_n hF.1 hF.2.1 dL_law_3369 rfl (lv_at hl 3 rfl) ?_
  obtain ⟨mc_1427, ms_1428, hc_1429, hs_1430, hw⟩ := hw
  refine lkx_i (hrx_SX (As := [.ref x1, .ref x3]) (rest := []) hF hl.1 hC hP hS (metX0_goBack l hlt K mc_1427 ms_1428 _ _ _ X x1 x3) (vx_cwSW 2 hF.2.2.2.2 (lw_SW q1503 q1504 q74 q1505) rfl rfl rfl (by decide +kernel) ⟨Nat.le_of_ble_eq_true rfl, Nat.le_of_ble_eq_true rfl⟩) hw rfl rfl (Nat.le_of_ble_eq_true rfl) dL_law_3370 ⟨hc_1429, hs_1430⟩) hP hM hD hS (fun r_1425 X_1426 H locs hw hP hM hD hS => ?_)
  refine lv_istore (lv' := [(6, .int r_1425), (0, .ref b), (1, .ref x1), (2, .ref h), (3, .ref x3), (4, .ref x4), (5, .int x5)]) hF.1 hF.2.1 dL_law_3373 hl (by decide) rfl (fun ls hl => ?_)
  refine lv_aload_n hF.1 hF.2.1 dL_law_3375 rfl (lv_at hl 3 rfl) ?_
  refine lm_i (As := []) (rest := []) hF hl.1 hC (metX3_goBack l K.1 h a hap _ F R L G) (cwV 0 hF.2.2.2.2 (lw_V q1981 q1982 q1983 q85 q1984) rfl rfl rfl (by decide +kernel) ⟨Nat.le_of_ble_eq_true rfl, Nat.le_of_ble_eq_true rfl⟩) hP hM hD hS hmA hw rfl rfl (Nat.le_of_ble_eq_true rfl) dL_law_3376 ⟨hc_1429, hs_1430⟩ (fun r_1431 F_1432 R_1433 L_1434 G_1435 H locs hw hP hM hS => ?_)
  refine lv_istore (lv' := [(7, .int r_1431), (6, .int r_1425), (0, .ref b), (1, .ref x1), (2, .ref h), (3, .ref x3), (4, .ref x4), (5, .int x5)]) hF.1 hF.2.1 dL_law_3379 hl (by decide) rfl (fun ls hl => ?_)
  refine lv_aload_n hF.1 hF.2.1 dL_law_3381 rfl (lv_at hl 4 rfl) ?_
  refine lm_i (As := []) (rest := []) hF hl.1 hC (metX3_thrown l K.1 h a hap _ F_1432 R_1433 L_1434 G_1435) (cwV 0 hF.2.2.2.2 (lw_V q1813 q1814 q1815 q85 q1816) rfl rfl rfl (by decide +kernel) ⟨Nat.le_of_ble_eq_true rfl, Nat.le_of_ble_eq_true rfl⟩) hP hM hD hS hmA hw rfl rfl (Nat.le_of_ble_eq_true rfl) dL_law_3382 ⟨hc_1429, hs_1430⟩ (fun r_1436 F_1437 R_1438 L_1439 G_1440 H locs hw hP hM hS => ?_)
  refine lv_iload hF.1 hF.2.1 dL_law_3385 (lv_at hl 1 rfl) ?_
  refine lv_icmp_eq (tgt := 3392) hF.1 hF.2.1 dL_law_3387 (by decide) (fun c_1441 => ?_) (fun c_1441 => ?_)
  · have hw := hw.1 c_1441
    refine lv_iload hF.1 hF.2.1 dL_law_3392 (lv_at hl 1 rfl) ?_
    refine lv_if_ne (tgt := 3409) hF.1 hF.2.1 dL_law_3394 (by decide) (fun c_1442 => ?_) (fun c_1442 => ?_)
    · have hw := hw.2 c_1442
      exact Tl3409 l hlt K X0 hF hr hlocks hC hx hbl hA0 h a hap hmA _ hJ28 x1 x3 x4 x5 X_1426 F_1437 R_1438 L_1439 G_1440 (kc + mc_1427) (ks + ms_1428) _ _ ls hP hM hD hS ⟨hc_1429, hs_1430⟩ (lv_sub hl [2, 3, 4, 5, 6, 7] rfl) hw
    · have hw := hw.1 c_1442
      refine lv_aload_n hF.1 hF.2.1 dL_law_3397 rfl (lv_at hl 5 rfl) ?_
      refine lv_iconst (v := 0) hF.1 hF.2.1 dL_law_3398 (by decide) ?_
      obtain ⟨n_1443, f_1444, hx_1445, hi_1446, hw⟩ := hw
      refine x_lald hF hC hP hx_1445 hi_1446 dL_law_3399 ?_
      generalize f_1444 (Int32.toNatClampNeg 0) = v_1447 at hw ⊢
      refine lv_iload hF.1 hF.2.1 dL_law_3400 (lv_at hl 0 rfl) ?_
      refine lv_i2l hF.1 hF.2.1 dL_law_3402 rfl ?_
      refine W.lcmp hF.1 hF.2.1 dL_law_3403 ?_
      refine lv_if_eq (tgt := 3409) hF.1 hF.2.1 dL_law_3404 (by decide) (fun c_1448 => ?_) (fun c_1448 => ?_)
      · rw [lc_eq] at c_1448
        have hw := hw.1 c_1448
        exact Tl3409 l hlt K X0 hF hr hlocks hC hx hbl hA0 h a hap hmA _ hJ28 x1 x3 x4 x5 X_1426 F_1437 R_1438 L_1439 G_1440 (kc + mc_1427) (ks + ms_1428) _ _ ls hP hM hD hS ⟨hc_1429, hs_1430⟩ (lv_sub hl [2, 3, 4, 5, 6, 7] rfl) hw
      · rw [lc_eq] at c_1448
        have hw := hw.2 c_1448
        refine lv_iconst (v := 0) hF.1 hF.2.1 dL_law_3407 (by decide) ?_
        exact l_end hF hr hlocks hA0 hS ⟨hc_1429, hs_1430⟩ dL_law_3408 hw
  · have hw := hw.2 c_1441
    refine lv_iconst (v := 0) hF.1 hF.2.1 dL_law_3390 (by decide) ?_
    exact l_end hF hr hlocks hA0 hS ⟨hc_1429, hs_1430⟩ dL_law_3391 hw
def wpL_3412 (E mc ms N : Nat) (xs : Nat → Int32) (J28 : Nat → Nat → Nat → Int32 → hX → mF → mR → mL → mG → Nat → Nat → Prop) (x1 : Nat) (x3 : Nat) (x4 : Nat) (x5 : Int32) (X : hX) (F : mF) (R : mR) (L : mL) (G : mG) (kc ks : Nat) : Prop := isO X x1 1 (wpX1_states (fun r_1449 X_1450 => wpX3_states (fun r_1452 F_1453 R_1454 L_1455 G_1456 => ((r_1449 = r_1452 → (∀ x5_1458 : Int32, x5_1458 = x5 + 5 → J28 x1 x3 x4 x5_1458 X_1450 F_1453 R_1454 L_1455 G_1456 kc ks)) ∧ (¬ r_1449 = r_1452 → (0 : Int32) = 1))) F R L G) E X x1)
set_option maxHeartbeats 8000000 in
theorem Tl3412 {p : Program} {e : Env} {s : State} {m : MethodId} {below : List Frame} {meth : Method} {c : Code} (l : Launch) (hlt : l.stackTraces = false) (K : HK) {b N : Nat} {xs : Nat → Int32} (X0 : hX) (hF : CallFix p m c code 9 s #[Value.ref b] lw_all R_law) (hr : meth.sig.returnType = ret) (hlocks : meth.locks = false) (hC : HC K X0 s) (hx : va_X b N xs s s.heap) (hbl : b < s.heap.size) (hA0 : ∀ q, hA X0 s.heap.size q → s.heap.size ≤ q) (h : Nat) (a : Nat → Nat) (hap : mAp h a) (hmA : ∀ q, mA h a q → hA X0 s.heap.size q) (J28 : Nat → Nat → Nat → Int32 → hX → mF → mR → mL → mG → Nat → Nat → Prop) (hJ28 : ∀ (x1 : Nat) (x3 : Nat) (x4 : Nat) (x5 : Int32) (X : hX) (F : mF) (R : mR) (L : mL) (G : mG) (kc ks : Nat) (H : Heap) (locs : List Loc) (ls : Array Slot), hI K X0 s.heap.size X H → mP K.1 h a F R L G H → hdis X h a → va_S (hA X0 s.heap.size) s.heap H locs → kc ≤ 1200048 ∧ ks ≤ 5501818 → lv_has ls 9 [(0, .ref b), (1, .ref x1), (2, .ref h), (3, .ref x3), (4, .ref x4), (5, .int x5)] → J28 x1 x3 x4 x5 X F R L G kc ks → W p l e room_1 s m #[Value.ref b] below meth c H locs kc ks (lw_Z below #[Value.ref b] s) (F0 m 28 ls [])) : ∀ (x1 : Nat) (x3 : Nat) (x4 : Nat) (x5 : Int32) (X : hX) (F : mF) (R : mR) (L : mL) (G : mG) (kc ks : Nat) (H : Heap) (locs : List Loc) (ls : Array Slot), hI K X0 s.heap.size X H → mP K.1 h a F R L G H → hdis X h a → va_S (hA X0 s.heap.size) s.heap H locs → kc ≤ 1200048 ∧ ks ≤ 5501818 → lv_has ls 9 [(0, .ref b), (1, .ref x1), (2, .ref h), (3, .ref x3), (4, .ref x4), (5, .int x5)] → wpL_3412 (K.2.2 0) 1200048 5501818 N xs J28 x1 x3 x4 x5 X F R L G kc ks → W p l e room_1 s m #[Value.ref b] below meth c H locs kc ks (lw_Z below #[Value.ref b] s) (F0 m 3412 ls []) := by
  have hbA : ¬ hA X0 s.heap.size b := fun z => Nat.not_lt.mpr (hA0 b z) hbl
  intro x1 x3 x4 x5 X F R L G kc ks H locs ls hP hM hD hS hk hl hw
  unfold wpL_3412 at hw
  refine lv_aload_n hF.1 hF.2.1 dL_law_3412 rfl (lv_at hl 1 rfl) ?_
  obtain ⟨ho_1451, hw⟩ := hw
  refine lk_i (hr_V (As := []) (rest := []) (T := TX1) (N := 4) (ci := 1) hF hl.1 hC hP hS (metX1_states l K _ _ X x1) rfl (cwV 0 hF.2.2.2.2 (lw_V q425 q426 q427 q75 q428) rfl rfl rfl (by decide +kernel) ⟨Nat.le_of_ble_eq_true rfl, Nat.le_of_ble_eq_true rfl⟩) ho_1451 hw rfl rfl (Nat.le_of_ble_eq_true rfl) dL_law_3413 hk) hP hM hD hS (fun r_1449 X_1450 H locs hw hP hM hD hS => ?_)
  refine lv_aload_n hF.1 hF.2.1 dL_law_3416 rfl (lv_at hl 2 rfl) ?_
  refine lm_i (As := []) (rest := [.int r_1449]) hF hl.1 hC (metX3_states l K.1 h a hap _ F R L G) (cwV 0 hF.2.2.2.2 (lw_V q2270 q2271 q2272 q85 q2273) rfl rfl rfl (by decide +kernel) ⟨Nat.le_of_ble_eq_true rfl, Nat.le_of_ble_eq_true rfl⟩) hP hM hD hS hmA hw rfl rfl (Nat.le_of_ble_eq_true rfl) dL_law_3417 hk (fun r_1452 F_1453 R_1454 L_1455 G_1456 H locs hw hP hM hS => ?_)
  refine lv_icmp_eq (tgt := 3714) hF.1 hF.2.1 dL_law_3420 (by decide) (fun c_1457 => ?_) (fun c_1457 => ?_)
  · have hw := hw.1 c_1457
    obtain ⟨x5_1458, ex5_1458⟩ : ∃ y : Int32, y = x5 + 5 := ⟨_, rfl⟩
    have hw := hw x5_1458 ex5_1458
    refine lv_iinc (v := x5_1458) (lv' := [(5, .int x5_1458), (0, .ref b), (1, .ref x1), (2, .ref h), (3, .ref x3), (4, .ref x4)]) hF.1 hF.2.1 dL_law_3714 hl (k := 5) rfl (by rw [ex5_1458]; rfl) (by decide) rfl (fun ls hl => ?_)
    refine lv_goto (tgt := 28) hF.1 hF.2.1 dL_law_3717 (by decide) ?_
    exact hJ28 x1 x3 x4 x5_1458 X_1450 F_1453 R_1454 L_1455 G_1456 kc ks _ _ ls hP hM hD hS hk (lv_sub hl [1, 2, 3, 4, 5, 0] rfl) hw
  · have hw := hw.2 c_1457
    refine lv_iconst (v := 0) hF.1 hF.2.1 dL_law_3423 (by decide) ?_
    exact l_end hF hr hlocks hA0 hS hk dL_law_3424 hw
def wpL_3466 (E mc ms N : Nat) (xs : Nat → Int32) (J28 : Nat → Nat → Nat → Int32 → hX → mF → mR → mL → mG → Nat → Nat → Prop) (x1 : Nat) (x3 : Nat) (x4 : Nat) (x5 : Int32) (X : hX) (F : mF) (R : mR) (L : mL) (G : mG) (kc ks : Nat) : Prop := (∀ x5_1459 : Int32, x5_1459 = x5 + 5 → J28 x1 x3 x4 x5_1459 X F R L G kc ks)
set_option maxHeartbeats 8000000 in
theorem Tl3466 {p : Program} {e : Env} {s : State} {m : MethodId} {below : List Frame} {meth : Method} {c : Code} (l : Launch) (hlt : l.stackTraces = false) (K : HK) {b N : Nat} {xs : Nat → Int32} (X0 : hX) (hF : CallFix p m c code 9 s #[Value.ref b] lw_all R_law) (hr : meth.sig.returnType = ret) (hlocks : meth.locks = false) (hC : HC K X0 s) (hx : va_X b N xs s s.heap) (hbl : b < s.heap.size) (hA0 : ∀ q, hA X0 s.heap.size q → s.heap.size ≤ q) (h : Nat) (a : Nat → Nat) (hap : mAp h a) (hmA : ∀ q, mA h a q → hA X0 s.heap.size q) (J28 : Nat → Nat → Nat → Int32 → hX → mF → mR → mL → mG → Nat → Nat → Prop) (hJ28 : ∀ (x1 : Nat) (x3 : Nat) (x4 : Nat) (x5 : Int32) (X : hX) (F : mF) (R : mR) (L : mL) (G : mG) (kc ks : Nat) (H : Heap) (locs : List Loc) (ls : Array Slot), hI K X0 s.heap.size X H → mP K.1 h a F R L G H → hdis X h a → va_S (hA X0 s.heap.size) s.heap H locs → kc ≤ 1200048 ∧ ks ≤ 5501818 → lv_has ls 9 [(0, .ref b), (1, .ref x1), (2, .ref h), (3, .ref x3), (4, .ref x4), (5, .int x5)] → J28 x1 x3 x4 x5 X F R L G kc ks → W p l e room_1 s m #[Value.ref b] below meth c H locs kc ks (lw_Z below #[Value.ref b] s) (F0 m 28 ls [])) : ∀ (x1 : Nat) (x3 : Nat) (x4 : Nat) (x5 : Int32) (X : hX) (F : mF) (R : mR) (L : mL) (G : mG) (kc ks : Nat) (H : Heap) (locs : List Loc) (ls : Array Slot), hI K X0 s.heap.size X H → mP K.1 h a F R L G H → hdis X h a → va_S (hA X0 s.heap.size) s.heap H locs → kc ≤ 1200048 ∧ ks ≤ 5501818 → lv_has ls 9 [(0, .ref b), (1, .ref x1), (2, .ref h), (3, .ref x3), (4, .ref x4), (5, .int x5)] → wpL_3466 (K.2.2 0) 1200048 5501818 N xs J28 x1 x3 x4 x5 X F R L G kc ks → W p l e room_1 s m #[Value.ref b] below meth c H locs kc ks (lw_Z below #[Value.ref b] s) (F0 m 3466 ls []) := by
  have hbA : ¬ hA X0 s.heap.size b := fun z => Nat.not_lt.mpr (hA0 b z) hbl
  intro x1 x3 x4 x5 X F R L G kc ks H locs ls hP hM hD hS hk hl hw
  unfold wpL_3466 at hw
  refine lv_goto (tgt := 3714) hF.1 hF.2.1 dL_law_3466 (by decide) ?_
  obtain ⟨x5_1459, ex5_1459⟩ : ∃ y : Int32, y = x5 + 5 := ⟨_, rfl⟩
  have hw := hw x5_1459 ex5_1459
  refine lv_iinc (v := x5_1459) (lv' := [(5, .int x5_1459), (0, .ref b), (1, .ref x1), (2, .ref h), (3, .ref x3), (4, .ref x4)]) hF.1 hF.2.1 dL_law_3714 hl (k := 5) rfl (by rw [ex5_1459]; rfl) (by decide) rfl (fun ls hl => ?_)
  refine lv_goto (tgt := 28) hF.1 hF.2.1 dL_law_3717 (by decide) ?_
  exact hJ28 x1 x3 x4 x5_1459 X F R L G kc ks _ _ ls hP hM hD hS hk (lv_sub hl [1, 2, 3, 4, 5, 0] rfl) hw
def wpL_3425 (E mc ms N : Nat) (xs : Nat → Int32) (J28 : Nat → Nat → Nat → Int32 → hX → mF → mR → mL → mG → Nat → Nat → Prop) (x1 : Nat) (x3 : Nat) (x4 : Nat) (x5 : Int32) (X : hX) (F : mF) (R : mR) (L : mL) (G : mG) (kc ks : Nat) : Prop := (∃ mc_1462 ms_1463 : Nat, kc + mc_1462 ≤ mc ∧ ks + ms_1463 ≤ ms ∧ wpX0_undo (fun r_1460 X_1461 => wpX3_undo (fun r_1466 F_1467 R_1468 L_1469 G_1470 => wpX3_thrown (fun r_1471 F_1472 R_1473 L_1474 G_1475 => ((r_1471 = r_1460 → ((r_1460 = 0 → alJ X_1461 x3 0 (fun v_1482 => ((v_1482 = (Int32.toInt64 r_1466) → wpL_3466 E mc ms N xs J28 x1 x3 x4 x5 X_1461 F_1472 R_1473 L_1474 G_1475 (kc + mc_1462) (ks + ms_1463)) ∧ (¬ v_1482 = (Int32.toInt64 r_1466) → (0 : Int32) = 1)))) ∧ (¬ r_1460 = 0 → wpL_3466 E mc ms N xs J28 x1 x3 x4 x5 X_1461 F_1472 R_1473 L_1474 G_1475 (kc + mc_1462) (ks + ms_1463)))) ∧ (¬ r_1471 = r_1460 → (0 : Int32) = 1))) F_1467 R_1468 L_1469 G_1470) F R L G) (fun _ _ _ => False) E mc_1462 ms_1463 X x1 x3)
set_option maxHeartbeats 8000000 in
theorem Tl3425 {p : Program} {e : Env} {s : State} {m : MethodId} {below : List Frame} {meth : Method} {c : Code} (l : Launch) (hlt : l.stackTraces = false) (K : HK) {b N : Nat} {xs : Nat → Int32} (X0 : hX) (hF : CallFix p m c code 9 s #[Value.ref b] lw_all R_law) (hr : meth.sig.returnType = ret) (hlocks : meth.locks = false) (hC : HC K X0 s) (hx : va_X b N xs s s.heap) (hbl : b < s.heap.size) (hA0 : ∀ q, hA X0 s.heap.size q → s.heap.size ≤ q) (h : Nat) (a : Nat → Nat) (hap : mAp h a) (hmA : ∀ q, mA h a q → hA X0 s.heap.size q) (J28 : Nat → Nat → Nat → Int32 → hX → mF → mR → mL → mG → Nat → Nat → Prop) (hJ28 : ∀ (x1 : Nat) (x3 : Nat) (x4 : Nat) (x5 : Int32) (X : hX) (F : mF) (R : mR) (L : mL) (G : mG) (kc ks : Nat) (H : Heap) (locs : List Loc) (ls : Array Slot), hI K X0 s.heap.size X H → mP K.1 h a F R L G H → hdis X h a → va_S (hA X0 s.heap.size) s.heap H locs → kc ≤ 1200048 ∧ ks ≤ 5501818 → lv_has ls 9 [(0, .ref b), (1, .ref x1), (2, .ref h), (3, .ref x3), (4, .ref x4), (5, .int x5)] → J28 x1 x3 x4 x5 X F R L G kc ks → W p l e room_1 s m #[Value.ref b] below meth c H locs kc ks (lw_Z below #[Value.ref b] s) (F0 m 28 ls [])) : ∀ (x1 : Nat) (x3 : Nat) (x4 : Nat) (x5 : Int32) (X : hX) (F : mF) (R : mR) (L : mL) (G : mG) (kc ks : Nat) (H : Heap) (locs : List Loc) (ls : Array Slot), hI K X0 s.heap.size X H → mP K.1 h a F R L G H → hdis X h a → va_S (hA X0 s.heap.size) s.heap H locs → kc ≤ 1200048 ∧ ks ≤ 5501818 → lv_has ls 9 [(0, .ref b), (1, .ref x1), (2, .ref h), (3, .ref x3), (4, .ref x4), (5, .int x5)] → wpL_3425 (K.2.2 0) 1200048 5501818 N xs J28 x1 x3 x4 x5 X F R L G kc ks → W p l e room_1 s m #[Value.ref b] below meth c H locs kc ks (lw_Z below #[Value.ref b] s) (F0 m 3425 ls []) := by
  have hbA : ¬ hA X0 s.heap.size b := fun z => Nat.not_lt.mpr (hA0 b z) hbl
  intro x1 x3 x4 x5 X F R L G kc ks H locs ls hP hM hD hS hk hl hw
  unfold wpL_3425 at hw
  refine lv_aload_n hF.1 hF.2.1 dL_law_3425 rfl (lv_at hl 1 rfl) ?_
  refine lv_aload_n hF.1 hF.2.1 dL_law_3426 rfl (lv_at hl 3 rfl) ?_
  obtain ⟨mc_1462, ms_1463, hc_1464, hs_1465, hw⟩ := hw
  refine lkx_i (hrx_SX (As := [.ref x1, .ref x3]) (rest := []) hF hl.1 hC hP hS (metX0_undo l hlt K mc_1462 ms_1463 _ _ _ X x1 x3) (vx_cwSW 2 hF.2.2.2.2 (lw_SW q1513 q1514 q74 q1515) rfl rfl rfl (by decide +kernel) ⟨Nat.le_of_ble_eq_true rfl, Nat.le_of_ble_eq_true rfl⟩) hw rfl rfl (Nat.le_of_ble_eq_true rfl) dL_law_3427 ⟨hc_1464, hs_1465⟩) hP hM hD hS (fun r_1460 X_1461 H locs hw hP hM hD hS => ?_)
  refine lv_istore (lv' := [(6, .int r_1460), (0, .ref b), (1, .ref x1), (2, .ref h), (3, .ref x3), (4, .ref x4), (5, .int x5)]) hF.1 hF.2.1 dL_law_3430 hl (by decide) rfl (fun ls hl => ?_)
  refine lv_aload_n hF.1 hF.2.1 dL_law_3432 rfl (lv_at hl 3 rfl) ?_
  refine lm_i (As := []) (rest := []) hF hl.1 hC (metX3_undo l K.1 h a hap _ F R L G) (cwV 0 hF.2.2.2.2 (lw_V q1973 q1974 q1975 q85 q1976) rfl rfl rfl (by decide +kernel) ⟨Nat.le_of_ble_eq_true rfl, Nat.le_of_ble_eq_true rfl⟩) hP hM hD hS hmA hw rfl rfl (Nat.le_of_ble_eq_true rfl) dL_law_3433 ⟨hc_1464, hs_1465⟩ (fun r_1466 F_1467 R_1468 L_1469 G_1470 H locs hw hP hM hS => ?_)
  refine lv_istore (lv' := [(7, .int r_1466), (6, .int r_1460), (0, .ref b), (1, .ref x1), (2, .ref h), (3, .ref x3), (4, .ref x4), (5, .int x5)]) hF.1 hF.2.1 dL_law_3436 hl (by decide) rfl (fun ls hl => ?_)
  refine lv_aload_n hF.1 hF.2.1 dL_law_3438 rfl (lv_at hl 4 rfl) ?_
  refine lm_i (As := []) (rest := []) hF hl.1 hC (metX3_thrown l K.1 h a hap _ F_1467 R_1468 L_1469 G_1470) (cwV 0 hF.2.2.2.2 (lw_V q1813 q1814 q1815 q85 q1816) rfl rfl rfl (by decide +kernel) ⟨Nat.le_of_ble_eq_true rfl, Nat.le_of_ble_eq_true rfl⟩) hP hM hD hS hmA hw rfl rfl (Nat.le_of_ble_eq_true rfl) dL_law_3439 ⟨hc_1464, hs_1465⟩ (fun r_1471 F_1472 R_1473 L_1474 G_1475 H locs hw hP hM hS => ?_)
  refine lv_iload hF.1 hF.2.1 dL_law_3442 (lv_at hl 1 rfl) ?_
  refine lv_icmp_eq (tgt := 3449) hF.1 hF.2.1 dL_law_3444 (by decide) (fun c_1476 => ?_) (fun c_1476 => ?_)
  · have hw := hw.1 c_1476
    refine lv_iload hF.1 hF.2.1 dL_law_3449 (lv_at hl 1 rfl) ?_
    refine lv_if_ne (tgt := 3466) hF.1 hF.2.1 dL_law_3451 (by decide) (fun c_1477 => ?_) (fun c_1477 => ?_)
    · have hw := hw.2 c_1477
      exact Tl3466 l hlt K X0 hF hr hlocks hC hx hbl hA0 h a hap hmA _ hJ28 x1 x3 x4 x5 X_1461 F_1472 R_1473 L_1474 G_1475 (kc + mc_1462) (ks + ms_1463) _ _ ls hP hM hD hS ⟨hc_1464, hs_1465⟩ (lv_sub hl [2, 3, 4, 5, 6, 7] rfl) hw
    · have hw := hw.1 c_1477
      refine lv_aload_n hF.1 hF.2.1 dL_law_3454 rfl (lv_at hl 5 rfl) ?_
      refine lv_iconst (v := 0) hF.1 hF.2.1 dL_law_3455 (by decide) ?_
      obtain ⟨n_1478, f_1479, hx_1480, hi_1481, hw⟩ := hw
      refine x_lald hF hC hP hx_1480 hi_1481 dL_law_3456 ?_
      generalize f_1479 (Int32.toNatClampNeg 0) = v_1482 at hw ⊢
      refine lv_iload hF.1 hF.2.1 dL_law_3457 (lv_at hl 0 rfl) ?_
      refine lv_i2l hF.1 hF.2.1 dL_law_3459 rfl ?_
      refine W.lcmp hF.1 hF.2.1 dL_law_3460 ?_
      refine lv_if_eq (tgt := 3466) hF.1 hF.2.1 dL_law_3461 (by decide) (fun c_1483 => ?_) (fun c_1483 => ?_)
      · rw [lc_eq] at c_1483
        have hw := hw.1 c_1483
        exact Tl3466 l hlt K X0 hF hr hlocks hC hx hbl hA0 h a hap hmA _ hJ28 x1 x3 x4 x5 X_1461 F_1472 R_1473 L_1474 G_1475 (kc + mc_1462) (ks + ms_1463) _ _ ls hP hM hD hS ⟨hc_1464, hs_1465⟩ (lv_sub hl [2, 3, 4, 5, 6, 7] rfl) hw
      · rw [lc_eq] at c_1483
        have hw := hw.2 c_1483
        refine lv_iconst (v := 0) hF.1 hF.2.1 dL_law_3464 (by decide) ?_
        exact l_end hF hr hlocks hA0 hS ⟨hc_1464, hs_1465⟩ dL_law_3465 hw
  · have hw := hw.2 c_1476
    refine lv_iconst (v := 0) hF.1 hF.2.1 dL_law_3447 (by decide) ?_
    exact l_end hF hr hlocks hA0 hS ⟨hc_1464, hs_1465⟩ dL_law_3448 hw
def wpL_3522 (E mc ms N : Nat) (xs : Nat → Int32) (J28 : Nat → Nat → Nat → Int32 → hX → mF → mR → mL → mG → Nat → Nat → Prop) (x1 : Nat) (x3 : Nat) (x4 : Nat) (x5 : Int32) (X : hX) (F : mF) (R : mR) (L : mL) (G : mG) (kc ks : Nat) : Prop := (∀ x5_1484 : Int32, x5_1484 = x5 + 5 → J28 x1 x3 x4 x5_1484 X F R L G kc ks)
set_option maxHeartbeats 8000000 in
theorem Tl3522 {p : Program} {e : Env} {s : State} {m : MethodId} {below : List Frame} {meth : Method} {c : Code} (l : Launch) (hlt : l.stackTraces = false) (K : HK) {b N : Nat} {xs : Nat → Int32} (X0 : hX) (hF : CallFix p m c code 9 s #[Value.ref b] lw_all R_law) (hr : meth.sig.returnType = ret) (hlocks : meth.locks = false) (hC : HC K X0 s) (hx : va_X b N xs s s.heap) (hbl : b < s.heap.size) (hA0 : ∀ q, hA X0 s.heap.size q → s.heap.size ≤ q) (h : Nat) (a : Nat → Nat) (hap : mAp h a) (hmA : ∀ q, mA h a q → hA X0 s.heap.size q) (J28 : Nat → Nat → Nat → Int32 → hX → mF → mR → mL → mG → Nat → Nat → Prop) (hJ28 : ∀ (x1 : Nat) (x3 : Nat) (x4 : Nat) (x5 : Int32) (X : hX) (F : mF) (R : mR) (L : mL) (G : mG) (kc ks : Nat) (H : Heap) (locs : List Loc) (ls : Array Slot), hI K X0 s.heap.size X H → mP K.1 h a F R L G H → hdis X h a → va_S (hA X0 s.heap.size) s.heap H locs → kc ≤ 1200048 ∧ ks ≤ 5501818 → lv_has ls 9 [(0, .ref b), (1, .ref x1), (2, .ref h), (3, .ref x3), (4, .ref x4), (5, .int x5)] → J28 x1 x3 x4 x5 X F R L G kc ks → W p l e room_1 s m #[Value.ref b] below meth c H locs kc ks (lw_Z below #[Value.ref b] s) (F0 m 28 ls [])) : ∀ (x1 : Nat) (x3 : Nat) (x4 : Nat) (x5 : Int32) (X : hX) (F : mF) (R : mR) (L : mL) (G : mG) (kc ks : Nat) (H : Heap) (locs : List Loc) (ls : Array Slot), hI K X0 s.heap.size X H → mP K.1 h a F R L G H → hdis X h a → va_S (hA X0 s.heap.size) s.heap H locs → kc ≤ 1200048 ∧ ks ≤ 5501818 → lv_has ls 9 [(0, .ref b), (1, .ref x1), (2, .ref h), (3, .ref x3), (4, .ref x4), (5, .int x5)] → wpL_3522 (K.2.2 0) 1200048 5501818 N xs J28 x1 x3 x4 x5 X F R L G kc ks → W p l e room_1 s m #[Value.ref b] below meth c H locs kc ks (lw_Z below #[Value.ref b] s) (F0 m 3522 ls []) := by
  have hbA : ¬ hA X0 s.heap.size b := fun z => Nat.not_lt.mpr (hA0 b z) hbl
  intro x1 x3 x4 x5 X F R L G kc ks H locs ls hP hM hD hS hk hl hw
  unfold wpL_3522 at hw
  refine lv_goto (tgt := 3714) hF.1 hF.2.1 dL_law_3522 (by decide) ?_
  obtain ⟨x5_1484, ex5_1484⟩ : ∃ y : Int32, y = x5 + 5 := ⟨_, rfl⟩
  have hw := hw x5_1484 ex5_1484
  refine lv_iinc (v := x5_1484) (lv' := [(5, .int x5_1484), (0, .ref b), (1, .ref x1), (2, .ref h), (3, .ref x3), (4, .ref x4)]) hF.1 hF.2.1 dL_law_3714 hl (k := 5) rfl (by rw [ex5_1484]; rfl) (by decide) rfl (fun ls hl => ?_)
  refine lv_goto (tgt := 28) hF.1 hF.2.1 dL_law_3717 (by decide) ?_
  exact hJ28 x1 x3 x4 x5_1484 X F R L G kc ks _ _ ls hP hM hD hS hk (lv_sub hl [1, 2, 3, 4, 5, 0] rfl) hw
def wpL_3469 (E mc ms N : Nat) (xs : Nat → Int32) (J28 : Nat → Nat → Nat → Int32 → hX → mF → mR → mL → mG → Nat → Nat → Prop) (x1 : Nat) (x3 : Nat) (x4 : Nat) (x5 : Int32) (X : hX) (F : mF) (R : mR) (L : mL) (G : mG) (kc ks : Nat) : Prop := (vp_in (x5 + 1) N ∧ (∃ mc_1488 ms_1489 : Nat, kc + mc_1488 ≤ mc ∧ ks + ms_1489 ≤ ms ∧ wpX0_type (fun r_1486 X_1487 => (vp_in (x5 + 1) N ∧ wpX3_type (fun r_1493 F_1494 R_1495 L_1496 G_1497 => wpX3_thrown (fun r_1498 F_1499 R_1500 L_1501 G_1502 => ((r_1498 = r_1486 → ((r_1486 = 0 → alJ X_1487 x3 0 (fun v_1509 => ((v_1509 = (Int32.toInt64 r_1493) → wpL_3522 E mc ms N xs J28 x1 x3 x4 x5 X_1487 F_1499 R_1500 L_1501 G_1502 (kc + mc_1488) (ks + ms_1489)) ∧ (¬ v_1509 = (Int32.toInt64 r_1493) → (0 : Int32) = 1)))) ∧ (¬ r_1486 = 0 → wpL_3522 E mc ms N xs J28 x1 x3 x4 x5 X_1487 F_1499 R_1500 L_1501 G_1502 (kc + mc_1488) (ks + ms_1489)))) ∧ (¬ r_1498 = r_1486 → (0 : Int32) = 1))) F_1494 R_1495 L_1496 G_1497) F R L G (xs (Int32.toNatClampNeg (x5 + 1))))) (fun _ _ _ => False) E mc_1488 ms_1489 X x1 (xs (Int32.toNatClampNeg (x5 + 1))) x3))
set_option maxHeartbeats 8000000 in
theorem Tl3469 {p : Program} {e : Env} {s : State} {m : MethodId} {below : List Frame} {meth : Method} {c : Code} (l : Launch) (hlt : l.stackTraces = false) (K : HK) {b N : Nat} {xs : Nat → Int32} (X0 : hX) (hF : CallFix p m c code 9 s #[Value.ref b] lw_all R_law) (hr : meth.sig.returnType = ret) (hlocks : meth.locks = false) (hC : HC K X0 s) (hx : va_X b N xs s s.heap) (hbl : b < s.heap.size) (hA0 : ∀ q, hA X0 s.heap.size q → s.heap.size ≤ q) (h : Nat) (a : Nat → Nat) (hap : mAp h a) (hmA : ∀ q, mA h a q → hA X0 s.heap.size q) (J28 : Nat → Nat → Nat → Int32 → hX → mF → mR → mL → mG → Nat → Nat → Prop) (hJ28 : ∀ (x1 : Nat) (x3 : Nat) (x4 : Nat) (x5 : Int32) (X : hX) (F : mF) (R : mR) (L : mL) (G : mG) (kc ks : Nat) (H : Heap) (locs : List Loc) (ls : Array Slot), hI K X0 s.heap.size X H → mP K.1 h a F R L G H → hdis X h a → va_S (hA X0 s.heap.size) s.heap H locs → kc ≤ 1200048 ∧ ks ≤ 5501818 → lv_has ls 9 [(0, .ref b), (1, .ref x1), (2, .ref h), (3, .ref x3), (4, .ref x4), (5, .int x5)] → J28 x1 x3 x4 x5 X F R L G kc ks → W p l e room_1 s m #[Value.ref b] below meth c H locs kc ks (lw_Z below #[Value.ref b] s) (F0 m 28 ls [])) : ∀ (x1 : Nat) (x3 : Nat) (x4 : Nat) (x5 : Int32) (X : hX) (F : mF) (R : mR) (L : mL) (G : mG) (kc ks : Nat) (H : Heap) (locs : List Loc) (ls : Array Slot), hI K X0 s.heap.size X H → mP K.1 h a F R L G H → hdis X h a → va_S (hA X0 s.heap.size) s.heap H locs → kc ≤ 1200048 ∧ ks ≤ 5501818 → lv_has ls 9 [(0, .ref b), (1, .ref x1), (2, .ref h), (3, .ref x3), (4, .ref x4), (5, .int x5)] → wpL_3469 (K.2.2 0) 1200048 5501818 N xs J28 x1 x3 x4 x5 X F R L G kc ks → W p l e room_1 s m #[Value.ref b] below meth c H locs kc ks (lw_Z below #[Value.ref b] s) (F0 m 3469 ls []) := by
  have hbA : ¬ hA X0 s.heap.size b := fun z => Nat.not_lt.mpr (hA0 b z) hbl
  intro x1 x3 x4 x5 X F R L G kc ks H locs ls hP hM hD hS hk hl hw
  unfold wpL_3469 at hw
  refine lv_aload_n hF.1 hF.2.1 dL_law_3469 rfl (lv_at hl 1 rfl) ?_
  refine lv_aload_n hF.1 hF.2.1 dL_law_3470 rfl (lv_at hl 0 rfl) ?_
  refine lv_iload hF.1 hF.2.1 dL_law_3471 (lv_at hl 5 rfl) ?_
  refine lv_iconst (v := 1) hF.1 hF.2.1 dL_law_3473 (by decide) ?_
  refine lv_iadd hF.1 hF.2.1 dL_law_3474 ?_
  obtain ⟨h_1485, hw⟩ := hw
  refine va_sld hF.1 hF.2.1 hx hbl hbA hS h_1485 dL_law_3475 ?_
  refine lv_aload_n hF.1 hF.2.1 dL_law_3476 rfl (lv_at hl 3 rfl) ?_
  obtain ⟨mc_1488, ms_1489, hc_1490, hs_1491, hw⟩ := hw
  refine lkx_i (hrx_SX (As := [.ref x1, .int (xs (Int32.toNatClampNeg (x5 + 1))), .ref x3]) (rest := []) hF hl.1 hC hP hS (metX0_type l hlt K mc_1488 ms_1489 _ _ _ X x1 (xs (Int32.toNatClampNeg (x5 + 1))) x3) (vx_cwSW 3 hF.2.2.2.2 (lw_SW q1535 q1536 q74 q1537) rfl rfl rfl (by decide +kernel) ⟨Nat.le_of_ble_eq_true rfl, Nat.le_of_ble_eq_true rfl⟩) hw rfl rfl (Nat.le_of_ble_eq_true rfl) dL_law_3477 ⟨hc_1490, hs_1491⟩) hP hM hD hS (fun r_1486 X_1487 H locs hw hP hM hD hS => ?_)
  refine lv_istore (lv' := [(6, .int r_1486), (0, .ref b), (1, .ref x1), (2, .ref h), (3, .ref x3), (4, .ref x4), (5, .int x5)]) hF.1 hF.2.1 dL_law_3480 hl (by decide) rfl (fun ls hl => ?_)
  refine lv_aload_n hF.1 hF.2.1 dL_law_3482 rfl (lv_at hl 3 rfl) ?_
  refine lv_aload_n hF.1 hF.2.1 dL_law_3483 rfl (lv_at hl 1 rfl) ?_
  refine lv_iload hF.1 hF.2.1 dL_law_3484 (lv_at hl 6 rfl) ?_
  refine lv_iconst (v := 1) hF.1 hF.2.1 dL_law_3486 (by decide) ?_
  refine lv_iadd hF.1 hF.2.1 dL_law_3487 ?_
  obtain ⟨h_1492, hw⟩ := hw
  refine va_sld hF.1 hF.2.1 hx hbl hbA hS h_1492 dL_law_3488 ?_
  refine lm_i (As := [.int (xs (Int32.toNatClampNeg (x5 + 1)))]) (rest := []) hF hl.1 hC (metX3_type l K.1 h a hap _ F R L G (xs (Int32.toNatClampNeg (x5 + 1)))) (cwV 1 hF.2.2.2.2 (lw_V q2274 q2275 q2276 q85 q2277) rfl rfl rfl (by decide +kernel) ⟨Nat.le_of_ble_eq_true rfl, Nat.le_of_ble_eq_true rfl⟩) hP hM hD hS hmA hw rfl rfl (Nat.le_of_ble_eq_true rfl) dL_law_3489 ⟨hc_1490, hs_1491⟩ (fun r_1493 F_1494 R_1495 L_1496 G_1497 H locs hw hP hM hS => ?_)
  refine lv_istore (lv' := [(7, .int r_1493), (6, .int r_1486), (0, .ref b), (1, .ref x1), (2, .ref h), (3, .ref x3), (4, .ref x4), (5, .int x5)]) hF.1 hF.2.1 dL_law_3492 hl (by decide) rfl (fun ls hl => ?_)
  refine lv_aload_n hF.1 hF.2.1 dL_law_3494 rfl (lv_at hl 4 rfl) ?_
  refine lm_i (As := []) (rest := []) hF hl.1 hC (metX3_thrown l K.1 h a hap _ F_1494 R_1495 L_1496 G_1497) (cwV 0 hF.2.2.2.2 (lw_V q1813 q1814 q1815 q85 q1816) rfl rfl rfl (by decide +kernel) ⟨Nat.le_of_ble_eq_true rfl, Nat.le_of_ble_eq_true rfl⟩) hP hM hD hS hmA hw rfl rfl (Nat.le_of_ble_eq_true rfl) dL_law_3495 ⟨hc_1490, hs_1491⟩ (fun r_1498 F_1499 R_1500 L_1501 G_1502 H locs hw hP hM hS => ?_)
  refine lv_iload hF.1 hF.2.1 dL_law_3498 (lv_at hl 1 rfl) ?_
  refine lv_icmp_eq (tgt := 3505) hF.1 hF.2.1 dL_law_3500 (by decide) (fun c_1503 => ?_) (fun c_1503 => ?_)
  · have hw := hw.1 c_1503
    refine lv_iload hF.1 hF.2.1 dL_law_3505 (lv_at hl 1 rfl) ?_
    refine lv_if_ne (tgt := 3522) hF.1 hF.2.1 dL_law_3507 (by decide) (fun c_1504 => ?_) (fun c_1504 => ?_)
    · have hw := hw.2 c_1504
      exact Tl3522 l hlt K X0 hF hr hlocks hC hx hbl hA0 h a hap hmA _ hJ28 x1 x3 x4 x5 X_1487 F_1499 R_1500 L_1501 G_1502 (kc + mc_1488) (ks + ms_1489) _ _ ls hP hM hD hS ⟨hc_1490, hs_1491⟩ (lv_sub hl [2, 3, 4, 5, 6, 7] rfl) hw
    · have hw := hw.1 c_1504
      refine lv_aload_n hF.1 hF.2.1 dL_law_3510 rfl (lv_at hl 5 rfl) ?_
      refine lv_iconst (v := 0) hF.1 hF.2.1 dL_law_3511 (by decide) ?_
      obtain ⟨n_1505, f_1506, hx_1507, hi_1508, hw⟩ := hw
      refine x_lald hF hC hP hx_1507 hi_1508 dL_law_3512 ?_
      generalize f_1506 (Int32.toNatClampNeg 0) = v_1509 at hw ⊢
      refine lv_iload hF.1 hF.2.1 dL_law_3513 (lv_at hl 0 rfl) ?_
      refine lv_i2l hF.1 hF.2.1 dL_law_3515 rfl ?_
      refine W.lcmp hF.1 hF.2.1 dL_law_3516 ?_
      refine lv_if_eq (tgt := 3522) hF.1 hF.2.1 dL_law_3517 (by decide) (fun c_1510 => ?_) (fun c_1510 => ?_)
      · rw [lc_eq] at c_1510
        have hw := hw.1 c_1510
        exact Tl3522 l hlt K X0 hF hr hlocks hC hx hbl hA0 h a hap hmA _ hJ28 x1 x3 x4 x5 X_1487 F_1499 R_1500 L_1501 G_1502 (kc + mc_1488) (ks + ms_1489) _ _ ls hP hM hD hS ⟨hc_1490, hs_1491⟩ (lv_sub hl [2, 3, 4, 5, 6, 7] rfl) hw
      · rw [lc_eq] at c_1510
        have hw := hw.2 c_1510
        refine lv_iconst (v := 0) hF.1 hF.2.1 dL_law_3520 (by decide) ?_
        exact l_end hF hr hlocks hA0 hS ⟨hc_1490, hs_1491⟩ dL_law_3521 hw
  · have hw := hw.2 c_1503
    refine lv_iconst (v := 0) hF.1 hF.2.1 dL_law_3503 (by decide) ?_
    exact l_end hF hr hlocks hA0 hS ⟨hc_1490, hs_1491⟩ dL_law_3504 hw
def wpL_3525 (E mc ms N : Nat) (xs : Nat → Int32) (J28 : Nat → Nat → Nat → Int32 → hX → mF → mR → mL → mG → Nat → Nat → Prop) (x1 : Nat) (x3 : Nat) (x4 : Nat) (x5 : Int32) (X : hX) (F : mF) (R : mR) (L : mL) (G : mG) (kc ks : Nat) : Prop := isO X x1 1 ((∃ mc_1514 ms_1515 : Nat, kc + mc_1514 ≤ mc ∧ ks + ms_1515 ≤ ms ∧ wpX1_clearText (fun r_1511 X_1512 => wpX3_clearText (fun r_1518 F_1519 R_1520 L_1521 G_1522 => ((r_1511 = r_1518 → (∀ x5_1524 : Int32, x5_1524 = x5 + 5 → J28 x1 x3 x4 x5_1524 X_1512 F_1519 R_1520 L_1521 G_1522 (kc + mc_1514) (ks + ms_1515))) ∧ (¬ r_1511 = r_1518 → (0 : Int32) = 1))) F R L G) E mc_1514 ms_1515 X x1))
set_option maxHeartbeats 8000000 in
theorem Tl3525 {p : Program} {e : Env} {s : State} {m : MethodId} {below : List Frame} {meth : Method} {c : Code} (l : Launch) (hlt : l.stackTraces = false) (K : HK) {b N : Nat} {xs : Nat → Int32} (X0 : hX) (hF : CallFix p m c code 9 s #[Value.ref b] lw_all R_law) (hr : meth.sig.returnType = ret) (hlocks : meth.locks = false) (hC : HC K X0 s) (hx : va_X b N xs s s.heap) (hbl : b < s.heap.size) (hA0 : ∀ q, hA X0 s.heap.size q → s.heap.size ≤ q) (h : Nat) (a : Nat → Nat) (hap : mAp h a) (hmA : ∀ q, mA h a q → hA X0 s.heap.size q) (J28 : Nat → Nat → Nat → Int32 → hX → mF → mR → mL → mG → Nat → Nat → Prop) (hJ28 : ∀ (x1 : Nat) (x3 : Nat) (x4 : Nat) (x5 : Int32) (X : hX) (F : mF) (R : mR) (L : mL) (G : mG) (kc ks : Nat) (H : Heap) (locs : List Loc) (ls : Array Slot), hI K X0 s.heap.size X H → mP K.1 h a F R L G H → hdis X h a → va_S (hA X0 s.heap.size) s.heap H locs → kc ≤ 1200048 ∧ ks ≤ 5501818 → lv_has ls 9 [(0, .ref b), (1, .ref x1), (2, .ref h), (3, .ref x3), (4, .ref x4), (5, .int x5)] → J28 x1 x3 x4 x5 X F R L G kc ks → W p l e room_1 s m #[Value.ref b] below meth c H locs kc ks (lw_Z below #[Value.ref b] s) (F0 m 28 ls [])) : ∀ (x1 : Nat) (x3 : Nat) (x4 : Nat) (x5 : Int32) (X : hX) (F : mF) (R : mR) (L : mL) (G : mG) (kc ks : Nat) (H : Heap) (locs : List Loc) (ls : Array Slot), hI K X0 s.heap.size X H → mP K.1 h a F R L G H → hdis X h a → va_S (hA X0 s.heap.size) s.heap H locs → kc ≤ 1200048 ∧ ks ≤ 5501818 → lv_has ls 9 [(0, .ref b), (1, .ref x1), (2, .ref h), (3, .ref x3), (4, .ref x4), (5, .int x5)] → wpL_3525 (K.2.2 0) 1200048 5501818 N xs J28 x1 x3 x4 x5 X F R L G kc ks → W p l e room_1 s m #[Value.ref b] below meth c H locs kc ks (lw_Z below #[Value.ref b] s) (F0 m 3525 ls []) := by
  have hbA : ¬ hA X0 s.heap.size b := fun z => Nat.not_lt.mpr (hA0 b z) hbl
  intro x1 x3 x4 x5 X F R L G kc ks H locs ls hP hM hD hS hk hl hw
  unfold wpL_3525 at hw
  refine lv_aload_n hF.1 hF.2.1 dL_law_3525 rfl (lv_at hl 1 rfl) ?_
  obtain ⟨ho_1513, hw⟩ := hw
  obtain ⟨mc_1514, ms_1515, hc_1516, hs_1517, hw⟩ := hw
  refine lk_i (hr_V (As := []) (rest := []) (T := TX1) (N := 4) (ci := 1) hF hl.1 hC hP hS (metX1_clearText l K mc_1514 ms_1515 _ _ X x1) rfl (cwV 0 hF.2.2.2.2 (lw_V q436 q437 q438 q75 q439) rfl rfl rfl (by decide +kernel) ⟨Nat.le_of_ble_eq_true rfl, Nat.le_of_ble_eq_true rfl⟩) ho_1513 hw rfl rfl (Nat.le_of_ble_eq_true rfl) dL_law_3526 ⟨hc_1516, hs_1517⟩) hP hM hD hS (fun r_1511 X_1512 H locs hw hP hM hD hS => ?_)
  refine lv_aload_n hF.1 hF.2.1 dL_law_3529 rfl (lv_at hl 2 rfl) ?_
  refine lm_i (As := []) (rest := [.int r_1511]) hF hl.1 hC (metX3_clearText l K.1 h a hap _ F R L G) (cwV 0 hF.2.2.2.2 (lw_V q2278 q2279 q2280 q85 q2281) rfl rfl rfl (by decide +kernel) ⟨Nat.le_of_ble_eq_true rfl, Nat.le_of_ble_eq_true rfl⟩) hP hM hD hS hmA hw rfl rfl (Nat.le_of_ble_eq_true rfl) dL_law_3530 ⟨hc_1516, hs_1517⟩ (fun r_1518 F_1519 R_1520 L_1521 G_1522 H locs hw hP hM hS => ?_)
  refine lv_icmp_eq (tgt := 3714) hF.1 hF.2.1 dL_law_3533 (by decide) (fun c_1523 => ?_) (fun c_1523 => ?_)
  · have hw := hw.1 c_1523
    obtain ⟨x5_1524, ex5_1524⟩ : ∃ y : Int32, y = x5 + 5 := ⟨_, rfl⟩
    have hw := hw x5_1524 ex5_1524
    refine lv_iinc (v := x5_1524) (lv' := [(5, .int x5_1524), (0, .ref b), (1, .ref x1), (2, .ref h), (3, .ref x3), (4, .ref x4)]) hF.1 hF.2.1 dL_law_3714 hl (k := 5) rfl (by rw [ex5_1524]; rfl) (by decide) rfl (fun ls hl => ?_)
    refine lv_goto (tgt := 28) hF.1 hF.2.1 dL_law_3717 (by decide) ?_
    exact hJ28 x1 x3 x4 x5_1524 X_1512 F_1519 R_1520 L_1521 G_1522 (kc + mc_1514) (ks + ms_1515) _ _ ls hP hM hD hS ⟨hc_1516, hs_1517⟩ (lv_sub hl [1, 2, 3, 4, 5, 0] rfl) hw
  · have hw := hw.2 c_1523
    refine lv_iconst (v := 0) hF.1 hF.2.1 dL_law_3536 (by decide) ?_
    exact l_end hF hr hlocks hA0 hS ⟨hc_1516, hs_1517⟩ dL_law_3537 hw
def wpL_3579 (E mc ms N : Nat) (xs : Nat → Int32) (J28 : Nat → Nat → Nat → Int32 → hX → mF → mR → mL → mG → Nat → Nat → Prop) (x1 : Nat) (x3 : Nat) (x4 : Nat) (x5 : Int32) (X : hX) (F : mF) (R : mR) (L : mL) (G : mG) (kc ks : Nat) : Prop := (∀ x5_1525 : Int32, x5_1525 = x5 + 5 → J28 x1 x3 x4 x5_1525 X F R L G kc ks)
set_option maxHeartbeats 8000000 in
theorem Tl3579 {p : Program} {e : Env} {s : State} {m : MethodId} {below : List Frame} {meth : Method} {c : Code} (l : Launch) (hlt : l.stackTraces = false) (K : HK) {b N : Nat} {xs : Nat → Int32} (X0 : hX) (hF : CallFix p m c code 9 s #[Value.ref b] lw_all R_law) (hr : meth.sig.returnType = ret) (hlocks : meth.locks = false) (hC : HC K X0 s) (hx : va_X b N xs s s.heap) (hbl : b < s.heap.size) (hA0 : ∀ q, hA X0 s.heap.size q → s.heap.size ≤ q) (h : Nat) (a : Nat → Nat) (hap : mAp h a) (hmA : ∀ q, mA h a q → hA X0 s.heap.size q) (J28 : Nat → Nat → Nat → Int32 → hX → mF → mR → mL → mG → Nat → Nat → Prop) (hJ28 : ∀ (x1 : Nat) (x3 : Nat) (x4 : Nat) (x5 : Int32) (X : hX) (F : mF) (R : mR) (L : mL) (G : mG) (kc ks : Nat) (H : Heap) (locs : List Loc) (ls : Array Slot), hI K X0 s.heap.size X H → mP K.1 h a F R L G H → hdis X h a → va_S (hA X0 s.heap.size) s.heap H locs → kc ≤ 1200048 ∧ ks ≤ 5501818 → lv_has ls 9 [(0, .ref b), (1, .ref x1), (2, .ref h), (3, .ref x3), (4, .ref x4), (5, .int x5)] → J28 x1 x3 x4 x5 X F R L G kc ks → W p l e room_1 s m #[Value.ref b] below meth c H locs kc ks (lw_Z below #[Value.ref b] s) (F0 m 28 ls [])) : ∀ (x1 : Nat) (x3 : Nat) (x4 : Nat) (x5 : Int32) (X : hX) (F : mF) (R : mR) (L : mL) (G : mG) (kc ks : Nat) (H : Heap) (locs : List Loc) (ls : Array Slot), hI K X0 s.heap.size X H → mP K.1 h a F R L G H → hdis X h a → va_S (hA X0 s.heap.size) s.heap H locs → kc ≤ 1200048 ∧ ks ≤ 5501818 → lv_has ls 9 [(0, .ref b), (1, .ref x1), (2, .ref h), (3, .ref x3), (4, .ref x4), (5, .int x5)] → wpL_3579 (K.2.2 0) 1200048 5501818 N xs J28 x1 x3 x4 x5 X F R L G kc ks → W p l e room_1 s m #[Value.ref b] below meth c H locs kc ks (lw_Z below #[Value.ref b] s) (F0 m 3579 ls []) := by
  have hbA : ¬ hA X0 s.heap.size b := fun z => Nat.not_lt.mpr (hA0 b z) hbl
  intro x1 x3 x4 x5 X F R L G kc ks H locs ls hP hM hD hS hk hl hw
  unfold wpL_3579 at hw
  refine lv_goto (tgt := 3714) hF.1 hF.2.1 dL_law_3579 (by decide) ?_
  obtain ⟨x5_1525, ex5_1525⟩ : ∃ y : Int32, y = x5 + 5 := ⟨_, rfl⟩
  have hw := hw x5_1525 ex5_1525
  refine lv_iinc (v := x5_1525) (lv' := [(5, .int x5_1525), (0, .ref b), (1, .ref x1), (2, .ref h), (3, .ref x3), (4, .ref x4)]) hF.1 hF.2.1 dL_law_3714 hl (k := 5) rfl (by rw [ex5_1525]; rfl) (by decide) rfl (fun ls hl => ?_)
  refine lv_goto (tgt := 28) hF.1 hF.2.1 dL_law_3717 (by decide) ?_
  exact hJ28 x1 x3 x4 x5_1525 X F R L G kc ks _ _ ls hP hM hD hS hk (lv_sub hl [1, 2, 3, 4, 5, 0] rfl) hw
def wpL_3538 (E mc ms N : Nat) (xs : Nat → Int32) (J28 : Nat → Nat → Nat → Int32 → hX → mF → mR → mL → mG → Nat → Nat → Prop) (x1 : Nat) (x3 : Nat) (x4 : Nat) (x5 : Int32) (X : hX) (F : mF) (R : mR) (L : mL) (G : mG) (kc ks : Nat) : Prop := (∃ mc_1528 ms_1529 : Nat, kc + mc_1528 ≤ mc ∧ ks + ms_1529 ≤ ms ∧ wpX0_faultPosition (fun r_1526 X_1527 => wpX3_faultPosition (fun r_1532 F_1533 R_1534 L_1535 G_1536 => wpX3_thrown (fun r_1537 F_1538 R_1539 L_1540 G_1541 => ((r_1537 = r_1526 → ((r_1526 = 0 → alJ X_1527 x3 0 (fun v_1548 => ((v_1548 = (Int32.toInt64 r_1532) → wpL_3579 E mc ms N xs J28 x1 x3 x4 x5 X_1527 F_1538 R_1539 L_1540 G_1541 (kc + mc_1528) (ks + ms_1529)) ∧ (¬ v_1548 = (Int32.toInt64 r_1532) → (0 : Int32) = 1)))) ∧ (¬ r_1526 = 0 → wpL_3579 E mc ms N xs J28 x1 x3 x4 x5 X_1527 F_1538 R_1539 L_1540 G_1541 (kc + mc_1528) (ks + ms_1529)))) ∧ (¬ r_1537 = r_1526 → (0 : Int32) = 1))) F_1533 R_1534 L_1535 G_1536) F R L G) (fun _ _ _ => False) E mc_1528 ms_1529 X x1 x3)
set_option maxHeartbeats 8000000 in
theorem Tl3538 {p : Program} {e : Env} {s : State} {m : MethodId} {below : List Frame} {meth : Method} {c : Code} (l : Launch) (hlt : l.stackTraces = false) (K : HK) {b N : Nat} {xs : Nat → Int32} (X0 : hX) (hF : CallFix p m c code 9 s #[Value.ref b] lw_all R_law) (hr : meth.sig.returnType = ret) (hlocks : meth.locks = false) (hC : HC K X0 s) (hx : va_X b N xs s s.heap) (hbl : b < s.heap.size) (hA0 : ∀ q, hA X0 s.heap.size q → s.heap.size ≤ q) (h : Nat) (a : Nat → Nat) (hap : mAp h a) (hmA : ∀ q, mA h a q → hA X0 s.heap.size q) (J28 : Nat → Nat → Nat → Int32 → hX → mF → mR → mL → mG → Nat → Nat → Prop) (hJ28 : ∀ (x1 : Nat) (x3 : Nat) (x4 : Nat) (x5 : Int32) (X : hX) (F : mF) (R : mR) (L : mL) (G : mG) (kc ks : Nat) (H : Heap) (locs : List Loc) (ls : Array Slot), hI K X0 s.heap.size X H → mP K.1 h a F R L G H → hdis X h a → va_S (hA X0 s.heap.size) s.heap H locs → kc ≤ 1200048 ∧ ks ≤ 5501818 → lv_has ls 9 [(0, .ref b), (1, .ref x1), (2, .ref h), (3, .ref x3), (4, .ref x4), (5, .int x5)] → J28 x1 x3 x4 x5 X F R L G kc ks → W p l e room_1 s m #[Value.ref b] below meth c H locs kc ks (lw_Z below #[Value.ref b] s) (F0 m 28 ls [])) : ∀ (x1 : Nat) (x3 : Nat) (x4 : Nat) (x5 : Int32) (X : hX) (F : mF) (R : mR) (L : mL) (G : mG) (kc ks : Nat) (H : Heap) (locs : List Loc) (ls : Array Slot), hI K X0 s.heap.size X H → mP K.1 h a F R L G H → hdis X h a → va_S (hA X0 s.heap.size) s.heap H locs → kc ≤ 1200048 ∧ ks ≤ 5501818 → lv_has ls 9 [(0, .ref b), (1, .ref x1), (2, .ref h), (3, .ref x3), (4, .ref x4), (5, .int x5)] → wpL_3538 (K.2.2 0) 1200048 5501818 N xs J28 x1 x3 x4 x5 X F R L G kc ks → W p l e room_1 s m #[Value.ref b] below meth c H locs kc ks (lw_Z below #[Value.ref b] s) (F0 m 3538 ls []) := by
  have hbA : ¬ hA X0 s.heap.size b := fun z => Nat.not_lt.mpr (hA0 b z) hbl
  intro x1 x3 x4 x5 X F R L G kc ks H locs ls hP hM hD hS hk hl hw
  unfold wpL_3538 at hw
  refine lv_aload_n hF.1 hF.2.1 dL_law_3538 rfl (lv_at hl 1 rfl) ?_
  refine lv_aload_n hF.1 hF.2.1 dL_law_3539 rfl (lv_at hl 3 rfl) ?_
  obtain ⟨mc_1528, ms_1529, hc_1530, hs_1531, hw⟩ := hw
  refine lkx_i (hrx_SX (As := [.ref x1, .ref x3]) (rest := []) hF hl.1 hC hP hS (metX0_faultPosition l hlt K mc_1528 ms_1529 _ _ _ X x1 x3) (vx_cwSW 2 hF.2.2.2.2 (lw_SW q1564 q1565 q74 q1566) rfl rfl rfl (by decide +kernel) ⟨Nat.le_of_ble_eq_true rfl, Nat.le_of_ble_eq_true rfl⟩) hw rfl rfl (Nat.le_of_ble_eq_true rfl) dL_law_3540 ⟨hc_1530, hs_1531⟩) hP hM hD hS (fun r_1526 X_1527 H locs hw hP hM hD hS => ?_)
  refine lv_istore (lv' := [(6, .int r_1526), (0, .ref b), (1, .ref x1), (2, .ref h), (3, .ref x3), (4, .ref x4), (5, .int x5)]) hF.1 hF.2.1 dL_law_3543 hl (by decide) rfl (fun ls hl => ?_)
  refine lv_aload_n hF.1 hF.2.1 dL_law_3545 rfl (lv_at hl 3 rfl) ?_
  refine lm_i (As := []) (rest := []) hF hl.1 hC (metX3_faultPosition l K.1 h a hap _ F R L G) (cwV 0 hF.2.2.2.2 (lw_V q2282 q2283 q2284 q85 q2285) rfl rfl rfl (by decide +kernel) ⟨Nat.le_of_ble_eq_true rfl, Nat.le_of_ble_eq_true rfl⟩) hP hM hD hS hmA hw rfl rfl (Nat.le_of_ble_eq_true rfl) dL_law_3546 ⟨hc_1530, hs_1531⟩ (fun r_1532 F_1533 R_1534 L_1535 G_1536 H locs hw hP hM hS => ?_)
  refine lv_istore (lv' := [(7, .int r_1532), (6, .int r_1526), (0, .ref b), (1, .ref x1), (2, .ref h), (3, .ref x3), (4, .ref x4), (5, .int x5)]) hF.1 hF.2.1 dL_law_3549 hl (by decide) rfl (fun ls hl => ?_)
  refine lv_aload_n hF.1 hF.2.1 dL_law_3551 rfl (lv_at hl 4 rfl) ?_
  refine lm_i (As := []) (rest := []) hF hl.1 hC (metX3_thrown l K.1 h a hap _ F_1533 R_1534 L_1535 G_1536) (cwV 0 hF.2.2.2.2 (lw_V q1813 q1814 q1815 q85 q1816) rfl rfl rfl (by decide +kernel) ⟨Nat.le_of_ble_eq_true rfl, Nat.le_of_ble_eq_true rfl⟩) hP hM hD hS hmA hw rfl rfl (Nat.le_of_ble_eq_true rfl) dL_law_3552 ⟨hc_1530, hs_1531⟩ (fun r_1537 F_1538 R_1539 L_1540 G_1541 H locs hw hP hM hS => ?_)
  refine lv_iload hF.1 hF.2.1 dL_law_3555 (lv_at hl 1 rfl) ?_
  refine lv_icmp_eq (tgt := 3562) hF.1 hF.2.1 dL_law_3557 (by decide) (fun c_1542 => ?_) (fun c_1542 => ?_)
  · have hw := hw.1 c_1542
    refine lv_iload hF.1 hF.2.1 dL_law_3562 (lv_at hl 1 rfl) ?_
    refine lv_if_ne (tgt := 3579) hF.1 hF.2.1 dL_law_3564 (by decide) (fun c_1543 => ?_) (fun c_1543 => ?_)
    · have hw := hw.2 c_1543
      exact Tl3579 l hlt K X0 hF hr hlocks hC hx hbl hA0 h a hap hmA _ hJ28 x1 x3 x4 x5 X_1527 F_1538 R_1539 L_1540 G_1541 (kc + mc_1528) (ks + ms_1529) _ _ ls hP hM hD hS ⟨hc_1530, hs_1531⟩ (lv_sub hl [2, 3, 4, 5, 6, 7] rfl) hw
    · have hw := hw.1 c_1543
      refine lv_aload_n hF.1 hF.2.1 dL_law_3567 rfl (lv_at hl 5 rfl) ?_
      refine lv_iconst (v := 0) hF.1 hF.2.1 dL_law_3568 (by decide) ?_
      obtain ⟨n_1544, f_1545, hx_1546, hi_1547, hw⟩ := hw
      refine x_lald hF hC hP hx_1546 hi_1547 dL_law_3569 ?_
      generalize f_1545 (Int32.toNatClampNeg 0) = v_1548 at hw ⊢
      refine lv_iload hF.1 hF.2.1 dL_law_3570 (lv_at hl 0 rfl) ?_
      refine lv_i2l hF.1 hF.2.1 dL_law_3572 rfl ?_
      refine W.lcmp hF.1 hF.2.1 dL_law_3573 ?_
      refine lv_if_eq (tgt := 3579) hF.1 hF.2.1 dL_law_3574 (by decide) (fun c_1549 => ?_) (fun c_1549 => ?_)
      · rw [lc_eq] at c_1549
        have hw := hw.1 c_1549
        exact Tl3579 l hlt K X0 hF hr hlocks hC hx hbl hA0 h a hap hmA _ hJ28 x1 x3 x4 x5 X_1527 F_1538 R_1539 L_1540 G_1541 (kc + mc_1528) (ks + ms_1529) _ _ ls hP hM hD hS ⟨hc_1530, hs_1531⟩ (lv_sub hl [2, 3, 4, 5, 6, 7] rfl) hw
      · rw [lc_eq] at c_1549
        have hw := hw.2 c_1549
        refine lv_iconst (v := 0) hF.1 hF.2.1 dL_law_3577 (by decide) ?_
        exact l_end hF hr hlocks hA0 hS ⟨hc_1530, hs_1531⟩ dL_law_3578 hw
  · have hw := hw.2 c_1542
    refine lv_iconst (v := 0) hF.1 hF.2.1 dL_law_3560 (by decide) ?_
    exact l_end hF hr hlocks hA0 hS ⟨hc_1530, hs_1531⟩ dL_law_3561 hw
def wpL_3623 (E mc ms N : Nat) (xs : Nat → Int32) (J28 : Nat → Nat → Nat → Int32 → hX → mF → mR → mL → mG → Nat → Nat → Prop) (x1 : Nat) (x3 : Nat) (x4 : Nat) (x5 : Int32) (X : hX) (F : mF) (R : mR) (L : mL) (G : mG) (kc ks : Nat) : Prop := (∀ x5_1550 : Int32, x5_1550 = x5 + 5 → J28 x1 x3 x4 x5_1550 X F R L G kc ks)
set_option maxHeartbeats 8000000 in
theorem Tl3623 {p : Program} {e : Env} {s : State} {m : MethodId} {below : List Frame} {meth : Method} {c : Code} (l : Launch) (hlt : l.stackTraces = false) (K : HK) {b N : Nat} {xs : Nat → Int32} (X0 : hX) (hF : CallFix p m c code 9 s #[Value.ref b] lw_all R_law) (hr : meth.sig.returnType = ret) (hlocks : meth.locks = false) (hC : HC K X0 s) (hx : va_X b N xs s s.heap) (hbl : b < s.heap.size) (hA0 : ∀ q, hA X0 s.heap.size q → s.heap.size ≤ q) (h : Nat) (a : Nat → Nat) (hap : mAp h a) (hmA : ∀ q, mA h a q → hA X0 s.heap.size q) (J28 : Nat → Nat → Nat → Int32 → hX → mF → mR → mL → mG → Nat → Nat → Prop) (hJ28 : ∀ (x1 : Nat) (x3 : Nat) (x4 : Nat) (x5 : Int32) (X : hX) (F : mF) (R : mR) (L : mL) (G : mG) (kc ks : Nat) (H : Heap) (locs : List Loc) (ls : Array Slot), hI K X0 s.heap.size X H → mP K.1 h a F R L G H → hdis X h a → va_S (hA X0 s.heap.size) s.heap H locs → kc ≤ 1200048 ∧ ks ≤ 5501818 → lv_has ls 9 [(0, .ref b), (1, .ref x1), (2, .ref h), (3, .ref x3), (4, .ref x4), (5, .int x5)] → J28 x1 x3 x4 x5 X F R L G kc ks → W p l e room_1 s m #[Value.ref b] below meth c H locs kc ks (lw_Z below #[Value.ref b] s) (F0 m 28 ls [])) : ∀ (x1 : Nat) (x3 : Nat) (x4 : Nat) (x5 : Int32) (X : hX) (F : mF) (R : mR) (L : mL) (G : mG) (kc ks : Nat) (H : Heap) (locs : List Loc) (ls : Array Slot), hI K X0 s.heap.size X H → mP K.1 h a F R L G H → hdis X h a → va_S (hA X0 s.heap.size) s.heap H locs → kc ≤ 1200048 ∧ ks ≤ 5501818 → lv_has ls 9 [(0, .ref b), (1, .ref x1), (2, .ref h), (3, .ref x3), (4, .ref x4), (5, .int x5)] → wpL_3623 (K.2.2 0) 1200048 5501818 N xs J28 x1 x3 x4 x5 X F R L G kc ks → W p l e room_1 s m #[Value.ref b] below meth c H locs kc ks (lw_Z below #[Value.ref b] s) (F0 m 3623 ls []) := by
  have hbA : ¬ hA X0 s.heap.size b := fun z => Nat.not_lt.mpr (hA0 b z) hbl
  intro x1 x3 x4 x5 X F R L G kc ks H locs ls hP hM hD hS hk hl hw
  unfold wpL_3623 at hw
  refine lv_goto (tgt := 3714) hF.1 hF.2.1 dL_law_3623 (by decide) ?_
  obtain ⟨x5_1550, ex5_1550⟩ : ∃ y : Int32, y = x5 + 5 := ⟨_, rfl⟩
  have hw := hw x5_1550 ex5_1550
  refine lv_iinc (v := x5_1550) (lv' := [(5, .int x5_1550), (0, .ref b), (1, .ref x1), (2, .ref h), (3, .ref x3), (4, .ref x4)]) hF.1 hF.2.1 dL_law_3714 hl (k := 5) rfl (by rw [ex5_1550]; rfl) (by decide) rfl (fun ls hl => ?_)
  refine lv_goto (tgt := 28) hF.1 hF.2.1 dL_law_3717 (by decide) ?_
  exact hJ28 x1 x3 x4 x5_1550 X F R L G kc ks _ _ ls hP hM hD hS hk (lv_sub hl [1, 2, 3, 4, 5, 0] rfl) hw
def wpL_3582 (E mc ms N : Nat) (xs : Nat → Int32) (J28 : Nat → Nat → Nat → Int32 → hX → mF → mR → mL → mG → Nat → Nat → Prop) (x1 : Nat) (x3 : Nat) (x4 : Nat) (x5 : Int32) (X : hX) (F : mF) (R : mR) (L : mL) (G : mG) (kc ks : Nat) : Prop := (∃ mc_1553 ms_1554 : Nat, kc + mc_1553 ≤ mc ∧ ks + ms_1554 ≤ ms ∧ wpX0_faultReason (fun r_1551 X_1552 => wpX3_faultReason (fun r_1557 F_1558 R_1559 L_1560 G_1561 => wpX3_thrown (fun r_1562 F_1563 R_1564 L_1565 G_1566 => ((r_1562 = r_1551 → ((r_1551 = 0 → alJ X_1552 x3 0 (fun v_1573 => ((v_1573 = (Int32.toInt64 r_1557) → wpL_3623 E mc ms N xs J28 x1 x3 x4 x5 X_1552 F_1563 R_1564 L_1565 G_1566 (kc + mc_1553) (ks + ms_1554)) ∧ (¬ v_1573 = (Int32.toInt64 r_1557) → (0 : Int32) = 1)))) ∧ (¬ r_1551 = 0 → wpL_3623 E mc ms N xs J28 x1 x3 x4 x5 X_1552 F_1563 R_1564 L_1565 G_1566 (kc + mc_1553) (ks + ms_1554)))) ∧ (¬ r_1562 = r_1551 → (0 : Int32) = 1))) F_1558 R_1559 L_1560 G_1561) F R L G) (fun _ _ _ => False) E mc_1553 ms_1554 X x1 x3)
set_option maxHeartbeats 8000000 in
theorem Tl3582 {p : Program} {e : Env} {s : State} {m : MethodId} {below : List Frame} {meth : Method} {c : Code} (l : Launch) (hlt : l.stackTraces = false) (K : HK) {b N : Nat} {xs : Nat → Int32} (X0 : hX) (hF : CallFix p m c code 9 s #[Value.ref b] lw_all R_law) (hr : meth.sig.returnType = ret) (hlocks : meth.locks = false) (hC : HC K X0 s) (hx : va_X b N xs s s.heap) (hbl : b < s.heap.size) (hA0 : ∀ q, hA X0 s.heap.size q → s.heap.size ≤ q) (h : Nat) (a : Nat → Nat) (hap : mAp h a) (hmA : ∀ q, mA h a q → hA X0 s.heap.size q) (J28 : Nat → Nat → Nat → Int32 → hX → mF → mR → mL → mG → Nat → Nat → Prop) (hJ28 : ∀ (x1 : Nat) (x3 : Nat) (x4 : Nat) (x5 : Int32) (X : hX) (F : mF) (R : mR) (L : mL) (G : mG) (kc ks : Nat) (H : Heap) (locs : List Loc) (ls : Array Slot), hI K X0 s.heap.size X H → mP K.1 h a F R L G H → hdis X h a → va_S (hA X0 s.heap.size) s.heap H locs → kc ≤ 1200048 ∧ ks ≤ 5501818 → lv_has ls 9 [(0, .ref b), (1, .ref x1), (2, .ref h), (3, .ref x3), (4, .ref x4), (5, .int x5)] → J28 x1 x3 x4 x5 X F R L G kc ks → W p l e room_1 s m #[Value.ref b] below meth c H locs kc ks (lw_Z below #[Value.ref b] s) (F0 m 28 ls [])) : ∀ (x1 : Nat) (x3 : Nat) (x4 : Nat) (x5 : Int32) (X : hX) (F : mF) (R : mR) (L : mL) (G : mG) (kc ks : Nat) (H : Heap) (locs : List Loc) (ls : Array Slot), hI K X0 s.heap.size X H → mP K.1 h a F R L G H → hdis X h a → va_S (hA X0 s.heap.size) s.heap H locs → kc ≤ 1200048 ∧ ks ≤ 5501818 → lv_has ls 9 [(0, .ref b), (1, .ref x1), (2, .ref h), (3, .ref x3), (4, .ref x4), (5, .int x5)] → wpL_3582 (K.2.2 0) 1200048 5501818 N xs J28 x1 x3 x4 x5 X F R L G kc ks → W p l e room_1 s m #[Value.ref b] below meth c H locs kc ks (lw_Z below #[Value.ref b] s) (F0 m 3582 ls []) := by
  have hbA : ¬ hA X0 s.heap.size b := fun z => Nat.not_lt.mpr (hA0 b z) hbl
  intro x1 x3 x4 x5 X F R L G kc ks H locs ls hP hM hD hS hk hl hw
  unfold wpL_3582 at hw
  refine lv_aload_n hF.1 hF.2.1 dL_law_3582 rfl (lv_at hl 1 rfl) ?_
  refine lv_aload_n hF.1 hF.2.1 dL_law_3583 rfl (lv_at hl 3 rfl) ?_
  obtain ⟨mc_1553, ms_1554, hc_1555, hs_1556, hw⟩ := hw
  refine lkx_i (hrx_SX (As := [.ref x1, .ref x3]) (rest := []) hF hl.1 hC hP hS (metX0_faultReason l hlt K mc_1553 ms_1554 _ _ _ X x1 x3) (vx_cwSW 2 hF.2.2.2.2 (lw_SW q1701 q1702 q74 q1703) rfl rfl rfl (by decide +kernel) ⟨Nat.le_of_ble_eq_true rfl, Nat.le_of_ble_eq_true rfl⟩) hw rfl rfl (Nat.le_of_ble_eq_true rfl) dL_law_3584 ⟨hc_1555, hs_1556⟩) hP hM hD hS (fun r_1551 X_1552 H locs hw hP hM hD hS => ?_)
  refine lv_istore (lv' := [(6, .int r_1551), (0, .ref b), (1, .ref x1), (2, .ref h), (3, .ref x3), (4, .ref x4), (5, .int x5)]) hF.1 hF.2.1 dL_law_3587 hl (by decide) rfl (fun ls hl => ?_)
  refine lv_aload_n hF.1 hF.2.1 dL_law_3589 rfl (lv_at hl 3 rfl) ?_
  refine lm_i (As := []) (rest := []) hF hl.1 hC (metX3_faultReason l K.1 h a hap _ F R L G) (cwV 0 hF.2.2.2.2 (lw_V q2314 q2315 q2316 q85 q2317) rfl rfl rfl (by decide +kernel) ⟨Nat.le_of_ble_eq_true rfl, Nat.le_of_ble_eq_true rfl⟩) hP hM hD hS hmA hw rfl rfl (Nat.le_of_ble_eq_true rfl) dL_law_3590 ⟨hc_1555, hs_1556⟩ (fun r_1557 F_1558 R_1559 L_1560 G_1561 H locs hw hP hM hS => ?_)
  refine lv_istore (lv' := [(7, .int r_1557), (6, .int r_1551), (0, .ref b), (1, .ref x1), (2, .ref h), (3, .ref x3), (4, .ref x4), (5, .int x5)]) hF.1 hF.2.1 dL_law_3593 hl (by decide) rfl (fun ls hl => ?_)
  refine lv_aload_n hF.1 hF.2.1 dL_law_3595 rfl (lv_at hl 4 rfl) ?_
  refine lm_i (As := []) (rest := []) hF hl.1 hC (metX3_thrown l K.1 h a hap _ F_1558 R_1559 L_1560 G_1561) (cwV 0 hF.2.2.2.2 (lw_V q1813 q1814 q1815 q85 q1816) rfl rfl rfl (by decide +kernel) ⟨Nat.le_of_ble_eq_true rfl, Nat.le_of_ble_eq_true rfl⟩) hP hM hD hS hmA hw rfl rfl (Nat.le_of_ble_eq_true rfl) dL_law_3596 ⟨hc_1555, hs_1556⟩ (fun r_1562 F_1563 R_1564 L_1565 G_1566 H locs hw hP hM hS => ?_)
  refine lv_iload hF.1 hF.2.1 dL_law_3599 (lv_at hl 1 rfl) ?_
  refine lv_icmp_eq (tgt := 3606) hF.1 hF.2.1 dL_law_3601 (by decide) (fun c_1567 => ?_) (fun c_1567 => ?_)
  · have hw := hw.1 c_1567
    refine lv_iload hF.1 hF.2.1 dL_law_3606 (lv_at hl 1 rfl) ?_
    refine lv_if_ne (tgt := 3623) hF.1 hF.2.1 dL_law_3608 (by decide) (fun c_1568 => ?_) (fun c_1568 => ?_)
    · have hw := hw.2 c_1568
      exact Tl3623 l hlt K X0 hF hr hlocks hC hx hbl hA0 h a hap hmA _ hJ28 x1 x3 x4 x5 X_1552 F_1563 R_1564 L_1565 G_1566 (kc + mc_1553) (ks + ms_1554) _ _ ls hP hM hD hS ⟨hc_1555, hs_1556⟩ (lv_sub hl [2, 3, 4, 5, 6, 7] rfl) hw
    · have hw := hw.1 c_1568
      refine lv_aload_n hF.1 hF.2.1 dL_law_3611 rfl (lv_at hl 5 rfl) ?_
      refine lv_iconst (v := 0) hF.1 hF.2.1 dL_law_3612 (by decide) ?_
      obtain ⟨n_1569, f_1570, hx_1571, hi_1572, hw⟩ := hw
      refine x_lald hF hC hP hx_1571 hi_1572 dL_law_3613 ?_
      generalize f_1570 (Int32.toNatClampNeg 0) = v_1573 at hw ⊢
      refine lv_iload hF.1 hF.2.1 dL_law_3614 (lv_at hl 0 rfl) ?_
      refine lv_i2l hF.1 hF.2.1 dL_law_3616 rfl ?_
      refine W.lcmp hF.1 hF.2.1 dL_law_3617 ?_
      refine lv_if_eq (tgt := 3623) hF.1 hF.2.1 dL_law_3618 (by decide) (fun c_1574 => ?_) (fun c_1574 => ?_)
      · rw [lc_eq] at c_1574
        have hw := hw.1 c_1574
        exact Tl3623 l hlt K X0 hF hr hlocks hC hx hbl hA0 h a hap hmA _ hJ28 x1 x3 x4 x5 X_1552 F_1563 R_1564 L_1565 G_1566 (kc + mc_1553) (ks + ms_1554) _ _ ls hP hM hD hS ⟨hc_1555, hs_1556⟩ (lv_sub hl [2, 3, 4, 5, 6, 7] rfl) hw
      · rw [lc_eq] at c_1574
        have hw := hw.2 c_1574
        refine lv_iconst (v := 0) hF.1 hF.2.1 dL_law_3621 (by decide) ?_
        exact l_end hF hr hlocks hA0 hS ⟨hc_1555, hs_1556⟩ dL_law_3622 hw
  · have hw := hw.2 c_1567
    refine lv_iconst (v := 0) hF.1 hF.2.1 dL_law_3604 (by decide) ?_
    exact l_end hF hr hlocks hA0 hS ⟨hc_1555, hs_1556⟩ dL_law_3605 hw
def wpL_3667 (E mc ms N : Nat) (xs : Nat → Int32) (J28 : Nat → Nat → Nat → Int32 → hX → mF → mR → mL → mG → Nat → Nat → Prop) (x1 : Nat) (x3 : Nat) (x4 : Nat) (x5 : Int32) (X : hX) (F : mF) (R : mR) (L : mL) (G : mG) (kc ks : Nat) : Prop := (∀ x5_1575 : Int32, x5_1575 = x5 + 5 → J28 x1 x3 x4 x5_1575 X F R L G kc ks)
set_option maxHeartbeats 8000000 in
theorem Tl3667 {p : Program} {e : Env} {s : State} {m : MethodId} {below : List Frame} {meth : Method} {c : Code} (l : Launch) (hlt : l.stackTraces = false) (K : HK) {b N : Nat} {xs : Nat → Int32} (X0 : hX) (hF : CallFix p m c code 9 s #[Value.ref b] lw_all R_law) (hr : meth.sig.returnType = ret) (hlocks : meth.locks = false) (hC : HC K X0 s) (hx : va_X b N xs s s.heap) (hbl : b < s.heap.size) (hA0 : ∀ q, hA X0 s.heap.size q → s.heap.size ≤ q) (h : Nat) (a : Nat → Nat) (hap : mAp h a) (hmA : ∀ q, mA h a q → hA X0 s.heap.size q) (J28 : Nat → Nat → Nat → Int32 → hX → mF → mR → mL → mG → Nat → Nat → Prop) (hJ28 : ∀ (x1 : Nat) (x3 : Nat) (x4 : Nat) (x5 : Int32) (X : hX) (F : mF) (R : mR) (L : mL) (G : mG) (kc ks : Nat) (H : Heap) (locs : List Loc) (ls : Array Slot), hI K X0 s.heap.size X H → mP K.1 h a F R L G H → hdis X h a → va_S (hA X0 s.heap.size) s.heap H locs → kc ≤ 1200048 ∧ ks ≤ 5501818 → lv_has ls 9 [(0, .ref b), (1, .ref x1), (2, .ref h), (3, .ref x3), (4, .ref x4), (5, .int x5)] → J28 x1 x3 x4 x5 X F R L G kc ks → W p l e room_1 s m #[Value.ref b] below meth c H locs kc ks (lw_Z below #[Value.ref b] s) (F0 m 28 ls [])) : ∀ (x1 : Nat) (x3 : Nat) (x4 : Nat) (x5 : Int32) (X : hX) (F : mF) (R : mR) (L : mL) (G : mG) (kc ks : Nat) (H : Heap) (locs : List Loc) (ls : Array Slot), hI K X0 s.heap.size X H → mP K.1 h a F R L G H → hdis X h a → va_S (hA X0 s.heap.size) s.heap H locs → kc ≤ 1200048 ∧ ks ≤ 5501818 → lv_has ls 9 [(0, .ref b), (1, .ref x1), (2, .ref h), (3, .ref x3), (4, .ref x4), (5, .int x5)] → wpL_3667 (K.2.2 0) 1200048 5501818 N xs J28 x1 x3 x4 x5 X F R L G kc ks → W p l e room_1 s m #[Value.ref b] below meth c H locs kc ks (lw_Z below #[Value.ref b] s) (F0 m 3667 ls []) := by
  have hbA : ¬ hA X0 s.heap.size b := fun z => Nat.not_lt.mpr (hA0 b z) hbl
  intro x1 x3 x4 x5 X F R L G kc ks H locs ls hP hM hD hS hk hl hw
  unfold wpL_3667 at hw
  refine lv_goto (tgt := 3714) hF.1 hF.2.1 dL_law_3667 (by decide) ?_
  obtain ⟨x5_1575, ex5_1575⟩ : ∃ y : Int32, y = x5 + 5 := ⟨_, rfl⟩
  have hw := hw x5_1575 ex5_1575
  refine lv_iinc (v := x5_1575) (lv' := [(5, .int x5_1575), (0, .ref b), (1, .ref x1), (2, .ref h), (3, .ref x3), (4, .ref x4)]) hF.1 hF.2.1 dL_law_3714 hl (k := 5) rfl (by rw [ex5_1575]; rfl) (by decide) rfl (fun ls hl => ?_)
  refine lv_goto (tgt := 28) hF.1 hF.2.1 dL_law_3717 (by decide) ?_
  exact hJ28 x1 x3 x4 x5_1575 X F R L G kc ks _ _ ls hP hM hD hS hk (lv_sub hl [1, 2, 3, 4, 5, 0] rfl) hw
def wpL_3626 (E mc ms N : Nat) (xs : Nat → Int32) (J28 : Nat → Nat → Nat → Int32 → hX → mF → mR → mL → mG → Nat → Nat → Prop) (x1 : Nat) (x3 : Nat) (x4 : Nat) (x5 : Int32) (X : hX) (F : mF) (R : mR) (L : mL) (G : mG) (kc ks : Nat) : Prop := (∃ mc_1578 ms_1579 : Nat, kc + mc_1578 ≤ mc ∧ ks + ms_1579 ≤ ms ∧ wpX0_faultCause (fun r_1576 X_1577 => wpX3_faultCause (fun r_1582 F_1583 R_1584 L_1585 G_1586 => wpX3_thrown (fun r_1587 F_1588 R_1589 L_1590 G_1591 => ((r_1587 = r_1576 → ((r_1576 = 0 → alJ X_1577 x3 0 (fun v_1598 => ((v_1598 = (Int32.toInt64 r_1582) → wpL_3667 E mc ms N xs J28 x1 x3 x4 x5 X_1577 F_1588 R_1589 L_1590 G_1591 (kc + mc_1578) (ks + ms_1579)) ∧ (¬ v_1598 = (Int32.toInt64 r_1582) → (0 : Int32) = 1)))) ∧ (¬ r_1576 = 0 → wpL_3667 E mc ms N xs J28 x1 x3 x4 x5 X_1577 F_1588 R_1589 L_1590 G_1591 (kc + mc_1578) (ks + ms_1579)))) ∧ (¬ r_1587 = r_1576 → (0 : Int32) = 1))) F_1583 R_1584 L_1585 G_1586) F R L G) (fun _ _ _ => False) E mc_1578 ms_1579 X x1 x3)
set_option maxHeartbeats 8000000 in
theorem Tl3626 {p : Program} {e : Env} {s : State} {m : MethodId} {below : List Frame} {meth : Method} {c : Code} (l : Launch) (hlt : l.stackTraces = false) (K : HK) {b N : Nat} {xs : Nat → Int32} (X0 : hX) (hF : CallFix p m c code 9 s #[Value.ref b] lw_all R_law) (hr : meth.sig.returnType = ret) (hlocks : meth.locks = false) (hC : HC K X0 s) (hx : va_X b N xs s s.heap) (hbl : b < s.heap.size) (hA0 : ∀ q, hA X0 s.heap.size q → s.heap.size ≤ q) (h : Nat) (a : Nat → Nat) (hap : mAp h a) (hmA : ∀ q, mA h a q → hA X0 s.heap.size q) (J28 : Nat → Nat → Nat → Int32 → hX → mF → mR → mL → mG → Nat → Nat → Prop) (hJ28 : ∀ (x1 : Nat) (x3 : Nat) (x4 : Nat) (x5 : Int32) (X : hX) (F : mF) (R : mR) (L : mL) (G : mG) (kc ks : Nat) (H : Heap) (locs : List Loc) (ls : Array Slot), hI K X0 s.heap.size X H → mP K.1 h a F R L G H → hdis X h a → va_S (hA X0 s.heap.size) s.heap H locs → kc ≤ 1200048 ∧ ks ≤ 5501818 → lv_has ls 9 [(0, .ref b), (1, .ref x1), (2, .ref h), (3, .ref x3), (4, .ref x4), (5, .int x5)] → J28 x1 x3 x4 x5 X F R L G kc ks → W p l e room_1 s m #[Value.ref b] below meth c H locs kc ks (lw_Z below #[Value.ref b] s) (F0 m 28 ls [])) : ∀ (x1 : Nat) (x3 : Nat) (x4 : Nat) (x5 : Int32) (X : hX) (F : mF) (R : mR) (L : mL) (G : mG) (kc ks : Nat) (H : Heap) (locs : List Loc) (ls : Array Slot), hI K X0 s.heap.size X H → mP K.1 h a F R L G H → hdis X h a → va_S (hA X0 s.heap.size) s.heap H locs → kc ≤ 1200048 ∧ ks ≤ 5501818 → lv_has ls 9 [(0, .ref b), (1, .ref x1), (2, .ref h), (3, .ref x3), (4, .ref x4), (5, .int x5)] → wpL_3626 (K.2.2 0) 1200048 5501818 N xs J28 x1 x3 x4 x5 X F R L G kc ks → W p l e room_1 s m #[Value.ref b] below meth c H locs kc ks (lw_Z below #[Value.ref b] s) (F0 m 3626 ls []) := by
  have hbA : ¬ hA X0 s.heap.size b := fun z => Nat.not_lt.mpr (hA0 b z) hbl
  intro x1 x3 x4 x5 X F R L G kc ks H locs ls hP hM hD hS hk hl hw
  unfold wpL_3626 at hw
  refine lv_aload_n hF.1 hF.2.1 dL_law_3626 rfl (lv_at hl 1 rfl) ?_
  refine lv_aload_n hF.1 hF.2.1 dL_law_3627 rfl (lv_at hl 3 rfl) ?_
  obtain ⟨mc_1578, ms_1579, hc_1580, hs_1581, hw⟩ := hw
  refine lkx_i (hrx_SX (As := [.ref x1, .ref x3]) (rest := []) hF hl.1 hC hP hS (metX0_faultCause l hlt K mc_1578 ms_1579 _ _ _ X x1 x3) (vx_cwSW 2 hF.2.2.2.2 (lw_SW q1708 q1709 q74 q1710) rfl rfl rfl (by decide +kernel) ⟨Nat.le_of_ble_eq_true rfl, Nat.le_of_ble_eq_true rfl⟩) hw rfl rfl (Nat.le_of_ble_eq_true rfl) dL_law_3628 ⟨hc_1580, hs_1581⟩) hP hM hD hS (fun r_1576 X_1577 H locs hw hP hM hD hS => ?_)
  refine lv_istore (lv' := [(6, .int r_1576), (0, .ref b), (1, .ref x1), (2, .ref h), (3, .ref x3), (4, .ref x4), (5, .int x5)]) hF.1 hF.2.1 dL_law_3631 hl (by decide) rfl (fun ls hl => ?_)
  refine lv_aload_n hF.1 hF.2.1 dL_law_3633 rfl (lv_at hl 3 rfl) ?_
  refine lm_i (As := []) (rest := []) hF hl.1 hC (metX3_faultCause l K.1 h a hap _ F R L G) (cwV 0 hF.2.2.2.2 (lw_V q2318 q2319 q2320 q85 q2321) rfl rfl rfl (by decide +kernel) ⟨Nat.le_of_ble_eq_true rfl, Nat.le_of_ble_eq_true rfl⟩) hP hM hD hS hmA hw rfl rfl (Nat.le_of_ble_eq_true rfl) dL_law_3634 ⟨hc_1580, hs_1581⟩ (fun r_1582 F_1583 R_1584 L_1585 G_1586 H locs hw hP hM hS => ?_)
  refine lv_istore (lv' := [(7, .int r_1582), (6, .int r_1576), (0, .ref b), (1, .ref x1), (2, .ref h), (3, .ref x3), (4, .ref x4), (5, .int x5)]) hF.1 hF.2.1 dL_law_3637 hl (by decide) rfl (fun ls hl => ?_)
  refine lv_aload_n hF.1 hF.2.1 dL_law_3639 rfl (lv_at hl 4 rfl) ?_
  refine lm_i (As := []) (rest := []) hF hl.1 hC (metX3_thrown l K.1 h a hap _ F_1583 R_1584 L_1585 G_1586) (cwV 0 hF.2.2.2.2 (lw_V q1813 q1814 q1815 q85 q1816) rfl rfl rfl (by decide +kernel) ⟨Nat.le_of_ble_eq_true rfl, Nat.le_of_ble_eq_true rfl⟩) hP hM hD hS hmA hw rfl rfl (Nat.le_of_ble_eq_true rfl) dL_law_3640 ⟨hc_1580, hs_1581⟩ (fun r_1587 F_1588 R_1589 L_1590 G_1591 H locs hw hP hM hS => ?_)
  refine lv_iload hF.1 hF.2.1 dL_law_3643 (lv_at hl 1 rfl) ?_
  refine lv_icmp_eq (tgt := 3650) hF.1 hF.2.1 dL_law_3645 (by decide) (fun c_1592 => ?_) (fun c_1592 => ?_)
  · have hw := hw.1 c_1592
    refine lv_iload hF.1 hF.2.1 dL_law_3650 (lv_at hl 1 rfl) ?_
    refine lv_if_ne (tgt := 3667) hF.1 hF.2.1 dL_law_3652 (by decide) (fun c_1593 => ?_) (fun c_1593 => ?_)
    · have hw := hw.2 c_1593
      exact Tl3667 l hlt K X0 hF hr hlocks hC hx hbl hA0 h a hap hmA _ hJ28 x1 x3 x4 x5 X_1577 F_1588 R_1589 L_1590 G_1591 (kc + mc_1578) (ks + ms_1579) _ _ ls hP hM hD hS ⟨hc_1580, hs_1581⟩ (lv_sub hl [2, 3, 4, 5, 6, 7] rfl) hw
    · have hw := hw.1 c_1593
      refine lv_aload_n hF.1 hF.2.1 dL_law_3655 rfl (lv_at hl 5 rfl) ?_
      refine lv_iconst (v := 0) hF.1 hF.2.1 dL_law_3656 (by decide) ?_
      obtain ⟨n_1594, f_1595, hx_1596, hi_1597, hw⟩ := hw
      refine x_lald hF hC hP hx_1596 hi_1597 dL_law_3657 ?_
      generalize f_1595 (Int32.toNatClampNeg 0) = v_1598 at hw ⊢
      refine lv_iload hF.1 hF.2.1 dL_law_3658 (lv_at hl 0 rfl) ?_
      refine lv_i2l hF.1 hF.2.1 dL_law_3660 rfl ?_
      refine W.lcmp hF.1 hF.2.1 dL_law_3661 ?_
      refine lv_if_eq (tgt := 3667) hF.1 hF.2.1 dL_law_3662 (by decide) (fun c_1599 => ?_) (fun c_1599 => ?_)
      · rw [lc_eq] at c_1599
        have hw := hw.1 c_1599
        exact Tl3667 l hlt K X0 hF hr hlocks hC hx hbl hA0 h a hap hmA _ hJ28 x1 x3 x4 x5 X_1577 F_1588 R_1589 L_1590 G_1591 (kc + mc_1578) (ks + ms_1579) _ _ ls hP hM hD hS ⟨hc_1580, hs_1581⟩ (lv_sub hl [2, 3, 4, 5, 6, 7] rfl) hw
      · rw [lc_eq] at c_1599
        have hw := hw.2 c_1599
        refine lv_iconst (v := 0) hF.1 hF.2.1 dL_law_3665 (by decide) ?_
        exact l_end hF hr hlocks hA0 hS ⟨hc_1580, hs_1581⟩ dL_law_3666 hw
  · have hw := hw.2 c_1592
    refine lv_iconst (v := 0) hF.1 hF.2.1 dL_law_3648 (by decide) ?_
    exact l_end hF hr hlocks hA0 hS ⟨hc_1580, hs_1581⟩ dL_law_3649 hw
def wpL_3711 (E mc ms N : Nat) (xs : Nat → Int32) (J28 : Nat → Nat → Nat → Int32 → hX → mF → mR → mL → mG → Nat → Nat → Prop) (x1 : Nat) (x3 : Nat) (x4 : Nat) (x5 : Int32) (X : hX) (F : mF) (R : mR) (L : mL) (G : mG) (kc ks : Nat) : Prop := (∀ x5_1600 : Int32, x5_1600 = x5 + 5 → J28 x1 x3 x4 x5_1600 X F R L G kc ks)
set_option maxHeartbeats 8000000 in
theorem Tl3711 {p : Program} {e : Env} {s : State} {m : MethodId} {below : List Frame} {meth : Method} {c : Code} (l : Launch) (hlt : l.stackTraces = false) (K : HK) {b N : Nat} {xs : Nat → Int32} (X0 : hX) (hF : CallFix p m c code 9 s #[Value.ref b] lw_all R_law) (hr : meth.sig.returnType = ret) (hlocks : meth.locks = false) (hC : HC K X0 s) (hx : va_X b N xs s s.heap) (hbl : b < s.heap.size) (hA0 : ∀ q, hA X0 s.heap.size q → s.heap.size ≤ q) (h : Nat) (a : Nat → Nat) (hap : mAp h a) (hmA : ∀ q, mA h a q → hA X0 s.heap.size q) (J28 : Nat → Nat → Nat → Int32 → hX → mF → mR → mL → mG → Nat → Nat → Prop) (hJ28 : ∀ (x1 : Nat) (x3 : Nat) (x4 : Nat) (x5 : Int32) (X : hX) (F : mF) (R : mR) (L : mL) (G : mG) (kc ks : Nat) (H : Heap) (locs : List Loc) (ls : Array Slot), hI K X0 s.heap.size X H → mP K.1 h a F R L G H → hdis X h a → va_S (hA X0 s.heap.size) s.heap H locs → kc ≤ 1200048 ∧ ks ≤ 5501818 → lv_has ls 9 [(0, .ref b), (1, .ref x1), (2, .ref h), (3, .ref x3), (4, .ref x4), (5, .int x5)] → J28 x1 x3 x4 x5 X F R L G kc ks → W p l e room_1 s m #[Value.ref b] below meth c H locs kc ks (lw_Z below #[Value.ref b] s) (F0 m 28 ls [])) : ∀ (x1 : Nat) (x3 : Nat) (x4 : Nat) (x5 : Int32) (X : hX) (F : mF) (R : mR) (L : mL) (G : mG) (kc ks : Nat) (H : Heap) (locs : List Loc) (ls : Array Slot), hI K X0 s.heap.size X H → mP K.1 h a F R L G H → hdis X h a → va_S (hA X0 s.heap.size) s.heap H locs → kc ≤ 1200048 ∧ ks ≤ 5501818 → lv_has ls 9 [(0, .ref b), (1, .ref x1), (2, .ref h), (3, .ref x3), (4, .ref x4), (5, .int x5)] → wpL_3711 (K.2.2 0) 1200048 5501818 N xs J28 x1 x3 x4 x5 X F R L G kc ks → W p l e room_1 s m #[Value.ref b] below meth c H locs kc ks (lw_Z below #[Value.ref b] s) (F0 m 3711 ls []) := by
  have hbA : ¬ hA X0 s.heap.size b := fun z => Nat.not_lt.mpr (hA0 b z) hbl
  intro x1 x3 x4 x5 X F R L G kc ks H locs ls hP hM hD hS hk hl hw
  unfold wpL_3711 at hw
  refine lv_goto (tgt := 3714) hF.1 hF.2.1 dL_law_3711 (by decide) ?_
  obtain ⟨x5_1600, ex5_1600⟩ : ∃ y : Int32, y = x5 + 5 := ⟨_, rfl⟩
  have hw := hw x5_1600 ex5_1600
  refine lv_iinc (v := x5_1600) (lv' := [(5, .int x5_1600), (0, .ref b), (1, .ref x1), (2, .ref h), (3, .ref x3), (4, .ref x4)]) hF.1 hF.2.1 dL_law_3714 hl (k := 5) rfl (by rw [ex5_1600]; rfl) (by decide) rfl (fun ls hl => ?_)
  refine lv_goto (tgt := 28) hF.1 hF.2.1 dL_law_3717 (by decide) ?_
  exact hJ28 x1 x3 x4 x5_1600 X F R L G kc ks _ _ ls hP hM hD hS hk (lv_sub hl [1, 2, 3, 4, 5, 0] rfl) hw
def wpL_3670 (E mc ms N : Nat) (xs : Nat → Int32) (J28 : Nat → Nat → Nat → Int32 → hX → mF → mR → mL → mG → Nat → Nat → Prop) (x1 : Nat) (x3 : Nat) (x4 : Nat) (x5 : Int32) (X : hX) (F : mF) (R : mR) (L : mL) (G : mG) (kc ks : Nat) : Prop := (∃ mc_1603 ms_1604 : Nat, kc + mc_1603 ≤ mc ∧ ks + ms_1604 ≤ ms ∧ wpX0_play (fun r_1601 X_1602 => wpX3_play (fun r_1607 F_1608 R_1609 L_1610 G_1611 => wpX3_thrown (fun r_1612 F_1613 R_1614 L_1615 G_1616 => ((r_1612 = r_1601 → ((r_1601 = 0 → alJ X_1602 x3 0 (fun v_1623 => ((v_1623 = (Int32.toInt64 r_1607) → wpL_3711 E mc ms N xs J28 x1 x3 x4 x5 X_1602 F_1613 R_1614 L_1615 G_1616 (kc + mc_1603) (ks + ms_1604)) ∧ (¬ v_1623 = (Int32.toInt64 r_1607) → (0 : Int32) = 1)))) ∧ (¬ r_1601 = 0 → wpL_3711 E mc ms N xs J28 x1 x3 x4 x5 X_1602 F_1613 R_1614 L_1615 G_1616 (kc + mc_1603) (ks + ms_1604)))) ∧ (¬ r_1612 = r_1601 → (0 : Int32) = 1))) F_1608 R_1609 L_1610 G_1611) F R L G) (fun _ _ _ => False) E mc_1603 ms_1604 X x1 x3)
set_option maxHeartbeats 8000000 in
theorem Tl3670 {p : Program} {e : Env} {s : State} {m : MethodId} {below : List Frame} {meth : Method} {c : Code} (l : Launch) (hlt : l.stackTraces = false) (K : HK) {b N : Nat} {xs : Nat → Int32} (X0 : hX) (hF : CallFix p m c code 9 s #[Value.ref b] lw_all R_law) (hr : meth.sig.returnType = ret) (hlocks : meth.locks = false) (hC : HC K X0 s) (hx : va_X b N xs s s.heap) (hbl : b < s.heap.size) (hA0 : ∀ q, hA X0 s.heap.size q → s.heap.size ≤ q) (h : Nat) (a : Nat → Nat) (hap : mAp h a) (hmA : ∀ q, mA h a q → hA X0 s.heap.size q) (J28 : Nat → Nat → Nat → Int32 → hX → mF → mR → mL → mG → Nat → Nat → Prop) (hJ28 : ∀ (x1 : Nat) (x3 : Nat) (x4 : Nat) (x5 : Int32) (X : hX) (F : mF) (R : mR) (L : mL) (G : mG) (kc ks : Nat) (H : Heap) (locs : List Loc) (ls : Array Slot), hI K X0 s.heap.size X H → mP K.1 h a F R L G H → hdis X h a → va_S (hA X0 s.heap.size) s.heap H locs → kc ≤ 1200048 ∧ ks ≤ 5501818 → lv_has ls 9 [(0, .ref b), (1, .ref x1), (2, .ref h), (3, .ref x3), (4, .ref x4), (5, .int x5)] → J28 x1 x3 x4 x5 X F R L G kc ks → W p l e room_1 s m #[Value.ref b] below meth c H locs kc ks (lw_Z below #[Value.ref b] s) (F0 m 28 ls [])) : ∀ (x1 : Nat) (x3 : Nat) (x4 : Nat) (x5 : Int32) (X : hX) (F : mF) (R : mR) (L : mL) (G : mG) (kc ks : Nat) (H : Heap) (locs : List Loc) (ls : Array Slot), hI K X0 s.heap.size X H → mP K.1 h a F R L G H → hdis X h a → va_S (hA X0 s.heap.size) s.heap H locs → kc ≤ 1200048 ∧ ks ≤ 5501818 → lv_has ls 9 [(0, .ref b), (1, .ref x1), (2, .ref h), (3, .ref x3), (4, .ref x4), (5, .int x5)] → wpL_3670 (K.2.2 0) 1200048 5501818 N xs J28 x1 x3 x4 x5 X F R L G kc ks → W p l e room_1 s m #[Value.ref b] below meth c H locs kc ks (lw_Z below #[Value.ref b] s) (F0 m 3670 ls []) := by
  have hbA : ¬ hA X0 s.heap.size b := fun z => Nat.not_lt.mpr (hA0 b z) hbl
  intro x1 x3 x4 x5 X F R L G kc ks H locs ls hP hM hD hS hk hl hw
  unfold wpL_3670 at hw
  refine lv_aload_n hF.1 hF.2.1 dL_law_3670 rfl (lv_at hl 1 rfl) ?_
  refine lv_aload_n hF.1 hF.2.1 dL_law_3671 rfl (lv_at hl 3 rfl) ?_
  obtain ⟨mc_1603, ms_1604, hc_1605, hs_1606, hw⟩ := hw
  refine lkx_i (hrx_SX (As := [.ref x1, .ref x3]) (rest := []) hF hl.1 hC hP hS (metX0_play l hlt K mc_1603 ms_1604 _ _ _ X x1 x3) (vx_cwSW 2 hF.2.2.2.2 (lw_SW q1715 q1716 q74 q1717) rfl rfl rfl (by decide +kernel) ⟨Nat.le_of_ble_eq_true rfl, Nat.le_of_ble_eq_true rfl⟩) hw rfl rfl (Nat.le_of_ble_eq_true rfl) dL_law_3672 ⟨hc_1605, hs_1606⟩) hP hM hD hS (fun r_1601 X_1602 H locs hw hP hM hD hS => ?_)
  refine lv_istore (lv' := [(6, .int r_1601), (0, .ref b), (1, .ref x1), (2, .ref h), (3, .ref x3), (4, .ref x4), (5, .int x5)]) hF.1 hF.2.1 dL_law_3675 hl (by decide) rfl (fun ls hl => ?_)
  refine lv_aload_n hF.1 hF.2.1 dL_law_3677 rfl (lv_at hl 3 rfl) ?_
  refine lm_i (As := []) (rest := []) hF hl.1 hC (metX3_play l K.1 h a hap _ F R L G) (cwV 0 hF.2.2.2.2 (lw_V q2322 q2323 q2324 q85 q2325) rfl rfl rfl (by decide +kernel) ⟨Nat.le_of_ble_eq_true rfl, Nat.le_of_ble_eq_true rfl⟩) hP hM hD hS hmA hw rfl rfl (Nat.le_of_ble_eq_true rfl) dL_law_3678 ⟨hc_1605, hs_1606⟩ (fun r_1607 F_1608 R_1609 L_1610 G_1611 H locs hw hP hM hS => ?_)
  refine lv_istore (lv' := [(7, .int r_1607), (6, .int r_1601), (0, .ref b), (1, .ref x1), (2, .ref h), (3, .ref x3), (4, .ref x4), (5, .int x5)]) hF.1 hF.2.1 dL_law_3681 hl (by decide) rfl (fun ls hl => ?_)
  refine lv_aload_n hF.1 hF.2.1 dL_law_3683 rfl (lv_at hl 4 rfl) ?_
  refine lm_i (As := []) (rest := []) hF hl.1 hC (metX3_thrown l K.1 h a hap _ F_1608 R_1609 L_1610 G_1611) (cwV 0 hF.2.2.2.2 (lw_V q1813 q1814 q1815 q85 q1816) rfl rfl rfl (by decide +kernel) ⟨Nat.le_of_ble_eq_true rfl, Nat.le_of_ble_eq_true rfl⟩) hP hM hD hS hmA hw rfl rfl (Nat.le_of_ble_eq_true rfl) dL_law_3684 ⟨hc_1605, hs_1606⟩ (fun r_1612 F_1613 R_1614 L_1615 G_1616 H locs hw hP hM hS => ?_)
  refine lv_iload hF.1 hF.2.1 dL_law_3687 (lv_at hl 1 rfl) ?_
  refine lv_icmp_eq (tgt := 3694) hF.1 hF.2.1 dL_law_3689 (by decide) (fun c_1617 => ?_) (fun c_1617 => ?_)
  · have hw := hw.1 c_1617
    refine lv_iload hF.1 hF.2.1 dL_law_3694 (lv_at hl 1 rfl) ?_
    refine lv_if_ne (tgt := 3711) hF.1 hF.2.1 dL_law_3696 (by decide) (fun c_1618 => ?_) (fun c_1618 => ?_)
    · have hw := hw.2 c_1618
      exact Tl3711 l hlt K X0 hF hr hlocks hC hx hbl hA0 h a hap hmA _ hJ28 x1 x3 x4 x5 X_1602 F_1613 R_1614 L_1615 G_1616 (kc + mc_1603) (ks + ms_1604) _ _ ls hP hM hD hS ⟨hc_1605, hs_1606⟩ (lv_sub hl [2, 3, 4, 5, 6, 7] rfl) hw
    · have hw := hw.1 c_1618
      refine lv_aload_n hF.1 hF.2.1 dL_law_3699 rfl (lv_at hl 5 rfl) ?_
      refine lv_iconst (v := 0) hF.1 hF.2.1 dL_law_3700 (by decide) ?_
      obtain ⟨n_1619, f_1620, hx_1621, hi_1622, hw⟩ := hw
      refine x_lald hF hC hP hx_1621 hi_1622 dL_law_3701 ?_
      generalize f_1620 (Int32.toNatClampNeg 0) = v_1623 at hw ⊢
      refine lv_iload hF.1 hF.2.1 dL_law_3702 (lv_at hl 0 rfl) ?_
      refine lv_i2l hF.1 hF.2.1 dL_law_3704 rfl ?_
      refine W.lcmp hF.1 hF.2.1 dL_law_3705 ?_
      refine lv_if_eq (tgt := 3711) hF.1 hF.2.1 dL_law_3706 (by decide) (fun c_1624 => ?_) (fun c_1624 => ?_)
      · rw [lc_eq] at c_1624
        have hw := hw.1 c_1624
        exact Tl3711 l hlt K X0 hF hr hlocks hC hx hbl hA0 h a hap hmA _ hJ28 x1 x3 x4 x5 X_1602 F_1613 R_1614 L_1615 G_1616 (kc + mc_1603) (ks + ms_1604) _ _ ls hP hM hD hS ⟨hc_1605, hs_1606⟩ (lv_sub hl [2, 3, 4, 5, 6, 7] rfl) hw
      · rw [lc_eq] at c_1624
        have hw := hw.2 c_1624
        refine lv_iconst (v := 0) hF.1 hF.2.1 dL_law_3709 (by decide) ?_
        exact l_end hF hr hlocks hA0 hS ⟨hc_1605, hs_1606⟩ dL_law_3710 hw
  · have hw := hw.2 c_1617
    refine lv_iconst (v := 0) hF.1 hF.2.1 dL_law_3692 (by decide) ?_
    exact l_end hF hr hlocks hA0 hS ⟨hc_1605, hs_1606⟩ dL_law_3693 hw
def wpL_28 (E mc ms N : Nat) (xs : Nat → Int32) : Nat → Nat → Nat → Nat → Int32 → hX → mF → mR → mL → mG → Nat → Nat → Prop
  | 0 => fun _ _ _ _ _ _ _ _ _ _ _ => False
  | n + 1 => fun x1 x3 x4 x5 X F R L G kc ks => ((((Int32.ofNat N) - 5) < x5 → (1 : Int32) = 1) ∧ (¬ ((Int32.ofNat N) - 5) < x5 → (vp_in x5 N ∧ ((((xs (Int32.toNatClampNeg x5)) &&& 127) = 0 → wpL_332 E mc ms N xs (wpL_28 E mc ms N xs n) x1 x3 x4 x5 X F R L G kc ks) ∧ (¬ ((xs (Int32.toNatClampNeg x5)) &&& 127) = 0 → ((((xs (Int32.toNatClampNeg x5)) &&& 127) = 1 → wpL_376 E mc ms N xs (wpL_28 E mc ms N xs n) x1 x3 x4 x5 X F R L G kc ks) ∧ (¬ ((xs (Int32.toNatClampNeg x5)) &&& 127) = 1 → ((((xs (Int32.toNatClampNeg x5)) &&& 127) = 2 → wpL_444 E mc ms N xs (wpL_28 E mc ms N xs n) x1 x3 x4 x5 X F R L G kc ks) ∧ (¬ ((xs (Int32.toNatClampNeg x5)) &&& 127) = 2 → ((((xs (Int32.toNatClampNeg x5)) &&& 127) = 3 → wpL_512 E mc ms N xs (wpL_28 E mc ms N xs n) x1 x3 x4 x5 X F R L G kc ks) ∧ (¬ ((xs (Int32.toNatClampNeg x5)) &&& 127) = 3 → ((((xs (Int32.toNatClampNeg x5)) &&& 127) = 4 → wpL_568 E mc ms N xs (wpL_28 E mc ms N xs n) x1 x3 x4 x5 X F R L G kc ks) ∧ (¬ ((xs (Int32.toNatClampNeg x5)) &&& 127) = 4 → ((((xs (Int32.toNatClampNeg x5)) &&& 127) = 5 → wpL_636 E mc ms N xs (wpL_28 E mc ms N xs n) x1 x3 x4 x5 X F R L G kc ks) ∧ (¬ ((xs (Int32.toNatClampNeg x5)) &&& 127) = 5 → ((((xs (Int32.toNatClampNeg x5)) &&& 127) = 6 → wpL_704 E mc ms N xs (wpL_28 E mc ms N xs n) x1 x3 x4 x5 X F R L G kc ks) ∧ (¬ ((xs (Int32.toNatClampNeg x5)) &&& 127) = 6 → ((((xs (Int32.toNatClampNeg x5)) &&& 127) = 7 → wpL_772 E mc ms N xs (wpL_28 E mc ms N xs n) x1 x3 x4 x5 X F R L G kc ks) ∧ (¬ ((xs (Int32.toNatClampNeg x5)) &&& 127) = 7 → ((((xs (Int32.toNatClampNeg x5)) &&& 127) = 8 → wpL_840 E mc ms N xs (wpL_28 E mc ms N xs n) x1 x3 x4 x5 X F R L G kc ks) ∧ (¬ ((xs (Int32.toNatClampNeg x5)) &&& 127) = 8 → ((((xs (Int32.toNatClampNeg x5)) &&& 127) = 9 → wpL_908 E mc ms N xs (wpL_28 E mc ms N xs n) x1 x3 x4 x5 X F R L G kc ks) ∧ (¬ ((xs (Int32.toNatClampNeg x5)) &&& 127) = 9 → ((((xs (Int32.toNatClampNeg x5)) &&& 127) = 10 → wpL_964 E mc ms N xs (wpL_28 E mc ms N xs n) x1 x3 x4 x5 X F R L G kc ks) ∧ (¬ ((xs (Int32.toNatClampNeg x5)) &&& 127) = 10 → ((((xs (Int32.toNatClampNeg x5)) &&& 127) = 11 → wpL_1020 E mc ms N xs (wpL_28 E mc ms N xs n) x1 x3 x4 x5 X F R L G kc ks) ∧ (¬ ((xs (Int32.toNatClampNeg x5)) &&& 127) = 11 → ((((xs (Int32.toNatClampNeg x5)) &&& 127) = 12 → wpL_1033 E mc ms N xs (wpL_28 E mc ms N xs n) x1 x3 x4 x5 X F R L G kc ks) ∧ (¬ ((xs (Int32.toNatClampNeg x5)) &&& 127) = 12 → ((((xs (Int32.toNatClampNeg x5)) &&& 127) = 13 → wpL_1046 E mc ms N xs (wpL_28 E mc ms N xs n) x1 x3 x4 x5 X F R L G kc ks) ∧ (¬ ((xs (Int32.toNatClampNeg x5)) &&& 127) = 13 → ((((xs (Int32.toNatClampNeg x5)) &&& 127) = 14 → wpL_1059 E mc ms N xs (wpL_28 E mc ms N xs n) x1 x3 x4 x5 X F R L G kc ks) ∧ (¬ ((xs (Int32.toNatClampNeg x5)) &&& 127) = 14 → ((((xs (Int32.toNatClampNeg x5)) &&& 127) = 15 → wpL_1115 E mc ms N xs (wpL_28 E mc ms N xs n) x1 x3 x4 x5 X F R L G kc ks) ∧ (¬ ((xs (Int32.toNatClampNeg x5)) &&& 127) = 15 → ((((xs (Int32.toNatClampNeg x5)) &&& 127) = 16 → wpL_1171 E mc ms N xs (wpL_28 E mc ms N xs n) x1 x3 x4 x5 X F R L G kc ks) ∧ (¬ ((xs (Int32.toNatClampNeg x5)) &&& 127) = 16 → ((((xs (Int32.toNatClampNeg x5)) &&& 127) = 17 → wpL_1239 E mc ms N xs (wpL_28 E mc ms N xs n) x1 x3 x4 x5 X F R L G kc ks) ∧ (¬ ((xs (Int32.toNatClampNeg x5)) &&& 127) = 17 → ((((xs (Int32.toNatClampNeg x5)) &&& 127) = 18 → wpL_1302 E mc ms N xs (wpL_28 E mc ms N xs n) x1 x3 x4 x5 X F R L G kc ks) ∧ (¬ ((xs (Int32.toNatClampNeg x5)) &&& 127) = 18 → ((((xs (Int32.toNatClampNeg x5)) &&& 127) = 19 → wpL_1358 E mc ms N xs (wpL_28 E mc ms N xs n) x1 x3 x4 x5 X F R L G kc ks) ∧ (¬ ((xs (Int32.toNatClampNeg x5)) &&& 127) = 19 → ((((xs (Int32.toNatClampNeg x5)) &&& 127) = 20 → wpL_1413 E mc ms N xs (wpL_28 E mc ms N xs n) x1 x3 x4 x5 X F R L G kc ks) ∧ (¬ ((xs (Int32.toNatClampNeg x5)) &&& 127) = 20 → ((((xs (Int32.toNatClampNeg x5)) &&& 127) = 21 → wpL_1468 E mc ms N xs (wpL_28 E mc ms N xs n) x1 x3 x4 x5 X F R L G kc ks) ∧ (¬ ((xs (Int32.toNatClampNeg x5)) &&& 127) = 21 → ((((xs (Int32.toNatClampNeg x5)) &&& 127) = 22 → wpL_1531 E mc ms N xs (wpL_28 E mc ms N xs n) x1 x3 x4 x5 X F R L G kc ks) ∧ (¬ ((xs (Int32.toNatClampNeg x5)) &&& 127) = 22 → ((((xs (Int32.toNatClampNeg x5)) &&& 127) = 23 → wpL_1586 E mc ms N xs (wpL_28 E mc ms N xs n) x1 x3 x4 x5 X F R L G kc ks) ∧ (¬ ((xs (Int32.toNatClampNeg x5)) &&& 127) = 23 → ((((xs (Int32.toNatClampNeg x5)) &&& 127) = 24 → wpL_1670 E mc ms N xs (wpL_28 E mc ms N xs n) x1 x3 x4 x5 X F R L G kc ks) ∧ (¬ ((xs (Int32.toNatClampNeg x5)) &&& 127) = 24 → ((((xs (Int32.toNatClampNeg x5)) &&& 127) = 25 → wpL_1726 E mc ms N xs (wpL_28 E mc ms N xs n) x1 x3 x4 x5 X F R L G kc ks) ∧ (¬ ((xs (Int32.toNatClampNeg x5)) &&& 127) = 25 → ((((xs (Int32.toNatClampNeg x5)) &&& 127) = 26 → wpL_1782 E mc ms N xs (wpL_28 E mc ms N xs n) x1 x3 x4 x5 X F R L G kc ks) ∧ (¬ ((xs (Int32.toNatClampNeg x5)) &&& 127) = 26 → ((((xs (Int32.toNatClampNeg x5)) &&& 127) = 27 → wpL_1845 E mc ms N xs (wpL_28 E mc ms N xs n) x1 x3 x4 x5 X F R L G kc ks) ∧ (¬ ((xs (Int32.toNatClampNeg x5)) &&& 127) = 27 → ((((xs (Int32.toNatClampNeg x5)) &&& 127) = 28 → wpL_1900 E mc ms N xs (wpL_28 E mc ms N xs n) x1 x3 x4 x5 X F R L G kc ks) ∧ (¬ ((xs (Int32.toNatClampNeg x5)) &&& 127) = 28 → ((((xs (Int32.toNatClampNeg x5)) &&& 127) = 29 → wpL_1913 E mc ms N xs (wpL_28 E mc ms N xs n) x1 x3 x4 x5 X F R L G kc ks) ∧ (¬ ((xs (Int32.toNatClampNeg x5)) &&& 127) = 29 → ((((xs (Int32.toNatClampNeg x5)) &&& 127) = 30 → wpL_1926 E mc ms N xs (wpL_28 E mc ms N xs n) x1 x3 x4 x5 X F R L G kc ks) ∧ (¬ ((xs (Int32.toNatClampNeg x5)) &&& 127) = 30 → ((((xs (Int32.toNatClampNeg x5)) &&& 127) = 31 → wpL_1982 E mc ms N xs (wpL_28 E mc ms N xs n) x1 x3 x4 x5 X F R L G kc ks) ∧ (¬ ((xs (Int32.toNatClampNeg x5)) &&& 127) = 31 → ((((xs (Int32.toNatClampNeg x5)) &&& 127) = 32 → wpL_2038 E mc ms N xs (wpL_28 E mc ms N xs n) x1 x3 x4 x5 X F R L G kc ks) ∧ (¬ ((xs (Int32.toNatClampNeg x5)) &&& 127) = 32 → ((((xs (Int32.toNatClampNeg x5)) &&& 127) = 33 → wpL_2094 E mc ms N xs (wpL_28 E mc ms N xs n) x1 x3 x4 x5 X F R L G kc ks) ∧ (¬ ((xs (Int32.toNatClampNeg x5)) &&& 127) = 33 → ((((xs (Int32.toNatClampNeg x5)) &&& 127) = 34 → wpL_2150 E mc ms N xs (wpL_28 E mc ms N xs n) x1 x3 x4 x5 X F R L G kc ks) ∧ (¬ ((xs (Int32.toNatClampNeg x5)) &&& 127) = 34 → ((((xs (Int32.toNatClampNeg x5)) &&& 127) = 35 → wpL_2213 E mc ms N xs (wpL_28 E mc ms N xs n) x1 x3 x4 x5 X F R L G kc ks) ∧ (¬ ((xs (Int32.toNatClampNeg x5)) &&& 127) = 35 → ((((xs (Int32.toNatClampNeg x5)) &&& 127) = 36 → wpL_2293 E mc ms N xs (wpL_28 E mc ms N xs n) x1 x3 x4 x5 X F R L G kc ks) ∧ (¬ ((xs (Int32.toNatClampNeg x5)) &&& 127) = 36 → ((((xs (Int32.toNatClampNeg x5)) &&& 127) = 37 → wpL_2373 E mc ms N xs (wpL_28 E mc ms N xs n) x1 x3 x4 x5 X F R L G kc ks) ∧ (¬ ((xs (Int32.toNatClampNeg x5)) &&& 127) = 37 → ((((xs (Int32.toNatClampNeg x5)) &&& 127) = 38 → wpL_2440 E mc ms N xs (wpL_28 E mc ms N xs n) x1 x3 x4 x5 X F R L G kc ks) ∧ (¬ ((xs (Int32.toNatClampNeg x5)) &&& 127) = 38 → ((((xs (Int32.toNatClampNeg x5)) &&& 127) = 39 → wpL_2507 E mc ms N xs (wpL_28 E mc ms N xs n) x1 x3 x4 x5 X F R L G kc ks) ∧ (¬ ((xs (Int32.toNatClampNeg x5)) &&& 127) = 39 → ((((xs (Int32.toNatClampNeg x5)) &&& 127) = 40 → wpL_2599 E mc ms N xs (wpL_28 E mc ms N xs n) x1 x3 x4 x5 X F R L G kc ks) ∧ (¬ ((xs (Int32.toNatClampNeg x5)) &&& 127) = 40 → ((((xs (Int32.toNatClampNeg x5)) &&& 127) = 41 → wpL_2667 E mc ms N xs (wpL_28 E mc ms N xs n) x1 x3 x4 x5 X F R L G kc ks) ∧ (¬ ((xs (Int32.toNatClampNeg x5)) &&& 127) = 41 → ((((xs (Int32.toNatClampNeg x5)) &&& 127) = 42 → wpL_2735 E mc ms N xs (wpL_28 E mc ms N xs n) x1 x3 x4 x5 X F R L G kc ks) ∧ (¬ ((xs (Int32.toNatClampNeg x5)) &&& 127) = 42 → ((((xs (Int32.toNatClampNeg x5)) &&& 127) = 43 → wpL_2748 E mc ms N xs (wpL_28 E mc ms N xs n) x1 x3 x4 x5 X F R L G kc ks) ∧ (¬ ((xs (Int32.toNatClampNeg x5)) &&& 127) = 43 → ((((xs (Int32.toNatClampNeg x5)) &&& 127) = 44 → wpL_2761 E mc ms N xs (wpL_28 E mc ms N xs n) x1 x3 x4 x5 X F R L G kc ks) ∧ (¬ ((xs (Int32.toNatClampNeg x5)) &&& 127) = 44 → ((((xs (Int32.toNatClampNeg x5)) &&& 127) = 45 → wpL_2774 E mc ms N xs (wpL_28 E mc ms N xs n) x1 x3 x4 x5 X F R L G kc ks) ∧ (¬ ((xs (Int32.toNatClampNeg x5)) &&& 127) = 45 → ((((xs (Int32.toNatClampNeg x5)) &&& 127) = 46 → wpL_2854 E mc ms N xs (wpL_28 E mc ms N xs n) x1 x3 x4 x5 X F R L G kc ks) ∧ (¬ ((xs (Int32.toNatClampNeg x5)) &&& 127) = 46 → ((((xs (Int32.toNatClampNeg x5)) &&& 127) = 47 → wpL_2867 E mc ms N xs (wpL_28 E mc ms N xs n) x1 x3 x4 x5 X F R L G kc ks) ∧ (¬ ((xs (Int32.toNatClampNeg x5)) &&& 127) = 47 → ((((xs (Int32.toNatClampNeg x5)) &&& 127) = 48 → wpL_2935 E mc ms N xs (wpL_28 E mc ms N xs n) x1 x3 x4 x5 X F R L G kc ks) ∧ (¬ ((xs (Int32.toNatClampNeg x5)) &&& 127) = 48 → ((((xs (Int32.toNatClampNeg x5)) &&& 127) = 49 → wpL_2948 E mc ms N xs (wpL_28 E mc ms N xs n) x1 x3 x4 x5 X F R L G kc ks) ∧ (¬ ((xs (Int32.toNatClampNeg x5)) &&& 127) = 49 → ((((xs (Int32.toNatClampNeg x5)) &&& 127) = 50 → wpL_3004 E mc ms N xs (wpL_28 E mc ms N xs n) x1 x3 x4 x5 X F R L G kc ks) ∧ (¬ ((xs (Int32.toNatClampNeg x5)) &&& 127) = 50 → ((((xs (Int32.toNatClampNeg x5)) &&& 127) = 51 → wpL_3059 E mc ms N xs (wpL_28 E mc ms N xs n) x1 x3 x4 x5 X F R L G kc ks) ∧ (¬ ((xs (Int32.toNatClampNeg x5)) &&& 127) = 51 → ((((xs (Int32.toNatClampNeg x5)) &&& 127) = 52 → wpL_3127 E mc ms N xs (wpL_28 E mc ms N xs n) x1 x3 x4 x5 X F R L G kc ks) ∧ (¬ ((xs (Int32.toNatClampNeg x5)) &&& 127) = 52 → ((((xs (Int32.toNatClampNeg x5)) &&& 127) = 53 → wpL_3204 E mc ms N xs (wpL_28 E mc ms N xs n) x1 x3 x4 x5 X F R L G kc ks) ∧ (¬ ((xs (Int32.toNatClampNeg x5)) &&& 127) = 53 → ((((xs (Int32.toNatClampNeg x5)) &&& 127) = 54 → wpL_3260 E mc ms N xs (wpL_28 E mc ms N xs n) x1 x3 x4 x5 X F R L G kc ks) ∧ (¬ ((xs (Int32.toNatClampNeg x5)) &&& 127) = 54 → ((((xs (Int32.toNatClampNeg x5)) &&& 127) = 55 → wpL_3316 E mc ms N xs (wpL_28 E mc ms N xs n) x1 x3 x4 x5 X F R L G kc ks) ∧ (¬ ((xs (Int32.toNatClampNeg x5)) &&& 127) = 55 → ((((xs (Int32.toNatClampNeg x5)) &&& 127) = 56 → wpL_3329 E mc ms N xs (wpL_28 E mc ms N xs n) x1 x3 x4 x5 X F R L G kc ks) ∧ (¬ ((xs (Int32.toNatClampNeg x5)) &&& 127) = 56 → ((((xs (Int32.toNatClampNeg x5)) &&& 127) = 57 → wpL_3342 E mc ms N xs (wpL_28 E mc ms N xs n) x1 x3 x4 x5 X F R L G kc ks) ∧ (¬ ((xs (Int32.toNatClampNeg x5)) &&& 127) = 57 → ((((xs (Int32.toNatClampNeg x5)) &&& 127) = 58 → wpL_3355 E mc ms N xs (wpL_28 E mc ms N xs n) x1 x3 x4 x5 X F R L G kc ks) ∧ (¬ ((xs (Int32.toNatClampNeg x5)) &&& 127) = 58 → ((((xs (Int32.toNatClampNeg x5)) &&& 127) = 59 → wpL_3368 E mc ms N xs (wpL_28 E mc ms N xs n) x1 x3 x4 x5 X F R L G kc ks) ∧ (¬ ((xs (Int32.toNatClampNeg x5)) &&& 127) = 59 → ((((xs (Int32.toNatClampNeg x5)) &&& 127) = 60 → wpL_3412 E mc ms N xs (wpL_28 E mc ms N xs n) x1 x3 x4 x5 X F R L G kc ks) ∧ (¬ ((xs (Int32.toNatClampNeg x5)) &&& 127) = 60 → ((((xs (Int32.toNatClampNeg x5)) &&& 127) = 61 → wpL_3425 E mc ms N xs (wpL_28 E mc ms N xs n) x1 x3 x4 x5 X F R L G kc ks) ∧ (¬ ((xs (Int32.toNatClampNeg x5)) &&& 127) = 61 → ((((xs (Int32.toNatClampNeg x5)) &&& 127) = 62 → wpL_3469 E mc ms N xs (wpL_28 E mc ms N xs n) x1 x3 x4 x5 X F R L G kc ks) ∧ (¬ ((xs (Int32.toNatClampNeg x5)) &&& 127) = 62 → ((((xs (Int32.toNatClampNeg x5)) &&& 127) = 63 → wpL_3525 E mc ms N xs (wpL_28 E mc ms N xs n) x1 x3 x4 x5 X F R L G kc ks) ∧ (¬ ((xs (Int32.toNatClampNeg x5)) &&& 127) = 63 → ((((xs (Int32.toNatClampNeg x5)) &&& 127) = 64 → wpL_3538 E mc ms N xs (wpL_28 E mc ms N xs n) x1 x3 x4 x5 X F R L G kc ks) ∧ (¬ ((xs (Int32.toNatClampNeg x5)) &&& 127) = 64 → ((((xs (Int32.toNatClampNeg x5)) &&& 127) = 65 → wpL_3582 E mc ms N xs (wpL_28 E mc ms N xs n) x1 x3 x4 x5 X F R L G kc ks) ∧ (¬ ((xs (Int32.toNatClampNeg x5)) &&& 127) = 65 → ((((xs (Int32.toNatClampNeg x5)) &&& 127) = 66 → wpL_3626 E mc ms N xs (wpL_28 E mc ms N xs n) x1 x3 x4 x5 X F R L G kc ks) ∧ (¬ ((xs (Int32.toNatClampNeg x5)) &&& 127) = 66 → ((((xs (Int32.toNatClampNeg x5)) &&& 127) = 67 → wpL_3670 E mc ms N xs (wpL_28 E mc ms N xs n) x1 x3 x4 x5 X F R L G kc ks) ∧ (¬ ((xs (Int32.toNatClampNeg x5)) &&& 127) = 67 → (∀ x5_1628 : Int32, x5_1628 = x5 + 5 → wpL_28 E mc ms N xs n x1 x3 x4 x5_1628 X F R L G kc ks))))))))))))))))))))))))))))))))))))))))))))))))))))))))))))))))))))))))))))))))))))))))))))))))))))))))))))))))))))))))))))))))))))))))))))
set_option maxHeartbeats 8000000 in
theorem Tl28 {p : Program} {e : Env} {s : State} {m : MethodId} {below : List Frame} {meth : Method} {c : Code} (l : Launch) (hlt : l.stackTraces = false) (K : HK) {b N : Nat} {xs : Nat → Int32} (X0 : hX) (hF : CallFix p m c code 9 s #[Value.ref b] lw_all R_law) (hr : meth.sig.returnType = ret) (hlocks : meth.locks = false) (hC : HC K X0 s) (hx : va_X b N xs s s.heap) (hbl : b < s.heap.size) (hA0 : ∀ q, hA X0 s.heap.size q → s.heap.size ≤ q) (h : Nat) (a : Nat → Nat) (hap : mAp h a) (hmA : ∀ q, mA h a q → hA X0 s.heap.size q) : ∀ (n : Nat), ∀ (x1 : Nat) (x3 : Nat) (x4 : Nat) (x5 : Int32) (X : hX) (F : mF) (R : mR) (L : mL) (G : mG) (kc ks : Nat) (H : Heap) (locs : List Loc) (ls : Array Slot), hI K X0 s.heap.size X H → mP K.1 h a F R L G H → hdis X h a → va_S (hA X0 s.heap.size) s.heap H locs → kc ≤ 1200048 ∧ ks ≤ 5501818 → lv_has ls 9 [(0, .ref b), (1, .ref x1), (2, .ref h), (3, .ref x3), (4, .ref x4), (5, .int x5)] → wpL_28 (K.2.2 0) 1200048 5501818 N xs n x1 x3 x4 x5 X F R L G kc ks → W p l e room_1 s m #[Value.ref b] below meth c H locs kc ks (lw_Z below #[Value.ref b] s) (F0 m 28 ls []) := by
  have hbA : ¬ hA X0 s.heap.size b := fun z => Nat.not_lt.mpr (hA0 b z) hbl
  intro n
  induction n with
  | zero =>
      intro x1 x3 x4 x5 X F R L G kc ks H locs ls hP hM hD hS hk hl hw
      exact False.elim hw
  | succ n ih =>
      intro x1 x3 x4 x5 X F R L G kc ks H locs ls hP hM hD hS hk hl hw
      unfold wpL_28 at hw
      refine lv_iload hF.1 hF.2.1 dL_law_28 (lv_at hl 5 rfl) ?_
      refine lv_aload_n hF.1 hF.2.1 dL_law_30 rfl (lv_at hl 0 rfl) ?_
      refine va_slen hF.1 hF.2.1 hx hbl hbA hS dL_law_31 ?_
      refine lv_iconst (v := 5) hF.1 hF.2.1 dL_law_32 (by decide) ?_
      refine lv_isub hF.1 hF.2.1 dL_law_33 ?_
      refine lv_icmp_gt (tgt := 3720) hF.1 hF.2.1 dL_law_34 (by decide) (fun c_1625 => ?_) (fun c_1625 => ?_)
      · have hw := hw.1 c_1625
        refine lv_iconst (v := 1) hF.1 hF.2.1 dL_law_3720 (by decide) ?_
        exact l_end hF hr hlocks hA0 hS hk dL_law_3721 hw
      · have hw := hw.2 c_1625
        refine lv_aload_n hF.1 hF.2.1 dL_law_37 rfl (lv_at hl 0 rfl) ?_
        refine lv_iload hF.1 hF.2.1 dL_law_38 (lv_at hl 5 rfl) ?_
        obtain ⟨h_1626, hw⟩ := hw
        refine va_sld hF.1 hF.2.1 hx hbl hbA hS h_1626 dL_law_40 ?_
        refine lv_bipush (v := 127) hF.1 hF.2.1 dL_law_41 (by decide) ?_
        refine lv_iand hF.1 hF.2.1 dL_law_43 ?_
        by_cases c_1627_0 : ((xs (Int32.toNatClampNeg x5)) &&& 127) = 0
        · have hw := hw.1 c_1627_0
          refine lv_tableIn (tgt := 332) (off := 288) hF.1 hF.2.1 dL_law_44 (by rw [c_1627_0]; decide) (by rw [c_1627_0]; decide) (by rw [c_1627_0]; decide) (by decide) ?_
          exact Tl332 l hlt K X0 hF hr hlocks hC hx hbl hA0 h a hap hmA _ ih x1 x3 x4 x5 X F R L G kc ks _ _ ls hP hM hD hS hk (lv_sub hl [0, 1, 2, 3, 4, 5] rfl) hw
        have hw := hw.2 c_1627_0
        by_cases c_1627_1 : ((xs (Int32.toNatClampNeg x5)) &&& 127) = 1
        · have hw := hw.1 c_1627_1
          refine lv_tableIn (tgt := 376) (off := 332) hF.1 hF.2.1 dL_law_44 (by rw [c_1627_1]; decide) (by rw [c_1627_1]; decide) (by rw [c_1627_1]; decide) (by decide) ?_
          exact Tl376 l hlt K X0 hF hr hlocks hC hx hbl hA0 h a hap hmA _ ih x1 x3 x4 x5 X F R L G kc ks _ _ ls hP hM hD hS hk (lv_sub hl [0, 1, 2, 3, 4, 5] rfl) hw
        have hw := hw.2 c_1627_1
        by_cases c_1627_2 : ((xs (Int32.toNatClampNeg x5)) &&& 127) = 2
        · have hw := hw.1 c_1627_2
          refine lv_tableIn (tgt := 444) (off := 400) hF.1 hF.2.1 dL_law_44 (by rw [c_1627_2]; decide) (by rw [c_1627_2]; decide) (by rw [c_1627_2]; decide) (by decide) ?_
          exact Tl444 l hlt K X0 hF hr hlocks hC hx hbl hA0 h a hap hmA _ ih x1 x3 x4 x5 X F R L G kc ks _ _ ls hP hM hD hS hk (lv_sub hl [0, 1, 2, 3, 4, 5] rfl) hw
        have hw := hw.2 c_1627_2
        by_cases c_1627_3 : ((xs (Int32.toNatClampNeg x5)) &&& 127) = 3
        · have hw := hw.1 c_1627_3
          refine lv_tableIn (tgt := 512) (off := 468) hF.1 hF.2.1 dL_law_44 (by rw [c_1627_3]; decide) (by rw [c_1627_3]; decide) (by rw [c_1627_3]; decide) (by decide) ?_
          exact Tl512 l hlt K X0 hF hr hlocks hC hx hbl hA0 h a hap hmA _ ih x1 x3 x4 x5 X F R L G kc ks _ _ ls hP hM hD hS hk (lv_sub hl [0, 1, 2, 3, 4, 5] rfl) hw
        have hw := hw.2 c_1627_3
        by_cases c_1627_4 : ((xs (Int32.toNatClampNeg x5)) &&& 127) = 4
        · have hw := hw.1 c_1627_4
          refine lv_tableIn (tgt := 568) (off := 524) hF.1 hF.2.1 dL_law_44 (by rw [c_1627_4]; decide) (by rw [c_1627_4]; decide) (by rw [c_1627_4]; decide) (by decide) ?_
          exact Tl568 l hlt K X0 hF hr hlocks hC hx hbl hA0 h a hap hmA _ ih x1 x3 x4 x5 X F R L G kc ks _ _ ls hP hM hD hS hk (lv_sub hl [0, 1, 2, 3, 4, 5] rfl) hw
        have hw := hw.2 c_1627_4
        by_cases c_1627_5 : ((xs (Int32.toNatClampNeg x5)) &&& 127) = 5
        · have hw := hw.1 c_1627_5
          refine lv_tableIn (tgt := 636) (off := 592) hF.1 hF.2.1 dL_law_44 (by rw [c_1627_5]; decide) (by rw [c_1627_5]; decide) (by rw [c_1627_5]; decide) (by decide) ?_
          exact Tl636 l hlt K X0 hF hr hlocks hC hx hbl hA0 h a hap hmA _ ih x1 x3 x4 x5 X F R L G kc ks _ _ ls hP hM hD hS hk (lv_sub hl [0, 1, 2, 3, 4, 5] rfl) hw
        have hw := hw.2 c_1627_5
        by_cases c_1627_6 : ((xs (Int32.toNatClampNeg x5)) &&& 127) = 6
        · have hw := hw.1 c_1627_6
          refine lv_tableIn (tgt := 704) (off := 660) hF.1 hF.2.1 dL_law_44 (by rw [c_1627_6]; decide) (by rw [c_1627_6]; decide) (by rw [c_1627_6]; decide) (by decide) ?_
          exact Tl704 l hlt K X0 hF hr hlocks hC hx hbl hA0 h a hap hmA _ ih x1 x3 x4 x5 X F R L G kc ks _ _ ls hP hM hD hS hk (lv_sub hl [0, 1, 2, 3, 4, 5] rfl) hw
        have hw := hw.2 c_1627_6
        by_cases c_1627_7 : ((xs (Int32.toNatClampNeg x5)) &&& 127) = 7
        · have hw := hw.1 c_1627_7
          refine lv_tableIn (tgt := 772) (off := 728) hF.1 hF.2.1 dL_law_44 (by rw [c_1627_7]; decide) (by rw [c_1627_7]; decide) (by rw [c_1627_7]; decide) (by decide) ?_
          exact Tl772 l hlt K X0 hF hr hlocks hC hx hbl hA0 h a hap hmA _ ih x1 x3 x4 x5 X F R L G kc ks _ _ ls hP hM hD hS hk (lv_sub hl [0, 1, 2, 3, 4, 5] rfl) hw
        have hw := hw.2 c_1627_7
        by_cases c_1627_8 : ((xs (Int32.toNatClampNeg x5)) &&& 127) = 8
        · have hw := hw.1 c_1627_8
          refine lv_tableIn (tgt := 840) (off := 796) hF.1 hF.2.1 dL_law_44 (by rw [c_1627_8]; decide) (by rw [c_1627_8]; decide) (by rw [c_1627_8]; decide) (by decide) ?_
          exact Tl840 l hlt K X0 hF hr hlocks hC hx hbl hA0 h a hap hmA _ ih x1 x3 x4 x5 X F R L G kc ks _ _ ls hP hM hD hS hk (lv_sub hl [0, 1, 2, 3, 4, 5] rfl) hw
        have hw := hw.2 c_1627_8
        by_cases c_1627_9 : ((xs (Int32.toNatClampNeg x5)) &&& 127) = 9
        · have hw := hw.1 c_1627_9
          refine lv_tableIn (tgt := 908) (off := 864) hF.1 hF.2.1 dL_law_44 (by rw [c_1627_9]; decide) (by rw [c_1627_9]; decide) (by rw [c_1627_9]; decide) (by decide) ?_
          exact Tl908 l hlt K X0 hF hr hlocks hC hx hbl hA0 h a hap hmA _ ih x1 x3 x4 x5 X F R L G kc ks _ _ ls hP hM hD hS hk (lv_sub hl [0, 1, 2, 3, 4, 5] rfl) hw
        have hw := hw.2 c_1627_9
        by_cases c_1627_10 : ((xs (Int32.toNatClampNeg x5)) &&& 127) = 10
        · have hw := hw.1 c_1627_10
          refine lv_tableIn (tgt := 964) (off := 920) hF.1 hF.2.1 dL_law_44 (by rw [c_1627_10]; decide) (by rw [c_1627_10]; decide) (by rw [c_1627_10]; decide) (by decide) ?_
          exact Tl964 l hlt K X0 hF hr hlocks hC hx hbl hA0 h a hap hmA _ ih x1 x3 x4 x5 X F R L G kc ks _ _ ls hP hM hD hS hk (lv_sub hl [0, 1, 2, 3, 4, 5] rfl) hw
        have hw := hw.2 c_1627_10
        by_cases c_1627_11 : ((xs (Int32.toNatClampNeg x5)) &&& 127) = 11
        · have hw := hw.1 c_1627_11
          refine lv_tableIn (tgt := 1020) (off := 976) hF.1 hF.2.1 dL_law_44 (by rw [c_1627_11]; decide) (by rw [c_1627_11]; decide) (by rw [c_1627_11]; decide) (by decide) ?_
          exact Tl1020 l hlt K X0 hF hr hlocks hC hx hbl hA0 h a hap hmA _ ih x1 x3 x4 x5 X F R L G kc ks _ _ ls hP hM hD hS hk (lv_sub hl [0, 1, 2, 3, 4, 5] rfl) hw
        have hw := hw.2 c_1627_11
        by_cases c_1627_12 : ((xs (Int32.toNatClampNeg x5)) &&& 127) = 12
        · have hw := hw.1 c_1627_12
          refine lv_tableIn (tgt := 1033) (off := 989) hF.1 hF.2.1 dL_law_44 (by rw [c_1627_12]; decide) (by rw [c_1627_12]; decide) (by rw [c_1627_12]; decide) (by decide) ?_
          exact Tl1033 l hlt K X0 hF hr hlocks hC hx hbl hA0 h a hap hmA _ ih x1 x3 x4 x5 X F R L G kc ks _ _ ls hP hM hD hS hk (lv_sub hl [0, 1, 2, 3, 4, 5] rfl) hw
        have hw := hw.2 c_1627_12
        by_cases c_1627_13 : ((xs (Int32.toNatClampNeg x5)) &&& 127) = 13
        · have hw := hw.1 c_1627_13
          refine lv_tableIn (tgt := 1046) (off := 1002) hF.1 hF.2.1 dL_law_44 (by rw [c_1627_13]; decide) (by rw [c_1627_13]; decide) (by rw [c_1627_13]; decide) (by decide) ?_
          exact Tl1046 l hlt K X0 hF hr hlocks hC hx hbl hA0 h a hap hmA _ ih x1 x3 x4 x5 X F R L G kc ks _ _ ls hP hM hD hS hk (lv_sub hl [0, 1, 2, 3, 4, 5] rfl) hw
        have hw := hw.2 c_1627_13
        by_cases c_1627_14 : ((xs (Int32.toNatClampNeg x5)) &&& 127) = 14
        · have hw := hw.1 c_1627_14
          refine lv_tableIn (tgt := 1059) (off := 1015) hF.1 hF.2.1 dL_law_44 (by rw [c_1627_14]; decide) (by rw [c_1627_14]; decide) (by rw [c_1627_14]; decide) (by decide) ?_
          exact Tl1059 l hlt K X0 hF hr hlocks hC hx hbl hA0 h a hap hmA _ ih x1 x3 x4 x5 X F R L G kc ks _ _ ls hP hM hD hS hk (lv_sub hl [0, 1, 2, 3, 4, 5] rfl) hw
        have hw := hw.2 c_1627_14
        by_cases c_1627_15 : ((xs (Int32.toNatClampNeg x5)) &&& 127) = 15
        · have hw := hw.1 c_1627_15
          refine lv_tableIn (tgt := 1115) (off := 1071) hF.1 hF.2.1 dL_law_44 (by rw [c_1627_15]; decide) (by rw [c_1627_15]; decide) (by rw [c_1627_15]; decide) (by decide) ?_
          exact Tl1115 l hlt K X0 hF hr hlocks hC hx hbl hA0 h a hap hmA _ ih x1 x3 x4 x5 X F R L G kc ks _ _ ls hP hM hD hS hk (lv_sub hl [0, 1, 2, 3, 4, 5] rfl) hw
        have hw := hw.2 c_1627_15
        by_cases c_1627_16 : ((xs (Int32.toNatClampNeg x5)) &&& 127) = 16
        · have hw := hw.1 c_1627_16
          refine lv_tableIn (tgt := 1171) (off := 1127) hF.1 hF.2.1 dL_law_44 (by rw [c_1627_16]; decide) (by rw [c_1627_16]; decide) (by rw [c_1627_16]; decide) (by decide) ?_
          exact Tl1171 l hlt K X0 hF hr hlocks hC hx hbl hA0 h a hap hmA _ ih x1 x3 x4 x5 X F R L G kc ks _ _ ls hP hM hD hS hk (lv_sub hl [0, 1, 2, 3, 4, 5] rfl) hw
        have hw := hw.2 c_1627_16
        by_cases c_1627_17 : ((xs (Int32.toNatClampNeg x5)) &&& 127) = 17
        · have hw := hw.1 c_1627_17
          refine lv_tableIn (tgt := 1239) (off := 1195) hF.1 hF.2.1 dL_law_44 (by rw [c_1627_17]; decide) (by rw [c_1627_17]; decide) (by rw [c_1627_17]; decide) (by decide) ?_
          exact Tl1239 l hlt K X0 hF hr hlocks hC hx hbl hA0 h a hap hmA _ ih x1 x3 x4 x5 X F R L G kc ks _ _ ls hP hM hD hS hk (lv_sub hl [0, 1, 2, 3, 4, 5] rfl) hw
        have hw := hw.2 c_1627_17
        by_cases c_1627_18 : ((xs (Int32.toNatClampNeg x5)) &&& 127) = 18
        · have hw := hw.1 c_1627_18
          refine lv_tableIn (tgt := 1302) (off := 1258) hF.1 hF.2.1 dL_law_44 (by rw [c_1627_18]; decide) (by rw [c_1627_18]; decide) (by rw [c_1627_18]; decide) (by decide) ?_
          exact Tl1302 l hlt K X0 hF hr hlocks hC hx hbl hA0 h a hap hmA _ ih x1 x3 x4 x5 X F R L G kc ks _ _ ls hP hM hD hS hk (lv_sub hl [0, 1, 2, 3, 4, 5] rfl) hw
        have hw := hw.2 c_1627_18
        by_cases c_1627_19 : ((xs (Int32.toNatClampNeg x5)) &&& 127) = 19
        · have hw := hw.1 c_1627_19
          refine lv_tableIn (tgt := 1358) (off := 1314) hF.1 hF.2.1 dL_law_44 (by rw [c_1627_19]; decide) (by rw [c_1627_19]; decide) (by rw [c_1627_19]; decide) (by decide) ?_
          exact Tl1358 l hlt K X0 hF hr hlocks hC hx hbl hA0 h a hap hmA _ ih x1 x3 x4 x5 X F R L G kc ks _ _ ls hP hM hD hS hk (lv_sub hl [0, 1, 2, 3, 4, 5] rfl) hw
        have hw := hw.2 c_1627_19
        by_cases c_1627_20 : ((xs (Int32.toNatClampNeg x5)) &&& 127) = 20
        · have hw := hw.1 c_1627_20
          refine lv_tableIn (tgt := 1413) (off := 1369) hF.1 hF.2.1 dL_law_44 (by rw [c_1627_20]; decide) (by rw [c_1627_20]; decide) (by rw [c_1627_20]; decide) (by decide) ?_
          exact Tl1413 l hlt K X0 hF hr hlocks hC hx hbl hA0 h a hap hmA _ ih x1 x3 x4 x5 X F R L G kc ks _ _ ls hP hM hD hS hk (lv_sub hl [0, 1, 2, 3, 4, 5] rfl) hw
        have hw := hw.2 c_1627_20
        by_cases c_1627_21 : ((xs (Int32.toNatClampNeg x5)) &&& 127) = 21
        · have hw := hw.1 c_1627_21
          refine lv_tableIn (tgt := 1468) (off := 1424) hF.1 hF.2.1 dL_law_44 (by rw [c_1627_21]; decide) (by rw [c_1627_21]; decide) (by rw [c_1627_21]; decide) (by decide) ?_
          exact Tl1468 l hlt K X0 hF hr hlocks hC hx hbl hA0 h a hap hmA _ ih x1 x3 x4 x5 X F R L G kc ks _ _ ls hP hM hD hS hk (lv_sub hl [0, 1, 2, 3, 4, 5] rfl) hw
        have hw := hw.2 c_1627_21
        by_cases c_1627_22 : ((xs (Int32.toNatClampNeg x5)) &&& 127) = 22
        · have hw := hw.1 c_1627_22
          refine lv_tableIn (tgt := 1531) (off := 1487) hF.1 hF.2.1 dL_law_44 (by rw [c_1627_22]; decide) (by rw [c_1627_22]; decide) (by rw [c_1627_22]; decide) (by decide) ?_
          exact Tl1531 l hlt K X0 hF hr hlocks hC hx hbl hA0 h a hap hmA _ ih x1 x3 x4 x5 X F R L G kc ks _ _ ls hP hM hD hS hk (lv_sub hl [0, 1, 2, 3, 4, 5] rfl) hw
        have hw := hw.2 c_1627_22
        by_cases c_1627_23 : ((xs (Int32.toNatClampNeg x5)) &&& 127) = 23
        · have hw := hw.1 c_1627_23
          refine lv_tableIn (tgt := 1586) (off := 1542) hF.1 hF.2.1 dL_law_44 (by rw [c_1627_23]; decide) (by rw [c_1627_23]; decide) (by rw [c_1627_23]; decide) (by decide) ?_
          exact Tl1586 l hlt K X0 hF hr hlocks hC hx hbl hA0 h a hap hmA _ ih x1 x3 x4 x5 X F R L G kc ks _ _ ls hP hM hD hS hk (lv_sub hl [0, 1, 2, 3, 4, 5] rfl) hw
        have hw := hw.2 c_1627_23
        by_cases c_1627_24 : ((xs (Int32.toNatClampNeg x5)) &&& 127) = 24
        · have hw := hw.1 c_1627_24
          refine lv_tableIn (tgt := 1670) (off := 1626) hF.1 hF.2.1 dL_law_44 (by rw [c_1627_24]; decide) (by rw [c_1627_24]; decide) (by rw [c_1627_24]; decide) (by decide) ?_
          exact Tl1670 l hlt K X0 hF hr hlocks hC hx hbl hA0 h a hap hmA _ ih x1 x3 x4 x5 X F R L G kc ks _ _ ls hP hM hD hS hk (lv_sub hl [0, 1, 2, 3, 4, 5] rfl) hw
        have hw := hw.2 c_1627_24
        by_cases c_1627_25 : ((xs (Int32.toNatClampNeg x5)) &&& 127) = 25
        · have hw := hw.1 c_1627_25
          refine lv_tableIn (tgt := 1726) (off := 1682) hF.1 hF.2.1 dL_law_44 (by rw [c_1627_25]; decide) (by rw [c_1627_25]; decide) (by rw [c_1627_25]; decide) (by decide) ?_
          exact Tl1726 l hlt K X0 hF hr hlocks hC hx hbl hA0 h a hap hmA _ ih x1 x3 x4 x5 X F R L G kc ks _ _ ls hP hM hD hS hk (lv_sub hl [0, 1, 2, 3, 4, 5] rfl) hw
        have hw := hw.2 c_1627_25
        by_cases c_1627_26 : ((xs (Int32.toNatClampNeg x5)) &&& 127) = 26
        · have hw := hw.1 c_1627_26
          refine lv_tableIn (tgt := 1782) (off := 1738) hF.1 hF.2.1 dL_law_44 (by rw [c_1627_26]; decide) (by rw [c_1627_26]; decide) (by rw [c_1627_26]; decide) (by decide) ?_
          exact Tl1782 l hlt K X0 hF hr hlocks hC hx hbl hA0 h a hap hmA _ ih x1 x3 x4 x5 X F R L G kc ks _ _ ls hP hM hD hS hk (lv_sub hl [0, 1, 2, 3, 4, 5] rfl) hw
        have hw := hw.2 c_1627_26
        by_cases c_1627_27 : ((xs (Int32.toNatClampNeg x5)) &&& 127) = 27
        · have hw := hw.1 c_1627_27
          refine lv_tableIn (tgt := 1845) (off := 1801) hF.1 hF.2.1 dL_law_44 (by rw [c_1627_27]; decide) (by rw [c_1627_27]; decide) (by rw [c_1627_27]; decide) (by decide) ?_
          exact Tl1845 l hlt K X0 hF hr hlocks hC hx hbl hA0 h a hap hmA _ ih x1 x3 x4 x5 X F R L G kc ks _ _ ls hP hM hD hS hk (lv_sub hl [0, 1, 2, 3, 4, 5] rfl) hw
        have hw := hw.2 c_1627_27
        by_cases c_1627_28 : ((xs (Int32.toNatClampNeg x5)) &&& 127) = 28
        · have hw := hw.1 c_1627_28
          refine lv_tableIn (tgt := 1900) (off := 1856) hF.1 hF.2.1 dL_law_44 (by rw [c_1627_28]; decide) (by rw [c_1627_28]; decide) (by rw [c_1627_28]; decide) (by decide) ?_
          exact Tl1900 l hlt K X0 hF hr hlocks hC hx hbl hA0 h a hap hmA _ ih x1 x3 x4 x5 X F R L G kc ks _ _ ls hP hM hD hS hk (lv_sub hl [0, 1, 2, 3, 4, 5] rfl) hw
        have hw := hw.2 c_1627_28
        by_cases c_1627_29 : ((xs (Int32.toNatClampNeg x5)) &&& 127) = 29
        · have hw := hw.1 c_1627_29
          refine lv_tableIn (tgt := 1913) (off := 1869) hF.1 hF.2.1 dL_law_44 (by rw [c_1627_29]; decide) (by rw [c_1627_29]; decide) (by rw [c_1627_29]; decide) (by decide) ?_
          exact Tl1913 l hlt K X0 hF hr hlocks hC hx hbl hA0 h a hap hmA _ ih x1 x3 x4 x5 X F R L G kc ks _ _ ls hP hM hD hS hk (lv_sub hl [0, 1, 2, 3, 4, 5] rfl) hw
        have hw := hw.2 c_1627_29
        by_cases c_1627_30 : ((xs (Int32.toNatClampNeg x5)) &&& 127) = 30
        · have hw := hw.1 c_1627_30
          refine lv_tableIn (tgt := 1926) (off := 1882) hF.1 hF.2.1 dL_law_44 (by rw [c_1627_30]; decide) (by rw [c_1627_30]; decide) (by rw [c_1627_30]; decide) (by decide) ?_
          exact Tl1926 l hlt K X0 hF hr hlocks hC hx hbl hA0 h a hap hmA _ ih x1 x3 x4 x5 X F R L G kc ks _ _ ls hP hM hD hS hk (lv_sub hl [0, 1, 2, 3, 4, 5] rfl) hw
        have hw := hw.2 c_1627_30
        by_cases c_1627_31 : ((xs (Int32.toNatClampNeg x5)) &&& 127) = 31
        · have hw := hw.1 c_1627_31
          refine lv_tableIn (tgt := 1982) (off := 1938) hF.1 hF.2.1 dL_law_44 (by rw [c_1627_31]; decide) (by rw [c_1627_31]; decide) (by rw [c_1627_31]; decide) (by decide) ?_
          exact Tl1982 l hlt K X0 hF hr hlocks hC hx hbl hA0 h a hap hmA _ ih x1 x3 x4 x5 X F R L G kc ks _ _ ls hP hM hD hS hk (lv_sub hl [0, 1, 2, 3, 4, 5] rfl) hw
        have hw := hw.2 c_1627_31
        by_cases c_1627_32 : ((xs (Int32.toNatClampNeg x5)) &&& 127) = 32
        · have hw := hw.1 c_1627_32
          refine lv_tableIn (tgt := 2038) (off := 1994) hF.1 hF.2.1 dL_law_44 (by rw [c_1627_32]; decide) (by rw [c_1627_32]; decide) (by rw [c_1627_32]; decide) (by decide) ?_
          exact Tl2038 l hlt K X0 hF hr hlocks hC hx hbl hA0 h a hap hmA _ ih x1 x3 x4 x5 X F R L G kc ks _ _ ls hP hM hD hS hk (lv_sub hl [0, 1, 2, 3, 4, 5] rfl) hw
        have hw := hw.2 c_1627_32
        by_cases c_1627_33 : ((xs (Int32.toNatClampNeg x5)) &&& 127) = 33
        · have hw := hw.1 c_1627_33
          refine lv_tableIn (tgt := 2094) (off := 2050) hF.1 hF.2.1 dL_law_44 (by rw [c_1627_33]; decide) (by rw [c_1627_33]; decide) (by rw [c_1627_33]; decide) (by decide) ?_
          exact Tl2094 l hlt K X0 hF hr hlocks hC hx hbl hA0 h a hap hmA _ ih x1 x3 x4 x5 X F R L G kc ks _ _ ls hP hM hD hS hk (lv_sub hl [0, 1, 2, 3, 4, 5] rfl) hw
        have hw := hw.2 c_1627_33
        by_cases c_1627_34 : ((xs (Int32.toNatClampNeg x5)) &&& 127) = 34
        · have hw := hw.1 c_1627_34
          refine lv_tableIn (tgt := 2150) (off := 2106) hF.1 hF.2.1 dL_law_44 (by rw [c_1627_34]; decide) (by rw [c_1627_34]; decide) (by rw [c_1627_34]; decide) (by decide) ?_
          exact Tl2150 l hlt K X0 hF hr hlocks hC hx hbl hA0 h a hap hmA _ ih x1 x3 x4 x5 X F R L G kc ks _ _ ls hP hM hD hS hk (lv_sub hl [0, 1, 2, 3, 4, 5] rfl) hw
        have hw := hw.2 c_1627_34
        by_cases c_1627_35 : ((xs (Int32.toNatClampNeg x5)) &&& 127) = 35
        · have hw := hw.1 c_1627_35
          refine lv_tableIn (tgt := 2213) (off := 2169) hF.1 hF.2.1 dL_law_44 (by rw [c_1627_35]; decide) (by rw [c_1627_35]; decide) (by rw [c_1627_35]; decide) (by decide) ?_
          exact Tl2213 l hlt K X0 hF hr hlocks hC hx hbl hA0 h a hap hmA _ ih x1 x3 x4 x5 X F R L G kc ks _ _ ls hP hM hD hS hk (lv_sub hl [0, 1, 2, 3, 4, 5] rfl) hw
        have hw := hw.2 c_1627_35
        by_cases c_1627_36 : ((xs (Int32.toNatClampNeg x5)) &&& 127) = 36
        · have hw := hw.1 c_1627_36
          refine lv_tableIn (tgt := 2293) (off := 2249) hF.1 hF.2.1 dL_law_44 (by rw [c_1627_36]; decide) (by rw [c_1627_36]; decide) (by rw [c_1627_36]; decide) (by decide) ?_
          exact Tl2293 l hlt K X0 hF hr hlocks hC hx hbl hA0 h a hap hmA _ ih x1 x3 x4 x5 X F R L G kc ks _ _ ls hP hM hD hS hk (lv_sub hl [0, 1, 2, 3, 4, 5] rfl) hw
        have hw := hw.2 c_1627_36
        by_cases c_1627_37 : ((xs (Int32.toNatClampNeg x5)) &&& 127) = 37
        · have hw := hw.1 c_1627_37
          refine lv_tableIn (tgt := 2373) (off := 2329) hF.1 hF.2.1 dL_law_44 (by rw [c_1627_37]; decide) (by rw [c_1627_37]; decide) (by rw [c_1627_37]; decide) (by decide) ?_
          exact Tl2373 l hlt K X0 hF hr hlocks hC hx hbl hA0 h a hap hmA _ ih x1 x3 x4 x5 X F R L G kc ks _ _ ls hP hM hD hS hk (lv_sub hl [0, 1, 2, 3, 4, 5] rfl) hw
        have hw := hw.2 c_1627_37
        by_cases c_1627_38 : ((xs (Int32.toNatClampNeg x5)) &&& 127) = 38
        · have hw := hw.1 c_1627_38
          refine lv_tableIn (tgt := 2440) (off := 2396) hF.1 hF.2.1 dL_law_44 (by rw [c_1627_38]; decide) (by rw [c_1627_38]; decide) (by rw [c_1627_38]; decide) (by decide) ?_
          exact Tl2440 l hlt K X0 hF hr hlocks hC hx hbl hA0 h a hap hmA _ ih x1 x3 x4 x5 X F R L G kc ks _ _ ls hP hM hD hS hk (lv_sub hl [0, 1, 2, 3, 4, 5] rfl) hw
        have hw := hw.2 c_1627_38
        by_cases c_1627_39 : ((xs (Int32.toNatClampNeg x5)) &&& 127) = 39
        · have hw := hw.1 c_1627_39
          refine lv_tableIn (tgt := 2507) (off := 2463) hF.1 hF.2.1 dL_law_44 (by rw [c_1627_39]; decide) (by rw [c_1627_39]; decide) (by rw [c_1627_39]; decide) (by decide) ?_
          exact Tl2507 l hlt K X0 hF hr hlocks hC hx hbl hA0 h a hap hmA _ ih x1 x3 x4 x5 X F R L G kc ks _ _ ls hP hM hD hS hk (lv_sub hl [0, 1, 2, 3, 4, 5] rfl) hw
        have hw := hw.2 c_1627_39
        by_cases c_1627_40 : ((xs (Int32.toNatClampNeg x5)) &&& 127) = 40
        · have hw := hw.1 c_1627_40
          refine lv_tableIn (tgt := 2599) (off := 2555) hF.1 hF.2.1 dL_law_44 (by rw [c_1627_40]; decide) (by rw [c_1627_40]; decide) (by rw [c_1627_40]; decide) (by decide) ?_
          exact Tl2599 l hlt K X0 hF hr hlocks hC hx hbl hA0 h a hap hmA _ ih x1 x3 x4 x5 X F R L G kc ks _ _ ls hP hM hD hS hk (lv_sub hl [0, 1, 2, 3, 4, 5] rfl) hw
        have hw := hw.2 c_1627_40
        by_cases c_1627_41 : ((xs (Int32.toNatClampNeg x5)) &&& 127) = 41
        · have hw := hw.1 c_1627_41
          refine lv_tableIn (tgt := 2667) (off := 2623) hF.1 hF.2.1 dL_law_44 (by rw [c_1627_41]; decide) (by rw [c_1627_41]; decide) (by rw [c_1627_41]; decide) (by decide) ?_
          exact Tl2667 l hlt K X0 hF hr hlocks hC hx hbl hA0 h a hap hmA _ ih x1 x3 x4 x5 X F R L G kc ks _ _ ls hP hM hD hS hk (lv_sub hl [0, 1, 2, 3, 4, 5] rfl) hw
        have hw := hw.2 c_1627_41
        by_cases c_1627_42 : ((xs (Int32.toNatClampNeg x5)) &&& 127) = 42
        · have hw := hw.1 c_1627_42
          refine lv_tableIn (tgt := 2735) (off := 2691) hF.1 hF.2.1 dL_law_44 (by rw [c_1627_42]; decide) (by rw [c_1627_42]; decide) (by rw [c_1627_42]; decide) (by decide) ?_
          exact Tl2735 l hlt K X0 hF hr hlocks hC hx hbl hA0 h a hap hmA _ ih x1 x3 x4 x5 X F R L G kc ks _ _ ls hP hM hD hS hk (lv_sub hl [0, 1, 2, 3, 4, 5] rfl) hw
        have hw := hw.2 c_1627_42
        by_cases c_1627_43 : ((xs (Int32.toNatClampNeg x5)) &&& 127) = 43
        · have hw := hw.1 c_1627_43
          refine lv_tableIn (tgt := 2748) (off := 2704) hF.1 hF.2.1 dL_law_44 (by rw [c_1627_43]; decide) (by rw [c_1627_43]; decide) (by rw [c_1627_43]; decide) (by decide) ?_
          exact Tl2748 l hlt K X0 hF hr hlocks hC hx hbl hA0 h a hap hmA _ ih x1 x3 x4 x5 X F R L G kc ks _ _ ls hP hM hD hS hk (lv_sub hl [0, 1, 2, 3, 4, 5] rfl) hw
        have hw := hw.2 c_1627_43
        by_cases c_1627_44 : ((xs (Int32.toNatClampNeg x5)) &&& 127) = 44
        · have hw := hw.1 c_1627_44
          refine lv_tableIn (tgt := 2761) (off := 2717) hF.1 hF.2.1 dL_law_44 (by rw [c_1627_44]; decide) (by rw [c_1627_44]; decide) (by rw [c_1627_44]; decide) (by decide) ?_
          exact Tl2761 l hlt K X0 hF hr hlocks hC hx hbl hA0 h a hap hmA _ ih x1 x3 x4 x5 X F R L G kc ks _ _ ls hP hM hD hS hk (lv_sub hl [0, 1, 2, 3, 4, 5] rfl) hw
        have hw := hw.2 c_1627_44
        by_cases c_1627_45 : ((xs (Int32.toNatClampNeg x5)) &&& 127) = 45
        · have hw := hw.1 c_1627_45
          refine lv_tableIn (tgt := 2774) (off := 2730) hF.1 hF.2.1 dL_law_44 (by rw [c_1627_45]; decide) (by rw [c_1627_45]; decide) (by rw [c_1627_45]; decide) (by decide) ?_
          exact Tl2774 l hlt K X0 hF hr hlocks hC hx hbl hA0 h a hap hmA _ ih x1 x3 x4 x5 X F R L G kc ks _ _ ls hP hM hD hS hk (lv_sub hl [0, 1, 2, 3, 4, 5] rfl) hw
        have hw := hw.2 c_1627_45
        by_cases c_1627_46 : ((xs (Int32.toNatClampNeg x5)) &&& 127) = 46
        · have hw := hw.1 c_1627_46
          refine lv_tableIn (tgt := 2854) (off := 2810) hF.1 hF.2.1 dL_law_44 (by rw [c_1627_46]; decide) (by rw [c_1627_46]; decide) (by rw [c_1627_46]; decide) (by decide) ?_
          exact Tl2854 l hlt K X0 hF hr hlocks hC hx hbl hA0 h a hap hmA _ ih x1 x3 x4 x5 X F R L G kc ks _ _ ls hP hM hD hS hk (lv_sub hl [0, 1, 2, 3, 4, 5] rfl) hw
        have hw := hw.2 c_1627_46
        by_cases c_1627_47 : ((xs (Int32.toNatClampNeg x5)) &&& 127) = 47
        · have hw := hw.1 c_1627_47
          refine lv_tableIn (tgt := 2867) (off := 2823) hF.1 hF.2.1 dL_law_44 (by rw [c_1627_47]; decide) (by rw [c_1627_47]; decide) (by rw [c_1627_47]; decide) (by decide) ?_
          exact Tl2867 l hlt K X0 hF hr hlocks hC hx hbl hA0 h a hap hmA _ ih x1 x3 x4 x5 X F R L G kc ks _ _ ls hP hM hD hS hk (lv_sub hl [0, 1, 2, 3, 4, 5] rfl) hw
        have hw := hw.2 c_1627_47
        by_cases c_1627_48 : ((xs (Int32.toNatClampNeg x5)) &&& 127) = 48
        · have hw := hw.1 c_1627_48
          refine lv_tableIn (tgt := 2935) (off := 2891) hF.1 hF.2.1 dL_law_44 (by rw [c_1627_48]; decide) (by rw [c_1627_48]; decide) (by rw [c_1627_48]; decide) (by decide) ?_
          exact Tl2935 l hlt K X0 hF hr hlocks hC hx hbl hA0 h a hap hmA _ ih x1 x3 x4 x5 X F R L G kc ks _ _ ls hP hM hD hS hk (lv_sub hl [0, 1, 2, 3, 4, 5] rfl) hw
        have hw := hw.2 c_1627_48
        by_cases c_1627_49 : ((xs (Int32.toNatClampNeg x5)) &&& 127) = 49
        · have hw := hw.1 c_1627_49
          refine lv_tableIn (tgt := 2948) (off := 2904) hF.1 hF.2.1 dL_law_44 (by rw [c_1627_49]; decide) (by rw [c_1627_49]; decide) (by rw [c_1627_49]; decide) (by decide) ?_
          exact Tl2948 l hlt K X0 hF hr hlocks hC hx hbl hA0 h a hap hmA _ ih x1 x3 x4 x5 X F R L G kc ks _ _ ls hP hM hD hS hk (lv_sub hl [0, 1, 2, 3, 4, 5] rfl) hw
        have hw := hw.2 c_1627_49
        by_cases c_1627_50 : ((xs (Int32.toNatClampNeg x5)) &&& 127) = 50
        · have hw := hw.1 c_1627_50
          refine lv_tableIn (tgt := 3004) (off := 2960) hF.1 hF.2.1 dL_law_44 (by rw [c_1627_50]; decide) (by rw [c_1627_50]; decide) (by rw [c_1627_50]; decide) (by decide) ?_
          exact Tl3004 l hlt K X0 hF hr hlocks hC hx hbl hA0 h a hap hmA _ ih x1 x3 x4 x5 X F R L G kc ks _ _ ls hP hM hD hS hk (lv_sub hl [0, 1, 2, 3, 4, 5] rfl) hw
        have hw := hw.2 c_1627_50
        by_cases c_1627_51 : ((xs (Int32.toNatClampNeg x5)) &&& 127) = 51
        · have hw := hw.1 c_1627_51
          refine lv_tableIn (tgt := 3059) (off := 3015) hF.1 hF.2.1 dL_law_44 (by rw [c_1627_51]; decide) (by rw [c_1627_51]; decide) (by rw [c_1627_51]; decide) (by decide) ?_
          exact Tl3059 l hlt K X0 hF hr hlocks hC hx hbl hA0 h a hap hmA _ ih x1 x3 x4 x5 X F R L G kc ks _ _ ls hP hM hD hS hk (lv_sub hl [0, 1, 2, 3, 4, 5] rfl) hw
        have hw := hw.2 c_1627_51
        by_cases c_1627_52 : ((xs (Int32.toNatClampNeg x5)) &&& 127) = 52
        · have hw := hw.1 c_1627_52
          refine lv_tableIn (tgt := 3127) (off := 3083) hF.1 hF.2.1 dL_law_44 (by rw [c_1627_52]; decide) (by rw [c_1627_52]; decide) (by rw [c_1627_52]; decide) (by decide) ?_
          exact Tl3127 l hlt K X0 hF hr hlocks hC hx hbl hA0 h a hap hmA _ ih x1 x3 x4 x5 X F R L G kc ks _ _ ls hP hM hD hS hk (lv_sub hl [0, 1, 2, 3, 4, 5] rfl) hw
        have hw := hw.2 c_1627_52
        by_cases c_1627_53 : ((xs (Int32.toNatClampNeg x5)) &&& 127) = 53
        · have hw := hw.1 c_1627_53
          refine lv_tableIn (tgt := 3204) (off := 3160) hF.1 hF.2.1 dL_law_44 (by rw [c_1627_53]; decide) (by rw [c_1627_53]; decide) (by rw [c_1627_53]; decide) (by decide) ?_
          exact Tl3204 l hlt K X0 hF hr hlocks hC hx hbl hA0 h a hap hmA _ ih x1 x3 x4 x5 X F R L G kc ks _ _ ls hP hM hD hS hk (lv_sub hl [0, 1, 2, 3, 4, 5] rfl) hw
        have hw := hw.2 c_1627_53
        by_cases c_1627_54 : ((xs (Int32.toNatClampNeg x5)) &&& 127) = 54
        · have hw := hw.1 c_1627_54
          refine lv_tableIn (tgt := 3260) (off := 3216) hF.1 hF.2.1 dL_law_44 (by rw [c_1627_54]; decide) (by rw [c_1627_54]; decide) (by rw [c_1627_54]; decide) (by decide) ?_
          exact Tl3260 l hlt K X0 hF hr hlocks hC hx hbl hA0 h a hap hmA _ ih x1 x3 x4 x5 X F R L G kc ks _ _ ls hP hM hD hS hk (lv_sub hl [0, 1, 2, 3, 4, 5] rfl) hw
        have hw := hw.2 c_1627_54
        by_cases c_1627_55 : ((xs (Int32.toNatClampNeg x5)) &&& 127) = 55
        · have hw := hw.1 c_1627_55
          refine lv_tableIn (tgt := 3316) (off := 3272) hF.1 hF.2.1 dL_law_44 (by rw [c_1627_55]; decide) (by rw [c_1627_55]; decide) (by rw [c_1627_55]; decide) (by decide) ?_
          exact Tl3316 l hlt K X0 hF hr hlocks hC hx hbl hA0 h a hap hmA _ ih x1 x3 x4 x5 X F R L G kc ks _ _ ls hP hM hD hS hk (lv_sub hl [0, 1, 2, 3, 4, 5] rfl) hw
        have hw := hw.2 c_1627_55
        by_cases c_1627_56 : ((xs (Int32.toNatClampNeg x5)) &&& 127) = 56
        · have hw := hw.1 c_1627_56
          refine lv_tableIn (tgt := 3329) (off := 3285) hF.1 hF.2.1 dL_law_44 (by rw [c_1627_56]; decide) (by rw [c_1627_56]; decide) (by rw [c_1627_56]; decide) (by decide) ?_
          exact Tl3329 l hlt K X0 hF hr hlocks hC hx hbl hA0 h a hap hmA _ ih x1 x3 x4 x5 X F R L G kc ks _ _ ls hP hM hD hS hk (lv_sub hl [0, 1, 2, 3, 4, 5] rfl) hw
        have hw := hw.2 c_1627_56
        by_cases c_1627_57 : ((xs (Int32.toNatClampNeg x5)) &&& 127) = 57
        · have hw := hw.1 c_1627_57
          refine lv_tableIn (tgt := 3342) (off := 3298) hF.1 hF.2.1 dL_law_44 (by rw [c_1627_57]; decide) (by rw [c_1627_57]; decide) (by rw [c_1627_57]; decide) (by decide) ?_
          exact Tl3342 l hlt K X0 hF hr hlocks hC hx hbl hA0 h a hap hmA _ ih x1 x3 x4 x5 X F R L G kc ks _ _ ls hP hM hD hS hk (lv_sub hl [0, 1, 2, 3, 4, 5] rfl) hw
        have hw := hw.2 c_1627_57
        by_cases c_1627_58 : ((xs (Int32.toNatClampNeg x5)) &&& 127) = 58
        · have hw := hw.1 c_1627_58
          refine lv_tableIn (tgt := 3355) (off := 3311) hF.1 hF.2.1 dL_law_44 (by rw [c_1627_58]; decide) (by rw [c_1627_58]; decide) (by rw [c_1627_58]; decide) (by decide) ?_
          exact Tl3355 l hlt K X0 hF hr hlocks hC hx hbl hA0 h a hap hmA _ ih x1 x3 x4 x5 X F R L G kc ks _ _ ls hP hM hD hS hk (lv_sub hl [0, 1, 2, 3, 4, 5] rfl) hw
        have hw := hw.2 c_1627_58
        by_cases c_1627_59 : ((xs (Int32.toNatClampNeg x5)) &&& 127) = 59
        · have hw := hw.1 c_1627_59
          refine lv_tableIn (tgt := 3368) (off := 3324) hF.1 hF.2.1 dL_law_44 (by rw [c_1627_59]; decide) (by rw [c_1627_59]; decide) (by rw [c_1627_59]; decide) (by decide) ?_
          exact Tl3368 l hlt K X0 hF hr hlocks hC hx hbl hA0 h a hap hmA _ ih x1 x3 x4 x5 X F R L G kc ks _ _ ls hP hM hD hS hk (lv_sub hl [0, 1, 2, 3, 4, 5] rfl) hw
        have hw := hw.2 c_1627_59
        by_cases c_1627_60 : ((xs (Int32.toNatClampNeg x5)) &&& 127) = 60
        · have hw := hw.1 c_1627_60
          refine lv_tableIn (tgt := 3412) (off := 3368) hF.1 hF.2.1 dL_law_44 (by rw [c_1627_60]; decide) (by rw [c_1627_60]; decide) (by rw [c_1627_60]; decide) (by decide) ?_
          exact Tl3412 l hlt K X0 hF hr hlocks hC hx hbl hA0 h a hap hmA _ ih x1 x3 x4 x5 X F R L G kc ks _ _ ls hP hM hD hS hk (lv_sub hl [0, 1, 2, 3, 4, 5] rfl) hw
        have hw := hw.2 c_1627_60
        by_cases c_1627_61 : ((xs (Int32.toNatClampNeg x5)) &&& 127) = 61
        · have hw := hw.1 c_1627_61
          refine lv_tableIn (tgt := 3425) (off := 3381) hF.1 hF.2.1 dL_law_44 (by rw [c_1627_61]; decide) (by rw [c_1627_61]; decide) (by rw [c_1627_61]; decide) (by decide) ?_
          exact Tl3425 l hlt K X0 hF hr hlocks hC hx hbl hA0 h a hap hmA _ ih x1 x3 x4 x5 X F R L G kc ks _ _ ls hP hM hD hS hk (lv_sub hl [0, 1, 2, 3, 4, 5] rfl) hw
        have hw := hw.2 c_1627_61
        by_cases c_1627_62 : ((xs (Int32.toNatClampNeg x5)) &&& 127) = 62
        · have hw := hw.1 c_1627_62
          refine lv_tableIn (tgt := 3469) (off := 3425) hF.1 hF.2.1 dL_law_44 (by rw [c_1627_62]; decide) (by rw [c_1627_62]; decide) (by rw [c_1627_62]; decide) (by decide) ?_
          exact Tl3469 l hlt K X0 hF hr hlocks hC hx hbl hA0 h a hap hmA _ ih x1 x3 x4 x5 X F R L G kc ks _ _ ls hP hM hD hS hk (lv_sub hl [0, 1, 2, 3, 4, 5] rfl) hw
        have hw := hw.2 c_1627_62
        by_cases c_1627_63 : ((xs (Int32.toNatClampNeg x5)) &&& 127) = 63
        · have hw := hw.1 c_1627_63
          refine lv_tableIn (tgt := 3525) (off := 3481) hF.1 hF.2.1 dL_law_44 (by rw [c_1627_63]; decide) (by rw [c_1627_63]; decide) (by rw [c_1627_63]; decide) (by decide) ?_
          exact Tl3525 l hlt K X0 hF hr hlocks hC hx hbl hA0 h a hap hmA _ ih x1 x3 x4 x5 X F R L G kc ks _ _ ls hP hM hD hS hk (lv_sub hl [0, 1, 2, 3, 4, 5] rfl) hw
        have hw := hw.2 c_1627_63
        by_cases c_1627_64 : ((xs (Int32.toNatClampNeg x5)) &&& 127) = 64
        · have hw := hw.1 c_1627_64
          refine lv_tableIn (tgt := 3538) (off := 3494) hF.1 hF.2.1 dL_law_44 (by rw [c_1627_64]; decide) (by rw [c_1627_64]; decide) (by rw [c_1627_64]; decide) (by decide) ?_
          exact Tl3538 l hlt K X0 hF hr hlocks hC hx hbl hA0 h a hap hmA _ ih x1 x3 x4 x5 X F R L G kc ks _ _ ls hP hM hD hS hk (lv_sub hl [0, 1, 2, 3, 4, 5] rfl) hw
        have hw := hw.2 c_1627_64
        by_cases c_1627_65 : ((xs (Int32.toNatClampNeg x5)) &&& 127) = 65
        · have hw := hw.1 c_1627_65
          refine lv_tableIn (tgt := 3582) (off := 3538) hF.1 hF.2.1 dL_law_44 (by rw [c_1627_65]; decide) (by rw [c_1627_65]; decide) (by rw [c_1627_65]; decide) (by decide) ?_
          exact Tl3582 l hlt K X0 hF hr hlocks hC hx hbl hA0 h a hap hmA _ ih x1 x3 x4 x5 X F R L G kc ks _ _ ls hP hM hD hS hk (lv_sub hl [0, 1, 2, 3, 4, 5] rfl) hw
        have hw := hw.2 c_1627_65
        by_cases c_1627_66 : ((xs (Int32.toNatClampNeg x5)) &&& 127) = 66
        · have hw := hw.1 c_1627_66
          refine lv_tableIn (tgt := 3626) (off := 3582) hF.1 hF.2.1 dL_law_44 (by rw [c_1627_66]; decide) (by rw [c_1627_66]; decide) (by rw [c_1627_66]; decide) (by decide) ?_
          exact Tl3626 l hlt K X0 hF hr hlocks hC hx hbl hA0 h a hap hmA _ ih x1 x3 x4 x5 X F R L G kc ks _ _ ls hP hM hD hS hk (lv_sub hl [0, 1, 2, 3, 4, 5] rfl) hw
        have hw := hw.2 c_1627_66
        by_cases c_1627_67 : ((xs (Int32.toNatClampNeg x5)) &&& 127) = 67
        · have hw := hw.1 c_1627_67
          refine lv_tableIn (tgt := 3670) (off := 3626) hF.1 hF.2.1 dL_law_44 (by rw [c_1627_67]; decide) (by rw [c_1627_67]; decide) (by rw [c_1627_67]; decide) (by decide) ?_
          exact Tl3670 l hlt K X0 hF hr hlocks hC hx hbl hA0 h a hap hmA _ ih x1 x3 x4 x5 X F R L G kc ks _ _ ls hP hM hD hS hk (lv_sub hl [0, 1, 2, 3, 4, 5] rfl) hw
        have hw := hw.2 c_1627_67
        have hd9 : ∀ k : Nat, k < 68 → ¬ ((xs (Int32.toNatClampNeg x5)) &&& 127) = nI k := fun k hk => match k, hk with | 0, _ => fun z => c_1627_0 (z.trans (by decide +kernel)) | 1, _ => fun z => c_1627_1 (z.trans (by decide +kernel)) | 2, _ => fun z => c_1627_2 (z.trans (by decide +kernel)) | 3, _ => fun z => c_1627_3 (z.trans (by decide +kernel)) | 4, _ => fun z => c_1627_4 (z.trans (by decide +kernel)) | 5, _ => fun z => c_1627_5 (z.trans (by decide +kernel)) | 6, _ => fun z => c_1627_6 (z.trans (by decide +kernel)) | 7, _ => fun z => c_1627_7 (z.trans (by decide +kernel)) | 8, _ => fun z => c_1627_8 (z.trans (by decide +kernel)) | 9, _ => fun z => c_1627_9 (z.trans (by decide +kernel)) | 10, _ => fun z => c_1627_10 (z.trans (by decide +kernel)) | 11, _ => fun z => c_1627_11 (z.trans (by decide +kernel)) | 12, _ => fun z => c_1627_12 (z.trans (by decide +kernel)) | 13, _ => fun z => c_1627_13 (z.trans (by decide +kernel)) | 14, _ => fun z => c_1627_14 (z.trans (by decide +kernel)) | 15, _ => fun z => c_1627_15 (z.trans (by decide +kernel)) | 16, _ => fun z => c_1627_16 (z.trans (by decide +kernel)) | 17, _ => fun z => c_1627_17 (z.trans (by decide +kernel)) | 18, _ => fun z => c_1627_18 (z.trans (by decide +kernel)) | 19, _ => fun z => c_1627_19 (z.trans (by decide +kernel)) | 20, _ => fun z => c_1627_20 (z.trans (by decide +kernel)) | 21, _ => fun z => c_1627_21 (z.trans (by decide +kernel)) | 22, _ => fun z => c_1627_22 (z.trans (by decide +kernel)) | 23, _ => fun z => c_1627_23 (z.trans (by decide +kernel)) | 24, _ => fun z => c_1627_24 (z.trans (by decide +kernel)) | 25, _ => fun z => c_1627_25 (z.trans (by decide +kernel)) | 26, _ => fun z => c_1627_26 (z.trans (by decide +kernel)) | 27, _ => fun z => c_1627_27 (z.trans (by decide +kernel)) | 28, _ => fun z => c_1627_28 (z.trans (by decide +kernel)) | 29, _ => fun z => c_1627_29 (z.trans (by decide +kernel)) | 30, _ => fun z => c_1627_30 (z.trans (by decide +kernel)) | 31, _ => fun z => c_1627_31 (z.trans (by decide +kernel)) | 32, _ => fun z => c_1627_32 (z.trans (by decide +kernel)) | 33, _ => fun z => c_1627_33 (z.trans (by decide +kernel)) | 34, _ => fun z => c_1627_34 (z.trans (by decide +kernel)) | 35, _ => fun z => c_1627_35 (z.trans (by decide +kernel)) | 36, _ => fun z => c_1627_36 (z.trans (by decide +kernel)) | 37, _ => fun z => c_1627_37 (z.trans (by decide +kernel)) | 38, _ => fun z => c_1627_38 (z.trans (by decide +kernel)) | 39, _ => fun z => c_1627_39 (z.trans (by decide +kernel)) | 40, _ => fun z => c_1627_40 (z.trans (by decide +kernel)) | 41, _ => fun z => c_1627_41 (z.trans (by decide +kernel)) | 42, _ => fun z => c_1627_42 (z.trans (by decide +kernel)) | 43, _ => fun z => c_1627_43 (z.trans (by decide +kernel)) | 44, _ => fun z => c_1627_44 (z.trans (by decide +kernel)) | 45, _ => fun z => c_1627_45 (z.trans (by decide +kernel)) | 46, _ => fun z => c_1627_46 (z.trans (by decide +kernel)) | 47, _ => fun z => c_1627_47 (z.trans (by decide +kernel)) | 48, _ => fun z => c_1627_48 (z.trans (by decide +kernel)) | 49, _ => fun z => c_1627_49 (z.trans (by decide +kernel)) | 50, _ => fun z => c_1627_50 (z.trans (by decide +kernel)) | 51, _ => fun z => c_1627_51 (z.trans (by decide +kernel)) | 52, _ => fun z => c_1627_52 (z.trans (by decide +kernel)) | 53, _ => fun z => c_1627_53 (z.trans (by decide +kernel)) | 54, _ => fun z => c_1627_54 (z.trans (by decide +kernel)) | 55, _ => fun z => c_1627_55 (z.trans (by decide +kernel)) | 56, _ => fun z => c_1627_56 (z.trans (by decide +kernel)) | 57, _ => fun z => c_1627_57 (z.trans (by decide +kernel)) | 58, _ => fun z => c_1627_58 (z.trans (by decide +kernel)) | 59, _ => fun z => c_1627_59 (z.trans (by decide +kernel)) | 60, _ => fun z => c_1627_60 (z.trans (by decide +kernel)) | 61, _ => fun z => c_1627_61 (z.trans (by decide +kernel)) | 62, _ => fun z => c_1627_62 (z.trans (by decide +kernel)) | 63, _ => fun z => c_1627_63 (z.trans (by decide +kernel)) | 64, _ => fun z => c_1627_64 (z.trans (by decide +kernel)) | 65, _ => fun z => c_1627_65 (z.trans (by decide +kernel)) | 66, _ => fun z => c_1627_66 (z.trans (by decide +kernel)) | 67, _ => fun z => c_1627_67 (z.trans (by decide +kernel)) | k + 68, h => absurd h (Nat.not_lt.mpr (Nat.le_add_left _ _))
        refine lv_tableOut (tgt := 3714) hF.1 hF.2.1 dL_law_44 (tb_dflt (by decide) hd9) (by decide) ?_
        obtain ⟨x5_1628, ex5_1628⟩ : ∃ y : Int32, y = x5 + 5 := ⟨_, rfl⟩
        have hw := hw x5_1628 ex5_1628
        refine lv_iinc (v := x5_1628) (lv' := [(5, .int x5_1628), (0, .ref b), (1, .ref x1), (2, .ref h), (3, .ref x3), (4, .ref x4)]) hF.1 hF.2.1 dL_law_3714 hl (k := 5) rfl (by rw [ex5_1628]; rfl) (by decide) rfl (fun ls hl => ?_)
        refine lv_goto (tgt := 28) hF.1 hF.2.1 dL_law_3717 (by decide) ?_
        exact ih x1 x3 x4 x5_1628 X F R L G kc ks _ _ ls hP hM hD hS hk (lv_sub hl [1, 2, 3, 4, 5, 0] rfl) hw

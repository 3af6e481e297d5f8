/-! THE MODEL, walked by program: X3_bestPair .. X3_takesOrder -/
set_option maxRecDepth 100000
def wpX3_bestPair_190 (post : Int32 → mF → mR → mL → mG → Prop) (J47 : Int32 → Int32 → Int32 → Int32 → Int32 → mF → mR → mL → mG → Prop) (J58 : Int32 → Int32 → Int32 → Int32 → Int32 → Int32 → mF → mR → mL → mG → Prop) (x1 : Int32) (x2 : Int32) (x3 : Int32) (x5 : Int32) (x6 : Int32) (z0 : Int32) (F : mF) (R : mR) (L : mL) (G : mG) : Prop := (∀ x6_1 : Int32, x6_1 = x6 + 1 → J58 x1 x2 x3 z0 x5 x6_1 F R L G)
def wpX3_bestPair_177 (post : Int32 → mF → mR → mL → mG → Prop) (J47 : Int32 → Int32 → Int32 → Int32 → Int32 → mF → mR → mL → mG → Prop) (J58 : Int32 → Int32 → Int32 → Int32 → Int32 → Int32 → mF → mR → mL → mG → Prop) (x1 : Int32) (x2 : Int32) (x4 : Int32) (x5 : Int32) (x6 : Int32) (x11 : Int32) (z0 : Int32) (F : mF) (R : mR) (L : mL) (G : mG) : Prop := ((x11 = 0 → wpX3_bestPair_190 post J47 J58 x1 x2 z0 x5 x6 x4 F R L G) ∧ (¬ x11 = 0 → wpX3_bestPair_190 post J47 J58 x1 x2 z0 x5 x6 x6 F R L G))
def wpX3_bestPair_164 (post : Int32 → mF → mR → mL → mG → Prop) (J47 : Int32 → Int32 → Int32 → Int32 → Int32 → mF → mR → mL → mG → Prop) (J58 : Int32 → Int32 → Int32 → Int32 → Int32 → Int32 → mF → mR → mL → mG → Prop) (x1 : Int32) (x2 : Int32) (x3 : Int32) (x4 : Int32) (x5 : Int32) (x6 : Int32) (z0 : Int32) (F : mF) (R : mR) (L : mL) (G : mG) : Prop := ((z0 = 0 → wpX3_bestPair_177 post J47 J58 x1 x2 x4 x5 x6 z0 x3 F R L G) ∧ (¬ z0 = 0 → wpX3_bestPair_177 post J47 J58 x1 x2 x4 x5 x6 z0 x5 F R L G))
def wpX3_bestPair_159 (post : Int32 → mF → mR → mL → mG → Prop) (J47 : Int32 → Int32 → Int32 → Int32 → Int32 → mF → mR → mL → mG → Prop) (J58 : Int32 → Int32 → Int32 → Int32 → Int32 → Int32 → mF → mR → mL → mG → Prop) (x1 : Int32) (x2 : Int32) (x3 : Int32) (x4 : Int32) (x5 : Int32) (x6 : Int32) (F : mF) (R : mR) (L : mL) (G : mG) : Prop := wpX3_bestPair_164 post J47 J58 x1 x2 x3 x4 x5 x6 1 F R L G
def wpX3_bestPair_163 (post : Int32 → mF → mR → mL → mG → Prop) (J47 : Int32 → Int32 → Int32 → Int32 → Int32 → mF → mR → mL → mG → Prop) (J58 : Int32 → Int32 → Int32 → Int32 → Int32 → Int32 → mF → mR → mL → mG → Prop) (x1 : Int32) (x2 : Int32) (x3 : Int32) (x4 : Int32) (x5 : Int32) (x6 : Int32) (F : mF) (R : mR) (L : mL) (G : mG) : Prop := wpX3_bestPair_164 post J47 J58 x1 x2 x3 x4 x5 x6 0 F R L G
def wpX3_bestPair_115 (post : Int32 → mF → mR → mL → mG → Prop) (J47 : Int32 → Int32 → Int32 → Int32 → Int32 → mF → mR → mL → mG → Prop) (J58 : Int32 → Int32 → Int32 → Int32 → Int32 → Int32 → mF → mR → mL → mG → Prop) (x1 : Int32) (x2 : Int32) (x3 : Int32) (x4 : Int32) (x5 : Int32) (x6 : Int32) (z0 : Int32) (z1 : Int32) (F : mF) (R : mR) (L : mL) (G : mG) : Prop := (∀ x9_4 : Int32, x9_4 = z0 - (z1 * x6) → (∀ x10_5 : Int32, x10_5 = ((x5 + x6) - x3) - x4 → ((x9_4 < 0 → wpX3_bestPair_159 post J47 J58 x1 x2 x3 x4 x5 x6 F R L G) ∧ (¬ x9_4 < 0 → ((x9_4 = 0 → ((x10_5 < 0 → wpX3_bestPair_159 post J47 J58 x1 x2 x3 x4 x5 x6 F R L G) ∧ (¬ x10_5 < 0 → ((x10_5 = 0 → ((x3 ≤ x5 → wpX3_bestPair_163 post J47 J58 x1 x2 x3 x4 x5 x6 F R L G) ∧ (¬ x3 ≤ x5 → wpX3_bestPair_159 post J47 J58 x1 x2 x3 x4 x5 x6 F R L G))) ∧ (¬ x10_5 = 0 → wpX3_bestPair_163 post J47 J58 x1 x2 x3 x4 x5 x6 F R L G))))) ∧ (¬ x9_4 = 0 → wpX3_bestPair_163 post J47 J58 x1 x2 x3 x4 x5 x6 F R L G))))))
def wpX3_bestPair_99 (post : Int32 → mF → mR → mL → mG → Prop) (J47 : Int32 → Int32 → Int32 → Int32 → Int32 → mF → mR → mL → mG → Prop) (J58 : Int32 → Int32 → Int32 → Int32 → Int32 → Int32 → mF → mR → mL → mG → Prop) (x1 : Int32) (x2 : Int32) (x3 : Int32) (x4 : Int32) (x5 : Int32) (x6 : Int32) (x8 : Int32) (z0 : Int32) (F : mF) (R : mR) (L : mL) (G : mG) : Prop := ((0 ≤ x8 → wpX3_bestPair_115 post J47 J58 x1 x2 x3 x4 x5 x6 (z0 * x4) x8 F R L G) ∧ (¬ 0 ≤ x8 → wpX3_bestPair_115 post J47 J58 x1 x2 x3 x4 x5 x6 (z0 * x4) (-x8) F R L G))
def wpX3_bestPair_58 (post : Int32 → mF → mR → mL → mG → Prop) (J47 : Int32 → Int32 → Int32 → Int32 → Int32 → mF → mR → mL → mG → Prop) : Nat → Int32 → Int32 → Int32 → Int32 → Int32 → Int32 → mF → mR → mL → mG → Prop
  | 0 => fun _ _ _ _ _ _ _ _ _ _ => False
  | n + 1 => fun x1 x2 x3 x4 x5 x6 F R L G => ((120 < x6 → (∀ x5_13 : Int32, x5_13 = x5 + 1 → J47 x1 x2 x3 x4 x5_13 F R L G)) ∧ (¬ 120 < x6 → (∀ x7_14 : Int32, x7_14 = (x5 * x2) - (x1 * x6) → (∀ x8_15 : Int32, x8_15 = (x3 * x2) - (x1 * x4) → ((0 ≤ x7_14 → wpX3_bestPair_99 post J47 (wpX3_bestPair_58 post J47 n) x1 x2 x3 x4 x5 x6 x8_15 x7_14 F R L G) ∧ (¬ 0 ≤ x7_14 → wpX3_bestPair_99 post J47 (wpX3_bestPair_58 post J47 n) x1 x2 x3 x4 x5 x6 x8_15 (-x7_14) F R L G))))))
def wpX3_bestPair_47 (post : Int32 → mF → mR → mL → mG → Prop) : Nat → Int32 → Int32 → Int32 → Int32 → Int32 → mF → mR → mL → mG → Prop
  | 0 => fun _ _ _ _ _ _ _ _ _ => False
  | n + 1 => fun x1 x2 x3 x4 x5 F R L G => ((120 < x5 → post ((1000 * x3) + x4) F R L G) ∧ (¬ 120 < x5 → ∃ fu : Nat, wpX3_bestPair_58 post (wpX3_bestPair_47 post n) fu x1 x2 x3 x4 x5 8 F R L G))
def wpX3_bestPair_28 (post : Int32 → mF → mR → mL → mG → Prop) (x1 : Int32) (x2 : Int32) (z1 : Int32) (F : mF) (R : mR) (L : mL) (G : mG) : Prop := wpX3_asks (fun r_18 F_19 R_20 L_21 G_22 => ((r_18 = 0 → post 0 F_19 R_20 L_21 G_22) ∧ (¬ r_18 = 0 → ∃ fu : Nat, wpX3_bestPair_47 post fu x1 x2 8 8 8 F_19 R_20 L_21 G_22))) F R L G z1
def wpX3_bestPair_27 (post : Int32 → mF → mR → mL → mG → Prop) (x1 : Int32) (x2 : Int32) (F : mF) (R : mR) (L : mL) (G : mG) : Prop := wpX3_bestPair_28 post x1 x2 0 F R L G
def wpX3_bestPair (post : Int32 → mF → mR → mL → mG → Prop) (F : mF) (R : mR) (L : mL) (G : mG) (p1 : Int32) (p2 : Int32) : Prop := wpX3_in (fun r_24 => ((r_24 = 0 → wpX3_bestPair_27 post p1 p2 F R L G) ∧ (¬ r_24 = 0 → wpX3_in (fun r_26 => ((r_26 = 0 → wpX3_bestPair_27 post p1 p2 F R L G) ∧ (¬ r_26 = 0 → wpX3_bestPair_28 post p1 p2 1 F R L G))) p2 1 200))) p1 1 200
abbrev wsX3_bestPair : List Cond := ws_ yX3_bestPair cX3_bestPair 12 (some .int)
set_option maxHeartbeats 8000000 in
theorem metX3_bestPair (l : Launch) (K : KT) (h : Nat) (a : Nat → Nat) (hap : mAp h a) (post : Int32 → mF → mR → mL → mG → Prop) (F : mF) (R : mR) (L : mL) (G : mG) (p1 : Int32) (p2 : Int32) : Met l yX3_bestPair wsX3_bestPair (rmo 1 22) (mPre K h a F R L G [.int p1, .int p2] (wpX3_bestPair post F R L G p1 p2)) (mQi post K h a) 0 0 (mA h a) := by
  refine Met.ofW (cc := cX3_bestPair) (maxL := 12) (ret := (some .int)) (by decide) rfl ?_
  intro p e s m args below meth c s₁ B hml hv
  obtain ⟨rfl, hP, hK, hw⟩ := hv
  have hx := B.exec
  have hb := B.bytes
  have hr := B.returns
  have hts := atoms_spec (ws := wsX3_bestPair) B.pre
  have hts : ∀ w ∈ lw_all, w.before _ s = true := fun w h => hts w (List.mem_cons_of_mem _ h)
  have hown : s.vm.findClass RX3 = some m.cls := findClass_of_methodNamed B.named
  have hlocks := B.notSynchronized
  have hl := lv_entry ([.ref h, .int p1, .int p2]) (n := 12) (Nat.le_of_ble_eq_true rfl)
  rw [lg_entry_eq]
  generalize (lg_sl ([.ref h, .int p1, .int p2]) ++ List.replicate (12 - (lg_sl ([.ref h, .int p1, .int p2])).length) Slot.unset).toArray = ls at hl ⊢
  have hl : lv_has ls 12 [(0, .ref h), (1, .int p1), (2, .int p2)] := hl
  have hS : va_S (mA h a) s.heap s.heap [] := va_S.rf
  have T190 : ∀ (J47 : Int32 → Int32 → Int32 → Int32 → Int32 → mF → mR → mL → mG → Prop) (hJ47 : ∀ (x1 : Int32) (x2 : Int32) (x3 : Int32) (x4 : Int32) (x5 : Int32) (F : mF) (R : mR) (L : mL) (G : mG) (H : Heap) (locs : List Loc) (ls : Array Slot), mP K h a F R L G H → va_S (mA h a) s.heap H locs → lv_has ls 12 [(1, .int x1), (2, .int x2), (3, .int x3), (4, .int x4), (5, .int x5)] → J47 x1 x2 x3 x4 x5 F R L G → W p l e (rmo 1 22) s m ([.ref h, .int p1, .int p2] : List Value).toArray below meth c H locs 0 0 (MQ below (mQi post K h a) ([.ref h, .int p1, .int p2] : List Value).toArray s 0 0 (mA h a)) (F0 m 47 ls [])), ∀ (J58 : Int32 → Int32 → Int32 → Int32 → Int32 → Int32 → mF → mR → mL → mG → Prop) (hJ58 : ∀ (x1 : Int32) (x2 : Int32) (x3 : Int32) (x4 : Int32) (x5 : Int32) (x6 : Int32) (F : mF) (R : mR) (L : mL) (G : mG) (H : Heap) (locs : List Loc) (ls : Array Slot), mP K h a F R L G H → va_S (mA h a) s.heap H locs → lv_has ls 12 [(1, .int x1), (2, .int x2), (3, .int x3), (4, .int x4), (5, .int x5), (6, .int x6)] → J58 x1 x2 x3 x4 x5 x6 F R L G → W p l e (rmo 1 22) s m ([.ref h, .int p1, .int p2] : List Value).toArray below meth c H locs 0 0 (MQ below (mQi post K h a) ([.ref h, .int p1, .int p2] : List Value).toArray s 0 0 (mA h a)) (F0 m 58 ls [])), ∀ (x1 : Int32) (x2 : Int32) (x3 : Int32) (x5 : Int32) (x6 : Int32) (z0 : Int32) (F : mF) (R : mR) (L : mL) (G : mG) (H : Heap) (locs : List Loc) (ls : Array Slot), mP K h a F R L G H → va_S (mA h a) s.heap H locs → lv_has ls 12 [(1, .int x1), (2, .int x2), (3, .int x3), (5, .int x5), (6, .int x6)] → wpX3_bestPair_190 post J47 J58 x1 x2 x3 x5 x6 z0 F R L G → W p l e (rmo 1 22) s m ([.ref h, .int p1, .int p2] : List Value).toArray below meth c H locs 0 0 (MQ below (mQi post K h a) ([.ref h, .int p1, .int p2] : List Value).toArray s 0 0 (mA h a)) (F0 m 190 ls [.int z0]) := by
    intro J47 hJ47 J58 hJ58
    intro x1 x2 x3 x5 x6 z0 F R L G H locs ls hP hS hl hw
    unfold wpX3_bestPair_190 at hw
    refine lv_istore (lv' := [(4, .int z0), (1, .int x1), (2, .int x2), (3, .int x3), (5, .int x5), (6, .int x6)]) hx hb dX3_bestPair_190 hl (by decide) rfl (fun ls hl => ?_)
    obtain ⟨x6_1, ex6_1⟩ : ∃ y : Int32, y = x6 + 1 := ⟨_, rfl⟩
    have hw := hw x6_1 ex6_1
    refine lv_iinc (v := x6_1) (lv' := [(6, .int x6_1), (4, .int z0), (1, .int x1), (2, .int x2), (3, .int x3), (5, .int x5)]) hx hb dX3_bestPair_192 hl (k := 5) rfl (by rw [ex6_1]; rfl) (by decide) rfl (fun ls hl => ?_)
    refine lv_goto (tgt := 58) hx hb dX3_bestPair_195 (by decide) ?_
    exact hJ58 x1 x2 x3 z0 x5 x6_1 F R L G _ _ ls hP hS (lv_sub hl [2, 3, 4, 1, 5, 0] rfl) hw
  have T177 : ∀ (J47 : Int32 → Int32 → Int32 → Int32 → Int32 → mF → mR → mL → mG → Prop) (hJ47 : ∀ (x1 : Int32) (x2 : Int32) (x3 : Int32) (x4 : Int32) (x5 : Int32) (F : mF) (R : mR) (L : mL) (G : mG) (H : Heap) (locs : List Loc) (ls : Array Slot), mP K h a F R L G H → va_S (mA h a) s.heap H locs → lv_has ls 12 [(1, .int x1), (2, .int x2), (3, .int x3), (4, .int x4), (5, .int x5)] → J47 x1 x2 x3 x4 x5 F R L G → W p l e (rmo 1 22) s m ([.ref h, .int p1, .int p2] : List Value).toArray below meth c H locs 0 0 (MQ below (mQi post K h a) ([.ref h, .int p1, .int p2] : List Value).toArray s 0 0 (mA h a)) (F0 m 47 ls [])), ∀ (J58 : Int32 → Int32 → Int32 → Int32 → Int32 → Int32 → mF → mR → mL → mG → Prop) (hJ58 : ∀ (x1 : Int32) (x2 : Int32) (x3 : Int32) (x4 : Int32) (x5 : Int32) (x6 : Int32) (F : mF) (R : mR) (L : mL) (G : mG) (H : Heap) (locs : List Loc) (ls : Array Slot), mP K h a F R L G H → va_S (mA h a) s.heap H locs → lv_has ls 12 [(1, .int x1), (2, .int x2), (3, .int x3), (4, .int x4), (5, .int x5), (6, .int x6)] → J58 x1 x2 x3 x4 x5 x6 F R L G → W p l e (rmo 1 22) s m ([.ref h, .int p1, .int p2] : List Value).toArray below meth c H locs 0 0 (MQ below (mQi post K h a) ([.ref h, .int p1, .int p2] : List Value).toArray s 0 0 (mA h a)) (F0 m 58 ls [])), ∀ (x1 : Int32) (x2 : Int32) (x4 : Int32) (x5 : Int32) (x6 : Int32) (x11 : Int32) (z0 : Int32) (F : mF) (R : mR) (L : mL) (G : mG) (H : Heap) (locs : List Loc) (ls : Array Slot), mP K h a F R L G H → va_S (mA h a) s.heap H locs → lv_has ls 12 [(1, .int x1), (2, .int x2), (4, .int x4), (5, .int x5), (6, .int x6), (11, .int x11)] → wpX3_bestPair_177 post J47 J58 x1 x2 x4 x5 x6 x11 z0 F R L G → W p l e (rmo 1 22) s m ([.ref h, .int p1, .int p2] : List Value).toArray below meth c H locs 0 0 (MQ below (mQi post K h a) ([.ref h, .int p1, .int p2] : List Value).toArray s 0 0 (mA h a)) (F0 m 177 ls [.int z0]) := by
    intro J47 hJ47 J58 hJ58
    intro x1 x2 x4 x5 x6 x11 z0 F R L G H locs ls hP hS hl hw
    unfold wpX3_bestPair_177 at hw
    refine lv_istore_n (lv' := [(3, .int z0), (1, .int x1), (2, .int x2), (4, .int x4), (5, .int x5), (6, .int x6), (11, .int x11)]) hx hb dX3_bestPair_177 rfl hl (by decide) rfl (fun ls hl => ?_)
    refine lv_iload hx hb dX3_bestPair_178 (lv_at hl 6 rfl) ?_
    refine lv_if_eq (tgt := 188) hx hb dX3_bestPair_180 (by decide) (fun c_2 => ?_) (fun c_2 => ?_)
    · have hw := hw.1 c_2
      refine lv_iload hx hb dX3_bestPair_188 (lv_at hl 3 rfl) ?_
      exact T190 _ hJ47 _ hJ58 x1 x2 z0 x5 x6 x4 F R L G _ _ ls hP hS (lv_sub hl [1, 2, 0, 4, 5] rfl) hw
    · have hw := hw.2 c_2
      refine lv_iload hx hb dX3_bestPair_183 (lv_at hl 5 rfl) ?_
      refine lv_goto (tgt := 190) hx hb dX3_bestPair_185 (by decide) ?_
      exact T190 _ hJ47 _ hJ58 x1 x2 z0 x5 x6 x6 F R L G _ _ ls hP hS (lv_sub hl [1, 2, 0, 4, 5] rfl) hw
  have T164 : ∀ (J47 : Int32 → Int32 → Int32 → Int32 → Int32 → mF → mR → mL → mG → Prop) (hJ47 : ∀ (x1 : Int32) (x2 : Int32) (x3 : Int32) (x4 : Int32) (x5 : Int32) (F : mF) (R : mR) (L : mL) (G : mG) (H : Heap) (locs : List Loc) (ls : Array Slot), mP K h a F R L G H → va_S (mA h a) s.heap H locs → lv_has ls 12 [(1, .int x1), (2, .int x2), (3, .int x3), (4, .int x4), (5, .int x5)] → J47 x1 x2 x3 x4 x5 F R L G → W p l e (rmo 1 22) s m ([.ref h, .int p1, .int p2] : List Value).toArray below meth c H locs 0 0 (MQ below (mQi post K h a) ([.ref h, .int p1, .int p2] : List Value).toArray s 0 0 (mA h a)) (F0 m 47 ls [])), ∀ (J58 : Int32 → Int32 → Int32 → Int32 → Int32 → Int32 → mF → mR → mL → mG → Prop) (hJ58 : ∀ (x1 : Int32) (x2 : Int32) (x3 : Int32) (x4 : Int32) (x5 : Int32) (x6 : Int32) (F : mF) (R : mR) (L : mL) (G : mG) (H : Heap) (locs : List Loc) (ls : Array Slot), mP K h a F R L G H → va_S (mA h a) s.heap H locs → lv_has ls 12 [(1, .int x1), (2, .int x2), (3, .int x3), (4, .int x4), (5, .int x5), (6, .int x6)] → J58 x1 x2 x3 x4 x5 x6 F R L G → W p l e (rmo 1 22) s m ([.ref h, .int p1, .int p2] : List Value).toArray below meth c H locs 0 0 (MQ below (mQi post K h a) ([.ref h, .int p1, .int p2] : List Value).toArray s 0 0 (mA h a)) (F0 m 58 ls [])), ∀ (x1 : Int32) (x2 : Int32) (x3 : Int32) (x4 : Int32) (x5 : Int32) (x6 : Int32) (z0 : Int32) (F : mF) (R : mR) (L : mL) (G : mG) (H : Heap) (locs : List Loc) (ls : Array Slot), mP K h a F R L G H → va_S (mA h a) s.heap H locs → lv_has ls 12 [(1, .int x1), (2, .int x2), (3, .int x3), (4, .int x4), (5, .int x5), (6, .int x6)] → wpX3_bestPair_164 post J47 J58 x1 x2 x3 x4 x5 x6 z0 F R L G → W p l e (rmo 1 22) s m ([.ref h, .int p1, .int p2] : List Value).toArray below meth c H locs 0 0 (MQ below (mQi post K h a) ([.ref h, .int p1, .int p2] : List Value).toArray s 0 0 (mA h a)) (F0 m 164 ls [.int z0]) := by
    intro J47 hJ47 J58 hJ58
    intro x1 x2 x3 x4 x5 x6 z0 F R L G H locs ls hP hS hl hw
    unfold wpX3_bestPair_164 at hw
    refine lv_istore (lv' := [(11, .int z0), (1, .int x1), (2, .int x2), (3, .int x3), (4, .int x4), (5, .int x5), (6, .int x6)]) hx hb dX3_bestPair_164 hl (by decide) rfl (fun ls hl => ?_)
    refine lv_iload hx hb dX3_bestPair_166 (lv_at hl 0 rfl) ?_
    refine lv_if_eq (tgt := 176) hx hb dX3_bestPair_168 (by decide) (fun c_3 => ?_) (fun c_3 => ?_)
    · have hw := hw.1 c_3
      refine lv_iload_n hx hb dX3_bestPair_176 rfl (lv_at hl 3 rfl) ?_
      exact T177 _ hJ47 _ hJ58 x1 x2 x4 x5 x6 z0 x3 F R L G _ _ ls hP hS (lv_sub hl [1, 2, 4, 5, 6, 0] rfl) hw
    · have hw := hw.2 c_3
      refine lv_iload hx hb dX3_bestPair_171 (lv_at hl 5 rfl) ?_
      refine lv_goto (tgt := 177) hx hb dX3_bestPair_173 (by decide) ?_
      exact T177 _ hJ47 _ hJ58 x1 x2 x4 x5 x6 z0 x5 F R L G _ _ ls hP hS (lv_sub hl [1, 2, 4, 5, 6, 0] rfl) hw
  have T159 : ∀ (J47 : Int32 → Int32 → Int32 → Int32 → Int32 → mF → mR → mL → mG → Prop) (hJ47 : ∀ (x1 : Int32) (x2 : Int32) (x3 : Int32) (x4 : Int32) (x5 : Int32) (F : mF) (R : mR) (L : mL) (G : mG) (H : Heap) (locs : List Loc) (ls : Array Slot), mP K h a F R L G H → va_S (mA h a) s.heap H locs → lv_has ls 12 [(1, .int x1), (2, .int x2), (3, .int x3), (4, .int x4), (5, .int x5)] → J47 x1 x2 x3 x4 x5 F R L G → W p l e (rmo 1 22) s m ([.ref h, .int p1, .int p2] : List Value).toArray below meth c H locs 0 0 (MQ below (mQi post K h a) ([.ref h, .int p1, .int p2] : List Value).toArray s 0 0 (mA h a)) (F0 m 47 ls [])), ∀ (J58 : Int32 → Int32 → Int32 → Int32 → Int32 → Int32 → mF → mR → mL → mG → Prop) (hJ58 : ∀ (x1 : Int32) (x2 : Int32) (x3 : Int32) (x4 : Int32) (x5 : Int32) (x6 : Int32) (F : mF) (R : mR) (L : mL) (G : mG) (H : Heap) (locs : List Loc) (ls : Array Slot), mP K h a F R L G H → va_S (mA h a) s.heap H locs → lv_has ls 12 [(1, .int x1), (2, .int x2), (3, .int x3), (4, .int x4), (5, .int x5), (6, .int x6)] → J58 x1 x2 x3 x4 x5 x6 F R L G → W p l e (rmo 1 22) s m ([.ref h, .int p1, .int p2] : List Value).toArray below meth c H locs 0 0 (MQ below (mQi post K h a) ([.ref h, .int p1, .int p2] : List Value).toArray s 0 0 (mA h a)) (F0 m 58 ls [])), ∀ (x1 : Int32) (x2 : Int32) (x3 : Int32) (x4 : Int32) (x5 : Int32) (x6 : Int32) (F : mF) (R : mR) (L : mL) (G : mG) (H : Heap) (locs : List Loc) (ls : Array Slot), mP K h a F R L G H → va_S (mA h a) s.heap H locs → lv_has ls 12 [(1, .int x1), (2, .int x2), (3, .int x3), (4, .int x4), (5, .int x5), (6, .int x6)] → wpX3_bestPair_159 post J47 J58 x1 x2 x3 x4 x5 x6 F R L G → W p l e (rmo 1 22) s m ([.ref h, .int p1, .int p2] : List Value).toArray below meth c H locs 0 0 (MQ below (mQi post K h a) ([.ref h, .int p1, .int p2] : List Value).toArray s 0 0 (mA h a)) (F0 m 159 ls []) := by
    intro J47 hJ47 J58 hJ58
    intro x1 x2 x3 x4 x5 x6 F R L G H locs ls hP hS hl hw
    unfold wpX3_bestPair_159 at hw
    refine lv_iconst (v := 1) hx hb dX3_bestPair_159 (by decide) ?_
    refine lv_goto (tgt := 164) hx hb dX3_bestPair_160 (by decide) ?_
    exact T164 _ hJ47 _ hJ58 x1 x2 x3 x4 x5 x6 1 F R L G _ _ ls hP hS (lv_sub hl [0, 1, 2, 3, 4, 5] rfl) hw
  have T163 : ∀ (J47 : Int32 → Int32 → Int32 → Int32 → Int32 → mF → mR → mL → mG → Prop) (hJ47 : ∀ (x1 : Int32) (x2 : Int32) (x3 : Int32) (x4 : Int32) (x5 : Int32) (F : mF) (R : mR) (L : mL) (G : mG) (H : Heap) (locs : List Loc) (ls : Array Slot), mP K h a F R L G H → va_S (mA h a) s.heap H locs → lv_has ls 12 [(1, .int x1), (2, .int x2), (3, .int x3), (4, .int x4), (5, .int x5)] → J47 x1 x2 x3 x4 x5 F R L G → W p l e (rmo 1 22) s m ([.ref h, .int p1, .int p2] : List Value).toArray below meth c H locs 0 0 (MQ below (mQi post K h a) ([.ref h, .int p1, .int p2] : List Value).toArray s 0 0 (mA h a)) (F0 m 47 ls [])), ∀ (J58 : Int32 → Int32 → Int32 → Int32 → Int32 → Int32 → mF → mR → mL → mG → Prop) (hJ58 : ∀ (x1 : Int32) (x2 : Int32) (x3 : Int32) (x4 : Int32) (x5 : Int32) (x6 : Int32) (F : mF) (R : mR) (L : mL) (G : mG) (H : Heap) (locs : List Loc) (ls : Array Slot), mP K h a F R L G H → va_S (mA h a) s.heap H locs → lv_has ls 12 [(1, .int x1), (2, .int x2), (3, .int x3), (4, .int x4), (5, .int x5), (6, .int x6)] → J58 x1 x2 x3 x4 x5 x6 F R L G → W p l e (rmo 1 22) s m ([.ref h, .int p1, .int p2] : List Value).toArray below meth c H locs 0 0 (MQ below (mQi post K h a) ([.ref h, .int p1, .int p2] : List Value).toArray s 0 0 (mA h a)) (F0 m 58 ls [])), ∀ (x1 : Int32) (x2 : Int32) (x3 : Int32) (x4 : Int32) (x5 : Int32) (x6 : Int32) (F : mF) (R : mR) (L : mL) (G : mG) (H : Heap) (locs : List Loc) (ls : Array Slot), mP K h a F R L G H → va_S (mA h a) s.heap H locs → lv_has ls 12 [(1, .int x1), (2, .int x2), (3, .int x3), (4, .int x4), (5, .int x5), (6, .int x6)] → wpX3_bestPair_163 post J47 J58 x1 x2 x3 x4 x5 x6 F R L G → W p l e (rmo 1 22) s m ([.ref h, .int p1, .int p2] : List Value).toArray below meth c H locs 0 0 (MQ below (mQi post K h a) ([.ref h, .int p1, .int p2] : List Value).toArray s 0 0 (mA h a)) (F0 m 163 ls []) := by
    intro J47 hJ47 J58 hJ58
    intro x1 x2 x3 x4 x5 x6 F R L G H locs ls hP hS hl hw
    unfold wpX3_bestPair_163 at hw
    refine lv_iconst (v := 0) hx hb dX3_bestPair_163 (by decide) ?_
    exact T164 _ hJ47 _ hJ58 x1 x2 x3 x4 x5 x6 0 F R L G _ _ ls hP hS (lv_sub hl [0, 1, 2, 3, 4, 5] rfl) hw
  have T115 : ∀ (J47 : Int32 → Int32 → Int32 → Int32 → Int32 → mF → mR → mL → mG → Prop) (hJ47 : ∀ (x1 : Int32) (x2 : Int32) (x3 : Int32) (x4 : Int32) (x5 : Int32) (F : mF) (R : mR) (L : mL) (G : mG) (H : Heap) (locs : List Loc) (ls : Array Slot), mP K h a F R L G H → va_S (mA h a) s.heap H locs → lv_has ls 12 [(1, .int x1), (2, .int x2), (3, .int x3), (4, .int x4), (5, .int x5)] → J47 x1 x2 x3 x4 x5 F R L G → W p l e (rmo 1 22) s m ([.ref h, .int p1, .int p2] : List Value).toArray below meth c H locs 0 0 (MQ below (mQi post K h a) ([.ref h, .int p1, .int p2] : List Value).toArray s 0 0 (mA h a)) (F0 m 47 ls [])), ∀ (J58 : Int32 → Int32 → Int32 → Int32 → Int32 → Int32 → mF → mR → mL → mG → Prop) (hJ58 : ∀ (x1 : Int32) (x2 : Int32) (x3 : Int32) (x4 : Int32) (x5 : Int32) (x6 : Int32) (F : mF) (R : mR) (L : mL) (G : mG) (H : Heap) (locs : List Loc) (ls : Array Slot), mP K h a F R L G H → va_S (mA h a) s.heap H locs → lv_has ls 12 [(1, .int x1), (2, .int x2), (3, .int x3), (4, .int x4), (5, .int x5), (6, .int x6)] → J58 x1 x2 x3 x4 x5 x6 F R L G → W p l e (rmo 1 22) s m ([.ref h, .int p1, .int p2] : List Value).toArray below meth c H locs 0 0 (MQ below (mQi post K h a) ([.ref h, .int p1, .int p2] : List Value).toArray s 0 0 (mA h a)) (F0 m 58 ls [])), ∀ (x1 : Int32) (x2 : Int32) (x3 : Int32) (x4 : Int32) (x5 : Int32) (x6 : Int32) (z0 : Int32) (z1 : Int32) (F : mF) (R : mR) (L : mL) (G : mG) (H : Heap) (locs : List Loc) (ls : Array Slot), mP K h a F R L G H → va_S (mA h a) s.heap H locs → lv_has ls 12 [(1, .int x1), (2, .int x2), (3, .int x3), (4, .int x4), (5, .int x5), (6, .int x6)] → wpX3_bestPair_115 post J47 J58 x1 x2 x3 x4 x5 x6 z0 z1 F R L G → W p l e (rmo 1 22) s m ([.ref h, .int p1, .int p2] : List Value).toArray below meth c H locs 0 0 (MQ below (mQi post K h a) ([.ref h, .int p1, .int p2] : List Value).toArray s 0 0 (mA h a)) (F0 m 115 ls [.int z1, .int z0]) := by
    intro J47 hJ47 J58 hJ58
    intro x1 x2 x3 x4 x5 x6 z0 z1 F R L G H locs ls hP hS hl hw
    unfold wpX3_bestPair_115 at hw
    refine lv_iload hx hb dX3_bestPair_115 (lv_at hl 5 rfl) ?_
    refine lv_imul hx hb dX3_bestPair_117 ?_
    refine lv_isub hx hb dX3_bestPair_118 ?_
    refine lv_topi (fun x9_4 ex9_4 => ?_)
    have hw := hw x9_4 ex9_4
    refine lv_istore (lv' := [(9, .int x9_4), (1, .int x1), (2, .int x2), (3, .int x3), (4, .int x4), (5, .int x5), (6, .int x6)]) hx hb dX3_bestPair_119 hl (by decide) rfl (fun ls hl => ?_)
    refine lv_iload hx hb dX3_bestPair_121 (lv_at hl 5 rfl) ?_
    refine lv_iload hx hb dX3_bestPair_123 (lv_at hl 6 rfl) ?_
    refine lv_iadd hx hb dX3_bestPair_125 ?_
    refine lv_iload_n hx hb dX3_bestPair_126 rfl (lv_at hl 3 rfl) ?_
    refine lv_isub hx hb dX3_bestPair_127 ?_
    refine lv_iload hx hb dX3_bestPair_128 (lv_at hl 4 rfl) ?_
    refine lv_isub hx hb dX3_bestPair_130 ?_
    refine lv_topi (fun x10_5 ex10_5 => ?_)
    have hw := hw x10_5 ex10_5
    refine lv_istore (lv' := [(10, .int x10_5), (9, .int x9_4), (1, .int x1), (2, .int x2), (3, .int x3), (4, .int x4), (5, .int x5), (6, .int x6)]) hx hb dX3_bestPair_131 hl (by decide) rfl (fun ls hl => ?_)
    refine lv_iload hx hb dX3_bestPair_133 (lv_at hl 1 rfl) ?_
    refine lv_if_lt (tgt := 159) hx hb dX3_bestPair_135 (by decide) (fun c_6 => ?_) (fun c_6 => ?_)
    · have hw := hw.1 c_6
      exact T159 _ hJ47 _ hJ58 x1 x2 x3 x4 x5 x6 F R L G _ _ ls hP hS (lv_sub hl [2, 3, 4, 5, 6, 7] rfl) hw
    · have hw := hw.2 c_6
      refine lv_iload hx hb dX3_bestPair_138 (lv_at hl 1 rfl) ?_
      refine lv_if_ne (tgt := 163) hx hb dX3_bestPair_140 (by decide) (fun c_7 => ?_) (fun c_7 => ?_)
      · have hw := hw.2 (c_7)
        exact T163 _ hJ47 _ hJ58 x1 x2 x3 x4 x5 x6 F R L G _ _ ls hP hS (lv_sub hl [2, 3, 4, 5, 6, 7] rfl) hw
      · have hw := hw.1 (c_7)
        refine lv_iload hx hb dX3_bestPair_143 (lv_at hl 0 rfl) ?_
        refine lv_if_lt (tgt := 159) hx hb dX3_bestPair_145 (by decide) (fun c_8 => ?_) (fun c_8 => ?_)
        · have hw := hw.1 c_8
          exact T159 _ hJ47 _ hJ58 x1 x2 x3 x4 x5 x6 F R L G _ _ ls hP hS (lv_sub hl [2, 3, 4, 5, 6, 7] rfl) hw
        · have hw := hw.2 c_8
          refine lv_iload hx hb dX3_bestPair_148 (lv_at hl 0 rfl) ?_
          refine lv_if_ne (tgt := 163) hx hb dX3_bestPair_150 (by decide) (fun c_9 => ?_) (fun c_9 => ?_)
          · have hw := hw.2 (c_9)
            exact T163 _ hJ47 _ hJ58 x1 x2 x3 x4 x5 x6 F R L G _ _ ls hP hS (lv_sub hl [2, 3, 4, 5, 6, 7] rfl) hw
          · have hw := hw.1 (c_9)
            refine lv_iload hx hb dX3_bestPair_153 (lv_at hl 6 rfl) ?_
            refine lv_iload_n hx hb dX3_bestPair_155 rfl (lv_at hl 4 rfl) ?_
            refine lv_icmp_ge (tgt := 163) hx hb dX3_bestPair_156 (by decide) (fun c_10 => ?_) (fun c_10 => ?_)
            · have hw := hw.1 c_10
              exact T163 _ hJ47 _ hJ58 x1 x2 x3 x4 x5 x6 F R L G _ _ ls hP hS (lv_sub hl [2, 3, 4, 5, 6, 7] rfl) hw
            · have hw := hw.2 c_10
              exact T159 _ hJ47 _ hJ58 x1 x2 x3 x4 x5 x6 F R L G _ _ ls hP hS (lv_sub hl [2, 3, 4, 5, 6, 7] rfl) hw
  have T99 : ∀ (J47 : Int32 → Int32 → Int32 → Int32 → Int32 → mF → mR → mL → mG → Prop) (hJ47 : ∀ (x1 : Int32) (x2 : Int32) (x3 : Int32) (x4 : Int32) (x5 : Int32) (F : mF) (R : mR) (L : mL) (G : mG) (H : Heap) (locs : List Loc) (ls : Array Slot), mP K h a F R L G H → va_S (mA h a) s.heap H locs → lv_has ls 12 [(1, .int x1), (2, .int x2), (3, .int x3), (4, .int x4), (5, .int x5)] → J47 x1 x2 x3 x4 x5 F R L G → W p l e (rmo 1 22) s m ([.ref h, .int p1, .int p2] : List Value).toArray below meth c H locs 0 0 (MQ below (mQi post K h a) ([.ref h, .int p1, .int p2] : List Value).toArray s 0 0 (mA h a)) (F0 m 47 ls [])), ∀ (J58 : Int32 → Int32 → Int32 → Int32 → Int32 → Int32 → mF → mR → mL → mG → Prop) (hJ58 : ∀ (x1 : Int32) (x2 : Int32) (x3 : Int32) (x4 : Int32) (x5 : Int32) (x6 : Int32) (F : mF) (R : mR) (L : mL) (G : mG) (H : Heap) (locs : List Loc) (ls : Array Slot), mP K h a F R L G H → va_S (mA h a) s.heap H locs → lv_has ls 12 [(1, .int x1), (2, .int x2), (3, .int x3), (4, .int x4), (5, .int x5), (6, .int x6)] → J58 x1 x2 x3 x4 x5 x6 F R L G → W p l e (rmo 1 22) s m ([.ref h, .int p1, .int p2] : List Value).toArray below meth c H locs 0 0 (MQ below (mQi post K h a) ([.ref h, .int p1, .int p2] : List Value).toArray s 0 0 (mA h a)) (F0 m 58 ls [])), ∀ (x1 : Int32) (x2 : Int32) (x3 : Int32) (x4 : Int32) (x5 : Int32) (x6 : Int32) (x8 : Int32) (z0 : Int32) (F : mF) (R : mR) (L : mL) (G : mG) (H : Heap) (locs : List Loc) (ls : Array Slot), mP K h a F R L G H → va_S (mA h a) s.heap H locs → lv_has ls 12 [(1, .int x1), (2, .int x2), (3, .int x3), (4, .int x4), (5, .int x5), (6, .int x6), (8, .int x8)] → wpX3_bestPair_99 post J47 J58 x1 x2 x3 x4 x5 x6 x8 z0 F R L G → W p l e (rmo 1 22) s m ([.ref h, .int p1, .int p2] : List Value).toArray below meth c H locs 0 0 (MQ below (mQi post K h a) ([.ref h, .int p1, .int p2] : List Value).toArray s 0 0 (mA h a)) (F0 m 99 ls [.int z0]) := by
    intro J47 hJ47 J58 hJ58
    intro x1 x2 x3 x4 x5 x6 x8 z0 F R L G H locs ls hP hS hl hw
    unfold wpX3_bestPair_99 at hw
    refine lv_iload hx hb dX3_bestPair_99 (lv_at hl 3 rfl) ?_
    refine lv_imul hx hb dX3_bestPair_101 ?_
    refine lv_iload hx hb dX3_bestPair_102 (lv_at hl 6 rfl) ?_
    refine lv_if_ge (tgt := 113) hx hb dX3_bestPair_104 (by decide) (fun c_11 => ?_) (fun c_11 => ?_)
    · have hw := hw.1 c_11
      refine lv_iload hx hb dX3_bestPair_113 (lv_at hl 6 rfl) ?_
      exact T115 _ hJ47 _ hJ58 x1 x2 x3 x4 x5 x6 (z0 * x4) x8 F R L G _ _ ls hP hS (lv_sub hl [0, 1, 2, 3, 4, 5] rfl) hw
    · have hw := hw.2 c_11
      refine lv_iload hx hb dX3_bestPair_107 (lv_at hl 6 rfl) ?_
      refine lv_ineg hx hb dX3_bestPair_109 ?_
      refine lv_goto (tgt := 115) hx hb dX3_bestPair_110 (by decide) ?_
      exact T115 _ hJ47 _ hJ58 x1 x2 x3 x4 x5 x6 (z0 * x4) (-x8) F R L G _ _ ls hP hS (lv_sub hl [0, 1, 2, 3, 4, 5] rfl) hw
  have T58 : ∀ (J47 : Int32 → Int32 → Int32 → Int32 → Int32 → mF → mR → mL → mG → Prop) (hJ47 : ∀ (x1 : Int32) (x2 : Int32) (x3 : Int32) (x4 : Int32) (x5 : Int32) (F : mF) (R : mR) (L : mL) (G : mG) (H : Heap) (locs : List Loc) (ls : Array Slot), mP K h a F R L G H → va_S (mA h a) s.heap H locs → lv_has ls 12 [(1, .int x1), (2, .int x2), (3, .int x3), (4, .int x4), (5, .int x5)] → J47 x1 x2 x3 x4 x5 F R L G → W p l e (rmo 1 22) s m ([.ref h, .int p1, .int p2] : List Value).toArray below meth c H locs 0 0 (MQ below (mQi post K h a) ([.ref h, .int p1, .int p2] : List Value).toArray s 0 0 (mA h a)) (F0 m 47 ls [])), ∀ (n : Nat), ∀ (x1 : Int32) (x2 : Int32) (x3 : Int32) (x4 : Int32) (x5 : Int32) (x6 : Int32) (F : mF) (R : mR) (L : mL) (G : mG) (H : Heap) (locs : List Loc) (ls : Array Slot), mP K h a F R L G H → va_S (mA h a) s.heap H locs → lv_has ls 12 [(1, .int x1), (2, .int x2), (3, .int x3), (4, .int x4), (5, .int x5), (6, .int x6)] → wpX3_bestPair_58 post J47 n x1 x2 x3 x4 x5 x6 F R L G → W p l e (rmo 1 22) s m ([.ref h, .int p1, .int p2] : List Value).toArray below meth c H locs 0 0 (MQ below (mQi post K h a) ([.ref h, .int p1, .int p2] : List Value).toArray s 0 0 (mA h a)) (F0 m 58 ls []) := by
    intro J47 hJ47
    intro n
    induction n with
    | zero =>
      intro x1 x2 x3 x4 x5 x6 F R L G H locs ls hP hS hl hw
      exact False.elim hw
    | succ n ih =>
      intro x1 x2 x3 x4 x5 x6 F R L G H locs ls hP hS hl hw
      unfold wpX3_bestPair_58 at hw
      refine lv_iload hx hb dX3_bestPair_58 (lv_at hl 5 rfl) ?_
      refine lv_bipush (v := 120) hx hb dX3_bestPair_60 (by decide) ?_
      refine lv_icmp_gt (tgt := 198) hx hb dX3_bestPair_62 (by decide) (fun c_12 => ?_) (fun c_12 => ?_)
      · have hw := hw.1 c_12
        obtain ⟨x5_13, ex5_13⟩ : ∃ y : Int32, y = x5 + 1 := ⟨_, rfl⟩
        have hw := hw x5_13 ex5_13
        refine lv_iinc (v := x5_13) (lv' := [(5, .int x5_13), (1, .int x1), (2, .int x2), (3, .int x3), (4, .int x4), (6, .int x6)]) hx hb dX3_bestPair_198 hl (k := 4) rfl (by rw [ex5_13]; rfl) (by decide) rfl (fun ls hl => ?_)
        refine lv_goto (tgt := 47) hx hb dX3_bestPair_201 (by decide) ?_
        exact hJ47 x1 x2 x3 x4 x5_13 F R L G _ _ ls hP hS (lv_sub hl [1, 2, 3, 4, 0] rfl) hw
      · have hw := hw.2 c_12
        refine lv_iload hx hb dX3_bestPair_65 (lv_at hl 4 rfl) ?_
        refine lv_iload_n hx hb dX3_bestPair_67 rfl (lv_at hl 1 rfl) ?_
        refine lv_imul hx hb dX3_bestPair_68 ?_
        refine lv_iload_n hx hb dX3_bestPair_69 rfl (lv_at hl 0 rfl) ?_
        refine lv_iload hx hb dX3_bestPair_70 (lv_at hl 5 rfl) ?_
        refine lv_imul hx hb dX3_bestPair_72 ?_
        refine lv_isub hx hb dX3_bestPair_73 ?_
        refine lv_topi (fun x7_14 ex7_14 => ?_)
        have hw := hw x7_14 ex7_14
        refine lv_istore (lv' := [(7, .int x7_14), (1, .int x1), (2, .int x2), (3, .int x3), (4, .int x4), (5, .int x5), (6, .int x6)]) hx hb dX3_bestPair_74 hl (by decide) rfl (fun ls hl => ?_)
        refine lv_iload_n hx hb dX3_bestPair_76 rfl (lv_at hl 3 rfl) ?_
        refine lv_iload_n hx hb dX3_bestPair_77 rfl (lv_at hl 2 rfl) ?_
        refine lv_imul hx hb dX3_bestPair_78 ?_
        refine lv_iload_n hx hb dX3_bestPair_79 rfl (lv_at hl 1 rfl) ?_
        refine lv_iload hx hb dX3_bestPair_80 (lv_at hl 4 rfl) ?_
        refine lv_imul hx hb dX3_bestPair_82 ?_
        refine lv_isub hx hb dX3_bestPair_83 ?_
        refine lv_topi (fun x8_15 ex8_15 => ?_)
        have hw := hw x8_15 ex8_15
        refine lv_istore (lv' := [(8, .int x8_15), (7, .int x7_14), (1, .int x1), (2, .int x2), (3, .int x3), (4, .int x4), (5, .int x5), (6, .int x6)]) hx hb dX3_bestPair_84 hl (by decide) rfl (fun ls hl => ?_)
        refine lv_iload hx hb dX3_bestPair_86 (lv_at hl 1 rfl) ?_
        refine lv_if_ge (tgt := 97) hx hb dX3_bestPair_88 (by decide) (fun c_16 => ?_) (fun c_16 => ?_)
        · have hw := hw.1 c_16
          refine lv_iload hx hb dX3_bestPair_97 (lv_at hl 1 rfl) ?_
          exact T99 _ hJ47 _ ih x1 x2 x3 x4 x5 x6 x8_15 x7_14 F R L G _ _ ls hP hS (lv_sub hl [2, 3, 4, 5, 6, 7, 0] rfl) hw
        · have hw := hw.2 c_16
          refine lv_iload hx hb dX3_bestPair_91 (lv_at hl 1 rfl) ?_
          refine lv_ineg hx hb dX3_bestPair_93 ?_
          refine lv_goto (tgt := 99) hx hb dX3_bestPair_94 (by decide) ?_
          exact T99 _ hJ47 _ ih x1 x2 x3 x4 x5 x6 x8_15 (-x7_14) F R L G _ _ ls hP hS (lv_sub hl [2, 3, 4, 5, 6, 7, 0] rfl) hw
  have T47 : ∀ (n : Nat), ∀ (x1 : Int32) (x2 : Int32) (x3 : Int32) (x4 : Int32) (x5 : Int32) (F : mF) (R : mR) (L : mL) (G : mG) (H : Heap) (locs : List Loc) (ls : Array Slot), mP K h a F R L G H → va_S (mA h a) s.heap H locs → lv_has ls 12 [(1, .int x1), (2, .int x2), (3, .int x3), (4, .int x4), (5, .int x5)] → wpX3_bestPair_47 post n x1 x2 x3 x4 x5 F R L G → W p l e (rmo 1 22) s m ([.ref h, .int p1, .int p2] : List Value).toArray below meth c H locs 0 0 (MQ below (mQi post K h a) ([.ref h, .int p1, .int p2] : List Value).toArray s 0 0 (mA h a)) (F0 m 47 ls []) := by
    intro n
    induction n with
    | zero =>
      intro x1 x2 x3 x4 x5 F R L G H locs ls hP hS hl hw
      exact False.elim hw
    | succ n ih =>
      intro x1 x2 x3 x4 x5 F R L G H locs ls hP hS hl hw
      unfold wpX3_bestPair_47 at hw
      refine lv_iload hx hb dX3_bestPair_47 (lv_at hl 4 rfl) ?_
      refine lv_bipush (v := 120) hx hb dX3_bestPair_49 (by decide) ?_
      refine lv_icmp_gt (tgt := 204) hx hb dX3_bestPair_51 (by decide) (fun c_17 => ?_) (fun c_17 => ?_)
      · have hw := hw.1 c_17
        refine lv_sipush (v := 1000) hx hb dX3_bestPair_204 (by decide) ?_
        refine lv_iload_n hx hb dX3_bestPair_207 rfl (lv_at hl 2 rfl) ?_
        refine lv_imul hx hb dX3_bestPair_208 ?_
        refine lv_iload hx hb dX3_bestPair_209 (lv_at hl 3 rfl) ?_
        refine lv_iadd hx hb dX3_bestPair_211 ?_
        exact m_iret hx hb hr hlocks hP hS dX3_bestPair_212 hw
      · have hw := hw.2 c_17
        refine lv_bipush (v := 8) hx hb dX3_bestPair_54 (by decide) ?_
        refine lv_istore (lv' := [(6, .int 8), (1, .int x1), (2, .int x2), (3, .int x3), (4, .int x4), (5, .int x5)]) hx hb dX3_bestPair_56 hl (by decide) rfl (fun ls hl => ?_)
        obtain ⟨fu, hw⟩ := hw
        exact T58 _ ih fu x1 x2 x3 x4 x5 8 F R L G _ _ ls hP hS (lv_sub hl [1, 2, 3, 4, 5, 0] rfl) hw
  have T28 : ∀ (x1 : Int32) (x2 : Int32) (z1 : Int32) (F : mF) (R : mR) (L : mL) (G : mG) (H : Heap) (locs : List Loc) (ls : Array Slot), mP K h a F R L G H → va_S (mA h a) s.heap H locs → lv_has ls 12 [(1, .int x1), (2, .int x2)] → wpX3_bestPair_28 post x1 x2 z1 F R L G → W p l e (rmo 1 22) s m ([.ref h, .int p1, .int p2] : List Value).toArray below meth c H locs 0 0 (MQ below (mQi post K h a) ([.ref h, .int p1, .int p2] : List Value).toArray s 0 0 (mA h a)) (F0 m 28 ls [.int z1, .ref h]) := by
    intro x1 x2 z1 F R L G H locs ls hP hS hl hw
    unfold wpX3_bestPair_28 at hw
    refine m_calli (As := [.int z1]) (rest := []) ⟨hx, hb, hml, hown, hts⟩ (metX3_asks l K h a hap _ F R L G z1) (cwV 1 hts (lw_V q2005 q2007 qs49 q85 q2008) rfl rfl rfl (by decide +kernel) ⟨Nat.le_of_ble_eq_true rfl, Nat.le_of_ble_eq_true rfl⟩) hK hP hS hw rfl hl.1 rfl (Nat.le_of_ble_eq_true rfl) dX3_bestPair_28 ⟨Nat.le_refl _, Nat.le_refl _⟩ (fun r_18 F_19 R_20 L_21 G_22 H locs hw hP hS => ?_)
    refine lv_if_ne (tgt := 36) hx hb dX3_bestPair_31 (by decide) (fun c_23 => ?_) (fun c_23 => ?_)
    · have hw := hw.2 (c_23)
      refine lv_bipush (v := 8) hx hb dX3_bestPair_36 (by decide) ?_
      refine lv_istore_n (lv' := [(3, .int 8), (1, .int x1), (2, .int x2)]) hx hb dX3_bestPair_38 rfl hl (by decide) rfl (fun ls hl => ?_)
      refine lv_bipush (v := 8) hx hb dX3_bestPair_39 (by decide) ?_
      refine lv_istore (lv' := [(4, .int 8), (3, .int 8), (1, .int x1), (2, .int x2)]) hx hb dX3_bestPair_41 hl (by decide) rfl (fun ls hl => ?_)
      refine lv_bipush (v := 8) hx hb dX3_bestPair_43 (by decide) ?_
      refine lv_istore (lv' := [(5, .int 8), (4, .int 8), (3, .int 8), (1, .int x1), (2, .int x2)]) hx hb dX3_bestPair_45 hl (by decide) rfl (fun ls hl => ?_)
      obtain ⟨fu, hw⟩ := hw
      exact T47 fu x1 x2 8 8 8 F_19 R_20 L_21 G_22 _ _ ls hP hS (lv_sub hl [3, 4, 2, 1, 0] rfl) hw
    · have hw := hw.1 (c_23)
      refine lv_iconst (v := 0) hx hb dX3_bestPair_34 (by decide) ?_
      exact m_iret hx hb hr hlocks hP hS dX3_bestPair_35 hw
  have T27 : ∀ (x1 : Int32) (x2 : Int32) (F : mF) (R : mR) (L : mL) (G : mG) (H : Heap) (locs : List Loc) (ls : Array Slot), mP K h a F R L G H → va_S (mA h a) s.heap H locs → lv_has ls 12 [(1, .int x1), (2, .int x2)] → wpX3_bestPair_27 post x1 x2 F R L G → W p l e (rmo 1 22) s m ([.ref h, .int p1, .int p2] : List Value).toArray below meth c H locs 0 0 (MQ below (mQi post K h a) ([.ref h, .int p1, .int p2] : List Value).toArray s 0 0 (mA h a)) (F0 m 27 ls [.ref h]) := by
    intro x1 x2 F R L G H locs ls hP hS hl hw
    unfold wpX3_bestPair_27 at hw
    refine lv_iconst (v := 0) hx hb dX3_bestPair_27 (by decide) ?_
    exact T28 x1 x2 0 F R L G _ _ ls hP hS (lv_sub hl [0, 1] rfl) hw
  unfold wpX3_bestPair at hw
  refine lv_aload_n hx hb dX3_bestPair_0 rfl (lv_at hl 0 rfl) ?_
  refine lv_iload_n hx hb dX3_bestPair_1 rfl (lv_at hl 1 rfl) ?_
  refine lv_iconst (v := 1) hx hb dX3_bestPair_2 (by decide) ?_
  refine lv_sipush (v := 200) hx hb dX3_bestPair_3 (by decide) ?_
  refine s_calli (As := [.int p1, .int 1, .int 200]) (rest := [.ref h]) ⟨hx, hb, hml, hown, hts⟩ (metX3_in l _ p1 1 200) (va_cwS 3 hts (lw_S q1858 q1859 q85 q1860) rfl rfl rfl (by decide +kernel) ⟨Nat.le_of_ble_eq_true rfl, Nat.le_of_ble_eq_true rfl⟩) hw rfl hl.1 rfl (Nat.le_of_ble_eq_true rfl) dX3_bestPair_6 ⟨Nat.le_refl _, Nat.le_refl _⟩ (fun r_24 hw => ?_)
  refine lv_if_eq (tgt := 27) hx hb dX3_bestPair_9 (by decide) (fun c_25 => ?_) (fun c_25 => ?_)
  · have hw := hw.1 c_25
    exact T27 p1 p2 F R L G _ _ ls hP hS (lv_sub hl [1, 2] rfl) hw
  · have hw := hw.2 c_25
    refine lv_iload_n hx hb dX3_bestPair_12 rfl (lv_at hl 2 rfl) ?_
    refine lv_iconst (v := 1) hx hb dX3_bestPair_13 (by decide) ?_
    refine lv_sipush (v := 200) hx hb dX3_bestPair_14 (by decide) ?_
    refine s_calli (As := [.int p2, .int 1, .int 200]) (rest := [.ref h]) ⟨hx, hb, hml, hown, hts⟩ (metX3_in l _ p2 1 200) (va_cwS 3 hts (lw_S q1858 q1859 q85 q1860) rfl rfl rfl (by decide +kernel) ⟨Nat.le_of_ble_eq_true rfl, Nat.le_of_ble_eq_true rfl⟩) hw rfl hl.1 rfl (Nat.le_of_ble_eq_true rfl) dX3_bestPair_17 ⟨Nat.le_refl _, Nat.le_refl _⟩ (fun r_26 hw => ?_)
    refine lv_if_eq (tgt := 27) hx hb dX3_bestPair_20 (by decide) (fun c_27 => ?_) (fun c_27 => ?_)
    · have hw := hw.1 c_27
      exact T27 p1 p2 F R L G _ _ ls hP hS (lv_sub hl [1, 2] rfl) hw
    · have hw := hw.2 c_27
      refine lv_iconst (v := 1) hx hb dX3_bestPair_23 (by decide) ?_
      refine lv_goto (tgt := 28) hx hb dX3_bestPair_24 (by decide) ?_
      exact T28 p1 p2 1 F R L G _ _ ls hP hS (lv_sub hl [1, 2] rfl) hw
def wpX3_degrees (post : UInt32 → mF → mR → mL → mG → Prop) (F : mF) (R : mR) (L : mL) (G : mG) (p1 : Int32) : Prop := wpX3_asksArm (fun r_1 F_2 R_3 L_4 G_5 => ((r_1 = 0 → post 0 F_2 R_3 L_4 G_5) ∧ (¬ r_1 = 0 → wpX3_armAngle (fun r_7 F_8 R_9 L_10 G_11 => (vf_n32 (FP.fdiv (FP.i2f r_7) 1114636288) ∧ post (FP.fdiv (FP.i2f r_7) 1114636288) F_8 R_9 L_10 G_11)) F_2 R_3 L_4 G_5 p1 (R_3 0 111)))) F R L G p1 1
abbrev wsX3_degrees : List Cond := ws_ yX3_degrees cX3_degrees 2 (some .float)
set_option maxHeartbeats 8000000 in
theorem metX3_degrees (l : Launch) (K : KT) (h : Nat) (a : Nat → Nat) (hap : mAp h a) (post : UInt32 → mF → mR → mL → mG → Prop) (F : mF) (R : mR) (L : mL) (G : mG) (p1 : Int32) : Met l yX3_degrees wsX3_degrees (rmo 5 130) (mPre K h a F R L G [.int p1] (wpX3_degrees post F R L G p1)) (mQf post K h a) 0 0 (mA h a) := by
  refine Met.ofW (cc := cX3_degrees) (maxL := 2) (ret := (some .float)) (by decide) rfl ?_
  intro p e s m args below meth c s₁ B hml hv
  obtain ⟨rfl, hP, hK, hw⟩ := hv
  have hx := B.exec
  have hb := B.bytes
  have hr := B.returns
  have hts := atoms_spec (ws := wsX3_degrees) B.pre
  have hts : ∀ w ∈ lw_all, w.before _ s = true := fun w h => hts w (List.mem_cons_of_mem _ h)
  have hown : s.vm.findClass RX3 = some m.cls := findClass_of_methodNamed B.named
  have hlocks := B.notSynchronized
  have hl := lv_entry ([.ref h, .int p1]) (n := 2) (Nat.le_of_ble_eq_true rfl)
  rw [lg_entry_eq]
  generalize (lg_sl ([.ref h, .int p1]) ++ List.replicate (2 - (lg_sl ([.ref h, .int p1])).length) Slot.unset).toArray = ls at hl ⊢
  have hl : lv_has ls 2 [(0, .ref h), (1, .int p1)] := hl
  have hS : va_S (mA h a) s.heap s.heap [] := va_S.rf
  unfold wpX3_degrees at hw
  refine lv_aload_n hx hb dX3_degrees_0 rfl (lv_at hl 0 rfl) ?_
  refine lv_iload_n hx hb dX3_degrees_1 rfl (lv_at hl 1 rfl) ?_
  refine lv_iconst (v := 1) hx hb dX3_degrees_2 (by decide) ?_
  refine m_calli (As := [.int p1, .int 1]) (rest := []) ⟨hx, hb, hml, hown, hts⟩ (metX3_asksArm l K h a hap _ F R L G p1 1) (cwV 2 hts (lw_V q2097 q2099 qs55 q85 q2100) rfl rfl rfl (by decide +kernel) ⟨Nat.le_of_ble_eq_true rfl, Nat.le_of_ble_eq_true rfl⟩) hK hP hS hw rfl hl.1 rfl (Nat.le_of_ble_eq_true rfl) dX3_degrees_3 ⟨Nat.le_refl _, Nat.le_refl _⟩ (fun r_1 F_2 R_3 L_4 G_5 H locs hw hP hS => ?_)
  refine lv_if_eq (tgt := 29) hx hb dX3_degrees_6 (by decide) (fun c_6 => ?_) (fun c_6 => ?_)
  · have hw := hw.1 c_6
    refine lv_fconst0 hx hb dX3_degrees_29 ?_
    exact m_fret hx hb hr hlocks hP hS dX3_degrees_30 hw
  · have hw := hw.2 c_6
    refine lv_aload_n hx hb dX3_degrees_9 rfl (lv_at hl 0 rfl) ?_
    refine lv_iload_n hx hb dX3_degrees_10 rfl (lv_at hl 1 rfl) ?_
    refine lv_aload_n hx hb dX3_degrees_11 rfl (lv_at hl 0 rfl) ?_
    refine m_get hx hb hts hown hK hP 0 (by decide) q1728 rfl dX3_degrees_12 ?_
    refine lv_bipush (v := 111) hx hb dX3_degrees_15 (by decide) ?_
    refine m_iald (j := 111) hx hb hK hP 0 1 113 rfl (by decide) (vpd (by decide)) dX3_degrees_17 ?_
    refine m_calli (As := [.int p1, .int (R_3 0 111)]) (rest := []) ⟨hx, hb, hml, hown, hts⟩ (metX3_armAngle l K h a hap _ F_2 R_3 L_4 G_5 p1 (R_3 0 111)) (cwV 2 hts (lw_V q2101 q2103 qs56 q85 q2104) rfl rfl rfl (by decide +kernel) ⟨Nat.le_of_ble_eq_true rfl, Nat.le_of_ble_eq_true rfl⟩) hK hP hS hw rfl hl.1 rfl (Nat.le_of_ble_eq_true rfl) dX3_degrees_18 ⟨Nat.le_refl _, Nat.le_refl _⟩ (fun r_7 F_8 R_9 L_10 G_11 H locs hw hP hS => ?_)
    refine lv_i2f hx hb dX3_degrees_21 ?_
    refine lv_ldcwf hx hb hown (hts _ q2247) dX3_degrees_22 ?_
    obtain ⟨h_12, hw⟩ := hw
    refine lv_fdiv hx hb dX3_degrees_25 h_12 ?_
    refine lv_goto (tgt := 30) hx hb dX3_degrees_26 (by decide) ?_
    exact m_fret hx hb hr hlocks hP hS dX3_degrees_30 hw
def wpJ20_isNaN (post : Int32 → Prop) (p0 : UInt32) : Prop := (((Op.cmpValue (FP.fcmp p0 p0) .l) = 0 → post 0) ∧ (¬ (Op.cmpValue (FP.fcmp p0 p0) .l) = 0 → post 1))
abbrev wsJ20_isNaN : List Cond := ws_ yJ20_isNaN cJ20_isNaN 1 (some .boolean)
set_option maxHeartbeats 8000000 in
theorem metJ20_isNaN (l : Launch) (post : Int32 → Prop) (p0 : UInt32) : Met l yJ20_isNaN wsJ20_isNaN (rmo 0 0) (sPre [.float p0] (wpJ20_isNaN post p0)) (vp_Si post) 0 0 (fun _ => False) := by
  refine va_MetF (cc := cJ20_isNaN) (maxL := 1) (ret := (some .boolean)) (by decide +kernel) rfl ?_
  intro p e s m args below meth c s₁ B hml hv
  obtain ⟨rfl, hw⟩ := hv
  have hx := B.exec
  have hb := B.bytes
  have hr := B.returns
  have hts := atoms_spec (ws := wsJ20_isNaN) B.pre
  have hts : ∀ w ∈ lw_all, w.before _ s = true := fun w h => hts w (List.mem_cons_of_mem _ h)
  have hown : s.vm.findClass RJ20 = some m.cls := findClass_of_methodNamed B.named
  have hlocks := B.notSynchronized
  have hl := lv_entry ([.float p0]) (n := 1) (Nat.le_of_ble_eq_true rfl)
  rw [lg_entry_eq]
  generalize (lg_sl ([.float p0]) ++ List.replicate (1 - (lg_sl ([.float p0])).length) Slot.unset).toArray = ls at hl ⊢
  have hl : lv_has ls 1 [(0, .float p0)] := hl
  unfold wpJ20_isNaN at hw
  refine lv_fload_n hx hb dJ20_isNaN_0 rfl (lv_at hl 0 rfl) ?_
  refine lv_fload_n hx hb dJ20_isNaN_1 rfl (lv_at hl 0 rfl) ?_
  refine lv_fcmp hx hb dJ20_isNaN_2 ?_
  refine lv_if_eq (tgt := 10) hx hb dJ20_isNaN_3 (by decide) (fun c_1 => ?_) (fun c_1 => ?_)
  · have hw := hw.1 c_1
    refine lv_iconst (v := 0) hx hb dJ20_isNaN_10 (by decide) ?_
    exact s_zret hx hb hr hlocks dJ20_isNaN_11 (Or.inl rfl) hw
  · have hw := hw.2 c_1
    refine lv_iconst (v := 1) hx hb dJ20_isNaN_6 (by decide) ?_
    refine lv_goto (tgt := 11) hx hb dJ20_isNaN_7 (by decide) ?_
    exact s_zret hx hb hr hlocks dJ20_isNaN_11 (Or.inr rfl) hw
def wpJ20_floatToIntBits (post : Int32 → Prop) (p0 : UInt32) : Prop := wpJ20_isNaN (fun r_1 => ((r_1 = 0 → post (UInt32.toInt32 p0)) ∧ (¬ r_1 = 0 → post 2143289344))) p0
abbrev wsJ20_floatToIntBits : List Cond := ws_ yJ20_floatToIntBits cJ20_floatToIntBits 1 (some .int)
set_option maxHeartbeats 8000000 in
theorem metJ20_floatToIntBits (l : Launch) (post : Int32 → Prop) (p0 : UInt32) : Met l yJ20_floatToIntBits wsJ20_floatToIntBits (rmo 1 23) (sPre [.float p0] (wpJ20_floatToIntBits post p0)) (vp_Si post) 0 0 (fun _ => False) := by
  refine va_MetF (cc := cJ20_floatToIntBits) (maxL := 1) (ret := (some .int)) (by decide +kernel) rfl ?_
  intro p e s m args below meth c s₁ B hml hv
  obtain ⟨rfl, hw⟩ := hv
  have hx := B.exec
  have hb := B.bytes
  have hr := B.returns
  have hts := atoms_spec (ws := wsJ20_floatToIntBits) B.pre
  have hts : ∀ w ∈ lw_all, w.before _ s = true := fun w h => hts w (List.mem_cons_of_mem _ h)
  have hown : s.vm.findClass RJ20 = some m.cls := findClass_of_methodNamed B.named
  have hlocks := B.notSynchronized
  have hl := lv_entry ([.float p0]) (n := 1) (Nat.le_of_ble_eq_true rfl)
  rw [lg_entry_eq]
  generalize (lg_sl ([.float p0]) ++ List.replicate (1 - (lg_sl ([.float p0])).length) Slot.unset).toArray = ls at hl ⊢
  have hl : lv_has ls 1 [(0, .float p0)] := hl
  unfold wpJ20_floatToIntBits at hw
  refine lv_fload_n hx hb dJ20_floatToIntBits_0 rfl (lv_at hl 0 rfl) ?_
  refine s_calli (As := [.float p0]) (rest := []) ⟨hx, hb, hml, hown, hts⟩ (metJ20_isNaN l _ p0) (va_cwS 1 hts (lw_S q1478 q1479 q105 q1480) rfl rfl rfl (by decide +kernel) ⟨Nat.le_of_ble_eq_true rfl, Nat.le_of_ble_eq_true rfl⟩) hw rfl hl.1 rfl (Nat.le_of_ble_eq_true rfl) dJ20_floatToIntBits_1 ⟨Nat.le_refl _, Nat.le_refl _⟩ (fun r_1 hw => ?_)
  refine lv_if_ne (tgt := 12) hx hb dJ20_floatToIntBits_4 (by decide) (fun c_2 => ?_) (fun c_2 => ?_)
  · have hw := hw.2 (c_2)
    refine lv_ldc hx hb hown (hts _ q1484) dJ20_floatToIntBits_12 ?_
    exact s_iret hx hb hr hlocks dJ20_floatToIntBits_14 hw
  · have hw := hw.1 (c_2)
    refine lv_fload_n hx hb dJ20_floatToIntBits_7 rfl (lv_at hl 0 rfl) ?_
    refine vn_f2i hx hb (hml.trans hl.1.symm) hown (hts _ q1481) (hts _ q1483) (hts _ q1482) (hts _ q105) (Nat.le_of_ble_eq_true rfl) (Nat.le_of_ble_eq_true rfl) dJ20_floatToIntBits_8 ?_
    exact s_iret hx hb hr hlocks dJ20_floatToIntBits_11 hw
def wpX3_degreeBits (post : Int32 → mF → mR → mL → mG → Prop) (F : mF) (R : mR) (L : mL) (G : mG) (p1 : Int32) : Prop := wpX3_asksArm (fun r_1 F_2 R_3 L_4 G_5 => ((r_1 = 0 → post 0 F_2 R_3 L_4 G_5) ∧ (¬ r_1 = 0 → wpX3_armAngle (fun r_7 F_8 R_9 L_10 G_11 => (vf_n32 (FP.fdiv (FP.i2f r_7) 1114636288) ∧ wpJ20_floatToIntBits (fun r_13 => post r_13 F_8 R_9 L_10 G_11) (FP.fdiv (FP.i2f r_7) 1114636288))) F_2 R_3 L_4 G_5 p1 (R_3 0 111)))) F R L G p1 1
abbrev wsX3_degreeBits : List Cond := ws_ yX3_degreeBits cX3_degreeBits 2 (some .int)
set_option maxHeartbeats 8000000 in
theorem metX3_degreeBits (l : Launch) (K : KT) (h : Nat) (a : Nat → Nat) (hap : mAp h a) (post : Int32 → mF → mR → mL → mG → Prop) (F : mF) (R : mR) (L : mL) (G : mG) (p1 : Int32) : Met l yX3_degreeBits wsX3_degreeBits (rmo 5 130) (mPre K h a F R L G [.int p1] (wpX3_degreeBits post F R L G p1)) (mQi post K h a) 0 0 (mA h a) := by
  refine Met.ofW (cc := cX3_degreeBits) (maxL := 2) (ret := (some .int)) (by decide) rfl ?_
  intro p e s m args below meth c s₁ B hml hv
  obtain ⟨rfl, hP, hK, hw⟩ := hv
  have hx := B.exec
  have hb := B.bytes
  have hr := B.returns
  have hts := atoms_spec (ws := wsX3_degreeBits) B.pre
  have hts : ∀ w ∈ lw_all, w.before _ s = true := fun w h => hts w (List.mem_cons_of_mem _ h)
  have hown : s.vm.findClass RX3 = some m.cls := findClass_of_methodNamed B.named
  have hlocks := B.notSynchronized
  have hl := lv_entry ([.ref h, .int p1]) (n := 2) (Nat.le_of_ble_eq_true rfl)
  rw [lg_entry_eq]
  generalize (lg_sl ([.ref h, .int p1]) ++ List.replicate (2 - (lg_sl ([.ref h, .int p1])).length) Slot.unset).toArray = ls at hl ⊢
  have hl : lv_has ls 2 [(0, .ref h), (1, .int p1)] := hl
  have hS : va_S (mA h a) s.heap s.heap [] := va_S.rf
  unfold wpX3_degreeBits at hw
  refine lv_aload_n hx hb dX3_degreeBits_0 rfl (lv_at hl 0 rfl) ?_
  refine lv_iload_n hx hb dX3_degreeBits_1 rfl (lv_at hl 1 rfl) ?_
  refine lv_iconst (v := 1) hx hb dX3_degreeBits_2 (by decide) ?_
  refine m_calli (As := [.int p1, .int 1]) (rest := []) ⟨hx, hb, hml, hown, hts⟩ (metX3_asksArm l K h a hap _ F R L G p1 1) (cwV 2 hts (lw_V q2097 q2099 qs55 q85 q2100) rfl rfl rfl (by decide +kernel) ⟨Nat.le_of_ble_eq_true rfl, Nat.le_of_ble_eq_true rfl⟩) hK hP hS hw rfl hl.1 rfl (Nat.le_of_ble_eq_true rfl) dX3_degreeBits_3 ⟨Nat.le_refl _, Nat.le_refl _⟩ (fun r_1 F_2 R_3 L_4 G_5 H locs hw hP hS => ?_)
  refine lv_if_eq (tgt := 32) hx hb dX3_degreeBits_6 (by decide) (fun c_6 => ?_) (fun c_6 => ?_)
  · have hw := hw.1 c_6
    refine lv_iconst (v := 0) hx hb dX3_degreeBits_32 (by decide) ?_
    exact m_iret hx hb hr hlocks hP hS dX3_degreeBits_33 hw
  · have hw := hw.2 c_6
    refine lv_aload_n hx hb dX3_degreeBits_9 rfl (lv_at hl 0 rfl) ?_
    refine lv_iload_n hx hb dX3_degreeBits_10 rfl (lv_at hl 1 rfl) ?_
    refine lv_aload_n hx hb dX3_degreeBits_11 rfl (lv_at hl 0 rfl) ?_
    refine m_get hx hb hts hown hK hP 0 (by decide) q1728 rfl dX3_degreeBits_12 ?_
    refine lv_bipush (v := 111) hx hb dX3_degreeBits_15 (by decide) ?_
    refine m_iald (j := 111) hx hb hK hP 0 1 113 rfl (by decide) (vpd (by decide)) dX3_degreeBits_17 ?_
    refine m_calli (As := [.int p1, .int (R_3 0 111)]) (rest := []) ⟨hx, hb, hml, hown, hts⟩ (metX3_armAngle l K h a hap _ F_2 R_3 L_4 G_5 p1 (R_3 0 111)) (cwV 2 hts (lw_V q2101 q2103 qs56 q85 q2104) rfl rfl rfl (by decide +kernel) ⟨Nat.le_of_ble_eq_true rfl, Nat.le_of_ble_eq_true rfl⟩) hK hP hS hw rfl hl.1 rfl (Nat.le_of_ble_eq_true rfl) dX3_degreeBits_18 ⟨Nat.le_refl _, Nat.le_refl _⟩ (fun r_7 F_8 R_9 L_10 G_11 H locs hw hP hS => ?_)
    refine lv_i2f hx hb dX3_degreeBits_21 ?_
    refine lv_ldcwf hx hb hown (hts _ q2247) dX3_degreeBits_22 ?_
    obtain ⟨h_12, hw⟩ := hw
    refine lv_fdiv hx hb dX3_degreeBits_25 h_12 ?_
    refine s_calli (As := [.float (FP.fdiv (FP.i2f r_7) 1114636288)]) (rest := []) ⟨hx, hb, hml, hown, hts⟩ (metJ20_floatToIntBits l _ (FP.fdiv (FP.i2f r_7) 1114636288)) (va_cwS 1 hts (lw_S q2252 q1476 q105 q1477) rfl rfl rfl (by decide +kernel) ⟨Nat.le_of_ble_eq_true rfl, Nat.le_of_ble_eq_true rfl⟩) hw rfl hl.1 rfl (Nat.le_of_ble_eq_true rfl) dX3_degreeBits_26 ⟨Nat.le_refl _, Nat.le_refl _⟩ (fun r_13 hw => ?_)
    refine lv_goto (tgt := 33) hx hb dX3_degreeBits_29 (by decide) ?_
    exact m_iret hx hb hr hlocks hP hS dX3_degreeBits_33 hw
def wpX3_bestTrain_40 (post : Int32 → mF → mR → mL → mG → Prop) (F : mF) (R : mR) (L : mL) (G : mG) : Prop := wpX3_fails (fun r_1 F_2 R_3 L_4 G_5 => post r_1 F_2 R_3 L_4 G_5) F R L G 2
def wpX3_bestTrain_318 (post : Int32 → mF → mR → mL → mG → Prop) (J58 : Int32 → Int32 → Int32 → Int64 → Int64 → Int32 → mF → mR → mL → mG → Prop) (x2 : Int32) (x3 : Int32) (x4 : Int32) (x5 : Int64) (x7 : Int64) (x9 : Int32) (F : mF) (R : mR) (L : mL) (G : mG) : Prop := (∀ x9_6 : Int32, x9_6 = x9 + 1 → J58 x2 x3 x4 x5 x7 x9_6 F R L G)
def wpX3_bestTrain_316 (post : Int32 → mF → mR → mL → mG → Prop) (J58 : Int32 → Int32 → Int32 → Int64 → Int64 → Int32 → mF → mR → mL → mG → Prop) (x2 : Int32) (x3 : Int32) (x4 : Int32) (x5 : Int64) (x9 : Int32) (z0 : Int64) (F : mF) (R : mR) (L : mL) (G : mG) : Prop := wpX3_bestTrain_318 post J58 x2 x3 x4 x5 z0 x9 F R L G
def wpX3_bestTrain_302 (post : Int32 → mF → mR → mL → mG → Prop) (J58 : Int32 → Int32 → Int32 → Int64 → Int64 → Int32 → mF → mR → mL → mG → Prop) (x2 : Int32) (x3 : Int32) (x4 : Int32) (x7 : Int64) (x9 : Int32) (x15 : Int64) (x19 : Int32) (z0 : Int64) (F : mF) (R : mR) (L : mL) (G : mG) : Prop := ((x19 = 0 → wpX3_bestTrain_316 post J58 x2 x3 x4 z0 x9 x7 F R L G) ∧ (¬ x19 = 0 → wpX3_bestTrain_316 post J58 x2 x3 x4 z0 x9 x15 F R L G))
def wpX3_bestTrain_288 (post : Int32 → mF → mR → mL → mG → Prop) (J58 : Int32 → Int32 → Int32 → Int64 → Int64 → Int32 → mF → mR → mL → mG → Prop) (x2 : Int32) (x3 : Int32) (x5 : Int64) (x7 : Int64) (x9 : Int32) (x15 : Int64) (x17 : Int64) (x19 : Int32) (z0 : Int32) (F : mF) (R : mR) (L : mL) (G : mG) : Prop := ((x19 = 0 → wpX3_bestTrain_302 post J58 x2 x3 z0 x7 x9 x15 x19 x5 F R L G) ∧ (¬ x19 = 0 → wpX3_bestTrain_302 post J58 x2 x3 z0 x7 x9 x15 x19 x17 F R L G))
def wpX3_bestTrain_256 (post : Int32 → mF → mR → mL → mG → Prop) (J58 : Int32 → Int32 → Int32 → Int64 → Int64 → Int32 → mF → mR → mL → mG → Prop) (x2 : Int32) (x3 : Int32) (x4 : Int32) (x5 : Int64) (x7 : Int64) (x9 : Int32) (x10 : Int32) (x11 : Int32) (x12 : Int32) (x13 : Int32) (x15 : Int64) (x17 : Int64) (z0 : Int32) (F : mF) (R : mR) (L : mL) (G : mG) : Prop := ((z0 = 0 → wpX3_bestTrain_288 post J58 x2 x3 x5 x7 x9 x15 x17 z0 x4 F R L G) ∧ (¬ z0 = 0 → wpX3_bestTrain_288 post J58 x2 x3 x5 x7 x9 x15 x17 z0 ((((((x10 * 24) + x11) * 24) + x12) * 24) + x13) F R L G))
def wpX3_bestTrain_251 (post : Int32 → mF → mR → mL → mG → Prop) (J58 : Int32 → Int32 → Int32 → Int64 → Int64 → Int32 → mF → mR → mL → mG → Prop) (x2 : Int32) (x3 : Int32) (x4 : Int32) (x5 : Int64) (x7 : Int64) (x9 : Int32) (x10 : Int32) (x11 : Int32) (x12 : Int32) (x13 : Int32) (x15 : Int64) (x17 : Int64) (F : mF) (R : mR) (L : mL) (G : mG) : Prop := wpX3_bestTrain_256 post J58 x2 x3 x4 x5 x7 x9 x10 x11 x12 x13 x15 x17 1 F R L G
def wpX3_bestTrain_229 (post : Int32 → mF → mR → mL → mG → Prop) (J58 : Int32 → Int32 → Int32 → Int64 → Int64 → Int32 → mF → mR → mL → mG → Prop) (x2 : Int32) (x3 : Int32) (x4 : Int32) (x5 : Int64) (x7 : Int64) (x9 : Int32) (x10 : Int32) (x11 : Int32) (x12 : Int32) (x13 : Int32) (x15 : Int64) (z0 : Int64) (F : mF) (R : mR) (L : mL) (G : mG) : Prop := ((x4 = (-1) → wpX3_bestTrain_251 post J58 x2 x3 x4 x5 x7 x9 x10 x11 x12 x13 x15 z0 F R L G) ∧ (¬ x4 = (-1) → (((x5 * x15) ≤ (z0 * x7) → wpX3_bestTrain_256 post J58 x2 x3 x4 x5 x7 x9 x10 x11 x12 x13 x15 z0 0 F R L G) ∧ (¬ (x5 * x15) ≤ (z0 * x7) → wpX3_bestTrain_251 post J58 x2 x3 x4 x5 x7 x9 x10 x11 x12 x13 x15 z0 F R L G))))
def wpX3_bestTrain_151 (post : Int32 → mF → mR → mL → mG → Prop) (J58 : Int32 → Int32 → Int32 → Int64 → Int64 → Int32 → mF → mR → mL → mG → Prop) (x2 : Int32) (x3 : Int32) (x4 : Int32) (x5 : Int64) (x7 : Int64) (x9 : Int32) (x10 : Int32) (x11 : Int32) (x12 : Int32) (x13 : Int32) (z0 : Int32) (F : mF) (R : mR) (L : mL) (G : mG) : Prop := ((z0 = 0 → wpX3_bestTrain_318 post J58 x2 x3 x4 x5 x7 x9 F R L G) ∧ (¬ z0 = 0 → (vp_in (2 + x11) 113 ∧ (vp_in (2 + x13) 113 ∧ (∀ x15_15 : Int64, x15_15 = (Int32.toInt64 (R 0 (Int32.toNatClampNeg (2 + x11)))) * (Int32.toInt64 (R 0 (Int32.toNatClampNeg (2 + x13)))) → (vp_in (2 + x10) 113 ∧ (vp_in (2 + x12) 113 ∧ (∀ x17_18 : Int64, x17_18 = (((Int32.toInt64 (R 0 (Int32.toNatClampNeg (2 + x10)))) * (Int32.toInt64 (R 0 (Int32.toNatClampNeg (2 + x12))))) * (Int32.toInt64 x3)) - (1000 * x15_15) → ((0 ≤ x17_18 → wpX3_bestTrain_229 post J58 x2 x3 x4 x5 x7 x9 x10 x11 x12 x13 x15_15 x17_18 F R L G) ∧ (¬ 0 ≤ x17_18 → wpX3_bestTrain_229 post J58 x2 x3 x4 x5 x7 x9 x10 x11 x12 x13 x15_15 (-x17_18) F R L G))))))))))
def wpX3_bestTrain_150 (post : Int32 → mF → mR → mL → mG → Prop) (J58 : Int32 → Int32 → Int32 → Int64 → Int64 → Int32 → mF → mR → mL → mG → Prop) (x2 : Int32) (x3 : Int32) (x4 : Int32) (x5 : Int64) (x7 : Int64) (x9 : Int32) (x10 : Int32) (x11 : Int32) (x12 : Int32) (x13 : Int32) (F : mF) (R : mR) (L : mL) (G : mG) : Prop := wpX3_bestTrain_151 post J58 x2 x3 x4 x5 x7 x9 x10 x11 x12 x13 0 F R L G
def wpX3_bestTrain_58 (post : Int32 → mF → mR → mL → mG → Prop) : Nat → Int32 → Int32 → Int32 → Int64 → Int64 → Int32 → mF → mR → mL → mG → Prop
  | 0 => fun _ _ _ _ _ _ _ _ _ _ => False
  | n + 1 => fun x2 x3 x4 x5 x7 x9 F R L G => (((((x2 * x2) * x2) * x2) ≤ x9 → post x4 F R L G) ∧ (¬ (((x2 * x2) * x2) * x2) ≤ x9 → (¬ ((x2 * x2) * x2) = 0 ∧ (∀ x10_22 : Int32, x10_22 = x9 / ((x2 * x2) * x2) → (¬ (x2 * x2) = 0 ∧ (¬ x2 = 0 ∧ (∀ x11_25 : Int32, x11_25 = iRem (x9 / (x2 * x2)) x2 → (¬ x2 = 0 ∧ (¬ x2 = 0 ∧ (∀ x12_28 : Int32, x12_28 = iRem (x9 / x2) x2 → (¬ x2 = 0 ∧ (∀ x13_30 : Int32, x13_30 = iRem x9 x2 → ((x10_22 = x11_25 → wpX3_bestTrain_150 post (wpX3_bestTrain_58 post n) x2 x3 x4 x5 x7 x9 x10_22 x11_25 x12_28 x13_30 F R L G) ∧ (¬ x10_22 = x11_25 → ((x10_22 = x12_28 → wpX3_bestTrain_150 post (wpX3_bestTrain_58 post n) x2 x3 x4 x5 x7 x9 x10_22 x11_25 x12_28 x13_30 F R L G) ∧ (¬ x10_22 = x12_28 → ((x10_22 = x13_30 → wpX3_bestTrain_150 post (wpX3_bestTrain_58 post n) x2 x3 x4 x5 x7 x9 x10_22 x11_25 x12_28 x13_30 F R L G) ∧ (¬ x10_22 = x13_30 → ((x11_25 = x12_28 → wpX3_bestTrain_150 post (wpX3_bestTrain_58 post n) x2 x3 x4 x5 x7 x9 x10_22 x11_25 x12_28 x13_30 F R L G) ∧ (¬ x11_25 = x12_28 → ((x11_25 = x13_30 → wpX3_bestTrain_150 post (wpX3_bestTrain_58 post n) x2 x3 x4 x5 x7 x9 x10_22 x11_25 x12_28 x13_30 F R L G) ∧ (¬ x11_25 = x13_30 → ((x12_28 = x13_30 → wpX3_bestTrain_150 post (wpX3_bestTrain_58 post n) x2 x3 x4 x5 x7 x9 x10_22 x11_25 x12_28 x13_30 F R L G) ∧ (¬ x12_28 = x13_30 → wpX3_bestTrain_151 post (wpX3_bestTrain_58 post n) x2 x3 x4 x5 x7 x9 x10_22 x11_25 x12_28 x13_30 1 F R L G))))))))))))))))))))))))
def wpX3_bestTrain (post : Int32 → mF → mR → mL → mG → Prop) (F : mF) (R : mR) (L : mL) (G : mG) (p1 : Int32) : Prop := wpX3_isArm (fun r_37 F_38 R_39 L_40 G_41 => wpX3_asks (fun r_42 F_43 R_44 L_45 G_46 => ((r_42 = 0 → post 0 F_43 R_44 L_45 G_46) ∧ (¬ r_42 = 0 → (∀ x2_48 : Int32, x2_48 = R_44 0 1 → (vp_in (96 + p1) 113 ∧ (∀ x3_50 : Int32, x3_50 = R_44 0 (Int32.toNatClampNeg (96 + p1)) → ((x3_50 = 0 → wpX3_bestTrain_40 post F_43 R_44 L_45 G_46) ∧ (¬ x3_50 = 0 → ((4 ≤ x2_48 → ∃ fu : Nat, wpX3_bestTrain_58 post fu x2_48 x3_50 (-1) 0 1 0 F_43 R_44 L_45 G_46) ∧ (¬ 4 ≤ x2_48 → wpX3_bestTrain_40 post F_43 R_44 L_45 G_46)))))))))) F_38 R_39 L_40 G_41 r_37) F R L G p1
abbrev wsX3_bestTrain : List Cond := ws_ yX3_bestTrain cX3_bestTrain 20 (some .int)
set_option maxHeartbeats 8000000 in
theorem metX3_bestTrain (l : Launch) (K : KT) (h : Nat) (a : Nat → Nat) (hap : mAp h a) (post : Int32 → mF → mR → mL → mG → Prop) (F : mF) (R : mR) (L : mL) (G : mG) (p1 : Int32) : Met l yX3_bestTrain wsX3_bestTrain (rmo 2 43) (mPre K h a F R L G [.int p1] (wpX3_bestTrain post F R L G p1)) (mQi post K h a) 0 0 (mA h a) := by
  refine Met.ofW (cc := cX3_bestTrain) (maxL := 20) (ret := (some .int)) (by decide) rfl ?_
  intro p e s m args below meth c s₁ B hml hv
  obtain ⟨rfl, hP, hK, hw⟩ := hv
  have hx := B.exec
  have hb := B.bytes
  have hr := B.returns
  have hts := atoms_spec (ws := wsX3_bestTrain) B.pre
  have hts : ∀ w ∈ lw_all, w.before _ s = true := fun w h => hts w (List.mem_cons_of_mem _ h)
  have hown : s.vm.findClass RX3 = some m.cls := findClass_of_methodNamed B.named
  have hlocks := B.notSynchronized
  have hl := lv_entry ([.ref h, .int p1]) (n := 20) (Nat.le_of_ble_eq_true rfl)
  rw [lg_entry_eq]
  generalize (lg_sl ([.ref h, .int p1]) ++ List.replicate (20 - (lg_sl ([.ref h, .int p1])).length) Slot.unset).toArray = ls at hl ⊢
  have hl : lv_has ls 20 [(0, .ref h), (1, .int p1)] := hl
  have hS : va_S (mA h a) s.heap s.heap [] := va_S.rf
  have T40 : ∀ (F : mF) (R : mR) (L : mL) (G : mG) (H : Heap) (locs : List Loc) (ls : Array Slot), mP K h a F R L G H → va_S (mA h a) s.heap H locs → lv_has ls 20 [(0, .ref h)] → wpX3_bestTrain_40 post F R L G → W p l e (rmo 2 43) s m ([.ref h, .int p1] : List Value).toArray below meth c H locs 0 0 (MQ below (mQi post K h a) ([.ref h, .int p1] : List Value).toArray s 0 0 (mA h a)) (F0 m 40 ls []) := by
    intro  F R L G H locs ls hP hS hl hw
    unfold wpX3_bestTrain_40 at hw
    refine lv_aload_n hx hb dX3_bestTrain_40 rfl (lv_at hl 0 rfl) ?_
    refine lv_iconst (v := 2) hx hb dX3_bestTrain_41 (by decide) ?_
    refine m_calli (As := [.int 2]) (rest := []) ⟨hx, hb, hml, hown, hts⟩ (metX3_fails l K h a hap _ F R L G 2) (cwV 1 hts (lw_V q1838 q1840 qs27 q85 q1841) rfl rfl rfl (by decide +kernel) ⟨Nat.le_of_ble_eq_true rfl, Nat.le_of_ble_eq_true rfl⟩) hK hP hS hw rfl hl.1 rfl (Nat.le_of_ble_eq_true rfl) dX3_bestTrain_42 ⟨Nat.le_refl _, Nat.le_refl _⟩ (fun r_1 F_2 R_3 L_4 G_5 H locs hw hP hS => ?_)
    exact m_iret hx hb hr hlocks hP hS dX3_bestTrain_45 hw
  have T318 : ∀ (J58 : Int32 → Int32 → Int32 → Int64 → Int64 → Int32 → mF → mR → mL → mG → Prop) (hJ58 : ∀ (x2 : Int32) (x3 : Int32) (x4 : Int32) (x5 : Int64) (x7 : Int64) (x9 : Int32) (F : mF) (R : mR) (L : mL) (G : mG) (H : Heap) (locs : List Loc) (ls : Array Slot), mP K h a F R L G H → va_S (mA h a) s.heap H locs → lv_has ls 20 [(0, .ref h), (2, .int x2), (3, .int x3), (4, .int x4), (5, .long x5), (7, .long x7), (9, .int x9)] → J58 x2 x3 x4 x5 x7 x9 F R L G → W p l e (rmo 2 43) s m ([.ref h, .int p1] : List Value).toArray below meth c H locs 0 0 (MQ below (mQi post K h a) ([.ref h, .int p1] : List Value).toArray s 0 0 (mA h a)) (F0 m 58 ls [])), ∀ (x2 : Int32) (x3 : Int32) (x4 : Int32) (x5 : Int64) (x7 : Int64) (x9 : Int32) (F : mF) (R : mR) (L : mL) (G : mG) (H : Heap) (locs : List Loc) (ls : Array Slot), mP K h a F R L G H → va_S (mA h a) s.heap H locs → lv_has ls 20 [(0, .ref h), (2, .int x2), (3, .int x3), (4, .int x4), (5, .long x5), (7, .long x7), (9, .int x9)] → wpX3_bestTrain_318 post J58 x2 x3 x4 x5 x7 x9 F R L G → W p l e (rmo 2 43) s m ([.ref h, .int p1] : List Value).toArray below meth c H locs 0 0 (MQ below (mQi post K h a) ([.ref h, .int p1] : List Value).toArray s 0 0 (mA h a)) (F0 m 318 ls []) := by
    intro J58 hJ58
    intro x2 x3 x4 x5 x7 x9 F R L G H locs ls hP hS hl hw
    unfold wpX3_bestTrain_318 at hw
    obtain ⟨x9_6, ex9_6⟩ : ∃ y : Int32, y = x9 + 1 := ⟨_, rfl⟩
    have hw := hw x9_6 ex9_6
    refine lv_iinc (v := x9_6) (lv' := [(9, .int x9_6), (0, .ref h), (2, .int x2), (3, .int x3), (4, .int x4), (5, .long x5), (7, .long x7)]) hx hb dX3_bestTrain_318 hl (k := 6) rfl (by rw [ex9_6]; rfl) (by decide) rfl (fun ls hl => ?_)
    refine lv_goto (tgt := 58) hx hb dX3_bestTrain_321 (by decide) ?_
    exact hJ58 x2 x3 x4 x5 x7 x9_6 F R L G _ _ ls hP hS (lv_sub hl [1, 2, 3, 4, 5, 6, 0] rfl) hw
  have T316 : ∀ (J58 : Int32 → Int32 → Int32 → Int64 → Int64 → Int32 → mF → mR → mL → mG → Prop) (hJ58 : ∀ (x2 : Int32) (x3 : Int32) (x4 : Int32) (x5 : Int64) (x7 : Int64) (x9 : Int32) (F : mF) (R : mR) (L : mL) (G : mG) (H : Heap) (locs : List Loc) (ls : Array Slot), mP K h a F R L G H → va_S (mA h a) s.heap H locs → lv_has ls 20 [(0, .ref h), (2, .int x2), (3, .int x3), (4, .int x4), (5, .long x5), (7, .long x7), (9, .int x9)] → J58 x2 x3 x4 x5 x7 x9 F R L G → W p l e (rmo 2 43) s m ([.ref h, .int p1] : List Value).toArray below meth c H locs 0 0 (MQ below (mQi post K h a) ([.ref h, .int p1] : List Value).toArray s 0 0 (mA h a)) (F0 m 58 ls [])), ∀ (x2 : Int32) (x3 : Int32) (x4 : Int32) (x5 : Int64) (x9 : Int32) (z0 : Int64) (F : mF) (R : mR) (L : mL) (G : mG) (H : Heap) (locs : List Loc) (ls : Array Slot), mP K h a F R L G H → va_S (mA h a) s.heap H locs → lv_has ls 20 [(0, .ref h), (2, .int x2), (3, .int x3), (4, .int x4), (5, .long x5), (9, .int x9)] → wpX3_bestTrain_316 post J58 x2 x3 x4 x5 x9 z0 F R L G → W p l e (rmo 2 43) s m ([.ref h, .int p1] : List Value).toArray below meth c H locs 0 0 (MQ below (mQi post K h a) ([.ref h, .int p1] : List Value).toArray s 0 0 (mA h a)) (F0 m 316 ls [.long z0]) := by
    intro J58 hJ58
    intro x2 x3 x4 x5 x9 z0 F R L G H locs ls hP hS hl hw
    unfold wpX3_bestTrain_316 at hw
    refine lv_lstore (lv' := [(7, .long z0), (0, .ref h), (2, .int x2), (3, .int x3), (4, .int x4), (5, .long x5), (9, .int x9)]) hx hb dX3_bestTrain_316 hl (by decide) rfl (fun ls hl => ?_)
    exact T318 _ hJ58 x2 x3 x4 x5 z0 x9 F R L G _ _ ls hP hS (lv_sub hl [1, 2, 3, 4, 5, 0, 6] rfl) hw
  have T302 : ∀ (J58 : Int32 → Int32 → Int32 → Int64 → Int64 → Int32 → mF → mR → mL → mG → Prop) (hJ58 : ∀ (x2 : Int32) (x3 : Int32) (x4 : Int32) (x5 : Int64) (x7 : Int64) (x9 : Int32) (F : mF) (R : mR) (L : mL) (G : mG) (H : Heap) (locs : List Loc) (ls : Array Slot), mP K h a F R L G H → va_S (mA h a) s.heap H locs → lv_has ls 20 [(0, .ref h), (2, .int x2), (3, .int x3), (4, .int x4), (5, .long x5), (7, .long x7), (9, .int x9)] → J58 x2 x3 x4 x5 x7 x9 F R L G → W p l e (rmo 2 43) s m ([.ref h, .int p1] : List Value).toArray below meth c H locs 0 0 (MQ below (mQi post K h a) ([.ref h, .int p1] : List Value).toArray s 0 0 (mA h a)) (F0 m 58 ls [])), ∀ (x2 : Int32) (x3 : Int32) (x4 : Int32) (x7 : Int64) (x9 : Int32) (x15 : Int64) (x19 : Int32) (z0 : Int64) (F : mF) (R : mR) (L : mL) (G : mG) (H : Heap) (locs : List Loc) (ls : Array Slot), mP K h a F R L G H → va_S (mA h a) s.heap H locs → lv_has ls 20 [(0, .ref h), (2, .int x2), (3, .int x3), (4, .int x4), (7, .long x7), (9, .int x9), (15, .long x15), (19, .int x19)] → wpX3_bestTrain_302 post J58 x2 x3 x4 x7 x9 x15 x19 z0 F R L G → W p l e (rmo 2 43) s m ([.ref h, .int p1] : List Value).toArray below meth c H locs 0 0 (MQ below (mQi post K h a) ([.ref h, .int p1] : List Value).toArray s 0 0 (mA h a)) (F0 m 302 ls [.long z0]) := by
    intro J58 hJ58
    intro x2 x3 x4 x7 x9 x15 x19 z0 F R L G H locs ls hP hS hl hw
    unfold wpX3_bestTrain_302 at hw
    refine lv_lstore (lv' := [(5, .long z0), (0, .ref h), (2, .int x2), (3, .int x3), (4, .int x4), (7, .long x7), (9, .int x9), (15, .long x15), (19, .int x19)]) hx hb dX3_bestTrain_302 hl (by decide) rfl (fun ls hl => ?_)
    refine lv_iload hx hb dX3_bestTrain_304 (lv_at hl 8 rfl) ?_
    refine lv_if_eq (tgt := 314) hx hb dX3_bestTrain_306 (by decide) (fun c_7 => ?_) (fun c_7 => ?_)
    · have hw := hw.1 c_7
      refine lv_lload hx hb dX3_bestTrain_314 (lv_at hl 5 rfl) ?_
      exact T316 _ hJ58 x2 x3 x4 z0 x9 x7 F R L G _ _ ls hP hS (lv_sub hl [1, 2, 3, 4, 0, 6] rfl) hw
    · have hw := hw.2 c_7
      refine lv_lload hx hb dX3_bestTrain_309 (lv_at hl 7 rfl) ?_
      refine lv_goto (tgt := 316) hx hb dX3_bestTrain_311 (by decide) ?_
      exact T316 _ hJ58 x2 x3 x4 z0 x9 x15 F R L G _ _ ls hP hS (lv_sub hl [1, 2, 3, 4, 0, 6] rfl) hw
  have T288 : ∀ (J58 : Int32 → Int32 → Int32 → Int64 → Int64 → Int32 → mF → mR → mL → mG → Prop) (hJ58 : ∀ (x2 : Int32) (x3 : Int32) (x4 : Int32) (x5 : Int64) (x7 : Int64) (x9 : Int32) (F : mF) (R : mR) (L : mL) (G : mG) (H : Heap) (locs : List Loc) (ls : Array Slot), mP K h a F R L G H → va_S (mA h a) s.heap H locs → lv_has ls 20 [(0, .ref h), (2, .int x2), (3, .int x3), (4, .int x4), (5, .long x5), (7, .long x7), (9, .int x9)] → J58 x2 x3 x4 x5 x7 x9 F R L G → W p l e (rmo 2 43) s m ([.ref h, .int p1] : List Value).toArray below meth c H locs 0 0 (MQ below (mQi post K h a) ([.ref h, .int p1] : List Value).toArray s 0 0 (mA h a)) (F0 m 58 ls [])), ∀ (x2 : Int32) (x3 : Int32) (x5 : Int64) (x7 : Int64) (x9 : Int32) (x15 : Int64) (x17 : Int64) (x19 : Int32) (z0 : Int32) (F : mF) (R : mR) (L : mL) (G : mG) (H : Heap) (locs : List Loc) (ls : Array Slot), mP K h a F R L G H → va_S (mA h a) s.heap H locs → lv_has ls 20 [(0, .ref h), (2, .int x2), (3, .int x3), (5, .long x5), (7, .long x7), (9, .int x9), (15, .long x15), (17, .long x17), (19, .int x19)] → wpX3_bestTrain_288 post J58 x2 x3 x5 x7 x9 x15 x17 x19 z0 F R L G → W p l e (rmo 2 43) s m ([.ref h, .int p1] : List Value).toArray below meth c H locs 0 0 (MQ below (mQi post K h a) ([.ref h, .int p1] : List Value).toArray s 0 0 (mA h a)) (F0 m 288 ls [.int z0]) := by
    intro J58 hJ58
    intro x2 x3 x5 x7 x9 x15 x17 x19 z0 F R L G H locs ls hP hS hl hw
    unfold wpX3_bestTrain_288 at hw
    refine lv_istore (lv' := [(4, .int z0), (0, .ref h), (2, .int x2), (3, .int x3), (5, .long x5), (7, .long x7), (9, .int x9), (15, .long x15), (17, .long x17), (19, .int x19)]) hx hb dX3_bestTrain_288 hl (by decide) rfl (fun ls hl => ?_)
    refine lv_iload hx hb dX3_bestTrain_290 (lv_at hl 9 rfl) ?_
    refine lv_if_eq (tgt := 300) hx hb dX3_bestTrain_292 (by decide) (fun c_8 => ?_) (fun c_8 => ?_)
    · have hw := hw.1 c_8
      refine lv_lload hx hb dX3_bestTrain_300 (lv_at hl 4 rfl) ?_
      exact T302 _ hJ58 x2 x3 z0 x7 x9 x15 x19 x5 F R L G _ _ ls hP hS (lv_sub hl [1, 2, 3, 0, 5, 6, 7, 9] rfl) hw
    · have hw := hw.2 c_8
      refine lv_lload hx hb dX3_bestTrain_295 (lv_at hl 8 rfl) ?_
      refine lv_goto (tgt := 302) hx hb dX3_bestTrain_297 (by decide) ?_
      exact T302 _ hJ58 x2 x3 z0 x7 x9 x15 x19 x17 F R L G _ _ ls hP hS (lv_sub hl [1, 2, 3, 0, 5, 6, 7, 9] rfl) hw
  have T256 : ∀ (J58 : Int32 → Int32 → Int32 → Int64 → Int64 → Int32 → mF → mR → mL → mG → Prop) (hJ58 : ∀ (x2 : Int32) (x3 : Int32) (x4 : Int32) (x5 : Int64) (x7 : Int64) (x9 : Int32) (F : mF) (R : mR) (L : mL) (G : mG) (H : Heap) (locs : List Loc) (ls : Array Slot), mP K h a F R L G H → va_S (mA h a) s.heap H locs → lv_has ls 20 [(0, .ref h), (2, .int x2), (3, .int x3), (4, .int x4), (5, .long x5), (7, .long x7), (9, .int x9)] → J58 x2 x3 x4 x5 x7 x9 F R L G → W p l e (rmo 2 43) s m ([.ref h, .int p1] : List Value).toArray below meth c H locs 0 0 (MQ below (mQi post K h a) ([.ref h, .int p1] : List Value).toArray s 0 0 (mA h a)) (F0 m 58 ls [])), ∀ (x2 : Int32) (x3 : Int32) (x4 : Int32) (x5 : Int64) (x7 : Int64) (x9 : Int32) (x10 : Int32) (x11 : Int32) (x12 : Int32) (x13 : Int32) (x15 : Int64) (x17 : Int64) (z0 : Int32) (F : mF) (R : mR) (L : mL) (G : mG) (H : Heap) (locs : List Loc) (ls : Array Slot), mP K h a F R L G H → va_S (mA h a) s.heap H locs → lv_has ls 20 [(0, .ref h), (2, .int x2), (3, .int x3), (4, .int x4), (5, .long x5), (7, .long x7), (9, .int x9), (10, .int x10), (11, .int x11), (12, .int x12), (13, .int x13), (15, .long x15), (17, .long x17)] → wpX3_bestTrain_256 post J58 x2 x3 x4 x5 x7 x9 x10 x11 x12 x13 x15 x17 z0 F R L G → W p l e (rmo 2 43) s m ([.ref h, .int p1] : List Value).toArray below meth c H locs 0 0 (MQ below (mQi post K h a) ([.ref h, .int p1] : List Value).toArray s 0 0 (mA h a)) (F0 m 256 ls [.int z0]) := by
    intro J58 hJ58
    intro x2 x3 x4 x5 x7 x9 x10 x11 x12 x13 x15 x17 z0 F R L G H locs ls hP hS hl hw
    unfold wpX3_bestTrain_256 at hw
    refine lv_istore (lv' := [(19, .int z0), (0, .ref h), (2, .int x2), (3, .int x3), (4, .int x4), (5, .long x5), (7, .long x7), (9, .int x9), (10, .int x10), (11, .int x11), (12, .int x12), (13, .int x13), (15, .long x15), (17, .long x17)]) hx hb dX3_bestTrain_256 hl (by decide) rfl (fun ls hl => ?_)
    refine lv_iload hx hb dX3_bestTrain_258 (lv_at hl 0 rfl) ?_
    refine lv_if_eq (tgt := 286) hx hb dX3_bestTrain_260 (by decide) (fun c_9 => ?_) (fun c_9 => ?_)
    · have hw := hw.1 c_9
      refine lv_iload hx hb dX3_bestTrain_286 (lv_at hl 4 rfl) ?_
      exact T288 _ hJ58 x2 x3 x5 x7 x9 x15 x17 z0 x4 F R L G _ _ ls hP hS (lv_sub hl [1, 2, 3, 5, 6, 7, 12, 13, 0] rfl) hw
    · have hw := hw.2 c_9
      refine lv_iload hx hb dX3_bestTrain_263 (lv_at hl 8 rfl) ?_
      refine lv_bipush (v := 24) hx hb dX3_bestTrain_265 (by decide) ?_
      refine lv_imul hx hb dX3_bestTrain_267 ?_
      refine lv_iload hx hb dX3_bestTrain_268 (lv_at hl 9 rfl) ?_
      refine lv_iadd hx hb dX3_bestTrain_270 ?_
      refine lv_bipush (v := 24) hx hb dX3_bestTrain_271 (by decide) ?_
      refine lv_imul hx hb dX3_bestTrain_273 ?_
      refine lv_iload hx hb dX3_bestTrain_274 (lv_at hl 10 rfl) ?_
      refine lv_iadd hx hb dX3_bestTrain_276 ?_
      refine lv_bipush (v := 24) hx hb dX3_bestTrain_277 (by decide) ?_
      refine lv_imul hx hb dX3_bestTrain_279 ?_
      refine lv_iload hx hb dX3_bestTrain_280 (lv_at hl 11 rfl) ?_
      refine lv_iadd hx hb dX3_bestTrain_282 ?_
      refine lv_goto (tgt := 288) hx hb dX3_bestTrain_283 (by decide) ?_
      exact T288 _ hJ58 x2 x3 x5 x7 x9 x15 x17 z0 ((((((x10 * 24) + x11) * 24) + x12) * 24) + x13) F R L G _ _ ls hP hS (lv_sub hl [1, 2, 3, 5, 6, 7, 12, 13, 0] rfl) hw
  have T251 : ∀ (J58 : Int32 → Int32 → Int32 → Int64 → Int64 → Int32 → mF → mR → mL → mG → Prop) (hJ58 : ∀ (x2 : Int32) (x3 : Int32) (x4 : Int32) (x5 : Int64) (x7 : Int64) (x9 : Int32) (F : mF) (R : mR) (L : mL) (G : mG) (H : Heap) (locs : List Loc) (ls : Array Slot), mP K h a F R L G H → va_S (mA h a) s.heap H locs → lv_has ls 20 [(0, .ref h), (2, .int x2), (3, .int x3), (4, .int x4), (5, .long x5), (7, .long x7), (9, .int x9)] → J58 x2 x3 x4 x5 x7 x9 F R L G → W p l e (rmo 2 43) s m ([.ref h, .int p1] : List Value).toArray below meth c H locs 0 0 (MQ below (mQi post K h a) ([.ref h, .int p1] : List Value).toArray s 0 0 (mA h a)) (F0 m 58 ls [])), ∀ (x2 : Int32) (x3 : Int32) (x4 : Int32) (x5 : Int64) (x7 : Int64) (x9 : Int32) (x10 : Int32) (x11 : Int32) (x12 : Int32) (x13 : Int32) (x15 : Int64) (x17 : Int64) (F : mF) (R : mR) (L : mL) (G : mG) (H : Heap) (locs : List Loc) (ls : Array Slot), mP K h a F R L G H → va_S (mA h a) s.heap H locs → lv_has ls 20 [(0, .ref h), (2, .int x2), (3, .int x3), (4, .int x4), (5, .long x5), (7, .long x7), (9, .int x9), (10, .int x10), (11, .int x11), (12, .int x12), (13, .int x13), (15, .long x15), (17, .long x17)] → wpX3_bestTrain_251 post J58 x2 x3 x4 x5 x7 x9 x10 x11 x12 x13 x15 x17 F R L G → W p l e (rmo 2 43) s m ([.ref h, .int p1] : List Value).toArray below meth c H locs 0 0 (MQ below (mQi post K h a) ([.ref h, .int p1] : List Value).toArray s 0 0 (mA h a)) (F0 m 251 ls []) := by
    intro J58 hJ58
    intro x2 x3 x4 x5 x7 x9 x10 x11 x12 x13 x15 x17 F R L G H locs ls hP hS hl hw
    unfold wpX3_bestTrain_251 at hw
    refine lv_iconst (v := 1) hx hb dX3_bestTrain_251 (by decide) ?_
    refine lv_goto (tgt := 256) hx hb dX3_bestTrain_252 (by decide) ?_
    exact T256 _ hJ58 x2 x3 x4 x5 x7 x9 x10 x11 x12 x13 x15 x17 1 F R L G _ _ ls hP hS (lv_sub hl [0, 1, 2, 3, 4, 5, 6, 7, 8, 9, 10, 11, 12] rfl) hw
  have T229 : ∀ (J58 : Int32 → Int32 → Int32 → Int64 → Int64 → Int32 → mF → mR → mL → mG → Prop) (hJ58 : ∀ (x2 : Int32) (x3 : Int32) (x4 : Int32) (x5 : Int64) (x7 : Int64) (x9 : Int32) (F : mF) (R : mR) (L : mL) (G : mG) (H : Heap) (locs : List Loc) (ls : Array Slot), mP K h a F R L G H → va_S (mA h a) s.heap H locs → lv_has ls 20 [(0, .ref h), (2, .int x2), (3, .int x3), (4, .int x4), (5, .long x5), (7, .long x7), (9, .int x9)] → J58 x2 x3 x4 x5 x7 x9 F R L G → W p l e (rmo 2 43) s m ([.ref h, .int p1] : List Value).toArray below meth c H locs 0 0 (MQ below (mQi post K h a) ([.ref h, .int p1] : List Value).toArray s 0 0 (mA h a)) (F0 m 58 ls [])), ∀ (x2 : Int32) (x3 : Int32) (x4 : Int32) (x5 : Int64) (x7 : Int64) (x9 : Int32) (x10 : Int32) (x11 : Int32) (x12 : Int32) (x13 : Int32) (x15 : Int64) (z0 : Int64) (F : mF) (R : mR) (L : mL) (G : mG) (H : Heap) (locs : List Loc) (ls : Array Slot), mP K h a F R L G H → va_S (mA h a) s.heap H locs → lv_has ls 20 [(0, .ref h), (2, .int x2), (3, .int x3), (4, .int x4), (5, .long x5), (7, .long x7), (9, .int x9), (10, .int x10), (11, .int x11), (12, .int x12), (13, .int x13), (15, .long x15)] → wpX3_bestTrain_229 post J58 x2 x3 x4 x5 x7 x9 x10 x11 x12 x13 x15 z0 F R L G → W p l e (rmo 2 43) s m ([.ref h, .int p1] : List Value).toArray below meth c H locs 0 0 (MQ below (mQi post K h a) ([.ref h, .int p1] : List Value).toArray s 0 0 (mA h a)) (F0 m 229 ls [.long z0]) := by
    intro J58 hJ58
    intro x2 x3 x4 x5 x7 x9 x10 x11 x12 x13 x15 z0 F R L G H locs ls hP hS hl hw
    unfold wpX3_bestTrain_229 at hw
    refine lv_lstore (lv' := [(17, .long z0), (0, .ref h), (2, .int x2), (3, .int x3), (4, .int x4), (5, .long x5), (7, .long x7), (9, .int x9), (10, .int x10), (11, .int x11), (12, .int x12), (13, .int x13), (15, .long x15)]) hx hb dX3_bestTrain_229 hl (by decide) rfl (fun ls hl => ?_)
    refine lv_iload hx hb dX3_bestTrain_231 (lv_at hl 4 rfl) ?_
    refine lv_iconst (v := (-1)) hx hb dX3_bestTrain_233 (by decide) ?_
    refine lv_icmp_eq (tgt := 251) hx hb dX3_bestTrain_234 (by decide) (fun c_10 => ?_) (fun c_10 => ?_)
    · have hw := hw.1 c_10
      exact T251 _ hJ58 x2 x3 x4 x5 x7 x9 x10 x11 x12 x13 x15 z0 F R L G _ _ ls hP hS (lv_sub hl [1, 2, 3, 4, 5, 6, 7, 8, 9, 10, 11, 12, 0] rfl) hw
    · have hw := hw.2 c_10
      refine lv_lload hx hb dX3_bestTrain_237 (lv_at hl 0 rfl) ?_
      refine lv_lload hx hb dX3_bestTrain_239 (lv_at hl 6 rfl) ?_
      refine lv_lmul hx hb dX3_bestTrain_241 ?_
      refine lv_lload hx hb dX3_bestTrain_242 (lv_at hl 5 rfl) ?_
      refine lv_lload hx hb dX3_bestTrain_244 (lv_at hl 12 rfl) ?_
      refine lv_lmul hx hb dX3_bestTrain_246 ?_
      refine W.lcmp hx hb dX3_bestTrain_247 ?_
      refine lv_if_ge (tgt := 255) hx hb dX3_bestTrain_248 (by decide) (fun c_11 => ?_) (fun c_11 => ?_)
      · rw [lc_ge] at c_11
        have hw := hw.1 c_11
        refine lv_iconst (v := 0) hx hb dX3_bestTrain_255 (by decide) ?_
        exact T256 _ hJ58 x2 x3 x4 x5 x7 x9 x10 x11 x12 x13 x15 z0 0 F R L G _ _ ls hP hS (lv_sub hl [1, 2, 3, 4, 5, 6, 7, 8, 9, 10, 11, 12, 0] rfl) hw
      · rw [lc_ge] at c_11
        have hw := hw.2 c_11
        exact T251 _ hJ58 x2 x3 x4 x5 x7 x9 x10 x11 x12 x13 x15 z0 F R L G _ _ ls hP hS (lv_sub hl [1, 2, 3, 4, 5, 6, 7, 8, 9, 10, 11, 12, 0] rfl) hw
  have T151 : ∀ (J58 : Int32 → Int32 → Int32 → Int64 → Int64 → Int32 → mF → mR → mL → mG → Prop) (hJ58 : ∀ (x2 : Int32) (x3 : Int32) (x4 : Int32) (x5 : Int64) (x7 : Int64) (x9 : Int32) (F : mF) (R : mR) (L : mL) (G : mG) (H : Heap) (locs : List Loc) (ls : Array Slot), mP K h a F R L G H → va_S (mA h a) s.heap H locs → lv_has ls 20 [(0, .ref h), (2, .int x2), (3, .int x3), (4, .int x4), (5, .long x5), (7, .long x7), (9, .int x9)] → J58 x2 x3 x4 x5 x7 x9 F R L G → W p l e (rmo 2 43) s m ([.ref h, .int p1] : List Value).toArray below meth c H locs 0 0 (MQ below (mQi post K h a) ([.ref h, .int p1] : List Value).toArray s 0 0 (mA h a)) (F0 m 58 ls [])), ∀ (x2 : Int32) (x3 : Int32) (x4 : Int32) (x5 : Int64) (x7 : Int64) (x9 : Int32) (x10 : Int32) (x11 : Int32) (x12 : Int32) (x13 : Int32) (z0 : Int32) (F : mF) (R : mR) (L : mL) (G : mG) (H : Heap) (locs : List Loc) (ls : Array Slot), mP K h a F R L G H → va_S (mA h a) s.heap H locs → lv_has ls 20 [(0, .ref h), (2, .int x2), (3, .int x3), (4, .int x4), (5, .long x5), (7, .long x7), (9, .int x9), (10, .int x10), (11, .int x11), (12, .int x12), (13, .int x13)] → wpX3_bestTrain_151 post J58 x2 x3 x4 x5 x7 x9 x10 x11 x12 x13 z0 F R L G → W p l e (rmo 2 43) s m ([.ref h, .int p1] : List Value).toArray below meth c H locs 0 0 (MQ below (mQi post K h a) ([.ref h, .int p1] : List Value).toArray s 0 0 (mA h a)) (F0 m 151 ls [.int z0]) := by
    intro J58 hJ58
    intro x2 x3 x4 x5 x7 x9 x10 x11 x12 x13 z0 F R L G H locs ls hP hS hl hw
    unfold wpX3_bestTrain_151 at hw
    refine lv_istore (lv' := [(14, .int z0), (0, .ref h), (2, .int x2), (3, .int x3), (4, .int x4), (5, .long x5), (7, .long x7), (9, .int x9), (10, .int x10), (11, .int x11), (12, .int x12), (13, .int x13)]) hx hb dX3_bestTrain_151 hl (by decide) rfl (fun ls hl => ?_)
    refine lv_iload hx hb dX3_bestTrain_153 (lv_at hl 0 rfl) ?_
    refine lv_if_eq (tgt := 318) hx hb dX3_bestTrain_155 (by decide) (fun c_12 => ?_) (fun c_12 => ?_)
    · have hw := hw.1 c_12
      exact T318 _ hJ58 x2 x3 x4 x5 x7 x9 F R L G _ _ ls hP hS (lv_sub hl [1, 2, 3, 4, 5, 6, 7] rfl) hw
    · have hw := hw.2 c_12
      refine lv_aload_n hx hb dX3_bestTrain_158 rfl (lv_at hl 1 rfl) ?_
      refine m_get hx hb hts hown hK hP 0 (by decide) q1728 rfl dX3_bestTrain_159 ?_
      refine lv_iconst (v := 2) hx hb dX3_bestTrain_162 (by decide) ?_
      refine lv_iload hx hb dX3_bestTrain_163 (lv_at hl 9 rfl) ?_
      refine lv_iadd hx hb dX3_bestTrain_165 ?_
      obtain ⟨h_13, hw⟩ := hw
      refine m_iald (j := (Int32.toNatClampNeg (2 + x11))) hx hb hK hP 0 1 113 rfl rfl h_13 dX3_bestTrain_166 ?_
      refine lv_i2l hx hb dX3_bestTrain_167 rfl ?_
      refine lv_aload_n hx hb dX3_bestTrain_168 rfl (lv_at hl 1 rfl) ?_
      refine m_get hx hb hts hown hK hP 0 (by decide) q1728 rfl dX3_bestTrain_169 ?_
      refine lv_iconst (v := 2) hx hb dX3_bestTrain_172 (by decide) ?_
      refine lv_iload hx hb dX3_bestTrain_173 (lv_at hl 11 rfl) ?_
      refine lv_iadd hx hb dX3_bestTrain_175 ?_
      obtain ⟨h_14, hw⟩ := hw
      refine m_iald (j := (Int32.toNatClampNeg (2 + x13))) hx hb hK hP 0 1 113 rfl rfl h_14 dX3_bestTrain_176 ?_
      refine lv_i2l hx hb dX3_bestTrain_177 rfl ?_
      refine lv_lmul hx hb dX3_bestTrain_178 ?_
      refine lv_topl (fun x15_15 ex15_15 => ?_)
      have hw := hw x15_15 ex15_15
      refine lv_lstore (lv' := [(15, .long x15_15), (14, .int z0), (0, .ref h), (2, .int x2), (3, .int x3), (4, .int x4), (5, .long x5), (7, .long x7), (9, .int x9), (10, .int x10), (11, .int x11), (12, .int x12), (13, .int x13)]) hx hb dX3_bestTrain_179 hl (by decide) rfl (fun ls hl => ?_)
      refine lv_aload_n hx hb dX3_bestTrain_181 rfl (lv_at hl 2 rfl) ?_
      refine m_get hx hb hts hown hK hP 0 (by decide) q1728 rfl dX3_bestTrain_182 ?_
      refine lv_iconst (v := 2) hx hb dX3_bestTrain_185 (by decide) ?_
      refine lv_iload hx hb dX3_bestTrain_186 (lv_at hl 9 rfl) ?_
      refine lv_iadd hx hb dX3_bestTrain_188 ?_
      obtain ⟨h_16, hw⟩ := hw
      refine m_iald (j := (Int32.toNatClampNeg (2 + x10))) hx hb hK hP 0 1 113 rfl rfl h_16 dX3_bestTrain_189 ?_
      refine lv_i2l hx hb dX3_bestTrain_190 rfl ?_
      refine lv_aload_n hx hb dX3_bestTrain_191 rfl (lv_at hl 2 rfl) ?_
      refine m_get hx hb hts hown hK hP 0 (by decide) q1728 rfl dX3_bestTrain_192 ?_
      refine lv_iconst (v := 2) hx hb dX3_bestTrain_195 (by decide) ?_
      refine lv_iload hx hb dX3_bestTrain_196 (lv_at hl 11 rfl) ?_
      refine lv_iadd hx hb dX3_bestTrain_198 ?_
      obtain ⟨h_17, hw⟩ := hw
      refine m_iald (j := (Int32.toNatClampNeg (2 + x12))) hx hb hK hP 0 1 113 rfl rfl h_17 dX3_bestTrain_199 ?_
      refine lv_i2l hx hb dX3_bestTrain_200 rfl ?_
      refine lv_lmul hx hb dX3_bestTrain_201 ?_
      refine lv_iload_n hx hb dX3_bestTrain_202 rfl (lv_at hl 4 rfl) ?_
      refine lv_i2l hx hb dX3_bestTrain_203 rfl ?_
      refine lv_lmul hx hb dX3_bestTrain_204 ?_
      refine lv_ldc2 hx hb hown (hts _ q2257) dX3_bestTrain_205 ?_
      refine lv_lload hx hb dX3_bestTrain_208 (lv_at hl 0 rfl) ?_
      refine lv_lmul hx hb dX3_bestTrain_210 ?_
      refine lv_lsub hx hb dX3_bestTrain_211 ?_
      refine lv_topl (fun x17_18 ex17_18 => ?_)
      have hw := hw x17_18 ex17_18
      refine lv_lstore (lv' := [(17, .long x17_18), (15, .long x15_15), (14, .int z0), (0, .ref h), (2, .int x2), (3, .int x3), (4, .int x4), (5, .long x5), (7, .long x7), (9, .int x9), (10, .int x10), (11, .int x11), (12, .int x12), (13, .int x13)]) hx hb dX3_bestTrain_212 hl (by decide) rfl (fun ls hl => ?_)
      refine lv_lload hx hb dX3_bestTrain_214 (lv_at hl 0 rfl) ?_
      refine lv_lconst (v := 0) hx hb dX3_bestTrain_216 (by decide) ?_
      refine W.lcmp hx hb dX3_bestTrain_217 ?_
      refine lv_if_ge (tgt := 227) hx hb dX3_bestTrain_218 (by decide) (fun c_19 => ?_) (fun c_19 => ?_)
      · rw [lc_ge] at c_19
        have hw := hw.1 c_19
        refine lv_lload hx hb dX3_bestTrain_227 (lv_at hl 0 rfl) ?_
        exact T229 _ hJ58 x2 x3 x4 x5 x7 x9 x10 x11 x12 x13 x15_15 x17_18 F R L G _ _ ls hP hS (lv_sub hl [3, 4, 5, 6, 7, 8, 9, 10, 11, 12, 13, 1] rfl) hw
      · rw [lc_ge] at c_19
        have hw := hw.2 c_19
        refine lv_lload hx hb dX3_bestTrain_221 (lv_at hl 0 rfl) ?_
        refine lv_lneg hx hb dX3_bestTrain_223 ?_
        refine lv_goto (tgt := 229) hx hb dX3_bestTrain_224 (by decide) ?_
        exact T229 _ hJ58 x2 x3 x4 x5 x7 x9 x10 x11 x12 x13 x15_15 (-x17_18) F R L G _ _ ls hP hS (lv_sub hl [3, 4, 5, 6, 7, 8, 9, 10, 11, 12, 13, 1] rfl) hw
  have T150 : ∀ (J58 : Int32 → Int32 → Int32 → Int64 → Int64 → Int32 → mF → mR → mL → mG → Prop) (hJ58 : ∀ (x2 : Int32) (x3 : Int32) (x4 : Int32) (x5 : Int64) (x7 : Int64) (x9 : Int32) (F : mF) (R : mR) (L : mL) (G : mG) (H : Heap) (locs : List Loc) (ls : Array Slot), mP K h a F R L G H → va_S (mA h a) s.heap H locs → lv_has ls 20 [(0, .ref h), (2, .int x2), (3, .int x3), (4, .int x4), (5, .long x5), (7, .long x7), (9, .int x9)] → J58 x2 x3 x4 x5 x7 x9 F R L G → W p l e (rmo 2 43) s m ([.ref h, .int p1] : List Value).toArray below meth c H locs 0 0 (MQ below (mQi post K h a) ([.ref h, .int p1] : List Value).toArray s 0 0 (mA h a)) (F0 m 58 ls [])), ∀ (x2 : Int32) (x3 : Int32) (x4 : Int32) (x5 : Int64) (x7 : Int64) (x9 : Int32) (x10 : Int32) (x11 : Int32) (x12 : Int32) (x13 : Int32) (F : mF) (R : mR) (L : mL) (G : mG) (H : Heap) (locs : List Loc) (ls : Array Slot), mP K h a F R L G H → va_S (mA h a) s.heap H locs → lv_has ls 20 [(0, .ref h), (2, .int x2), (3, .int x3), (4, .int x4), (5, .long x5), (7, .long x7), (9, .int x9), (10, .int x10), (11, .int x11), (12, .int x12), (13, .int x13)] → wpX3_bestTrain_150 post J58 x2 x3 x4 x5 x7 x9 x10 x11 x12 x13 F R L G → W p l e (rmo 2 43) s m ([.ref h, .int p1] : List Value).toArray below meth c H locs 0 0 (MQ below (mQi post K h a) ([.ref h, .int p1] : List Value).toArray s 0 0 (mA h a)) (F0 m 150 ls []) := by
    intro J58 hJ58
    intro x2 x3 x4 x5 x7 x9 x10 x11 x12 x13 F R L G H locs ls hP hS hl hw
    unfold wpX3_bestTrain_150 at hw
    refine lv_iconst (v := 0) hx hb dX3_bestTrain_150 (by decide) ?_
    exact T151 _ hJ58 x2 x3 x4 x5 x7 x9 x10 x11 x12 x13 0 F R L G _ _ ls hP hS (lv_sub hl [0, 1, 2, 3, 4, 5, 6, 7, 8, 9, 10] rfl) hw
  have T58 : ∀ (n : Nat), ∀ (x2 : Int32) (x3 : Int32) (x4 : Int32) (x5 : Int64) (x7 : Int64) (x9 : Int32) (F : mF) (R : mR) (L : mL) (G : mG) (H : Heap) (locs : List Loc) (ls : Array Slot), mP K h a F R L G H → va_S (mA h a) s.heap H locs → lv_has ls 20 [(0, .ref h), (2, .int x2), (3, .int x3), (4, .int x4), (5, .long x5), (7, .long x7), (9, .int x9)] → wpX3_bestTrain_58 post n x2 x3 x4 x5 x7 x9 F R L G → W p l e (rmo 2 43) s m ([.ref h, .int p1] : List Value).toArray below meth c H locs 0 0 (MQ below (mQi post K h a) ([.ref h, .int p1] : List Value).toArray s 0 0 (mA h a)) (F0 m 58 ls []) := by
    intro n
    induction n with
    | zero =>
      intro x2 x3 x4 x5 x7 x9 F R L G H locs ls hP hS hl hw
      exact False.elim hw
    | succ n ih =>
      intro x2 x3 x4 x5 x7 x9 F R L G H locs ls hP hS hl hw
      unfold wpX3_bestTrain_58 at hw
      refine lv_iload hx hb dX3_bestTrain_58 (lv_at hl 6 rfl) ?_
      refine lv_iload_n hx hb dX3_bestTrain_60 rfl (lv_at hl 1 rfl) ?_
      refine lv_iload_n hx hb dX3_bestTrain_61 rfl (lv_at hl 1 rfl) ?_
      refine lv_imul hx hb dX3_bestTrain_62 ?_
      refine lv_iload_n hx hb dX3_bestTrain_63 rfl (lv_at hl 1 rfl) ?_
      refine lv_imul hx hb dX3_bestTrain_64 ?_
      refine lv_iload_n hx hb dX3_bestTrain_65 rfl (lv_at hl 1 rfl) ?_
      refine lv_imul hx hb dX3_bestTrain_66 ?_
      refine lv_icmp_ge (tgt := 324) hx hb dX3_bestTrain_67 (by decide) (fun c_20 => ?_) (fun c_20 => ?_)
      · have hw := hw.1 c_20
        refine lv_iload hx hb dX3_bestTrain_324 (lv_at hl 3 rfl) ?_
        exact m_iret hx hb hr hlocks hP hS dX3_bestTrain_326 hw
      · have hw := hw.2 c_20
        refine lv_iload hx hb dX3_bestTrain_70 (lv_at hl 6 rfl) ?_
        refine lv_iload_n hx hb dX3_bestTrain_72 rfl (lv_at hl 1 rfl) ?_
        refine lv_iload_n hx hb dX3_bestTrain_73 rfl (lv_at hl 1 rfl) ?_
        refine lv_imul hx hb dX3_bestTrain_74 ?_
        refine lv_iload_n hx hb dX3_bestTrain_75 rfl (lv_at hl 1 rfl) ?_
        refine lv_imul hx hb dX3_bestTrain_76 ?_
        obtain ⟨h_21, hw⟩ := hw
        refine lv_idiv hx hb dX3_bestTrain_77 h_21 ?_
        refine lv_topi (fun x10_22 ex10_22 => ?_)
        have hw := hw x10_22 ex10_22
        refine lv_istore (lv' := [(10, .int x10_22), (0, .ref h), (2, .int x2), (3, .int x3), (4, .int x4), (5, .long x5), (7, .long x7), (9, .int x9)]) hx hb dX3_bestTrain_78 hl (by decide) rfl (fun ls hl => ?_)
        refine lv_iload hx hb dX3_bestTrain_80 (lv_at hl 7 rfl) ?_
        refine lv_iload_n hx hb dX3_bestTrain_82 rfl (lv_at hl 2 rfl) ?_
        refine lv_iload_n hx hb dX3_bestTrain_83 rfl (lv_at hl 2 rfl) ?_
        refine lv_imul hx hb dX3_bestTrain_84 ?_
        obtain ⟨h_23, hw⟩ := hw
        refine lv_idiv hx hb dX3_bestTrain_85 h_23 ?_
        refine lv_iload_n hx hb dX3_bestTrain_86 rfl (lv_at hl 2 rfl) ?_
        obtain ⟨h_24, hw⟩ := hw
        refine lv_irem hx hb dX3_bestTrain_87 h_24 ?_
        refine lv_topi (fun x11_25 ex11_25 => ?_)
        have hw := hw x11_25 ex11_25
        refine lv_istore (lv' := [(11, .int x11_25), (10, .int x10_22), (0, .ref h), (2, .int x2), (3, .int x3), (4, .int x4), (5, .long x5), (7, .long x7), (9, .int x9)]) hx hb dX3_bestTrain_88 hl (by decide) rfl (fun ls hl => ?_)
        refine lv_iload hx hb dX3_bestTrain_90 (lv_at hl 8 rfl) ?_
        refine lv_iload_n hx hb dX3_bestTrain_92 rfl (lv_at hl 3 rfl) ?_
        obtain ⟨h_26, hw⟩ := hw
        refine lv_idiv hx hb dX3_bestTrain_93 h_26 ?_
        refine lv_iload_n hx hb dX3_bestTrain_94 rfl (lv_at hl 3 rfl) ?_
        obtain ⟨h_27, hw⟩ := hw
        refine lv_irem hx hb dX3_bestTrain_95 h_27 ?_
        refine lv_topi (fun x12_28 ex12_28 => ?_)
        have hw := hw x12_28 ex12_28
        refine lv_istore (lv' := [(12, .int x12_28), (11, .int x11_25), (10, .int x10_22), (0, .ref h), (2, .int x2), (3, .int x3), (4, .int x4), (5, .long x5), (7, .long x7), (9, .int x9)]) hx hb dX3_bestTrain_96 hl (by decide) rfl (fun ls hl => ?_)
        refine lv_iload hx hb dX3_bestTrain_98 (lv_at hl 9 rfl) ?_
        refine lv_iload_n hx hb dX3_bestTrain_100 rfl (lv_at hl 4 rfl) ?_
        obtain ⟨h_29, hw⟩ := hw
        refine lv_irem hx hb dX3_bestTrain_101 h_29 ?_
        refine lv_topi (fun x13_30 ex13_30 => ?_)
        have hw := hw x13_30 ex13_30
        refine lv_istore (lv' := [(13, .int x13_30), (12, .int x12_28), (11, .int x11_25), (10, .int x10_22), (0, .ref h), (2, .int x2), (3, .int x3), (4, .int x4), (5, .long x5), (7, .long x7), (9, .int x9)]) hx hb dX3_bestTrain_102 hl (by decide) rfl (fun ls hl => ?_)
        refine lv_iload hx hb dX3_bestTrain_104 (lv_at hl 3 rfl) ?_
        refine lv_iload hx hb dX3_bestTrain_106 (lv_at hl 2 rfl) ?_
        refine lv_icmp_eq (tgt := 150) hx hb dX3_bestTrain_108 (by decide) (fun c_31 => ?_) (fun c_31 => ?_)
        · have hw := hw.1 c_31
          exact T150 _ ih x2 x3 x4 x5 x7 x9 x10_22 x11_25 x12_28 x13_30 F R L G _ _ ls hP hS (lv_sub hl [4, 5, 6, 7, 8, 9, 10, 3, 2, 1, 0] rfl) hw
        · have hw := hw.2 c_31
          refine lv_iload hx hb dX3_bestTrain_111 (lv_at hl 3 rfl) ?_
          refine lv_iload hx hb dX3_bestTrain_113 (lv_at hl 1 rfl) ?_
          refine lv_icmp_eq (tgt := 150) hx hb dX3_bestTrain_115 (by decide) (fun c_32 => ?_) (fun c_32 => ?_)
          · have hw := hw.1 c_32
            exact T150 _ ih x2 x3 x4 x5 x7 x9 x10_22 x11_25 x12_28 x13_30 F R L G _ _ ls hP hS (lv_sub hl [4, 5, 6, 7, 8, 9, 10, 3, 2, 1, 0] rfl) hw
          · have hw := hw.2 c_32
            refine lv_iload hx hb dX3_bestTrain_118 (lv_at hl 3 rfl) ?_
            refine lv_iload hx hb dX3_bestTrain_120 (lv_at hl 0 rfl) ?_
            refine lv_icmp_eq (tgt := 150) hx hb dX3_bestTrain_122 (by decide) (fun c_33 => ?_) (fun c_33 => ?_)
            · have hw := hw.1 c_33
              exact T150 _ ih x2 x3 x4 x5 x7 x9 x10_22 x11_25 x12_28 x13_30 F R L G _ _ ls hP hS (lv_sub hl [4, 5, 6, 7, 8, 9, 10, 3, 2, 1, 0] rfl) hw
            · have hw := hw.2 c_33
              refine lv_iload hx hb dX3_bestTrain_125 (lv_at hl 2 rfl) ?_
              refine lv_iload hx hb dX3_bestTrain_127 (lv_at hl 1 rfl) ?_
              refine lv_icmp_eq (tgt := 150) hx hb dX3_bestTrain_129 (by decide) (fun c_34 => ?_) (fun c_34 => ?_)
              · have hw := hw.1 c_34
                exact T150 _ ih x2 x3 x4 x5 x7 x9 x10_22 x11_25 x12_28 x13_30 F R L G _ _ ls hP hS (lv_sub hl [4, 5, 6, 7, 8, 9, 10, 3, 2, 1, 0] rfl) hw
              · have hw := hw.2 c_34
                refine lv_iload hx hb dX3_bestTrain_132 (lv_at hl 2 rfl) ?_
                refine lv_iload hx hb dX3_bestTrain_134 (lv_at hl 0 rfl) ?_
                refine lv_icmp_eq (tgt := 150) hx hb dX3_bestTrain_136 (by decide) (fun c_35 => ?_) (fun c_35 => ?_)
                · have hw := hw.1 c_35
                  exact T150 _ ih x2 x3 x4 x5 x7 x9 x10_22 x11_25 x12_28 x13_30 F R L G _ _ ls hP hS (lv_sub hl [4, 5, 6, 7, 8, 9, 10, 3, 2, 1, 0] rfl) hw
                · have hw := hw.2 c_35
                  refine lv_iload hx hb dX3_bestTrain_139 (lv_at hl 1 rfl) ?_
                  refine lv_iload hx hb dX3_bestTrain_141 (lv_at hl 0 rfl) ?_
                  refine lv_icmp_eq (tgt := 150) hx hb dX3_bestTrain_143 (by decide) (fun c_36 => ?_) (fun c_36 => ?_)
                  · have hw := hw.1 c_36
                    exact T150 _ ih x2 x3 x4 x5 x7 x9 x10_22 x11_25 x12_28 x13_30 F R L G _ _ ls hP hS (lv_sub hl [4, 5, 6, 7, 8, 9, 10, 3, 2, 1, 0] rfl) hw
                  · have hw := hw.2 c_36
                    refine lv_iconst (v := 1) hx hb dX3_bestTrain_146 (by decide) ?_
                    refine lv_goto (tgt := 151) hx hb dX3_bestTrain_147 (by decide) ?_
                    exact T151 _ ih x2 x3 x4 x5 x7 x9 x10_22 x11_25 x12_28 x13_30 1 F R L G _ _ ls hP hS (lv_sub hl [4, 5, 6, 7, 8, 9, 10, 3, 2, 1, 0] rfl) hw
  unfold wpX3_bestTrain at hw
  refine lv_aload_n hx hb dX3_bestTrain_0 rfl (lv_at hl 0 rfl) ?_
  refine lv_aload_n hx hb dX3_bestTrain_1 rfl (lv_at hl 0 rfl) ?_
  refine lv_iload_n hx hb dX3_bestTrain_2 rfl (lv_at hl 1 rfl) ?_
  refine m_calli (As := [.int p1]) (rest := [.ref h]) ⟨hx, hb, hml, hown, hts⟩ (metX3_isArm l K h a hap _ F R L G p1) (cwV 1 hts (lw_V q1943 q1945 qs45 q85 q1946) rfl rfl rfl (by decide +kernel) ⟨Nat.le_of_ble_eq_true rfl, Nat.le_of_ble_eq_true rfl⟩) hK hP hS hw rfl hl.1 rfl (Nat.le_of_ble_eq_true rfl) dX3_bestTrain_3 ⟨Nat.le_refl _, Nat.le_refl _⟩ (fun r_37 F_38 R_39 L_40 G_41 H locs hw hP hS => ?_)
  refine m_calli (As := [.int r_37]) (rest := []) ⟨hx, hb, hml, hown, hts⟩ (metX3_asks l K h a hap _ F_38 R_39 L_40 G_41 r_37) (cwV 1 hts (lw_V q2005 q2007 qs49 q85 q2008) rfl rfl rfl (by decide +kernel) ⟨Nat.le_of_ble_eq_true rfl, Nat.le_of_ble_eq_true rfl⟩) hK hP hS hw rfl hl.1 rfl (Nat.le_of_ble_eq_true rfl) dX3_bestTrain_6 ⟨Nat.le_refl _, Nat.le_refl _⟩ (fun r_42 F_43 R_44 L_45 G_46 H locs hw hP hS => ?_)
  refine lv_if_ne (tgt := 14) hx hb dX3_bestTrain_9 (by decide) (fun c_47 => ?_) (fun c_47 => ?_)
  · have hw := hw.2 (c_47)
    refine lv_aload_n hx hb dX3_bestTrain_14 rfl (lv_at hl 0 rfl) ?_
    refine m_get hx hb hts hown hK hP 0 (by decide) q1728 rfl dX3_bestTrain_15 ?_
    refine lv_iconst (v := 1) hx hb dX3_bestTrain_18 (by decide) ?_
    refine m_iald (j := 1) hx hb hK hP 0 1 113 rfl (by decide) (vpd (by decide)) dX3_bestTrain_19 ?_
    refine lv_topi (fun x2_48 ex2_48 => ?_)
    have hw := hw x2_48 ex2_48
    refine lv_istore_n (lv' := [(2, .int x2_48), (0, .ref h), (1, .int p1)]) hx hb dX3_bestTrain_20 rfl hl (by decide) rfl (fun ls hl => ?_)
    refine lv_aload_n hx hb dX3_bestTrain_21 rfl (lv_at hl 1 rfl) ?_
    refine m_get hx hb hts hown hK hP 0 (by decide) q1728 rfl dX3_bestTrain_22 ?_
    refine lv_bipush (v := 96) hx hb dX3_bestTrain_25 (by decide) ?_
    refine lv_iload_n hx hb dX3_bestTrain_27 rfl (lv_at hl 2 rfl) ?_
    refine lv_iadd hx hb dX3_bestTrain_28 ?_
    obtain ⟨h_49, hw⟩ := hw
    refine m_iald (j := (Int32.toNatClampNeg (96 + p1))) hx hb hK hP 0 1 113 rfl rfl h_49 dX3_bestTrain_29 ?_
    refine lv_topi (fun x3_50 ex3_50 => ?_)
    have hw := hw x3_50 ex3_50
    refine lv_istore_n (lv' := [(3, .int x3_50), (2, .int x2_48), (0, .ref h), (1, .int p1)]) hx hb dX3_bestTrain_30 rfl hl (by decide) rfl (fun ls hl => ?_)
    refine lv_iload_n hx hb dX3_bestTrain_31 rfl (lv_at hl 0 rfl) ?_
    refine lv_if_eq (tgt := 40) hx hb dX3_bestTrain_32 (by decide) (fun c_51 => ?_) (fun c_51 => ?_)
    · have hw := hw.1 c_51
      exact T40 F_43 R_44 L_45 G_46 _ _ ls hP hS (lv_sub hl [2] rfl) hw
    · have hw := hw.2 c_51
      refine lv_iload_n hx hb dX3_bestTrain_35 rfl (lv_at hl 1 rfl) ?_
      refine lv_iconst (v := 4) hx hb dX3_bestTrain_36 (by decide) ?_
      refine lv_icmp_ge (tgt := 46) hx hb dX3_bestTrain_37 (by decide) (fun c_52 => ?_) (fun c_52 => ?_)
      · have hw := hw.1 c_52
        refine lv_iconst (v := (-1)) hx hb dX3_bestTrain_46 (by decide) ?_
        refine lv_istore (lv' := [(4, .int (-1)), (3, .int x3_50), (2, .int x2_48), (0, .ref h), (1, .int p1)]) hx hb dX3_bestTrain_47 hl (by decide) rfl (fun ls hl => ?_)
        refine lv_lconst (v := 0) hx hb dX3_bestTrain_49 (by decide) ?_
        refine lv_lstore (lv' := [(5, .long 0), (4, .int (-1)), (3, .int x3_50), (2, .int x2_48), (0, .ref h), (1, .int p1)]) hx hb dX3_bestTrain_50 hl (by decide) rfl (fun ls hl => ?_)
        refine lv_lconst (v := 1) hx hb dX3_bestTrain_52 (by decide) ?_
        refine lv_lstore (lv' := [(7, .long 1), (5, .long 0), (4, .int (-1)), (3, .int x3_50), (2, .int x2_48), (0, .ref h), (1, .int p1)]) hx hb dX3_bestTrain_53 hl (by decide) rfl (fun ls hl => ?_)
        refine lv_iconst (v := 0) hx hb dX3_bestTrain_55 (by decide) ?_
        refine lv_istore (lv' := [(9, .int 0), (7, .long 1), (5, .long 0), (4, .int (-1)), (3, .int x3_50), (2, .int x2_48), (0, .ref h), (1, .int p1)]) hx hb dX3_bestTrain_56 hl (by decide) rfl (fun ls hl => ?_)
        obtain ⟨fu, hw⟩ := hw
        exact T58 fu x2_48 x3_50 (-1) 0 1 0 F_43 R_44 L_45 G_46 _ _ ls hP hS (lv_sub hl [6, 5, 4, 3, 2, 1, 0] rfl) hw
      · have hw := hw.2 c_52
        exact T40 F_43 R_44 L_45 G_46 _ _ ls hP hS (lv_sub hl [2] rfl) hw
  · have hw := hw.1 (c_47)
    refine lv_iconst (v := 0) hx hb dX3_bestTrain_12 (by decide) ?_
    exact m_iret hx hb hr hlocks hP hS dX3_bestTrain_13 hw
def wpX3_passed (post : Int32 → mF → mR → mL → mG → Prop) (F : mF) (R : mR) (L : mL) (G : mG) : Prop := wpX3_account (fun r_1 F_2 R_3 L_4 G_5 => post r_1 F_2 R_3 L_4 G_5) F R L G 112
abbrev wsX3_passed : List Cond := ws_ yX3_passed cX3_passed 1 (some .int)
set_option maxHeartbeats 8000000 in
theorem metX3_passed (l : Launch) (K : KT) (h : Nat) (a : Nat → Nat) (hap : mAp h a) (post : Int32 → mF → mR → mL → mG → Prop) (F : mF) (R : mR) (L : mL) (G : mG) : Met l yX3_passed wsX3_passed (rmo 1 21) (mPre K h a F R L G [] (wpX3_passed post F R L G )) (mQi post K h a) 0 0 (mA h a) := by
  refine Met.ofW (cc := cX3_passed) (maxL := 1) (ret := (some .int)) (by decide) rfl ?_
  intro p e s m args below meth c s₁ B hml hv
  obtain ⟨rfl, hP, hK, hw⟩ := hv
  have hx := B.exec
  have hb := B.bytes
  have hr := B.returns
  have hts := atoms_spec (ws := wsX3_passed) B.pre
  have hts : ∀ w ∈ lw_all, w.before _ s = true := fun w h => hts w (List.mem_cons_of_mem _ h)
  have hown : s.vm.findClass RX3 = some m.cls := findClass_of_methodNamed B.named
  have hlocks := B.notSynchronized
  have hl := lv_entry ([.ref h]) (n := 1) (Nat.le_of_ble_eq_true rfl)
  rw [lg_entry_eq]
  generalize (lg_sl ([.ref h]) ++ List.replicate (1 - (lg_sl ([.ref h])).length) Slot.unset).toArray = ls at hl ⊢
  have hl : lv_has ls 1 [(0, .ref h)] := hl
  have hS : va_S (mA h a) s.heap s.heap [] := va_S.rf
  unfold wpX3_passed at hw
  refine lv_aload_n hx hb dX3_passed_0 rfl (lv_at hl 0 rfl) ?_
  refine lv_bipush (v := 112) hx hb dX3_passed_1 (by decide) ?_
  refine m_calli (As := [.int 112]) (rest := []) ⟨hx, hb, hml, hown, hts⟩ (metX3_account l K h a hap _ F R L G 112) (cwV 1 hts (lw_V q1989 q1991 qs48 q85 q1992) rfl rfl rfl (by decide +kernel) ⟨Nat.le_of_ble_eq_true rfl, Nat.le_of_ble_eq_true rfl⟩) hK hP hS hw rfl hl.1 rfl (Nat.le_of_ble_eq_true rfl) dX3_passed_3 ⟨Nat.le_refl _, Nat.le_refl _⟩ (fun r_1 F_2 R_3 L_4 G_5 H locs hw hP hS => ?_)
  exact m_iret hx hb hr hlocks hP hS dX3_passed_6 hw
def wpX3_driven (post : Int32 → mF → mR → mL → mG → Prop) (F : mF) (R : mR) (L : mL) (G : mG) : Prop := wpX3_drivenNow (fun r_1 F_2 R_3 L_4 G_5 => post r_1 F_2 R_3 L_4 G_5) (va_up F 8 0) R L G
abbrev wsX3_driven : List Cond := ws_ yX3_driven cX3_driven 1 (some .int)
set_option maxHeartbeats 8000000 in
theorem metX3_driven (l : Launch) (K : KT) (h : Nat) (a : Nat → Nat) (hap : mAp h a) (post : Int32 → mF → mR → mL → mG → Prop) (F : mF) (R : mR) (L : mL) (G : mG) : Met l yX3_driven wsX3_driven (rmo 4 105) (mPre K h a F R L G [] (wpX3_driven post F R L G )) (mQi post K h a) 0 0 (mA h a) := by
  refine Met.ofW (cc := cX3_driven) (maxL := 1) (ret := (some .int)) (by decide) rfl ?_
  intro p e s m args below meth c s₁ B hml hv
  obtain ⟨rfl, hP, hK, hw⟩ := hv
  have hx := B.exec
  have hb := B.bytes
  have hr := B.returns
  have hts := atoms_spec (ws := wsX3_driven) B.pre
  have hts : ∀ w ∈ lw_all, w.before _ s = true := fun w h => hts w (List.mem_cons_of_mem _ h)
  have hown : s.vm.findClass RX3 = some m.cls := findClass_of_methodNamed B.named
  have hlocks := B.notSynchronized
  have hl := lv_entry ([.ref h]) (n := 1) (Nat.le_of_ble_eq_true rfl)
  rw [lg_entry_eq]
  generalize (lg_sl ([.ref h]) ++ List.replicate (1 - (lg_sl ([.ref h])).length) Slot.unset).toArray = ls at hl ⊢
  have hl : lv_has ls 1 [(0, .ref h)] := hl
  have hS : va_S (mA h a) s.heap s.heap [] := va_S.rf
  unfold wpX3_driven at hw
  refine lv_aload_n hx hb dX3_driven_0 rfl (lv_at hl 0 rfl) ?_
  refine lv_iconst (v := 0) hx hb dX3_driven_1 (by decide) ?_
  refine m_puti hx hb hts hown hK hap hP hS 8 (by decide) q1736 rfl rfl rfl rfl dX3_driven_2 (fun H locs hP hS => ?_)
  refine lv_aload_n hx hb dX3_driven_5 rfl (lv_at hl 0 rfl) ?_
  refine m_calli (As := []) (rest := []) ⟨hx, hb, hml, hown, hts⟩ (metX3_drivenNow l K h a hap _ (va_up F 8 0) R L G) (cwV 0 hts (lw_V q1907 q1909 qs40 q85 q1910) rfl rfl rfl (by decide +kernel) ⟨Nat.le_of_ble_eq_true rfl, Nat.le_of_ble_eq_true rfl⟩) hK hP hS hw rfl hl.1 rfl (Nat.le_of_ble_eq_true rfl) dX3_driven_6 ⟨Nat.le_refl _, Nat.le_refl _⟩ (fun r_1 F_2 R_3 L_4 G_5 H locs hw hP hS => ?_)
  exact m_iret hx hb hr hlocks hP hS dX3_driven_9 hw
def wpX3_allTeeth_9 (post : Int32 → mF → mR → mL → mG → Prop) : Nat → Int32 → Int32 → mF → mR → mL → mG → Prop
  | 0 => fun _ _ _ _ _ _ => False
  | n + 1 => fun x1 x2 F R L G => (((R 0 1) ≤ x2 → post x1 F R L G) ∧ (¬ (R 0 1) ≤ x2 → (vp_in (2 + x2) 113 ∧ (∀ x1_3 : Int32, x1_3 = x1 + (R 0 (Int32.toNatClampNeg (2 + x2))) → (∀ x2_4 : Int32, x2_4 = x2 + 1 → wpX3_allTeeth_9 post n x1_3 x2_4 F R L G)))))
def wpX3_allTeeth (post : Int32 → mF → mR → mL → mG → Prop) (F : mF) (R : mR) (L : mL) (G : mG) : Prop := ∃ fu : Nat, wpX3_allTeeth_9 post fu 0 0 (va_up F 8 0) R L G
abbrev wsX3_allTeeth : List Cond := ws_ yX3_allTeeth cX3_allTeeth 3 (some .int)
set_option maxHeartbeats 8000000 in
theorem metX3_allTeeth (l : Launch) (K : KT) (h : Nat) (a : Nat → Nat) (hap : mAp h a) (post : Int32 → mF → mR → mL → mG → Prop) (F : mF) (R : mR) (L : mL) (G : mG) : Met l yX3_allTeeth wsX3_allTeeth (rmo 0 0) (mPre K h a F R L G [] (wpX3_allTeeth post F R L G )) (mQi post K h a) 0 0 (mA h a) := by
  refine Met.ofW (cc := cX3_allTeeth) (maxL := 3) (ret := (some .int)) (by decide) rfl ?_
  intro p e s m args below meth c s₁ B hml hv
  obtain ⟨rfl, hP, hK, hw⟩ := hv
  have hx := B.exec
  have hb := B.bytes
  have hr := B.returns
  have hts := atoms_spec (ws := wsX3_allTeeth) B.pre
  have hts : ∀ w ∈ lw_all, w.before _ s = true := fun w h => hts w (List.mem_cons_of_mem _ h)
  have hown : s.vm.findClass RX3 = some m.cls := findClass_of_methodNamed B.named
  have hlocks := B.notSynchronized
  have hl := lv_entry ([.ref h]) (n := 3) (Nat.le_of_ble_eq_true rfl)
  rw [lg_entry_eq]
  generalize (lg_sl ([.ref h]) ++ List.replicate (3 - (lg_sl ([.ref h])).length) Slot.unset).toArray = ls at hl ⊢
  have hl : lv_has ls 3 [(0, .ref h)] := hl
  have hS : va_S (mA h a) s.heap s.heap [] := va_S.rf
  have T9 : ∀ (n : Nat), ∀ (x1 : Int32) (x2 : Int32) (F : mF) (R : mR) (L : mL) (G : mG) (H : Heap) (locs : List Loc) (ls : Array Slot), mP K h a F R L G H → va_S (mA h a) s.heap H locs → lv_has ls 3 [(0, .ref h), (1, .int x1), (2, .int x2)] → wpX3_allTeeth_9 post n x1 x2 F R L G → W p l e (rmo 0 0) s m ([.ref h] : List Value).toArray below meth c H locs 0 0 (MQ below (mQi post K h a) ([.ref h] : List Value).toArray s 0 0 (mA h a)) (F0 m 9 ls []) := by
    intro n
    induction n with
    | zero =>
      intro x1 x2 F R L G H locs ls hP hS hl hw
      exact False.elim hw
    | succ n ih =>
      intro x1 x2 F R L G H locs ls hP hS hl hw
      unfold wpX3_allTeeth_9 at hw
      refine lv_iload_n hx hb dX3_allTeeth_9 rfl (lv_at hl 2 rfl) ?_
      refine lv_aload_n hx hb dX3_allTeeth_10 rfl (lv_at hl 0 rfl) ?_
      refine m_get hx hb hts hown hK hP 0 (by decide) q1728 rfl dX3_allTeeth_11 ?_
      refine lv_iconst (v := 1) hx hb dX3_allTeeth_14 (by decide) ?_
      refine m_iald (j := 1) hx hb hK hP 0 1 113 rfl (by decide) (vpd (by decide)) dX3_allTeeth_15 ?_
      refine lv_icmp_ge (tgt := 36) hx hb dX3_allTeeth_16 (by decide) (fun c_1 => ?_) (fun c_1 => ?_)
      · have hw := hw.1 c_1
        refine lv_iload_n hx hb dX3_allTeeth_36 rfl (lv_at hl 1 rfl) ?_
        exact m_iret hx hb hr hlocks hP hS dX3_allTeeth_37 hw
      · have hw := hw.2 c_1
        refine lv_iload_n hx hb dX3_allTeeth_19 rfl (lv_at hl 1 rfl) ?_
        refine lv_aload_n hx hb dX3_allTeeth_20 rfl (lv_at hl 0 rfl) ?_
        refine m_get hx hb hts hown hK hP 0 (by decide) q1728 rfl dX3_allTeeth_21 ?_
        refine lv_iconst (v := 2) hx hb dX3_allTeeth_24 (by decide) ?_
        refine lv_iload_n hx hb dX3_allTeeth_25 rfl (lv_at hl 2 rfl) ?_
        refine lv_iadd hx hb dX3_allTeeth_26 ?_
        obtain ⟨h_2, hw⟩ := hw
        refine m_iald (j := (Int32.toNatClampNeg (2 + x2))) hx hb hK hP 0 1 113 rfl rfl h_2 dX3_allTeeth_27 ?_
        refine lv_iadd hx hb dX3_allTeeth_28 ?_
        refine lv_topi (fun x1_3 ex1_3 => ?_)
        have hw := hw x1_3 ex1_3
        refine lv_istore_n (lv' := [(1, .int x1_3), (0, .ref h), (2, .int x2)]) hx hb dX3_allTeeth_29 rfl hl (by decide) rfl (fun ls hl => ?_)
        obtain ⟨x2_4, ex2_4⟩ : ∃ y : Int32, y = x2 + 1 := ⟨_, rfl⟩
        have hw := hw x2_4 ex2_4
        refine lv_iinc (v := x2_4) (lv' := [(2, .int x2_4), (1, .int x1_3), (0, .ref h)]) hx hb dX3_allTeeth_30 hl (k := 2) rfl (by rw [ex2_4]; rfl) (by decide) rfl (fun ls hl => ?_)
        refine lv_goto (tgt := 9) hx hb dX3_allTeeth_33 (by decide) ?_
        exact ih x1_3 x2_4 F R L G _ _ ls hP hS (lv_sub hl [2, 1, 0] rfl) hw
  unfold wpX3_allTeeth at hw
  refine lv_aload_n hx hb dX3_allTeeth_0 rfl (lv_at hl 0 rfl) ?_
  refine lv_iconst (v := 0) hx hb dX3_allTeeth_1 (by decide) ?_
  refine m_puti hx hb hts hown hK hap hP hS 8 (by decide) q1736 rfl rfl rfl rfl dX3_allTeeth_2 (fun H locs hP hS => ?_)
  refine lv_iconst (v := 0) hx hb dX3_allTeeth_5 (by decide) ?_
  refine lv_istore_n (lv' := [(1, .int 0), (0, .ref h)]) hx hb dX3_allTeeth_6 rfl hl (by decide) rfl (fun ls hl => ?_)
  refine lv_iconst (v := 0) hx hb dX3_allTeeth_7 (by decide) ?_
  refine lv_istore_n (lv' := [(2, .int 0), (1, .int 0), (0, .ref h)]) hx hb dX3_allTeeth_8 rfl hl (by decide) rfl (fun ls hl => ?_)
  obtain ⟨fu, hw⟩ := hw
  exact T9 fu 0 0 (va_up F 8 0) R L G _ _ ls hP hS (lv_sub hl [2, 1, 0] rfl) hw
def wpX3_states (post : Int32 → mF → mR → mL → mG → Prop) (F : mF) (R : mR) (L : mL) (G : mG) : Prop := post ((va_up F 8 0) 5) (va_up F 8 0) R L G
abbrev wsX3_states : List Cond := ws_ yX3_states cX3_states 1 (some .int)
set_option maxHeartbeats 8000000 in
theorem metX3_states (l : Launch) (K : KT) (h : Nat) (a : Nat → Nat) (hap : mAp h a) (post : Int32 → mF → mR → mL → mG → Prop) (F : mF) (R : mR) (L : mL) (G : mG) : Met l yX3_states wsX3_states (rmo 0 0) (mPre K h a F R L G [] (wpX3_states post F R L G )) (mQi post K h a) 0 0 (mA h a) := by
  refine Met.ofW (cc := cX3_states) (maxL := 1) (ret := (some .int)) (by decide) rfl ?_
  intro p e s m args below meth c s₁ B hml hv
  obtain ⟨rfl, hP, hK, hw⟩ := hv
  have hx := B.exec
  have hb := B.bytes
  have hr := B.returns
  have hts := atoms_spec (ws := wsX3_states) B.pre
  have hts : ∀ w ∈ lw_all, w.before _ s = true := fun w h => hts w (List.mem_cons_of_mem _ h)
  have hown : s.vm.findClass RX3 = some m.cls := findClass_of_methodNamed B.named
  have hlocks := B.notSynchronized
  have hl := lv_entry ([.ref h]) (n := 1) (Nat.le_of_ble_eq_true rfl)
  rw [lg_entry_eq]
  generalize (lg_sl ([.ref h]) ++ List.replicate (1 - (lg_sl ([.ref h])).length) Slot.unset).toArray = ls at hl ⊢
  have hl : lv_has ls 1 [(0, .ref h)] := hl
  have hS : va_S (mA h a) s.heap s.heap [] := va_S.rf
  unfold wpX3_states at hw
  refine lv_aload_n hx hb dX3_states_0 rfl (lv_at hl 0 rfl) ?_
  refine lv_iconst (v := 0) hx hb dX3_states_1 (by decide) ?_
  refine m_puti hx hb hts hown hK hap hP hS 8 (by decide) q1736 rfl rfl rfl rfl dX3_states_2 (fun H locs hP hS => ?_)
  refine lv_aload_n hx hb dX3_states_5 rfl (lv_at hl 0 rfl) ?_
  refine m_get hx hb hts hown hK hP 5 (by decide) q1733 rfl dX3_states_6 ?_
  exact m_iret hx hb hr hlocks hP hS dX3_states_9 hw
def wpX3_type (post : Int32 → mF → mR → mL → mG → Prop) (F : mF) (R : mR) (L : mL) (G : mG) (p1 : Int32) : Prop := wpX3_in (fun r_1 => ((r_1 = 0 → wpX3_fails (fun r_11 F_12 R_13 L_14 G_15 => post r_11 F_12 R_13 L_14 G_15) (va_up F 8 0) R L G 1) ∧ (¬ r_1 = 0 → ((((va_up F 8 0) 7) = 60 → wpX3_fails (fun r_6 F_7 R_8 L_9 G_10 => post r_6 F_7 R_8 L_9 G_10) (va_up F 8 0) R L G 2) ∧ (¬ ((va_up F 8 0) 7) = 60 → (vp_in ((va_up F 8 0) 7) 60 ∧ (∀ R_5 : mR, R_5 = va_up R 6 (upd (R 6) (Int32.toNatClampNeg ((va_up F 8 0) 7)) p1) → post ((va_up (va_up F 8 0) 7 (((va_up F 8 0) 7) + 1)) 7) (va_up (va_up F 8 0) 7 (((va_up F 8 0) 7) + 1)) R_5 L G))))))) p1 32 126
abbrev wsX3_type : List Cond := ws_ yX3_type cX3_type 2 (some .int)
set_option maxHeartbeats 8000000 in
theorem metX3_type (l : Launch) (K : KT) (h : Nat) (a : Nat → Nat) (hap : mAp h a) (post : Int32 → mF → mR → mL → mG → Prop) (F : mF) (R : mR) (L : mL) (G : mG) (p1 : Int32) : Met l yX3_type wsX3_type (rmo 1 22) (mPre K h a F R L G [.int p1] (wpX3_type post F R L G p1)) (mQi post K h a) 0 0 (mA h a) := by
  refine Met.ofW (cc := cX3_type) (maxL := 2) (ret := (some .int)) (by decide) rfl ?_
  intro p e s m args below meth c s₁ B hml hv
  obtain ⟨rfl, hP, hK, hw⟩ := hv
  have hx := B.exec
  have hb := B.bytes
  have hr := B.returns
  have hts := atoms_spec (ws := wsX3_type) B.pre
  have hts : ∀ w ∈ lw_all, w.before _ s = true := fun w h => hts w (List.mem_cons_of_mem _ h)
  have hown : s.vm.findClass RX3 = some m.cls := findClass_of_methodNamed B.named
  have hlocks := B.notSynchronized
  have hl := lv_entry ([.ref h, .int p1]) (n := 2) (Nat.le_of_ble_eq_true rfl)
  rw [lg_entry_eq]
  generalize (lg_sl ([.ref h, .int p1]) ++ List.replicate (2 - (lg_sl ([.ref h, .int p1])).length) Slot.unset).toArray = ls at hl ⊢
  have hl : lv_has ls 2 [(0, .ref h), (1, .int p1)] := hl
  have hS : va_S (mA h a) s.heap s.heap [] := va_S.rf
  unfold wpX3_type at hw
  refine lv_aload_n hx hb dX3_type_0 rfl (lv_at hl 0 rfl) ?_
  refine lv_iconst (v := 0) hx hb dX3_type_1 (by decide) ?_
  refine m_puti hx hb hts hown hK hap hP hS 8 (by decide) q1736 rfl rfl rfl rfl dX3_type_2 (fun H locs hP hS => ?_)
  refine lv_iload_n hx hb dX3_type_5 rfl (lv_at hl 1 rfl) ?_
  refine lv_bipush (v := 32) hx hb dX3_type_6 (by decide) ?_
  refine lv_bipush (v := 126) hx hb dX3_type_8 (by decide) ?_
  refine s_calli (As := [.int p1, .int 32, .int 126]) (rest := []) ⟨hx, hb, hml, hown, hts⟩ (metX3_in l _ p1 32 126) (va_cwS 3 hts (lw_S q1858 q1859 q85 q1860) rfl rfl rfl (by decide +kernel) ⟨Nat.le_of_ble_eq_true rfl, Nat.le_of_ble_eq_true rfl⟩) hw rfl hl.1 rfl (Nat.le_of_ble_eq_true rfl) dX3_type_10 ⟨Nat.le_refl _, Nat.le_refl _⟩ (fun r_1 hw => ?_)
  refine lv_if_ne (tgt := 22) hx hb dX3_type_13 (by decide) (fun c_2 => ?_) (fun c_2 => ?_)
  · have hw := hw.2 (c_2)
    refine lv_aload_n hx hb dX3_type_22 rfl (lv_at hl 0 rfl) ?_
    refine m_get hx hb hts hown hK hP 7 (by decide) q1735 rfl dX3_type_23 ?_
    refine lv_bipush (v := 60) hx hb dX3_type_26 (by decide) ?_
    refine lv_icmp_ne (tgt := 37) hx hb dX3_type_28 (by decide) (fun c_3 => ?_) (fun c_3 => ?_)
    · have hw := hw.2 (c_3)
      refine lv_aload_n hx hb dX3_type_37 rfl (lv_at hl 0 rfl) ?_
      refine m_get hx hb hts hown hK hP 6 (by decide) q1734 rfl dX3_type_38 ?_
      refine lv_aload_n hx hb dX3_type_41 rfl (lv_at hl 0 rfl) ?_
      refine m_get hx hb hts hown hK hP 7 (by decide) q1735 rfl dX3_type_42 ?_
      refine lv_iload_n hx hb dX3_type_45 rfl (lv_at hl 1 rfl) ?_
      obtain ⟨h_4, hw⟩ := hw
      refine m_iast (j := (Int32.toNatClampNeg ((va_up F 8 0) 7))) hx hb hK hap hP hS 6 5 60 rfl rfl rfl h_4 dX3_type_46 (fun H locs hP hS => ?_)
      obtain ⟨R_5, eR_5⟩ : ∃ y : mR, y = va_up R 6 (upd (R 6) (Int32.toNatClampNeg ((va_up F 8 0) 7)) p1) := ⟨_, rfl⟩
      rw [← eR_5] at hP
      have hw := hw R_5 eR_5
      refine lv_aload_n hx hb dX3_type_47 rfl (lv_at hl 0 rfl) ?_
      refine lv_dup hx hb dX3_type_48 rfl ?_
      refine m_get hx hb hts hown hK hP 7 (by decide) q1735 rfl dX3_type_49 ?_
      refine lv_iconst (v := 1) hx hb dX3_type_52 (by decide) ?_
      refine lv_iadd hx hb dX3_type_53 ?_
      refine m_puti hx hb hts hown hK hap hP hS 7 (by decide) q1735 rfl rfl rfl rfl dX3_type_54 (fun H locs hP hS => ?_)
      refine lv_aload_n hx hb dX3_type_57 rfl (lv_at hl 0 rfl) ?_
      refine m_get hx hb hts hown hK hP 7 (by decide) q1735 rfl dX3_type_58 ?_
      exact m_iret hx hb hr hlocks hP hS dX3_type_61 hw
    · have hw := hw.1 (c_3)
      refine lv_aload_n hx hb dX3_type_31 rfl (lv_at hl 0 rfl) ?_
      refine lv_iconst (v := 2) hx hb dX3_type_32 (by decide) ?_
      refine m_calli (As := [.int 2]) (rest := []) ⟨hx, hb, hml, hown, hts⟩ (metX3_fails l K h a hap _ (va_up F 8 0) R L G 2) (cwV 1 hts (lw_V q1838 q1840 qs27 q85 q1841) rfl rfl rfl (by decide +kernel) ⟨Nat.le_of_ble_eq_true rfl, Nat.le_of_ble_eq_true rfl⟩) hK hP hS hw rfl hl.1 rfl (Nat.le_of_ble_eq_true rfl) dX3_type_33 ⟨Nat.le_refl _, Nat.le_refl _⟩ (fun r_6 F_7 R_8 L_9 G_10 H locs hw hP hS => ?_)
      exact m_iret hx hb hr hlocks hP hS dX3_type_36 hw
  · have hw := hw.1 (c_2)
    refine lv_aload_n hx hb dX3_type_16 rfl (lv_at hl 0 rfl) ?_
    refine lv_iconst (v := 1) hx hb dX3_type_17 (by decide) ?_
    refine m_calli (As := [.int 1]) (rest := []) ⟨hx, hb, hml, hown, hts⟩ (metX3_fails l K h a hap _ (va_up F 8 0) R L G 1) (cwV 1 hts (lw_V q1838 q1840 qs27 q85 q1841) rfl rfl rfl (by decide +kernel) ⟨Nat.le_of_ble_eq_true rfl, Nat.le_of_ble_eq_true rfl⟩) hK hP hS hw rfl hl.1 rfl (Nat.le_of_ble_eq_true rfl) dX3_type_18 ⟨Nat.le_refl _, Nat.le_refl _⟩ (fun r_11 F_12 R_13 L_14 G_15 H locs hw hP hS => ?_)
    exact m_iret hx hb hr hlocks hP hS dX3_type_21 hw
def wpX3_clearText (post : Int32 → mF → mR → mL → mG → Prop) (F : mF) (R : mR) (L : mL) (G : mG) : Prop := (∀ x1_1 : Int32, x1_1 = (va_up F 8 0) 7 → post x1_1 (va_up (va_up F 8 0) 7 0) R L G)
abbrev wsX3_clearText : List Cond := ws_ yX3_clearText cX3_clearText 2 (some .int)
set_option maxHeartbeats 8000000 in
theorem metX3_clearText (l : Launch) (K : KT) (h : Nat) (a : Nat → Nat) (hap : mAp h a) (post : Int32 → mF → mR → mL → mG → Prop) (F : mF) (R : mR) (L : mL) (G : mG) : Met l yX3_clearText wsX3_clearText (rmo 0 0) (mPre K h a F R L G [] (wpX3_clearText post F R L G )) (mQi post K h a) 0 0 (mA h a) := by
  refine Met.ofW (cc := cX3_clearText) (maxL := 2) (ret := (some .int)) (by decide) rfl ?_
  intro p e s m args below meth c s₁ B hml hv
  obtain ⟨rfl, hP, hK, hw⟩ := hv
  have hx := B.exec
  have hb := B.bytes
  have hr := B.returns
  have hts := atoms_spec (ws := wsX3_clearText) B.pre
  have hts : ∀ w ∈ lw_all, w.before _ s = true := fun w h => hts w (List.mem_cons_of_mem _ h)
  have hown : s.vm.findClass RX3 = some m.cls := findClass_of_methodNamed B.named
  have hlocks := B.notSynchronized
  have hl := lv_entry ([.ref h]) (n := 2) (Nat.le_of_ble_eq_true rfl)
  rw [lg_entry_eq]
  generalize (lg_sl ([.ref h]) ++ List.replicate (2 - (lg_sl ([.ref h])).length) Slot.unset).toArray = ls at hl ⊢
  have hl : lv_has ls 2 [(0, .ref h)] := hl
  have hS : va_S (mA h a) s.heap s.heap [] := va_S.rf
  unfold wpX3_clearText at hw
  refine lv_aload_n hx hb dX3_clearText_0 rfl (lv_at hl 0 rfl) ?_
  refine lv_iconst (v := 0) hx hb dX3_clearText_1 (by decide) ?_
  refine m_puti hx hb hts hown hK hap hP hS 8 (by decide) q1736 rfl rfl rfl rfl dX3_clearText_2 (fun H locs hP hS => ?_)
  refine lv_aload_n hx hb dX3_clearText_5 rfl (lv_at hl 0 rfl) ?_
  refine m_get hx hb hts hown hK hP 7 (by decide) q1735 rfl dX3_clearText_6 ?_
  refine lv_topi (fun x1_1 ex1_1 => ?_)
  have hw := hw x1_1 ex1_1
  refine lv_istore_n (lv' := [(1, .int x1_1), (0, .ref h)]) hx hb dX3_clearText_9 rfl hl (by decide) rfl (fun ls hl => ?_)
  refine lv_aload_n hx hb dX3_clearText_10 rfl (lv_at hl 1 rfl) ?_
  refine lv_iconst (v := 0) hx hb dX3_clearText_11 (by decide) ?_
  refine m_puti hx hb hts hown hK hap hP hS 7 (by decide) q1735 rfl rfl rfl rfl dX3_clearText_12 (fun H locs hP hS => ?_)
  refine lv_iload_n hx hb dX3_clearText_15 rfl (lv_at hl 0 rfl) ?_
  exact m_iret hx hb hr hlocks hP hS dX3_clearText_16 hw
def wpX3_here (post : Int32 → mF → mR → mL → mG → Prop) (F : mF) (R : mR) (L : mL) (G : mG) : Prop := (((F 7) ≤ (F 20) → post 0 F R L G) ∧ (¬ (F 7) ≤ (F 20) → (vp_in (F 20) 60 ∧ post (R 6 (Int32.toNatClampNeg (F 20))) F R L G)))
abbrev wsX3_here : List Cond := ws_ yX3_here cX3_here 1 (some .int)
set_option maxHeartbeats 8000000 in
theorem metX3_here (l : Launch) (K : KT) (h : Nat) (a : Nat → Nat) (hap : mAp h a) (post : Int32 → mF → mR → mL → mG → Prop) (F : mF) (R : mR) (L : mL) (G : mG) : Met l yX3_here wsX3_here (rmo 0 0) (mPre K h a F R L G [] (wpX3_here post F R L G )) (mQi post K h a) 0 0 (mA h a) := by
  refine Met.ofW (cc := cX3_here) (maxL := 1) (ret := (some .int)) (by decide) rfl ?_
  intro p e s m args below meth c s₁ B hml hv
  obtain ⟨rfl, hP, hK, hw⟩ := hv
  have hx := B.exec
  have hb := B.bytes
  have hr := B.returns
  have hts := atoms_spec (ws := wsX3_here) B.pre
  have hts : ∀ w ∈ lw_all, w.before _ s = true := fun w h => hts w (List.mem_cons_of_mem _ h)
  have hown : s.vm.findClass RX3 = some m.cls := findClass_of_methodNamed B.named
  have hlocks := B.notSynchronized
  have hl := lv_entry ([.ref h]) (n := 1) (Nat.le_of_ble_eq_true rfl)
  rw [lg_entry_eq]
  generalize (lg_sl ([.ref h]) ++ List.replicate (1 - (lg_sl ([.ref h])).length) Slot.unset).toArray = ls at hl ⊢
  have hl : lv_has ls 1 [(0, .ref h)] := hl
  have hS : va_S (mA h a) s.heap s.heap [] := va_S.rf
  unfold wpX3_here at hw
  refine lv_aload_n hx hb dX3_here_0 rfl (lv_at hl 0 rfl) ?_
  refine m_get hx hb hts hown hK hP 20 (by decide) q1748 rfl dX3_here_1 ?_
  refine lv_aload_n hx hb dX3_here_4 rfl (lv_at hl 0 rfl) ?_
  refine m_get hx hb hts hown hK hP 7 (by decide) q1735 rfl dX3_here_5 ?_
  refine lv_icmp_ge (tgt := 23) hx hb dX3_here_8 (by decide) (fun c_1 => ?_) (fun c_1 => ?_)
  · have hw := hw.1 c_1
    refine lv_iconst (v := 0) hx hb dX3_here_23 (by decide) ?_
    exact m_iret hx hb hr hlocks hP hS dX3_here_24 hw
  · have hw := hw.2 c_1
    refine lv_aload_n hx hb dX3_here_11 rfl (lv_at hl 0 rfl) ?_
    refine m_get hx hb hts hown hK hP 6 (by decide) q1734 rfl dX3_here_12 ?_
    refine lv_aload_n hx hb dX3_here_15 rfl (lv_at hl 0 rfl) ?_
    refine m_get hx hb hts hown hK hP 20 (by decide) q1748 rfl dX3_here_16 ?_
    obtain ⟨h_2, hw⟩ := hw
    refine m_iald (j := (Int32.toNatClampNeg (F 20))) hx hb hK hP 6 5 60 rfl rfl h_2 dX3_here_19 ?_
    refine lv_goto (tgt := 24) hx hb dX3_here_20 (by decide) ?_
    exact m_iret hx hb hr hlocks hP hS dX3_here_24 hw
def wpX3_takes_17 (post : mF → mR → mL → mG → Prop) (z1 : Int32) (F : mF) (R : mR) (L : mL) (G : mG) : Prop := ((z1 = 0 ∨ z1 = 1) ∧ ((((va_up F 22 z1) 22) = 0 → post (va_up (va_up F 22 z1) 20 (((va_up F 22 z1) 20) + 0)) R L G) ∧ (¬ ((va_up F 22 z1) 22) = 0 → post (va_up (va_up F 22 z1) 20 (((va_up F 22 z1) 20) + 1)) R L G)))
def wpX3_takes_16 (post : mF → mR → mL → mG → Prop) (F : mF) (R : mR) (L : mL) (G : mG) : Prop := wpX3_takes_17 post 0 F R L G
def wpX3_takes (post : mF → mR → mL → mG → Prop) (F : mF) (R : mR) (L : mL) (G : mG) (p1 : Int32) : Prop := (((F 22) = 0 → wpX3_takes_16 post F R L G) ∧ (¬ (F 22) = 0 → ((p1 = 0 → wpX3_takes_16 post F R L G) ∧ (¬ p1 = 0 → wpX3_takes_17 post 1 F R L G))))
abbrev wsX3_takes : List Cond := ws_ yX3_takes cX3_takes 2 none
set_option maxHeartbeats 8000000 in
theorem metX3_takes (l : Launch) (K : KT) (h : Nat) (a : Nat → Nat) (hap : mAp h a) (post : mF → mR → mL → mG → Prop) (F : mF) (R : mR) (L : mL) (G : mG) (p1 : Int32) : Met l yX3_takes wsX3_takes (rmo 0 0) (mPre K h a F R L G [.int p1] (wpX3_takes post F R L G p1)) (mQv post K h a) 0 0 (mA h a) := by
  refine Met.ofW (cc := cX3_takes) (maxL := 2) (ret := none) (by decide) rfl ?_
  intro p e s m args below meth c s₁ B hml hv
  obtain ⟨rfl, hP, hK, hw⟩ := hv
  have hx := B.exec
  have hb := B.bytes
  have hr := B.returns
  have hts := atoms_spec (ws := wsX3_takes) B.pre
  have hts : ∀ w ∈ lw_all, w.before _ s = true := fun w h => hts w (List.mem_cons_of_mem _ h)
  have hown : s.vm.findClass RX3 = some m.cls := findClass_of_methodNamed B.named
  have hlocks := B.notSynchronized
  have hl := lv_entry ([.ref h, .int p1]) (n := 2) (Nat.le_of_ble_eq_true rfl)
  rw [lg_entry_eq]
  generalize (lg_sl ([.ref h, .int p1]) ++ List.replicate (2 - (lg_sl ([.ref h, .int p1])).length) Slot.unset).toArray = ls at hl ⊢
  have hl : lv_has ls 2 [(0, .ref h), (1, .int p1)] := hl
  have hS : va_S (mA h a) s.heap s.heap [] := va_S.rf
  have T17 : ∀ (z1 : Int32) (F : mF) (R : mR) (L : mL) (G : mG) (H : Heap) (locs : List Loc) (ls : Array Slot), mP K h a F R L G H → va_S (mA h a) s.heap H locs → lv_has ls 2 [(0, .ref h)] → wpX3_takes_17 post z1 F R L G → W p l e (rmo 0 0) s m ([.ref h, .int p1] : List Value).toArray below meth c H locs 0 0 (MQ below (mQv post K h a) ([.ref h, .int p1] : List Value).toArray s 0 0 (mA h a)) (F0 m 17 ls [.int z1, .ref h]) := by
    intro z1 F R L G H locs ls hP hS hl hw
    unfold wpX3_takes_17 at hw
    obtain ⟨h_1, hw⟩ := hw
    refine m_puti hx hb hts hown hK hap hP hS 22 (by decide) q1750 rfl (zb_n h_1) (zb_f h_1) rfl dX3_takes_17 (fun H locs hP hS => ?_)
    refine lv_aload_n hx hb dX3_takes_20 rfl (lv_at hl 0 rfl) ?_
    refine lv_dup hx hb dX3_takes_21 rfl ?_
    refine m_get hx hb hts hown hK hP 20 (by decide) q1748 rfl dX3_takes_22 ?_
    refine lv_aload_n hx hb dX3_takes_25 rfl (lv_at hl 0 rfl) ?_
    refine m_get hx hb hts hown hK hP 22 (by decide) q1750 rfl dX3_takes_26 ?_
    refine lv_if_eq (tgt := 36) hx hb dX3_takes_29 (by decide) (fun c_2 => ?_) (fun c_2 => ?_)
    · have hw := hw.1 c_2
      refine lv_iconst (v := 0) hx hb dX3_takes_36 (by decide) ?_
      refine lv_iadd hx hb dX3_takes_37 ?_
      refine m_puti hx hb hts hown hK hap hP hS 20 (by decide) q1748 rfl rfl rfl rfl dX3_takes_38 (fun H locs hP hS => ?_)
      exact m_vret hx hb hr hlocks hP hS dX3_takes_41 hw
    · have hw := hw.2 c_2
      refine lv_iconst (v := 1) hx hb dX3_takes_32 (by decide) ?_
      refine lv_goto (tgt := 37) hx hb dX3_takes_33 (by decide) ?_
      refine lv_iadd hx hb dX3_takes_37 ?_
      refine m_puti hx hb hts hown hK hap hP hS 20 (by decide) q1748 rfl rfl rfl rfl dX3_takes_38 (fun H locs hP hS => ?_)
      exact m_vret hx hb hr hlocks hP hS dX3_takes_41 hw
  have T16 : ∀ (F : mF) (R : mR) (L : mL) (G : mG) (H : Heap) (locs : List Loc) (ls : Array Slot), mP K h a F R L G H → va_S (mA h a) s.heap H locs → lv_has ls 2 [(0, .ref h)] → wpX3_takes_16 post F R L G → W p l e (rmo 0 0) s m ([.ref h, .int p1] : List Value).toArray below meth c H locs 0 0 (MQ below (mQv post K h a) ([.ref h, .int p1] : List Value).toArray s 0 0 (mA h a)) (F0 m 16 ls [.ref h]) := by
    intro  F R L G H locs ls hP hS hl hw
    unfold wpX3_takes_16 at hw
    refine lv_iconst (v := 0) hx hb dX3_takes_16 (by decide) ?_
    exact T17 0 F R L G _ _ ls hP hS (lv_sub hl [0] rfl) hw
  unfold wpX3_takes at hw
  refine lv_aload_n hx hb dX3_takes_0 rfl (lv_at hl 0 rfl) ?_
  refine lv_aload_n hx hb dX3_takes_1 rfl (lv_at hl 0 rfl) ?_
  refine m_get hx hb hts hown hK hP 22 (by decide) q1750 rfl dX3_takes_2 ?_
  refine lv_if_eq (tgt := 16) hx hb dX3_takes_5 (by decide) (fun c_3 => ?_) (fun c_3 => ?_)
  · have hw := hw.1 c_3
    exact T16 F R L G _ _ ls hP hS (lv_sub hl [0] rfl) hw
  · have hw := hw.2 c_3
    refine lv_iload_n hx hb dX3_takes_8 rfl (lv_at hl 1 rfl) ?_
    refine lv_if_eq (tgt := 16) hx hb dX3_takes_9 (by decide) (fun c_4 => ?_) (fun c_4 => ?_)
    · have hw := hw.1 c_4
      exact T16 F R L G _ _ ls hP hS (lv_sub hl [0] rfl) hw
    · have hw := hw.2 c_4
      refine lv_iconst (v := 1) hx hb dX3_takes_12 (by decide) ?_
      refine lv_goto (tgt := 17) hx hb dX3_takes_13 (by decide) ?_
      exact T17 1 F R L G _ _ ls hP hS (lv_sub hl [0] rfl) hw
def wpX3_takesNumber_59 (post : Int32 → mF → mR → mL → mG → Prop) (x1 : Int32) (x2 : Int32) (F : mF) (R : mR) (L : mL) (G : mG) : Prop := (((F 22) = 0 → post x1 (va_up F 22 0) R L G) ∧ (¬ (F 22) = 0 → ((x2 ≤ 0 → post x1 (va_up F 22 0) R L G) ∧ (¬ x2 ≤ 0 → post x1 (va_up F 22 1) R L G))))
def wpX3_takesNumber_4 (post : Int32 → mF → mR → mL → mG → Prop) : Nat → Int32 → Int32 → mF → mR → mL → mG → Prop
  | 0 => fun _ _ _ _ _ _ => False
  | n + 1 => fun x1 x2 F R L G => (((F 22) = 0 → wpX3_takesNumber_59 post x1 x2 F R L G) ∧ (¬ (F 22) = 0 → ((4 ≤ x2 → wpX3_takesNumber_59 post x1 x2 F R L G) ∧ (¬ 4 ≤ x2 → wpX3_here (fun r_5 F_6 R_7 L_8 G_9 => wpX3_in (fun r_10 => ((r_10 = 0 → wpX3_takesNumber_59 post x1 x2 F_6 R_7 L_8 G_9) ∧ (¬ r_10 = 0 → wpX3_here (fun r_12 F_13 R_14 L_15 G_16 => (∀ x1_17 : Int32, x1_17 = ((10 * x1) + r_12) - 48 → (∀ x2_18 : Int32, x2_18 = x2 + 1 → wpX3_takesNumber_4 post n x1_17 x2_18 (va_up F_13 20 ((F_13 20) + 1)) R_14 L_15 G_16))) F_6 R_7 L_8 G_9))) r_5 48 57) F R L G))))
def wpX3_takesNumber (post : Int32 → mF → mR → mL → mG → Prop) (F : mF) (R : mR) (L : mL) (G : mG) : Prop := ∃ fu : Nat, wpX3_takesNumber_4 post fu 0 0 F R L G
abbrev wsX3_takesNumber : List Cond := ws_ yX3_takesNumber cX3_takesNumber 3 (some .int)
set_option maxHeartbeats 8000000 in
theorem metX3_takesNumber (l : Launch) (K : KT) (h : Nat) (a : Nat → Nat) (hap : mAp h a) (post : Int32 → mF → mR → mL → mG → Prop) (F : mF) (R : mR) (L : mL) (G : mG) : Met l yX3_takesNumber wsX3_takesNumber (rmo 1 22) (mPre K h a F R L G [] (wpX3_takesNumber post F R L G )) (mQi post K h a) 0 0 (mA h a) := by
  refine Met.ofW (cc := cX3_takesNumber) (maxL := 3) (ret := (some .int)) (by decide) rfl ?_
  intro p e s m args below meth c s₁ B hml hv
  obtain ⟨rfl, hP, hK, hw⟩ := hv
  have hx := B.exec
  have hb := B.bytes
  have hr := B.returns
  have hts := atoms_spec (ws := wsX3_takesNumber) B.pre
  have hts : ∀ w ∈ lw_all, w.before _ s = true := fun w h => hts w (List.mem_cons_of_mem _ h)
  have hown : s.vm.findClass RX3 = some m.cls := findClass_of_methodNamed B.named
  have hlocks := B.notSynchronized
  have hl := lv_entry ([.ref h]) (n := 3) (Nat.le_of_ble_eq_true rfl)
  rw [lg_entry_eq]
  generalize (lg_sl ([.ref h]) ++ List.replicate (3 - (lg_sl ([.ref h])).length) Slot.unset).toArray = ls at hl ⊢
  have hl : lv_has ls 3 [(0, .ref h)] := hl
  have hS : va_S (mA h a) s.heap s.heap [] := va_S.rf
  have T59 : ∀ (x1 : Int32) (x2 : Int32) (F : mF) (R : mR) (L : mL) (G : mG) (H : Heap) (locs : List Loc) (ls : Array Slot), mP K h a F R L G H → va_S (mA h a) s.heap H locs → lv_has ls 3 [(0, .ref h), (1, .int x1), (2, .int x2)] → wpX3_takesNumber_59 post x1 x2 F R L G → W p l e (rmo 1 22) s m ([.ref h] : List Value).toArray below meth c H locs 0 0 (MQ below (mQi post K h a) ([.ref h] : List Value).toArray s 0 0 (mA h a)) (F0 m 59 ls []) := by
    intro x1 x2 F R L G H locs ls hP hS hl hw
    unfold wpX3_takesNumber_59 at hw
    refine lv_aload_n hx hb dX3_takesNumber_59 rfl (lv_at hl 0 rfl) ?_
    refine lv_aload_n hx hb dX3_takesNumber_60 rfl (lv_at hl 0 rfl) ?_
    refine m_get hx hb hts hown hK hP 22 (by decide) q1750 rfl dX3_takesNumber_61 ?_
    refine lv_if_eq (tgt := 75) hx hb dX3_takesNumber_64 (by decide) (fun c_1 => ?_) (fun c_1 => ?_)
    · have hw := hw.1 c_1
      refine lv_iconst (v := 0) hx hb dX3_takesNumber_75 (by decide) ?_
      refine m_puti hx hb hts hown hK hap hP hS 22 (by decide) q1750 rfl rfl rfl rfl dX3_takesNumber_76 (fun H locs hP hS => ?_)
      refine lv_iload_n hx hb dX3_takesNumber_79 rfl (lv_at hl 1 rfl) ?_
      exact m_iret hx hb hr hlocks hP hS dX3_takesNumber_80 hw
    · have hw := hw.2 c_1
      refine lv_iload_n hx hb dX3_takesNumber_67 rfl (lv_at hl 2 rfl) ?_
      refine lv_if_le (tgt := 75) hx hb dX3_takesNumber_68 (by decide) (fun c_2 => ?_) (fun c_2 => ?_)
      · have hw := hw.1 c_2
        refine lv_iconst (v := 0) hx hb dX3_takesNumber_75 (by decide) ?_
        refine m_puti hx hb hts hown hK hap hP hS 22 (by decide) q1750 rfl rfl rfl rfl dX3_takesNumber_76 (fun H locs hP hS => ?_)
        refine lv_iload_n hx hb dX3_takesNumber_79 rfl (lv_at hl 1 rfl) ?_
        exact m_iret hx hb hr hlocks hP hS dX3_takesNumber_80 hw
      · have hw := hw.2 c_2
        refine lv_iconst (v := 1) hx hb dX3_takesNumber_71 (by decide) ?_
        refine lv_goto (tgt := 76) hx hb dX3_takesNumber_72 (by decide) ?_
        refine m_puti hx hb hts hown hK hap hP hS 22 (by decide) q1750 rfl rfl rfl rfl dX3_takesNumber_76 (fun H locs hP hS => ?_)
        refine lv_iload_n hx hb dX3_takesNumber_79 rfl (lv_at hl 1 rfl) ?_
        exact m_iret hx hb hr hlocks hP hS dX3_takesNumber_80 hw
  have T4 : ∀ (n : Nat), ∀ (x1 : Int32) (x2 : Int32) (F : mF) (R : mR) (L : mL) (G : mG) (H : Heap) (locs : List Loc) (ls : Array Slot), mP K h a F R L G H → va_S (mA h a) s.heap H locs → lv_has ls 3 [(0, .ref h), (1, .int x1), (2, .int x2)] → wpX3_takesNumber_4 post n x1 x2 F R L G → W p l e (rmo 1 22) s m ([.ref h] : List Value).toArray below meth c H locs 0 0 (MQ below (mQi post K h a) ([.ref h] : List Value).toArray s 0 0 (mA h a)) (F0 m 4 ls []) := by
    intro n
    induction n with
    | zero =>
      intro x1 x2 F R L G H locs ls hP hS hl hw
      exact False.elim hw
    | succ n ih =>
      intro x1 x2 F R L G H locs ls hP hS hl hw
      unfold wpX3_takesNumber_4 at hw
      refine lv_aload_n hx hb dX3_takesNumber_4 rfl (lv_at hl 0 rfl) ?_
      refine m_get hx hb hts hown hK hP 22 (by decide) q1750 rfl dX3_takesNumber_5 ?_
      refine lv_if_eq (tgt := 59) hx hb dX3_takesNumber_8 (by decide) (fun c_3 => ?_) (fun c_3 => ?_)
      · have hw := hw.1 c_3
        exact T59 x1 x2 F R L G _ _ ls hP hS (lv_sub hl [0, 1, 2] rfl) hw
      · have hw := hw.2 c_3
        refine lv_iload_n hx hb dX3_takesNumber_11 rfl (lv_at hl 2 rfl) ?_
        refine lv_iconst (v := 4) hx hb dX3_takesNumber_12 (by decide) ?_
        refine lv_icmp_ge (tgt := 59) hx hb dX3_takesNumber_13 (by decide) (fun c_4 => ?_) (fun c_4 => ?_)
        · have hw := hw.1 c_4
          exact T59 x1 x2 F R L G _ _ ls hP hS (lv_sub hl [0, 1, 2] rfl) hw
        · have hw := hw.2 c_4
          refine lv_aload_n hx hb dX3_takesNumber_16 rfl (lv_at hl 0 rfl) ?_
          refine m_calli (As := []) (rest := []) ⟨hx, hb, hml, hown, hts⟩ (metX3_here l K h a hap _ F R L G) (cwV 0 hts (lw_V q2298 q2300 qs70 q85 q2301) rfl rfl rfl (by decide +kernel) ⟨Nat.le_of_ble_eq_true rfl, Nat.le_of_ble_eq_true rfl⟩) hK hP hS hw rfl hl.1 rfl (Nat.le_of_ble_eq_true rfl) dX3_takesNumber_17 ⟨Nat.le_refl _, Nat.le_refl _⟩ (fun r_5 F_6 R_7 L_8 G_9 H locs hw hP hS => ?_)
          refine lv_bipush (v := 48) hx hb dX3_takesNumber_20 (by decide) ?_
          refine lv_bipush (v := 57) hx hb dX3_takesNumber_22 (by decide) ?_
          refine s_calli (As := [.int r_5, .int 48, .int 57]) (rest := []) ⟨hx, hb, hml, hown, hts⟩ (metX3_in l _ r_5 48 57) (va_cwS 3 hts (lw_S q1858 q1859 q85 q1860) rfl rfl rfl (by decide +kernel) ⟨Nat.le_of_ble_eq_true rfl, Nat.le_of_ble_eq_true rfl⟩) hw rfl hl.1 rfl (Nat.le_of_ble_eq_true rfl) dX3_takesNumber_24 ⟨Nat.le_refl _, Nat.le_refl _⟩ (fun r_10 hw => ?_)
          refine lv_if_eq (tgt := 59) hx hb dX3_takesNumber_27 (by decide) (fun c_11 => ?_) (fun c_11 => ?_)
          · have hw := hw.1 c_11
            exact T59 x1 x2 F_6 R_7 L_8 G_9 _ _ ls hP hS (lv_sub hl [0, 1, 2] rfl) hw
          · have hw := hw.2 c_11
            refine lv_bipush (v := 10) hx hb dX3_takesNumber_30 (by decide) ?_
            refine lv_iload_n hx hb dX3_takesNumber_32 rfl (lv_at hl 1 rfl) ?_
            refine lv_imul hx hb dX3_takesNumber_33 ?_
            refine lv_aload_n hx hb dX3_takesNumber_34 rfl (lv_at hl 0 rfl) ?_
            refine m_calli (As := []) (rest := [.int (10 * x1)]) ⟨hx, hb, hml, hown, hts⟩ (metX3_here l K h a hap _ F_6 R_7 L_8 G_9) (cwV 0 hts (lw_V q2298 q2300 qs70 q85 q2301) rfl rfl rfl (by decide +kernel) ⟨Nat.le_of_ble_eq_true rfl, Nat.le_of_ble_eq_true rfl⟩) hK hP hS hw rfl hl.1 rfl (Nat.le_of_ble_eq_true rfl) dX3_takesNumber_35 ⟨Nat.le_refl _, Nat.le_refl _⟩ (fun r_12 F_13 R_14 L_15 G_16 H locs hw hP hS => ?_)
            refine lv_iadd hx hb dX3_takesNumber_38 ?_
            refine lv_bipush (v := 48) hx hb dX3_takesNumber_39 (by decide) ?_
            refine lv_isub hx hb dX3_takesNumber_41 ?_
            refine lv_topi (fun x1_17 ex1_17 => ?_)
            have hw := hw x1_17 ex1_17
            refine lv_istore_n (lv' := [(1, .int x1_17), (0, .ref h), (2, .int x2)]) hx hb dX3_takesNumber_42 rfl hl (by decide) rfl (fun ls hl => ?_)
            obtain ⟨x2_18, ex2_18⟩ : ∃ y : Int32, y = x2 + 1 := ⟨_, rfl⟩
            have hw := hw x2_18 ex2_18
            refine lv_iinc (v := x2_18) (lv' := [(2, .int x2_18), (1, .int x1_17), (0, .ref h)]) hx hb dX3_takesNumber_43 hl (k := 2) rfl (by rw [ex2_18]; rfl) (by decide) rfl (fun ls hl => ?_)
            refine lv_aload_n hx hb dX3_takesNumber_46 rfl (lv_at hl 2 rfl) ?_
            refine lv_dup hx hb dX3_takesNumber_47 rfl ?_
            refine m_get hx hb hts hown hK hP 20 (by decide) q1748 rfl dX3_takesNumber_48 ?_
            refine lv_iconst (v := 1) hx hb dX3_takesNumber_51 (by decide) ?_
            refine lv_iadd hx hb dX3_takesNumber_52 ?_
            refine m_puti hx hb hts hown hK hap hP hS 20 (by decide) q1748 rfl rfl rfl rfl dX3_takesNumber_53 (fun H locs hP hS => ?_)
            refine lv_goto (tgt := 4) hx hb dX3_takesNumber_56 (by decide) ?_
            exact ih x1_17 x2_18 (va_up F_13 20 ((F_13 20) + 1)) R_14 L_15 G_16 _ _ ls hP hS (lv_sub hl [2, 1, 0] rfl) hw
  unfold wpX3_takesNumber at hw
  refine lv_iconst (v := 0) hx hb dX3_takesNumber_0 (by decide) ?_
  refine lv_istore_n (lv' := [(1, .int 0), (0, .ref h)]) hx hb dX3_takesNumber_1 rfl hl (by decide) rfl (fun ls hl => ?_)
  refine lv_iconst (v := 0) hx hb dX3_takesNumber_2 (by decide) ?_
  refine lv_istore_n (lv' := [(2, .int 0), (1, .int 0), (0, .ref h)]) hx hb dX3_takesNumber_3 rfl hl (by decide) rfl (fun ls hl => ?_)
  obtain ⟨fu, hw⟩ := hw
  exact T4 fu 0 0 F R L G _ _ ls hP hS (lv_sub hl [2, 1, 0] rfl) hw
def wpX3_takesOrder_161 (post : mF → mR → mL → mG → Prop) (z1 : Int32) (F : mF) (R : mR) (L : mL) (G : mG) : Prop := wpX3_takes (fun F_1 R_2 L_3 G_4 => post F_1 R_2 L_3 G_4) F R L G z1
def wpX3_takesOrder_146 (post : mF → mR → mL → mG → Prop) (F : mF) (R : mR) (L : mL) (G : mG) : Prop := wpX3_here (fun r_5 F_6 R_7 L_8 G_9 => ((r_5 = 59 → wpX3_takesOrder_161 post 1 F_6 R_7 L_8 G_9) ∧ (¬ r_5 = 59 → wpX3_takesOrder_161 post 0 F_6 R_7 L_8 G_9))) F R L G
def wpX3_takesOrder_135 (post : mF → mR → mL → mG → Prop) (z1 : Int32) (F : mF) (R : mR) (L : mL) (G : mG) : Prop := wpX3_takes (fun F_11 R_12 L_13 G_14 => wpX3_takesNumber (fun r_15 F_16 R_17 L_18 G_19 => wpX3_takesOrder_146 post (va_up F_16 25 r_15) R_17 L_18 G_19) F_11 R_12 L_13 G_14) F R L G z1
def wpX3_takesOrder_116 (post : mF → mR → mL → mG → Prop) (x2 : Int32) (F : mF) (R : mR) (L : mL) (G : mG) : Prop := ((x2 = 0 → wpX3_takesOrder_146 post F R L G) ∧ (¬ x2 = 0 → wpX3_here (fun r_21 F_22 R_23 L_24 G_25 => ((r_21 = 44 → wpX3_takesOrder_135 post 1 F_22 R_23 L_24 G_25) ∧ (¬ r_21 = 44 → wpX3_takesOrder_135 post 0 F_22 R_23 L_24 G_25))) F R L G))
def wpX3_takesOrder_101 (post : mF → mR → mL → mG → Prop) (x1 : Int32) (x2 : Int32) (z1 : Int32) (F : mF) (R : mR) (L : mL) (G : mG) : Prop := wpX3_takes (fun F_27 R_28 L_29 G_30 => ((x1 = 0 → wpX3_takesNumber (fun r_32 F_33 R_34 L_35 G_36 => wpX3_takesOrder_116 post x2 (va_up F_33 24 r_32) R_34 L_35 G_36) F_27 R_28 L_29 G_30) ∧ (¬ x1 = 0 → wpX3_takesOrder_116 post x2 F_27 R_28 L_29 G_30))) F R L G z1
def wpX3_takesOrder_96 (post : mF → mR → mL → mG → Prop) (x1 : Int32) (x2 : Int32) (F : mF) (R : mR) (L : mL) (G : mG) : Prop := wpX3_takesOrder_101 post x1 x2 1 F R L G
def wpX3_takesOrder_68 (post : mF → mR → mL → mG → Prop) (x1 : Int32) (z0 : Int32) (F : mF) (R : mR) (L : mL) (G : mG) : Prop := ((x1 = 0 → ((z0 = 0 → (((F 23) = 97 → wpX3_takesOrder_96 post x1 z0 F R L G) ∧ (¬ (F 23) = 97 → (((F 23) = 100 → wpX3_takesOrder_96 post x1 z0 F R L G) ∧ (¬ (F 23) = 100 → wpX3_takesOrder_101 post x1 z0 0 F R L G))))) ∧ (¬ z0 = 0 → wpX3_takesOrder_96 post x1 z0 F R L G))) ∧ (¬ x1 = 0 → wpX3_takesOrder_96 post x1 z0 F R L G))
def wpX3_takesOrder_63 (post : mF → mR → mL → mG → Prop) (x1 : Int32) (F : mF) (R : mR) (L : mL) (G : mG) : Prop := wpX3_takesOrder_68 post x1 1 F R L G
def wpX3_takesOrder_35 (post : mF → mR → mL → mG → Prop) (z0 : Int32) (F : mF) (R : mR) (L : mL) (G : mG) : Prop := (((F 23) = 119 → wpX3_takesOrder_63 post z0 F R L G) ∧ (¬ (F 23) = 119 → (((F 23) = 109 → wpX3_takesOrder_63 post z0 F R L G) ∧ (¬ (F 23) = 109 → (((F 23) = 116 → wpX3_takesOrder_63 post z0 F R L G) ∧ (¬ (F 23) = 116 → wpX3_takesOrder_68 post z0 0 F R L G))))))
def wpX3_takesOrder (post : mF → mR → mL → mG → Prop) (F : mF) (R : mR) (L : mL) (G : mG) : Prop := wpX3_here (fun r_44 F_45 R_46 L_47 G_48 => ((((va_up F_45 23 r_44) 23) = 120 → wpX3_takesOrder_35 post 1 (va_up F_45 23 r_44) R_46 L_47 G_48) ∧ (¬ ((va_up F_45 23 r_44) 23) = 120 → wpX3_takesOrder_35 post 0 (va_up F_45 23 r_44) R_46 L_47 G_48))) (va_up (va_up F 21 (F 20)) 22 1) R L G
abbrev wsX3_takesOrder : List Cond := ws_ yX3_takesOrder cX3_takesOrder 3 none
set_option maxHeartbeats 8000000 in
theorem metX3_takesOrder (l : Launch) (K : KT) (h : Nat) (a : Nat → Nat) (hap : mAp h a) (post : mF → mR → mL → mG → Prop) (F : mF) (R : mR) (L : mL) (G : mG) : Met l yX3_takesOrder wsX3_takesOrder (rmo 2 44) (mPre K h a F R L G [] (wpX3_takesOrder post F R L G )) (mQv post K h a) 0 0 (mA h a) := by
  refine Met.ofW (cc := cX3_takesOrder) (maxL := 3) (ret := none) (by decide) rfl ?_
  intro p e s m args below meth c s₁ B hml hv
  obtain ⟨rfl, hP, hK, hw⟩ := hv
  have hx := B.exec
  have hb := B.bytes
  have hr := B.returns
  have hts := atoms_spec (ws := wsX3_takesOrder) B.pre
  have hts : ∀ w ∈ lw_all, w.before _ s = true := fun w h => hts w (List.mem_cons_of_mem _ h)
  have hown : s.vm.findClass RX3 = some m.cls := findClass_of_methodNamed B.named
  have hlocks := B.notSynchronized
  have hl := lv_entry ([.ref h]) (n := 3) (Nat.le_of_ble_eq_true rfl)
  rw [lg_entry_eq]
  generalize (lg_sl ([.ref h]) ++ List.replicate (3 - (lg_sl ([.ref h])).length) Slot.unset).toArray = ls at hl ⊢
  have hl : lv_has ls 3 [(0, .ref h)] := hl
  have hS : va_S (mA h a) s.heap s.heap [] := va_S.rf
  have T161 : ∀ (z1 : Int32) (F : mF) (R : mR) (L : mL) (G : mG) (H : Heap) (locs : List Loc) (ls : Array Slot), mP K h a F R L G H → va_S (mA h a) s.heap H locs → lv_has ls 3 [] → wpX3_takesOrder_161 post z1 F R L G → W p l e (rmo 2 44) s m ([.ref h] : List Value).toArray below meth c H locs 0 0 (MQ below (mQv post K h a) ([.ref h] : List Value).toArray s 0 0 (mA h a)) (F0 m 161 ls [.int z1, .ref h]) := by
    intro z1 F R L G H locs ls hP hS hl hw
    unfold wpX3_takesOrder_161 at hw
    refine m_callv (As := [.int z1]) (rest := []) ⟨hx, hb, hml, hown, hts⟩ (metX3_takes l K h a hap _ F R L G z1) (cwV 1 hts (lw_V q2302 q2304 qs71 q85 q2305) rfl rfl rfl (by decide +kernel) ⟨Nat.le_of_ble_eq_true rfl, Nat.le_of_ble_eq_true rfl⟩) hK hP hS hw rfl hl.1 rfl (Nat.le_of_ble_eq_true rfl) dX3_takesOrder_161 ⟨Nat.le_refl _, Nat.le_refl _⟩ (fun F_1 R_2 L_3 G_4 H locs hw hP hS => ?_)
    exact m_vret hx hb hr hlocks hP hS dX3_takesOrder_164 hw
  have T146 : ∀ (F : mF) (R : mR) (L : mL) (G : mG) (H : Heap) (locs : List Loc) (ls : Array Slot), mP K h a F R L G H → va_S (mA h a) s.heap H locs → lv_has ls 3 [(0, .ref h)] → wpX3_takesOrder_146 post F R L G → W p l e (rmo 2 44) s m ([.ref h] : List Value).toArray below meth c H locs 0 0 (MQ below (mQv post K h a) ([.ref h] : List Value).toArray s 0 0 (mA h a)) (F0 m 146 ls []) := by
    intro  F R L G H locs ls hP hS hl hw
    unfold wpX3_takesOrder_146 at hw
    refine lv_aload_n hx hb dX3_takesOrder_146 rfl (lv_at hl 0 rfl) ?_
    refine lv_aload_n hx hb dX3_takesOrder_147 rfl (lv_at hl 0 rfl) ?_
    refine m_calli (As := []) (rest := [.ref h]) ⟨hx, hb, hml, hown, hts⟩ (metX3_here l K h a hap _ F R L G) (cwV 0 hts (lw_V q2298 q2300 qs70 q85 q2301) rfl rfl rfl (by decide +kernel) ⟨Nat.le_of_ble_eq_true rfl, Nat.le_of_ble_eq_true rfl⟩) hK hP hS hw rfl hl.1 rfl (Nat.le_of_ble_eq_true rfl) dX3_takesOrder_148 ⟨Nat.le_refl _, Nat.le_refl _⟩ (fun r_5 F_6 R_7 L_8 G_9 H locs hw hP hS => ?_)
    refine lv_bipush (v := 59) hx hb dX3_takesOrder_151 (by decide) ?_
    refine lv_icmp_ne (tgt := 160) hx hb dX3_takesOrder_153 (by decide) (fun c_10 => ?_) (fun c_10 => ?_)
    · have hw := hw.2 (c_10)
      refine lv_iconst (v := 0) hx hb dX3_takesOrder_160 (by decide) ?_
      exact T161 0 F_6 R_7 L_8 G_9 _ _ ls hP hS (lv_sub hl [] rfl) hw
    · have hw := hw.1 (c_10)
      refine lv_iconst (v := 1) hx hb dX3_takesOrder_156 (by decide) ?_
      refine lv_goto (tgt := 161) hx hb dX3_takesOrder_157 (by decide) ?_
      exact T161 1 F_6 R_7 L_8 G_9 _ _ ls hP hS (lv_sub hl [] rfl) hw
  have T135 : ∀ (z1 : Int32) (F : mF) (R : mR) (L : mL) (G : mG) (H : Heap) (locs : List Loc) (ls : Array Slot), mP K h a F R L G H → va_S (mA h a) s.heap H locs → lv_has ls 3 [(0, .ref h)] → wpX3_takesOrder_135 post z1 F R L G → W p l e (rmo 2 44) s m ([.ref h] : List Value).toArray below meth c H locs 0 0 (MQ below (mQv post K h a) ([.ref h] : List Value).toArray s 0 0 (mA h a)) (F0 m 135 ls [.int z1, .ref h]) := by
    intro z1 F R L G H locs ls hP hS hl hw
    unfold wpX3_takesOrder_135 at hw
    refine m_callv (As := [.int z1]) (rest := []) ⟨hx, hb, hml, hown, hts⟩ (metX3_takes l K h a hap _ F R L G z1) (cwV 1 hts (lw_V q2302 q2304 qs71 q85 q2305) rfl rfl rfl (by decide +kernel) ⟨Nat.le_of_ble_eq_true rfl, Nat.le_of_ble_eq_true rfl⟩) hK hP hS hw rfl hl.1 rfl (Nat.le_of_ble_eq_true rfl) dX3_takesOrder_135 ⟨Nat.le_refl _, Nat.le_refl _⟩ (fun F_11 R_12 L_13 G_14 H locs hw hP hS => ?_)
    refine lv_aload_n hx hb dX3_takesOrder_138 rfl (lv_at hl 0 rfl) ?_
    refine lv_aload_n hx hb dX3_takesOrder_139 rfl (lv_at hl 0 rfl) ?_
    refine m_calli (As := []) (rest := [.ref h]) ⟨hx, hb, hml, hown, hts⟩ (metX3_takesNumber l K h a hap _ F_11 R_12 L_13 G_14) (cwV 0 hts (lw_V q2306 q2308 qs72 q85 q2309) rfl rfl rfl (by decide +kernel) ⟨Nat.le_of_ble_eq_true rfl, Nat.le_of_ble_eq_true rfl⟩) hK hP hS hw rfl hl.1 rfl (Nat.le_of_ble_eq_true rfl) dX3_takesOrder_140 ⟨Nat.le_refl _, Nat.le_refl _⟩ (fun r_15 F_16 R_17 L_18 G_19 H locs hw hP hS => ?_)
    refine m_puti hx hb hts hown hK hap hP hS 25 (by decide) q1753 rfl rfl rfl rfl dX3_takesOrder_143 (fun H locs hP hS => ?_)
    exact T146 (va_up F_16 25 r_15) R_17 L_18 G_19 _ _ ls hP hS (lv_sub hl [0] rfl) hw
  have T116 : ∀ (x2 : Int32) (F : mF) (R : mR) (L : mL) (G : mG) (H : Heap) (locs : List Loc) (ls : Array Slot), mP K h a F R L G H → va_S (mA h a) s.heap H locs → lv_has ls 3 [(0, .ref h), (2, .int x2)] → wpX3_takesOrder_116 post x2 F R L G → W p l e (rmo 2 44) s m ([.ref h] : List Value).toArray below meth c H locs 0 0 (MQ below (mQv post K h a) ([.ref h] : List Value).toArray s 0 0 (mA h a)) (F0 m 116 ls []) := by
    intro x2 F R L G H locs ls hP hS hl hw
    unfold wpX3_takesOrder_116 at hw
    refine lv_iload_n hx hb dX3_takesOrder_116 rfl (lv_at hl 1 rfl) ?_
    refine lv_if_eq (tgt := 146) hx hb dX3_takesOrder_117 (by decide) (fun c_20 => ?_) (fun c_20 => ?_)
    · have hw := hw.1 c_20
      exact T146 F R L G _ _ ls hP hS (lv_sub hl [0] rfl) hw
    · have hw := hw.2 c_20
      refine lv_aload_n hx hb dX3_takesOrder_120 rfl (lv_at hl 0 rfl) ?_
      refine lv_aload_n hx hb dX3_takesOrder_121 rfl (lv_at hl 0 rfl) ?_
      refine m_calli (As := []) (rest := [.ref h]) ⟨hx, hb, hml, hown, hts⟩ (metX3_here l K h a hap _ F R L G) (cwV 0 hts (lw_V q2298 q2300 qs70 q85 q2301) rfl rfl rfl (by decide +kernel) ⟨Nat.le_of_ble_eq_true rfl, Nat.le_of_ble_eq_true rfl⟩) hK hP hS hw rfl hl.1 rfl (Nat.le_of_ble_eq_true rfl) dX3_takesOrder_122 ⟨Nat.le_refl _, Nat.le_refl _⟩ (fun r_21 F_22 R_23 L_24 G_25 H locs hw hP hS => ?_)
      refine lv_bipush (v := 44) hx hb dX3_takesOrder_125 (by decide) ?_
      refine lv_icmp_ne (tgt := 134) hx hb dX3_takesOrder_127 (by decide) (fun c_26 => ?_) (fun c_26 => ?_)
      · have hw := hw.2 (c_26)
        refine lv_iconst (v := 0) hx hb dX3_takesOrder_134 (by decide) ?_
        exact T135 0 F_22 R_23 L_24 G_25 _ _ ls hP hS (lv_sub hl [0] rfl) hw
      · have hw := hw.1 (c_26)
        refine lv_iconst (v := 1) hx hb dX3_takesOrder_130 (by decide) ?_
        refine lv_goto (tgt := 135) hx hb dX3_takesOrder_131 (by decide) ?_
        exact T135 1 F_22 R_23 L_24 G_25 _ _ ls hP hS (lv_sub hl [0] rfl) hw
  have T101 : ∀ (x1 : Int32) (x2 : Int32) (z1 : Int32) (F : mF) (R : mR) (L : mL) (G : mG) (H : Heap) (locs : List Loc) (ls : Array Slot), mP K h a F R L G H → va_S (mA h a) s.heap H locs → lv_has ls 3 [(0, .ref h), (1, .int x1), (2, .int x2)] → wpX3_takesOrder_101 post x1 x2 z1 F R L G → W p l e (rmo 2 44) s m ([.ref h] : List Value).toArray below meth c H locs 0 0 (MQ below (mQv post K h a) ([.ref h] : List Value).toArray s 0 0 (mA h a)) (F0 m 101 ls [.int z1, .ref h]) := by
    intro x1 x2 z1 F R L G H locs ls hP hS hl hw
    unfold wpX3_takesOrder_101 at hw
    refine m_callv (As := [.int z1]) (rest := []) ⟨hx, hb, hml, hown, hts⟩ (metX3_takes l K h a hap _ F R L G z1) (cwV 1 hts (lw_V q2302 q2304 qs71 q85 q2305) rfl rfl rfl (by decide +kernel) ⟨Nat.le_of_ble_eq_true rfl, Nat.le_of_ble_eq_true rfl⟩) hK hP hS hw rfl hl.1 rfl (Nat.le_of_ble_eq_true rfl) dX3_takesOrder_101 ⟨Nat.le_refl _, Nat.le_refl _⟩ (fun F_27 R_28 L_29 G_30 H locs hw hP hS => ?_)
    refine lv_iload_n hx hb dX3_takesOrder_104 rfl (lv_at hl 1 rfl) ?_
    refine lv_if_ne (tgt := 116) hx hb dX3_takesOrder_105 (by decide) (fun c_31 => ?_) (fun c_31 => ?_)
    · have hw := hw.2 (c_31)
      exact T116 x2 F_27 R_28 L_29 G_30 _ _ ls hP hS (lv_sub hl [0, 2] rfl) hw
    · have hw := hw.1 (c_31)
      refine lv_aload_n hx hb dX3_takesOrder_108 rfl (lv_at hl 0 rfl) ?_
      refine lv_aload_n hx hb dX3_takesOrder_109 rfl (lv_at hl 0 rfl) ?_
      refine m_calli (As := []) (rest := [.ref h]) ⟨hx, hb, hml, hown, hts⟩ (metX3_takesNumber l K h a hap _ F_27 R_28 L_29 G_30) (cwV 0 hts (lw_V q2306 q2308 qs72 q85 q2309) rfl rfl rfl (by decide +kernel) ⟨Nat.le_of_ble_eq_true rfl, Nat.le_of_ble_eq_true rfl⟩) hK hP hS hw rfl hl.1 rfl (Nat.le_of_ble_eq_true rfl) dX3_takesOrder_110 ⟨Nat.le_refl _, Nat.le_refl _⟩ (fun r_32 F_33 R_34 L_35 G_36 H locs hw hP hS => ?_)
      refine m_puti hx hb hts hown hK hap hP hS 24 (by decide) q1752 rfl rfl rfl rfl dX3_takesOrder_113 (fun H locs hP hS => ?_)
      exact T116 x2 (va_up F_33 24 r_32) R_34 L_35 G_36 _ _ ls hP hS (lv_sub hl [0, 2] rfl) hw
  have T96 : ∀ (x1 : Int32) (x2 : Int32) (F : mF) (R : mR) (L : mL) (G : mG) (H : Heap) (locs : List Loc) (ls : Array Slot), mP K h a F R L G H → va_S (mA h a) s.heap H locs → lv_has ls 3 [(0, .ref h), (1, .int x1), (2, .int x2)] → wpX3_takesOrder_96 post x1 x2 F R L G → W p l e (rmo 2 44) s m ([.ref h] : List Value).toArray below meth c H locs 0 0 (MQ below (mQv post K h a) ([.ref h] : List Value).toArray s 0 0 (mA h a)) (F0 m 96 ls [.ref h]) := by
    intro x1 x2 F R L G H locs ls hP hS hl hw
    unfold wpX3_takesOrder_96 at hw
    refine lv_iconst (v := 1) hx hb dX3_takesOrder_96 (by decide) ?_
    refine lv_goto (tgt := 101) hx hb dX3_takesOrder_97 (by decide) ?_
    exact T101 x1 x2 1 F R L G _ _ ls hP hS (lv_sub hl [0, 1, 2] rfl) hw
  have T68 : ∀ (x1 : Int32) (z0 : Int32) (F : mF) (R : mR) (L : mL) (G : mG) (H : Heap) (locs : List Loc) (ls : Array Slot), mP K h a F R L G H → va_S (mA h a) s.heap H locs → lv_has ls 3 [(0, .ref h), (1, .int x1)] → wpX3_takesOrder_68 post x1 z0 F R L G → W p l e (rmo 2 44) s m ([.ref h] : List Value).toArray below meth c H locs 0 0 (MQ below (mQv post K h a) ([.ref h] : List Value).toArray s 0 0 (mA h a)) (F0 m 68 ls [.int z0]) := by
    intro x1 z0 F R L G H locs ls hP hS hl hw
    unfold wpX3_takesOrder_68 at hw
    refine lv_istore_n (lv' := [(2, .int z0), (0, .ref h), (1, .int x1)]) hx hb dX3_takesOrder_68 rfl hl (by decide) rfl (fun ls hl => ?_)
    refine lv_aload_n hx hb dX3_takesOrder_69 rfl (lv_at hl 1 rfl) ?_
    refine lv_iload_n hx hb dX3_takesOrder_70 rfl (lv_at hl 2 rfl) ?_
    refine lv_if_ne (tgt := 96) hx hb dX3_takesOrder_71 (by decide) (fun c_37 => ?_) (fun c_37 => ?_)
    · have hw := hw.2 (c_37)
      exact T96 x1 z0 F R L G _ _ ls hP hS (lv_sub hl [1, 2, 0] rfl) hw
    · have hw := hw.1 (c_37)
      refine lv_iload_n hx hb dX3_takesOrder_74 rfl (lv_at hl 0 rfl) ?_
      refine lv_if_ne (tgt := 96) hx hb dX3_takesOrder_75 (by decide) (fun c_38 => ?_) (fun c_38 => ?_)
      · have hw := hw.2 (c_38)
        exact T96 x1 z0 F R L G _ _ ls hP hS (lv_sub hl [1, 2, 0] rfl) hw
      · have hw := hw.1 (c_38)
        refine lv_aload_n hx hb dX3_takesOrder_78 rfl (lv_at hl 1 rfl) ?_
        refine m_get hx hb hts hown hK hP 23 (by decide) q1751 rfl dX3_takesOrder_79 ?_
        refine lv_bipush (v := 97) hx hb dX3_takesOrder_82 (by decide) ?_
        refine lv_icmp_eq (tgt := 96) hx hb dX3_takesOrder_84 (by decide) (fun c_39 => ?_) (fun c_39 => ?_)
        · have hw := hw.1 c_39
          exact T96 x1 z0 F R L G _ _ ls hP hS (lv_sub hl [1, 2, 0] rfl) hw
        · have hw := hw.2 c_39
          refine lv_aload_n hx hb dX3_takesOrder_87 rfl (lv_at hl 1 rfl) ?_
          refine m_get hx hb hts hown hK hP 23 (by decide) q1751 rfl dX3_takesOrder_88 ?_
          refine lv_bipush (v := 100) hx hb dX3_takesOrder_91 (by decide) ?_
          refine lv_icmp_ne (tgt := 100) hx hb dX3_takesOrder_93 (by decide) (fun c_40 => ?_) (fun c_40 => ?_)
          · have hw := hw.2 (c_40)
            refine lv_iconst (v := 0) hx hb dX3_takesOrder_100 (by decide) ?_
            exact T101 x1 z0 0 F R L G _ _ ls hP hS (lv_sub hl [1, 2, 0] rfl) hw
          · have hw := hw.1 (c_40)
            exact T96 x1 z0 F R L G _ _ ls hP hS (lv_sub hl [1, 2, 0] rfl) hw
  have T63 : ∀ (x1 : Int32) (F : mF) (R : mR) (L : mL) (G : mG) (H : Heap) (locs : List Loc) (ls : Array Slot), mP K h a F R L G H → va_S (mA h a) s.heap H locs → lv_has ls 3 [(0, .ref h), (1, .int x1)] → wpX3_takesOrder_63 post x1 F R L G → W p l e (rmo 2 44) s m ([.ref h] : List Value).toArray below meth c H locs 0 0 (MQ below (mQv post K h a) ([.ref h] : List Value).toArray s 0 0 (mA h a)) (F0 m 63 ls []) := by
    intro x1 F R L G H locs ls hP hS hl hw
    unfold wpX3_takesOrder_63 at hw
    refine lv_iconst (v := 1) hx hb dX3_takesOrder_63 (by decide) ?_
    refine lv_goto (tgt := 68) hx hb dX3_takesOrder_64 (by decide) ?_
    exact T68 x1 1 F R L G _ _ ls hP hS (lv_sub hl [0, 1] rfl) hw
  have T35 : ∀ (z0 : Int32) (F : mF) (R : mR) (L : mL) (G : mG) (H : Heap) (locs : List Loc) (ls : Array Slot), mP K h a F R L G H → va_S (mA h a) s.heap H locs → lv_has ls 3 [(0, .ref h)] → wpX3_takesOrder_35 post z0 F R L G → W p l e (rmo 2 44) s m ([.ref h] : List Value).toArray below meth c H locs 0 0 (MQ below (mQv post K h a) ([.ref h] : List Value).toArray s 0 0 (mA h a)) (F0 m 35 ls [.int z0]) := by
    intro z0 F R L G H locs ls hP hS hl hw
    unfold wpX3_takesOrder_35 at hw
    refine lv_istore_n (lv' := [(1, .int z0), (0, .ref h)]) hx hb dX3_takesOrder_35 rfl hl (by decide) rfl (fun ls hl => ?_)
    refine lv_aload_n hx hb dX3_takesOrder_36 rfl (lv_at hl 1 rfl) ?_
    refine m_get hx hb hts hown hK hP 23 (by decide) q1751 rfl dX3_takesOrder_37 ?_
    refine lv_bipush (v := 119) hx hb dX3_takesOrder_40 (by decide) ?_
    refine lv_icmp_eq (tgt := 63) hx hb dX3_takesOrder_42 (by decide) (fun c_41 => ?_) (fun c_41 => ?_)
    · have hw := hw.1 c_41
      exact T63 z0 F R L G _ _ ls hP hS (lv_sub hl [1, 0] rfl) hw
    · have hw := hw.2 c_41
      refine lv_aload_n hx hb dX3_takesOrder_45 rfl (lv_at hl 1 rfl) ?_
      refine m_get hx hb hts hown hK hP 23 (by decide) q1751 rfl dX3_takesOrder_46 ?_
      refine lv_bipush (v := 109) hx hb dX3_takesOrder_49 (by decide) ?_
      refine lv_icmp_eq (tgt := 63) hx hb dX3_takesOrder_51 (by decide) (fun c_42 => ?_) (fun c_42 => ?_)
      · have hw := hw.1 c_42
        exact T63 z0 F R L G _ _ ls hP hS (lv_sub hl [1, 0] rfl) hw
      · have hw := hw.2 c_42
        refine lv_aload_n hx hb dX3_takesOrder_54 rfl (lv_at hl 1 rfl) ?_
        refine m_get hx hb hts hown hK hP 23 (by decide) q1751 rfl dX3_takesOrder_55 ?_
        refine lv_bipush (v := 116) hx hb dX3_takesOrder_58 (by decide) ?_
        refine lv_icmp_ne (tgt := 67) hx hb dX3_takesOrder_60 (by decide) (fun c_43 => ?_) (fun c_43 => ?_)
        · have hw := hw.2 (c_43)
          refine lv_iconst (v := 0) hx hb dX3_takesOrder_67 (by decide) ?_
          exact T68 z0 0 F R L G _ _ ls hP hS (lv_sub hl [1, 0] rfl) hw
        · have hw := hw.1 (c_43)
          exact T63 z0 F R L G _ _ ls hP hS (lv_sub hl [1, 0] rfl) hw
  unfold wpX3_takesOrder at hw
  refine lv_aload_n hx hb dX3_takesOrder_0 rfl (lv_at hl 0 rfl) ?_
  refine lv_aload_n hx hb dX3_takesOrder_1 rfl (lv_at hl 0 rfl) ?_
  refine m_get hx hb hts hown hK hP 20 (by decide) q1748 rfl dX3_takesOrder_2 ?_
  refine m_puti hx hb hts hown hK hap hP hS 21 (by decide) q1749 rfl rfl rfl rfl dX3_takesOrder_5 (fun H locs hP hS => ?_)
  refine lv_aload_n hx hb dX3_takesOrder_8 rfl (lv_at hl 0 rfl) ?_
  refine lv_iconst (v := 1) hx hb dX3_takesOrder_9 (by decide) ?_
  refine m_puti hx hb hts hown hK hap hP hS 22 (by decide) q1750 rfl rfl rfl rfl dX3_takesOrder_10 (fun H locs hP hS => ?_)
  refine lv_aload_n hx hb dX3_takesOrder_13 rfl (lv_at hl 0 rfl) ?_
  refine lv_aload_n hx hb dX3_takesOrder_14 rfl (lv_at hl 0 rfl) ?_
  refine m_calli (As := []) (rest := [.ref h]) ⟨hx, hb, hml, hown, hts⟩ (metX3_here l K h a hap _ (va_up (va_up F 21 (F 20)) 22 1) R L G) (cwV 0 hts (lw_V q2298 q2300 qs70 q85 q2301) rfl rfl rfl (by decide +kernel) ⟨Nat.le_of_ble_eq_true rfl, Nat.le_of_ble_eq_true rfl⟩) hK hP hS hw rfl hl.1 rfl (Nat.le_of_ble_eq_true rfl) dX3_takesOrder_15 ⟨Nat.le_refl _, Nat.le_refl _⟩ (fun r_44 F_45 R_46 L_47 G_48 H locs hw hP hS => ?_)
  refine m_puti hx hb hts hown hK hap hP hS 23 (by decide) q1751 rfl rfl rfl rfl dX3_takesOrder_18 (fun H locs hP hS => ?_)
  refine lv_aload_n hx hb dX3_takesOrder_21 rfl (lv_at hl 0 rfl) ?_
  refine m_get hx hb hts hown hK hP 23 (by decide) q1751 rfl dX3_takesOrder_22 ?_
  refine lv_bipush (v := 120) hx hb dX3_takesOrder_25 (by decide) ?_
  refine lv_icmp_ne (tgt := 34) hx hb dX3_takesOrder_27 (by decide) (fun c_49 => ?_) (fun c_49 => ?_)
  · have hw := hw.2 (c_49)
    refine lv_iconst (v := 0) hx hb dX3_takesOrder_34 (by decide) ?_
    exact T35 0 (va_up F_45 23 r_44) R_46 L_47 G_48 _ _ ls hP hS (lv_sub hl [0] rfl) hw
  · have hw := hw.1 (c_49)
    refine lv_iconst (v := 1) hx hb dX3_takesOrder_30 (by decide) ?_
    refine lv_goto (tgt := 35) hx hb dX3_takesOrder_31 (by decide) ?_
    exact T35 1 (va_up F_45 23 r_44) R_46 L_47 G_48 _ _ ls hP hS (lv_sub hl [0] rfl) hw

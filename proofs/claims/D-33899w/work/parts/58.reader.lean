/-! the literal texts; the Reader, walked by program -/
set_option maxRecDepth 100000
def wpJ6_isLatin1 (post : Int32 → hX → Prop) (E : Nat) (X : hX) (p0 : Nat) : Prop := (p0 < 2 ∧ (((0 : Int32) = 0 → post 1 X) ∧ (¬ (0 : Int32) = 0 → post 0 X)))
abbrev wsJ6_isLatin1 : List Cond := ws_ yJ6_isLatin1 cJ6_isLatin1 1 (some .boolean)
set_option maxHeartbeats 8000000 in
theorem metJ6_isLatin1 (l : Launch) (K : HK) (sz : Nat) (post : Int32 → hX → Prop) (X0 : hX) (p0 : Nat) : Met l yJ6_isLatin1 wsJ6_isLatin1 (rmh 0 0 0 0) (hPc K X0 sz [.ref (K.2.2 (5 + p0))] (wpJ6_isLatin1 post (K.2.2 0) X0 p0)) (hQi post K X0 sz) 0 0 (hA X0 sz) := by
  refine Met.ofW (cc := cJ6_isLatin1) (maxL := 1) (ret := (some .boolean)) (by decide) rfl ?_
  intro p e s m args below meth c s₁ B hml hv
  obtain ⟨rfl, hv⟩ := hv
  obtain ⟨hC, hP, hw⟩ := HC.of hv
  have hsz : s.heap.size = sz := hv.1
  subst hsz
  clear hv
  have hr := B.returns
  have hts := atoms_spec (ws := wsJ6_isLatin1) B.pre
  have hts : ∀ w ∈ lw_all, w.before _ s = true := fun w h => hts w (List.mem_cons_of_mem _ h)
  have hF : CallFix p m c cJ6_isLatin1 1 s ([.ref (K.2.2 (5 + p0))] : List Value).toArray lw_all RJ6 := ⟨B.exec, B.bytes, hml, findClass_of_methodNamed B.named, hts⟩
  have hlocks := B.notSynchronized
  have hl := lv_entry ([.ref (K.2.2 (5 + p0))]) (n := 1) (Nat.le_of_ble_eq_true rfl)
  rw [lg_entry_eq]
  generalize (lg_sl ([.ref (K.2.2 (5 + p0))]) ++ List.replicate (1 - (lg_sl ([.ref (K.2.2 (5 + p0))])).length) Slot.unset).toArray = ls at hl ⊢
  have hl : lv_has ls 1 [(0, .ref (K.2.2 (5 + p0)))] := hl
  have hS : va_S (hA X0 s.heap.size) s.heap s.heap [] := va_S.rf
  unfold wpJ6_isLatin1 at hw
  show W p l e (rmh 0 0 0 0) s m _ below meth c _ _ _ _ _ _
  refine x_gsC hF hC hS q591 dJ6_isLatin1_0 ?_
  refine lv_if_eq (tgt := 17) hF.1 hF.2.1 dJ6_isLatin1_3 (by decide) (fun z => absurd z (by decide)) (fun _ => ?_)
  refine lv_aload_n hF.1 hF.2.1 dJ6_isLatin1_6 rfl (lv_at hl 0 rfl) ?_
  obtain ⟨h_1, hw⟩ := hw
  refine x_scod hF hC hS h_1 q722 dJ6_isLatin1_7 ?_
  refine lv_if_ne (tgt := 17) hF.1 hF.2.1 dJ6_isLatin1_10 (by decide) (fun c_2 => ?_) (fun c_2 => ?_)
  · have hw := hw.2 c_2
    refine lv_iconst (v := 0) hF.1 hF.2.1 dJ6_isLatin1_17 (by decide) ?_
    exact h_zret hF hr hlocks hP hS ⟨Nat.le_refl _, Nat.le_refl _⟩ dJ6_isLatin1_18 (Or.inl rfl) hw
  · have hw := hw.1 c_2
    refine lv_iconst (v := 1) hF.1 hF.2.1 dJ6_isLatin1_13 (by decide) ?_
    refine lv_goto (tgt := 18) hF.1 hF.2.1 dJ6_isLatin1_14 (by decide) ?_
    exact h_zret hF hr hlocks hP hS ⟨Nat.le_refl _, Nat.le_refl _⟩ dJ6_isLatin1_18 (Or.inr rfl) hw
def wpJ6_coder (post : Int32 → hX → Prop) (E : Nat) (X : hX) (p0 : Nat) : Prop := (p0 < 2 ∧ (narrow .byte (.int (0 : Int32)) = .int (0 : Int32) ∧ post (0 : Int32) X))
abbrev wsJ6_coder : List Cond := ws_ yJ6_coder cJ6_coder 1 (some .byte)
set_option maxHeartbeats 8000000 in
theorem metJ6_coder (l : Launch) (K : HK) (sz : Nat) (post : Int32 → hX → Prop) (X0 : hX) (p0 : Nat) : Met l yJ6_coder wsJ6_coder (rmh 0 0 0 0) (hPc K X0 sz [.ref (K.2.2 (5 + p0))] (wpJ6_coder post (K.2.2 0) X0 p0)) (hQi post K X0 sz) 0 0 (hA X0 sz) := by
  refine Met.ofW (cc := cJ6_coder) (maxL := 1) (ret := (some .byte)) (by decide) rfl ?_
  intro p e s m args below meth c s₁ B hml hv
  obtain ⟨rfl, hv⟩ := hv
  obtain ⟨hC, hP, hw⟩ := HC.of hv
  have hsz : s.heap.size = sz := hv.1
  subst hsz
  clear hv
  have hr := B.returns
  have hts := atoms_spec (ws := wsJ6_coder) B.pre
  have hts : ∀ w ∈ lw_all, w.before _ s = true := fun w h => hts w (List.mem_cons_of_mem _ h)
  have hF : CallFix p m c cJ6_coder 1 s ([.ref (K.2.2 (5 + p0))] : List Value).toArray lw_all RJ6 := ⟨B.exec, B.bytes, hml, findClass_of_methodNamed B.named, hts⟩
  have hlocks := B.notSynchronized
  have hl := lv_entry ([.ref (K.2.2 (5 + p0))]) (n := 1) (Nat.le_of_ble_eq_true rfl)
  rw [lg_entry_eq]
  generalize (lg_sl ([.ref (K.2.2 (5 + p0))]) ++ List.replicate (1 - (lg_sl ([.ref (K.2.2 (5 + p0))])).length) Slot.unset).toArray = ls at hl ⊢
  have hl : lv_has ls 1 [(0, .ref (K.2.2 (5 + p0)))] := hl
  have hS : va_S (hA X0 s.heap.size) s.heap s.heap [] := va_S.rf
  unfold wpJ6_coder at hw
  show W p l e (rmh 0 0 0 0) s m _ below meth c _ _ _ _ _ _
  refine x_gsC hF hC hS q591 dJ6_coder_0 ?_
  refine lv_if_eq (tgt := 13) hF.1 hF.2.1 dJ6_coder_3 (by decide) (fun z => absurd z (by decide)) (fun _ => ?_)
  refine lv_aload_n hF.1 hF.2.1 dJ6_coder_6 rfl (lv_at hl 0 rfl) ?_
  obtain ⟨h_1, hw⟩ := hw
  refine x_scod hF hC hS h_1 q722 dJ6_coder_7 ?_
  refine lv_goto (tgt := 14) hF.1 hF.2.1 dJ6_coder_10 (by decide) ?_
  obtain ⟨h_2, hw⟩ := hw
  exact h_bret hF hr hlocks hP hS ⟨Nat.le_refl _, Nat.le_refl _⟩ dJ6_coder_14 h_2 hw
def wpJ6_length (post : Int32 → hX → Prop) (E : Nat) (X : hX) (p0 : Nat) : Prop := (p0 < 2 ∧ (p0 < 2 ∧ (p0 < 2 ∧ wpJ6_coder (fun r_3 X_4 => post ((Int32.ofNat (lenS p0)) >>> (r_3 &&& 31)) X_4) E X p0)))
abbrev wsJ6_length : List Cond := ws_ yJ6_length cJ6_length 1 (some .int)
set_option maxHeartbeats 8000000 in
theorem metJ6_length (l : Launch) (K : HK) (sz : Nat) (post : Int32 → hX → Prop) (X0 : hX) (p0 : Nat) : Met l yJ6_length wsJ6_length (rmh 1 20 0 0) (hPc K X0 sz [.ref (K.2.2 (5 + p0))] (wpJ6_length post (K.2.2 0) X0 p0)) (hQi post K X0 sz) 0 0 (hA X0 sz) := by
  refine Met.ofW (cc := cJ6_length) (maxL := 1) (ret := (some .int)) (by decide) rfl ?_
  intro p e s m args below meth c s₁ B hml hv
  obtain ⟨rfl, hv⟩ := hv
  obtain ⟨hC, hP, hw⟩ := HC.of hv
  have hsz : s.heap.size = sz := hv.1
  subst hsz
  clear hv
  have hr := B.returns
  have hts := atoms_spec (ws := wsJ6_length) B.pre
  have hts : ∀ w ∈ lw_all, w.before _ s = true := fun w h => hts w (List.mem_cons_of_mem _ h)
  have hF : CallFix p m c cJ6_length 1 s ([.ref (K.2.2 (5 + p0))] : List Value).toArray lw_all RJ6 := ⟨B.exec, B.bytes, hml, findClass_of_methodNamed B.named, hts⟩
  have hlocks := B.notSynchronized
  have hl := lv_entry ([.ref (K.2.2 (5 + p0))]) (n := 1) (Nat.le_of_ble_eq_true rfl)
  rw [lg_entry_eq]
  generalize (lg_sl ([.ref (K.2.2 (5 + p0))]) ++ List.replicate (1 - (lg_sl ([.ref (K.2.2 (5 + p0))])).length) Slot.unset).toArray = ls at hl ⊢
  have hl : lv_has ls 1 [(0, .ref (K.2.2 (5 + p0)))] := hl
  have hS : va_S (hA X0 s.heap.size) s.heap s.heap [] := va_S.rf
  unfold wpJ6_length at hw
  show W p l e (rmh 1 20 0 0) s m _ below meth c _ _ _ _ _ _
  refine lv_aload_n hF.1 hF.2.1 dJ6_length_0 rfl (lv_at hl 0 rfl) ?_
  obtain ⟨h_1, hw⟩ := hw
  refine x_sval hF hC hS h_1 q721 dJ6_length_1 ?_
  obtain ⟨h_2, hw⟩ := hw
  refine x_slen hF hC hS h_2 dJ6_length_4 ?_
  refine lv_aload_n hF.1 hF.2.1 dJ6_length_5 rfl (lv_at hl 0 rfl) ?_
  obtain ⟨h_5, hw⟩ := hw
  refine hk_i (hr_T (As := []) (rest := [.int (Int32.ofNat (lenS p0))]) hF hl.1 hC hP hS h_5 (metJ6_coder l K _ _ X0 p0) (cwV 0 hF.2.2.2.2 (lw_V q587 q588 q589 q83 q590) rfl rfl rfl (by decide +kernel) ⟨Nat.le_of_ble_eq_true rfl, Nat.le_of_ble_eq_true rfl⟩) hw rfl rfl (Nat.le_of_ble_eq_true rfl) dJ6_length_6 ⟨Nat.le_refl _, Nat.le_refl _⟩) hP hS (fun r_3 X_4 H locs hw hP hS => ?_)
  refine lv_ishr hF.1 hF.2.1 dJ6_length_9 ?_
  exact h_iret hF hr hlocks hP hS ⟨Nat.le_refl _, Nat.le_refl _⟩ dJ6_length_10 hw
def wpJ21_canEncode_2 (post : Int32 → Prop) (p0 : Int32) : Prop := ((p0 < 0 → post 0) ∧ (¬ p0 < 0 → ((255 < p0 → post 0) ∧ (¬ 255 < p0 → post 1))))
abbrev wsJ21_canEncode_2 : List Cond := ws_ yJ21_canEncode_2 cJ21_canEncode_2 1 (some .boolean)
set_option maxHeartbeats 8000000 in
theorem metJ21_canEncode_2 (l : Launch) (post : Int32 → Prop) (p0 : Int32) : Met l yJ21_canEncode_2 wsJ21_canEncode_2 (rmo 0 0) (sPre [.int p0] (wpJ21_canEncode_2 post p0)) (vp_Si post) 0 0 (fun _ => False) := by
  refine Met.ofW (cc := cJ21_canEncode_2) (maxL := 1) (ret := (some .boolean)) (by decide) rfl ?_
  intro p e s m args below meth c s₁ B hml hv
  obtain ⟨rfl, hw⟩ := hv
  have hx := B.exec
  have hb := B.bytes
  have hr := B.returns
  have hts := atoms_spec (ws := wsJ21_canEncode_2) B.pre
  have hts : ∀ w ∈ lw_all, w.before _ s = true := fun w h => hts w (List.mem_cons_of_mem _ h)
  have hown : s.vm.findClass RJ21 = some m.cls := findClass_of_methodNamed B.named
  have hlocks := B.notSynchronized
  have hl := lv_entry ([.int p0]) (n := 1) (Nat.le_of_ble_eq_true rfl)
  rw [lg_entry_eq]
  generalize (lg_sl ([.int p0]) ++ List.replicate (1 - (lg_sl ([.int p0])).length) Slot.unset).toArray = ls at hl ⊢
  have hl : lv_has ls 1 [(0, .int p0)] := hl
  unfold wpJ21_canEncode_2 at hw
  refine lv_iload_n hx hb dJ21_canEncode_2_0 rfl (lv_at hl 0 rfl) ?_
  refine lv_if_lt (tgt := 15) hx hb dJ21_canEncode_2_1 (by decide) (fun c_1 => ?_) (fun c_1 => ?_)
  · have hw := hw.1 c_1
    refine lv_iconst (v := 0) hx hb dJ21_canEncode_2_15 (by decide) ?_
    exact s_zret hx hb hr hlocks dJ21_canEncode_2_16 (Or.inl rfl) hw
  · have hw := hw.2 c_1
    refine lv_iload_n hx hb dJ21_canEncode_2_4 rfl (lv_at hl 0 rfl) ?_
    refine lv_sipush (v := 255) hx hb dJ21_canEncode_2_5 (by decide) ?_
    refine lv_icmp_gt (tgt := 15) hx hb dJ21_canEncode_2_8 (by decide) (fun c_2 => ?_) (fun c_2 => ?_)
    · have hw := hw.1 c_2
      refine lv_iconst (v := 0) hx hb dJ21_canEncode_2_15 (by decide) ?_
      exact s_zret hx hb hr hlocks dJ21_canEncode_2_16 (Or.inl rfl) hw
    · have hw := hw.2 c_2
      refine lv_iconst (v := 1) hx hb dJ21_canEncode_2_11 (by decide) ?_
      refine lv_goto (tgt := 16) hx hb dJ21_canEncode_2_12 (by decide) ?_
      exact s_zret hx hb hr hlocks dJ21_canEncode_2_16 (Or.inr rfl) hw
def wpJ21_indexOfChar_7 (post : Int32 → hX → Prop) (E : Nat) : Nat → Nat → Int32 → Int32 → Int32 → hX → Prop
  | 0 => fun _ _ _ _ _ => False
  | n + 1 => fun x0 x3 x4 x5 X => ((x3 ≤ x5 → post (-1) X) ∧ (¬ x3 ≤ x5 → sbL x0 x5 (fun v_2 => ((v_2 = x4 → post x5 X) ∧ (¬ v_2 = x4 → (∀ x5_6 : Int32, x5_6 = x5 + 1 → wpJ21_indexOfChar_7 post E n x0 x3 x4 x5_6 X))))))
def wpJ21_indexOfChar (post : Int32 → hX → Prop) (E : Nat) (X : hX) (p0 : Nat) (p1 : Int32) (p2 : Int32) (p3 : Int32) : Prop := (∀ x4_7 : Int32, x4_7 = Int8.toInt32 (Int32.toInt8 p1) → ∃ fu : Nat, wpJ21_indexOfChar_7 post E fu p0 p3 x4_7 p2 X)
abbrev wsJ21_indexOfChar : List Cond := ws_ yJ21_indexOfChar cJ21_indexOfChar 6 (some .int)
set_option maxHeartbeats 8000000 in
theorem metJ21_indexOfChar (l : Launch) (K : HK) (sz : Nat) (post : Int32 → hX → Prop) (X0 : hX) (p0 : Nat) (p1 : Int32) (p2 : Int32) (p3 : Int32) : Met l yJ21_indexOfChar wsJ21_indexOfChar (rmh 0 0 0 0) (hPc K X0 sz [.ref (K.2.2 (8 + p0)), .int p1, .int p2, .int p3] (wpJ21_indexOfChar post (K.2.2 0) X0 p0 p1 p2 p3)) (hQi post K X0 sz) 0 0 (hA X0 sz) := by
  refine Met.ofW (cc := cJ21_indexOfChar) (maxL := 6) (ret := (some .int)) (by decide) rfl ?_
  intro p e s m args below meth c s₁ B hml hv
  obtain ⟨rfl, hv⟩ := hv
  obtain ⟨hC, hP, hw⟩ := HC.of hv
  have hsz : s.heap.size = sz := hv.1
  subst hsz
  clear hv
  have hr := B.returns
  have hts := atoms_spec (ws := wsJ21_indexOfChar) B.pre
  have hts : ∀ w ∈ lw_all, w.before _ s = true := fun w h => hts w (List.mem_cons_of_mem _ h)
  have hF : CallFix p m c cJ21_indexOfChar 6 s ([.ref (K.2.2 (8 + p0)), .int p1, .int p2, .int p3] : List Value).toArray lw_all RJ21 := ⟨B.exec, B.bytes, hml, findClass_of_methodNamed B.named, hts⟩
  have hlocks := B.notSynchronized
  have hl := lv_entry ([.ref (K.2.2 (8 + p0)), .int p1, .int p2, .int p3]) (n := 6) (Nat.le_of_ble_eq_true rfl)
  rw [lg_entry_eq]
  generalize (lg_sl ([.ref (K.2.2 (8 + p0)), .int p1, .int p2, .int p3]) ++ List.replicate (6 - (lg_sl ([.ref (K.2.2 (8 + p0)), .int p1, .int p2, .int p3])).length) Slot.unset).toArray = ls at hl ⊢
  have hl : lv_has ls 6 [(0, .ref (K.2.2 (8 + p0))), (1, .int p1), (2, .int p2), (3, .int p3)] := hl
  have hS : va_S (hA X0 s.heap.size) s.heap s.heap [] := va_S.rf
  have T7 : ∀ (n : Nat), ∀ (x0 : Nat) (x3 : Int32) (x4 : Int32) (x5 : Int32) (X : hX) (H : Heap) (locs : List Loc) (ls : Array Slot), hI K X0 s.heap.size X H → va_S (hA X0 s.heap.size) s.heap H locs → lv_has ls 6 [(0, .ref (K.2.2 (8 + x0))), (3, .int x3), (4, .int x4), (5, .int x5)] → wpJ21_indexOfChar_7 post (K.2.2 0) n x0 x3 x4 x5 X → W p l e (rmh 0 0 0 0) s m ([.ref (K.2.2 (8 + p0)), .int p1, .int p2, .int p3] : List Value).toArray below meth c H locs 0 0 (MQ below (hQi post K X0 s.heap.size) ([.ref (K.2.2 (8 + p0)), .int p1, .int p2, .int p3] : List Value).toArray s 0 0 (hA X0 s.heap.size)) (F0 m 7 ls []) := by
    intro n
    induction n with
    | zero =>
      intro x0 x3 x4 x5 X H locs ls hP hS hl hw
      exact False.elim hw
    | succ n ih =>
      intro x0 x3 x4 x5 X H locs ls hP hS hl hw
      unfold wpJ21_indexOfChar_7 at hw
      refine lv_iload hF.1 hF.2.1 dJ21_indexOfChar_7 (lv_at hl 3 rfl) ?_
      refine lv_iload_n hF.1 hF.2.1 dJ21_indexOfChar_9 rfl (lv_at hl 1 rfl) ?_
      refine lv_icmp_ge (tgt := 31) hF.1 hF.2.1 dJ21_indexOfChar_10 (by decide) (fun c_1 => ?_) (fun c_1 => ?_)
      · have hw := hw.1 c_1
        refine lv_iconst (v := (-1)) hF.1 hF.2.1 dJ21_indexOfChar_31 (by decide) ?_
        exact h_iret hF hr hlocks hP hS ⟨Nat.le_refl _, Nat.le_refl _⟩ dJ21_indexOfChar_32 hw
      · have hw := hw.2 c_1
        refine lv_aload_n hF.1 hF.2.1 dJ21_indexOfChar_13 rfl (lv_at hl 0 rfl) ?_
        refine lv_iload hF.1 hF.2.1 dJ21_indexOfChar_14 (lv_at hl 3 rfl) ?_
        obtain ⟨h_3, h_4, hw⟩ := hw
        refine x_sbld hF hC hS h_3 h_4 dJ21_indexOfChar_16 ?_
        generalize ((bytS.getD x0 []).getD (Int32.toNatClampNeg x5) 0) = v_2 at hw ⊢
        refine lv_iload hF.1 hF.2.1 dJ21_indexOfChar_17 (lv_at hl 2 rfl) ?_
        refine lv_icmp_ne (tgt := 25) hF.1 hF.2.1 dJ21_indexOfChar_19 (by decide) (fun c_5 => ?_) (fun c_5 => ?_)
        · have hw := hw.2 c_5
          obtain ⟨x5_6, ex5_6⟩ : ∃ y : Int32, y = x5 + 1 := ⟨_, rfl⟩
          have hw := hw x5_6 ex5_6
          refine lv_iinc (v := x5_6) (lv' := [(5, .int x5_6), (0, .ref (K.2.2 (8 + x0))), (3, .int x3), (4, .int x4)]) hF.1 hF.2.1 dJ21_indexOfChar_25 hl (k := 3) rfl (by rw [ex5_6]; rfl) (by decide) rfl (fun ls hl => ?_)
          refine lv_goto (tgt := 7) hF.1 hF.2.1 dJ21_indexOfChar_28 (by decide) ?_
          exact ih x0 x3 x4 x5_6 X _ _ ls hP hS (lv_sub hl [1, 2, 3, 0] rfl) hw
        · have hw := hw.1 c_5
          refine lv_iload hF.1 hF.2.1 dJ21_indexOfChar_22 (lv_at hl 3 rfl) ?_
          exact h_iret hF hr hlocks hP hS ⟨Nat.le_refl _, Nat.le_refl _⟩ dJ21_indexOfChar_24 hw
  unfold wpJ21_indexOfChar at hw
  show W p l e (rmh 0 0 0 0) s m _ below meth c _ _ _ _ _ _
  refine lv_iload_n hF.1 hF.2.1 dJ21_indexOfChar_0 rfl (lv_at hl 1 rfl) ?_
  refine lv_i2b hF.1 hF.2.1 dJ21_indexOfChar_1 rfl ?_
  refine lv_topi (fun x4_7 ex4_7 => ?_)
  have hw := hw x4_7 ex4_7
  refine lv_istore (lv' := [(4, .int x4_7), (0, .ref (K.2.2 (8 + p0))), (1, .int p1), (2, .int p2), (3, .int p3)]) hF.1 hF.2.1 dJ21_indexOfChar_2 hl (by decide) rfl (fun ls hl => ?_)
  refine lv_iload_n hF.1 hF.2.1 dJ21_indexOfChar_4 rfl (lv_at hl 3 rfl) ?_
  refine lv_istore (lv' := [(5, .int p2), (4, .int x4_7), (0, .ref (K.2.2 (8 + p0))), (1, .int p1), (2, .int p2), (3, .int p3)]) hF.1 hF.2.1 dJ21_indexOfChar_5 hl (by decide) rfl (fun ls hl => ?_)
  obtain ⟨fu, hw⟩ := hw
  exact T7 fu p0 p3 x4_7 p2 X0 _ _ ls hP hS (lv_sub hl [2, 5, 1, 0] rfl) hw
def wpJ21_indexOf (post : Int32 → hX → Prop) (E : Nat) (X : hX) (p0 : Nat) (p1 : Int32) (p2 : Int32) (p3 : Int32) : Prop := wpJ21_canEncode_2 (fun r_1 => ((r_1 = 0 → post (-1) X) ∧ (¬ r_1 = 0 → wpJ11_max (fun r_3 => (p0 < 2 ∧ wpJ11_min (fun r_5 => ((r_3 < r_5 → wpJ21_indexOfChar (fun r_7 X_8 => post r_7 X_8) E X p0 p1 r_3 r_5) ∧ (¬ r_3 < r_5 → post (-1) X))) p3 (Int32.ofNat (lenS p0)))) p2 0))) p1
abbrev wsJ21_indexOf : List Cond := ws_ yJ21_indexOf cJ21_indexOf 4 (some .int)
set_option maxHeartbeats 8000000 in
theorem metJ21_indexOf (l : Launch) (K : HK) (sz : Nat) (post : Int32 → hX → Prop) (X0 : hX) (p0 : Nat) (p1 : Int32) (p2 : Int32) (p3 : Int32) : Met l yJ21_indexOf wsJ21_indexOf (rmh 1 25 0 0) (hPc K X0 sz [.ref (K.2.2 (8 + p0)), .int p1, .int p2, .int p3] (wpJ21_indexOf post (K.2.2 0) X0 p0 p1 p2 p3)) (hQi post K X0 sz) 0 0 (hA X0 sz) := by
  refine Met.ofW (cc := cJ21_indexOf) (maxL := 4) (ret := (some .int)) (by decide) rfl ?_
  intro p e s m args below meth c s₁ B hml hv
  obtain ⟨rfl, hv⟩ := hv
  obtain ⟨hC, hP, hw⟩ := HC.of hv
  have hsz : s.heap.size = sz := hv.1
  subst hsz
  clear hv
  have hr := B.returns
  have hts := atoms_spec (ws := wsJ21_indexOf) B.pre
  have hts : ∀ w ∈ lw_all, w.before _ s = true := fun w h => hts w (List.mem_cons_of_mem _ h)
  have hF : CallFix p m c cJ21_indexOf 4 s ([.ref (K.2.2 (8 + p0)), .int p1, .int p2, .int p3] : List Value).toArray lw_all RJ21 := ⟨B.exec, B.bytes, hml, findClass_of_methodNamed B.named, hts⟩
  have hlocks := B.notSynchronized
  have hl := lv_entry ([.ref (K.2.2 (8 + p0)), .int p1, .int p2, .int p3]) (n := 4) (Nat.le_of_ble_eq_true rfl)
  rw [lg_entry_eq]
  generalize (lg_sl ([.ref (K.2.2 (8 + p0)), .int p1, .int p2, .int p3]) ++ List.replicate (4 - (lg_sl ([.ref (K.2.2 (8 + p0)), .int p1, .int p2, .int p3])).length) Slot.unset).toArray = ls at hl ⊢
  have hl : lv_has ls 4 [(0, .ref (K.2.2 (8 + p0))), (1, .int p1), (2, .int p2), (3, .int p3)] := hl
  have hS : va_S (hA X0 s.heap.size) s.heap s.heap [] := va_S.rf
  unfold wpJ21_indexOf at hw
  show W p l e (rmh 1 25 0 0) s m _ below meth c _ _ _ _ _ _
  refine lv_iload_n hF.1 hF.2.1 dJ21_indexOf_0 rfl (lv_at hl 1 rfl) ?_
  refine hp_i (hrp_S (As := [.int p1]) (rest := []) hF hl.1 (metJ21_canEncode_2 l _ p1) (va_cwS 1 hF.2.2.2.2 (lw_S q1648 q1649 q106 q1650) rfl rfl rfl (by decide +kernel) ⟨Nat.le_of_ble_eq_true rfl, Nat.le_of_ble_eq_true rfl⟩) hw rfl rfl (Nat.le_of_ble_eq_true rfl) dJ21_indexOf_1 ⟨Nat.le_refl _, Nat.le_refl _⟩) (fun r_1 hw => ?_)
  refine lv_if_ne (tgt := 9) hF.1 hF.2.1 dJ21_indexOf_4 (by decide) (fun c_2 => ?_) (fun c_2 => ?_)
  · have hw := hw.2 c_2
    refine lv_iload_n hF.1 hF.2.1 dJ21_indexOf_9 rfl (lv_at hl 2 rfl) ?_
    refine lv_iconst (v := 0) hF.1 hF.2.1 dJ21_indexOf_10 (by decide) ?_
    refine hp_i (hrp_S (As := [.int p2, .int 0]) (rest := []) hF hl.1 (metJ11_max l _ p2 0) (va_cwS 2 hF.2.2.2.2 (lw_S q1651 q466 q89 q467) rfl rfl rfl (by decide +kernel) ⟨Nat.le_of_ble_eq_true rfl, Nat.le_of_ble_eq_true rfl⟩) hw rfl rfl (Nat.le_of_ble_eq_true rfl) dJ21_indexOf_11 ⟨Nat.le_refl _, Nat.le_refl _⟩) (fun r_3 hw => ?_)
    refine lv_istore_n (lv' := [(2, .int r_3), (0, .ref (K.2.2 (8 + p0))), (1, .int p1), (3, .int p3)]) hF.1 hF.2.1 dJ21_indexOf_14 rfl hl (by decide) rfl (fun ls hl => ?_)
    refine lv_iload_n hF.1 hF.2.1 dJ21_indexOf_15 rfl (lv_at hl 3 rfl) ?_
    refine lv_aload_n hF.1 hF.2.1 dJ21_indexOf_16 rfl (lv_at hl 1 rfl) ?_
    obtain ⟨h_4, hw⟩ := hw
    refine x_slen hF hC hS h_4 dJ21_indexOf_17 ?_
    refine hp_i (hrp_S (As := [.int p3, .int (Int32.ofNat (lenS p0))]) (rest := []) hF hl.1 (metJ11_min l _ p3 (Int32.ofNat (lenS p0))) (va_cwS 2 hF.2.2.2.2 (lw_S q1652 q312 q89 q313) rfl rfl rfl (by decide +kernel) ⟨Nat.le_of_ble_eq_true rfl, Nat.le_of_ble_eq_true rfl⟩) hw rfl rfl (Nat.le_of_ble_eq_true rfl) dJ21_indexOf_18 ⟨Nat.le_refl _, Nat.le_refl _⟩) (fun r_5 hw => ?_)
    refine lv_istore_n (lv' := [(3, .int r_5), (2, .int r_3), (0, .ref (K.2.2 (8 + p0))), (1, .int p1)]) hF.1 hF.2.1 dJ21_indexOf_21 rfl hl (by decide) rfl (fun ls hl => ?_)
    refine lv_iload_n hF.1 hF.2.1 dJ21_indexOf_22 rfl (lv_at hl 1 rfl) ?_
    refine lv_iload_n hF.1 hF.2.1 dJ21_indexOf_23 rfl (lv_at hl 0 rfl) ?_
    refine lv_icmp_lt (tgt := 29) hF.1 hF.2.1 dJ21_indexOf_24 (by decide) (fun c_6 => ?_) (fun c_6 => ?_)
    · have hw := hw.1 c_6
      refine lv_aload_n hF.1 hF.2.1 dJ21_indexOf_29 rfl (lv_at hl 2 rfl) ?_
      refine lv_iload_n hF.1 hF.2.1 dJ21_indexOf_30 rfl (lv_at hl 3 rfl) ?_
      refine lv_iload_n hF.1 hF.2.1 dJ21_indexOf_31 rfl (lv_at hl 1 rfl) ?_
      refine lv_iload_n hF.1 hF.2.1 dJ21_indexOf_32 rfl (lv_at hl 0 rfl) ?_
      refine hk_i (hr_S (As := [.ref (K.2.2 (8 + p0)), .int p1, .int r_3, .int r_5]) (rest := []) hF hl.1 hC hP hS (metJ21_indexOfChar l K _ _ X0 p0 p1 r_3 r_5) (va_cwS 4 hF.2.2.2.2 (lw_S q1653 q1654 q106 q1655) rfl rfl rfl (by decide +kernel) ⟨Nat.le_of_ble_eq_true rfl, Nat.le_of_ble_eq_true rfl⟩) hw rfl rfl (Nat.le_of_ble_eq_true rfl) dJ21_indexOf_33 ⟨Nat.le_refl _, Nat.le_refl _⟩) hP hS (fun r_7 X_8 H locs hw hP hS => ?_)
      exact h_iret hF hr hlocks hP hS ⟨Nat.le_refl _, Nat.le_refl _⟩ dJ21_indexOf_36 hw
    · have hw := hw.2 c_6
      refine lv_iconst (v := (-1)) hF.1 hF.2.1 dJ21_indexOf_27 (by decide) ?_
      exact h_iret hF hr hlocks hP hS ⟨Nat.le_refl _, Nat.le_refl _⟩ dJ21_indexOf_28 hw
  · have hw := hw.1 c_2
    refine lv_iconst (v := (-1)) hF.1 hF.2.1 dJ21_indexOf_7 (by decide) ?_
    exact h_iret hF hr hlocks hP hS ⟨Nat.le_refl _, Nat.le_refl _⟩ dJ21_indexOf_8 hw
def wpJ6_indexOf_2 (post : Int32 → hX → Prop) (E : Nat) (X : hX) (p0 : Nat) (p1 : Int32) (p2 : Int32) : Prop := (p0 < 2 ∧ wpJ6_isLatin1 (fun r_1 X_2 => ((r_1 = 0 → (p0 < 2 ∧ (p0 < 2 ∧ wpJ6_length (fun r_6 X_7 => False) E X_2 p0))) ∧ (¬ r_1 = 0 → (p0 < 2 ∧ (p0 < 2 ∧ wpJ6_length (fun r_10 X_11 => wpJ21_indexOf (fun r_13 X_14 => post r_13 X_14) E X_11 p0 p1 p2 r_10) E X_2 p0))))) E X p0)
abbrev wsJ6_indexOf_2 : List Cond := ws_ yJ6_indexOf_2 cJ6_indexOf_2 3 (some .int)
set_option maxHeartbeats 8000000 in
theorem metJ6_indexOf_2 (l : Launch) (K : HK) (sz : Nat) (post : Int32 → hX → Prop) (X0 : hX) (p0 : Nat) (p1 : Int32) (p2 : Int32) : Met l yJ6_indexOf_2 wsJ6_indexOf_2 (rmh 2 48 0 0) (hPc K X0 sz [.ref (K.2.2 (5 + p0)), .int p1, .int p2] (wpJ6_indexOf_2 post (K.2.2 0) X0 p0 p1 p2)) (hQi post K X0 sz) 0 0 (hA X0 sz) := by
  refine Met.ofW (cc := cJ6_indexOf_2) (maxL := 3) (ret := (some .int)) (by decide) rfl ?_
  intro p e s m args below meth c s₁ B hml hv
  obtain ⟨rfl, hv⟩ := hv
  obtain ⟨hC, hP, hw⟩ := HC.of hv
  have hsz : s.heap.size = sz := hv.1
  subst hsz
  clear hv
  have hr := B.returns
  have hts := atoms_spec (ws := wsJ6_indexOf_2) B.pre
  have hts : ∀ w ∈ lw_all, w.before _ s = true := fun w h => hts w (List.mem_cons_of_mem _ h)
  have hF : CallFix p m c cJ6_indexOf_2 3 s ([.ref (K.2.2 (5 + p0)), .int p1, .int p2] : List Value).toArray lw_all RJ6 := ⟨B.exec, B.bytes, hml, findClass_of_methodNamed B.named, hts⟩
  have hlocks := B.notSynchronized
  have hl := lv_entry ([.ref (K.2.2 (5 + p0)), .int p1, .int p2]) (n := 3) (Nat.le_of_ble_eq_true rfl)
  rw [lg_entry_eq]
  generalize (lg_sl ([.ref (K.2.2 (5 + p0)), .int p1, .int p2]) ++ List.replicate (3 - (lg_sl ([.ref (K.2.2 (5 + p0)), .int p1, .int p2])).length) Slot.unset).toArray = ls at hl ⊢
  have hl : lv_has ls 3 [(0, .ref (K.2.2 (5 + p0))), (1, .int p1), (2, .int p2)] := hl
  have hS : va_S (hA X0 s.heap.size) s.heap s.heap [] := va_S.rf
  unfold wpJ6_indexOf_2 at hw
  show W p l e (rmh 2 48 0 0) s m _ below meth c _ _ _ _ _ _
  refine lv_aload_n hF.1 hF.2.1 dJ6_indexOf_2_0 rfl (lv_at hl 0 rfl) ?_
  obtain ⟨h_3, hw⟩ := hw
  refine hk_i (hr_T (As := []) (rest := []) hF hl.1 hC hP hS h_3 (metJ6_isLatin1 l K _ _ X0 p0) (cwV 0 hF.2.2.2.2 (lw_V q1640 q1641 q1642 q83 q1643) rfl rfl rfl (by decide +kernel) ⟨Nat.le_of_ble_eq_true rfl, Nat.le_of_ble_eq_true rfl⟩) hw rfl rfl (Nat.le_of_ble_eq_true rfl) dJ6_indexOf_2_1 ⟨Nat.le_refl _, Nat.le_refl _⟩) hP hS (fun r_1 X_2 H locs hw hP hS => ?_)
  refine lv_if_eq (tgt := 23) hF.1 hF.2.1 dJ6_indexOf_2_4 (by decide) (fun c_4 => ?_) (fun c_4 => ?_)
  · have hw := hw.1 c_4
    refine lv_aload_n hF.1 hF.2.1 dJ6_indexOf_2_23 rfl (lv_at hl 0 rfl) ?_
    obtain ⟨h_5, hw⟩ := hw
    refine x_sval hF hC hS h_5 q721 dJ6_indexOf_2_24 ?_
    refine lv_iload_n hF.1 hF.2.1 dJ6_indexOf_2_27 rfl (lv_at hl 1 rfl) ?_
    refine lv_iload_n hF.1 hF.2.1 dJ6_indexOf_2_28 rfl (lv_at hl 2 rfl) ?_
    refine lv_aload_n hF.1 hF.2.1 dJ6_indexOf_2_29 rfl (lv_at hl 0 rfl) ?_
    obtain ⟨h_8, hw⟩ := hw
    refine hk_i (hr_T (As := []) (rest := [.int p2, .int p1, .ref (K.2.2 (8 + p0))]) hF hl.1 hC hP hS h_8 (metJ6_length l K _ _ X_2 p0) (cwV 0 hF.2.2.2.2 (lw_V q1644 q584 q585 q83 q586) rfl rfl rfl (by decide +kernel) ⟨Nat.le_of_ble_eq_true rfl, Nat.le_of_ble_eq_true rfl⟩) hw rfl rfl (Nat.le_of_ble_eq_true rfl) dJ6_indexOf_2_30 ⟨Nat.le_refl _, Nat.le_refl _⟩) hP hS (fun r_6 X_7 H locs hw hP hS => ?_)
    exact False.elim hw
  · have hw := hw.2 c_4
    refine lv_aload_n hF.1 hF.2.1 dJ6_indexOf_2_7 rfl (lv_at hl 0 rfl) ?_
    obtain ⟨h_9, hw⟩ := hw
    refine x_sval hF hC hS h_9 q721 dJ6_indexOf_2_8 ?_
    refine lv_iload_n hF.1 hF.2.1 dJ6_indexOf_2_11 rfl (lv_at hl 1 rfl) ?_
    refine lv_iload_n hF.1 hF.2.1 dJ6_indexOf_2_12 rfl (lv_at hl 2 rfl) ?_
    refine lv_aload_n hF.1 hF.2.1 dJ6_indexOf_2_13 rfl (lv_at hl 0 rfl) ?_
    obtain ⟨h_12, hw⟩ := hw
    refine hk_i (hr_T (As := []) (rest := [.int p2, .int p1, .ref (K.2.2 (8 + p0))]) hF hl.1 hC hP hS h_12 (metJ6_length l K _ _ X_2 p0) (cwV 0 hF.2.2.2.2 (lw_V q1644 q584 q585 q83 q586) rfl rfl rfl (by decide +kernel) ⟨Nat.le_of_ble_eq_true rfl, Nat.le_of_ble_eq_true rfl⟩) hw rfl rfl (Nat.le_of_ble_eq_true rfl) dJ6_indexOf_2_14 ⟨Nat.le_refl _, Nat.le_refl _⟩) hP hS (fun r_10 X_11 H locs hw hP hS => ?_)
    refine hk_i (hr_S (As := [.ref (K.2.2 (8 + p0)), .int p1, .int p2, .int r_10]) (rest := []) hF hl.1 hC hP hS (metJ21_indexOf l K _ _ X_11 p0 p1 p2 r_10) (va_cwS 4 hF.2.2.2.2 (lw_S q1645 q1646 q106 q1647) rfl rfl rfl (by decide +kernel) ⟨Nat.le_of_ble_eq_true rfl, Nat.le_of_ble_eq_true rfl⟩) hw rfl rfl (Nat.le_of_ble_eq_true rfl) dJ6_indexOf_2_17 ⟨Nat.le_refl _, Nat.le_refl _⟩) hP hS (fun r_13 X_14 H locs hw hP hS => ?_)
    refine lv_goto (tgt := 36) hF.1 hF.2.1 dJ6_indexOf_2_20 (by decide) ?_
    exact h_iret hF hr hlocks hP hS ⟨Nat.le_refl _, Nat.le_refl _⟩ dJ6_indexOf_2_36 hw
def wpJ6_indexOf (post : Int32 → hX → Prop) (E : Nat) (X : hX) (p0 : Nat) (p1 : Int32) : Prop := (p0 < 2 ∧ wpJ6_indexOf_2 (fun r_1 X_2 => post r_1 X_2) E X p0 p1 0)
abbrev wsJ6_indexOf : List Cond := ws_ yJ6_indexOf cJ6_indexOf 2 (some .int)
set_option maxHeartbeats 8000000 in
theorem metJ6_indexOf (l : Launch) (K : HK) (sz : Nat) (post : Int32 → hX → Prop) (X0 : hX) (p0 : Nat) (p1 : Int32) : Met l yJ6_indexOf wsJ6_indexOf (rmh 3 70 0 0) (hPc K X0 sz [.ref (K.2.2 (5 + p0)), .int p1] (wpJ6_indexOf post (K.2.2 0) X0 p0 p1)) (hQi post K X0 sz) 0 0 (hA X0 sz) := by
  refine Met.ofW (cc := cJ6_indexOf) (maxL := 2) (ret := (some .int)) (by decide) rfl ?_
  intro p e s m args below meth c s₁ B hml hv
  obtain ⟨rfl, hv⟩ := hv
  obtain ⟨hC, hP, hw⟩ := HC.of hv
  have hsz : s.heap.size = sz := hv.1
  subst hsz
  clear hv
  have hr := B.returns
  have hts := atoms_spec (ws := wsJ6_indexOf) B.pre
  have hts : ∀ w ∈ lw_all, w.before _ s = true := fun w h => hts w (List.mem_cons_of_mem _ h)
  have hF : CallFix p m c cJ6_indexOf 2 s ([.ref (K.2.2 (5 + p0)), .int p1] : List Value).toArray lw_all RJ6 := ⟨B.exec, B.bytes, hml, findClass_of_methodNamed B.named, hts⟩
  have hlocks := B.notSynchronized
  have hl := lv_entry ([.ref (K.2.2 (5 + p0)), .int p1]) (n := 2) (Nat.le_of_ble_eq_true rfl)
  rw [lg_entry_eq]
  generalize (lg_sl ([.ref (K.2.2 (5 + p0)), .int p1]) ++ List.replicate (2 - (lg_sl ([.ref (K.2.2 (5 + p0)), .int p1])).length) Slot.unset).toArray = ls at hl ⊢
  have hl : lv_has ls 2 [(0, .ref (K.2.2 (5 + p0))), (1, .int p1)] := hl
  have hS : va_S (hA X0 s.heap.size) s.heap s.heap [] := va_S.rf
  unfold wpJ6_indexOf at hw
  show W p l e (rmh 3 70 0 0) s m _ below meth c _ _ _ _ _ _
  refine lv_aload_n hF.1 hF.2.1 dJ6_indexOf_0 rfl (lv_at hl 0 rfl) ?_
  refine lv_iload_n hF.1 hF.2.1 dJ6_indexOf_1 rfl (lv_at hl 1 rfl) ?_
  refine lv_iconst (v := 0) hF.1 hF.2.1 dJ6_indexOf_2 (by decide) ?_
  obtain ⟨h_3, hw⟩ := hw
  refine hk_i (hr_T (As := [.int p1, .int 0]) (rest := []) hF hl.1 hC hP hS h_3 (metJ6_indexOf_2 l K _ _ X0 p0 p1 0) (cwV 2 hF.2.2.2.2 (lw_V q1636 q1637 q1638 q83 q1639) rfl rfl rfl (by decide +kernel) ⟨Nat.le_of_ble_eq_true rfl, Nat.le_of_ble_eq_true rfl⟩) hw rfl rfl (Nat.le_of_ble_eq_true rfl) dJ6_indexOf_3 ⟨Nat.le_refl _, Nat.le_refl _⟩) hP hS (fun r_1 X_2 H locs hw hP hS => ?_)
  exact h_iret hF hr hlocks hP hS ⟨Nat.le_refl _, Nat.le_refl _⟩ dJ6_indexOf_6 hw
def wpX9_init (post : hX → Prop) (E : Nat) (mc ms : Nat) (X : hX) (p0 : Nat) (p1 : Nat) : Prop := pfV X p0 4 7 (.ref p1) (fun X_4 => gfA X_4 p0 4 7 (fun v_6 => gfA X_4 v_6 1 0 (fun v_10 => pfV X_4 p0 4 0 (.ref v_10) (fun X_16 => newA X_16 0 (.inl (fun _ => 0)) 2 4 0 0 mc ms (fun a_17 X_18 => pfV X_18 p0 4 1 (.ref a_17) (fun X_23 => post X_23))))))
abbrev wsX9_init : List Cond := ws_ yX9_init cX9_init 2 none
set_option maxHeartbeats 8000000 in
theorem metX9_init (l : Launch) (K : HK) (mc ms : Nat) (sz : Nat) (post : hX → Prop) (X0 : hX) (p0 : Nat) (p1 : Nat) : Met l yX9_init wsX9_init (rmh 1 20 mc ms) (hPc K X0 sz [.ref p0, .ref p1] (wpX9_init post (K.2.2 0) mc ms X0 p0 p1)) (hQv post K X0 sz) mc ms (hA X0 sz) := by
  refine Met.ofW (cc := cX9_init) (maxL := 2) (ret := none) (by decide) rfl ?_
  intro p e s m args below meth c s₁ B hml hv
  obtain ⟨rfl, hv⟩ := hv
  obtain ⟨hC, hP, hw⟩ := HC.of hv
  have hsz : s.heap.size = sz := hv.1
  subst hsz
  clear hv
  have hr := B.returns
  have hts := atoms_spec (ws := wsX9_init) B.pre
  have hts : ∀ w ∈ lw_all, w.before _ s = true := fun w h => hts w (List.mem_cons_of_mem _ h)
  have hF : CallFix p m c cX9_init 2 s ([.ref p0, .ref p1] : List Value).toArray lw_all RX9 := ⟨B.exec, B.bytes, hml, findClass_of_methodNamed B.named, hts⟩
  have hlocks := B.notSynchronized
  have hin : meth.name = "<init>" := (name_of_methodNamed B.named B.method).1
  have hl := lv_entry ([.ref p0, .ref p1]) (n := 2) (Nat.le_of_ble_eq_true rfl)
  rw [lg_entry_eq]
  generalize (lg_sl ([.ref p0, .ref p1]) ++ List.replicate (2 - (lg_sl ([.ref p0, .ref p1])).length) Slot.unset).toArray = ls at hl ⊢
  have hl : lv_has ls 2 [(0, .ref p0), (1, .ref p1)] := hl
  have hS : va_S (hA X0 s.heap.size) s.heap s.heap [] := va_S.rf
  unfold wpX9_init at hw
  show W p l e (rmh 1 20 mc ms) s m _ below meth c _ _ _ _ _ _
  refine lv_aload_n hF.1 hF.2.1 dX9_init_0 rfl (lv_at hl 0 rfl) ?_
  refine lv_aload_n hF.1 hF.2.1 dX9_init_1 rfl (lv_at hl 1 rfl) ?_
  obtain ⟨fs_1, hx_2, hl_3, hw⟩ := hw
  refine x_putF hF hin hC hP hS in_X9 rfl tyX9 tyX9_ok nmX9 7 (by decide) q1593 (fun _ z => z) rfl rfl rfl rfl hx_2 hl_3 dX9_init_2 (fun H locs hP hS => ?_)
  generalize hup X0 p0 (.inr (4, fs_1.set 7 (.ref p1))) = X_4 at hP hw
  refine lv_aload_n hF.1 hF.2.1 dX9_init_5 rfl (lv_at hl 0 rfl) ?_
  refine W.objInit hF.1 hF.2.1 hF.2.2.2.1 (hF.2.2.2.2 _ q1580) (hF.2.2.2.2 _ q116) (hF.2.2.2.2 _ q117) rfl (by rw [hF.2.2.1]; exact hl.1) rfl dX9_init_6 (Nat.le_of_ble_eq_true rfl) (Nat.le_of_ble_eq_true rfl) ?_
  refine W.eq (g2 := F0 m 9 ls []) rfl ?_
  refine lv_aload_n hF.1 hF.2.1 dX9_init_9 rfl (lv_at hl 0 rfl) ?_
  refine lv_aload_n hF.1 hF.2.1 dX9_init_10 rfl (lv_at hl 0 rfl) ?_
  obtain ⟨fs_5, v_6, hx_7, hv_8, hw⟩ := hw
  refine x_get hF hC hP in_X9 rfl 7 (by decide) q1593 (fun _ z => z) hx_7 hv_8 dX9_init_11 ?_
  obtain ⟨fs_9, v_10, hx_11, hv_12, hw⟩ := hw
  refine x_getN hF hC hP in_X1 rfl 0 (by decide) q243 (fun _ z => z) hx_11 hv_12 dX9_init_14 ?_
  obtain ⟨fs_13, hx_14, hl_15, hw⟩ := hw
  refine x_put hF hC hP hS in_X9 rfl tyX9 tyX9_ok nmX9 0 (by decide) q1581 (fun _ z => z) rfl rfl rfl hx_14 hl_15 dX9_init_17 (fun H locs hP hS => ?_)
  generalize hup X_4 p0 (.inr (4, fs_13.set 0 (.ref v_10))) = X_16 at hP hw
  refine lv_aload_n hF.1 hF.2.1 dX9_init_20 rfl (lv_at hl 0 rfl) ?_
  refine lv_iconst (v := 2) hF.1 hF.2.1 dX9_init_21 (by decide) ?_
  refine x_newa (atype := .int) (t := 0) hF hC hP hS q191 rfl rfl rfl (Or.inl rfl) (fun _ _ => rfl) hw ⟨rfl, rfl⟩ dX9_init_22 (fun a_17 X_18 H pk_19c pk_19s hw hP hS => ?_)
  obtain ⟨fs_20, hx_21, hl_22, hw⟩ := hw
  refine x_putF hF hin hC hP hS in_X9 rfl tyX9 tyX9_ok nmX9 1 (by decide) q1583 (fun _ z => z) rfl rfl rfl rfl hx_21 hl_22 dX9_init_24 (fun H locs hP hS => ?_)
  generalize hup X_18 p0 (.inr (4, fs_20.set 1 (.ref a_17))) = X_23 at hP hw
  exact h_vret hF hr hlocks hP hS ⟨pk_19c, pk_19s⟩ dX9_init_27 hw
def wpX9_accepts_40 (post : Int32 → hX → Prop) (E : Nat) (x0 : Nat) (z0 : Int32) (X : hX) : Prop := gfI X x0 4 2 (fun v_2 => ((z0 = 0 → pfV X x0 4 2 (.int (v_2 + 0)) (fun X_9 => ((z0 = 0 ∨ z0 = 1) ∧ post z0 X_9))) ∧ (¬ z0 = 0 → pfV X x0 4 2 (.int (v_2 + 1)) (fun X_14 => ((z0 = 0 ∨ z0 = 1) ∧ post z0 X_14)))))
def wpX9_accepts_39 (post : Int32 → hX → Prop) (E : Nat) (x0 : Nat) (X : hX) : Prop := wpX9_accepts_40 post E x0 0 X
def wpX9_accepts (post : Int32 → hX → Prop) (E : Nat) (X : hX) (p0 : Nat) (p1 : Int32) : Prop := gfI X p0 4 2 (fun v_17 => gfA X p0 4 7 (fun v_21 => gfA X v_21 1 3 (fun v_25 => isO X v_25 10 (wpJ5_length (fun r_28 X_29 => ((r_28 ≤ v_17 → wpX9_accepts_39 post E p0 X_29) ∧ (¬ r_28 ≤ v_17 → gfA X_29 p0 4 7 (fun v_33 => gfA X_29 v_33 1 3 (fun v_37 => gfI X_29 p0 4 2 (fun v_41 => isO X_29 v_37 10 (wpJ5_charAt (fun r_44 X_45 => ((r_44 = p1 → wpX9_accepts_40 post E p0 1 X_45) ∧ (¬ r_44 = p1 → wpX9_accepts_39 post E p0 X_45))) E X_29 v_37 v_41))))))) E X v_25))))
abbrev wsX9_accepts : List Cond := ws_ yX9_accepts cX9_accepts 3 (some .boolean)
set_option maxHeartbeats 8000000 in
theorem metX9_accepts (l : Launch) (K : HK) (sz : Nat) (post : Int32 → hX → Prop) (X0 : hX) (p0 : Nat) (p1 : Int32) : Met l yX9_accepts wsX9_accepts (rmh 4 88 0 0) (hPc K X0 sz [.ref p0, .int p1] (wpX9_accepts post (K.2.2 0) X0 p0 p1)) (hQi post K X0 sz) 0 0 (hA X0 sz) := by
  refine Met.ofW (cc := cX9_accepts) (maxL := 3) (ret := (some .boolean)) (by decide) rfl ?_
  intro p e s m args below meth c s₁ B hml hv
  obtain ⟨rfl, hv⟩ := hv
  obtain ⟨hC, hP, hw⟩ := HC.of hv
  have hsz : s.heap.size = sz := hv.1
  subst hsz
  clear hv
  have hr := B.returns
  have hts := atoms_spec (ws := wsX9_accepts) B.pre
  have hts : ∀ w ∈ lw_all, w.before _ s = true := fun w h => hts w (List.mem_cons_of_mem _ h)
  have hF : CallFix p m c cX9_accepts 3 s ([.ref p0, .int p1] : List Value).toArray lw_all RX9 := ⟨B.exec, B.bytes, hml, findClass_of_methodNamed B.named, hts⟩
  have hlocks := B.notSynchronized
  have hl := lv_entry ([.ref p0, .int p1]) (n := 3) (Nat.le_of_ble_eq_true rfl)
  rw [lg_entry_eq]
  generalize (lg_sl ([.ref p0, .int p1]) ++ List.replicate (3 - (lg_sl ([.ref p0, .int p1])).length) Slot.unset).toArray = ls at hl ⊢
  have hl : lv_has ls 3 [(0, .ref p0), (1, .int p1)] := hl
  have hS : va_S (hA X0 s.heap.size) s.heap s.heap [] := va_S.rf
  have T40 : ∀ (x0 : Nat) (z0 : Int32) (X : hX) (H : Heap) (locs : List Loc) (ls : Array Slot), hI K X0 s.heap.size X H → va_S (hA X0 s.heap.size) s.heap H locs → lv_has ls 3 [(0, .ref x0)] → wpX9_accepts_40 post (K.2.2 0) x0 z0 X → W p l e (rmh 4 88 0 0) s m ([.ref p0, .int p1] : List Value).toArray below meth c H locs 0 0 (MQ below (hQi post K X0 s.heap.size) ([.ref p0, .int p1] : List Value).toArray s 0 0 (hA X0 s.heap.size)) (F0 m 40 ls [.int z0]) := by
    intro x0 z0 X H locs ls hP hS hl hw
    unfold wpX9_accepts_40 at hw
    refine lv_istore_n (lv' := [(2, .int z0), (0, .ref x0)]) hF.1 hF.2.1 dX9_accepts_40 rfl hl (by decide) rfl (fun ls hl => ?_)
    refine lv_aload_n hF.1 hF.2.1 dX9_accepts_41 rfl (lv_at hl 1 rfl) ?_
    refine lv_dup hF.1 hF.2.1 dX9_accepts_42 rfl ?_
    obtain ⟨fs_1, v_2, hx_3, hv_4, hw⟩ := hw
    refine x_get hF hC hP in_X9 rfl 2 (by decide) q1584 (fun _ z => z) hx_3 hv_4 dX9_accepts_43 ?_
    refine lv_iload_n hF.1 hF.2.1 dX9_accepts_46 rfl (lv_at hl 0 rfl) ?_
    refine lv_if_eq (tgt := 54) hF.1 hF.2.1 dX9_accepts_47 (by decide) (fun c_5 => ?_) (fun c_5 => ?_)
    · have hw := hw.1 c_5
      refine lv_iconst (v := 0) hF.1 hF.2.1 dX9_accepts_54 (by decide) ?_
      refine lv_iadd hF.1 hF.2.1 dX9_accepts_55 ?_
      obtain ⟨fs_6, hx_7, hl_8, hw⟩ := hw
      refine x_put hF hC hP hS in_X9 rfl tyX9 tyX9_ok nmX9 2 (by decide) q1584 (fun _ z => z) rfl rfl rfl hx_7 hl_8 dX9_accepts_56 (fun H locs hP hS => ?_)
      generalize hup X x0 (.inr (4, fs_6.set 2 (.int (v_2 + 0)))) = X_9 at hP hw
      refine lv_iload_n hF.1 hF.2.1 dX9_accepts_59 rfl (lv_at hl 0 rfl) ?_
      obtain ⟨h_10, hw⟩ := hw
      exact h_zret hF hr hlocks hP hS ⟨Nat.le_refl _, Nat.le_refl _⟩ dX9_accepts_60 h_10 hw
    · have hw := hw.2 c_5
      refine lv_iconst (v := 1) hF.1 hF.2.1 dX9_accepts_50 (by decide) ?_
      refine lv_goto (tgt := 55) hF.1 hF.2.1 dX9_accepts_51 (by decide) ?_
      refine lv_iadd hF.1 hF.2.1 dX9_accepts_55 ?_
      obtain ⟨fs_11, hx_12, hl_13, hw⟩ := hw
      refine x_put hF hC hP hS in_X9 rfl tyX9 tyX9_ok nmX9 2 (by decide) q1584 (fun _ z => z) rfl rfl rfl hx_12 hl_13 dX9_accepts_56 (fun H locs hP hS => ?_)
      generalize hup X x0 (.inr (4, fs_11.set 2 (.int (v_2 + 1)))) = X_14 at hP hw
      refine lv_iload_n hF.1 hF.2.1 dX9_accepts_59 rfl (lv_at hl 0 rfl) ?_
      obtain ⟨h_15, hw⟩ := hw
      exact h_zret hF hr hlocks hP hS ⟨Nat.le_refl _, Nat.le_refl _⟩ dX9_accepts_60 h_15 hw
  have T39 : ∀ (x0 : Nat) (X : hX) (H : Heap) (locs : List Loc) (ls : Array Slot), hI K X0 s.heap.size X H → va_S (hA X0 s.heap.size) s.heap H locs → lv_has ls 3 [(0, .ref x0)] → wpX9_accepts_39 post (K.2.2 0) x0 X → W p l e (rmh 4 88 0 0) s m ([.ref p0, .int p1] : List Value).toArray below meth c H locs 0 0 (MQ below (hQi post K X0 s.heap.size) ([.ref p0, .int p1] : List Value).toArray s 0 0 (hA X0 s.heap.size)) (F0 m 39 ls []) := by
    intro x0 X H locs ls hP hS hl hw
    unfold wpX9_accepts_39 at hw
    refine lv_iconst (v := 0) hF.1 hF.2.1 dX9_accepts_39 (by decide) ?_
    exact T40 x0 0 X _ _ ls hP hS (lv_sub hl [0] rfl) hw
  unfold wpX9_accepts at hw
  show W p l e (rmh 4 88 0 0) s m _ below meth c _ _ _ _ _ _
  refine lv_aload_n hF.1 hF.2.1 dX9_accepts_0 rfl (lv_at hl 0 rfl) ?_
  obtain ⟨fs_16, v_17, hx_18, hv_19, hw⟩ := hw
  refine x_get hF hC hP in_X9 rfl 2 (by decide) q1584 (fun _ z => z) hx_18 hv_19 dX9_accepts_1 ?_
  refine lv_aload_n hF.1 hF.2.1 dX9_accepts_4 rfl (lv_at hl 0 rfl) ?_
  obtain ⟨fs_20, v_21, hx_22, hv_23, hw⟩ := hw
  refine x_get hF hC hP in_X9 rfl 7 (by decide) q1593 (fun _ z => z) hx_22 hv_23 dX9_accepts_5 ?_
  obtain ⟨fs_24, v_25, hx_26, hv_27, hw⟩ := hw
  refine x_getN hF hC hP in_X1 rfl 3 (by decide) q247 (fun _ z => z) hx_26 hv_27 dX9_accepts_8 ?_
  obtain ⟨ho_30, hw⟩ := hw
  refine hk_i (hr_V (As := []) (rest := [.int v_17]) (T := TJ5) (N := 4) (ci := 10) hF hl.1 hC hP hS (metJ5_length l K _ _ X0 v_25) rfl (cwV 0 hF.2.2.2.2 (lw_V q1615 q441 q442 q82 q443) rfl rfl rfl (by decide +kernel) ⟨Nat.le_of_ble_eq_true rfl, Nat.le_of_ble_eq_true rfl⟩) ho_30 hw rfl rfl (Nat.le_of_ble_eq_true rfl) dX9_accepts_11 ⟨Nat.le_refl _, Nat.le_refl _⟩) hP hS (fun r_28 X_29 H locs hw hP hS => ?_)
  refine lv_icmp_ge (tgt := 39) hF.1 hF.2.1 dX9_accepts_14 (by decide) (fun c_31 => ?_) (fun c_31 => ?_)
  · have hw := hw.1 c_31
    exact T39 p0 X_29 _ _ ls hP hS (lv_sub hl [0] rfl) hw
  · have hw := hw.2 c_31
    refine lv_aload_n hF.1 hF.2.1 dX9_accepts_17 rfl (lv_at hl 0 rfl) ?_
    obtain ⟨fs_32, v_33, hx_34, hv_35, hw⟩ := hw
    refine x_get hF hC hP in_X9 rfl 7 (by decide) q1593 (fun _ z => z) hx_34 hv_35 dX9_accepts_18 ?_
    obtain ⟨fs_36, v_37, hx_38, hv_39, hw⟩ := hw
    refine x_getN hF hC hP in_X1 rfl 3 (by decide) q247 (fun _ z => z) hx_38 hv_39 dX9_accepts_21 ?_
    refine lv_aload_n hF.1 hF.2.1 dX9_accepts_24 rfl (lv_at hl 0 rfl) ?_
    obtain ⟨fs_40, v_41, hx_42, hv_43, hw⟩ := hw
    refine x_get hF hC hP in_X9 rfl 2 (by decide) q1584 (fun _ z => z) hx_42 hv_43 dX9_accepts_25 ?_
    obtain ⟨ho_46, hw⟩ := hw
    refine hk_i (hr_V (As := [.int v_41]) (rest := []) (T := TJ5) (N := 4) (ci := 10) hF hl.1 hC hP hS (metJ5_charAt l K _ _ X_29 v_37 v_41) rfl (cwV 1 hF.2.2.2.2 (lw_V q1621 q1622 q1623 q82 q1624) rfl rfl rfl (by decide +kernel) ⟨Nat.le_of_ble_eq_true rfl, Nat.le_of_ble_eq_true rfl⟩) ho_46 hw rfl rfl (Nat.le_of_ble_eq_true rfl) dX9_accepts_28 ⟨Nat.le_refl _, Nat.le_refl _⟩) hP hS (fun r_44 X_45 H locs hw hP hS => ?_)
    refine lv_iload_n hF.1 hF.2.1 dX9_accepts_31 rfl (lv_at hl 1 rfl) ?_
    refine lv_icmp_ne (tgt := 39) hF.1 hF.2.1 dX9_accepts_32 (by decide) (fun c_47 => ?_) (fun c_47 => ?_)
    · have hw := hw.2 c_47
      exact T39 p0 X_45 _ _ ls hP hS (lv_sub hl [0] rfl) hw
    · have hw := hw.1 c_47
      refine lv_iconst (v := 1) hF.1 hF.2.1 dX9_accepts_35 (by decide) ?_
      refine lv_goto (tgt := 40) hF.1 hF.2.1 dX9_accepts_36 (by decide) ?_
      exact T40 p0 1 X_45 _ _ ls hP hS (lv_sub hl [0] rfl) hw
def wpX9_reads_107 (post : Int32 → hX → Prop) (E : Nat) (x2 : Int32) (X : hX) : Prop := ((x2 ≤ 0 → post 0 X) ∧ (¬ x2 ≤ 0 → post 1 X))
def wpX9_reads_9 (post : Int32 → hX → Prop) (E : Nat) : Nat → Nat → Int32 → Int32 → hX → Prop
  | 0 => fun _ _ _ _ => False
  | n + 1 => fun x0 x1 x2 X => ((4 ≤ x2 → wpX9_reads_107 post E x2 X) ∧ (¬ 4 ≤ x2 → gfI X x0 4 2 (fun v_4 => gfA X x0 4 7 (fun v_8 => gfA X v_8 1 3 (fun v_12 => isO X v_12 10 (wpJ5_length (fun r_15 X_16 => ((r_15 ≤ v_4 → wpX9_reads_107 post E x2 X_16) ∧ (¬ r_15 ≤ v_4 → gfA X_16 x0 4 7 (fun v_20 => gfA X_16 v_20 1 3 (fun v_24 => gfI X_16 x0 4 2 (fun v_28 => isO X_16 v_24 10 (wpJ5_charAt (fun r_31 X_32 => wpX1_isBetween (fun r_34 => ((r_34 = 0 → wpX9_reads_107 post E x2 X_32) ∧ (¬ r_34 = 0 → gfA X_32 x0 4 1 (fun v_37 => gfA X_32 x0 4 1 (fun v_41 => alI X_32 0 v_41 x1 (fun v_48 => gfA X_32 x0 4 7 (fun v_50 => gfA X_32 v_50 1 3 (fun v_54 => gfI X_32 x0 4 2 (fun v_58 => isO X_32 v_54 10 (wpJ5_charAt (fun r_61 X_62 => asI X_62 v_37 x1 (((10 * v_48) + r_61) - 48) (fun X_68 => (∀ x2_69 : Int32, x2_69 = x2 + 1 → gfI X_68 x0 4 2 (fun v_71 => pfV X_68 x0 4 2 (.int (v_71 + 1)) (fun X_77 => wpX9_reads_9 post E n x0 x1 x2_69 X_77))))) E X_32 v_54 v_58)))))))))) (Int32.toInt64 r_31) 48 57) E X_16 v_24 v_28))))))) E X v_12))))))
def wpX9_reads (post : Int32 → hX → Prop) (E : Nat) (X : hX) (p0 : Nat) (p1 : Int32) : Prop := gfA X p0 4 1 (fun v_79 => asI X v_79 p1 0 (fun X_86 => ∃ fu : Nat, wpX9_reads_9 post E fu p0 p1 0 X_86))
abbrev wsX9_reads : List Cond := ws_ yX9_reads cX9_reads 3 (some .boolean)
set_option maxHeartbeats 8000000 in
theorem metX9_reads (l : Launch) (K : HK) (sz : Nat) (post : Int32 → hX → Prop) (X0 : hX) (p0 : Nat) (p1 : Int32) : Met l yX9_reads wsX9_reads (rmh 4 88 0 0) (hPc K X0 sz [.ref p0, .int p1] (wpX9_reads post (K.2.2 0) X0 p0 p1)) (hQi post K X0 sz) 0 0 (hA X0 sz) := by
  refine Met.ofW (cc := cX9_reads) (maxL := 3) (ret := (some .boolean)) (by decide) rfl ?_
  intro p e s m args below meth c s₁ B hml hv
  obtain ⟨rfl, hv⟩ := hv
  obtain ⟨hC, hP, hw⟩ := HC.of hv
  have hsz : s.heap.size = sz := hv.1
  subst hsz
  clear hv
  have hr := B.returns
  have hts := atoms_spec (ws := wsX9_reads) B.pre
  have hts : ∀ w ∈ lw_all, w.before _ s = true := fun w h => hts w (List.mem_cons_of_mem _ h)
  have hF : CallFix p m c cX9_reads 3 s ([.ref p0, .int p1] : List Value).toArray lw_all RX9 := ⟨B.exec, B.bytes, hml, findClass_of_methodNamed B.named, hts⟩
  have hlocks := B.notSynchronized
  have hl := lv_entry ([.ref p0, .int p1]) (n := 3) (Nat.le_of_ble_eq_true rfl)
  rw [lg_entry_eq]
  generalize (lg_sl ([.ref p0, .int p1]) ++ List.replicate (3 - (lg_sl ([.ref p0, .int p1])).length) Slot.unset).toArray = ls at hl ⊢
  have hl : lv_has ls 3 [(0, .ref p0), (1, .int p1)] := hl
  have hS : va_S (hA X0 s.heap.size) s.heap s.heap [] := va_S.rf
  have T107 : ∀ (x2 : Int32) (X : hX) (H : Heap) (locs : List Loc) (ls : Array Slot), hI K X0 s.heap.size X H → va_S (hA X0 s.heap.size) s.heap H locs → lv_has ls 3 [(2, .int x2)] → wpX9_reads_107 post (K.2.2 0) x2 X → W p l e (rmh 4 88 0 0) s m ([.ref p0, .int p1] : List Value).toArray below meth c H locs 0 0 (MQ below (hQi post K X0 s.heap.size) ([.ref p0, .int p1] : List Value).toArray s 0 0 (hA X0 s.heap.size)) (F0 m 107 ls []) := by
    intro x2 X H locs ls hP hS hl hw
    unfold wpX9_reads_107 at hw
    refine lv_iload_n hF.1 hF.2.1 dX9_reads_107 rfl (lv_at hl 0 rfl) ?_
    refine lv_if_le (tgt := 115) hF.1 hF.2.1 dX9_reads_108 (by decide) (fun c_1 => ?_) (fun c_1 => ?_)
    · have hw := hw.1 c_1
      refine lv_iconst (v := 0) hF.1 hF.2.1 dX9_reads_115 (by decide) ?_
      exact h_zret hF hr hlocks hP hS ⟨Nat.le_refl _, Nat.le_refl _⟩ dX9_reads_116 (Or.inl rfl) hw
    · have hw := hw.2 c_1
      refine lv_iconst (v := 1) hF.1 hF.2.1 dX9_reads_111 (by decide) ?_
      refine lv_goto (tgt := 116) hF.1 hF.2.1 dX9_reads_112 (by decide) ?_
      exact h_zret hF hr hlocks hP hS ⟨Nat.le_refl _, Nat.le_refl _⟩ dX9_reads_116 (Or.inr rfl) hw
  have T9 : ∀ (n : Nat), ∀ (x0 : Nat) (x1 : Int32) (x2 : Int32) (X : hX) (H : Heap) (locs : List Loc) (ls : Array Slot), hI K X0 s.heap.size X H → va_S (hA X0 s.heap.size) s.heap H locs → lv_has ls 3 [(0, .ref x0), (1, .int x1), (2, .int x2)] → wpX9_reads_9 post (K.2.2 0) n x0 x1 x2 X → W p l e (rmh 4 88 0 0) s m ([.ref p0, .int p1] : List Value).toArray below meth c H locs 0 0 (MQ below (hQi post K X0 s.heap.size) ([.ref p0, .int p1] : List Value).toArray s 0 0 (hA X0 s.heap.size)) (F0 m 9 ls []) := by
    intro n
    induction n with
    | zero =>
      intro x0 x1 x2 X H locs ls hP hS hl hw
      exact False.elim hw
    | succ n ih =>
      intro x0 x1 x2 X H locs ls hP hS hl hw
      unfold wpX9_reads_9 at hw
      refine lv_iload_n hF.1 hF.2.1 dX9_reads_9 rfl (lv_at hl 2 rfl) ?_
      refine lv_iconst (v := 4) hF.1 hF.2.1 dX9_reads_10 (by decide) ?_
      refine lv_icmp_ge (tgt := 107) hF.1 hF.2.1 dX9_reads_11 (by decide) (fun c_2 => ?_) (fun c_2 => ?_)
      · have hw := hw.1 c_2
        exact T107 x2 X _ _ ls hP hS (lv_sub hl [2] rfl) hw
      · have hw := hw.2 c_2
        refine lv_aload_n hF.1 hF.2.1 dX9_reads_14 rfl (lv_at hl 0 rfl) ?_
        obtain ⟨fs_3, v_4, hx_5, hv_6, hw⟩ := hw
        refine x_get hF hC hP in_X9 rfl 2 (by decide) q1584 (fun _ z => z) hx_5 hv_6 dX9_reads_15 ?_
        refine lv_aload_n hF.1 hF.2.1 dX9_reads_18 rfl (lv_at hl 0 rfl) ?_
        obtain ⟨fs_7, v_8, hx_9, hv_10, hw⟩ := hw
        refine x_get hF hC hP in_X9 rfl 7 (by decide) q1593 (fun _ z => z) hx_9 hv_10 dX9_reads_19 ?_
        obtain ⟨fs_11, v_12, hx_13, hv_14, hw⟩ := hw
        refine x_getN hF hC hP in_X1 rfl 3 (by decide) q247 (fun _ z => z) hx_13 hv_14 dX9_reads_22 ?_
        obtain ⟨ho_17, hw⟩ := hw
        refine hk_i (hr_V (As := []) (rest := [.int v_4]) (T := TJ5) (N := 4) (ci := 10) hF hl.1 hC hP hS (metJ5_length l K _ _ X v_12) rfl (cwV 0 hF.2.2.2.2 (lw_V q1615 q441 q442 q82 q443) rfl rfl rfl (by decide +kernel) ⟨Nat.le_of_ble_eq_true rfl, Nat.le_of_ble_eq_true rfl⟩) ho_17 hw rfl rfl (Nat.le_of_ble_eq_true rfl) dX9_reads_25 ⟨Nat.le_refl _, Nat.le_refl _⟩) hP hS (fun r_15 X_16 H locs hw hP hS => ?_)
        refine lv_icmp_ge (tgt := 107) hF.1 hF.2.1 dX9_reads_28 (by decide) (fun c_18 => ?_) (fun c_18 => ?_)
        · have hw := hw.1 c_18
          exact T107 x2 X_16 _ _ ls hP hS (lv_sub hl [2] rfl) hw
        · have hw := hw.2 c_18
          refine lv_aload_n hF.1 hF.2.1 dX9_reads_31 rfl (lv_at hl 0 rfl) ?_
          obtain ⟨fs_19, v_20, hx_21, hv_22, hw⟩ := hw
          refine x_get hF hC hP in_X9 rfl 7 (by decide) q1593 (fun _ z => z) hx_21 hv_22 dX9_reads_32 ?_
          obtain ⟨fs_23, v_24, hx_25, hv_26, hw⟩ := hw
          refine x_getN hF hC hP in_X1 rfl 3 (by decide) q247 (fun _ z => z) hx_25 hv_26 dX9_reads_35 ?_
          refine lv_aload_n hF.1 hF.2.1 dX9_reads_38 rfl (lv_at hl 0 rfl) ?_
          obtain ⟨fs_27, v_28, hx_29, hv_30, hw⟩ := hw
          refine x_get hF hC hP in_X9 rfl 2 (by decide) q1584 (fun _ z => z) hx_29 hv_30 dX9_reads_39 ?_
          obtain ⟨ho_33, hw⟩ := hw
          refine hk_i (hr_V (As := [.int v_28]) (rest := []) (T := TJ5) (N := 4) (ci := 10) hF hl.1 hC hP hS (metJ5_charAt l K _ _ X_16 v_24 v_28) rfl (cwV 1 hF.2.2.2.2 (lw_V q1621 q1622 q1623 q82 q1624) rfl rfl rfl (by decide +kernel) ⟨Nat.le_of_ble_eq_true rfl, Nat.le_of_ble_eq_true rfl⟩) ho_33 hw rfl rfl (Nat.le_of_ble_eq_true rfl) dX9_reads_42 ⟨Nat.le_refl _, Nat.le_refl _⟩) hP hS (fun r_31 X_32 H locs hw hP hS => ?_)
          refine lv_i2l hF.1 hF.2.1 dX9_reads_45 rfl ?_
          refine lv_ldc2 hF.1 hF.2.1 hF.2.2.2.1 (hF.2.2.2.2 _ q1695) dX9_reads_46 ?_
          refine lv_ldc2 hF.1 hF.2.1 hF.2.2.2.1 (hF.2.2.2.2 _ q1696) dX9_reads_49 ?_
          refine hp_i (hrp_SN (As := [.long (Int32.toInt64 r_31), .long 48, .long 57]) (rest := []) hF hl.1 (metX1_isBetween l _ (Int32.toInt64 r_31) 48 57) (va_cnB 3 hF.2.2.2.2 (lw_meth q849) rfl rfl rfl (hC.2.2.1.2.2.2.2.2.1 _ q1697 rfl) (hF.2.2.2.2 _ q75) (by decide +kernel) ⟨Nat.le_of_ble_eq_true rfl, Nat.le_of_ble_eq_true rfl⟩) q848 hw rfl rfl (Nat.le_of_ble_eq_true rfl) dX9_reads_52 ⟨Nat.le_refl _, Nat.le_refl _⟩) (fun r_34 hw => ?_)
          refine lv_if_eq (tgt := 107) hF.1 hF.2.1 dX9_reads_55 (by decide) (fun c_35 => ?_) (fun c_35 => ?_)
          · have hw := hw.1 c_35
            exact T107 x2 X_32 _ _ ls hP hS (lv_sub hl [2] rfl) hw
          · have hw := hw.2 c_35
            refine lv_aload_n hF.1 hF.2.1 dX9_reads_58 rfl (lv_at hl 0 rfl) ?_
            obtain ⟨fs_36, v_37, hx_38, hv_39, hw⟩ := hw
            refine x_get hF hC hP in_X9 rfl 1 (by decide) q1583 (fun _ z => z) hx_38 hv_39 dX9_reads_59 ?_
            refine lv_iload_n hF.1 hF.2.1 dX9_reads_62 rfl (lv_at hl 1 rfl) ?_
            refine lv_bipush (v := 10) hF.1 hF.2.1 dX9_reads_63 (by decide) ?_
            refine lv_aload_n hF.1 hF.2.1 dX9_reads_65 rfl (lv_at hl 0 rfl) ?_
            obtain ⟨fs_40, v_41, hx_42, hv_43, hw⟩ := hw
            refine x_get hF hC hP in_X9 rfl 1 (by decide) q1583 (fun _ z => z) hx_42 hv_43 dX9_reads_66 ?_
            refine lv_iload_n hF.1 hF.2.1 dX9_reads_69 rfl (lv_at hl 1 rfl) ?_
            obtain ⟨n_44, f_45, hx_46, hi_47, hw⟩ := hw
            refine x_iald hF hC hP hx_46 hi_47 dX9_reads_70 ?_
            generalize f_45 (Int32.toNatClampNeg x1) = v_48 at hw ⊢
            refine lv_imul hF.1 hF.2.1 dX9_reads_71 ?_
            refine lv_aload_n hF.1 hF.2.1 dX9_reads_72 rfl (lv_at hl 0 rfl) ?_
            obtain ⟨fs_49, v_50, hx_51, hv_52, hw⟩ := hw
            refine x_get hF hC hP in_X9 rfl 7 (by decide) q1593 (fun _ z => z) hx_51 hv_52 dX9_reads_73 ?_
            obtain ⟨fs_53, v_54, hx_55, hv_56, hw⟩ := hw
            refine x_getN hF hC hP in_X1 rfl 3 (by decide) q247 (fun _ z => z) hx_55 hv_56 dX9_reads_76 ?_
            refine lv_aload_n hF.1 hF.2.1 dX9_reads_79 rfl (lv_at hl 0 rfl) ?_
            obtain ⟨fs_57, v_58, hx_59, hv_60, hw⟩ := hw
            refine x_get hF hC hP in_X9 rfl 2 (by decide) q1584 (fun _ z => z) hx_59 hv_60 dX9_reads_80 ?_
            obtain ⟨ho_63, hw⟩ := hw
            refine hk_i (hr_V (As := [.int v_58]) (rest := [.int (10 * v_48), .int x1, .ref v_37]) (T := TJ5) (N := 4) (ci := 10) hF hl.1 hC hP hS (metJ5_charAt l K _ _ X_32 v_54 v_58) rfl (cwV 1 hF.2.2.2.2 (lw_V q1621 q1622 q1623 q82 q1624) rfl rfl rfl (by decide +kernel) ⟨Nat.le_of_ble_eq_true rfl, Nat.le_of_ble_eq_true rfl⟩) ho_63 hw rfl rfl (Nat.le_of_ble_eq_true rfl) dX9_reads_83 ⟨Nat.le_refl _, Nat.le_refl _⟩) hP hS (fun r_61 X_62 H locs hw hP hS => ?_)
            refine lv_iadd hF.1 hF.2.1 dX9_reads_86 ?_
            refine lv_bipush (v := 48) hF.1 hF.2.1 dX9_reads_87 (by decide) ?_
            refine lv_isub hF.1 hF.2.1 dX9_reads_89 ?_
            obtain ⟨n_64, f_65, hx_66, hi_67, hw⟩ := hw
            refine x_iast hF hC hP hS hx_66 hi_67 dX9_reads_90 (fun H locs hP hS => ?_)
            generalize hup X_62 v_37 (.inl (0, n_64, .inl (upd f_65 (Int32.toNatClampNeg x1) (((10 * v_48) + r_61) - 48)))) = X_68 at hP hw
            obtain ⟨x2_69, ex2_69⟩ : ∃ y : Int32, y = x2 + 1 := ⟨_, rfl⟩
            have hw := hw x2_69 ex2_69
            refine lv_iinc (v := x2_69) (lv' := [(2, .int x2_69), (0, .ref x0), (1, .int x1)]) hF.1 hF.2.1 dX9_reads_91 hl (k := 2) rfl (by rw [ex2_69]; rfl) (by decide) rfl (fun ls hl => ?_)
            refine lv_aload_n hF.1 hF.2.1 dX9_reads_94 rfl (lv_at hl 1 rfl) ?_
            refine lv_dup hF.1 hF.2.1 dX9_reads_95 rfl ?_
            obtain ⟨fs_70, v_71, hx_72, hv_73, hw⟩ := hw
            refine x_get hF hC hP in_X9 rfl 2 (by decide) q1584 (fun _ z => z) hx_72 hv_73 dX9_reads_96 ?_
            refine lv_iconst (v := 1) hF.1 hF.2.1 dX9_reads_99 (by decide) ?_
            refine lv_iadd hF.1 hF.2.1 dX9_reads_100 ?_
            obtain ⟨fs_74, hx_75, hl_76, hw⟩ := hw
            refine x_put hF hC hP hS in_X9 rfl tyX9 tyX9_ok nmX9 2 (by decide) q1584 (fun _ z => z) rfl rfl rfl hx_75 hl_76 dX9_reads_101 (fun H locs hP hS => ?_)
            generalize hup X_68 x0 (.inr (4, fs_74.set 2 (.int (v_71 + 1)))) = X_77 at hP hw
            refine lv_goto (tgt := 9) hF.1 hF.2.1 dX9_reads_104 (by decide) ?_
            exact ih x0 x1 x2_69 X_77 _ _ ls hP hS (lv_sub hl [1, 2, 0] rfl) hw
  unfold wpX9_reads at hw
  show W p l e (rmh 4 88 0 0) s m _ below meth c _ _ _ _ _ _
  refine lv_iconst (v := 0) hF.1 hF.2.1 dX9_reads_0 (by decide) ?_
  refine lv_istore_n (lv' := [(2, .int 0), (0, .ref p0), (1, .int p1)]) hF.1 hF.2.1 dX9_reads_1 rfl hl (by decide) rfl (fun ls hl => ?_)
  refine lv_aload_n hF.1 hF.2.1 dX9_reads_2 rfl (lv_at hl 1 rfl) ?_
  obtain ⟨fs_78, v_79, hx_80, hv_81, hw⟩ := hw
  refine x_get hF hC hP in_X9 rfl 1 (by decide) q1583 (fun _ z => z) hx_80 hv_81 dX9_reads_3 ?_
  refine lv_iload_n hF.1 hF.2.1 dX9_reads_6 rfl (lv_at hl 2 rfl) ?_
  refine lv_iconst (v := 0) hF.1 hF.2.1 dX9_reads_7 (by decide) ?_
  obtain ⟨n_82, f_83, hx_84, hi_85, hw⟩ := hw
  refine x_iast hF hC hP hS hx_84 hi_85 dX9_reads_8 (fun H locs hP hS => ?_)
  generalize hup X0 v_79 (.inl (0, n_82, .inl (upd f_83 (Int32.toNatClampNeg p1) 0))) = X_86 at hP hw
  obtain ⟨fu, hw⟩ := hw
  exact T9 fu p0 p1 0 X_86 _ _ ls hP hS (lv_sub hl [1, 2, 0] rfl) hw
def wpX9_isOfForm_54 (post : Int32 → hX → Prop) (E : Nat) (x0 : Nat) (x2 : Int32) (X : hX) : Prop := ((x2 = 0 → post 0 X) ∧ (¬ x2 = 0 → isO X x0 4 (wpX9_accepts (fun r_2 X_3 => ((r_2 = 0 → post 0 X_3) ∧ (¬ r_2 = 0 → post 1 X_3))) E X x0 59)))
def wpX9_isOfForm_47 (post : Int32 → hX → Prop) (E : Nat) (J12 : Nat → Int32 → Int32 → Int32 → hX → Prop) (x0 : Nat) (x1 : Int32) (x3 : Int32) (z0 : Int32) (X : hX) : Prop := (∀ x3_6 : Int32, x3_6 = x3 + 1 → J12 x0 x1 z0 x3_6 X)
def wpX9_isOfForm_46 (post : Int32 → hX → Prop) (E : Nat) (J12 : Nat → Int32 → Int32 → Int32 → hX → Prop) (x0 : Nat) (x1 : Int32) (x3 : Int32) (X : hX) : Prop := wpX9_isOfForm_47 post E J12 x0 x1 x3 0 X
def wpX9_isOfForm_34 (post : Int32 → hX → Prop) (E : Nat) (J12 : Nat → Int32 → Int32 → Int32 → hX → Prop) (x0 : Nat) (x1 : Int32) (x3 : Int32) (X : hX) : Prop := isO X x0 4 (wpX9_reads (fun r_7 X_8 => ((r_7 = 0 → wpX9_isOfForm_46 post E J12 x0 x1 x3 X_8) ∧ (¬ r_7 = 0 → wpX9_isOfForm_47 post E J12 x0 x1 x3 1 X_8))) E X x0 x3)
def wpX9_isOfForm_12 (post : Int32 → hX → Prop) (E : Nat) : Nat → Nat → Int32 → Int32 → Int32 → hX → Prop
  | 0 => fun _ _ _ _ _ => False
  | n + 1 => fun x0 x1 x2 x3 X => ((x1 ≤ x3 → wpX9_isOfForm_54 post E x0 x2 X) ∧ (¬ x1 ≤ x3 → ((x2 = 0 → wpX9_isOfForm_54 post E x0 x2 X) ∧ (¬ x2 = 0 → ((x3 = 0 → wpX9_isOfForm_34 post E (wpX9_isOfForm_12 post E n) x0 x1 x3 X) ∧ (¬ x3 = 0 → isO X x0 4 (wpX9_accepts (fun r_14 X_15 => ((r_14 = 0 → wpX9_isOfForm_46 post E (wpX9_isOfForm_12 post E n) x0 x1 x3 X_15) ∧ (¬ r_14 = 0 → wpX9_isOfForm_34 post E (wpX9_isOfForm_12 post E n) x0 x1 x3 X_15))) E X x0 44)))))))
def wpX9_isOfForm_9 (post : Int32 → hX → Prop) (E : Nat) (x0 : Nat) (x1 : Int32) (z0 : Int32) (X : hX) : Prop := ∃ fu : Nat, wpX9_isOfForm_12 post E fu x0 x1 z0 0 X
def wpX9_isOfForm (post : Int32 → hX → Prop) (E : Nat) (X : hX) (p0 : Nat) (p1 : Int32) : Prop := ((p1 < 0 → wpX9_isOfForm_9 post E p0 p1 0 X) ∧ (¬ p1 < 0 → wpX9_isOfForm_9 post E p0 p1 1 X))
abbrev wsX9_isOfForm : List Cond := ws_ yX9_isOfForm cX9_isOfForm 4 (some .boolean)
set_option maxHeartbeats 8000000 in
theorem metX9_isOfForm (l : Launch) (K : HK) (sz : Nat) (post : Int32 → hX → Prop) (X0 : hX) (p0 : Nat) (p1 : Int32) : Met l yX9_isOfForm wsX9_isOfForm (rmh 5 110 0 0) (hPc K X0 sz [.ref p0, .int p1] (wpX9_isOfForm post (K.2.2 0) X0 p0 p1)) (hQi post K X0 sz) 0 0 (hA X0 sz) := by
  refine Met.ofW (cc := cX9_isOfForm) (maxL := 4) (ret := (some .boolean)) (by decide) rfl ?_
  intro p e s m args below meth c s₁ B hml hv
  obtain ⟨rfl, hv⟩ := hv
  obtain ⟨hC, hP, hw⟩ := HC.of hv
  have hsz : s.heap.size = sz := hv.1
  subst hsz
  clear hv
  have hr := B.returns
  have hts := atoms_spec (ws := wsX9_isOfForm) B.pre
  have hts : ∀ w ∈ lw_all, w.before _ s = true := fun w h => hts w (List.mem_cons_of_mem _ h)
  have hF : CallFix p m c cX9_isOfForm 4 s ([.ref p0, .int p1] : List Value).toArray lw_all RX9 := ⟨B.exec, B.bytes, hml, findClass_of_methodNamed B.named, hts⟩
  have hlocks := B.notSynchronized
  have hl := lv_entry ([.ref p0, .int p1]) (n := 4) (Nat.le_of_ble_eq_true rfl)
  rw [lg_entry_eq]
  generalize (lg_sl ([.ref p0, .int p1]) ++ List.replicate (4 - (lg_sl ([.ref p0, .int p1])).length) Slot.unset).toArray = ls at hl ⊢
  have hl : lv_has ls 4 [(0, .ref p0), (1, .int p1)] := hl
  have hS : va_S (hA X0 s.heap.size) s.heap s.heap [] := va_S.rf
  have T54 : ∀ (x0 : Nat) (x2 : Int32) (X : hX) (H : Heap) (locs : List Loc) (ls : Array Slot), hI K X0 s.heap.size X H → va_S (hA X0 s.heap.size) s.heap H locs → lv_has ls 4 [(0, .ref x0), (2, .int x2)] → wpX9_isOfForm_54 post (K.2.2 0) x0 x2 X → W p l e (rmh 5 110 0 0) s m ([.ref p0, .int p1] : List Value).toArray below meth c H locs 0 0 (MQ below (hQi post K X0 s.heap.size) ([.ref p0, .int p1] : List Value).toArray s 0 0 (hA X0 s.heap.size)) (F0 m 54 ls []) := by
    intro x0 x2 X H locs ls hP hS hl hw
    unfold wpX9_isOfForm_54 at hw
    refine lv_iload_n hF.1 hF.2.1 dX9_isOfForm_54 rfl (lv_at hl 1 rfl) ?_
    refine lv_if_eq (tgt := 71) hF.1 hF.2.1 dX9_isOfForm_55 (by decide) (fun c_1 => ?_) (fun c_1 => ?_)
    · have hw := hw.1 c_1
      refine lv_iconst (v := 0) hF.1 hF.2.1 dX9_isOfForm_71 (by decide) ?_
      exact h_zret hF hr hlocks hP hS ⟨Nat.le_refl _, Nat.le_refl _⟩ dX9_isOfForm_72 (Or.inl rfl) hw
    · have hw := hw.2 c_1
      refine lv_aload_n hF.1 hF.2.1 dX9_isOfForm_58 rfl (lv_at hl 0 rfl) ?_
      refine lv_bipush (v := 59) hF.1 hF.2.1 dX9_isOfForm_59 (by decide) ?_
      obtain ⟨ho_4, hw⟩ := hw
      refine hk_i (hr_V (As := [.int 59]) (rest := []) (T := TX9) (N := 8) (ci := 4) hF hl.1 hC hP hS (metX9_accepts l K _ _ X x0 59) rfl (cwV 1 hF.2.2.2.2 (lw_V q1687 q1689 qs22 q108 q1690) rfl rfl rfl (by decide +kernel) ⟨Nat.le_of_ble_eq_true rfl, Nat.le_of_ble_eq_true rfl⟩) ho_4 hw rfl rfl (Nat.le_of_ble_eq_true rfl) dX9_isOfForm_61 ⟨Nat.le_refl _, Nat.le_refl _⟩) hP hS (fun r_2 X_3 H locs hw hP hS => ?_)
      refine lv_if_eq (tgt := 71) hF.1 hF.2.1 dX9_isOfForm_64 (by decide) (fun c_5 => ?_) (fun c_5 => ?_)
      · have hw := hw.1 c_5
        refine lv_iconst (v := 0) hF.1 hF.2.1 dX9_isOfForm_71 (by decide) ?_
        exact h_zret hF hr hlocks hP hS ⟨Nat.le_refl _, Nat.le_refl _⟩ dX9_isOfForm_72 (Or.inl rfl) hw
      · have hw := hw.2 c_5
        refine lv_iconst (v := 1) hF.1 hF.2.1 dX9_isOfForm_67 (by decide) ?_
        refine lv_goto (tgt := 72) hF.1 hF.2.1 dX9_isOfForm_68 (by decide) ?_
        exact h_zret hF hr hlocks hP hS ⟨Nat.le_refl _, Nat.le_refl _⟩ dX9_isOfForm_72 (Or.inr rfl) hw
  have T47 : ∀ (J12 : Nat → Int32 → Int32 → Int32 → hX → Prop) (hJ12 : ∀ (x0 : Nat) (x1 : Int32) (x2 : Int32) (x3 : Int32) (X : hX) (H : Heap) (locs : List Loc) (ls : Array Slot), hI K X0 s.heap.size X H → va_S (hA X0 s.heap.size) s.heap H locs → lv_has ls 4 [(0, .ref x0), (1, .int x1), (2, .int x2), (3, .int x3)] → J12 x0 x1 x2 x3 X → W p l e (rmh 5 110 0 0) s m ([.ref p0, .int p1] : List Value).toArray below meth c H locs 0 0 (MQ below (hQi post K X0 s.heap.size) ([.ref p0, .int p1] : List Value).toArray s 0 0 (hA X0 s.heap.size)) (F0 m 12 ls [])), ∀ (x0 : Nat) (x1 : Int32) (x3 : Int32) (z0 : Int32) (X : hX) (H : Heap) (locs : List Loc) (ls : Array Slot), hI K X0 s.heap.size X H → va_S (hA X0 s.heap.size) s.heap H locs → lv_has ls 4 [(0, .ref x0), (1, .int x1), (3, .int x3)] → wpX9_isOfForm_47 post (K.2.2 0) J12 x0 x1 x3 z0 X → W p l e (rmh 5 110 0 0) s m ([.ref p0, .int p1] : List Value).toArray below meth c H locs 0 0 (MQ below (hQi post K X0 s.heap.size) ([.ref p0, .int p1] : List Value).toArray s 0 0 (hA X0 s.heap.size)) (F0 m 47 ls [.int z0]) := by
    intro J12 hJ12
    intro x0 x1 x3 z0 X H locs ls hP hS hl hw
    unfold wpX9_isOfForm_47 at hw
    refine lv_istore_n (lv' := [(2, .int z0), (0, .ref x0), (1, .int x1), (3, .int x3)]) hF.1 hF.2.1 dX9_isOfForm_47 rfl hl (by decide) rfl (fun ls hl => ?_)
    obtain ⟨x3_6, ex3_6⟩ : ∃ y : Int32, y = x3 + 1 := ⟨_, rfl⟩
    have hw := hw x3_6 ex3_6
    refine lv_iinc (v := x3_6) (lv' := [(3, .int x3_6), (2, .int z0), (0, .ref x0), (1, .int x1)]) hF.1 hF.2.1 dX9_isOfForm_48 hl (k := 3) rfl (by rw [ex3_6]; rfl) (by decide) rfl (fun ls hl => ?_)
    refine lv_goto (tgt := 12) hF.1 hF.2.1 dX9_isOfForm_51 (by decide) ?_
    exact hJ12 x0 x1 z0 x3_6 X _ _ ls hP hS (lv_sub hl [2, 3, 1, 0] rfl) hw
  have T46 : ∀ (J12 : Nat → Int32 → Int32 → Int32 → hX → Prop) (hJ12 : ∀ (x0 : Nat) (x1 : Int32) (x2 : Int32) (x3 : Int32) (X : hX) (H : Heap) (locs : List Loc) (ls : Array Slot), hI K X0 s.heap.size X H → va_S (hA X0 s.heap.size) s.heap H locs → lv_has ls 4 [(0, .ref x0), (1, .int x1), (2, .int x2), (3, .int x3)] → J12 x0 x1 x2 x3 X → W p l e (rmh 5 110 0 0) s m ([.ref p0, .int p1] : List Value).toArray below meth c H locs 0 0 (MQ below (hQi post K X0 s.heap.size) ([.ref p0, .int p1] : List Value).toArray s 0 0 (hA X0 s.heap.size)) (F0 m 12 ls [])), ∀ (x0 : Nat) (x1 : Int32) (x3 : Int32) (X : hX) (H : Heap) (locs : List Loc) (ls : Array Slot), hI K X0 s.heap.size X H → va_S (hA X0 s.heap.size) s.heap H locs → lv_has ls 4 [(0, .ref x0), (1, .int x1), (3, .int x3)] → wpX9_isOfForm_46 post (K.2.2 0) J12 x0 x1 x3 X → W p l e (rmh 5 110 0 0) s m ([.ref p0, .int p1] : List Value).toArray below meth c H locs 0 0 (MQ below (hQi post K X0 s.heap.size) ([.ref p0, .int p1] : List Value).toArray s 0 0 (hA X0 s.heap.size)) (F0 m 46 ls []) := by
    intro J12 hJ12
    intro x0 x1 x3 X H locs ls hP hS hl hw
    unfold wpX9_isOfForm_46 at hw
    refine lv_iconst (v := 0) hF.1 hF.2.1 dX9_isOfForm_46 (by decide) ?_
    exact T47 _ hJ12 x0 x1 x3 0 X _ _ ls hP hS (lv_sub hl [0, 1, 2] rfl) hw
  have T34 : ∀ (J12 : Nat → Int32 → Int32 → Int32 → hX → Prop) (hJ12 : ∀ (x0 : Nat) (x1 : Int32) (x2 : Int32) (x3 : Int32) (X : hX) (H : Heap) (locs : List Loc) (ls : Array Slot), hI K X0 s.heap.size X H → va_S (hA X0 s.heap.size) s.heap H locs → lv_has ls 4 [(0, .ref x0), (1, .int x1), (2, .int x2), (3, .int x3)] → J12 x0 x1 x2 x3 X → W p l e (rmh 5 110 0 0) s m ([.ref p0, .int p1] : List Value).toArray below meth c H locs 0 0 (MQ below (hQi post K X0 s.heap.size) ([.ref p0, .int p1] : List Value).toArray s 0 0 (hA X0 s.heap.size)) (F0 m 12 ls [])), ∀ (x0 : Nat) (x1 : Int32) (x3 : Int32) (X : hX) (H : Heap) (locs : List Loc) (ls : Array Slot), hI K X0 s.heap.size X H → va_S (hA X0 s.heap.size) s.heap H locs → lv_has ls 4 [(0, .ref x0), (1, .int x1), (3, .int x3)] → wpX9_isOfForm_34 post (K.2.2 0) J12 x0 x1 x3 X → W p l e (rmh 5 110 0 0) s m ([.ref p0, .int p1] : List Value).toArray below meth c H locs 0 0 (MQ below (hQi post K X0 s.heap.size) ([.ref p0, .int p1] : List Value).toArray s 0 0 (hA X0 s.heap.size)) (F0 m 34 ls []) := by
    intro J12 hJ12
    intro x0 x1 x3 X H locs ls hP hS hl hw
    unfold wpX9_isOfForm_34 at hw
    refine lv_aload_n hF.1 hF.2.1 dX9_isOfForm_34 rfl (lv_at hl 0 rfl) ?_
    refine lv_iload_n hF.1 hF.2.1 dX9_isOfForm_35 rfl (lv_at hl 2 rfl) ?_
    obtain ⟨ho_9, hw⟩ := hw
    refine hk_i (hr_V (As := [.int x3]) (rest := []) (T := TX9) (N := 8) (ci := 4) hF hl.1 hC hP hS (metX9_reads l K _ _ X x0 x3) rfl (cwV 1 hF.2.2.2.2 (lw_V q1691 q1693 qs23 q108 q1694) rfl rfl rfl (by decide +kernel) ⟨Nat.le_of_ble_eq_true rfl, Nat.le_of_ble_eq_true rfl⟩) ho_9 hw rfl rfl (Nat.le_of_ble_eq_true rfl) dX9_isOfForm_36 ⟨Nat.le_refl _, Nat.le_refl _⟩) hP hS (fun r_7 X_8 H locs hw hP hS => ?_)
    refine lv_if_eq (tgt := 46) hF.1 hF.2.1 dX9_isOfForm_39 (by decide) (fun c_10 => ?_) (fun c_10 => ?_)
    · have hw := hw.1 c_10
      exact T46 _ hJ12 x0 x1 x3 X_8 _ _ ls hP hS (lv_sub hl [0, 1, 2] rfl) hw
    · have hw := hw.2 c_10
      refine lv_iconst (v := 1) hF.1 hF.2.1 dX9_isOfForm_42 (by decide) ?_
      refine lv_goto (tgt := 47) hF.1 hF.2.1 dX9_isOfForm_43 (by decide) ?_
      exact T47 _ hJ12 x0 x1 x3 1 X_8 _ _ ls hP hS (lv_sub hl [0, 1, 2] rfl) hw
  have T12 : ∀ (n : Nat), ∀ (x0 : Nat) (x1 : Int32) (x2 : Int32) (x3 : Int32) (X : hX) (H : Heap) (locs : List Loc) (ls : Array Slot), hI K X0 s.heap.size X H → va_S (hA X0 s.heap.size) s.heap H locs → lv_has ls 4 [(0, .ref x0), (1, .int x1), (2, .int x2), (3, .int x3)] → wpX9_isOfForm_12 post (K.2.2 0) n x0 x1 x2 x3 X → W p l e (rmh 5 110 0 0) s m ([.ref p0, .int p1] : List Value).toArray below meth c H locs 0 0 (MQ below (hQi post K X0 s.heap.size) ([.ref p0, .int p1] : List Value).toArray s 0 0 (hA X0 s.heap.size)) (F0 m 12 ls []) := by
    intro n
    induction n with
    | zero =>
      intro x0 x1 x2 x3 X H locs ls hP hS hl hw
      exact False.elim hw
    | succ n ih =>
      intro x0 x1 x2 x3 X H locs ls hP hS hl hw
      unfold wpX9_isOfForm_12 at hw
      refine lv_iload_n hF.1 hF.2.1 dX9_isOfForm_12 rfl (lv_at hl 3 rfl) ?_
      refine lv_iload_n hF.1 hF.2.1 dX9_isOfForm_13 rfl (lv_at hl 1 rfl) ?_
      refine lv_icmp_ge (tgt := 54) hF.1 hF.2.1 dX9_isOfForm_14 (by decide) (fun c_11 => ?_) (fun c_11 => ?_)
      · have hw := hw.1 c_11
        exact T54 x0 x2 X _ _ ls hP hS (lv_sub hl [0, 2] rfl) hw
      · have hw := hw.2 c_11
        refine lv_iload_n hF.1 hF.2.1 dX9_isOfForm_17 rfl (lv_at hl 2 rfl) ?_
        refine lv_if_eq (tgt := 54) hF.1 hF.2.1 dX9_isOfForm_18 (by decide) (fun c_12 => ?_) (fun c_12 => ?_)
        · have hw := hw.1 c_12
          exact T54 x0 x2 X _ _ ls hP hS (lv_sub hl [0, 2] rfl) hw
        · have hw := hw.2 c_12
          refine lv_iload_n hF.1 hF.2.1 dX9_isOfForm_21 rfl (lv_at hl 3 rfl) ?_
          refine lv_if_eq (tgt := 34) hF.1 hF.2.1 dX9_isOfForm_22 (by decide) (fun c_13 => ?_) (fun c_13 => ?_)
          · have hw := hw.1 c_13
            exact T34 _ ih x0 x1 x3 X _ _ ls hP hS (lv_sub hl [0, 1, 3] rfl) hw
          · have hw := hw.2 c_13
            refine lv_aload_n hF.1 hF.2.1 dX9_isOfForm_25 rfl (lv_at hl 0 rfl) ?_
            refine lv_bipush (v := 44) hF.1 hF.2.1 dX9_isOfForm_26 (by decide) ?_
            obtain ⟨ho_16, hw⟩ := hw
            refine hk_i (hr_V (As := [.int 44]) (rest := []) (T := TX9) (N := 8) (ci := 4) hF hl.1 hC hP hS (metX9_accepts l K _ _ X x0 44) rfl (cwV 1 hF.2.2.2.2 (lw_V q1687 q1689 qs22 q108 q1690) rfl rfl rfl (by decide +kernel) ⟨Nat.le_of_ble_eq_true rfl, Nat.le_of_ble_eq_true rfl⟩) ho_16 hw rfl rfl (Nat.le_of_ble_eq_true rfl) dX9_isOfForm_28 ⟨Nat.le_refl _, Nat.le_refl _⟩) hP hS (fun r_14 X_15 H locs hw hP hS => ?_)
            refine lv_if_eq (tgt := 46) hF.1 hF.2.1 dX9_isOfForm_31 (by decide) (fun c_17 => ?_) (fun c_17 => ?_)
            · have hw := hw.1 c_17
              exact T46 _ ih x0 x1 x3 X_15 _ _ ls hP hS (lv_sub hl [0, 1, 3] rfl) hw
            · have hw := hw.2 c_17
              exact T34 _ ih x0 x1 x3 X_15 _ _ ls hP hS (lv_sub hl [0, 1, 3] rfl) hw
  have T9 : ∀ (x0 : Nat) (x1 : Int32) (z0 : Int32) (X : hX) (H : Heap) (locs : List Loc) (ls : Array Slot), hI K X0 s.heap.size X H → va_S (hA X0 s.heap.size) s.heap H locs → lv_has ls 4 [(0, .ref x0), (1, .int x1)] → wpX9_isOfForm_9 post (K.2.2 0) x0 x1 z0 X → W p l e (rmh 5 110 0 0) s m ([.ref p0, .int p1] : List Value).toArray below meth c H locs 0 0 (MQ below (hQi post K X0 s.heap.size) ([.ref p0, .int p1] : List Value).toArray s 0 0 (hA X0 s.heap.size)) (F0 m 9 ls [.int z0]) := by
    intro x0 x1 z0 X H locs ls hP hS hl hw
    unfold wpX9_isOfForm_9 at hw
    refine lv_istore_n (lv' := [(2, .int z0), (0, .ref x0), (1, .int x1)]) hF.1 hF.2.1 dX9_isOfForm_9 rfl hl (by decide) rfl (fun ls hl => ?_)
    refine lv_iconst (v := 0) hF.1 hF.2.1 dX9_isOfForm_10 (by decide) ?_
    refine lv_istore_n (lv' := [(3, .int 0), (2, .int z0), (0, .ref x0), (1, .int x1)]) hF.1 hF.2.1 dX9_isOfForm_11 rfl hl (by decide) rfl (fun ls hl => ?_)
    obtain ⟨fu, hw⟩ := hw
    exact T12 fu x0 x1 z0 0 X _ _ ls hP hS (lv_sub hl [2, 3, 1, 0] rfl) hw
  unfold wpX9_isOfForm at hw
  show W p l e (rmh 5 110 0 0) s m _ below meth c _ _ _ _ _ _
  refine lv_iload_n hF.1 hF.2.1 dX9_isOfForm_0 rfl (lv_at hl 1 rfl) ?_
  refine lv_if_lt (tgt := 8) hF.1 hF.2.1 dX9_isOfForm_1 (by decide) (fun c_18 => ?_) (fun c_18 => ?_)
  · have hw := hw.1 c_18
    refine lv_iconst (v := 0) hF.1 hF.2.1 dX9_isOfForm_8 (by decide) ?_
    exact T9 p0 p1 0 X0 _ _ ls hP hS (lv_sub hl [0, 1] rfl) hw
  · have hw := hw.2 c_18
    refine lv_iconst (v := 1) hF.1 hF.2.1 dX9_isOfForm_4 (by decide) ?_
    refine lv_goto (tgt := 9) hF.1 hF.2.1 dX9_isOfForm_5 (by decide) ?_
    exact T9 p0 p1 1 X0 _ _ ls hP hS (lv_sub hl [0, 1] rfl) hw
def wpX9_one_119 (post : hX → Prop) (xpost : String → Nat → hX → Prop) (E : Nat) (mc ms : Nat) (x0 : Nat) (x1 : Int32) (z0 : Nat) (z1 : Int32) (z2 : Int32) (X : hX) (kc ks : Nat) : Prop := asI X z0 z1 z2 (fun X_5 => newO X_5 2 [.null, .null, .null, .null, .null, .int 0, .int 0, .int 0, .int 0] 9 kc ks mc ms (fun a_6 X_7 => gfA X_7 x0 4 0 (fun v_10 => (∃ mc_14 ms_15 : Nat, (kc + 1) + mc_14 ≤ mc ∧ (ks + 9) + ms_15 ≤ ms ∧ wpX2_init_2 (fun X_13 => gfA X_13 x0 4 1 (fun v_19 => (∃ mc_24 ms_25 : Nat, ((kc + 1) + mc_14) + mc_24 ≤ mc ∧ ((ks + 9) + ms_15) + ms_25 ≤ ms ∧ wpX1_done (fun r_22 X_23 => pfV X_23 x0 4 0 (.ref a_6) (fun X_43 => gfI X_43 x0 4 6 (fun v_45 => pfV X_43 x0 4 6 (.int (v_45 + 1)) (fun X_51 => post X_51)))) (fun E9 q9 X9 => (E9 = "ClockworkOrreries$Refused" ∧ pfV X9 x0 4 4 (.int 2) (fun X_31 => gfI X_31 q9 11 0 (fun v_33 => pfV X_31 x0 4 5 (.int v_33) (fun X_39 => post X_39))))) E mc_24 ms_25 X_13 a_6 x1 v_19))) E mc_14 ms_15 X_7 a_6 v_10))))
def wpX9_one_67 (post : hX → Prop) (xpost : String → Nat → hX → Prop) (E : Nat) (mc ms : Nat) (x0 : Nat) (x1 : Int32) (x2 : Int32) (z0 : Nat) (z1 : Int32) (z2 : Int32) (X : hX) (kc ks : Nat) : Prop := pfV X z0 4 2 (.int (z1 + z2)) (fun X_55 => isO X_55 x0 4 (wpX9_isOfForm (fun r_56 X_57 => ((r_56 = 0 → pfV X_57 x0 4 4 (.int 1) (fun X_77 => gfI X_77 x0 4 2 (fun v_79 => gfI X_77 x0 4 3 (fun v_83 => pfV X_77 x0 4 5 (.int (v_79 - v_83)) (fun X_89 => post X_89))))) ∧ (¬ r_56 = 0 → gfA X_57 x0 4 1 (fun v_61 => ((x1 = 97 → wpX9_one_119 post xpost E mc ms x0 x1 v_61 1 0 X_57 kc ks) ∧ (¬ x1 = 97 → gfA X_57 x0 4 1 (fun v_66 => alI X_57 0 v_66 1 (fun v_73 => wpX9_one_119 post xpost E mc ms x0 x1 v_61 1 v_73 X_57 kc ks)))))))) E X_55 x0 x2))
def wpX9_one_52 (post : hX → Prop) (xpost : String → Nat → hX → Prop) (E : Nat) (mc ms : Nat) (x0 : Nat) (x1 : Int32) (z0 : Int32) (X : hX) (kc ks : Nat) : Prop := gfI X x0 4 2 (fun v_91 => ((0 ≤ z0 → wpX9_one_67 post xpost E mc ms x0 x1 z0 x0 v_91 1 X kc ks) ∧ (¬ 0 ≤ z0 → wpX9_one_67 post xpost E mc ms x0 x1 z0 x0 v_91 0 X kc ks)))
def wpX9_one (post : hX → Prop) (xpost : String → Nat → hX → Prop) (E : Nat) (mc ms : Nat) (X : hX) (p0 : Nat) : Prop := gfA X p0 4 7 (fun v_96 => gfA X v_96 1 3 (fun v_100 => gfI X p0 4 2 (fun v_104 => isO X v_100 10 (wpJ5_charAt (fun r_107 X_108 => (0 < 2 ∧ wpJ6_indexOf (fun r_110 X_111 => ((r_110 < 0 → (1 < 2 ∧ wpJ6_indexOf (fun r_114 X_115 => ((r_114 < 0 → ((r_107 = 120 → wpX9_one_52 post xpost E mc ms p0 r_107 0 X_115 0 0) ∧ (¬ r_107 = 120 → wpX9_one_52 post xpost E mc ms p0 r_107 (-1) X_115 0 0))) ∧ (¬ r_114 < 0 → wpX9_one_52 post xpost E mc ms p0 r_107 1 X_115 0 0))) E X_111 1 r_107)) ∧ (¬ r_110 < 0 → wpX9_one_52 post xpost E mc ms p0 r_107 2 X_111 0 0))) E X_108 0 r_107)) E X v_100 v_104))))
abbrev wsX9_one : List Cond := wsW_ yX9_one cX9_one 5 none [(120, 158, 161, 94)]
set_option maxHeartbeats 8000000 in
theorem metX9_one (l : Launch) (hlt : l.stackTraces = false) (K : HK) (mc ms : Nat) (sz : Nat) (post : hX → Prop) (xpost : String → Nat → hX → Prop) (X0 : hX) (p0 : Nat) : vx_Met l yX9_one wsX9_one (rmh 11 281 mc ms) (hPc K X0 sz [.ref p0] (wpX9_one post xpost (K.2.2 0) mc ms X0 p0)) (hQv post K X0 sz) (hXC xpost K X0 sz) mc ms (hA X0 sz) := by
  refine vx_ofWH (cc := cX9_one) (maxL := 5) (ret := none) (by decide) rfl ?_
  intro p e s m args below meth c s₁ B hml hv
  obtain ⟨rfl, hv⟩ := hv
  obtain ⟨hC, hP, hw⟩ := HC.of hv
  have hsz : s.heap.size = sz := hv.1
  subst hsz
  clear hv
  have hr := B.returns
  have hts := atoms_spec (ws := wsX9_one) B.pre
  have htab : c.exceptionTable.toList = tableOf [(120, 158, 161, 94)] := vx_table (x := yX9_one) B (hts _ List.mem_cons_self)
  have hout : ∀ pc : Nat, (tableOf [(120, 158, 161, 94)]).all (fun x => !covers x pc) = true → ∀ x ∈ c.exceptionTable.toList, covers x pc = false := fun pc h x hx => by rw [htab] at hx; have h1 := List.all_eq_true.mp h x hx; exact (Bool.not_eq_true' _).mp h1
  have hts : ∀ w ∈ lw_all, w.before _ s = true := fun w h => hts w (List.mem_cons_of_mem _ h)
  have hF : CallFix p m c cX9_one 5 s ([.ref p0] : List Value).toArray lw_all RX9 := ⟨B.exec, B.bytes, hml, findClass_of_methodNamed B.named, hts⟩
  have hlocks := B.notSynchronized
  have hl := lv_entry ([.ref p0]) (n := 5) (Nat.le_of_ble_eq_true rfl)
  rw [lg_entry_eq]
  generalize (lg_sl ([.ref p0]) ++ List.replicate (5 - (lg_sl ([.ref p0])).length) Slot.unset).toArray = ls at hl ⊢
  have hl : lv_has ls 5 [(0, .ref p0)] := hl
  have hS : va_S (hA X0 s.heap.size) s.heap s.heap [] := va_S.rf
  have T119 : ∀ (x0 : Nat) (x1 : Int32) (z0 : Nat) (z1 : Int32) (z2 : Int32) (X : hX) (kc ks : Nat) (H : Heap) (locs : List Loc) (ls : Array Slot), hI K X0 s.heap.size X H → va_S (hA X0 s.heap.size) s.heap H locs → kc ≤ mc ∧ ks ≤ ms → lv_has ls 5 [(0, .ref x0), (1, .int x1)] → wpX9_one_119 post xpost (K.2.2 0) mc ms x0 x1 z0 z1 z2 X kc ks → W p l e (rmh 11 281 mc ms) s m ([.ref p0] : List Value).toArray below meth c H locs kc ks (vx_MQ below (hQv post K X0 s.heap.size) (hXC xpost K X0 s.heap.size) ([.ref p0] : List Value).toArray s mc ms (hA X0 s.heap.size)) (F0 m 119 ls [.int z2, .int z1, .ref z0]) := by
    intro x0 x1 z0 z1 z2 X kc ks H locs ls hP hS hk hl hw
    unfold wpX9_one_119 at hw
    obtain ⟨n_1, f_2, hx_3, hi_4, hw⟩ := hw
    refine x_iast hF hC hP hS hx_3 hi_4 dX9_one_119 (fun H locs hP hS => ?_)
    generalize hup X z0 (.inl (0, n_1, .inl (upd f_2 (Int32.toNatClampNeg z1) z2))) = X_5 at hP hw
    refine x_new hF hC hP hS in_X2 rfl tyX2 tyX2_ok q1698 q119 q76 (nfsX2) hw ⟨rfl, rfl⟩ dX9_one_120 (fun a_6 X_7 H pk_8c pk_8s hw hP hS => ?_)
    refine lv_dup hF.1 hF.2.1 dX9_one_123 rfl ?_
    refine lv_aload_n hF.1 hF.2.1 dX9_one_124 rfl (lv_at hl 0 rfl) ?_
    obtain ⟨fs_9, v_10, hx_11, hv_12, hw⟩ := hw
    refine x_get hF hC hP in_X9 rfl 0 (by decide) q1581 (fun _ z => z) hx_11 hv_12 dX9_one_125 ?_
    obtain ⟨mc_14, ms_15, hc_16, hs_17, hw⟩ := hw
    refine hk_v (hr_I (As := [.ref v_10]) (rest := [.ref a_6]) hF hl.1 hC hP hS (metX2_init_2 l K mc_14 ms_15 _ _ X_7 a_6 v_10) (cwI 1 hF.2.2.2.2 (lw_meth q751) rfl rfl rfl (hF.2.2.2.2 _ q76) (hF.2.2.2.2 _ q1699) (hF.2.2.2.2 _ q750) rfl (by decide +kernel) ⟨Nat.le_of_ble_eq_true rfl, Nat.le_of_ble_eq_true rfl⟩) hw rfl rfl (Nat.le_of_ble_eq_true rfl) dX9_one_128 ⟨hc_16, hs_17⟩) hP hS (fun X_13 H locs hw hP hS => ?_)
    refine lv_astore_n (lv' := [(3, .ref a_6), (0, .ref x0), (1, .int x1)]) hF.1 hF.2.1 dX9_one_131 rfl hl (by decide) rfl (fun ls hl => ?_)
    refine lv_aload_n hF.1 hF.2.1 dX9_one_132 rfl (lv_at hl 0 rfl) ?_
    refine lv_iload_n hF.1 hF.2.1 dX9_one_133 rfl (lv_at hl 2 rfl) ?_
    refine lv_aload_n hF.1 hF.2.1 dX9_one_134 rfl (lv_at hl 1 rfl) ?_
    obtain ⟨fs_18, v_19, hx_20, hv_21, hw⟩ := hw
    refine x_get hF hC hP in_X9 rfl 1 (by decide) q1583 (fun _ z => z) hx_20 hv_21 dX9_one_135 ?_
    obtain ⟨mc_24, ms_25, hc_26, hs_27, hw⟩ := hw
    refine hkx_i (hrx_SN (As := [.ref a_6, .int x1, .ref v_19]) (rest := []) hF hl.1 hC hP hS (metX1_done l hlt K mc_24 ms_25 _ _ _ X_13 a_6 x1 v_19) (va_cnB 3 hF.2.2.2.2 (lw_meth q811) rfl rfl rfl (hC.2.2.1.2.2.2.2.2.1 _ q1700 rfl) (hF.2.2.2.2 _ q75) (by decide +kernel) ⟨Nat.le_of_ble_eq_true rfl, Nat.le_of_ble_eq_true rfl⟩) q810 hw rfl rfl (Nat.le_of_ble_eq_true rfl) dX9_one_138 ⟨hc_26, hs_27⟩) hP hS (fun E9 q9 X9 H locs hw hcl hP hS => ?_) (fun r_22 X_23 H locs hw hP hS => ?_)
    · obtain ⟨rfl, hw⟩ := hw
      obtain ⟨ce9, g91, g92, g93⟩ := hcl
      refine vx_catch (own := RX9) (name := "ClockworkOrreries$Refused") hF.2.2.2.1 (tableOf []) ⟨120, 158, 161, 94⟩ (tableOf []) htab (fun z hz => nomatch hz) rfl (by decide) (hF.2.2.2.2 _ q1620) (va_Nw.use rfl (hC.2.2.1.2.2.2.2.2.1 _ q820 rfl)) g91 g92 g93 ?_
      refine lv_astore_n (lv' := [(3, .ref q9), (0, .ref x0), (1, .int x1)]) hF.1 hF.2.1 dX9_one_161 rfl hl (by decide) rfl (fun ls hl => ?_)
      refine lv_aload_n hF.1 hF.2.1 dX9_one_162 rfl (lv_at hl 1 rfl) ?_
      refine lv_iconst (v := 2) hF.1 hF.2.1 dX9_one_163 (by decide) ?_
      obtain ⟨fs_28, hx_29, hl_30, hw⟩ := hw
      refine x_put hF hC hP hS in_X9 rfl tyX9 tyX9_ok nmX9 4 (by decide) q1587 (fun _ z => z) rfl rfl rfl hx_29 hl_30 dX9_one_164 (fun H locs hP hS => ?_)
      generalize hup X9 x0 (.inr (4, fs_28.set 4 (.int 2))) = X_31 at hP hw
      refine lv_aload_n hF.1 hF.2.1 dX9_one_167 rfl (lv_at hl 1 rfl) ?_
      refine lv_aload_n hF.1 hF.2.1 dX9_one_168 rfl (lv_at hl 0 rfl) ?_
      obtain ⟨fs_32, v_33, hx_34, hv_35, hw⟩ := hw
      refine x_getN hF hC hP in_X4r rfl 0 (by decide) q833 (fun _ z => z) hx_34 hv_35 dX9_one_169 ?_
      obtain ⟨fs_36, hx_37, hl_38, hw⟩ := hw
      refine x_put hF hC hP hS in_X9 rfl tyX9 tyX9_ok nmX9 5 (by decide) q1589 (fun _ z => z) rfl rfl rfl hx_37 hl_38 dX9_one_172 (fun H locs hP hS => ?_)
      generalize hup X_31 x0 (.inr (4, fs_36.set 5 (.int v_33))) = X_39 at hP hw
      exact vx_ret (h_vret hF hr hlocks hP hS ⟨hc_26, hs_27⟩ dX9_one_175 hw)
    refine lv_istore (lv' := [(4, .int r_22), (3, .ref a_6), (0, .ref x0), (1, .int x1)]) hF.1 hF.2.1 dX9_one_141 hl (by decide) rfl (fun ls hl => ?_)
    refine lv_aload_n hF.1 hF.2.1 dX9_one_143 rfl (lv_at hl 2 rfl) ?_
    refine lv_aload_n hF.1 hF.2.1 dX9_one_144 rfl (lv_at hl 1 rfl) ?_
    obtain ⟨fs_40, hx_41, hl_42, hw⟩ := hw
    refine x_put hF hC hP hS in_X9 rfl tyX9 tyX9_ok nmX9 0 (by decide) q1581 (fun _ z => z) rfl rfl rfl hx_41 hl_42 dX9_one_145 (fun H locs hP hS => ?_)
    generalize hup X_23 x0 (.inr (4, fs_40.set 0 (.ref a_6))) = X_43 at hP hw
    refine lv_aload_n hF.1 hF.2.1 dX9_one_148 rfl (lv_at hl 2 rfl) ?_
    refine lv_dup hF.1 hF.2.1 dX9_one_149 rfl ?_
    obtain ⟨fs_44, v_45, hx_46, hv_47, hw⟩ := hw
    refine x_get hF hC hP in_X9 rfl 6 (by decide) q1591 (fun _ z => z) hx_46 hv_47 dX9_one_150 ?_
    refine lv_iconst (v := 1) hF.1 hF.2.1 dX9_one_153 (by decide) ?_
    refine lv_iadd hF.1 hF.2.1 dX9_one_154 ?_
    obtain ⟨fs_48, hx_49, hl_50, hw⟩ := hw
    refine x_put hF hC hP hS in_X9 rfl tyX9 tyX9_ok nmX9 6 (by decide) q1591 (fun _ z => z) rfl rfl rfl hx_49 hl_50 dX9_one_155 (fun H locs hP hS => ?_)
    generalize hup X_43 x0 (.inr (4, fs_48.set 6 (.int (v_45 + 1)))) = X_51 at hP hw
    refine lv_goto (tgt := 175) hF.1 hF.2.1 dX9_one_158 (by decide) ?_
    exact vx_ret (h_vret hF hr hlocks hP hS ⟨hc_26, hs_27⟩ dX9_one_175 hw)
  have T67 : ∀ (x0 : Nat) (x1 : Int32) (x2 : Int32) (z0 : Nat) (z1 : Int32) (z2 : Int32) (X : hX) (kc ks : Nat) (H : Heap) (locs : List Loc) (ls : Array Slot), hI K X0 s.heap.size X H → va_S (hA X0 s.heap.size) s.heap H locs → kc ≤ mc ∧ ks ≤ ms → lv_has ls 5 [(0, .ref x0), (1, .int x1), (2, .int x2)] → wpX9_one_67 post xpost (K.2.2 0) mc ms x0 x1 x2 z0 z1 z2 X kc ks → W p l e (rmh 11 281 mc ms) s m ([.ref p0] : List Value).toArray below meth c H locs kc ks (vx_MQ below (hQv post K X0 s.heap.size) (hXC xpost K X0 s.heap.size) ([.ref p0] : List Value).toArray s mc ms (hA X0 s.heap.size)) (F0 m 67 ls [.int z2, .int z1, .ref z0]) := by
    intro x0 x1 x2 z0 z1 z2 X kc ks H locs ls hP hS hk hl hw
    unfold wpX9_one_67 at hw
    refine lv_iadd hF.1 hF.2.1 dX9_one_67 ?_
    obtain ⟨fs_52, hx_53, hl_54, hw⟩ := hw
    refine x_put hF hC hP hS in_X9 rfl tyX9 tyX9_ok nmX9 2 (by decide) q1584 (fun _ z => z) rfl rfl rfl hx_53 hl_54 dX9_one_68 (fun H locs hP hS => ?_)
    generalize hup X z0 (.inr (4, fs_52.set 2 (.int (z1 + z2)))) = X_55 at hP hw
    refine lv_aload_n hF.1 hF.2.1 dX9_one_71 rfl (lv_at hl 0 rfl) ?_
    refine lv_iload_n hF.1 hF.2.1 dX9_one_72 rfl (lv_at hl 2 rfl) ?_
    obtain ⟨ho_58, hw⟩ := hw
    refine hk_i (hr_V (As := [.int x2]) (rest := []) (T := TX9) (N := 8) (ci := 4) hF hl.1 hC hP hS (metX9_isOfForm l K _ _ X_55 x0 x2) rfl (cwV 1 hF.2.2.2.2 (lw_V q1683 q1685 qs21 q108 q1686) rfl rfl rfl (by decide +kernel) ⟨Nat.le_of_ble_eq_true rfl, Nat.le_of_ble_eq_true rfl⟩) ho_58 hw rfl rfl (Nat.le_of_ble_eq_true rfl) dX9_one_73 hk) hP hS (fun r_56 X_57 H locs hw hP hS => ?_)
    refine lv_if_ne (tgt := 98) hF.1 hF.2.1 dX9_one_76 (by decide) (fun c_59 => ?_) (fun c_59 => ?_)
    · have hw := hw.2 c_59
      refine lv_aload_n hF.1 hF.2.1 dX9_one_98 rfl (lv_at hl 0 rfl) ?_
      obtain ⟨fs_60, v_61, hx_62, hv_63, hw⟩ := hw
      refine x_get hF hC hP in_X9 rfl 1 (by decide) q1583 (fun _ z => z) hx_62 hv_63 dX9_one_99 ?_
      refine lv_iconst (v := 1) hF.1 hF.2.1 dX9_one_102 (by decide) ?_
      refine lv_iload_n hF.1 hF.2.1 dX9_one_103 rfl (lv_at hl 1 rfl) ?_
      refine lv_bipush (v := 97) hF.1 hF.2.1 dX9_one_104 (by decide) ?_
      refine lv_icmp_ne (tgt := 113) hF.1 hF.2.1 dX9_one_106 (by decide) (fun c_64 => ?_) (fun c_64 => ?_)
      · have hw := hw.2 c_64
        refine lv_aload_n hF.1 hF.2.1 dX9_one_113 rfl (lv_at hl 0 rfl) ?_
        obtain ⟨fs_65, v_66, hx_67, hv_68, hw⟩ := hw
        refine x_get hF hC hP in_X9 rfl 1 (by decide) q1583 (fun _ z => z) hx_67 hv_68 dX9_one_114 ?_
        refine lv_iconst (v := 1) hF.1 hF.2.1 dX9_one_117 (by decide) ?_
        obtain ⟨n_69, f_70, hx_71, hi_72, hw⟩ := hw
        refine x_iald hF hC hP hx_71 hi_72 dX9_one_118 ?_
        generalize f_70 (Int32.toNatClampNeg 1) = v_73 at hw ⊢
        exact T119 x0 x1 v_61 1 v_73 X_57 kc ks _ _ ls hP hS hk (lv_sub hl [0, 1] rfl) hw
      · have hw := hw.1 c_64
        refine lv_iconst (v := 0) hF.1 hF.2.1 dX9_one_109 (by decide) ?_
        refine lv_goto (tgt := 119) hF.1 hF.2.1 dX9_one_110 (by decide) ?_
        exact T119 x0 x1 v_61 1 0 X_57 kc ks _ _ ls hP hS hk (lv_sub hl [0, 1] rfl) hw
    · have hw := hw.1 c_59
      refine lv_aload_n hF.1 hF.2.1 dX9_one_79 rfl (lv_at hl 0 rfl) ?_
      refine lv_iconst (v := 1) hF.1 hF.2.1 dX9_one_80 (by decide) ?_
      obtain ⟨fs_74, hx_75, hl_76, hw⟩ := hw
      refine x_put hF hC hP hS in_X9 rfl tyX9 tyX9_ok nmX9 4 (by decide) q1587 (fun _ z => z) rfl rfl rfl hx_75 hl_76 dX9_one_81 (fun H locs hP hS => ?_)
      generalize hup X_57 x0 (.inr (4, fs_74.set 4 (.int 1))) = X_77 at hP hw
      refine lv_aload_n hF.1 hF.2.1 dX9_one_84 rfl (lv_at hl 0 rfl) ?_
      refine lv_aload_n hF.1 hF.2.1 dX9_one_85 rfl (lv_at hl 0 rfl) ?_
      obtain ⟨fs_78, v_79, hx_80, hv_81, hw⟩ := hw
      refine x_get hF hC hP in_X9 rfl 2 (by decide) q1584 (fun _ z => z) hx_80 hv_81 dX9_one_86 ?_
      refine lv_aload_n hF.1 hF.2.1 dX9_one_89 rfl (lv_at hl 0 rfl) ?_
      obtain ⟨fs_82, v_83, hx_84, hv_85, hw⟩ := hw
      refine x_get hF hC hP in_X9 rfl 3 (by decide) q1585 (fun _ z => z) hx_84 hv_85 dX9_one_90 ?_
      refine lv_isub hF.1 hF.2.1 dX9_one_93 ?_
      obtain ⟨fs_86, hx_87, hl_88, hw⟩ := hw
      refine x_put hF hC hP hS in_X9 rfl tyX9 tyX9_ok nmX9 5 (by decide) q1589 (fun _ z => z) rfl rfl rfl hx_87 hl_88 dX9_one_94 (fun H locs hP hS => ?_)
      generalize hup X_77 x0 (.inr (4, fs_86.set 5 (.int (v_79 - v_83)))) = X_89 at hP hw
      exact vx_ret (h_vret hF hr hlocks hP hS hk dX9_one_97 hw)
  have T52 : ∀ (x0 : Nat) (x1 : Int32) (z0 : Int32) (X : hX) (kc ks : Nat) (H : Heap) (locs : List Loc) (ls : Array Slot), hI K X0 s.heap.size X H → va_S (hA X0 s.heap.size) s.heap H locs → kc ≤ mc ∧ ks ≤ ms → lv_has ls 5 [(0, .ref x0), (1, .int x1)] → wpX9_one_52 post xpost (K.2.2 0) mc ms x0 x1 z0 X kc ks → W p l e (rmh 11 281 mc ms) s m ([.ref p0] : List Value).toArray below meth c H locs kc ks (vx_MQ below (hQv post K X0 s.heap.size) (hXC xpost K X0 s.heap.size) ([.ref p0] : List Value).toArray s mc ms (hA X0 s.heap.size)) (F0 m 52 ls [.int z0]) := by
    intro x0 x1 z0 X kc ks H locs ls hP hS hk hl hw
    unfold wpX9_one_52 at hw
    refine lv_istore_n (lv' := [(2, .int z0), (0, .ref x0), (1, .int x1)]) hF.1 hF.2.1 dX9_one_52 rfl hl (by decide) rfl (fun ls hl => ?_)
    refine lv_aload_n hF.1 hF.2.1 dX9_one_53 rfl (lv_at hl 1 rfl) ?_
    refine lv_dup hF.1 hF.2.1 dX9_one_54 rfl ?_
    obtain ⟨fs_90, v_91, hx_92, hv_93, hw⟩ := hw
    refine x_get hF hC hP in_X9 rfl 2 (by decide) q1584 (fun _ z => z) hx_92 hv_93 dX9_one_55 ?_
    refine lv_iload_n hF.1 hF.2.1 dX9_one_58 rfl (lv_at hl 0 rfl) ?_
    refine lv_if_ge (tgt := 66) hF.1 hF.2.1 dX9_one_59 (by decide) (fun c_94 => ?_) (fun c_94 => ?_)
    · have hw := hw.1 c_94
      refine lv_iconst (v := 1) hF.1 hF.2.1 dX9_one_66 (by decide) ?_
      exact T67 x0 x1 z0 x0 v_91 1 X kc ks _ _ ls hP hS hk (lv_sub hl [1, 2, 0] rfl) hw
    · have hw := hw.2 c_94
      refine lv_iconst (v := 0) hF.1 hF.2.1 dX9_one_62 (by decide) ?_
      refine lv_goto (tgt := 67) hF.1 hF.2.1 dX9_one_63 (by decide) ?_
      exact T67 x0 x1 z0 x0 v_91 0 X kc ks _ _ ls hP hS hk (lv_sub hl [1, 2, 0] rfl) hw
  unfold wpX9_one at hw
  show W p l e (rmh 11 281 mc ms) s m _ below meth c _ _ _ _ _ _
  refine lv_aload_n hF.1 hF.2.1 dX9_one_0 rfl (lv_at hl 0 rfl) ?_
  obtain ⟨fs_95, v_96, hx_97, hv_98, hw⟩ := hw
  refine x_get hF hC hP in_X9 rfl 7 (by decide) q1593 (fun _ z => z) hx_97 hv_98 dX9_one_1 ?_
  obtain ⟨fs_99, v_100, hx_101, hv_102, hw⟩ := hw
  refine x_getN hF hC hP in_X1 rfl 3 (by decide) q247 (fun _ z => z) hx_101 hv_102 dX9_one_4 ?_
  refine lv_aload_n hF.1 hF.2.1 dX9_one_7 rfl (lv_at hl 0 rfl) ?_
  obtain ⟨fs_103, v_104, hx_105, hv_106, hw⟩ := hw
  refine x_get hF hC hP in_X9 rfl 2 (by decide) q1584 (fun _ z => z) hx_105 hv_106 dX9_one_8 ?_
  obtain ⟨ho_109, hw⟩ := hw
  refine hk_i (hr_V (As := [.int v_104]) (rest := []) (T := TJ5) (N := 4) (ci := 10) hF hl.1 hC hP hS (metJ5_charAt l K _ _ X0 v_100 v_104) rfl (cwV 1 hF.2.2.2.2 (lw_V q1621 q1622 q1623 q82 q1624) rfl rfl rfl (by decide +kernel) ⟨Nat.le_of_ble_eq_true rfl, Nat.le_of_ble_eq_true rfl⟩) ho_109 hw rfl rfl (Nat.le_of_ble_eq_true rfl) dX9_one_11 ⟨Nat.zero_le _, Nat.zero_le _⟩) hP hS (fun r_107 X_108 H locs hw hP hS => ?_)
  refine lv_istore_n (lv' := [(1, .int r_107), (0, .ref p0)]) hF.1 hF.2.1 dX9_one_14 rfl hl (by decide) rfl (fun ls hl => ?_)
  refine va_ldcS hF.1 hF.2.1 hF.2.2.2.1 hC.2.2.1.2.1.2.2.2.2.1 dX9_one_15 ?_
  refine lv_iload_n hF.1 hF.2.1 dX9_one_17 rfl (lv_at hl 0 rfl) ?_
  obtain ⟨h_112, hw⟩ := hw
  refine hk_i (hr_T (As := [.int r_107]) (rest := []) hF hl.1 hC hP hS h_112 (metJ6_indexOf l K _ _ X_108 0 r_107) (cwV 1 hF.2.2.2.2 (lw_V q1632 q1633 q1634 q83 q1635) rfl rfl rfl (by decide +kernel) ⟨Nat.le_of_ble_eq_true rfl, Nat.le_of_ble_eq_true rfl⟩) hw rfl rfl (Nat.le_of_ble_eq_true rfl) dX9_one_18 ⟨Nat.zero_le _, Nat.zero_le _⟩) hP hS (fun r_110 X_111 H locs hw hP hS => ?_)
  refine lv_if_lt (tgt := 28) hF.1 hF.2.1 dX9_one_21 (by decide) (fun c_113 => ?_) (fun c_113 => ?_)
  · have hw := hw.1 c_113
    refine va_ldcS hF.1 hF.2.1 hF.2.2.2.1 hC.2.2.1.2.1.2.2.2.2.2 dX9_one_28 ?_
    refine lv_iload_n hF.1 hF.2.1 dX9_one_30 rfl (lv_at hl 0 rfl) ?_
    obtain ⟨h_116, hw⟩ := hw
    refine hk_i (hr_T (As := [.int r_107]) (rest := []) hF hl.1 hC hP hS h_116 (metJ6_indexOf l K _ _ X_111 1 r_107) (cwV 1 hF.2.2.2.2 (lw_V q1632 q1633 q1634 q83 q1635) rfl rfl rfl (by decide +kernel) ⟨Nat.le_of_ble_eq_true rfl, Nat.le_of_ble_eq_true rfl⟩) hw rfl rfl (Nat.le_of_ble_eq_true rfl) dX9_one_31 ⟨Nat.zero_le _, Nat.zero_le _⟩) hP hS (fun r_114 X_115 H locs hw hP hS => ?_)
    refine lv_if_lt (tgt := 41) hF.1 hF.2.1 dX9_one_34 (by decide) (fun c_117 => ?_) (fun c_117 => ?_)
    · have hw := hw.1 c_117
      refine lv_iload_n hF.1 hF.2.1 dX9_one_41 rfl (lv_at hl 0 rfl) ?_
      refine lv_bipush (v := 120) hF.1 hF.2.1 dX9_one_42 (by decide) ?_
      refine lv_icmp_ne (tgt := 51) hF.1 hF.2.1 dX9_one_44 (by decide) (fun c_118 => ?_) (fun c_118 => ?_)
      · have hw := hw.2 c_118
        refine lv_iconst (v := (-1)) hF.1 hF.2.1 dX9_one_51 (by decide) ?_
        exact T52 p0 r_107 (-1) X_115 0 0 _ _ ls hP hS ⟨Nat.zero_le _, Nat.zero_le _⟩ (lv_sub hl [1, 0] rfl) hw
      · have hw := hw.1 c_118
        refine lv_iconst (v := 0) hF.1 hF.2.1 dX9_one_47 (by decide) ?_
        refine lv_goto (tgt := 52) hF.1 hF.2.1 dX9_one_48 (by decide) ?_
        exact T52 p0 r_107 0 X_115 0 0 _ _ ls hP hS ⟨Nat.zero_le _, Nat.zero_le _⟩ (lv_sub hl [1, 0] rfl) hw
    · have hw := hw.2 c_117
      refine lv_iconst (v := 1) hF.1 hF.2.1 dX9_one_37 (by decide) ?_
      refine lv_goto (tgt := 52) hF.1 hF.2.1 dX9_one_38 (by decide) ?_
      exact T52 p0 r_107 1 X_115 0 0 _ _ ls hP hS ⟨Nat.zero_le _, Nat.zero_le _⟩ (lv_sub hl [1, 0] rfl) hw
  · have hw := hw.2 c_113
    refine lv_iconst (v := 2) hF.1 hF.2.1 dX9_one_24 (by decide) ?_
    refine lv_goto (tgt := 52) hF.1 hF.2.1 dX9_one_25 (by decide) ?_
    exact T52 p0 r_107 2 X_111 0 0 _ _ ls hP hS ⟨Nat.zero_le _, Nat.zero_le _⟩ (lv_sub hl [1, 0] rfl) hw
def wpX9_isWell_39 (post : Int32 → hX → Prop) (xpost : String → Nat → hX → Prop) (E : Nat) (mc ms : Nat) (x0 : Nat) (X : hX) (kc ks : Nat) : Prop := gfI X x0 4 4 (fun v_2 => ((v_2 = 0 → post 1 X) ∧ (¬ v_2 = 0 → post 0 X)))
def wpX9_isWell_0 (post : Int32 → hX → Prop) (xpost : String → Nat → hX → Prop) (E : Nat) (mc ms : Nat) : Nat → Nat → hX → Nat → Nat → Prop
  | 0 => fun _ _ _ _ => False
  | n + 1 => fun x0 X kc ks => gfI X x0 4 4 (fun v_7 => ((v_7 = 0 → gfI X x0 4 2 (fun v_12 => gfA X x0 4 7 (fun v_16 => gfA X v_16 1 3 (fun v_20 => isO X v_20 10 (wpJ5_length (fun r_23 X_24 => ((r_23 ≤ v_12 → wpX9_isWell_39 post xpost E mc ms x0 X_24 kc ks) ∧ (¬ r_23 ≤ v_12 → gfI X_24 x0 4 2 (fun v_28 => pfV X_24 x0 4 3 (.int v_28) (fun X_34 => isO X_34 x0 4 ((∃ mc_37 ms_38 : Nat, kc + mc_37 ≤ mc ∧ ks + ms_38 ≤ ms ∧ wpX9_one (fun X_35 => wpX9_isWell_0 post xpost E mc ms n x0 X_35 (kc + mc_37) (ks + ms_38)) xpost E mc_37 ms_38 X_34 x0))))))) E X v_20))))) ∧ (¬ v_7 = 0 → wpX9_isWell_39 post xpost E mc ms x0 X kc ks)))
def wpX9_isWell (post : Int32 → hX → Prop) (xpost : String → Nat → hX → Prop) (E : Nat) (mc ms : Nat) (X : hX) (p0 : Nat) : Prop := gfI X p0 4 4 (fun v_42 => ((v_42 = 0 → gfI X p0 4 2 (fun v_47 => gfA X p0 4 7 (fun v_51 => gfA X v_51 1 3 (fun v_55 => isO X v_55 10 (wpJ5_length (fun r_58 X_59 => ((r_58 ≤ v_47 → wpX9_isWell_39 post xpost E mc ms p0 X_59 0 0) ∧ (¬ r_58 ≤ v_47 → gfI X_59 p0 4 2 (fun v_63 => pfV X_59 p0 4 3 (.int v_63) (fun X_69 => isO X_69 p0 4 ((∃ mc_72 ms_73 : Nat, 0 + mc_72 ≤ mc ∧ 0 + ms_73 ≤ ms ∧ wpX9_one (fun X_70 => ∃ fu : Nat, wpX9_isWell_0 post xpost E mc ms fu p0 X_70 (0 + mc_72) (0 + ms_73)) xpost E mc_72 ms_73 X_69 p0))))))) E X v_55))))) ∧ (¬ v_42 = 0 → wpX9_isWell_39 post xpost E mc ms p0 X 0 0)))
abbrev wsX9_isWell : List Cond := ws_ yX9_isWell cX9_isWell 1 (some .boolean)
set_option maxHeartbeats 8000000 in
theorem metX9_isWell (l : Launch) (hlt : l.stackTraces = false) (K : HK) (mc ms : Nat) (sz : Nat) (post : Int32 → hX → Prop) (xpost : String → Nat → hX → Prop) (X0 : hX) (p0 : Nat) : vx_Met l yX9_isWell wsX9_isWell (rmh 12 305 mc ms) (hPc K X0 sz [.ref p0] (wpX9_isWell post xpost (K.2.2 0) mc ms X0 p0)) (hQi post K X0 sz) (hXC xpost K X0 sz) mc ms (hA X0 sz) := by
  refine vx_ofW (cc := cX9_isWell) (maxL := 1) (ret := (some .boolean)) (by decide) rfl ?_
  intro p e s m args below meth c s₁ B hml hno hv
  obtain ⟨rfl, hv⟩ := hv
  obtain ⟨hC, hP, hw⟩ := HC.of hv
  have hsz : s.heap.size = sz := hv.1
  subst hsz
  clear hv
  have hout : ∀ {pc : Nat}, ∀ x ∈ c.exceptionTable.toList, covers x pc = false := fun x hx => (hno x hx).elim
  have hr := B.returns
  have hts := atoms_spec (ws := wsX9_isWell) B.pre
  have hts : ∀ w ∈ lw_all, w.before _ s = true := fun w h => hts w (List.mem_cons_of_mem _ h)
  have hF : CallFix p m c cX9_isWell 1 s ([.ref p0] : List Value).toArray lw_all RX9 := ⟨B.exec, B.bytes, hml, findClass_of_methodNamed B.named, hts⟩
  have hlocks := B.notSynchronized
  have hl := lv_entry ([.ref p0]) (n := 1) (Nat.le_of_ble_eq_true rfl)
  rw [lg_entry_eq]
  generalize (lg_sl ([.ref p0]) ++ List.replicate (1 - (lg_sl ([.ref p0])).length) Slot.unset).toArray = ls at hl ⊢
  have hl : lv_has ls 1 [(0, .ref p0)] := hl
  have hS : va_S (hA X0 s.heap.size) s.heap s.heap [] := va_S.rf
  have T39 : ∀ (x0 : Nat) (X : hX) (kc ks : Nat) (H : Heap) (locs : List Loc) (ls : Array Slot), hI K X0 s.heap.size X H → va_S (hA X0 s.heap.size) s.heap H locs → kc ≤ mc ∧ ks ≤ ms → lv_has ls 1 [(0, .ref x0)] → wpX9_isWell_39 post xpost (K.2.2 0) mc ms x0 X kc ks → W p l e (rmh 12 305 mc ms) s m ([.ref p0] : List Value).toArray below meth c H locs kc ks (vx_MQ below (hQi post K X0 s.heap.size) (hXC xpost K X0 s.heap.size) ([.ref p0] : List Value).toArray s mc ms (hA X0 s.heap.size)) (F0 m 39 ls []) := by
    intro x0 X kc ks H locs ls hP hS hk hl hw
    unfold wpX9_isWell_39 at hw
    refine lv_aload_n hF.1 hF.2.1 dX9_isWell_39 rfl (lv_at hl 0 rfl) ?_
    obtain ⟨fs_1, v_2, hx_3, hv_4, hw⟩ := hw
    refine x_get hF hC hP in_X9 rfl 4 (by decide) q1587 (fun _ z => z) hx_3 hv_4 dX9_isWell_40 ?_
    refine lv_if_ne (tgt := 50) hF.1 hF.2.1 dX9_isWell_43 (by decide) (fun c_5 => ?_) (fun c_5 => ?_)
    · have hw := hw.2 c_5
      refine lv_iconst (v := 0) hF.1 hF.2.1 dX9_isWell_50 (by decide) ?_
      exact vx_ret (h_zret hF hr hlocks hP hS hk dX9_isWell_51 (Or.inl rfl) hw)
    · have hw := hw.1 c_5
      refine lv_iconst (v := 1) hF.1 hF.2.1 dX9_isWell_46 (by decide) ?_
      refine lv_goto (tgt := 51) hF.1 hF.2.1 dX9_isWell_47 (by decide) ?_
      exact vx_ret (h_zret hF hr hlocks hP hS hk dX9_isWell_51 (Or.inr rfl) hw)
  have T0 : ∀ (n : Nat), ∀ (x0 : Nat) (X : hX) (kc ks : Nat) (H : Heap) (locs : List Loc) (ls : Array Slot), hI K X0 s.heap.size X H → va_S (hA X0 s.heap.size) s.heap H locs → kc ≤ mc ∧ ks ≤ ms → lv_has ls 1 [(0, .ref x0)] → wpX9_isWell_0 post xpost (K.2.2 0) mc ms n x0 X kc ks → W p l e (rmh 12 305 mc ms) s m ([.ref p0] : List Value).toArray below meth c H locs kc ks (vx_MQ below (hQi post K X0 s.heap.size) (hXC xpost K X0 s.heap.size) ([.ref p0] : List Value).toArray s mc ms (hA X0 s.heap.size)) (F0 m 0 ls []) := by
    intro n
    induction n with
    | zero =>
      intro x0 X kc ks H locs ls hP hS hk hl hw
      exact False.elim hw
    | succ n ih =>
      intro x0 X kc ks H locs ls hP hS hk hl hw
      unfold wpX9_isWell_0 at hw
      refine lv_aload_n hF.1 hF.2.1 dX9_isWell_0 rfl (lv_at hl 0 rfl) ?_
      obtain ⟨fs_6, v_7, hx_8, hv_9, hw⟩ := hw
      refine x_get hF hC hP in_X9 rfl 4 (by decide) q1587 (fun _ z => z) hx_8 hv_9 dX9_isWell_1 ?_
      refine lv_if_ne (tgt := 39) hF.1 hF.2.1 dX9_isWell_4 (by decide) (fun c_10 => ?_) (fun c_10 => ?_)
      · have hw := hw.2 c_10
        exact T39 x0 X kc ks _ _ ls hP hS hk (lv_sub hl [0] rfl) hw
      · have hw := hw.1 c_10
        refine lv_aload_n hF.1 hF.2.1 dX9_isWell_7 rfl (lv_at hl 0 rfl) ?_
        obtain ⟨fs_11, v_12, hx_13, hv_14, hw⟩ := hw
        refine x_get hF hC hP in_X9 rfl 2 (by decide) q1584 (fun _ z => z) hx_13 hv_14 dX9_isWell_8 ?_
        refine lv_aload_n hF.1 hF.2.1 dX9_isWell_11 rfl (lv_at hl 0 rfl) ?_
        obtain ⟨fs_15, v_16, hx_17, hv_18, hw⟩ := hw
        refine x_get hF hC hP in_X9 rfl 7 (by decide) q1593 (fun _ z => z) hx_17 hv_18 dX9_isWell_12 ?_
        obtain ⟨fs_19, v_20, hx_21, hv_22, hw⟩ := hw
        refine x_getN hF hC hP in_X1 rfl 3 (by decide) q247 (fun _ z => z) hx_21 hv_22 dX9_isWell_15 ?_
        obtain ⟨ho_25, hw⟩ := hw
        refine hk_i (hr_V (As := []) (rest := [.int v_12]) (T := TJ5) (N := 4) (ci := 10) hF hl.1 hC hP hS (metJ5_length l K _ _ X v_20) rfl (cwV 0 hF.2.2.2.2 (lw_V q1615 q441 q442 q82 q443) rfl rfl rfl (by decide +kernel) ⟨Nat.le_of_ble_eq_true rfl, Nat.le_of_ble_eq_true rfl⟩) ho_25 hw rfl rfl (Nat.le_of_ble_eq_true rfl) dX9_isWell_18 hk) hP hS (fun r_23 X_24 H locs hw hP hS => ?_)
        refine lv_icmp_ge (tgt := 39) hF.1 hF.2.1 dX9_isWell_21 (by decide) (fun c_26 => ?_) (fun c_26 => ?_)
        · have hw := hw.1 c_26
          exact T39 x0 X_24 kc ks _ _ ls hP hS hk (lv_sub hl [0] rfl) hw
        · have hw := hw.2 c_26
          refine lv_aload_n hF.1 hF.2.1 dX9_isWell_24 rfl (lv_at hl 0 rfl) ?_
          refine lv_aload_n hF.1 hF.2.1 dX9_isWell_25 rfl (lv_at hl 0 rfl) ?_
          obtain ⟨fs_27, v_28, hx_29, hv_30, hw⟩ := hw
          refine x_get hF hC hP in_X9 rfl 2 (by decide) q1584 (fun _ z => z) hx_29 hv_30 dX9_isWell_26 ?_
          obtain ⟨fs_31, hx_32, hl_33, hw⟩ := hw
          refine x_put hF hC hP hS in_X9 rfl tyX9 tyX9_ok nmX9 3 (by decide) q1585 (fun _ z => z) rfl rfl rfl hx_32 hl_33 dX9_isWell_29 (fun H locs hP hS => ?_)
          generalize hup X_24 x0 (.inr (4, fs_31.set 3 (.int v_28))) = X_34 at hP hw
          refine lv_aload_n hF.1 hF.2.1 dX9_isWell_32 rfl (lv_at hl 0 rfl) ?_
          obtain ⟨ho_36, hw⟩ := hw
          obtain ⟨mc_37, ms_38, hc_39, hs_40, hw⟩ := hw
          refine hkx_v (hrx_VX (As := []) (rest := []) (T := TX9) (N := 8) (ci := 4) hF hl.1 hC hP hS (metX9_one l hlt K mc_37 ms_38 _ _ _ X_34 x0) rfl (vx_cwVW 0 hF.2.2.2.2 (lw_VW q1616 q1618 qs20 q108 q1619) rfl rfl rfl (by decide +kernel) ⟨Nat.le_of_ble_eq_true rfl, Nat.le_of_ble_eq_true rfl⟩) ho_36 hw rfl rfl (Nat.le_of_ble_eq_true rfl) dX9_isWell_33 ⟨hc_39, hs_40⟩) hP hS (fun E9 q9 X9 H locs hw hcl hP hS => ?_) (fun X_35 H locs hw hP hS => ?_)
          · exact h_out hout hlocks hcl hP hS ⟨hc_39, hs_40⟩ hw
          refine lv_goto (tgt := 0) hF.1 hF.2.1 dX9_isWell_36 (by decide) ?_
          exact ih x0 X_35 (kc + mc_37) (ks + ms_38) _ _ ls hP hS ⟨hc_39, hs_40⟩ (lv_sub hl [0] rfl) hw
  unfold wpX9_isWell at hw
  show W p l e (rmh 12 305 mc ms) s m _ below meth c _ _ _ _ _ _
  refine lv_aload_n hF.1 hF.2.1 dX9_isWell_0 rfl (lv_at hl 0 rfl) ?_
  obtain ⟨fs_41, v_42, hx_43, hv_44, hw⟩ := hw
  refine x_get hF hC hP in_X9 rfl 4 (by decide) q1587 (fun _ z => z) hx_43 hv_44 dX9_isWell_1 ?_
  refine lv_if_ne (tgt := 39) hF.1 hF.2.1 dX9_isWell_4 (by decide) (fun c_45 => ?_) (fun c_45 => ?_)
  · have hw := hw.2 c_45
    exact T39 p0 X0 0 0 _ _ ls hP hS ⟨Nat.zero_le _, Nat.zero_le _⟩ (lv_sub hl [0] rfl) hw
  · have hw := hw.1 c_45
    refine lv_aload_n hF.1 hF.2.1 dX9_isWell_7 rfl (lv_at hl 0 rfl) ?_
    obtain ⟨fs_46, v_47, hx_48, hv_49, hw⟩ := hw
    refine x_get hF hC hP in_X9 rfl 2 (by decide) q1584 (fun _ z => z) hx_48 hv_49 dX9_isWell_8 ?_
    refine lv_aload_n hF.1 hF.2.1 dX9_isWell_11 rfl (lv_at hl 0 rfl) ?_
    obtain ⟨fs_50, v_51, hx_52, hv_53, hw⟩ := hw
    refine x_get hF hC hP in_X9 rfl 7 (by decide) q1593 (fun _ z => z) hx_52 hv_53 dX9_isWell_12 ?_
    obtain ⟨fs_54, v_55, hx_56, hv_57, hw⟩ := hw
    refine x_getN hF hC hP in_X1 rfl 3 (by decide) q247 (fun _ z => z) hx_56 hv_57 dX9_isWell_15 ?_
    obtain ⟨ho_60, hw⟩ := hw
    refine hk_i (hr_V (As := []) (rest := [.int v_47]) (T := TJ5) (N := 4) (ci := 10) hF hl.1 hC hP hS (metJ5_length l K _ _ X0 v_55) rfl (cwV 0 hF.2.2.2.2 (lw_V q1615 q441 q442 q82 q443) rfl rfl rfl (by decide +kernel) ⟨Nat.le_of_ble_eq_true rfl, Nat.le_of_ble_eq_true rfl⟩) ho_60 hw rfl rfl (Nat.le_of_ble_eq_true rfl) dX9_isWell_18 ⟨Nat.zero_le _, Nat.zero_le _⟩) hP hS (fun r_58 X_59 H locs hw hP hS => ?_)
    refine lv_icmp_ge (tgt := 39) hF.1 hF.2.1 dX9_isWell_21 (by decide) (fun c_61 => ?_) (fun c_61 => ?_)
    · have hw := hw.1 c_61
      exact T39 p0 X_59 0 0 _ _ ls hP hS ⟨Nat.zero_le _, Nat.zero_le _⟩ (lv_sub hl [0] rfl) hw
    · have hw := hw.2 c_61
      refine lv_aload_n hF.1 hF.2.1 dX9_isWell_24 rfl (lv_at hl 0 rfl) ?_
      refine lv_aload_n hF.1 hF.2.1 dX9_isWell_25 rfl (lv_at hl 0 rfl) ?_
      obtain ⟨fs_62, v_63, hx_64, hv_65, hw⟩ := hw
      refine x_get hF hC hP in_X9 rfl 2 (by decide) q1584 (fun _ z => z) hx_64 hv_65 dX9_isWell_26 ?_
      obtain ⟨fs_66, hx_67, hl_68, hw⟩ := hw
      refine x_put hF hC hP hS in_X9 rfl tyX9 tyX9_ok nmX9 3 (by decide) q1585 (fun _ z => z) rfl rfl rfl hx_67 hl_68 dX9_isWell_29 (fun H locs hP hS => ?_)
      generalize hup X_59 p0 (.inr (4, fs_66.set 3 (.int v_63))) = X_69 at hP hw
      refine lv_aload_n hF.1 hF.2.1 dX9_isWell_32 rfl (lv_at hl 0 rfl) ?_
      obtain ⟨ho_71, hw⟩ := hw
      obtain ⟨mc_72, ms_73, hc_74, hs_75, hw⟩ := hw
      refine hkx_v (hrx_VX (As := []) (rest := []) (T := TX9) (N := 8) (ci := 4) hF hl.1 hC hP hS (metX9_one l hlt K mc_72 ms_73 _ _ _ X_69 p0) rfl (vx_cwVW 0 hF.2.2.2.2 (lw_VW q1616 q1618 qs20 q108 q1619) rfl rfl rfl (by decide +kernel) ⟨Nat.le_of_ble_eq_true rfl, Nat.le_of_ble_eq_true rfl⟩) ho_71 hw rfl rfl (Nat.le_of_ble_eq_true rfl) dX9_isWell_33 ⟨hc_74, hs_75⟩) hP hS (fun E9 q9 X9 H locs hw hcl hP hS => ?_) (fun X_70 H locs hw hP hS => ?_)
      · exact h_out hout hlocks hcl hP hS ⟨hc_74, hs_75⟩ hw
      refine lv_goto (tgt := 0) hF.1 hF.2.1 dX9_isWell_36 (by decide) ?_
      obtain ⟨fu, hw⟩ := hw
      exact T0 fu p0 X_70 (0 + mc_72) (0 + ms_73) _ _ ls hP hS ⟨hc_74, hs_75⟩ (lv_sub hl [0] rfl) hw
def wpX1_faulty_21 (post : Option Nat → hX → Prop) (xpost : String → Nat → hX → Prop) (E : Nat) (mc ms : Nat) (x1 : Nat) (z0 : Int32) (X : hX) (kc ks : Nat) : Prop := (∃ mc_2 ms_3 : Nat, kc + mc_2 ≤ mc ∧ ks + ms_3 ≤ ms ∧ wpX1_needSuch (fun X_1 => post (some x1) X_1) xpost E mc_2 ms_3 X z0)
def wpX1_faulty (post : Option Nat → hX → Prop) (xpost : String → Nat → hX → Prop) (E : Nat) (mc ms : Nat) (X : hX) (p0 : Nat) : Prop := newO X 4 [.null, .null, .int 0, .int 0, .int 0, .int 0, .int 0, .null] 8 0 0 mc ms (fun a_6 X_7 => (∃ mc_10 ms_11 : Nat, (0 + 1) + mc_10 ≤ mc ∧ (0 + 8) + ms_11 ≤ ms ∧ wpX9_init (fun X_9 => isO X_9 a_6 4 ((∃ mc_17 ms_18 : Nat, ((0 + 1) + mc_10) + mc_17 ≤ mc ∧ ((0 + 8) + ms_11) + ms_18 ≤ ms ∧ wpX9_isWell (fun r_14 X_15 => ((r_14 = 0 → wpX1_faulty_21 post xpost E mc ms a_6 1 X_15 (((0 + 1) + mc_10) + mc_17) (((0 + 8) + ms_11) + ms_18)) ∧ (¬ r_14 = 0 → wpX1_faulty_21 post xpost E mc ms a_6 0 X_15 (((0 + 1) + mc_10) + mc_17) (((0 + 8) + ms_11) + ms_18)))) xpost E mc_17 ms_18 X_9 a_6))) E mc_10 ms_11 X_7 a_6 p0))
abbrev wsX1_faulty : List Cond := ws_ yX1_faulty cX1_faulty 2 (some (.object "ClockworkOrreries$Reader"))
set_option maxHeartbeats 8000000 in
theorem metX1_faulty (l : Launch) (hlt : l.stackTraces = false) (K : HK) (mc ms : Nat) (sz : Nat) (post : Option Nat → hX → Prop) (xpost : String → Nat → hX → Prop) (X0 : hX) (p0 : Nat) : vx_Met l yX1_faulty wsX1_faulty (rmh 13 325 mc ms) (hPc K X0 sz [.ref p0] (wpX1_faulty post xpost (K.2.2 0) mc ms X0 p0)) (hQq post K X0 sz) (hXC xpost K X0 sz) mc ms (hA X0 sz) := by
  refine vx_ofW (cc := cX1_faulty) (maxL := 2) (ret := (some (.object "ClockworkOrreries$Reader"))) (by decide) rfl ?_
  intro p e s m args below meth c s₁ B hml hno hv
  obtain ⟨rfl, hv⟩ := hv
  obtain ⟨hC, hP, hw⟩ := HC.of hv
  have hsz : s.heap.size = sz := hv.1
  subst hsz
  clear hv
  have hout : ∀ {pc : Nat}, ∀ x ∈ c.exceptionTable.toList, covers x pc = false := fun x hx => (hno x hx).elim
  have hr := B.returns
  have hts := atoms_spec (ws := wsX1_faulty) B.pre
  have hts : ∀ w ∈ lw_all, w.before _ s = true := fun w h => hts w (List.mem_cons_of_mem _ h)
  have hF : CallFix p m c cX1_faulty 2 s ([.ref p0] : List Value).toArray lw_all RX1 := ⟨B.exec, B.bytes, hml, findClass_of_methodNamed B.named, hts⟩
  have hlocks := B.notSynchronized
  have hl := lv_entry ([.ref p0]) (n := 2) (Nat.le_of_ble_eq_true rfl)
  rw [lg_entry_eq]
  generalize (lg_sl ([.ref p0]) ++ List.replicate (2 - (lg_sl ([.ref p0])).length) Slot.unset).toArray = ls at hl ⊢
  have hl : lv_has ls 2 [(0, .ref p0)] := hl
  have hS : va_S (hA X0 s.heap.size) s.heap s.heap [] := va_S.rf
  have T21 : ∀ (x1 : Nat) (z0 : Int32) (X : hX) (kc ks : Nat) (H : Heap) (locs : List Loc) (ls : Array Slot), hI K X0 s.heap.size X H → va_S (hA X0 s.heap.size) s.heap H locs → kc ≤ mc ∧ ks ≤ ms → lv_has ls 2 [(1, .ref x1)] → wpX1_faulty_21 post xpost (K.2.2 0) mc ms x1 z0 X kc ks → W p l e (rmh 13 325 mc ms) s m ([.ref p0] : List Value).toArray below meth c H locs kc ks (vx_MQ below (hQq post K X0 s.heap.size) (hXC xpost K X0 s.heap.size) ([.ref p0] : List Value).toArray s mc ms (hA X0 s.heap.size)) (F0 m 21 ls [.int z0]) := by
    intro x1 z0 X kc ks H locs ls hP hS hk hl hw
    unfold wpX1_faulty_21 at hw
    obtain ⟨mc_2, ms_3, hc_4, hs_5, hw⟩ := hw
    refine hkx_v (hrx_S (As := [.int z0]) (rest := []) hF hl.1 hC hP hS (metX1_needSuch l hlt K mc_2 ms_3 _ _ _ X z0) (va_cwS 1 hF.2.2.2.2 (lw_S q1180 q1181 q75 q1182) rfl rfl rfl (by decide +kernel) ⟨Nat.le_of_ble_eq_true rfl, Nat.le_of_ble_eq_true rfl⟩) hw rfl rfl (Nat.le_of_ble_eq_true rfl) dX1_faulty_21 ⟨hc_4, hs_5⟩) hP hS (fun E9 q9 X9 H locs hw hcl hP hS => ?_) (fun X_1 H locs hw hP hS => ?_)
    · exact h_out hout hlocks hcl hP hS ⟨hc_4, hs_5⟩ hw
    refine lv_aload_n hF.1 hF.2.1 dX1_faulty_24 rfl (lv_at hl 0 rfl) ?_
    exact vx_ret (h_aret (r := (some x1)) hF hr (Or.inl ⟨_, rfl⟩) hlocks hP hS ⟨hc_4, hs_5⟩ dX1_faulty_25 hw)
  unfold wpX1_faulty at hw
  show W p l e (rmh 13 325 mc ms) s m _ below meth c _ _ _ _ _ _
  refine x_new hF hC hP hS in_X9 rfl tyX9 tyX9_ok q1575 q1576 q108 (nfsX9) hw ⟨rfl, rfl⟩ dX1_faulty_0 (fun a_6 X_7 H pk_8c pk_8s hw hP hS => ?_)
  refine lv_dup hF.1 hF.2.1 dX1_faulty_3 rfl ?_
  refine lv_aload_n hF.1 hF.2.1 dX1_faulty_4 rfl (lv_at hl 0 rfl) ?_
  obtain ⟨mc_10, ms_11, hc_12, hs_13, hw⟩ := hw
  refine hk_v (hr_IN (As := [.ref p0]) (rest := [.ref a_6]) hF hl.1 hC hP hS (metX9_init l K mc_10 ms_11 _ _ X_7 a_6 p0) ⟨va_cnB 1 hF.2.2.2.2 (lw_meth q1579) rfl rfl rfl (hC.2.2.1.2.2.2.2.2.1 _ q1577 rfl) (hF.2.2.2.2 _ q108) (by decide +kernel) ⟨Nat.le_of_ble_eq_true rfl, Nat.le_of_ble_eq_true rfl⟩, rfl, hF.2.2.2.2 _ q1578⟩ hw rfl rfl (Nat.le_of_ble_eq_true rfl) dX1_faulty_5 ⟨hc_12, hs_13⟩) hP hS (fun X_9 H locs hw hP hS => ?_)
  refine lv_astore_n (lv' := [(1, .ref a_6), (0, .ref p0)]) hF.1 hF.2.1 dX1_faulty_8 rfl hl (by decide) rfl (fun ls hl => ?_)
  refine lv_aload_n hF.1 hF.2.1 dX1_faulty_9 rfl (lv_at hl 0 rfl) ?_
  obtain ⟨ho_16, hw⟩ := hw
  obtain ⟨mc_17, ms_18, hc_19, hs_20, hw⟩ := hw
  refine hkx_i (hrx_V (As := []) (rest := []) (T := TX9) (N := 8) (ci := 4) hF hl.1 hC hP hS (metX9_isWell l hlt K mc_17 ms_18 _ _ _ X_9 a_6) rfl (cwV 0 hF.2.2.2.2 (lw_V q1611 q1612 q1613 q108 q1614) rfl rfl rfl (by decide +kernel) ⟨Nat.le_of_ble_eq_true rfl, Nat.le_of_ble_eq_true rfl⟩) ho_16 hw rfl rfl (Nat.le_of_ble_eq_true rfl) dX1_faulty_10 ⟨hc_19, hs_20⟩) hP hS (fun E9 q9 X9 H locs hw hcl hP hS => ?_) (fun r_14 X_15 H locs hw hP hS => ?_)
  · exact h_out hout hlocks hcl hP hS ⟨hc_19, hs_20⟩ hw
  refine lv_if_ne (tgt := 20) hF.1 hF.2.1 dX1_faulty_13 (by decide) (fun c_21 => ?_) (fun c_21 => ?_)
  · have hw := hw.2 c_21
    refine lv_iconst (v := 0) hF.1 hF.2.1 dX1_faulty_20 (by decide) ?_
    exact T21 a_6 0 X_15 (((0 + 1) + mc_10) + mc_17) (((0 + 8) + ms_11) + ms_18) _ _ ls hP hS ⟨hc_19, hs_20⟩ (lv_sub hl [0] rfl) hw
  · have hw := hw.1 c_21
    refine lv_iconst (v := 1) hF.1 hF.2.1 dX1_faulty_16 (by decide) ?_
    refine lv_goto (tgt := 21) hF.1 hF.2.1 dX1_faulty_17 (by decide) ?_
    exact T21 a_6 1 X_15 (((0 + 1) + mc_10) + mc_17) (((0 + 8) + ms_11) + ms_18) _ _ ls hP hS ⟨hc_19, hs_20⟩ (lv_sub hl [0] rfl) hw
def wpX1_faultPosition (post : Int32 → hX → Prop) (xpost : String → Nat → hX → Prop) (E : Nat) (mc ms : Nat) (X : hX) (p0 : Nat) : Prop := isO X p0 1 ((∃ mc_4 ms_5 : Nat, 0 + mc_4 ≤ mc ∧ 0 + ms_5 ≤ ms ∧ wpX1_faulty (fun r_1 X_2 => (∃ a_8 : Nat, r_1 = some a_8 ∧ gfI X_2 a_8 4 3 (fun v_11 => post v_11 X_2))) xpost E mc_4 ms_5 X p0))
abbrev wsX1_faultPosition : List Cond := ws_ yX1_faultPosition cX1_faultPosition 1 (some .int)
set_option maxHeartbeats 8000000 in
theorem metX1_faultPosition (l : Launch) (hlt : l.stackTraces = false) (K : HK) (mc ms : Nat) (sz : Nat) (post : Int32 → hX → Prop) (xpost : String → Nat → hX → Prop) (X0 : hX) (p0 : Nat) : vx_Met l yX1_faultPosition wsX1_faultPosition (rmh 14 346 mc ms) (hPc K X0 sz [.ref p0] (wpX1_faultPosition post xpost (K.2.2 0) mc ms X0 p0)) (hQi post K X0 sz) (hXC xpost K X0 sz) mc ms (hA X0 sz) := by
  refine vx_ofW (cc := cX1_faultPosition) (maxL := 1) (ret := (some .int)) (by decide) rfl ?_
  intro p e s m args below meth c s₁ B hml hno hv
  obtain ⟨rfl, hv⟩ := hv
  obtain ⟨hC, hP, hw⟩ := HC.of hv
  have hsz : s.heap.size = sz := hv.1
  subst hsz
  clear hv
  have hout : ∀ {pc : Nat}, ∀ x ∈ c.exceptionTable.toList, covers x pc = false := fun x hx => (hno x hx).elim
  have hr := B.returns
  have hts := atoms_spec (ws := wsX1_faultPosition) B.pre
  have hts : ∀ w ∈ lw_all, w.before _ s = true := fun w h => hts w (List.mem_cons_of_mem _ h)
  have hF : CallFix p m c cX1_faultPosition 1 s ([.ref p0] : List Value).toArray lw_all RX1 := ⟨B.exec, B.bytes, hml, findClass_of_methodNamed B.named, hts⟩
  have hlocks := B.notSynchronized
  have hl := lv_entry ([.ref p0]) (n := 1) (Nat.le_of_ble_eq_true rfl)
  rw [lg_entry_eq]
  generalize (lg_sl ([.ref p0]) ++ List.replicate (1 - (lg_sl ([.ref p0])).length) Slot.unset).toArray = ls at hl ⊢
  have hl : lv_has ls 1 [(0, .ref p0)] := hl
  have hS : va_S (hA X0 s.heap.size) s.heap s.heap [] := va_S.rf
  unfold wpX1_faultPosition at hw
  show W p l e (rmh 14 346 mc ms) s m _ below meth c _ _ _ _ _ _
  refine lv_aload_n hF.1 hF.2.1 dX1_faultPosition_0 rfl (lv_at hl 0 rfl) ?_
  obtain ⟨ho_3, hw⟩ := hw
  obtain ⟨mc_4, ms_5, hc_6, hs_7, hw⟩ := hw
  refine hkx_q (hrx_V (As := []) (rest := []) (T := TX1) (N := 4) (ci := 1) hF hl.1 hC hP hS (metX1_faulty l hlt K mc_4 ms_5 _ _ _ X0 p0) rfl (cwV 0 hF.2.2.2.2 (lw_V q1571 q1573 qs19 q75 q1574) rfl rfl rfl (by decide +kernel) ⟨Nat.le_of_ble_eq_true rfl, Nat.le_of_ble_eq_true rfl⟩) ho_3 hw rfl rfl (Nat.le_of_ble_eq_true rfl) dX1_faultPosition_1 ⟨hc_6, hs_7⟩) hP hS (fun E9 q9 X9 H locs hw hcl hP hS => ?_) (fun r_1 X_2 H locs hw hP hS => ?_)
  · exact h_out hout hlocks hcl hP hS ⟨hc_6, hs_7⟩ hw
  obtain ⟨a_8, e_9, hw⟩ := hw
  subst e_9
  rw [va_rf_some]
  obtain ⟨fs_10, v_11, hx_12, hv_13, hw⟩ := hw
  refine x_getN hF hC hP in_X9 rfl 3 (by decide) q1586 (fun _ z => z) hx_12 hv_13 dX1_faultPosition_4 ?_
  exact vx_ret (h_iret hF hr hlocks hP hS ⟨hc_6, hs_7⟩ dX1_faultPosition_7 hw)
def wpX1_faultReason (post : Int32 → hX → Prop) (xpost : String → Nat → hX → Prop) (E : Nat) (mc ms : Nat) (X : hX) (p0 : Nat) : Prop := isO X p0 1 ((∃ mc_4 ms_5 : Nat, 0 + mc_4 ≤ mc ∧ 0 + ms_5 ≤ ms ∧ wpX1_faulty (fun r_1 X_2 => (∃ a_8 : Nat, r_1 = some a_8 ∧ gfI X_2 a_8 4 4 (fun v_11 => post v_11 X_2))) xpost E mc_4 ms_5 X p0))
abbrev wsX1_faultReason : List Cond := ws_ yX1_faultReason cX1_faultReason 1 (some .int)
set_option maxHeartbeats 8000000 in
theorem metX1_faultReason (l : Launch) (hlt : l.stackTraces = false) (K : HK) (mc ms : Nat) (sz : Nat) (post : Int32 → hX → Prop) (xpost : String → Nat → hX → Prop) (X0 : hX) (p0 : Nat) : vx_Met l yX1_faultReason wsX1_faultReason (rmh 14 346 mc ms) (hPc K X0 sz [.ref p0] (wpX1_faultReason post xpost (K.2.2 0) mc ms X0 p0)) (hQi post K X0 sz) (hXC xpost K X0 sz) mc ms (hA X0 sz) := by
  refine vx_ofW (cc := cX1_faultReason) (maxL := 1) (ret := (some .int)) (by decide) rfl ?_
  intro p e s m args below meth c s₁ B hml hno hv
  obtain ⟨rfl, hv⟩ := hv
  obtain ⟨hC, hP, hw⟩ := HC.of hv
  have hsz : s.heap.size = sz := hv.1
  subst hsz
  clear hv
  have hout : ∀ {pc : Nat}, ∀ x ∈ c.exceptionTable.toList, covers x pc = false := fun x hx => (hno x hx).elim
  have hr := B.returns
  have hts := atoms_spec (ws := wsX1_faultReason) B.pre
  have hts : ∀ w ∈ lw_all, w.before _ s = true := fun w h => hts w (List.mem_cons_of_mem _ h)
  have hF : CallFix p m c cX1_faultReason 1 s ([.ref p0] : List Value).toArray lw_all RX1 := ⟨B.exec, B.bytes, hml, findClass_of_methodNamed B.named, hts⟩
  have hlocks := B.notSynchronized
  have hl := lv_entry ([.ref p0]) (n := 1) (Nat.le_of_ble_eq_true rfl)
  rw [lg_entry_eq]
  generalize (lg_sl ([.ref p0]) ++ List.replicate (1 - (lg_sl ([.ref p0])).length) Slot.unset).toArray = ls at hl ⊢
  have hl : lv_has ls 1 [(0, .ref p0)] := hl
  have hS : va_S (hA X0 s.heap.size) s.heap s.heap [] := va_S.rf
  unfold wpX1_faultReason at hw
  show W p l e (rmh 14 346 mc ms) s m _ below meth c _ _ _ _ _ _
  refine lv_aload_n hF.1 hF.2.1 dX1_faultReason_0 rfl (lv_at hl 0 rfl) ?_
  obtain ⟨ho_3, hw⟩ := hw
  obtain ⟨mc_4, ms_5, hc_6, hs_7, hw⟩ := hw
  refine hkx_q (hrx_V (As := []) (rest := []) (T := TX1) (N := 4) (ci := 1) hF hl.1 hC hP hS (metX1_faulty l hlt K mc_4 ms_5 _ _ _ X0 p0) rfl (cwV 0 hF.2.2.2.2 (lw_V q1571 q1573 qs19 q75 q1574) rfl rfl rfl (by decide +kernel) ⟨Nat.le_of_ble_eq_true rfl, Nat.le_of_ble_eq_true rfl⟩) ho_3 hw rfl rfl (Nat.le_of_ble_eq_true rfl) dX1_faultReason_1 ⟨hc_6, hs_7⟩) hP hS (fun E9 q9 X9 H locs hw hcl hP hS => ?_) (fun r_1 X_2 H locs hw hP hS => ?_)
  · exact h_out hout hlocks hcl hP hS ⟨hc_6, hs_7⟩ hw
  obtain ⟨a_8, e_9, hw⟩ := hw
  subst e_9
  rw [va_rf_some]
  obtain ⟨fs_10, v_11, hx_12, hv_13, hw⟩ := hw
  refine x_getN hF hC hP in_X9 rfl 4 (by decide) q1588 (fun _ z => z) hx_12 hv_13 dX1_faultReason_4 ?_
  exact vx_ret (h_iret hF hr hlocks hP hS ⟨hc_6, hs_7⟩ dX1_faultReason_7 hw)
def wpX1_faultCause (post : Int32 → hX → Prop) (xpost : String → Nat → hX → Prop) (E : Nat) (mc ms : Nat) (X : hX) (p0 : Nat) : Prop := isO X p0 1 ((∃ mc_4 ms_5 : Nat, 0 + mc_4 ≤ mc ∧ 0 + ms_5 ≤ ms ∧ wpX1_faulty (fun r_1 X_2 => (∃ a_8 : Nat, r_1 = some a_8 ∧ gfI X_2 a_8 4 5 (fun v_11 => post v_11 X_2))) xpost E mc_4 ms_5 X p0))
abbrev wsX1_faultCause : List Cond := ws_ yX1_faultCause cX1_faultCause 1 (some .int)
set_option maxHeartbeats 8000000 in
theorem metX1_faultCause (l : Launch) (hlt : l.stackTraces = false) (K : HK) (mc ms : Nat) (sz : Nat) (post : Int32 → hX → Prop) (xpost : String → Nat → hX → Prop) (X0 : hX) (p0 : Nat) : vx_Met l yX1_faultCause wsX1_faultCause (rmh 14 346 mc ms) (hPc K X0 sz [.ref p0] (wpX1_faultCause post xpost (K.2.2 0) mc ms X0 p0)) (hQi post K X0 sz) (hXC xpost K X0 sz) mc ms (hA X0 sz) := by
  refine vx_ofW (cc := cX1_faultCause) (maxL := 1) (ret := (some .int)) (by decide) rfl ?_
  intro p e s m args below meth c s₁ B hml hno hv
  obtain ⟨rfl, hv⟩ := hv
  obtain ⟨hC, hP, hw⟩ := HC.of hv
  have hsz : s.heap.size = sz := hv.1
  subst hsz
  clear hv
  have hout : ∀ {pc : Nat}, ∀ x ∈ c.exceptionTable.toList, covers x pc = false := fun x hx => (hno x hx).elim
  have hr := B.returns
  have hts := atoms_spec (ws := wsX1_faultCause) B.pre
  have hts : ∀ w ∈ lw_all, w.before _ s = true := fun w h => hts w (List.mem_cons_of_mem _ h)
  have hF : CallFix p m c cX1_faultCause 1 s ([.ref p0] : List Value).toArray lw_all RX1 := ⟨B.exec, B.bytes, hml, findClass_of_methodNamed B.named, hts⟩
  have hlocks := B.notSynchronized
  have hl := lv_entry ([.ref p0]) (n := 1) (Nat.le_of_ble_eq_true rfl)
  rw [lg_entry_eq]
  generalize (lg_sl ([.ref p0]) ++ List.replicate (1 - (lg_sl ([.ref p0])).length) Slot.unset).toArray = ls at hl ⊢
  have hl : lv_has ls 1 [(0, .ref p0)] := hl
  have hS : va_S (hA X0 s.heap.size) s.heap s.heap [] := va_S.rf
  unfold wpX1_faultCause at hw
  show W p l e (rmh 14 346 mc ms) s m _ below meth c _ _ _ _ _ _
  refine lv_aload_n hF.1 hF.2.1 dX1_faultCause_0 rfl (lv_at hl 0 rfl) ?_
  obtain ⟨ho_3, hw⟩ := hw
  obtain ⟨mc_4, ms_5, hc_6, hs_7, hw⟩ := hw
  refine hkx_q (hrx_V (As := []) (rest := []) (T := TX1) (N := 4) (ci := 1) hF hl.1 hC hP hS (metX1_faulty l hlt K mc_4 ms_5 _ _ _ X0 p0) rfl (cwV 0 hF.2.2.2.2 (lw_V q1571 q1573 qs19 q75 q1574) rfl rfl rfl (by decide +kernel) ⟨Nat.le_of_ble_eq_true rfl, Nat.le_of_ble_eq_true rfl⟩) ho_3 hw rfl rfl (Nat.le_of_ble_eq_true rfl) dX1_faultCause_1 ⟨hc_6, hs_7⟩) hP hS (fun E9 q9 X9 H locs hw hcl hP hS => ?_) (fun r_1 X_2 H locs hw hP hS => ?_)
  · exact h_out hout hlocks hcl hP hS ⟨hc_6, hs_7⟩ hw
  obtain ⟨a_8, e_9, hw⟩ := hw
  subst e_9
  rw [va_rf_some]
  obtain ⟨fs_10, v_11, hx_12, hv_13, hw⟩ := hw
  refine x_getN hF hC hP in_X9 rfl 5 (by decide) q1590 (fun _ z => z) hx_12 hv_13 dX1_faultCause_4 ?_
  exact vx_ret (h_iret hF hr hlocks hP hS ⟨hc_6, hs_7⟩ dX1_faultCause_7 hw)
def wpX1_play (post : Int32 → hX → Prop) (xpost : String → Nat → hX → Prop) (E : Nat) (mc ms : Nat) (X : hX) (p0 : Nat) : Prop := newO X 4 [.null, .null, .int 0, .int 0, .int 0, .int 0, .int 0, .null] 8 0 0 mc ms (fun a_1 X_2 => (∃ mc_5 ms_6 : Nat, (0 + 1) + mc_5 ≤ mc ∧ (0 + 8) + ms_6 ≤ ms ∧ wpX9_init (fun X_4 => isO X_4 a_1 4 ((∃ mc_12 ms_13 : Nat, ((0 + 1) + mc_5) + mc_12 ≤ mc ∧ ((0 + 8) + ms_6) + ms_13 ≤ ms ∧ wpX9_isWell (fun r_9 X_10 => (∃ mc_17 ms_18 : Nat, (((0 + 1) + mc_5) + mc_12) + mc_17 ≤ mc ∧ (((0 + 8) + ms_6) + ms_13) + ms_18 ≤ ms ∧ wpX1_needState (fun X_16 => gfA X_16 a_1 4 0 (fun v_22 => gfI X_16 a_1 4 6 (fun v_26 => isO X_16 p0 1 (wpX1_changed (fun r_29 X_30 => post r_29 X_30) E X_16 p0 v_22 v_26)))) xpost E mc_17 ms_18 X_10 r_9)) xpost E mc_12 ms_13 X_4 a_1))) E mc_5 ms_6 X_2 a_1 p0))
abbrev wsX1_play : List Cond := ws_ yX1_play cX1_play 2 (some .int)
set_option maxHeartbeats 8000000 in
theorem metX1_play (l : Launch) (hlt : l.stackTraces = false) (K : HK) (mc ms : Nat) (sz : Nat) (post : Int32 → hX → Prop) (xpost : String → Nat → hX → Prop) (X0 : hX) (p0 : Nat) : vx_Met l yX1_play wsX1_play (rmh 13 325 mc ms) (hPc K X0 sz [.ref p0] (wpX1_play post xpost (K.2.2 0) mc ms X0 p0)) (hQi post K X0 sz) (hXC xpost K X0 sz) mc ms (hA X0 sz) := by
  refine vx_ofW (cc := cX1_play) (maxL := 2) (ret := (some .int)) (by decide) rfl ?_
  intro p e s m args below meth c s₁ B hml hno hv
  obtain ⟨rfl, hv⟩ := hv
  obtain ⟨hC, hP, hw⟩ := HC.of hv
  have hsz : s.heap.size = sz := hv.1
  subst hsz
  clear hv
  have hout : ∀ {pc : Nat}, ∀ x ∈ c.exceptionTable.toList, covers x pc = false := fun x hx => (hno x hx).elim
  have hr := B.returns
  have hts := atoms_spec (ws := wsX1_play) B.pre
  have hts : ∀ w ∈ lw_all, w.before _ s = true := fun w h => hts w (List.mem_cons_of_mem _ h)
  have hF : CallFix p m c cX1_play 2 s ([.ref p0] : List Value).toArray lw_all RX1 := ⟨B.exec, B.bytes, hml, findClass_of_methodNamed B.named, hts⟩
  have hlocks := B.notSynchronized
  have hl := lv_entry ([.ref p0]) (n := 2) (Nat.le_of_ble_eq_true rfl)
  rw [lg_entry_eq]
  generalize (lg_sl ([.ref p0]) ++ List.replicate (2 - (lg_sl ([.ref p0])).length) Slot.unset).toArray = ls at hl ⊢
  have hl : lv_has ls 2 [(0, .ref p0)] := hl
  have hS : va_S (hA X0 s.heap.size) s.heap s.heap [] := va_S.rf
  unfold wpX1_play at hw
  show W p l e (rmh 13 325 mc ms) s m _ below meth c _ _ _ _ _ _
  refine x_new hF hC hP hS in_X9 rfl tyX9 tyX9_ok q1575 q1576 q108 (nfsX9) hw ⟨rfl, rfl⟩ dX1_play_0 (fun a_1 X_2 H pk_3c pk_3s hw hP hS => ?_)
  refine lv_dup hF.1 hF.2.1 dX1_play_3 rfl ?_
  refine lv_aload_n hF.1 hF.2.1 dX1_play_4 rfl (lv_at hl 0 rfl) ?_
  obtain ⟨mc_5, ms_6, hc_7, hs_8, hw⟩ := hw
  refine hk_v (hr_IN (As := [.ref p0]) (rest := [.ref a_1]) hF hl.1 hC hP hS (metX9_init l K mc_5 ms_6 _ _ X_2 a_1 p0) ⟨va_cnB 1 hF.2.2.2.2 (lw_meth q1579) rfl rfl rfl (hC.2.2.1.2.2.2.2.2.1 _ q1577 rfl) (hF.2.2.2.2 _ q108) (by decide +kernel) ⟨Nat.le_of_ble_eq_true rfl, Nat.le_of_ble_eq_true rfl⟩, rfl, hF.2.2.2.2 _ q1578⟩ hw rfl rfl (Nat.le_of_ble_eq_true rfl) dX1_play_5 ⟨hc_7, hs_8⟩) hP hS (fun X_4 H locs hw hP hS => ?_)
  refine lv_astore_n (lv' := [(1, .ref a_1), (0, .ref p0)]) hF.1 hF.2.1 dX1_play_8 rfl hl (by decide) rfl (fun ls hl => ?_)
  refine lv_aload_n hF.1 hF.2.1 dX1_play_9 rfl (lv_at hl 0 rfl) ?_
  obtain ⟨ho_11, hw⟩ := hw
  obtain ⟨mc_12, ms_13, hc_14, hs_15, hw⟩ := hw
  refine hkx_i (hrx_V (As := []) (rest := []) (T := TX9) (N := 8) (ci := 4) hF hl.1 hC hP hS (metX9_isWell l hlt K mc_12 ms_13 _ _ _ X_4 a_1) rfl (cwV 0 hF.2.2.2.2 (lw_V q1611 q1612 q1613 q108 q1614) rfl rfl rfl (by decide +kernel) ⟨Nat.le_of_ble_eq_true rfl, Nat.le_of_ble_eq_true rfl⟩) ho_11 hw rfl rfl (Nat.le_of_ble_eq_true rfl) dX1_play_10 ⟨hc_14, hs_15⟩) hP hS (fun E9 q9 X9 H locs hw hcl hP hS => ?_) (fun r_9 X_10 H locs hw hP hS => ?_)
  · exact h_out hout hlocks hcl hP hS ⟨hc_14, hs_15⟩ hw
  obtain ⟨mc_17, ms_18, hc_19, hs_20, hw⟩ := hw
  refine hkx_v (hrx_S (As := [.int r_9]) (rest := []) hF hl.1 hC hP hS (metX1_needState l hlt K mc_17 ms_18 _ _ _ X_10 r_9) (va_cwS 1 hF.2.2.2.2 (lw_S q1510 q1511 q75 q1512) rfl rfl rfl (by decide +kernel) ⟨Nat.le_of_ble_eq_true rfl, Nat.le_of_ble_eq_true rfl⟩) hw rfl rfl (Nat.le_of_ble_eq_true rfl) dX1_play_13 ⟨hc_19, hs_20⟩) hP hS (fun E9 q9 X9 H locs hw hcl hP hS => ?_) (fun X_16 H locs hw hP hS => ?_)
  · exact h_out hout hlocks hcl hP hS ⟨hc_19, hs_20⟩ hw
  refine lv_aload_n hF.1 hF.2.1 dX1_play_16 rfl (lv_at hl 1 rfl) ?_
  refine lv_aload_n hF.1 hF.2.1 dX1_play_17 rfl (lv_at hl 0 rfl) ?_
  obtain ⟨fs_21, v_22, hx_23, hv_24, hw⟩ := hw
  refine x_getN hF hC hP in_X9 rfl 0 (by decide) q1582 (fun _ z => z) hx_23 hv_24 dX1_play_18 ?_
  refine lv_aload_n hF.1 hF.2.1 dX1_play_21 rfl (lv_at hl 0 rfl) ?_
  obtain ⟨fs_25, v_26, hx_27, hv_28, hw⟩ := hw
  refine x_getN hF hC hP in_X9 rfl 6 (by decide) q1592 (fun _ z => z) hx_27 hv_28 dX1_play_22 ?_
  obtain ⟨ho_31, hw⟩ := hw
  refine hk_i (hr_V (As := [.ref v_22, .int v_26]) (rest := []) (T := TX1) (N := 4) (ci := 1) hF hl.1 hC hP hS (metX1_changed l K _ _ X_16 p0 v_22 v_26) rfl (cwV 2 hF.2.2.2.2 (lw_V q980 q982 qs8 q75 q983) rfl rfl rfl (by decide +kernel) ⟨Nat.le_of_ble_eq_true rfl, Nat.le_of_ble_eq_true rfl⟩) ho_31 hw rfl rfl (Nat.le_of_ble_eq_true rfl) dX1_play_25 ⟨hc_19, hs_20⟩) hP hS (fun r_29 X_30 H locs hw hP hS => ?_)
  exact vx_ret (h_iret hF hr hlocks hP hS ⟨hc_19, hs_20⟩ dX1_play_28 hw)

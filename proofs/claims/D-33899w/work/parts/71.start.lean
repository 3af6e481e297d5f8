/-! THE LAW, walked by program: its start -/
set_option maxRecDepth 100000
def wpL_0 (E mc ms : Nat) (P : Nat → Nat → Nat → Nat → Int32 → hX → Nat → Nat → Prop) (X0 : hX) : Prop := newO X0 1 [.null, .null, .null, .null] 4 0 0 mc ms (fun a_1 X_2 => (∃ mc_5 ms_6 : Nat, (0 + 1) + mc_5 ≤ mc ∧ (0 + 4) + ms_6 ≤ ms ∧ wpX1_init (fun X_4 => newO X_4 0 [.null, .null, .null, .int 0, .null, .int 0, .null, .int 0, .int 0, .null, .null, .null, .null, .int 0, .long 0, .long 0, .int 0, .int 0, .int 0, .int 0, .int 0, .int 0, .int 0, .int 0, .int 0, .int 0, .int 0, .int 0] 28 ((0 + 1) + mc_5) ((0 + 4) + ms_6) mc ms (fun a_9 X_10 => (∃ mc_13 ms_14 : Nat, (((0 + 1) + mc_5) + 1) + mc_13 ≤ mc ∧ (((0 + 4) + ms_6) + 28) + ms_14 ≤ ms ∧ wpX3_init (fun X_12 => newA X_12 1 (.inr (.inl (fun _ => 0))) 1 8 ((((0 + 1) + mc_5) + 1) + mc_13) ((((0 + 4) + ms_6) + 28) + ms_14) mc ms (fun a_17 X_18 => newA X_18 3 (.inr (.inr (.inl (fun _ => 0)))) 1 4 (((((0 + 1) + mc_5) + 1) + mc_13) + 1) (((((0 + 4) + ms_6) + 28) + ms_14) + Int32.toNatClampNeg 1) mc ms (fun a_20 X_21 => P a_1 a_9 a_17 a_20 0 X_21 ((((((0 + 1) + mc_5) + 1) + mc_13) + 1) + 1) ((((((0 + 4) + ms_6) + 28) + ms_14) + Int32.toNatClampNeg 1) + Int32.toNatClampNeg 1)))) E mc_13 ms_14 X_10 a_9))) E mc_5 ms_6 X_2 a_1))
set_option maxHeartbeats 8000000 in
theorem Tl0 {p : Program} {e : Env} {s : State} {m : MethodId} {below : List Frame} {meth : Method} {c : Code} (l : Launch) (hlt : l.stackTraces = false) (K : HK) {b N : Nat} {xs : Nat → Int32} (X0 : hX) (hF : CallFix p m c code 9 s #[Value.ref b] lw_all R_law) (hC : HC K X0 s) (hP : hI K X0 s.heap.size X0 s.heap) (P : Nat → Nat → Nat → Nat → Int32 → hX → Nat → Nat → Prop) (hP28 : ∀ (x1 x2 x3 x4 : Nat) (x5 : Int32) (X : hX) (kc ks : Nat) (H : Heap) (locs : List Loc) (ls : Array Slot), hI K X0 s.heap.size X H → va_S (hA X0 s.heap.size) s.heap H locs → kc ≤ 1200048 ∧ ks ≤ 5501818 → lv_has ls 9 [(0, .ref b), (1, .ref x1), (2, .ref x2), (3, .ref x3), (4, .ref x4), (5, .int x5)] → P x1 x2 x3 x4 x5 X kc ks → W p l e room_1 s m #[Value.ref b] below meth c H locs kc ks (lw_Z below #[Value.ref b] s) (F0 m 28 ls [])) (hw : wpL_0 (K.2.2 0) 1200048 5501818 P X0) : W p l e room_1 s m #[Value.ref b] below meth c s.heap [] 0 0 (lw_Z below #[Value.ref b] s) (entryFrame m ([Value.ref b] : List Value).toArray 9) := by
  have hl := lv_entry ([.ref b]) (n := 9) (Nat.le_of_ble_eq_true rfl)
  rw [lg_entry_eq]
  generalize (lg_sl ([.ref b]) ++ List.replicate (9 - (lg_sl ([.ref b])).length) Slot.unset).toArray = ls at hl ⊢
  have hl : lv_has ls 9 [(0, .ref b)] := hl
  have hS : va_S (hA X0 s.heap.size) s.heap s.heap [] := va_S.rf
  unfold wpL_0 at hw
  refine x_new hF hC hP hS in_X1 rfl tyX1 tyX1_ok q110 q111 q75 (nfsX1) hw ⟨rfl, rfl⟩ dL_law_0 (fun a_1 X_2 H pk_3c pk_3s hw hP hS => ?_)
  refine lv_dup hF.1 hF.2.1 dL_law_3 rfl ?_
  obtain ⟨mc_5, ms_6, hc_7, hs_8, hw⟩ := hw
  refine hk_v (hr_I (As := []) (rest := [.ref a_1]) hF hl.1 hC hP hS (metX1_init l K mc_5 ms_6 _ _ X_2 a_1) (cwI 0 hF.2.2.2.2 (lw_meth q114) rfl rfl rfl (hF.2.2.2.2 _ q75) (hF.2.2.2.2 _ q112) (hF.2.2.2.2 _ q113) rfl (by decide +kernel) ⟨Nat.le_of_ble_eq_true rfl, Nat.le_of_ble_eq_true rfl⟩) hw rfl rfl (Nat.le_of_ble_eq_true rfl) dL_law_4 ⟨hc_7, hs_8⟩) hP hS (fun X_4 H locs hw hP hS => ?_)
  refine lv_astore_n (lv' := [(1, .ref a_1), (0, .ref b)]) hF.1 hF.2.1 dL_law_7 rfl hl (by decide) rfl (fun ls hl => ?_)
  refine x_new hF hC hP hS in_X3 rfl tyX3 tyX3_ok q1722 q1723 q85 (nfsX3) hw ⟨rfl, rfl⟩ dL_law_8 (fun a_9 X_10 H pk_11c pk_11s hw hP hS => ?_)
  refine lv_dup hF.1 hF.2.1 dL_law_11 rfl ?_
  obtain ⟨mc_13, ms_14, hc_15, hs_16, hw⟩ := hw
  refine hk_v (hr_I (As := []) (rest := [.ref a_9]) hF hl.1 hC hP hS (metX3_init l K mc_13 ms_14 _ _ X_10 a_9) (cwI 0 hF.2.2.2.2 (lw_meth q1726) rfl rfl rfl (hF.2.2.2.2 _ q85) (hF.2.2.2.2 _ q1724) (hF.2.2.2.2 _ q1725) rfl (by decide +kernel) ⟨Nat.le_of_ble_eq_true rfl, Nat.le_of_ble_eq_true rfl⟩) hw rfl rfl (Nat.le_of_ble_eq_true rfl) dL_law_12 ⟨hc_15, hs_16⟩) hP hS (fun X_12 H locs hw hP hS => ?_)
  refine lv_astore_n (lv' := [(2, .ref a_9), (1, .ref a_1), (0, .ref b)]) hF.1 hF.2.1 dL_law_15 rfl hl (by decide) rfl (fun ls hl => ?_)
  refine lv_iconst (v := 1) hF.1 hF.2.1 dL_law_16 (by decide) ?_
  refine x_newa (atype := .long) (t := 1) hF hC hP hS q414 rfl rfl rfl (Or.inr (Or.inl rfl)) (fun _ _ => rfl) hw ⟨rfl, rfl⟩ dL_law_17 (fun a_17 X_18 H pk_19c pk_19s hw hP hS => ?_)
  refine lv_astore_n (lv' := [(3, .ref a_17), (2, .ref a_9), (1, .ref a_1), (0, .ref b)]) hF.1 hF.2.1 dL_law_19 rfl hl (by decide) rfl (fun ls hl => ?_)
  refine lv_iconst (v := 1) hF.1 hF.2.1 dL_law_20 (by decide) ?_
  refine x_newa (atype := .float) (t := 3) hF hC hP hS q2326 rfl rfl rfl (Or.inr (Or.inr (Or.inr (Or.inl rfl)))) (fun _ _ => rfl) hw ⟨rfl, rfl⟩ dL_law_21 (fun a_20 X_21 H pk_22c pk_22s hw hP hS => ?_)
  refine lv_astore (lv' := [(4, .ref a_20), (3, .ref a_17), (2, .ref a_9), (1, .ref a_1), (0, .ref b)]) hF.1 hF.2.1 dL_law_23 hl (by decide) rfl (fun ls hl => ?_)
  refine lv_iconst (v := 0) hF.1 hF.2.1 dL_law_25 (by decide) ?_
  refine lv_istore (lv' := [(5, .int 0), (4, .ref a_20), (3, .ref a_17), (2, .ref a_9), (1, .ref a_1), (0, .ref b)]) hF.1 hF.2.1 dL_law_26 hl (by decide) rfl (fun ls hl => ?_)
  exact hP28 a_1 a_9 a_17 a_20 0 X_21 ((((((0 + 1) + mc_5) + 1) + mc_13) + 1) + 1) ((((((0 + 4) + ms_6) + 28) + ms_14) + Int32.toNatClampNeg 1) + Int32.toNatClampNeg 1) _ _ ls hP hS ⟨pk_22c, pk_22s⟩ (lv_sub hl [5, 4, 3, 2, 1, 0] rfl) hw

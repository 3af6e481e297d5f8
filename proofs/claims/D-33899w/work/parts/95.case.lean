/-! THE PLAIN LAW: case 10 of the law's loop (the day set) -/
set_option maxRecDepth 100000
theorem case_10 {V : row → Prop} {E N kc ks d x o f : Nat} {xs : Nat → Int32} {i : Int32} {X : hX} {F : mF} {R : mR} {L : mL} {G : mG} {J : Nat → Nat → Nat → Int32 → hX → mF → mR → mL → mG → Nat → Nat → Prop} (h : lInv V E X x o f F R) (hi : vp_in (i + 1) N) (hd : d ≤ 1000000) (h0 : R 0 111 = nI d) (hV : ∀ p r s2, oDay (R 0) p = .inr (r, s2) → V s2) (hVe : ∀ s t, rEq s t → V s → V t)
    (hk : kc + 49000 ≤ 1200048) (hs : ks + 229000 ≤ 5501818) (hJ : ∀ (X' : hX) (F' : mF) (R' : mR), lInv V E X' x o f F' R' → J x o f (i + 5) X' F' R' L G (kc + 49000) (ks + 229000)) : wpL_964 E 1200048 5501818 N xs J x o f i X F R L G kc ks := by
  obtain ⟨C, hl, kp, tx, c1, c2, c3, c4, c5, c6, c7⟩ := h
  refine ⟨hi, 49000, 229000, hk, hs, wx_setDay c1 (by omega) (by omega) (fun r s2 ho X' C' g d1 d2 d3 => ⟨hi, ?_⟩) (fun k ho X' d1 => ⟨hi, ?_⟩)⟩
  · refine mx_setDay c2 hd h0 (fun r' s2' ho' F' R' e1 e2 e3 e4 => ?_) (fun k' ho' => by rw [ho] at ho'; cases ho')
    rw [ho] at ho'
    cases ho'
    refine ⟨fun _ => ⟨fun _ => ⟨1, g, d2, ?_, ?_⟩, fun y => absurd rfl y⟩, fun y => absurd e1 y⟩
    · have := vp_in_nI (n := 0) (N := 1) (by decide) (by decide)
      rw [nI_0] at this
      exact this
    · rw [show g (Int32.toNatClampNeg 0) = Int32.toInt64 r from d3]
      refine ⟨fun _ i' ei => ?_, fun y => absurd rfl y⟩
      subst ei
      exact hJ X' F' R' ⟨C', hPush hl (R 0), kp, tx, by rw [e2]; exact d1, e4, c3.keep e3, c4.keep e3, by rw [e2]; exact hV _ r s2 ho, hPush_V c6 c5, c7⟩
  · refine mx_setDay c2 hd h0 (fun r' s2' ho' => by rw [ho] at ho'; cases ho') (fun k' ho' F' R' e1 e2 e3 e4 => ?_)
    refine ⟨fun _ => ⟨fun y => absurd y (by decide), fun _ i' ei => ?_⟩, fun y => absurd e1 y⟩
    subst ei
    exact hJ X' F' R' ⟨C, hl, kp, tx, d1.eq e2.symm, e4, c3.keep e3, c4.keep e3, hVe _ _ e2.symm c5, c6, c7⟩

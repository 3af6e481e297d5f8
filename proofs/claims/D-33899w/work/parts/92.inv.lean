/-! THE PLAIN LAW: rows that agree -/
set_option maxRecDepth 100000
theorem rEq.symm {s t : row} (h : rEq s t) : rEq t s := fun k hk => (h k hk).symm
theorem rEq.trans {s t u : row} (h : rEq s t) (g : rEq t u) : rEq s u := fun k hk => (h k hk).trans (g k hk)
theorem wkX.eq {E : Nat} {X : hX} {A : wkA} {s t : row} (h : wkX E X A s) (hb : wkB A) (he : rEq s t) : wkX E X A t := by
  obtain ⟨h1, h2, ⟨⟨g1, f1, f1'⟩, ⟨g2, f2, f2'⟩⟩, ⟨c1, p1⟩, ⟨c2, p2⟩, ⟨c3, p3⟩⟩ := h
  obtain ⟨b1, b2, b3⟩ := hb
  refine ⟨by rw [← he 0 (by decide), ← he 50 (by decide), ← he 111 (by decide), ← he 112 (by decide)]; exact h1, h2, ⟨⟨g1, f1, fun i hi => by rw [← he _ (by omega)]; exact f1' i hi⟩, ⟨g2, f2, fun i hi => by rw [← he _ (by omega)]; exact f2' i hi⟩⟩, ⟨by rw [← he 1 (by decide)]; exact c1, fun i hi => ?_⟩, ⟨by rw [← he 83 (by decide)]; exact c2, fun i hi => ?_⟩, ⟨by rw [← he 102 (by decide)]; exact c3, fun i hi => ?_⟩⟩
  · rw [← he _ (by omega), ← he _ (by omega)]; exact p1 i hi
  · rw [← he _ (by omega), ← he _ (by omega), ← he _ (by omega)]; exact p2 i hi
  · rw [← he _ (by omega), ← he _ (by omega)]; exact p3 i hi
theorem cmX.eq {E : Nat} {X : hX} {x o f : Nat} {C : cmA} {s t : row} {hs : List row} {kp : Option row} {tx : List Int32} (h : cmX E X x o f C s hs kp tx) (he : rEq s t) : cmX E X x o f C t hs kp tx := by
  obtain ⟨h1, h2, h3, h4, h6, ⟨h7, h7'⟩, h8⟩ := h
  exact ⟨h1, h2, h3, h4, h6, ⟨h7.eq h7' he, h7'⟩, h8⟩
/-- the model's kept row, its text -/
def mKp (F : mF) (R : mR) (kp : Option row) : Prop := (F 3 = 0 ∧ kp = none) ∨ (F 3 = 1 ∧ ∃ k : row, kp = some k ∧ rEq (R 2) k)
def mTx (F : mF) (R : mR) (tx : List Int32) : Prop := F 7 = nI tx.length ∧ ∀ (i : Nat) (h : i < tx.length), R 6 i = tx[i]
theorem mKp.keep {F F' : mF} {R R' : mR} {kp : Option row} (h : mKp F R kp) (hk : mKeep F F' R R') : mKp F' R' kp := by
  obtain ⟨k1, k2, k3, k4⟩ := hk
  unfold mKp
  rw [k1, k3]
  exact h
theorem mTx.keep {F F' : mF} {R R' : mR} {tx : List Int32} (h : mTx F R tx) (hk : mKeep F F' R R') : mTx F' R' tx := by
  obtain ⟨k1, k2, k3, k4⟩ := hk
  unfold mTx
  rw [k2, k4]
  exact h
/-- component and model side by side, for a condition V of rows -/
def lInv (V : row → Prop) (E : Nat) (X : hX) (x o f : Nat) (F : mF) (R : mR) : Prop :=
  ∃ (C : cmA) (hs : List row) (kp : Option row) (tx : List Int32), cmX E X x o f C (R 0) hs kp tx ∧ mH F R hs ∧ mKp F R kp ∧ mTx F R tx ∧ V (R 0) ∧ (∀ r ∈ hs, V r) ∧ (∀ k, kp = some k → V k)
theorem hPush_V {V : row → Prop} {hs : List row} {s : row} (h : ∀ r ∈ hs, V r) (hs0 : V s) : ∀ r ∈ hPush hs s, V r := fun r hr => by
  unfold hPush at hr
  rcases List.mem_append.mp hr with y | y
  · split at y
    · exact h r (List.mem_of_mem_tail y)
    · exact h r y
  · rw [List.mem_singleton.mp y]; exact hs0
/-- the first letter of the law: an axle more -/
theorem case_0 {V : row → Prop} {E N kc ks n x o f : Nat} {xs : Nat → Int32} {i : Int32} {X : hX} {F : mF} {R : mR} {L : mL} {G : mG} {J : Nat → Nat → Nat → Int32 → hX → mF → mR → mL → mG → Nat → Nat → Prop} (h : lInv V E X x o f F R) (hn : n ≤ 12) (h0 : R 0 0 = nI n) (hV : ∀ r s2, oAxle (R 0) = .inr (r, s2) → V s2) (hVe : ∀ s t, rEq s t → V s → V t)
    (hk : kc + 49000 ≤ 1200048) (hs : ks + 229000 ≤ 5501818) (hJ : ∀ (X' : hX) (F' : mF) (R' : mR), lInv V E X' x o f F' R' → J x o f (i + 5) X' F' R' L G (kc + 49000) (ks + 229000)) : wpL_332 E 1200048 5501818 N xs J x o f i X F R L G kc ks := by
  obtain ⟨C, hl, kp, tx, c1, c2, c3, c4, c5, c6, c7⟩ := h
  refine ⟨49000, 229000, hk, hs, wx_addAxle c1 hn h0 (by omega) (by omega) (fun r s2 ho X' C' g d1 d2 d3 => ?_) (fun k ho X' d1 => ?_)⟩
  · refine mx_addAxle c2 hn h0 (fun r' s2' ho' F' R' e1 e2 e3 e4 => ?_) (fun k' ho' => by rw [ho] at ho'; cases ho')
    rw [ho] at ho'
    cases ho'
    refine ⟨fun _ => ⟨fun _ => ⟨1, g, d2, ?_, ?_⟩, fun y => absurd rfl y⟩, fun y => absurd e1 y⟩
    · have := vp_in_nI (n := 0) (N := 1) (by decide) (by decide)
      rw [nI_0] at this
      exact this
    · rw [show g (Int32.toNatClampNeg 0) = Int32.toInt64 r from d3]
      refine ⟨fun _ i' ei => ?_, fun y => absurd rfl y⟩
      subst ei
      exact hJ X' F' R' ⟨C', hPush hl (R 0), kp, tx, by rw [e2]; exact d1, e4, c3.keep e3, c4.keep e3, by rw [e2]; exact hV r s2 ho, hPush_V c6 c5, c7⟩
  · refine mx_addAxle c2 hn h0 (fun r' s2' ho' => by rw [ho] at ho'; cases ho') (fun k' ho' F' R' e1 e2 e3 e4 => ?_)
    refine ⟨fun _ => ⟨fun y => absurd y (by decide), fun _ i' ei => ?_⟩, fun y => absurd e1 y⟩
    subst ei
    exact hJ X' F' R' ⟨C, hl, kp, tx, d1.eq e2.symm, e4, c3.keep e3, c4.keep e3, hVe _ _ e2.symm c5, c6, c7⟩

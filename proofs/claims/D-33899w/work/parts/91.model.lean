/-! THE PLAIN LAW: the model's changes (1) -/
set_option maxRecDepth 100000
theorem mH.same {F F' : mF} {R R' : mR} {hs : List row} (h : mH F R hs) (h5 : F' 5 = F 5) (h4 : R' 4 = R 4) : mH F' R' hs := by
  obtain ⟨h1, h2, h3⟩ := h
  exact ⟨h1, by rw [h5]; exact h2, fun i hi k hk => by rw [h4]; exact h3 i hi k hk⟩
/-- what a change of the model leaves: the kept row, the text -/
def mKeep (F F' : mF) (R R' : mR) : Prop := F' 3 = F 3 ∧ F' 7 = F 7 ∧ R' 2 = R 2 ∧ R' 6 = R 6
theorem mx_addAxle {post : Int32 → mF → mR → mL → mG → Prop} {F : mF} {R : mR} {L : mL} {G : mG} {hs : List row} {n : Nat} (h : mH F R hs) (hn : n ≤ 12) (h0 : R 0 0 = nI n)
    (hok : ∀ (r : Int32) (s2 : row), oAxle (R 0) = .inr (r, s2) → ∀ (F' : mF) (R' : mR), F' 8 = 0 → R' 0 = s2 → mKeep F F' R R' → mH F' R' (hPush hs (R 0)) → post r F' R' L G)
    (hno : ∀ k : Int32, oAxle (R 0) = .inl k → ∀ (F' : mF) (R' : mR), F' 8 = 1 → rEq (R' 0) (R 0) → mKeep F F' R R' → mH F' R' hs → post 0 F' R' L G) : wpX3_addAxle post F R L G := by
  have e12 : (12 : Int32) = nI 12 := by decide +kernel
  refine wp_begins (fun F1 R1 b1 b2 b3 b4 => ?_)
  have r0 : R1 0 = R 0 := b4 0 (by decide)
  have m1 : mH F1 R1 hs := h.same (b2 5 (by decide)) (b4 4 (by decide))
  refine ⟨fun z => ?_, fun z => ?_⟩
  · rw [r0] at z
    refine wp_ends m1 b3 (fun _ F2 R2 c1 c2 c3 c4 => ?_) (fun y => absurd (Or.inr rfl) y)
    have c1 : F2 8 = 2 := c1
    refine ⟨fun y => absurd y (by rw [c1]; decide), fun _ => ?_⟩
    refine hno 2 (by unfold oAxle; rw [if_pos z]) _ R2 (by rw [va_up_self]) c3 ⟨?_, ?_, ?_, ?_⟩ (m1.same ?_ (c4 4 (by decide)))
    · rw [va_up_ne _ _ (by decide), c2 3 (by decide), b2 3 (by decide)]
    · rw [va_up_ne _ _ (by decide), c2 7 (by decide), b2 7 (by decide)]
    · rw [c4 2 (by decide), b4 2 (by decide)]
    · rw [c4 6 (by decide), b4 6 (by decide)]
    · rw [va_up_ne _ _ (by decide), c2 5 (by decide)]
  · rw [va_up_self, upd_s, r0]
    rw [r0] at z
    have hn' : n ≤ 11 := by
      rcases Nat.lt_or_ge n 12 with y | y
      · omega
      · exact absurd (by rw [h0, e12, show n = 12 by omega]) z
    have hr : R 0 0 + 1 - 1 = nI n := by rw [h0, nI_1, nI_pred]
    have m2 : mH F1 (va_up R1 0 (upd (R 0) 0 (R 0 0 + 1))) hs := m1.same rfl (va_up_ne _ _ (by decide))
    refine wp_ends m2 (s0 := R 0) (by rw [va_up_ne _ _ (by decide)]; exact b3) (fun y => ?_) (fun _ F2 R2 c1 c2 c3 => ?_)
    · exfalso
      rw [hr] at y
      rcases y with y | y
      · exact nI_pos (n := n) (by omega) (by rw [y]; decide)
      · exact nI_pos (n := n) (by omega) (by rw [y]; decide)
    · have f8 : F2 8 = 0 := by rw [c1 8 (by decide), b1]
      refine ⟨fun _ => ?_, fun y => absurd (by rw [f8]; decide) y⟩
      refine hok _ (upd (R 0) 0 (R 0 0 + 1)) (by unfold oAxle; rw [if_neg z]) _ R2 (by rw [va_up_self]) ?_ ⟨?_, ?_, ?_, ?_⟩ (c3.same (va_up_ne _ _ (by decide)) rfl)
      · rw [c2 0 (by decide), va_up_self]
      · rw [va_up_ne _ _ (by decide), c1 3 (by decide), b2 3 (by decide)]
      · rw [va_up_ne _ _ (by decide), c1 7 (by decide), b2 7 (by decide)]
      · rw [c2 2 (by decide), va_up_ne _ _ (by decide), b4 2 (by decide)]
      · rw [c2 6 (by decide), va_up_ne _ _ (by decide), b4 6 (by decide)]

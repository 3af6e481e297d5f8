/-! THE PLAIN LAW: the day set, on both sides -/
set_option maxRecDepth 100000
/-- an array of one number, made for a change -/
theorem wx_setDay {E mc ms : Nat} {X : hX} {post : Int32 → hX → Prop} {xpost : String → Nat → hX → Prop} {x o f : Nat} {p : Int32} {C : cmA} {s : row} {hs : List row} {kp : Option row} {tx : List Int32} (h : cmX E X x o f C s hs kp tx) (hmc : 1000 ≤ mc) (hms : 5000 ≤ ms)
    (hok : ∀ (r : Int32) (s2 : row), oDay s p = .inr (r, s2) → ∀ (X' : hX) (C' : cmA) (g : Nat → Int64), cmX E X' x o f C' s2 (hPush hs s) kp tx → X' o = some (.inl (1, 1, .inr (.inl g))) → g 0 = Int32.toInt64 r → post 0 X')
    (hno : ∀ k : Int32, oDay s p = .inl k → ∀ X' : hX, cmX E X' x o f C s hs kp tx → post 1 X') : wpX0_setDay post xpost E mc ms X x p o := by
  have e1c : (1 : Int32).toNatClampNeg = 1 := by decide +kernel
  refine ⟨h.is, 900, 4000, by omega, by omega, ?_⟩
  refine ⟨by decide, by decide, by omega, by rw [e1c]; omega, fun q hq => ?_⟩
  rw [e1c]
  have hin : vp_in 0 1 := by
    have := vp_in_nI (n := 0) (N := 1) (by decide) (by decide)
    rw [nI_0] at this
    exact this
  refine ⟨1, _, hup_s _ _ _, hin, ?_⟩
  rw [hup_hup]
  generalize hX1 : hup X q _ = X1
  have e1 : ext [] X X1 := by rw [← hX1]; exact ext.up (Or.inr hq)
  have hq1 : X1 q = some (.inl (0, 1, .inl (upd (fun _ => 0) (Int32.toNatClampNeg 0) p))) := by rw [← hX1]; exact hup_s _ _ _
  have h1 := h.ex0 e1
  refine ⟨h1.is, 800, 3900, by omega, by omega, ?_⟩
  refine wp_act (Bd := 10) (Sd := 20) (out := oDay s p) h1 (by omega) (by omega) (fun X2 A1 Q XQ ht hd => ?_) (fun r s2 ho X' C' _ c1 _ => wp_box c1 (fun X2 g g1 g2 g3 => hok r s2 ho X2 C' g g1 g2 g3)) (fun k ho X' q2 c1 _ => ?_)
  · have e2 := ht.2.2.2.2.2.2
    exact dn_day ht h1.2.2.2.2.2.1.2 (e2.at hq1 List.not_mem_nil) ⟨by decide, by decide⟩ (by simp [upd]) hd
  · have hk : k = 1 := by
      unfold oDay at ho
      split at ho
      · cases ho
      · exact (Sum.inl.inj ho).symm
    subst hk
    exact ⟨rfl, hno 1 ho X' c1⟩
theorem wp_in3 {post : Int32 → Prop} {p lo hi : Int32} (h1 : lo ≤ p ∧ p ≤ hi → post 1) (h0 : ¬ (lo ≤ p ∧ p ≤ hi) → post 0) : wpX3_in post p lo hi :=
  ⟨fun z => h0 (fun y => Int32.not_le.mpr z y.1), fun z => ⟨fun z2 => h0 (fun y => Int32.not_le.mpr z2 y.2), fun z2 => h1 ⟨Int32.not_lt.mp z, Int32.not_lt.mp z2⟩⟩⟩
/-- a number of the row changed: what was there is told -/
theorem mx_changes {post : Int32 → mF → mR → mL → mG → Prop} {F : mF} {R : mR} {L : mL} {G : mG} {hs : List row} {s0 : row} {k d : Nat} {v : Int32} (hk : k < 113) (h : mH F R hs) (h1 : rEq (R 1) s0) (hd : d < 2 ^ 31) (h0 : R 0 k = nI d)
    (hp : ∀ (F' : mF) (R' : mR), (∀ q, q ≠ 5 → F' q = F q) → (∀ j, j ≠ 4 → j ≠ 0 → R' j = R j) → R' 0 = upd (R 0) k v → mH F' R' (hPush hs s0) → post (R 0 k) F' R' L G) : wpX3_changes post F R L G (nI k) v := by
  refine ⟨vp_in_nI hk (by decide), fun x e => ⟨vp_in_nI hk (by decide), ?_⟩⟩
  rw [nI_clamp (by omega)] at e ⊢
  subst e
  have m2 : mH F (va_up R 0 (upd (R 0) k v)) hs := h.same rfl (va_up_ne _ _ (by decide))
  refine wp_ends m2 (s0 := s0) (by rw [va_up_ne _ _ (by decide)]; exact h1) (fun y => ?_) (fun _ F2 R2 c1 c2 c3 => hp F2 R2 c1 (fun j hj hj0 => by rw [c2 j hj, va_up_ne _ _ hj0]) (by rw [c2 0 (by decide), va_up_self]) c3)
  exfalso
  rw [h0] at y
  rcases y with y | y
  · exact nI_pos hd (by rw [y]; decide)
  · exact nI_pos hd (by rw [y]; decide)
theorem mx_setDay {post : Int32 → mF → mR → mL → mG → Prop} {F : mF} {R : mR} {L : mL} {G : mG} {hs : List row} {p : Int32} {d : Nat} (h : mH F R hs) (hd : d ≤ 1000000) (h0 : R 0 111 = nI d)
    (hok : ∀ (r : Int32) (s2 : row), oDay (R 0) p = .inr (r, s2) → ∀ (F' : mF) (R' : mR), F' 8 = 0 → R' 0 = s2 → mKeep F F' R R' → mH F' R' (hPush hs (R 0)) → post r F' R' L G)
    (hno : ∀ k : Int32, oDay (R 0) p = .inl k → ∀ (F' : mF) (R' : mR), F' 8 = 1 → rEq (R' 0) (R 0) → mKeep F F' R R' → mH F' R' hs → post 0 F' R' L G) : wpX3_setDay post F R L G p := by
  refine wp_begins (fun F1 R1 b1 b2 b3 b4 => ?_)
  have r0 : R1 0 = R 0 := b4 0 (by decide)
  have m1 : mH F1 R1 hs := h.same (b2 5 (by decide)) (b4 4 (by decide))
  refine wp_in3 (fun z => ⟨fun y => absurd y (by decide), fun _ => ?_⟩) (fun z => ⟨fun _ => ?_, fun y => absurd rfl y⟩)
  · rw [show (111 : Int32) = nI 111 by decide +kernel]
    refine mx_changes (by decide) m1 b3 (d := d) (by omega) (by rw [r0]; exact h0) (fun F2 R2 c1 c2 c3 c4 => ?_)
    refine hok _ (upd (R 0) 111 p) (by unfold oDay; rw [if_pos z, r0]) F2 R2 (by rw [c1 8 (by decide), b1]) (by rw [c3, r0]) ⟨?_, ?_, ?_, ?_⟩ c4
    · rw [c1 3 (by decide), b2 3 (by decide)]
    · rw [c1 7 (by decide), b2 7 (by decide)]
    · rw [c2 2 (by decide) (by decide), b4 2 (by decide)]
    · rw [c2 6 (by decide) (by decide), b4 6 (by decide)]
  · refine hno 1 (by unfold oDay; rw [if_neg z]) _ R1 (by rw [va_up_self]) (by rw [r0]; exact fun _ _ => rfl) ⟨?_, ?_, ?_, ?_⟩ (m1.same (va_up_ne _ _ (by decide)) rfl)
    · rw [va_up_ne _ _ (by decide), b2 3 (by decide)]
    · rw [va_up_ne _ _ (by decide), b2 7 (by decide)]
    · rw [b4 2 (by decide)]
    · rw [b4 6 (by decide)]

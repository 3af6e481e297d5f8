/-! THE PLAIN LAW: the wrappers of changes (1) -/
set_option maxRecDepth 100000
/-- the law's box written -/
theorem cmX.box {E : Nat} {X : hX} {x o f : Nat} {C : cmA} {s : row} {hs : List row} {kp : Option row} {tx : List Int32} {g : Nat → Int64} (h : cmX E X x o f C s hs kp tx) : cmX E (hup X o (.inl (1, 1, .inr (.inl g)))) x o f C s hs kp tx := by
  have hob := h
  obtain ⟨h1, ⟨h2, h2'⟩, h3, ⟨⟨g1, h4⟩, ⟨g2, h5⟩⟩, h6, ⟨h7, h7'⟩, ⟨h8, h9⟩, ⟨h10, h11⟩⟩ := h
  have nd := h6
  simp only [cmO, List.nodup_cons, List.mem_cons, List.not_mem_nil, or_false, not_or, List.nodup_nil, and_true, not_false_eq_true] at nd
  obtain ⟨⟨n1, n2, n3, n4, n5, n6⟩, ⟨n7, n8, n9, n10, n11⟩, ⟨n12, n13, n14, n15⟩, ⟨n16, n17, n18⟩, ⟨n19, n20⟩, n21⟩ := nd
  have he : ext [o] X (hup X o (.inl (1, 1, .inr (.inl g)))) := ext.up (Or.inl (by simp))
  have hl : ext [] (hless X (cmO x o f C)) (hless (hup X o (.inl (1, 1, .inr (.inl g)))) (cmO x o f C)) := hless_ext (he.mono (fun q hq => by rw [List.mem_singleton.mp hq]; simp [cmO]))
  exact ⟨he.at h1 (by simpa using n5), ⟨h2.ex0 he (by simpa using n10) (by simpa using n14), h2'⟩, h3.ex0 he (by simpa using n17) (by simpa using n19), ⟨⟨g, hup_s _ _ _⟩, ⟨g2, he.at h5 (by simpa using Ne.symm n21)⟩⟩, h6, ⟨h7.ex0 hl, h7'⟩, ⟨h8, fun i hi hi' => ⟨(h9 i hi hi').1.ex0 hl, (h9 i hi hi').2⟩⟩, ⟨fun A hA => by obtain ⟨k, e1, e2, e3⟩ := h10 A hA; exact ⟨k, e1, e2.ex0 hl, e3⟩, h11⟩⟩
/-- an answer put into the box -/
theorem wp_box {E : Nat} {X : hX} {x o f : Nat} {C : cmA} {s : row} {hs : List row} {kp : Option row} {tx : List Int32} {v : Int64} {post : hX → Prop} (h : cmX E X x o f C s hs kp tx) (hp : ∀ (X' : hX) (g : Nat → Int64), cmX E X' x o f C s hs kp tx → X' o = some (.inl (1, 1, .inr (.inl g))) → g 0 = v → post X') : asJ X o 0 v post := by
  obtain ⟨g, hg⟩ := h.2.2.2.1.1
  have := vp_in_nI (n := 0) (N := 1) (by decide) (by decide)
  rw [nI_0] at this
  exact ⟨1, g, hg, this, hp _ _ h.box (hup_s _ _ _) (by simp [vp_updL])⟩
theorem wx_addAxle {E mc ms : Nat} {X : hX} {post : Int32 → hX → Prop} {xpost : String → Nat → hX → Prop} {x o f n : Nat} {C : cmA} {s : row} {hs : List row} {kp : Option row} {tx : List Int32} (h : cmX E X x o f C s hs kp tx) (hn : n ≤ 12) (h0 : s 0 = nI n) (hmc : 1000 ≤ mc) (hms : 5000 ≤ ms)
    (hok : ∀ (r : Int32) (s2 : row), oAxle s = .inr (r, s2) → ∀ (X' : hX) (C' : cmA) (g : Nat → Int64), cmX E X' x o f C' s2 (hPush hs s) kp tx → X' o = some (.inl (1, 1, .inr (.inl g))) → g 0 = Int32.toInt64 r → post 0 X')
    (hno : ∀ k : Int32, oAxle s = .inl k → ∀ X' : hX, cmX E X' x o f C s hs kp tx → post 1 X') : wpX0_addAxle post xpost E mc ms X x o := by
  refine ⟨h.is, 900, 4000, by omega, by omega, ?_⟩
  refine ⟨by decide, by decide, by omega, by show 0 + Int32.toNatClampNeg 0 ≤ 4000; decide, fun q hq => ?_⟩
  generalize hX1 : hup X q _ = X1
  have e1 : ext [] X X1 := by rw [← hX1]; exact ext.up (Or.inr hq)
  have h1 := h.ex0 e1
  refine ⟨h1.is, 800, 3900, by omega, by show 0 + Int32.toNatClampNeg 0 + 3900 ≤ 4000; decide, ?_⟩
  refine wp_act (Bd := 10) (Sd := 20) (out := oAxle s) h1 (by omega) (by omega) (fun X2 A1 Q XQ ht hd => dn_axle ht h1.2.2.2.2.2.1.2 hn h0 hd) (fun r s2 ho X' C' _ c1 _ => wp_box c1 (fun X2 g g1 g2 g3 => hok r s2 ho X2 C' g g1 g2 g3)) (fun k ho X' q2 c1 _ => ?_)
  have hk : k = 2 := by
    unfold oAxle at ho
    split at ho
    · exact (Sum.inl.inj ho).symm
    · cases ho
  subst hk
  exact ⟨rfl, hno 2 ho X' c1⟩

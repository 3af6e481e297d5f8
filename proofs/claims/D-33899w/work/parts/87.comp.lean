/-! THE PLAIN LAW: the component -/
set_option maxRecDepth 100000
/-- the addresses of the component: its Works; deque, its array, builder, its array; old Works, kept one -/
abbrev cmA : Type := wkA × (Nat × Nat × Nat × Nat) × List wkA × Option wkA
abbrev cmA.A (C : cmA) : wkA := C.1
abbrev cmA.d (C : cmA) : Nat := C.2.1.1
abbrev cmA.da (C : cmA) : Nat := C.2.1.2.1
abbrev cmA.sb (C : cmA) : Nat := C.2.1.2.2.1
abbrev cmA.sa (C : cmA) : Nat := C.2.1.2.2.2
abbrev cmA.H (C : cmA) : List wkA := C.2.2.1
abbrev cmA.K (C : cmA) : Option wkA := C.2.2.2
/-- the cells that the component (and the law's two boxes o, f) write -/
def cmO (x o f : Nat) (C : cmA) : List Nat := [x, C.d, C.da, C.sb, C.sa, o, f]
/-- a text builder of one byte a sign -/
def sbX (X : hX) (sb sa : Nat) (tx : List Int32) : Prop := ∃ (n : Nat) (g : Nat → Int32), X sb = some (.inr (10, [.ref sa, .int 0, .int 0, .int (nI tx.length)])) ∧ X sa = some (.inl (2, n, .inl g)) ∧ tx.length ≤ n ∧ 16 ≤ n ∧ n ≤ 200 ∧ tx.length ≤ 60 ∧ ∀ (i : Nat) (h : i < tx.length), g i = tx[i]
/-- sizes of a row's counts -/
def wkB (A : wkA) : Prop := A.x1.length ≤ 24 ∧ A.x2.length ≤ 6 ∧ A.x3.length ≤ 4
/-- the component holds row s, old rows hs, the kept one kp, the text tx -/
def cmX (E : Nat) (X : hX) (x o f : Nat) (C : cmA) (s : row) (hs : List row) (kp : Option row) (tx : List Int32) : Prop :=
  X x = some (.inr (1, [.ref C.A.w, va_rf (C.K.map wkA.w), .ref C.d, .ref C.sb])) ∧
  (dqX X C.d C.da (C.H.map wkA.w) ∧ C.H.length ≤ 4) ∧ sbX X C.sb C.sa tx ∧
  ((∃ g : Nat → Int64, X o = some (.inl (1, 1, .inr (.inl g)))) ∧ (∃ g : Nat → UInt32, X f = some (.inl (3, 1, .inr (.inr (.inl g)))))) ∧
  (cmO x o f C).Nodup ∧
  (wkX E (hless X (cmO x o f C)) C.A s ∧ wkB C.A) ∧
  (C.H.length = hs.length ∧ ∀ (i : Nat) (h : i < C.H.length) (h' : i < hs.length), wkX E (hless X (cmO x o f C)) C.H[i] hs[i] ∧ wkB C.H[i]) ∧
  ((∀ A, C.K = some A → ∃ k, kp = some k ∧ wkX E (hless X (cmO x o f C)) A k ∧ wkB A) ∧ (C.K = none → kp = none))
theorem hless_at {X : hX} {l : List Nat} {q : Nat} {e : va_E} (h : hless X l q = some e) : X q = some e ∧ q ∉ l := by
  unfold hless at h
  by_cases z : q ∈ l
  · rw [if_pos z] at h; cases h
  · rw [if_neg z] at h; exact ⟨h, z⟩
theorem hless_ext {X X' : hX} {O : List Nat} (h : ext O X X') : ext [] (hless X O) (hless X' O) := fun q _ hq => by
  unfold hless at hq ⊢
  by_cases z : q ∈ O
  · rw [if_pos z] at hq; exact absurd rfl hq
  · rw [if_neg z] at hq ⊢
    rw [if_neg z]
    exact h q z hq
theorem hless_le {X : hX} {O : List Nat} : ext [] (hless X O) X := fun q _ hq => by
  unfold hless at hq ⊢
  by_cases z : q ∈ O
  · rw [if_pos z] at hq; exact absurd rfl hq
  · rw [if_neg z]
/-- a frozen Works is there -/
theorem wkX.un {E : Nat} {X : hX} {O : List Nat} {A : wkA} {s : row} (h : wkX E (hless X O) A s) : wkX E X A s := h.ex0 hless_le
theorem cmX.w {E : Nat} {X : hX} {x o f : Nat} {C : cmA} {s : row} {hs : List row} {kp : Option row} {tx : List Int32} (h : cmX E X x o f C s hs kp tx) : wkX E X C.A s := h.2.2.2.2.2.1.1.un
theorem cmX.is {E : Nat} {X : hX} {x o f : Nat} {C : cmA} {s : row} {hs : List row} {kp : Option row} {tx : List Int32} (h : cmX E X x o f C s hs kp tx) : ∃ fs, X x = some (.inr (1, fs)) := ⟨_, h.1⟩
/-- what makes only new cells leaves the component as it is -/
theorem dqX.ex0 {X X' : hX} {d arr : Nat} {xs : List Nat} {o : List Nat} (h : dqX X d arr xs) (he : ext o X X') (h1 : d ∉ o) (h2 : arr ∉ o) : dqX X' d arr xs := by
  obtain ⟨hd, g, k1, k2, k3, k4, k5⟩ := h
  exact ⟨hd, g, k1, k2, he.at k3 h1, he.at k4 h2, k5⟩
theorem sbX.ex0 {X X' : hX} {sb sa : Nat} {tx : List Int32} {o : List Nat} (h : sbX X sb sa tx) (he : ext o X X') (h1 : sb ∉ o) (h2 : sa ∉ o) : sbX X' sb sa tx := by
  obtain ⟨n, g, k1, k2, k3⟩ := h
  exact ⟨n, g, he.at k1 h1, he.at k2 h2, k3⟩
theorem cmX.ex0 {E : Nat} {X X' : hX} {x o f : Nat} {C : cmA} {s : row} {hs : List row} {kp : Option row} {tx : List Int32} (h : cmX E X x o f C s hs kp tx) (he : ext [] X X') : cmX E X' x o f C s hs kp tx := by
  obtain ⟨h1, ⟨h2, h2'⟩, h3, ⟨⟨g1, h4⟩, ⟨g2, h5⟩⟩, h6, ⟨h7, h7'⟩, ⟨h8, h9⟩, ⟨h10, h11⟩⟩ := h
  have nn : ∀ q : Nat, q ∉ ([] : List Nat) := fun _ => List.not_mem_nil
  have hl : ext [] (hless X (cmO x o f C)) (hless X' (cmO x o f C)) := hless_ext (he.mono (fun q hq => absurd hq List.not_mem_nil))
  exact ⟨he.at h1 (nn _), ⟨h2.ex0 he (nn _) (nn _), h2'⟩, h3.ex0 he (nn _) (nn _), ⟨⟨g1, he.at h4 (nn _)⟩, ⟨g2, he.at h5 (nn _)⟩⟩, h6, ⟨h7.ex0 hl, h7'⟩, ⟨h8, fun i hi hi' => ⟨(h9 i hi hi').1.ex0 hl, (h9 i hi hi').2⟩⟩, ⟨fun A hA => by obtain ⟨k, e1, e2, e3⟩ := h10 A hA; exact ⟨k, e1, e2.ex0 hl, e3⟩, h11⟩⟩
/-- old Works, one more -/
def aPush (H : List wkA) (A : wkA) : List wkA := (if H.length = 4 then H.tail else H) ++ [A]
theorem wp_changed {E : Nat} {X : hX} {post : Int32 → hX → Prop} {x o f : Nat} {C : cmA} {s s1 : row} {hs : List row} {kp : Option row} {tx : List Int32} {A1 : wkA} {r : Int32} (h : cmX E X x o f C s hs kp tx) (h1 : wkX E (hless X (cmO x o f C)) A1 s1) (hB : wkB A1)
    (hp : ∀ (X' : hX), cmX E X' x o f (A1, C.2.1, aPush C.H C.A, C.K) s1 (hPush hs s) kp tx → ext (cmO x o f C) X X' → post r X') : wpX1_changed post E X x A1.w r := by
  have hc := h
  obtain ⟨k1, ⟨k2, k2'⟩, k3, ⟨⟨g1, k4⟩, ⟨g2, k5⟩⟩, k6, ⟨k7, k7'⟩, ⟨k8, k9⟩, ⟨k10, k11⟩⟩ := h
  have nd := k6
  simp only [cmO, List.nodup_cons, List.mem_cons, List.not_mem_nil, or_false, not_or, List.nodup_nil, and_true, not_false_eq_true] at nd
  obtain ⟨⟨n1, n2, n3, n4, n5, n6⟩, ⟨n7, n8, n9, n10, n11⟩, ⟨n12, n13, n14, n15⟩, ⟨n16, n17, n18⟩, ⟨n19, n20⟩, n21⟩ := nd
  have hob : obX X C.A.w := ⟨2, _, by decide, k7.un.1⟩
  -- the end, from any world where the deque is right
  have fin : ∀ (X2 : hX), dqX X2 C.d C.da ((aPush C.H C.A).map wkA.w) → ext [C.d, C.da] X X2 → wpX1_changed_30 post E x A1.w r X2 := by
    intro X2 q1 q2
    refine pfV_of (q2.at k1 (by simp [n1, n2])) (by show 0 < 4; decide) ?_
    generalize hX3 : hup X2 x _ = X3
    have e3 : ext [x] X2 X3 := by rw [← hX3]; exact ext.up (Or.inl (by simp))
    have eO : ext (cmO x o f C) X X3 := (q2.mono (fun q hq => by
      simp only [List.mem_cons, List.not_mem_nil, or_false] at hq
      rcases hq with rfl | rfl <;> simp [cmO])).trans (e3.mono (fun q hq => by rw [List.mem_singleton.mp hq]; simp [cmO]))
    have eH := hless_ext eO
    have eX : ext [x, C.d, C.da] X X3 := (q2.mono (fun q hq => List.mem_cons_of_mem _ hq)).trans (e3.mono (fun q hq => by rw [List.mem_singleton.mp hq]; simp))
    refine hp X3 ⟨by rw [← hX3]; exact hup_s _ _ _, ⟨q1.ex0 e3 (by simpa using Ne.symm n1) (by simpa using Ne.symm n2), ?_⟩, k3.ex0 eX (by simp [Ne.symm n3, Ne.symm n8, Ne.symm n12]) (by simp [Ne.symm n4, Ne.symm n9, Ne.symm n13]), ⟨⟨g1, eX.at k4 (by simp [Ne.symm n5, Ne.symm n10, Ne.symm n14])⟩, ⟨g2, eX.at k5 (by simp [Ne.symm n6, Ne.symm n11, Ne.symm n15])⟩⟩, k6, ⟨h1.ex0 eH, hB⟩, ⟨?_, fun i hi hi' => ?_⟩, ⟨fun A hA => by obtain ⟨k, e1, e2, e4⟩ := k10 A hA; exact ⟨k, e1, e2.ex0 eH, e4⟩, k11⟩⟩ eO
    · show (aPush C.H C.A).length ≤ 4
      unfold aPush
      split
      · rename_i z; rw [List.length_append, List.length_tail, z]; show 4 - 1 + 1 ≤ 4; decide
      · rw [List.length_append]; show C.H.length + 1 ≤ 4; omega
    · show (aPush C.H C.A).length = (hPush hs s).length
      unfold aPush hPush
      by_cases z : C.H.length = 4
      · rw [if_pos z, if_pos (by omega)]; simp [k8]
      · rw [if_neg z, if_neg (by omega)]; simp [k8]
    · have go : ∀ (H : List wkA) (g : List row) (e : H.length = g.length) (q : ∀ (i : Nat) (h : i < H.length) (h' : i < g.length), wkX E (hless X (cmO x o f C)) H[i] g[i] ∧ wkB H[i]) (i : Nat) (h : i < (H ++ [C.A]).length) (h' : i < (g ++ [s]).length), wkX E (hless X3 (cmO x o f C)) (H ++ [C.A])[i] (g ++ [s])[i] ∧ wkB (H ++ [C.A])[i] := by
        intro H g e q i hi hi'
        by_cases z : i < H.length
        · rw [List.getElem_append_left z, List.getElem_append_left (by omega)]
          exact ⟨(q i z (by omega)).1.ex0 eH, (q i z (by omega)).2⟩
        · have : i = H.length := by rw [List.length_append] at hi; have hi : i < H.length + 1 := hi; omega
          subst this
          rw [List.getElem_append_right (Nat.le_refl _), List.getElem_append_right (by omega)]
          simp only [Nat.sub_self, e, List.getElem_singleton]
          exact ⟨k7.ex0 eH, k7'⟩
      have key : ∀ (i : Nat) (h : i < (aPush C.H C.A).length) (h' : i < (hPush hs s).length), wkX E (hless X3 (cmO x o f C)) (aPush C.H C.A)[i] (hPush hs s)[i] ∧ wkB (aPush C.H C.A)[i] := by
        by_cases z : C.H.length = 4
        · have e1 : aPush C.H C.A = C.H.tail ++ [C.A] := by unfold aPush; rw [if_pos z]
          have e2 : hPush hs s = hs.tail ++ [s] := by unfold hPush; rw [if_pos (by omega)]
          rw [e1, e2]
          refine go C.H.tail hs.tail (by simp [k8]) (fun i a b => ?_)
          rw [List.length_tail] at a b
          simp only [List.getElem_tail]
          exact k9 (i + 1) (by omega) (by omega)
        · have e1 : aPush C.H C.A = C.H ++ [C.A] := by unfold aPush; rw [if_neg z]
          have e2 : hPush hs s = hs ++ [s] := by unfold hPush; rw [if_neg (by omega)]
          rw [e1, e2]
          exact go C.H hs k8 k9
      exact key i hi hi'
  refine gfA_of k1 rfl (gfA_of k1 rfl ⟨k2.is, wp_dadd k2 hob (by rw [List.length_map]; omega) (fun X1 m1 m2 => ?_)⟩)
  have k1' := m2.at k1 (by simp [n1, n2])
  refine gfA_of k1' rfl ⟨m1.is, wp_dsize m1 ⟨fun z => ?_, fun z => ?_⟩⟩
  · rw [show (4 : Int32) = nI 4 by decide +kernel] at z
    have z := (nI_leI (by rw [List.length_append, List.length_map]; show C.H.length + 1 < _; omega) (by decide)).mp z
    rw [List.length_append, List.length_map] at z
    have z : C.H.length + 1 ≤ 4 := z
    refine fin X1 ?_ m2
    unfold aPush
    rw [if_neg (by omega), List.map_append]
    exact m1
  · rw [show (4 : Int32) = nI 4 by decide +kernel] at z
    have z : ¬ (C.H.map wkA.w ++ [C.A.w]).length ≤ 4 := fun y => z (nI_le y (by decide))
    rw [List.length_append, List.length_map] at z
    have z : ¬ C.H.length + 1 ≤ 4 := z
    have h4 : C.H.length = 4 := by omega
    refine gfA_of k1' rfl ⟨m1.is, ?_⟩
    cases hH : C.H with
    | nil => rw [hH] at h4; cases h4
    | cons y ys =>
      rw [hH] at m1
      refine wp_dfirst m1 (fun X2 p1 p2 => ⟨_, rfl, fin X2 ?_ (m2.trans p2)⟩)
      unfold aPush
      rw [if_pos h4, hH, List.map_append]
      exact p1

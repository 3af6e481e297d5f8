/-! THE PLAIN LAW: the deque of old states -/
set_option maxRecDepth 100000
/-- a deque of at most 5, in its first array of 17 -/
def dqX (X : hX) (d arr : Nat) (xs : List Nat) : Prop :=
  ∃ (hd : Nat) (f : Nat → Option Nat), hd < 17 ∧ xs.length ≤ 5 ∧ X d = some (.inr (9, [.ref arr, .int (nI hd), .int (nI ((hd + xs.length) % 17))])) ∧ X arr = some (.inl (4, 17, .inr (.inr (.inr (.inr f))))) ∧ ∀ i, i < xs.length → f ((hd + i) % 17) = xs[i]?
theorem dq_inc : ∀ i, i < 17 → (nI i + 1 < nI 17 ∧ nI i + 1 = nI ((i + 1) % 17)) ∨ (¬ nI i + 1 < nI 17 ∧ (0 : Int32) = nI ((i + 1) % 17)) := by decide +kernel
theorem dq_dec : ∀ i, i < 17 → (0 ≤ nI ((i + 1) % 17) + (-1) ∧ nI ((i + 1) % 17) + (-1) = nI i) ∨ (¬ 0 ≤ nI ((i + 1) % 17) + (-1) ∧ nI 17 - 1 = nI i) := by decide +kernel
theorem dq_sub : ∀ i, i < 17 → ∀ k, k < 6 → (0 ≤ nI ((i + k) % 17) - nI i ∧ nI ((i + k) % 17) - nI i = nI k) ∨ (¬ 0 ≤ nI ((i + k) % 17) - nI i ∧ nI ((i + k) % 17) - nI i + nI 17 = nI k) := by decide +kernel
theorem dqX.is {X : hX} {d arr : Nat} {xs : List Nat} (h : dqX X d arr xs) : ∃ fs, X d = some (.inr (9, fs)) := by
  obtain ⟨hd, f, -, -, h1, -⟩ := h
  exact ⟨_, h1⟩
theorem wp_dinit {E mc ms : Nat} {X : hX} {post : hX → Prop} {d : Nat} (h : X d = some (.inr (9, [.null, .int 0, .int 0]))) (hmc : 1 ≤ mc) (hms : 17 ≤ ms)
    (hp : ∀ (X' : hX) (arr : Nat), dqX X' d arr [] → X arr = none → ext [d] X X' → post X') : wpJ3_init post E mc ms X d := by
  unfold wpJ3_init wpJ0_init
  have hcl : (17 : Int32).toNatClampNeg = 17 := by decide +kernel
  refine ⟨by decide, by rw [hcl]; decide, by omega, by rw [hcl]; omega, fun q hq => ?_⟩
  have hdq : d ≠ q := fun z => by rw [z, hq] at h; cases h
  rw [hcl]
  refine pfV_of (fs := [.null, .int 0, .int 0]) (by rw [hup_n _ _ hdq]; exact h) (by show 0 < 3; decide) ?_
  exact hp _ q ⟨0, _, by decide, by decide, hup_s _ _ _, (hup_n _ _ (Ne.symm hdq)).trans (hup_s _ _ _), fun i hi => absurd hi (Nat.not_lt_zero i)⟩ hq (ext.trans (ext.up (Or.inr hq)) (ext.up (Or.inl (by simp))))
theorem wp_dsize {E : Nat} {X : hX} {post : Int32 → hX → Prop} {d arr : Nat} {xs : List Nat} (h : dqX X d arr xs) (hp : post (nI xs.length) X) : wpJ3_size post E X d := by
  obtain ⟨hd, f, h1, h2, h3, h4, h5⟩ := h
  refine gfI_of h3 rfl (gfI_of h3 rfl (gfA_of h3 rfl (alen_of h4 (by decide) ?_)))
  intro x0 e
  subst e
  rcases dq_sub hd h1 xs.length (by omega) with ⟨z1, z2⟩ | ⟨z1, z2⟩
  · exact ⟨fun _ => by rw [z2]; exact hp, fun y => absurd z1 y⟩
  · exact ⟨fun y => absurd y z1, fun _ x e => by rw [e, z2]; exact hp⟩
theorem wp_dempty {E : Nat} {X : hX} {post : Int32 → hX → Prop} {d arr : Nat} {xs : List Nat} (h : dqX X d arr xs) (hp : post (if xs = [] then 1 else 0) X) : wpJ3_isEmpty post E X d := by
  obtain ⟨hd, f, h1, h2, h3, h4, h5⟩ := h
  refine gfI_of h3 rfl (gfI_of h3 rfl ⟨fun z => ?_, fun z => ?_⟩)
  · have z := (nI_eq (by omega) (by omega)).mp z
    have : xs = [] := List.eq_nil_of_length_eq_zero (by omega)
    rw [if_pos this] at hp
    exact hp
  · rw [if_neg (fun y => z (by rw [y]; show nI hd = nI ((hd + 0) % 17); rw [Nat.add_zero, Nat.mod_eq_of_lt h1]))] at hp
    exact hp
theorem wp_dadd {E : Nat} {X : hX} {post : hX → Prop} {d arr v : Nat} {xs : List Nat} (h : dqX X d arr xs) (hv : obX X v) (hlen : xs.length < 5)
    (hp : ∀ X' : hX, dqX X' d arr (xs ++ [v]) → ext [d, arr] X X' → post X') : wpJ3_addLast post E X d v := by
  obtain ⟨hd, f, h1, h2, h3, h4, h5⟩ := h
  have hda : d ≠ arr := fun z => by rw [z, h4] at h3; cases h3
  have hm : (hd + xs.length) % 17 < 17 := Nat.mod_lt _ (by decide)
  refine gfA_of h3 rfl (gfI_of h3 rfl ⟨17, f, h4, vp_in_nI hm (by decide), hv, ?_⟩)
  rw [nI_clamp (by omega)]
  generalize hX1 : hup X arr (.inl (4, 17, .inr (.inr (.inr (.inr (va_up f ((hd + xs.length) % 17) (some v))))))) = X1
  have a1 : X1 d = some (.inr (9, [.ref arr, .int (nI hd), .int (nI ((hd + xs.length) % 17))])) := by rw [← hX1, hup_n _ _ hda]; exact h3
  have a2 : X1 arr = some (.inl (4, 17, .inr (.inr (.inr (.inr (va_up f ((hd + xs.length) % 17) (some v))))))) := by rw [← hX1]; exact hup_s _ _ _
  have a3 : ext [d, arr] X X1 := by rw [← hX1]; exact ext.up (Or.inl (by simp))
  refine gfI_of a1 rfl (gfI_of a1 rfl (alen_of a2 (by decide) ?_))
  intro x0 e
  subst e
  have hmm : ((hd + xs.length) % 17 + 1) % 17 = (hd + (xs ++ [v]).length) % 17 := by rw [List.length_append]; show _ = (hd + (xs.length + 1)) % 17; omega
  have fin : ∀ r : Int32, r = nI (((hd + xs.length) % 17 + 1) % 17) → pfV X1 d 9 2 (.int r) (fun X_29 => ((nI hd = r → False) ∧ (¬ nI hd = r → post X_29))) := by
    intro r e
    subst e
    refine pfV_of a1 (by show 2 < 3; decide) ⟨fun z => ?_, fun _ => ?_⟩
    · have z := (nI_eq (by omega) (by omega)).mp z
      omega
    · rw [hmm]
      refine hp _ ⟨hd, _, h1, by rw [List.length_append]; show xs.length + 1 ≤ 5; omega, hup_s _ _ _, (hup_n _ _ (Ne.symm hda)).trans a2, fun i hi => ?_⟩ (a3.trans (ext.up (Or.inl (by simp))))
      rw [List.length_append] at hi
      have hi : i < xs.length + 1 := hi
      by_cases z : i = xs.length
      · subst z
        rw [va_up_self]
        simp
      · rw [va_up_ne _ _ (by omega), h5 i (by omega), List.getElem?_append_left (by omega)]
  rcases dq_inc _ hm with ⟨z1, z2⟩ | ⟨z1, z2⟩
  · exact ⟨fun _ => fin _ z2, fun y => absurd z1 y⟩
  · exact ⟨fun y => absurd y z1, fun _ => fin _ z2⟩
theorem wp_dfirst {E : Nat} {X : hX} {post : Option Nat → hX → Prop} {d arr y : Nat} {ys : List Nat} (h : dqX X d arr (y :: ys))
    (hp : ∀ X' : hX, dqX X' d arr ys → ext [d, arr] X X' → post (some y) X') : wpJ3_removeFirst post E X d := by
  refine ⟨h.is, ?_⟩
  obtain ⟨hd, f, h1, h2, h3, h4, h5⟩ := h
  have hda : d ≠ arr := fun z => by rw [z, h4] at h3; cases h3
  have h2 : ys.length + 1 ≤ 5 := h2
  refine gfA_of h3 rfl (gfI_of h3 rfl ⟨17, f, h4, vp_in_nI h1 (by decide), ?_⟩)
  have h50 := h5 0 (by simp)
  rw [Nat.add_zero, Nat.mod_eq_of_lt h1] at h50
  rw [nI_clamp (by omega), h50]
  refine ⟨fun a e => ?_, fun e => by cases e⟩
  have e : y = a := Option.some.inj e
  subst e
  refine ⟨17, f, h4, vp_in_nI h1 (by decide), ?_⟩
  rw [nI_clamp (by omega)]
  generalize hX1 : hup X arr (.inl (4, 17, .inr (.inr (.inr (.inr (va_up f hd none)))))) = X1
  have a1 : X1 d = some (.inr (9, [.ref arr, .int (nI hd), .int (nI ((hd + (y :: ys).length) % 17))])) := by rw [← hX1, hup_n _ _ hda]; exact h3
  have a2 : X1 arr = some (.inl (4, 17, .inr (.inr (.inr (.inr (va_up f hd none)))))) := by rw [← hX1]; exact hup_s _ _ _
  have a3 : ext [d, arr] X X1 := by rw [← hX1]; exact ext.up (Or.inl (by simp))
  refine alen_of a2 (by decide) ?_
  intro x0 e
  subst e
  have fin : ∀ r : Int32, r = nI ((hd + 1) % 17) → pfV X1 d 9 1 (.int r) (fun X_24 => (∀ a_5 : Nat, some y = some a_5 → post (some a_5) X_24) ∧ (some y = none → False)) := by
    intro r e
    subst e
    refine pfV_of a1 (by show 1 < 3; decide) ⟨fun a e => ?_, fun e => by cases e⟩
    cases e
    refine hp _ ⟨(hd + 1) % 17, _, Nat.mod_lt _ (by decide), by omega, (hup_s _ _ _).trans ?_, (hup_n _ _ (Ne.symm hda)).trans a2, fun i hi => ?_⟩ (a3.trans (ext.up (Or.inl (by simp))))
    · show some (Sum.inr (9, [Value.ref arr, Value.int (nI ((hd + 1) % 17)), Value.int (nI ((hd + (ys.length + 1)) % 17))])) = _
      rw [show (hd + (ys.length + 1)) % 17 = ((hd + 1) % 17 + ys.length) % 17 by omega]
    · have h6 := h5 (i + 1) (by simpa using hi)
      rw [show ((hd + 1) % 17 + i) % 17 = (hd + (i + 1)) % 17 by omega, va_up_ne _ _ (by omega), h6]
      simp
  rcases dq_inc _ h1 with ⟨z1, z2⟩ | ⟨z1, z2⟩
  · exact ⟨fun _ => fin _ z2, fun y => absurd z1 y⟩
  · exact ⟨fun y => absurd y z1, fun _ => fin _ z2⟩
theorem wp_dlast {E : Nat} {X : hX} {post : Option Nat → hX → Prop} {d arr y : Nat} {ys : List Nat} (h : dqX X d arr (ys ++ [y]))
    (hp : ∀ X' : hX, dqX X' d arr ys → ext [d, arr] X X' → post (some y) X') : wpJ3_removeLast post E X d := by
  refine ⟨h.is, ?_⟩
  obtain ⟨hd, f, h1, h2, h3, h4, h5⟩ := h
  have hda : d ≠ arr := fun z => by rw [z, h4] at h3; cases h3
  have hlen : (ys ++ [y]).length = ys.length + 1 := by simp
  rw [hlen] at h2 h3
  have hm : (hd + ys.length) % 17 < 17 := Nat.mod_lt _ (by decide)
  have hm1 : (hd + (ys.length + 1)) % 17 = ((hd + ys.length) % 17 + 1) % 17 := by omega
  rw [hm1] at h3
  refine gfA_of h3 rfl (gfI_of h3 rfl (alen_of h4 (by decide) ?_))
  have fin : ∀ r : Int32, r = nI ((hd + ys.length) % 17) → wpJ3_elementAt (fun r_12 X_13 => ((∀ a_15 : Nat, r_12 = some a_15 → pfV X_13 d 9 2 (.int r) (fun X_19 => asN X_19 arr r (fun X_24 => (∀ a_5 : Nat, some a_15 = some a_5 → post (some a_5) X_24) ∧ (some a_15 = none → False)))) ∧ (r_12 = none → (∀ a_5 : Nat, (none : Option Nat) = some a_5 → post (some a_5) X_13) ∧ ((none : Option Nat) = none → False)))) E X arr r := by
    intro r e
    subst e
    refine ⟨17, f, h4, vp_in_nI hm (by decide), ?_⟩
    have h50 := h5 ys.length (by rw [hlen]; omega)
    rw [nI_clamp (by omega), h50]
    have hy : (ys ++ [y])[ys.length]? = some y := by simp
    rw [hy]
    refine ⟨fun a e => ?_, fun e => by cases e⟩
    have e : y = a := Option.some.inj e
    subst e
    refine pfV_of h3 (by show 2 < 3; decide) ?_
    refine ⟨17, f, (hup_n _ _ (Ne.symm hda)).trans h4, vp_in_nI hm (by decide), fun a e => ?_, fun e => by cases e⟩
    cases e
    rw [nI_clamp (by omega)]
    refine hp _ ⟨hd, _, h1, by omega, (hup_n _ _ hda).trans (hup_s _ _ _), hup_s _ _ _, fun i hi => ?_⟩ (ext.trans (ext.up (Or.inl (by simp))) (ext.up (Or.inl (by simp))))
    have h6 := h5 i (by rw [hlen]; omega)
    rw [va_up_ne _ _ (by omega), h6, List.getElem?_append_left hi]
  intro x0 e
  subst e
  rcases dq_dec _ hm with ⟨z1, z2⟩ | ⟨z1, z2⟩
  · exact ⟨fun _ => fin _ z2, fun y => absurd z1 y⟩
  · exact ⟨fun y => absurd y z1, fun _ x e => fin _ (by rw [e]; exact z2)⟩

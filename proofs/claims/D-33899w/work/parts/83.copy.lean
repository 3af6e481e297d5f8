/-! THE PLAIN LAW: a Works copied -/
set_option maxRecDepth 100000
theorem fresh_of {o : List Nat} {X Y : hX} {q : Nat} (he : ext o X Y) (hq : Y q = none) (ho : q ∉ o) : X q = none := by
  cases h : X q with
  | none => rfl
  | some e => rw [he.at h ho] at hq; cases hq
theorem ne_of_none {X : hX} {a b : Nat} {e : va_E} (ha : X a = some e) (hb : X b = none) : a ≠ b := fun z => by rw [z, hb] at ha; cases ha
theorem obX_wheel {X : hX} {A : List Nat} {B C : List Nat} {s : row} (h : wkP X A B C s) : (∀ y ∈ A, obX X y) ∧ (∀ y ∈ B, obX X y) ∧ (∀ y ∈ C, obX X y) := by
  obtain ⟨⟨-, h1⟩, ⟨-, h2⟩, ⟨-, h3⟩⟩ := h
  refine ⟨fun y hy => ?_, fun y hy => ?_, fun y hy => ?_⟩
  · obtain ⟨i, hi, e⟩ := List.getElem_of_mem hy
    exact ⟨5, _, by decide, by rw [← e]; exact h1 i hi⟩
  · obtain ⟨i, hi, e⟩ := List.getElem_of_mem hy
    exact ⟨6, _, by decide, by rw [← e]; exact h2 i hi⟩
  · obtain ⟨i, hi, e⟩ := List.getElem_of_mem hy
    exact ⟨7, _, by decide, by rw [← e]; exact h3 i hi⟩
/-- the cells that a Works speaks of -/
def wkC (A : wkA) (q : Nat) : Prop := q ∈ wkO A ∨ q ∈ A.x1 ∨ q ∈ A.x2 ∨ q ∈ A.x3

theorem wp_cp72 {E mc ms kc0 ks0 : Nat} {post : hX → Prop} {A : wkA} {s : row} {w l : Nat} {Xs : hX} {fs : List Value} (hs : wkX E Xs A s) (hsl : ∀ q, wkC A q → q ≠ l) (hw : Xs w = some (.inr (2, fs))) (hwl : w ≠ l) (hf : fs[0]? = some (.ref l)) (hlen : A.x1.length ≤ 24) (hmc : kc0 + 24 ≤ mc) (hms : ks0 + 960 ≤ ms)
    (hq : ∀ (X1 : hX) (arr1 kc1 ks1 : Nat), kc1 ≤ kc0 + 24 → ks1 ≤ ks0 + 960 → ext [l] Xs X1 → listX E X1 l arr1 A.x1 → (A.x1 ≠ [] → Xs arr1 = none) → ∃ fu : Nat, wpX2_init_2_110 post E mc ms fu w A.w 0 X1 kc1 ks1) :
    ∀ (d i : Nat), i + d = A.x1.length → ∀ (X : hX) (arr kc ks : Nat), kc ≤ kc0 + i → ks ≤ ks0 + 40 * i → ext [l] Xs X → listX E X l arr (A.x1.take i) → (A.x1.take i ≠ [] → Xs arr = none) → wpX2_init_2_72 post E mc ms (d + 1) w A.w (nI i) X kc ks := by
  intro d
  induction d with
  | zero =>
    intro i hi X arr kc ks hkc hks he hl ha
    have h : wkX E X A s := hs.exO he (fun q hq z => hsl q hq (List.mem_singleton.mp z))
    refine gfA_of h.1 rfl ⟨h.2.1.1.is, wp_size h.2.1.1 ⟨fun _ => ?_, fun z => absurd (nI_le (by omega) (by omega)) z⟩⟩
    have e : A.x1.take i = A.x1 := List.take_of_length_le (by omega)
    rw [e] at hl ha
    exact hq X arr kc ks (by omega) (by omega) he hl ha
  | succ d ih =>
    intro i hi X arr kc ks hkc hks he hl ha
    have h : wkX E X A s := hs.exO he (fun q hq z => hsl q hq (List.mem_singleton.mp z))
    have hi' : i < A.x1.length := by omega
    refine gfA_of h.1 rfl ⟨h.2.1.1.is, wp_size h.2.1.1 ⟨fun z => absurd z (nI_ge hi' (by omega)), fun _ => ?_⟩⟩
    refine gfA_of (he.at hw (by simpa using hwl)) hf (gfA_of h.1 rfl ⟨h.2.1.1.is, wp_get h.2.1.1 hi' ⟨_, rfl, ⟨⟨_, h.2.2.2.1.2 i hi'⟩, hl.is, 1, 40, by omega, by omega, ?_⟩⟩⟩)
    have hobs := (obX_wheel h.2.2.2).1
    refine wp_add hl (hobs _ (List.getElem_mem hi')) (fun y hy => hobs y (List.mem_of_mem_take hy)) (by rw [List.length_take]; omega) (by omega) (by omega) (fun X1 arr1 hl1 he1 ha1 => ?_)
    intro x2 e
    rw [nI_1] at e
    subst e
    have hXl : X l ≠ none := by
      obtain ⟨md, z⟩ := hl.1
      rw [z]
      exact fun y => by cases y
    have hf1 : Xs arr1 = none := by
      rcases ha1 with ⟨z1, z2⟩ | z
      · rw [z1]; exact ha z2
      · exact fresh_of he z (by simpa using fun y => hXl (by rw [← y]; exact z))
    refine ih (i + 1) (by omega) X1 arr1 _ _ (by omega) (by omega) (fun q hq1 hq2 => ?_) (by rw [List.take_succ_eq_append_getElem hi']; exact hl1) (fun _ => hf1)
    rw [← he q hq1 hq2]
    refine he1 q (fun z => ?_) (by rw [he q hq1 hq2]; exact hq2)
    unfold lcs at z
    by_cases z2 : A.x1.take i = []
    · rw [if_pos z2] at z
      exact hq1 z
    · rw [if_neg z2] at z
      rcases List.mem_cons.mp z with z | z
      · exact hq1 (by rw [z]; simp)
      · rw [List.mem_singleton.mp z, ha z2] at hq2
        exact hq2 rfl
theorem wp_cp110 {E mc ms kc0 ks0 : Nat} {post : hX → Prop} {A : wkA} {s : row} {w l : Nat} {Xs : hX} {fs : List Value} (hs : wkX E Xs A s) (hsl : ∀ q, wkC A q → q ≠ l) (hw : Xs w = some (.inr (2, fs))) (hwl : w ≠ l) (hf : fs[1]? = some (.ref l)) (hlen : A.x2.length ≤ 24) (hmc : kc0 + 24 ≤ mc) (hms : ks0 + 960 ≤ ms)
    (hq : ∀ (X1 : hX) (arr1 kc1 ks1 : Nat), kc1 ≤ kc0 + 24 → ks1 ≤ ks0 + 960 → ext [l] Xs X1 → listX E X1 l arr1 A.x2 → (A.x2 ≠ [] → Xs arr1 = none) → ∃ fu : Nat, wpX2_init_2_148 post E mc ms fu w A.w 0 X1 kc1 ks1) :
    ∀ (d i : Nat), i + d = A.x2.length → ∀ (X : hX) (arr kc ks : Nat), kc ≤ kc0 + i → ks ≤ ks0 + 40 * i → ext [l] Xs X → listX E X l arr (A.x2.take i) → (A.x2.take i ≠ [] → Xs arr = none) → wpX2_init_2_110 post E mc ms (d + 1) w A.w (nI i) X kc ks := by
  intro d
  induction d with
  | zero =>
    intro i hi X arr kc ks hkc hks he hl ha
    have h : wkX E X A s := hs.exO he (fun q hq z => hsl q hq (List.mem_singleton.mp z))
    refine gfA_of h.1 rfl ⟨h.2.1.2.1.is, wp_size h.2.1.2.1 ⟨fun _ => ?_, fun z => absurd (nI_le (by omega) (by omega)) z⟩⟩
    have e : A.x2.take i = A.x2 := List.take_of_length_le (by omega)
    rw [e] at hl ha
    exact hq X arr kc ks (by omega) (by omega) he hl ha
  | succ d ih =>
    intro i hi X arr kc ks hkc hks he hl ha
    have h : wkX E X A s := hs.exO he (fun q hq z => hsl q hq (List.mem_singleton.mp z))
    have hi' : i < A.x2.length := by omega
    refine gfA_of h.1 rfl ⟨h.2.1.2.1.is, wp_size h.2.1.2.1 ⟨fun z => absurd z (nI_ge hi' (by omega)), fun _ => ?_⟩⟩
    refine gfA_of (he.at hw (by simpa using hwl)) hf (gfA_of h.1 rfl ⟨h.2.1.2.1.is, wp_get h.2.1.2.1 hi' ⟨_, rfl, ⟨⟨_, h.2.2.2.2.1.2 i hi'⟩, hl.is, 1, 40, by omega, by omega, ?_⟩⟩⟩)
    have hobs := (obX_wheel h.2.2.2).2.1
    refine wp_add hl (hobs _ (List.getElem_mem hi')) (fun y hy => hobs y (List.mem_of_mem_take hy)) (by rw [List.length_take]; omega) (by omega) (by omega) (fun X1 arr1 hl1 he1 ha1 => ?_)
    intro x2 e
    rw [nI_1] at e
    subst e
    have hXl : X l ≠ none := by
      obtain ⟨md, z⟩ := hl.1
      rw [z]
      exact fun y => by cases y
    have hf1 : Xs arr1 = none := by
      rcases ha1 with ⟨z1, z2⟩ | z
      · rw [z1]; exact ha z2
      · exact fresh_of he z (by simpa using fun y => hXl (by rw [← y]; exact z))
    refine ih (i + 1) (by omega) X1 arr1 _ _ (by omega) (by omega) (fun q hq1 hq2 => ?_) (by rw [List.take_succ_eq_append_getElem hi']; exact hl1) (fun _ => hf1)
    rw [← he q hq1 hq2]
    refine he1 q (fun z => ?_) (by rw [he q hq1 hq2]; exact hq2)
    unfold lcs at z
    by_cases z2 : A.x2.take i = []
    · rw [if_pos z2] at z
      exact hq1 z
    · rw [if_neg z2] at z
      rcases List.mem_cons.mp z with z | z
      · exact hq1 (by rw [z]; simp)
      · rw [List.mem_singleton.mp z, ha z2] at hq2
        exact hq2 rfl
theorem wp_cp148 {E mc ms kc0 ks0 : Nat} {post : hX → Prop} {A : wkA} {s : row} {w l : Nat} {Xs : hX} {fs : List Value} (hs : wkX E Xs A s) (hsl : ∀ q, wkC A q → q ≠ l) (hw : Xs w = some (.inr (2, fs))) (hwl : w ≠ l) (hf : fs[2]? = some (.ref l)) (hlen : A.x3.length ≤ 24) (hmc : kc0 + 24 ≤ mc) (hms : ks0 + 960 ≤ ms)
    (hq : ∀ (X1 : hX) (arr1 kc1 ks1 : Nat), kc1 ≤ kc0 + 24 → ks1 ≤ ks0 + 960 → ext [l] Xs X1 → listX E X1 l arr1 A.x3 → (A.x3 ≠ [] → Xs arr1 = none) → gfI X1 A.w 2 5 (fun v_10 => pfV X1 w 2 5 (.int v_10) (fun X_16 => gfI X_16 A.w 2 6 (fun v_18 => pfV X_16 w 2 6 (.int v_18) (fun X_24 => gfI X_24 A.w 2 7 (fun v_26 => pfV X_24 w 2 7 (.int v_26) (fun X_32 => gfI X_32 A.w 2 8 (fun v_34 => pfV X_32 w 2 8 (.int v_34) (fun X_40 => post X_40))))))))) :
    ∀ (d i : Nat), i + d = A.x3.length → ∀ (X : hX) (arr kc ks : Nat), kc ≤ kc0 + i → ks ≤ ks0 + 40 * i → ext [l] Xs X → listX E X l arr (A.x3.take i) → (A.x3.take i ≠ [] → Xs arr = none) → wpX2_init_2_148 post E mc ms (d + 1) w A.w (nI i) X kc ks := by
  intro d
  induction d with
  | zero =>
    intro i hi X arr kc ks hkc hks he hl ha
    have h : wkX E X A s := hs.exO he (fun q hq z => hsl q hq (List.mem_singleton.mp z))
    refine gfA_of h.1 rfl ⟨h.2.1.2.2.is, wp_size h.2.1.2.2 ⟨fun _ => ?_, fun z => absurd (nI_le (by omega) (by omega)) z⟩⟩
    have e : A.x3.take i = A.x3 := List.take_of_length_le (by omega)
    rw [e] at hl ha
    exact hq X arr kc ks (by omega) (by omega) he hl ha
  | succ d ih =>
    intro i hi X arr kc ks hkc hks he hl ha
    have h : wkX E X A s := hs.exO he (fun q hq z => hsl q hq (List.mem_singleton.mp z))
    have hi' : i < A.x3.length := by omega
    refine gfA_of h.1 rfl ⟨h.2.1.2.2.is, wp_size h.2.1.2.2 ⟨fun z => absurd z (nI_ge hi' (by omega)), fun _ => ?_⟩⟩
    refine gfA_of (he.at hw (by simpa using hwl)) hf (gfA_of h.1 rfl ⟨h.2.1.2.2.is, wp_get h.2.1.2.2 hi' ⟨_, rfl, ⟨⟨_, h.2.2.2.2.2.2 i hi'⟩, hl.is, 1, 40, by omega, by omega, ?_⟩⟩⟩)
    have hobs := (obX_wheel h.2.2.2).2.2
    refine wp_add hl (hobs _ (List.getElem_mem hi')) (fun y hy => hobs y (List.mem_of_mem_take hy)) (by rw [List.length_take]; omega) (by omega) (by omega) (fun X1 arr1 hl1 he1 ha1 => ?_)
    intro x2 e
    rw [nI_1] at e
    subst e
    have hXl : X l ≠ none := by
      obtain ⟨md, z⟩ := hl.1
      rw [z]
      exact fun y => by cases y
    have hf1 : Xs arr1 = none := by
      rcases ha1 with ⟨z1, z2⟩ | z
      · rw [z1]; exact ha z2
      · exact fresh_of he z (by simpa using fun y => hXl (by rw [← y]; exact z))
    refine ih (i + 1) (by omega) X1 arr1 _ _ (by omega) (by omega) (fun q hq1 hq2 => ?_) (by rw [List.take_succ_eq_append_getElem hi']; exact hl1) (fun _ => hf1)
    rw [← he q hq1 hq2]
    refine he1 q (fun z => ?_) (by rw [he q hq1 hq2]; exact hq2)
    unfold lcs at z
    by_cases z2 : A.x3.take i = []
    · rw [if_pos z2] at z
      exact hq1 z
    · rw [if_neg z2] at z
      rcases List.mem_cons.mp z with z | z
      · exact hq1 (by rw [z]; simp)
      · rw [List.mem_singleton.mp z, ha z2] at hq2
        exact hq2 rfl

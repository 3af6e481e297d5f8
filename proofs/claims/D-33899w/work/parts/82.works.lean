/-! THE PLAIN LAW: Works as a row of numbers -/
set_option maxRecDepth 100000
/-- the addresses of one Works: itself, its lists, their arrays, the pairs' arrays, the parts -/
abbrev wkA : Type := (Nat × Nat × Nat × Nat × Nat × Nat) × (Nat × Nat × Nat) × (List Nat × List Nat × List Nat)
abbrev wkA.w (A : wkA) : Nat := A.1.1
abbrev wkA.l1 (A : wkA) : Nat := A.1.2.1
abbrev wkA.l2 (A : wkA) : Nat := A.1.2.2.1
abbrev wkA.l3 (A : wkA) : Nat := A.1.2.2.2.1
abbrev wkA.f1 (A : wkA) : Nat := A.1.2.2.2.2.1
abbrev wkA.f2 (A : wkA) : Nat := A.1.2.2.2.2.2
abbrev wkA.a1 (A : wkA) : Nat := A.2.1.1
abbrev wkA.a2 (A : wkA) : Nat := A.2.1.2.1
abbrev wkA.a3 (A : wkA) : Nat := A.2.1.2.2
abbrev wkA.x1 (A : wkA) : List Nat := A.2.2.1
abbrev wkA.x2 (A : wkA) : List Nat := A.2.2.2.1
abbrev wkA.x3 (A : wkA) : List Nat := A.2.2.2.2
abbrev row : Type := Nat → Int32
/-- the parts are as the row says: wheels, arms, moons -/
def wkP (X : hX) (x1 x2 x3 : List Nat) (s : row) : Prop :=
  (s 1 = nI x1.length ∧ ∀ (i : Nat) (h : i < x1.length), X x1[i] = some (.inr (5, [.int (s (26 + i)), .int (s (2 + i))]))) ∧
  (s 83 = nI x2.length ∧ ∀ (i : Nat) (h : i < x2.length), X x2[i] = some (.inr (6, [.int (s (84 + i)), .int (s (90 + i)), .int (s (96 + i))]))) ∧
  (s 102 = nI x3.length ∧ ∀ (i : Nat) (h : i < x3.length), X x3[i] = some (.inr (7, [.int (s (103 + i)), .int (s (107 + i))])))
/-- a Works that holds the row s -/
def wkX (E : Nat) (X : hX) (A : wkA) (s : row) : Prop :=
  X A.w = some (.inr (2, [.ref A.l1, .ref A.l2, .ref A.l3, .ref A.f1, .ref A.f2, .int (s 0), .int (s 50), .int (s 111), .int (s 112)])) ∧
  (listX E X A.l1 A.a1 A.x1 ∧ listX E X A.l2 A.a2 A.x2 ∧ listX E X A.l3 A.a3 A.x3) ∧
  ((∃ g : Nat → Int32, X A.f1 = some (.inl (0, 16, .inl g)) ∧ ∀ i, i < 16 → g i = s (51 + i)) ∧ (∃ g : Nat → Int32, X A.f2 = some (.inl (0, 16, .inl g)) ∧ ∀ i, i < 16 → g i = s (67 + i))) ∧
  wkP X A.x1 A.x2 A.x3 s
/-- the cells that a Works owns -/
def wkO (A : wkA) : List Nat := [A.w, A.f1, A.f2] ++ lcs A.l1 A.a1 A.x1 ++ lcs A.l2 A.a2 A.x2 ++ lcs A.l3 A.a3 A.x3
theorem ext.at {l : List Nat} {X X' : hX} (h : ext l X X') {a : Nat} {e : va_E} (hX : X a = some e) (ha : a ∉ l) : X' a = some e := by
  rw [h a ha (by rw [hX]; exact fun z => by cases z)]
  exact hX
theorem listX.exO {E : Nat} {X X' : hX} {l arr : Nat} {xs o : List Nat} (h : listX E X l arr xs) (he : ext o X X') (hd : ∀ q ∈ lcs l arr xs, q ∉ o) : listX E X' l arr xs := by
  obtain ⟨⟨md, h1⟩, h2⟩ := h
  refine ⟨⟨md, he.at h1 (hd l lcs_l)⟩, ?_⟩
  rcases h2 with h2 | ⟨n, f, ha, ⟨h0, h3⟩, h4⟩
  · exact Or.inl h2
  · refine Or.inr ⟨n, f, he.at ha (hd arr ?_), ⟨h0, h3⟩, h4⟩
    unfold lcs
    rw [if_neg (fun z => by rw [z] at h0; exact absurd h0 (Nat.lt_irrefl 0))]
    simp
theorem wkP.exO {X X' : hX} {x1 x2 x3 o : List Nat} {s : row} (h : wkP X x1 x2 x3 s) (he : ext o X X') (hd : ∀ q, q ∈ x1 ∨ q ∈ x2 ∨ q ∈ x3 → q ∉ o) : wkP X' x1 x2 x3 s := by
  obtain ⟨⟨h1, h2⟩, ⟨h3, h4⟩, ⟨h5, h6⟩⟩ := h
  exact ⟨⟨h1, fun i hi => he.at (h2 i hi) (hd _ (Or.inl (List.getElem_mem hi)))⟩, ⟨h3, fun i hi => he.at (h4 i hi) (hd _ (Or.inr (Or.inl (List.getElem_mem hi))))⟩, ⟨h5, fun i hi => he.at (h6 i hi) (hd _ (Or.inr (Or.inr (List.getElem_mem hi))))⟩⟩
theorem wkX.exO {E : Nat} {X X' : hX} {A : wkA} {s : row} {o : List Nat} (h : wkX E X A s) (he : ext o X X') (hd : ∀ q, q ∈ wkO A ∨ q ∈ A.x1 ∨ q ∈ A.x2 ∨ q ∈ A.x3 → q ∉ o) : wkX E X' A s := by
  obtain ⟨h1, ⟨l1, l2, l3⟩, ⟨⟨g1, f1, f1'⟩, ⟨g2, f2, f2'⟩⟩, hp⟩ := h
  have ho : ∀ q, q ∈ wkO A → q ∉ o := fun q hq => hd q (Or.inl hq)
  exact ⟨he.at h1 (ho _ (by simp [wkO])), ⟨l1.exO he (fun q hq => ho q (by simp [wkO, hq])), l2.exO he (fun q hq => ho q (by simp [wkO, hq])), l3.exO he (fun q hq => ho q (by simp [wkO, hq]))⟩,
    ⟨⟨g1, he.at f1 (ho _ (by simp [wkO])), f1'⟩, ⟨g2, he.at f2 (ho _ (by simp [wkO])), f2'⟩⟩, hp.exO he (fun q hq => hd q (Or.inr hq))⟩
/-- what only makes new cells leaves a Works as it is -/
theorem wkX.ex0 {E : Nat} {X X' : hX} {A : wkA} {s : row} (h : wkX E X A s) (he : ext [] X X') : wkX E X' A s := h.exO he (fun _ _ => List.not_mem_nil)
theorem wkX.is {E : Nat} {X : hX} {A : wkA} {s : row} (h : wkX E X A s) : ∃ fs, X A.w = some (.inr (2, fs)) := ⟨_, h.1⟩
/-! counts and ranges -/
theorem i64_lt {a b : Int32} : a.toInt64 < b.toInt64 ↔ a < b := by
  rw [Int64.lt_iff_toInt_lt, Int32.toInt_toInt64, Int32.toInt_toInt64, Int32.lt_iff_toInt_lt]
/-- whether a number is a place below n -/
def isIn (p : Int32) (n : Nat) : Prop := ∃ j : Nat, j < n ∧ p = nI j
theorem wp_between {post : Int32 → Prop} {p : Int32} {n : Nat} (hn : n < 1000) (h1 : isIn p n → post 1) (h0 : ¬ isIn p n → post 0) : wpX1_isBetween post (Int32.toInt64 p) 0 (Int32.toInt64 (nI n - 1)) := by
  have e0 : (0 : Int64) = Int32.toInt64 0 := by decide +kernel
  have en : nI n - 1 < p ↔ (n : Int) ≤ p.toInt := by
    rw [Int32.lt_iff_toInt_lt]
    have : (nI n - 1).toInt = (n : Int) - 1 := by
      rw [Int32.toInt_sub, nI_toInt (by omega)]
      rw [show (1 : Int32).toInt = 1 by decide]
      exact Int.bmod_eq_of_le (by omega) (by omega)
    rw [this]
    omega
  unfold wpX1_isBetween
  rw [e0, i64_lt, i64_lt]
  refine ⟨fun z => h0 ?_, fun z => ⟨fun z2 => h0 ?_, fun z2 => h1 ?_⟩⟩
  · rintro ⟨j, hj, rfl⟩
    exact nI_pos (by omega) z
  · rintro ⟨j, hj, rfl⟩
    have := en.mp z2
    rw [nI_toInt (by omega)] at this
    omega
  · obtain ⟨j, hj, rfl⟩ := nI_of z
    refine ⟨j, ?_, rfl⟩
    have h3 : ¬ (n : Int) ≤ (nI j).toInt := fun y => z2 (en.mpr y)
    rw [nI_toInt (by omega)] at h3
    omega
theorem wp_isWheel {E : Nat} {X : hX} {post : Int32 → hX → Prop} {A : wkA} {s : row} {p : Int32} (h : wkX E X A s) (hn : A.x1.length < 1000) (h1 : isIn p A.x1.length → post 1 X) (h0 : ¬ isIn p A.x1.length → post 0 X) : wpX2_isWheel post E X A.w p :=
  gfA_of h.1 rfl ⟨h.2.1.1.is, wp_size h.2.1.1 (wp_between hn (fun z => ⟨Or.inr rfl, h1 z⟩) (fun z => ⟨Or.inl rfl, h0 z⟩))⟩
theorem wp_isArm {E : Nat} {X : hX} {post : Int32 → hX → Prop} {A : wkA} {s : row} {p : Int32} (h : wkX E X A s) (hn : A.x2.length < 1000) (h1 : isIn p A.x2.length → post 1 X) (h0 : ¬ isIn p A.x2.length → post 0 X) : wpX2_isArm post E X A.w p :=
  gfA_of h.1 rfl ⟨h.2.1.2.1.is, wp_size h.2.1.2.1 (wp_between hn (fun z => ⟨Or.inr rfl, h1 z⟩) (fun z => ⟨Or.inl rfl, h0 z⟩))⟩
theorem wp_isAxle {E : Nat} {X : hX} {post : Int32 → hX → Prop} {A : wkA} {s : row} {p : Int32} {n : Nat} (h : wkX E X A s) (hn : n < 1000) (hs : s 0 = nI n) (h1 : isIn p n → post 1 X) (h0 : ¬ isIn p n → post 0 X) : wpX2_isAxle post E X A.w p := by
  refine gfI_of h.1 rfl ?_
  rw [hs]
  exact wp_between hn (fun z => ⟨Or.inr rfl, h1 z⟩) (fun z => ⟨Or.inl rfl, h0 z⟩)

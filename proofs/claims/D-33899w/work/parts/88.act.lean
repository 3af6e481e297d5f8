/-! THE PLAIN LAW: a change of the component -/
set_option maxRecDepth 100000
theorem wkX.live {E : Nat} {X : hX} {A : wkA} {s : row} (h : wkX E X A s) : ∀ q, wkC A q → X q ≠ none := fun q hq => by
  obtain ⟨k1, ⟨k2, k3, k4⟩, ⟨⟨_, k5, -⟩, ⟨_, k6, -⟩⟩, kp⟩ := h
  have lc : ∀ {l arr : Nat} {xs : List Nat}, listX E X l arr xs → ∀ q ∈ lcs l arr xs, X q ≠ none := fun hl q hq => by
    rcases lcs_mem hq with rfl | ⟨z, rfl⟩
    · exact hl.at
    · obtain ⟨n, f, ha, -⟩ := hl.arr (i := 0) (List.length_pos_iff.mpr z)
      rw [ha]; exact fun z => by cases z
  obtain ⟨o1, o2, o3⟩ := obX_wheel kp
  have ob : obX X q → X q ≠ none := fun hz => by
    obtain ⟨ci, fs, -, z⟩ := hz
    rw [z]
    exact fun y => by cases y
  rcases hq with hq | hq | hq | hq
  · simp only [wkO, List.mem_append, List.mem_cons, List.not_mem_nil, or_false] at hq
    rcases hq with ((hq | hq) | hq) | hq
    · rcases hq with rfl | rfl | rfl
      · rw [k1]; exact fun y => by cases y
      · rw [k5]; exact fun y => by cases y
      · rw [k6]; exact fun y => by cases y
    · exact lc k2 q hq
    · exact lc k3 q hq
    · exact lc k4 q hq
  · exact ob (o1 q hq)
  · exact ob (o2 q hq)
  · exact ob (o3 q hq)
theorem hless_self {X : hX} {O : List Nat} : ext O X (hless X O) := fun q hq _ => by unfold hless; rw [if_neg hq]
/-- the component's own cells are alive -/
theorem cmX.own {E : Nat} {X : hX} {x o f : Nat} {C : cmA} {s : row} {hs : List row} {kp : Option row} {tx : List Int32} (h : cmX E X x o f C s hs kp tx) : ∀ q ∈ cmO x o f C, X q ≠ none := fun q hq => by
  obtain ⟨k1, ⟨⟨hd, g, -, -, k2, k3, -⟩, -⟩, ⟨n, g', k4, k5, -⟩, ⟨⟨_, k6⟩, ⟨_, k7⟩⟩, -⟩ := h
  have al : ∀ {a : Nat} {e : va_E}, X a = some e → X a ≠ none := fun h z => by rw [z] at h; cases h
  simp only [cmO, List.mem_cons, List.not_mem_nil, or_false] at hq
  rcases hq with rfl | rfl | rfl | rfl | rfl | rfl | rfl
  · exact al k1
  · exact al k2
  · exact al k3
  · exact al k4
  · exact al k5
  · exact al k6
  · exact al k7
/-- what a refused or a done change leaves: the kind, or the answer and the new row -/
abbrev outW : Type := Int32 ⊕ (Int32 × row)
/-- what is asked of `done` (for one letter) on a trial A1, a copy of A, in X1 made out of X: Q where it's done, XQ where it's refused -/
def doneW (E : Nat) (X : hX) (A A1 : wkA) (X1 : hX) (out : outW) (Q : Int32 → hX → Prop) (XQ : String → Nat → hX → Prop) : Prop :=
  (∀ (r : Int32) (s2 : row), out = .inr (r, s2) → ∀ (X2 : hX) (A2 : wkA), A2.w = A1.w → wkX E X2 A2 s2 → wkB A2 → (∀ q, wkC A2 q → X q = none ∨ wkC A q) → ext [] X X2 → Q r X2) ∧
  (∀ k : Int32, out = .inl k → ∀ (X2 : hX) (q : Nat), X2 q = some (.inr (11, [.int k])) → ext [] X X2 → XQ "ClockworkOrreries$Refused" q X2)
/-- the trial: a fresh copy -/
def trialW (E : Nat) (X : hX) (A A1 : wkA) (X1 : hX) (s : row) : Prop :=
  A1.x1 = A.x1 ∧ A1.x2 = A.x2 ∧ A1.x3 = A.x3 ∧ wkX E X1 A1 s ∧ (wkO A1).Nodup ∧ (∀ q ∈ wkO A1, X q = none) ∧ ext [] X X1
theorem wp_act {E mc ms Bd Sd : Nat} {X : hX} {post : Int32 → hX → Prop} {xpost : String → Nat → hX → Prop} {x o f : Nat} {C : cmA} {s : row} {hs : List row} {kp : Option row} {tx : List Int32} {p1 : Int32} {p2 : Nat} {out : outW} (h : cmX E X x o f C s hs kp tx) (hmc : Bd + 120 ≤ mc) (hms : Sd + 3300 ≤ ms)
    (hdone : ∀ (X1 : hX) (A1 : wkA) (Q : Int32 → hX → Prop) (XQ : String → Nat → hX → Prop), trialW E X C.A A1 X1 s → doneW E X C.A A1 X1 out Q XQ → wpX1_done Q XQ E Bd Sd X1 A1.w p1 p2)
    (hok : ∀ (r : Int32) (s2 : row), out = .inr (r, s2) → ∀ (X' : hX) (C' : cmA), C'.2.1 = C.2.1 → cmX E X' x o f C' s2 (hPush hs s) kp tx → ext (cmO x o f C) X X' → post r X')
    (hno : ∀ k : Int32, out = .inl k → ∀ (X' : hX) (q : Nat), cmX E X' x o f C s hs kp tx → ext [] X X' → xpost (if k = 1 then "java/lang/IllegalArgumentException" else "java/lang/IllegalStateException") q X') : wpX1_act post xpost E mc ms X x p1 p2 := by
  have hB := h.2.2.2.2.2.1.2
  refine ⟨by omega, by omega, fun w hw => ?_⟩
  generalize hX0 : hup X w _ = X0
  have w0 : X0 w = some (.inr (2, [.null, .null, .null, .null, .null, .int 0, .int 0, .int 0, .int 0])) := by rw [← hX0]; exact hup_s _ _ _
  have e0 : ext [] X X0 := by rw [← hX0]; exact ext.up (Or.inr hw)
  have h0 := h.ex0 e0
  refine gfA_of h0.1 rfl ⟨100, 3200, by omega, by omega, ?_⟩
  have hwA : ¬ wkC C.A w := fun z => h.w.live w z hw
  refine wp_copy h0.w w0 hwA hB.1 (by have := hB.2.1; omega) (by have := hB.2.2; omega) (by omega) (by omega) (fun X1 A1 a0 a1 a2 a3 a4 a5 a6 a7 => ?_)
  have e1 : ext [] X X1 := fun q hq hq2 => by
    have hqw : q ≠ w := fun z => hq2 (by rw [z]; exact hw)
    rw [a7 q (by simpa using hqw) (by rw [e0 q hq hq2]; exact hq2), e0 q hq hq2]
  rw [← a0]
  refine ⟨Bd, Sd, by omega, by omega, hdone X1 A1 _ _ ⟨a1, a2, a3, a4, a5, fun q hq => ?_, e1⟩ ⟨fun r s2 ho X2 A2 b1 b2 b3 b4 b5 => ?_, fun k ho X2 q b1 b2 => ?_⟩⟩
  · rcases a6 q hq with z | z
    · rw [z]; exact hw
    · exact fresh_of e0 z List.not_mem_nil
  · have h2 := h.ex0 b5
    refine ⟨h2.is, ?_⟩
    have hO : ∀ q, wkC A2 q → q ∉ cmO x o f C := fun q hq z => by
      rcases b4 q hq with y | y
      · exact h.own q z y
      · have := h.2.2.2.2.2.1.1.live q y
        unfold hless at this
        rw [if_pos z] at this
        exact this rfl
    rw [← b1]
    exact wp_changed h2 (b2.exO hless_self hO) b3 (fun X' c1 c2 => hok r s2 ho X' (A2, C.2.1, aPush C.H C.A, C.K) rfl c1 (fun q hq hq2 => by rw [c2 q hq (by rw [b5 q List.not_mem_nil hq2]; exact hq2), b5 q List.not_mem_nil hq2]))
  · refine ⟨rfl, gfI_of b1 rfl ⟨fun z => ⟨by omega, by omega, fun q2 hq2 => ?_⟩, fun z => ⟨by omega, by omega, fun q2 hq2 => ?_⟩⟩⟩
    · have e3 : ext [] X (hup X2 q2 (.inr (12, []))) := b2.trans (ext.up (Or.inr hq2))
      have := hno k ho _ q2 (h.ex0 e3) e3
      rw [if_pos z] at this
      exact this
    · have e3 : ext [] X (hup X2 q2 (.inr (13, []))) := b2.trans (ext.up (Or.inr hq2))
      have := hno k ho _ q2 (h.ex0 e3) e3
      rw [if_neg z] at this
      exact this

/-! THE PLAIN LAW: a part added to a trial's list -/
set_option maxRecDepth 100000
/-- a part is no list's cell -/
theorem part_lcs {E : Nat} {X : hX} {l arr : Nat} {xs : List Nat} (hl : listX E X l arr xs) {q ci : Nat} {fs : List Value} (hq : X q = some (.inr (ci, fs))) (hci : ci < 8) : q ∉ lcs l arr xs := fun z => by
  rcases lcs_mem z with rfl | ⟨hne, rfl⟩
  · obtain ⟨⟨md, h1⟩, -⟩ := hl
    rw [hq] at h1
    have := congrArg (fun e => match e with | some (Sum.inr (c, _)) => c | _ => 0) h1
    simp at this
    omega
  · obtain ⟨n, f, ha, -⟩ := hl.arr (i := 0) (List.length_pos_iff.mpr hne)
    rw [hq] at ha
    cases ha
theorem wkP.out {E : Nat} {X : hX} {x1 x2 x3 : List Nat} {s : row} (hp : wkP X x1 x2 x3 s) {l arr : Nat} {xs : List Nat} (hl : listX E X l arr xs) : ∀ q, q ∈ x1 ∨ q ∈ x2 ∨ q ∈ x3 → q ∉ lcs l arr xs := fun q hq => by
  obtain ⟨⟨-, p1⟩, ⟨-, p2⟩, ⟨-, p3⟩⟩ := hp
  rcases hq with hq | hq | hq
  · obtain ⟨i, hi, e⟩ := List.getElem_of_mem hq
    exact part_lcs hl (by rw [← e]; exact p1 i hi) (by decide)
  · obtain ⟨i, hi, e⟩ := List.getElem_of_mem hq
    exact part_lcs hl (by rw [← e]; exact p2 i hi) (by decide)
  · obtain ⟨i, hi, e⟩ := List.getElem_of_mem hq
    exact part_lcs hl (by rw [← e]; exact p3 i hi) (by decide)
/-- what is apart in a trial -/
theorem wk_dis {A : wkA} (nd : (wkO A).Nodup) : (∀ a ∈ [A.w, A.f1, A.f2], a ∉ lcs A.l1 A.a1 A.x1 ∧ a ∉ lcs A.l2 A.a2 A.x2 ∧ a ∉ lcs A.l3 A.a3 A.x3) ∧ (∀ a ∈ lcs A.l1 A.a1 A.x1, a ∉ lcs A.l2 A.a2 A.x2 ∧ a ∉ lcs A.l3 A.a3 A.x3) ∧ (∀ a ∈ lcs A.l2 A.a2 A.x2, a ∉ lcs A.l3 A.a3 A.x3) := by
  obtain ⟨n1, -, d3⟩ := List.nodup_append.mp (show ([A.w, A.f1, A.f2] ++ lcs A.l1 A.a1 A.x1 ++ lcs A.l2 A.a2 A.x2 ++ lcs A.l3 A.a3 A.x3).Nodup from nd)
  obtain ⟨n2, -, d2⟩ := List.nodup_append.mp n1
  obtain ⟨-, -, d1⟩ := List.nodup_append.mp n2
  refine ⟨fun a ha => ⟨fun z => d1 a ha a z rfl, fun z => d2 a (List.mem_append_left _ ha) a z rfl, fun z => d3 a (List.mem_append_left _ (List.mem_append_left _ ha)) a z rfl⟩, fun a ha => ⟨fun z => d2 a (List.mem_append_right _ ha) a z rfl, fun z => d3 a (List.mem_append_left _ (List.mem_append_right _ ha)) a z rfl⟩, fun a ha z => d3 a (List.mem_append_right _ ha) a z rfl⟩
theorem wkX.add1 {E : Nat} {X X' : hX} {A : wkA} {s s' : row} {arr v : Nat} (h : wkX E X A s) (nd : (wkO A).Nodup) (hb : wkB A) (hl : listX E X' A.l1 arr (A.x1 ++ [v])) (he : ext (lcs A.l1 A.a1 A.x1) X X') (hv : X' v = some (.inr (5, [.int (s' (26 + A.x1.length)), .int (s' (2 + A.x1.length))]))) (h24 : A.x1.length < 24) (hs1 : s' 1 = nI (A.x1.length + 1))
    (hs : ∀ k, k < 113 → k ≠ 1 → k ≠ 2 + A.x1.length → k ≠ 26 + A.x1.length → s' k = s k) : wkX E X' ((A.w, A.l1, A.l2, A.l3, A.f1, A.f2), (arr, A.a2, A.a3), (A.x1 ++ [v], A.x2, A.x3)) s' := by
  obtain ⟨d1, d2, -⟩ := wk_dis nd
  obtain ⟨h1, ⟨l1, l2, l3⟩, ⟨⟨g1, f1, f1'⟩, ⟨g2, f2, f2'⟩⟩, hp⟩ := h
  obtain ⟨b1, b2, b3⟩ := hb
  obtain ⟨⟨c1, p1⟩, ⟨c2, p2⟩, ⟨c3, p3⟩⟩ := hp.exO he (hp.out l1)
  have hh : ∀ k, k < 113 → 50 ≤ k → s' k = s k := fun k g1 g2 => hs k g1 (by omega) (by omega) (by omega)
  refine ⟨?_, ⟨hl, l2.exO he (fun q hq z => (d2 q z).1 hq), l3.exO he (fun q hq z => (d2 q z).2 hq)⟩, ⟨⟨g1, he.at f1 (d1 _ (by simp)).1, fun i hi => by rw [hh _ (by omega) (by omega)]; exact f1' i hi⟩, ⟨g2, he.at f2 (d1 _ (by simp)).1, fun i hi => by rw [hh _ (by omega) (by omega)]; exact f2' i hi⟩⟩, ⟨by show s' 1 = nI (A.x1 ++ [v]).length; rw [hs1, List.length_append]; rfl, fun i hi => ?_⟩, ⟨by rw [hh _ (by decide) (by decide)]; exact c2, fun i hi => by have hi : i < A.x2.length := hi; rw [hh _ (by omega) (by omega), hh _ (by omega) (by omega), hh _ (by omega) (by omega)]; exact p2 i hi⟩, ⟨by rw [hh _ (by decide) (by decide)]; exact c3, fun i hi => by have hi : i < A.x3.length := hi; rw [hh _ (by omega) (by omega), hh _ (by omega) (by omega)]; exact p3 i hi⟩⟩
  · have e := he.at h1 (d1 _ (by simp)).1
    rw [hs 0 (by decide) (by decide) (by omega) (by omega), hh 50 (by decide) (by decide), hh 111 (by decide) (by decide), hh 112 (by decide) (by decide)]
    exact e
  · have hi : i < (A.x1 ++ [v]).length := hi
    rw [List.length_append] at hi
    have hi : i < A.x1.length + 1 := hi
    show X' (A.x1 ++ [v])[i] = _
    by_cases z : i = A.x1.length
    · subst z
      rw [List.getElem_append_right (Nat.le_refl _)]
      simpa using hv
    · rw [List.getElem_append_left (by omega), hs (26 + i) (by omega) (by omega) (by omega) (by omega), hs (2 + i) (by omega) (by omega) (by omega) (by omega)]
      exact p1 i (by omega)

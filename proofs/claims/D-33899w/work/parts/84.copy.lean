/-! THE PLAIN LAW: a Works copied, whole -/
set_option maxRecDepth 100000
theorem st_list {E kc ks mc ms : Nat} {Xk : hX} {w i : Nat} {fs : List Value} {post : hX → Prop} (hw : Xk w = some (.inr (2, fs))) (hi : i < fs.length) (hkc : kc + 1 ≤ mc) (hks : ks + 3 ≤ ms)
    (hp : ∀ (q : Nat) (X1 : hX), Xk q = none → ext [w] Xk X1 → X1 w = some (.inr (2, fs.set i (.ref q))) → listX E X1 q E [] → post X1) : newO Xk 8 [.int 0, .null, .int 0] 3 kc ks mc ms (fun a X1 => wpJ2_init (fun X2 => pfV X2 w 2 i (.ref a) post) E X1 a) := by
  refine ⟨hkc, hks, fun q hq => wp_linit (hup_s _ _ _) (fun X2 hl he => ?_)⟩
  have hwq : w ≠ q := ne_of_none hw hq
  have hw2 : X2 w = some (.inr (2, fs)) := he.at ((hup_n _ _ hwq).trans hw) (by simpa using hwq)
  refine pfV_of hw2 hi ?_
  refine hp q _ hq (fun b hb1 hb2 => ?_) (hup_s _ _ _) (hl.exO (o := [w]) (ext.up (Or.inl (by simp))) (fun b hb => by
    have : b = q := by simpa [lcs] using hb
    rw [this]
    simpa using Ne.symm hwq))
  have hbw : b ≠ w := by simpa using hb1
  have hbq : b ≠ q := fun z => hb2 (by rw [z]; exact hq)
  rw [hup_n _ _ hbw, he b (by simpa using hbq) (by rw [hup_n _ _ hbq]; exact hb2), hup_n _ _ hbq]
theorem st_clone {kc ks mc ms : Nat} {Xk : hX} {w i b N : Nat} {g : Nat → Int32} {fs : List Value} {post : Nat → hX → Prop} (hw : Xk w = some (.inr (2, fs))) (hb : Xk b = some (.inl (0, N, .inl g))) (hi : i < fs.length) (hkc : kc + 1 ≤ mc) (hks : ks + N ≤ ms)
    (hp : ∀ (q : Nat) (X1 : hX), Xk q = none → ext [w] Xk X1 → X1 w = some (.inr (2, fs.set i (.ref q))) → X1 q = some (.inl (0, N, .inl g)) → post N X1) : cloI Xk b kc ks mc ms (fun n a X1 => ((∃ v, X1 a = some (.inl (0, v))) ∧ pfV X1 w 2 i (.ref a) (fun X2 => post n X2))) := by
  refine ⟨N, g, hb, hkc, hks, fun q hq => ⟨⟨_, hup_s _ _ _⟩, ?_⟩⟩
  have hwq : w ≠ q := ne_of_none hw hq
  refine pfV_of ((hup_n _ _ hwq).trans hw) hi (hp q _ hq (fun c hc1 hc2 => ?_) (hup_s _ _ _) ((hup_n _ _ (Ne.symm hwq)).trans (hup_s _ _ _)))
  have hcw : c ≠ w := by simpa using hc1
  have hcq : c ≠ q := fun z => hc2 (by rw [z]; exact hq)
  rw [hup_n _ _ hcw, hup_n _ _ hcq]
theorem listX.at {E : Nat} {X : hX} {l arr : Nat} {xs : List Nat} (h : listX E X l arr xs) : X l ≠ none := by
  obtain ⟨⟨md, h1⟩, -⟩ := h
  rw [h1]
  exact fun z => by cases z
theorem listX.one {E : Nat} {X X' : hX} {l o : Nat} (h : listX E X l E []) (he : ext [o] X X') (hd : l ≠ o) : listX E X' l E [] := h.exO he (fun b hb => by
  have : b = l := by simpa [lcs] using hb
  rw [this]
  simpa using hd)
/-- a list's cells that a step elsewhere leaves -/
theorem listX.far {E : Nat} {X X' : hX} {l arr o : Nat} {xs : List Nat} (h : listX E X l arr xs) (he : ext [o] X X') (hd : l ≠ o) (hda : xs ≠ [] → arr ≠ o) : listX E X' l arr xs := h.exO he (fun b hb => by
  unfold lcs at hb
  split at hb
  · rw [List.mem_singleton.mp hb]; simpa using hd
  · rename_i z
    rcases List.mem_cons.mp hb with y | y
    · rw [y]; simpa using hd
    · rw [List.mem_singleton.mp y]; simpa using hda z)
theorem lcs_mem {l arr q : Nat} {xs : List Nat} (hq : q ∈ lcs l arr xs) : q = l ∨ (xs ≠ [] ∧ q = arr) := by
  unfold lcs at hq
  split at hq
  · exact Or.inl (List.mem_singleton.mp hq)
  · rename_i z
    rcases List.mem_cons.mp hq with y | y
    · exact Or.inl y
    · exact Or.inr ⟨z, List.mem_singleton.mp y⟩
theorem lcs_nd {l arr : Nat} {xs : List Nat} (h : xs ≠ [] → arr ≠ l) : (lcs l arr xs).Nodup := by
  unfold lcs
  split
  · simp
  · rename_i z
    simpa using Ne.symm (h z)
theorem lcs_dis {l arr l' arr' : Nat} {xs xs' : List Nat} (h1 : l ≠ l') (h2 : xs' ≠ [] → arr' ≠ l) (h3 : xs ≠ [] → arr ≠ l') (h4 : xs ≠ [] → xs' ≠ [] → arr ≠ arr') : ∀ a ∈ lcs l arr xs, ∀ b ∈ lcs l' arr' xs', a ≠ b := by
  intro a ha b hb
  rcases lcs_mem ha with rfl | ⟨z1, rfl⟩ <;> rcases lcs_mem hb with rfl | ⟨z2, rfl⟩
  · exact h1
  · exact Ne.symm (h2 z2)
  · exact h3 z1
  · exact h4 z1 z2
theorem wk_nd {w f1 f2 l1 l2 l3 a1 a2 a3 : Nat} {x1 x2 x3 : List Nat} (base : [w, f1, f2, l1, l2, l3].Nodup) (b1 : x1 ≠ [] → a1 ∉ [w, f1, f2, l1, l2, l3]) (b2 : x2 ≠ [] → a2 ∉ [w, f1, f2, l1, l2, l3] ∧ (x1 ≠ [] → a2 ≠ a1)) (b3 : x3 ≠ [] → a3 ∉ [w, f1, f2, l1, l2, l3] ∧ (x1 ≠ [] → a3 ≠ a1) ∧ (x2 ≠ [] → a3 ≠ a2)) : (wkO ((w, l1, l2, l3, f1, f2), (a1, a2, a3), (x1, x2, x3))).Nodup := by
  show ([w, f1, f2] ++ lcs l1 a1 x1 ++ lcs l2 a2 x2 ++ lcs l3 a3 x3).Nodup
  simp only [List.nodup_cons, List.mem_cons, List.not_mem_nil, or_false, not_or, List.nodup_nil, and_true, not_false_eq_true] at base b1 b2 b3
  obtain ⟨⟨p1, p2, p3, p4, p5⟩, ⟨p6, p7, p8, p9⟩, ⟨p10, p11, p12⟩, ⟨p13, p14⟩, p15⟩ := base
  have d0 : ∀ (l arr : Nat) (xs : List Nat), w ≠ l → f1 ≠ l → f2 ≠ l → (xs ≠ [] → arr ≠ w ∧ arr ≠ f1 ∧ arr ≠ f2) → ∀ a ∈ [w, f1, f2], ∀ b ∈ lcs l arr xs, a ≠ b := fun l arr xs h1 h2 h3 h4 a ha b hb => by
    simp only [List.mem_cons, List.not_mem_nil, or_false] at ha
    rcases lcs_mem hb with rfl | ⟨z, rfl⟩
    · rcases ha with rfl | rfl | rfl
      · exact h1
      · exact h2
      · exact h3
    · obtain ⟨g1, g2, g3⟩ := h4 z
      rcases ha with rfl | rfl | rfl
      · exact Ne.symm g1
      · exact Ne.symm g2
      · exact Ne.symm g3
  have n0 : [w, f1, f2].Nodup := by simp [p1, p2, p6]
  have e1 := d0 l1 a1 x1 p3 p7 p10 (fun z => ⟨(b1 z).1, (b1 z).2.1, (b1 z).2.2.1⟩)
  have e2 := d0 l2 a2 x2 p4 p8 p11 (fun z => ⟨(b2 z).1.1, (b2 z).1.2.1, (b2 z).1.2.2.1⟩)
  have e3 := d0 l3 a3 x3 p5 p9 p12 (fun z => ⟨(b3 z).1.1, (b3 z).1.2.1, (b3 z).1.2.2.1⟩)
  have e12 := lcs_dis (l := l1) (arr := a1) (l' := l2) (arr' := a2) (xs := x1) (xs' := x2) p13 (fun z => (b2 z).1.2.2.2.1) (fun z => (b1 z).2.2.2.2.1) (fun z1 z2 => Ne.symm ((b2 z2).2 z1))
  have e13 := lcs_dis (l := l1) (arr := a1) (l' := l3) (arr' := a3) (xs := x1) (xs' := x3) p14 (fun z => (b3 z).1.2.2.2.1) (fun z => (b1 z).2.2.2.2.2) (fun z1 z2 => Ne.symm ((b3 z2).2.1 z1))
  have e23 := lcs_dis (l := l2) (arr := a2) (l' := l3) (arr' := a3) (xs := x2) (xs' := x3) p15 (fun z => (b3 z).1.2.2.2.2.1) (fun z => (b2 z).1.2.2.2.2.2) (fun z1 z2 => Ne.symm ((b3 z2).2.2 z1))
  refine List.nodup_append.mpr ⟨List.nodup_append.mpr ⟨List.nodup_append.mpr ⟨n0, lcs_nd (fun z => (b1 z).2.2.2.1), e1⟩, lcs_nd (fun z => (b2 z).1.2.2.2.2.1), ?_⟩, lcs_nd (fun z => (b3 z).1.2.2.2.2.2), ?_⟩
  · intro a ha b hb
    rcases List.mem_append.mp ha with ha | ha
    · exact e2 a ha b hb
    · exact e12 a ha b hb
  · intro a ha b hb
    rcases List.mem_append.mp ha with ha | ha
    · rcases List.mem_append.mp ha with ha | ha
      · exact e3 a ha b hb
      · exact e13 a ha b hb
    · exact e23 a ha b hb
set_option maxHeartbeats 4000000 in
theorem wp_copy {E mc ms : Nat} {post : hX → Prop} {A : wkA} {s : row} {w : Nat} {X : hX} (h : wkX E X A s) (hw : X w = some (.inr (2, [.null, .null, .null, .null, .null, .int 0, .int 0, .int 0, .int 0]))) (hwA : ¬ wkC A w) (h1 : A.x1.length ≤ 24) (h2 : A.x2.length ≤ 24) (h3 : A.x3.length ≤ 24) (hmc : 100 ≤ mc) (hms : 3200 ≤ ms)
    (hp : ∀ (X1 : hX) (A1 : wkA), A1.w = w → A1.x1 = A.x1 → A1.x2 = A.x2 → A1.x3 = A.x3 → wkX E X1 A1 s → (wkO A1).Nodup → (∀ q ∈ wkO A1, q = w ∨ X q = none) → ext [w] X X1 → post X1) : wpX2_init_2 post E mc ms X w A.w := by
  have src : ∀ {Y : hX}, ext [w] X Y → wkX E Y A s := fun he => h.exO he (fun q hq z => hwA (by rw [← List.mem_singleton.mp z]; exact hq))
  unfold wpX2_init_2
  refine st_list hw (by show 0 < 9; decide) (by omega) (by omega) (fun l1 Y1 n1 e1 w1 L1 => ?_)
  refine st_list w1 (by show 1 < 9; decide) (by omega) (by omega) (fun l2 Y2 n2 e2 w2 L2 => ?_)
  have d12 : l1 ≠ l2 := fun z => L1.at (by rw [z]; exact n2)
  have d1w : l1 ≠ w := fun z => by rw [z, hw] at n1; cases n1
  have d2w : l2 ≠ w := fun z => by rw [z, w1] at n2; cases n2
  have L12 : listX E Y2 l1 E [] := L1.one e2 d1w
  refine st_list w2 (by show 2 < 9; decide) (by omega) (by omega) (fun l3 Y3 n3 e3 w3 L3 => ?_)
  have d13 : l1 ≠ l3 := fun z => L12.at (by rw [z]; exact n3)
  have d23 : l2 ≠ l3 := fun z => L2.at (by rw [z]; exact n3)
  have d3w : l3 ≠ w := fun z => by rw [z, w2] at n3; cases n3
  have L13 : listX E Y3 l1 E [] := L12.one e3 d1w
  have L23 : listX E Y3 l2 E [] := L2.one e3 d2w
  refine pfV_of w3 (by show 5 < 9; decide) ?_
  generalize hY4 : hup Y3 w _ = Y4
  have w4 : Y4 w = some (.inr (2, [.ref l1, .ref l2, .ref l3, .null, .null, .int 1, .int 0, .int 0, .int 0])) := by rw [← hY4]; exact hup_s _ _ _
  have e4 : ext [w] Y3 Y4 := by rw [← hY4]; exact ext.up (Or.inl (by simp))
  have E4 : ext [w] X Y4 := ((e1.trans e2).trans e3).trans e4
  have S4 := src E4
  obtain ⟨⟨g1, G1, G1'⟩, ⟨g2, G2, G2'⟩⟩ := S4.2.2.1
  refine gfA_of S4.1 rfl (st_clone (post := fun n X_163 => gfA X_163 A.w 2 4 (fun v_165 => cloI X_163 v_165 ((((0 + 1) + 1) + 1) + 1) ((((0 + 3) + 3) + 3) + n) mc ms (fun n_169 a_168 X_170 => ((∃ w, X_170 a_168 = some (.inl (0, w))) ∧ pfV X_170 w 2 4 (.ref a_168) (fun X_176 => ∃ fu : Nat, wpX2_init_2_72 post E mc ms fu w A.w 0 X_176 (((((0 + 1) + 1) + 1) + 1) + 1) (((((0 + 3) + 3) + 3) + n) + n_169)))))) w4 G1 (by show 3 < 9; decide) (by omega) (by omega) (fun f1 Y5 n5 e5 w5 F1 => ?_))
  have E5 : ext [w] X Y5 := E4.trans e5
  have S5 := src E5
  have G25 : Y5 A.f2 = some (.inl (0, 16, .inl g2)) := e5.at G2 (by simpa using fun z => hwA (Or.inl (by rw [← z]; simp [wkO])))
  refine gfA_of S5.1 rfl (st_clone (post := fun n X_176 => ∃ fu : Nat, wpX2_init_2_72 post E mc ms fu w A.w 0 X_176 (((((0 + 1) + 1) + 1) + 1) + 1) (((((0 + 3) + 3) + 3) + 16) + n)) w5 G25 (by show 4 < 9; decide) (by omega) (by omega) (fun f2 Y6 n6 e6 w6 F2 => ?_))
  have E6 : ext [w] X Y6 := E5.trans e6
  have hf1w : f1 ≠ w := fun z => by rw [z, w4] at n5; cases n5
  have hf2w : f2 ≠ w := fun z => by rw [z, w5] at n6; cases n6
  have F16 : Y6 f1 = some (.inl (0, 16, .inl g1)) := e6.at F1 (by simpa using hf1w)
  have df : f1 ≠ f2 := ne_of_none F1 n6
  have L1y : listX E Y6 l1 E [] := ((L13.one e4 d1w).one e5 d1w).one e6 d1w
  have L2y : listX E Y6 l2 E [] := ((L23.one e4 d2w).one e5 d2w).one e6 d2w
  have L3y : listX E Y6 l3 E [] := ((L3.one e4 d3w).one e5 d3w).one e6 d3w
  have w6' : Y6 w = some (.inr (2, [.ref l1, .ref l2, .ref l3, .ref f1, .ref f2, .int 1, .int 0, .int 0, .int 0])) := w6
  have X1n : X l1 = none := n1
  have X2n : X l2 = none := fresh_of e1 n2 (by simpa using d2w)
  have X3n : X l3 = none := fresh_of (e1.trans e2) n3 (by simpa using d3w)
  have X4n : X f1 = none := fresh_of E4 n5 (by simpa using hf1w)
  have X5n : X f2 = none := fresh_of E5 n6 (by simpa using hf2w)
  have old : ∀ q, wkC A q → X q ≠ none := fun q hq => by
    obtain ⟨k1, ⟨k2, k3, k4⟩, ⟨⟨_, k5, -⟩, ⟨_, k6, -⟩⟩, kp⟩ := h
    have lc : ∀ {l arr : Nat} {xs : List Nat}, listX E X l arr xs → ∀ q ∈ lcs l arr xs, X q ≠ none := fun hl q hq => by
      unfold lcs at hq
      split at hq
      · rw [List.mem_singleton.mp hq]; exact hl.at
      · rename_i z
        rcases List.mem_cons.mp hq with y | y
        · rw [y]; exact hl.at
        · rw [List.mem_singleton.mp y]
          obtain ⟨n, f, ha, -⟩ := hl.arr (i := 0) (List.length_pos_iff.mpr z)
          rw [ha]; exact fun z => by cases z
    obtain ⟨o1, o2, o3⟩ := obX_wheel kp
    have ob : obX X q → X q ≠ none := fun hz => by
      obtain ⟨ci, fs, -, z⟩ := hz
      rw [z]
      exact fun y => by cases y
    rcases hq with hq | hq | hq | hq
    · simp only [wkO, List.mem_append, List.mem_cons, List.not_mem_nil, or_false] at hq
      rcases hq with ((hq | hq) | hq) | hq
      · rcases hq with rfl | rfl | rfl
        · rw [k1]; exact fun y => by cases y
        · rw [k5]; exact fun y => by cases y
        · rw [k6]; exact fun y => by cases y
      · exact lc k2 q hq
      · exact lc k3 q hq
      · exact lc k4 q hq
    · exact ob (o1 q hq)
    · exact ob (o2 q hq)
    · exact ob (o3 q hq)
  have dC : ∀ {b : Nat}, X b = none → ∀ q, wkC A q → q ≠ b := fun hb q hq z => old q hq (by rw [z]; exact hb)
  refine ⟨A.x1.length + 1, ?_⟩
  refine wp_cp72 (Xs := Y6) (l := l1) (kc0 := 5) (ks0 := 41) (src E6) (dC X1n) w6' (Ne.symm d1w) rfl h1 (by omega) (by omega) (fun Z1 a1 kc1 ks1 b1 b2 z1 M1 m1 => ?_) A.x1.length 0 (by omega) Y6 E _ _ (by omega) (by omega) (ext.refl _ _) (by simpa using L1y) (fun z => absurd (List.take_zero ..) z)
  have wZ1 := z1.at w6' (by simpa using Ne.symm d1w)
  have SZ1 : wkX E Z1 A s := (src E6).exO z1 (fun q hq z => dC X1n q hq (List.mem_singleton.mp z))
  refine ⟨A.x2.length + 1, ?_⟩
  refine wp_cp110 (Xs := Z1) (l := l2) (kc0 := 29) (ks0 := 1001) SZ1 (dC X2n) wZ1 (Ne.symm d2w) rfl h2 (by omega) (by omega) (fun Z2 a2 kc2 ks2 b3 b4 z2 M2 m2 => ?_) A.x2.length 0 (by omega) Z1 E _ _ (by omega) (by omega) (ext.refl _ _) (by simpa using L2y.one z1 (Ne.symm d12)) (fun z => absurd (List.take_zero ..) z)
  have wZ2 := z2.at wZ1 (by simpa using Ne.symm d2w)
  have SZ2 : wkX E Z2 A s := SZ1.exO z2 (fun q hq z => dC X2n q hq (List.mem_singleton.mp z))
  refine ⟨A.x3.length + 1, ?_⟩
  refine wp_cp148 (Xs := Z2) (l := l3) (kc0 := 53) (ks0 := 1961) SZ2 (dC X3n) wZ2 (Ne.symm d3w) rfl h3 (by omega) (by omega) (fun Z3 a3 kc3 ks3 b5 b6 z3 M3 m3 => ?_) A.x3.length 0 (by omega) Z2 E _ _ (by omega) (by omega) (ext.refl _ _) (by simpa using (L3y.one z1 (Ne.symm d13)).one z2 (Ne.symm d23)) (fun z => absurd (List.take_zero ..) z)
  have wZ3 := z3.at wZ2 (by simpa using Ne.symm d3w)
  have SZ3 : wkX E Z3 A s := SZ2.exO z3 (fun q hq z => dC X3n q hq (List.mem_singleton.mp z))
  have hAw : A.w ≠ w := fun z => hwA (Or.inl (by rw [← z]; simp [wkO]))
  refine gfI_of SZ3.1 rfl (pfV_of wZ3 (by show 5 < 9; decide) ?_)
  refine gfI_of ((hup_n _ _ hAw).trans SZ3.1) rfl (pfV_of (hup_s _ _ _) (by show 6 < 9; decide) ?_)
  rw [hup_hup]
  refine gfI_of ((hup_n _ _ hAw).trans SZ3.1) rfl (pfV_of (hup_s _ _ _) (by show 7 < 9; decide) ?_)
  rw [hup_hup]
  refine gfI_of ((hup_n _ _ hAw).trans SZ3.1) rfl (pfV_of (hup_s _ _ _) (by show 8 < 9; decide) ?_)
  rw [hup_hup]
  generalize hZ4 : hup Z3 w _ = Z4
  have wZ4 : Z4 w = some (.inr (2, [.ref l1, .ref l2, .ref l3, .ref f1, .ref f2, .int (s 0), .int (s 50), .int (s 111), .int (s 112)])) := by rw [← hZ4]; exact hup_s _ _ _
  have z4 : ext [w] Z3 Z4 := by rw [← hZ4]; exact ext.up (Or.inl (by simp))
  have nY : ∀ {b : Nat} {e : va_E}, Y6 b = some e → ∀ {a : Nat}, Y6 a = none → a ≠ b := fun hb _ ha => Ne.symm (ne_of_none hb ha)
  have y1 : Y6 l1 ≠ none := L1y.at
  have y2 : Y6 l2 ≠ none := L2y.at
  have y3 : Y6 l3 ≠ none := L3y.at
  have dn : ∀ {Y : hX} {a b : Nat}, Y a = none → Y b ≠ none → a ≠ b := fun ha hb z => hb (by rw [← z]; exact ha)
  have s4 : ∀ {Y : hX} {b : Nat} {e : va_E}, Y b = some e → Y b ≠ none := fun hb z => by rw [z] at hb; cases hb
  have df1l1 : f1 ≠ l1 := dn n5 (L13.one e4 d1w).at
  have df1l2 : f1 ≠ l2 := dn n5 (L23.one e4 d2w).at
  have df1l3 : f1 ≠ l3 := dn n5 (L3.one e4 d3w).at
  have df2l1 : f2 ≠ l1 := dn n6 ((L13.one e4 d1w).one e5 d1w).at
  have df2l2 : f2 ≠ l2 := dn n6 ((L23.one e4 d2w).one e5 d2w).at
  have df2l3 : f2 ≠ l3 := dn n6 ((L3.one e4 d3w).one e5 d3w).at
  -- what is alive in Y6 is alive later
  have up1 : ∀ {b : Nat}, Y6 b ≠ none → Z1 b ≠ none := fun {b} hb => by
    by_cases z : b = l1
    · rw [z]; exact M1.at
    · rw [z1 b (by simpa using z) hb]; exact hb
  have up2 : ∀ {b : Nat}, Z1 b ≠ none → Z2 b ≠ none := fun {b} hb => by
    by_cases z : b = l2
    · rw [z]; exact M2.at
    · rw [z2 b (by simpa using z) hb]; exact hb
  have A1 : A.x1 ≠ [] → a1 ∉ [w, f1, f2, l1, l2, l3] := fun hne => by
    have g := m1 hne
    simp only [List.mem_cons, List.not_mem_nil, or_false, not_or]
    exact ⟨dn g (s4 w6'), dn g (s4 F16), dn g (s4 F2), dn g y1, dn g y2, dn g y3⟩
  have A2 : A.x2 ≠ [] → a2 ∉ [w, f1, f2, l1, l2, l3] := fun hne => by
    have g := m2 hne
    simp only [List.mem_cons, List.not_mem_nil, or_false, not_or]
    exact ⟨dn g (up1 (s4 w6')), dn g (up1 (s4 F16)), dn g (up1 (s4 F2)), dn g (up1 y1), dn g (up1 y2), dn g (up1 y3)⟩
  have A3 : A.x3 ≠ [] → a3 ∉ [w, f1, f2, l1, l2, l3] := fun hne => by
    have g := m3 hne
    simp only [List.mem_cons, List.not_mem_nil, or_false, not_or]
    exact ⟨dn g (up2 (up1 (s4 w6'))), dn g (up2 (up1 (s4 F16))), dn g (up2 (up1 (s4 F2))), dn g (up2 (up1 y1)), dn g (up2 (up1 y2)), dn g (up2 (up1 y3))⟩
  have live : ∀ {Y : hX} {l arr : Nat} {xs : List Nat}, listX E Y l arr xs → xs ≠ [] → Y arr ≠ none := fun hl hne => by
    obtain ⟨n, f, ha, -⟩ := hl.arr (i := 0) (List.length_pos_iff.mpr hne)
    exact s4 ha
  have nd : (wkO ((w, l1, l2, l3, f1, f2), (a1, a2, a3), (A.x1, A.x2, A.x3))).Nodup := wk_nd (by
    simp only [List.nodup_cons, List.mem_cons, List.not_mem_nil, or_false, not_or, List.nodup_nil, and_true, not_false_eq_true]
    omega) A1 (fun hne => ⟨A2 hne, fun h1' => dn (m2 hne) (live M1 h1')⟩) (fun hne => ⟨A3 hne, fun h1' => dn (m3 hne) (up2 (live M1 h1')), fun h2' => dn (m3 hne) (live M2 h2')⟩)
  have A1' := fun hne => A1 hne
  simp only [List.mem_cons, List.not_mem_nil, or_false, not_or] at A1 A2 A3
  have N1 : listX E Z4 l1 a1 A.x1 := ((M1.far z2 d12 (fun hne => (A1 hne).2.2.2.2.1)).far z3 d13 (fun hne => (A1 hne).2.2.2.2.2)).far z4 d1w (fun hne => (A1 hne).1)
  have N2 : listX E Z4 l2 a2 A.x2 := (M2.far z3 d23 (fun hne => (A2 hne).2.2.2.2.2)).far z4 d2w (fun hne => (A2 hne).1)
  have N3 : listX E Z4 l3 a3 A.x3 := M3.far z4 d3w (fun hne => (A3 hne).1)
  have f1Z : Z4 f1 = some (.inl (0, 16, .inl g1)) := z4.at (z3.at (z2.at (z1.at F16 (by simpa using df1l1)) (by simpa using df1l2)) (by simpa using df1l3)) (by simpa using hf1w)
  have f2Z : Z4 f2 = some (.inl (0, 16, .inl g2)) := z4.at (z3.at (z2.at (z1.at F2 (by simpa using df2l1)) (by simpa using df2l2)) (by simpa using df2l3)) (by simpa using hf2w)
  -- what X holds, but at w, is held to the end
  have EE : ∀ q, q ≠ w → X q ≠ none → Z4 q = X q := fun q hq1 hq2 => by
    have r6 := E6 q (by simpa using hq1) hq2
    have hq3 : ∀ {b : Nat}, X b = none → q ∉ [b] := fun hb z => hq2 (by rw [List.mem_singleton.mp z]; exact hb)
    have r7 := z1 q (hq3 X1n) (by rw [r6]; exact hq2)
    have r8 := z2 q (hq3 X2n) (by rw [r7, r6]; exact hq2)
    have r9 := z3 q (hq3 X3n) (by rw [r8, r7, r6]; exact hq2)
    rw [z4 q (by simpa using hq1) (by rw [r9, r8, r7, r6]; exact hq2), r9, r8, r7, r6]
  have Xa : ∀ {Y : hX} {a : Nat}, Y a = none → (∀ q, q ≠ w → X q ≠ none → Y q ≠ none) → a ≠ w → X a = none := fun {Y a} ha hY haw => by
    cases hx : X a with
    | none => rfl
    | some e => exact absurd ha (hY a haw (by rw [hx]; exact fun z => by cases z))
  have k6 : ∀ q, q ≠ w → X q ≠ none → Y6 q ≠ none := fun q h1 h2 => by rw [E6 q (by simpa using h1) h2]; exact h2
  refine hp Z4 ((w, l1, l2, l3, f1, f2), (a1, a2, a3), (A.x1, A.x2, A.x3)) rfl rfl rfl rfl ⟨wZ4, ⟨N1, N2, N3⟩, ⟨⟨g1, f1Z, G1'⟩, ⟨g2, f2Z, G2'⟩⟩, SZ3.2.2.2.exO z4 (fun q hq z => hwA (by rw [← List.mem_singleton.mp z]; exact Or.inr hq))⟩ nd (fun q hq => ?_) (fun q hq1 hq2 => EE q (by simpa using hq1) hq2)
  have lc : ∀ {l arr : Nat} {xs : List Nat}, q ∈ lcs l arr xs → q = l ∨ (xs ≠ [] ∧ q = arr) := fun hq => by
    unfold lcs at hq
    split at hq
    · exact Or.inl (List.mem_singleton.mp hq)
    · rename_i z
      rcases List.mem_cons.mp hq with y | y
      · exact Or.inl y
      · exact Or.inr ⟨z, List.mem_singleton.mp y⟩
  simp only [wkO, List.mem_append, List.mem_cons, List.not_mem_nil, or_false] at hq
  rcases hq with (((hq | hq | hq) | hq) | hq) | hq
  · exact Or.inl hq
  · exact Or.inr (by rw [hq]; exact X4n)
  · exact Or.inr (by rw [hq]; exact X5n)
  · rcases lc hq with hq | ⟨hne, hq⟩
    · exact Or.inr (by rw [hq]; exact X1n)
    · exact Or.inr (by rw [hq]; exact Xa (m1 hne) k6 (A1 hne).1)
  · rcases lc hq with hq | ⟨hne, hq⟩
    · exact Or.inr (by rw [hq]; exact X2n)
    · exact Or.inr (by rw [hq]; exact Xa (m2 hne) (fun q h1 h2 => up1 (k6 q h1 h2)) (A2 hne).1)
  · rcases lc hq with hq | ⟨hne, hq⟩
    · exact Or.inr (by rw [hq]; exact X3n)
    · exact Or.inr (by rw [hq]; exact Xa (m3 hne) (fun q h1 h2 => up2 (up1 (k6 q h1 h2))) (A3 hne).1)

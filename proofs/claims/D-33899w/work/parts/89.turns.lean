/-! THE PLAIN LAW: changes on a trial (1): axles, days -/
set_option maxRecDepth 100000
theorem wp_need1 {post : hX → Prop} {xpost : String → Nat → hX → Prop} {E mc ms : Nat} {X : hX} {k : Int32} (hp : post X) : wpX1_need post xpost E mc ms X 1 k := ⟨fun z => absurd z (by decide), fun _ => hp⟩
theorem wp_need0 {post : hX → Prop} {xpost : String → Nat → hX → Prop} {E mc ms : Nat} {X : hX} {k : Int32} (hmc : 1 ≤ mc) (hms : 7 ≤ ms) (hp : ∀ (q : Nat) (X' : hX), X' q = some (.inr (11, [.int k])) → ext [] X X' → xpost "ClockworkOrreries$Refused" q X') : wpX1_need post xpost E mc ms X 0 k :=
  ⟨fun _ => ⟨by omega, by omega, fun q hq => hp q _ (hup_s _ _ _) (ext.up (Or.inr hq))⟩, fun z => absurd rfl z⟩
/-- of a Works only the numbers of its own change -/
theorem wkX.obj {E : Nat} {X X' : hX} {A : wkA} {s s' : row} (h : wkX E X A s) (nd : (wkO A).Nodup) (he : ext [A.w] X X') (hw : X' A.w = some (.inr (2, [.ref A.l1, .ref A.l2, .ref A.l3, .ref A.f1, .ref A.f2, .int (s' 0), .int (s' 50), .int (s' 111), .int (s' 112)])))
    (hs : ∀ k, k ≠ 0 → k ≠ 50 → k ≠ 111 → k ≠ 112 → k < 113 → s' k = s k) (hb : wkB A) : wkX E X' A s' := by
  obtain ⟨h1, ⟨l1, l2, l3⟩, ⟨⟨g1, f1, f1'⟩, ⟨g2, f2, f2'⟩⟩, hp⟩ := h
  have hO : ∀ q, q ∈ [A.f1, A.f2] ++ lcs A.l1 A.a1 A.x1 ++ lcs A.l2 A.a2 A.x2 ++ lcs A.l3 A.a3 A.x3 → q ∉ [A.w] := fun q hq z => by
    have nd' : (A.w :: ([A.f1, A.f2] ++ lcs A.l1 A.a1 A.x1 ++ lcs A.l2 A.a2 A.x2 ++ lcs A.l3 A.a3 A.x3)).Nodup := nd
    rw [List.nodup_cons] at nd'
    rw [List.mem_singleton.mp z] at hq
    exact nd'.1 hq
  have hob := obX_wheel hp
  have hP : ∀ q, q ∈ A.x1 ∨ q ∈ A.x2 ∨ q ∈ A.x3 → q ∉ [A.w] := fun q hq z => by
    rw [List.mem_singleton.mp z] at hq
    obtain ⟨⟨-, p1⟩, ⟨-, p2⟩, ⟨-, p3⟩⟩ := hp
    rcases hq with hq | hq | hq
    · obtain ⟨i, hi, e⟩ := List.getElem_of_mem hq
      have := p1 i hi
      rw [e, h1] at this
      cases this
    · obtain ⟨i, hi, e⟩ := List.getElem_of_mem hq
      have := p2 i hi
      rw [e, h1] at this
      cases this
    · obtain ⟨i, hi, e⟩ := List.getElem_of_mem hq
      have := p3 i hi
      rw [e, h1] at this
      cases this
  obtain ⟨b1, b2, b3⟩ := hb
  obtain ⟨⟨c1, p1⟩, ⟨c2, p2⟩, ⟨c3, p3⟩⟩ := hp.exO he hP
  have hs' : ∀ k, 0 < k → k ≠ 50 → k < 111 → s' k = s k := fun k g1 g2 g3 => hs k (by omega) g2 (by omega) (by omega) (by omega)
  refine ⟨hw, ⟨l1.exO he (fun q hq => hO q (by simp [hq])), l2.exO he (fun q hq => hO q (by simp [hq])), l3.exO he (fun q hq => hO q (by simp [hq]))⟩, ⟨⟨g1, he.at f1 (hO _ (by simp)), fun i hi => by rw [hs' _ (by omega) (by omega) (by omega)]; exact f1' i hi⟩, ⟨g2, he.at f2 (hO _ (by simp)), fun i hi => by rw [hs' _ (by omega) (by omega) (by omega)]; exact f2' i hi⟩⟩, ⟨?_, fun i hi => ?_⟩, ⟨?_, fun i hi => ?_⟩, ⟨?_, fun i hi => ?_⟩⟩
  · rw [hs' _ (by omega) (by omega) (by omega)]; exact c1
  · rw [hs' _ (by omega) (by omega) (by omega), hs' _ (by omega) (by omega) (by omega)]; exact p1 i hi
  · rw [hs' _ (by omega) (by omega) (by omega)]; exact c2
  · rw [hs' _ (by omega) (by omega) (by omega), hs' _ (by omega) (by omega) (by omega), hs' _ (by omega) (by omega) (by omega)]; exact p2 i hi
  · rw [hs' _ (by omega) (by omega) (by omega)]; exact c3
  · rw [hs' _ (by omega) (by omega) (by omega), hs' _ (by omega) (by omega) (by omega)]; exact p3 i hi
theorem upd_s (f : row) (k : Nat) (v : Int32) : upd f k v k = v := by simp [upd]
theorem upd_n (f : row) {k j : Nat} (v : Int32) (h : j ≠ k) : upd f k v j = f j := by simp [upd, h]
/-- a trial's cells were not there, but its parts -/
theorem trialW.cells {E : Nat} {X : hX} {A A1 : wkA} {X1 : hX} {s : row} (ht : trialW E X A A1 X1 s) : ∀ q, wkC A1 q → X q = none ∨ wkC A q := fun q hq => by
  obtain ⟨a1, a2, a3, -, -, a6, -⟩ := ht
  rcases hq with hq | hq | hq | hq
  · exact Or.inl (a6 q hq)
  · exact Or.inr (Or.inr (Or.inl (by rw [← a1]; exact hq)))
  · exact Or.inr (Or.inr (Or.inr (Or.inl (by rw [← a2]; exact hq))))
  · exact Or.inr (Or.inr (Or.inr (Or.inr (by rw [← a3]; exact hq))))
theorem trialW.bnd {E : Nat} {X : hX} {A A1 : wkA} {X1 : hX} {s : row} (ht : trialW E X A A1 X1 s) (h : wkB A) : wkB A1 := by
  obtain ⟨a1, a2, a3, -⟩ := ht
  obtain ⟨b1, b2, b3⟩ := h
  exact ⟨by rw [a1]; exact b1, by rw [a2]; exact b2, by rw [a3]; exact b3⟩
theorem wp_btw {post : Int32 → Prop} {p lo hi : Int32} (h1 : lo ≤ p ∧ p ≤ hi → post 1) (h0 : ¬ (lo ≤ p ∧ p ≤ hi) → post 0) : wpX1_isBetween post (Int32.toInt64 p) (Int32.toInt64 lo) (Int32.toInt64 hi) := by
  unfold wpX1_isBetween
  rw [i64_lt, i64_lt]
  exact ⟨fun z => h0 (fun y => Int32.not_le.mpr z y.1), fun z => ⟨fun z2 => h0 (fun y => Int32.not_le.mpr z2 y.2), fun z2 => h1 ⟨Int32.not_lt.mp z, Int32.not_lt.mp z2⟩⟩⟩
/-- the outcomes, as functions of the row -/
def oAxle (s : row) : outW := if s 0 = 12 then .inl 2 else .inr (s 0 + 1 - 1, upd s 0 (s 0 + 1))
def oDay (s : row) (p : Int32) : outW := if 0 ≤ p ∧ p ≤ 1000000 then .inr (s 111, upd s 111 p) else .inl 1
theorem dn_axle {E : Nat} {X X1 : hX} {A A1 : wkA} {s : row} {Q : Int32 → hX → Prop} {XQ : String → Nat → hX → Prop} {p2 n : Nat} (ht : trialW E X A A1 X1 s) (hB : wkB A) (hn : n ≤ 12) (h0 : s 0 = nI n) (hd : doneW E X A A1 X1 (oAxle s) Q XQ) : wpX1_done Q XQ E 10 20 X1 A1.w 120 p2 := by
  have hc := ht.cells
  have hb := ht.bnd hB
  obtain ⟨a1, a2, a3, a4, a5, a6, a7⟩ := ht
  have e12 : (12 : Int32) = nI 12 := by decide +kernel
  have ab : ∀ {a b : Int32} {P : Prop}, a ≠ b → a = b → P := fun h z => absurd z h
  refine ⟨ab (by decide), fun _ => ⟨ab (by decide), fun _ => ⟨ab (by decide), fun _ => ⟨ab (by decide), fun _ => ⟨ab (by decide), fun _ => ⟨ab (by decide), fun _ => ⟨ab (by decide), fun _ => ⟨ab (by decide), fun _ => ⟨ab (by decide), fun _ => ⟨fun _ => ⟨a4.is, 10, 20, by omega, by omega, ?_⟩, fun z => absurd rfl z⟩⟩⟩⟩⟩⟩⟩⟩⟩⟩
  refine gfI_of a4.1 rfl ⟨fun z => ⟨10, 20, by omega, by omega, wp_need0 (by omega) (by omega) (fun q X' g1 g2 => ?_)⟩, fun z => ⟨10, 20, by omega, by omega, wp_need1 ?_⟩⟩
  · rw [h0, e12] at z
    have z := (nI_leI (by decide) (by omega)).mp z
    exact hd.2 2 (by unfold oAxle; rw [if_pos (by rw [h0, e12, show n = 12 by omega])]) X' q g1 (a7.trans g2)
  · have hne : ¬ s 0 = 12 := fun y => z (by rw [y]; decide)
    refine gfI_of a4.1 rfl (pfV_of a4.1 (by show 5 < 9; decide) (gfI_of (hup_s _ _ _) rfl ?_))
    generalize hX2 : hup X1 A1.w _ = X2
    have e2 : ext [A1.w] X1 X2 := by rw [← hX2]; exact ext.up (Or.inl (by simp))
    have w2 : wkX E X2 A1 (upd s 0 (s 0 + 1)) := a4.obj a5 e2 (by
      rw [← hX2, hup_s]
      rw [upd_s, upd_n _ _ (by decide), upd_n _ _ (by decide), upd_n _ _ (by decide)]
      rfl) (fun k g1 _ _ _ _ => upd_n _ _ g1) hb
    refine hd.1 _ (upd s 0 (s 0 + 1)) (by unfold oAxle; rw [if_neg hne]) X2 A1 rfl w2 hb hc (fun q hq hq2 => ?_)
    have hqw : q ≠ A1.w := fun y => hq2 (by rw [y]; exact a6 _ (by simp [wkO]))
    rw [e2 q (by simpa using hqw) (by rw [a7 q hq hq2]; exact hq2), a7 q hq hq2]
theorem dn_day {E : Nat} {X X1 : hX} {A A1 : wkA} {s : row} {Q : Int32 → hX → Prop} {XQ : String → Nat → hX → Prop} {p2 n : Nat} {p : Int32} {g : Nat → Int32} (ht : trialW E X A A1 X1 s) (hB : wkB A) (hp2 : X1 p2 = some (.inl (0, n, .inl g))) (hn : 0 < n ∧ n < 10) (hg : g 0 = p) (hd : doneW E X A A1 X1 (oDay s p) Q XQ) : wpX1_done Q XQ E 10 20 X1 A1.w 121 p2 := by
  have hc := ht.cells
  have hb := ht.bnd hB
  obtain ⟨a1, a2, a3, a4, a5, a6, a7⟩ := ht
  have ab : ∀ {a b : Int32} {P : Prop}, a ≠ b → a = b → P := fun h z => absurd z h
  refine ⟨ab (by decide), fun _ => ⟨ab (by decide), fun _ => ⟨ab (by decide), fun _ => ⟨ab (by decide), fun _ => ⟨ab (by decide), fun _ => ⟨ab (by decide), fun _ => ⟨ab (by decide), fun _ => ⟨ab (by decide), fun _ => ⟨ab (by decide), fun _ => ⟨ab (by decide), fun _ => ⟨fun _ => ?_, fun z => absurd rfl z⟩⟩⟩⟩⟩⟩⟩⟩⟩⟩⟩
  refine ⟨n, g, hp2, ?_, ⟨a4.is, 10, 20, by omega, by omega, ?_⟩⟩
  · have := vp_in_nI (n := 0) (N := n) hn.1 (by omega)
    rw [nI_0] at this
    exact this
  rw [show g (Int32.toNatClampNeg 0) = p from hg]
  unfold wpX2_setsDay
  rw [show (0 : Int64) = Int32.toInt64 0 by decide +kernel, show (1000000 : Int64) = Int32.toInt64 1000000 by decide +kernel]
  refine wp_btw (fun z => ⟨10, 20, by omega, by omega, wp_need1 ?_⟩) (fun z => ⟨10, 20, by omega, by omega, wp_need0 (by omega) (by omega) (fun q X' g1 g2 => ?_)⟩)
  · refine gfI_of a4.1 rfl (pfV_of a4.1 (by show 7 < 9; decide) ?_)
    generalize hX2 : hup X1 A1.w _ = X2
    have e2 : ext [A1.w] X1 X2 := by rw [← hX2]; exact ext.up (Or.inl (by simp))
    have w2 : wkX E X2 A1 (upd s 111 p) := a4.obj a5 e2 (by
      rw [← hX2, hup_s]
      rw [upd_s, upd_n _ _ (by decide), upd_n _ _ (by decide), upd_n _ _ (by decide)]
      rfl) (fun k _ _ g3 _ _ => upd_n _ _ g3) hb
    refine hd.1 _ (upd s 111 p) (by unfold oDay; rw [if_pos z]) X2 A1 rfl w2 hb hc (fun q hq hq2 => ?_)
    have hqw : q ≠ A1.w := fun y => hq2 (by rw [y]; exact a6 _ (by simp [wkO]))
    rw [e2 q (by simpa using hqw) (by rw [a7 q hq hq2]; exact hq2), a7 q hq hq2]
  · exact hd.2 1 (by unfold oDay; rw [if_neg z]) X' q g1 (a7.trans g2)

/-! THE PLAIN LAW: days pass, on both sides -/
set_option maxRecDepth 100000
def oPass (s : row) (p : Int32) : outW := if 1 ≤ p ∧ p ≤ 9999 then (if s 111 + p ≤ 1000000 then .inr (s 111 + p, upd (upd s 111 (s 111 + p)) 112 (s 112 + p)) else .inl 2) else .inl 1
theorem dn_pass {E : Nat} {X X1 : hX} {A A1 : wkA} {s : row} {Q : Int32 → hX → Prop} {XQ : String → Nat → hX → Prop} {p2 n : Nat} {p : Int32} {g : Nat → Int32} (ht : trialW E X A A1 X1 s) (hB : wkB A) (hp2 : X1 p2 = some (.inl (0, n, .inl g))) (hn : 0 < n ∧ n < 10) (hg : g 0 = p) (hd : doneW E X A A1 X1 (oPass s p) Q XQ) : wpX1_done Q XQ E 20 40 X1 A1.w 100 p2 := by
  have hc := ht.cells
  have hb := ht.bnd hB
  obtain ⟨a1, a2, a3, a4, a5, a6, a7⟩ := ht
  have ab : ∀ {a b : Int32} {P : Prop}, a ≠ b → a = b → P := fun h z => absurd z h
  refine ⟨ab (by decide), fun _ => ⟨ab (by decide), fun _ => ⟨fun _ => ?_, fun z => absurd rfl z⟩⟩⟩
  refine ⟨n, g, hp2, ?_, ⟨a4.is, 20, 40, by omega, by omega, ?_⟩⟩
  · have := vp_in_nI (n := 0) (N := n) hn.1 (by omega)
    rw [nI_0] at this
    exact this
  rw [show g (Int32.toNatClampNeg 0) = p from hg]
  unfold wpX2_goesOn
  rw [show (1 : Int64) = Int32.toInt64 1 by decide +kernel, show (9999 : Int64) = Int32.toInt64 9999 by decide +kernel]
  refine wp_btw (fun z => ⟨10, 20, by omega, by omega, wp_need1 ?_⟩) (fun z => ⟨10, 20, by omega, by omega, wp_need0 (by omega) (by omega) (fun q X' g1 g2 => ?_)⟩)
  · refine gfI_of a4.1 rfl ⟨fun y => ⟨10, 20, by omega, by omega, wp_need0 (by omega) (by omega) (fun q X' g1 g2 => ?_)⟩, fun y => ⟨10, 20, by omega, by omega, wp_need1 ?_⟩⟩
    · exact hd.2 2 (by unfold oPass; rw [if_pos z, if_neg (Int32.not_le.mpr y)]) X' q g1 (a7.trans g2)
    · refine gfI_of a4.1 rfl (pfV_of a4.1 (by show 7 < 9; decide) ?_)
      refine gfI_of (hup_s _ _ _) rfl (pfV_of (hup_s _ _ _) (by show 8 < 9; decide) ?_)
      rw [hup_hup]
      refine gfI_of (hup_s _ _ _) rfl ?_
      generalize hX2 : hup X1 A1.w _ = X2
      have e2 : ext [A1.w] X1 X2 := by rw [← hX2]; exact ext.up (Or.inl (by simp))
      have w2 : wkX E X2 A1 (upd (upd s 111 (s 111 + p)) 112 (s 112 + p)) := a4.obj a5 e2 (by
        rw [← hX2, hup_s]
        rw [upd_s, upd_n _ _ (by decide), upd_n _ _ (by decide), upd_n _ _ (by decide), upd_n _ _ (by decide), upd_n _ _ (by decide), upd_s]
        rfl) (fun k _ _ g3 g4 _ => by rw [upd_n _ _ g4, upd_n _ _ g3]) hb
      refine hd.1 _ (upd (upd s 111 (s 111 + p)) 112 (s 112 + p)) (by unfold oPass; rw [if_pos z, if_pos (Int32.not_lt.mp y)]) X2 A1 rfl w2 hb hc (fun q hq hq2 => ?_)
      have hqw : q ≠ A1.w := fun y => hq2 (by rw [y]; exact a6 _ (by simp [wkO]))
      rw [e2 q (by simpa using hqw) (by rw [a7 q hq hq2]; exact hq2), a7 q hq hq2]
  · exact hd.2 1 (by unfold oPass; rw [if_neg z]) X' q g1 (a7.trans g2)

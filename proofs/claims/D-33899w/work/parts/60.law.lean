/-! ROWS OF THE LAW: the component's world and the model's, side by side -/
set_option maxRecDepth 100000
def hdis (X : hX) (h : Nat) (a : Nat → Nat) : Prop := ∀ q, mA h a q → X q = none
theorem mw_of {K : KT} {h : Nat} {a : Nat → Nat} {F : mF} {R : mR} {L : mL} {G : mG} {q : Nat} (hq : mA h a q) : ∃ (k : Nat) (e : va_E), (mw K h a F R L G)[k]? = some (q, e) := by
  have e : (mw K h a F R L G).map (fun q => q.1) = mAl h a := rfl
  obtain ⟨k, hk⟩ := List.getElem?_of_mem hq
  rw [← e, List.getElem?_map] at hk
  cases hx : (mw K h a F R L G)[k]? with
  | none => rw [hx] at hk; cases hk
  | some x =>
    rw [hx] at hk
    cases hk
    exact ⟨k, x.2, hx⟩
theorem mP.lt {K : KT} {h : Nat} {a : Nat → Nat} {F : mF} {R : mR} {L : mL} {G : mG} {H : Heap} (hm : mP K h a F R L G H) {q : Nat} (hq : mA h a q) : q < H.size := by
  obtain ⟨k, e, hk⟩ := mw_of (K := K) (F := F) (R := R) (L := L) (G := G) hq
  exact (hm k _ hk).lt
theorem mP.kept {K : KT} {h : Nat} {a : Nat → Nat} {F : mF} {R : mR} {L : mL} {G : mG} {H H1 : Heap} (hm : mP K h a F R L G H) (hq : ∀ q, mA h a q → H1[q]? = H[q]?) : mP K h a F R L G H1 := by
  have e : (mw K h a F R L G).map (fun q => q.1) = mAl h a := rfl
  refine va_P.kept hm (fun k x hk => hq x.1 ?_)
  show x.1 ∈ mAl h a
  rw [← e]
  exact List.mem_map.mpr ⟨x, List.mem_of_getElem? hk, rfl⟩
theorem hI.kept {K : HK} {X0 X : hX} {N : Nat} {H H1 : Heap} (h : hI K X0 N X H) (hz : H.size ≤ H1.size) (hq : ∀ q, X q ≠ none → H1[q]? = H[q]?) : hI K X0 N X H1 := by
  obtain ⟨⟨h0, L, h1, h2, h3, h4⟩, hg⟩ := h
  refine ⟨⟨Nat.le_trans h0 hz, L, h1, h2, va_P.kept h3 (fun k x hk => hq x.1 ?_), h4⟩, hg⟩
  obtain ⟨b, hb, e2⟩ := List.mem_map.mp (show x ∈ va_pl L (hf K X) from List.mem_of_getElem? hk)
  rw [← e2]
  exact (h1 b).mp hb
/-- fewer cells -/
theorem hI.less {K : HK} {X0 X X1 : hX} {N : Nat} {H : Heap} (h : hI K X0 N X H) (hs : ∀ q, X1 q ≠ none → X1 q = X q) : hI K X0 N X1 H := by
  obtain ⟨⟨h0, L, h1, h2, h3, h4⟩, hg⟩ := h
  have hn : ∀ q, X1 q ≠ none → X q ≠ none := fun q hq => by rw [← hs q hq]; exact hq
  have hL : ∀ q, q ∈ L.filter (fun q => (X1 q).isSome) ↔ X1 q ≠ none := fun q => by
    rw [List.mem_filter]
    constructor
    · intro z hz
      rw [hz] at z
      exact absurd z.2 (by simp)
    · intro z
      refine ⟨(h1 q).mpr (hn q z), ?_⟩
      cases hx : X1 q with
      | none => exact absurd hx z
      | some y => rfl
  have hmem : ∀ (k : Nat) (x : Nat × va_E), ([] ++ va_pl (L.filter (fun q => (X1 q).isSome)) (hf K X1))[k]? = some x → ∃ k1 : Nat, ([] ++ va_pl L (hf K X))[k1]? = some x := fun k x hk => by
    obtain ⟨b, hb, e2⟩ := List.mem_map.mp (show x ∈ va_pl (L.filter (fun q => (X1 q).isSome)) (hf K X1) from List.mem_of_getElem? hk)
    have hb1 := (hL b).mp hb
    obtain ⟨k1, hk1⟩ := va_pl_get (X := []) (f := hf K X) ((h1 b).mpr (hn b hb1))
    refine ⟨k1, ?_⟩
    rw [hk1, ← e2]
    simp [hf, hs b hb1]
  have hnd0 : L.Nodup := by
    refine List.pairwise_iff_getElem.mpr (fun i j hi0 hj hij z => ?_)
    have hi : i < L.length := Nat.lt_trans hij hj
    have g : ∀ k : Nat, ∀ hk : k < L.length, ([] ++ va_pl L (hf K X))[k]? = some (L[k], hf K X L[k]) := fun k hk => by
      show (va_pl L (hf K X))[k]? = _
      simp [va_pl, List.getElem?_map, List.getElem?_eq_getElem hk]
    have e := h4.1 i j _ _ (g i hi) (g j hj) z
    omega
  have hnd : (L.filter (fun q => (X1 q).isSome)).Nodup := List.Pairwise.filter _ hnd0
  refine ⟨⟨h0, L.filter (fun q => (X1 q).isSome), hL, fun q hq => h2 q (List.mem_filter.mp hq).1, fun k x hk => ?_, ⟨fun i j x y hi hj e => ?_, fun _ _ _ => trivial⟩⟩, fun q hq => hg q (hn q hq)⟩
  · obtain ⟨k1, hk1⟩ := hmem k x hk
    exact h3 k1 x hk1
  · obtain ⟨bi, hbi, ei⟩ : ∃ b, (L.filter (fun q => (X1 q).isSome))[i]? = some b ∧ x.1 = b := by
      have hi' : (va_pl (L.filter (fun q => (X1 q).isSome)) (hf K X1))[i]? = some x := hi
      simp only [va_pl, List.getElem?_map] at hi'
      cases hx : (L.filter (fun q => (X1 q).isSome))[i]? with
      | none => rw [hx] at hi'; cases hi'
      | some b => rw [hx] at hi'; cases hi'; exact ⟨b, rfl, rfl⟩
    obtain ⟨bj, hbj, ej⟩ : ∃ b, (L.filter (fun q => (X1 q).isSome))[j]? = some b ∧ y.1 = b := by
      have hj' : (va_pl (L.filter (fun q => (X1 q).isSome)) (hf K X1))[j]? = some y := hj
      simp only [va_pl, List.getElem?_map] at hj'
      cases hx : (L.filter (fun q => (X1 q).isSome))[j]? with
      | none => rw [hx] at hj'; cases hj'
      | some b => rw [hx] at hj'; cases hj'; exact ⟨b, rfl, rfl⟩
    refine (List.getElem?_inj (List.getElem?_eq_some_iff.mp hbi).1 hnd).mp ?_
    rw [hbi, hbj, ← ei, ← ej, e]
section LROWS
variable {p : Program} {l : Launch} {e : Env} {R0 : Room} {s : State} {m : MethodId} {args : Array Value} {below : List Frame} {meth : Method} {c : Code} {H : Heap} {locs : List Loc} {cells slots mc ms mc1 ms1 : Nat} {Q : State → Prop}
variable {pc nL : Nat} {ls : Array Slot} {rest st As : List Value} {cc : ByteArray} {K : HK} {X0 X : hX} {index n maxL : Nat} {y : MethodName} {bytes : ByteArray} {ret : Option FieldType} {ws : List Cond} {rm : Room} {wp : Prop} {own : String} {b0 : Array Value}
variable {h : Nat} {a : Nat → Nat} {F : mF} {R : mR} {L : mL} {G : mG} {A : Nat → Prop}
/-- behind a call of the component -/
theorem l_after {u : hX} {H1 : Heap} (hP : hI K X0 s.heap.size X H) (hM : mP K.1 h a F R L G H) (hD : hdis X h a) (hB : hI K X H.size u H1) (hk : ∀ q : Nat, q < H.size → ¬ hA X H.size q → H1[q]? = H[q]?) : mP K.1 h a F R L G H1 ∧ hdis u h a := by
  refine ⟨hM.kept (fun q hq => hk q (hM.lt hq) (fun z => z.elim (fun y => y (hD q hq)) (fun y => Nat.not_le.mpr (hM.lt hq) y))), fun q hq => ?_⟩
  cases hx : u q with
  | none => rfl
  | some w =>
    rcases hB.2 q (by rw [hx]; exact fun z => by cases z) with z | z
    · exact absurd (hD q hq) z
    · exact absurd z (Nat.not_le.mpr (hM.lt hq))
theorem lk_i {post : Int32 → hX → Prop} (hr : va_Run p l e R0 s m args below meth c H locs cells slots mc1 ms1 (F0 m pc ls st) rest (hQi post K X H.size b0) (hA X H.size)) (hP : hI K X0 s.heap.size X H) (hM : mP K.1 h a F R L G H) (hD : hdis X h a) (hS : va_S (hA X0 s.heap.size) s.heap H locs)
    (kk : ∀ (r : Int32) (X1 : hX) (H1 : Heap) (locs1 : List Loc), post r X1 → hI K X0 s.heap.size X1 H1 → mP K.1 h a F R L G H1 → hdis X1 h a → va_S (hA X0 s.heap.size) s.heap H1 locs1 → W p l e R0 s m args below meth c H1 locs1 (cells + mc1) (slots + ms1) Q (F0 m (pc + 3) ls (.int r :: rest))) : W p l e R0 s m args below meth c H locs cells slots Q (F0 m pc ls st) :=
  va_calli hr hS (fun q _ h => hP.sub hS.1 q h) (fun q h => hP.sub hS.1 q h) (fun r u t H1 locs1 ht _ hp hB _ hk hS1 => by
    have hB' : hI K X H.size u H1 := by rw [← ht]; exact hB
    obtain ⟨g1, g2⟩ := l_after hP hM hD hB' hk
    exact kk r u H1 locs1 hp (hP.back hS.1 hB') g1 g2 hS1)
theorem lk_l {post : Int64 → hX → Prop} (hr : va_Run p l e R0 s m args below meth c H locs cells slots mc1 ms1 (F0 m pc ls st) rest (hQl post K X H.size b0) (hA X H.size)) (hP : hI K X0 s.heap.size X H) (hM : mP K.1 h a F R L G H) (hD : hdis X h a) (hS : va_S (hA X0 s.heap.size) s.heap H locs)
    (kk : ∀ (r : Int64) (X1 : hX) (H1 : Heap) (locs1 : List Loc), post r X1 → hI K X0 s.heap.size X1 H1 → mP K.1 h a F R L G H1 → hdis X1 h a → va_S (hA X0 s.heap.size) s.heap H1 locs1 → W p l e R0 s m args below meth c H1 locs1 (cells + mc1) (slots + ms1) Q (F0 m (pc + 3) ls (.long r :: rest))) : W p l e R0 s m args below meth c H locs cells slots Q (F0 m pc ls st) :=
  va_calll hr hS (fun q _ h => hP.sub hS.1 q h) (fun q h => hP.sub hS.1 q h) (fun r u t H1 locs1 ht _ hp hB _ hk hS1 => by
    have hB' : hI K X H.size u H1 := by rw [← ht]; exact hB
    obtain ⟨g1, g2⟩ := l_after hP hM hD hB' hk
    exact kk r u H1 locs1 hp (hP.back hS.1 hB') g1 g2 hS1)
theorem lkx_i {post : Int32 → hX → Prop} (hr : vx_Run p l e R0 s m args below meth c H locs cells slots mc1 ms1 (F0 m pc ls st) rest (hQi post K X H.size b0) (hXC (fun _ _ _ => False) K X H.size) (hA X H.size)) (hP : hI K X0 s.heap.size X H) (hM : mP K.1 h a F R L G H) (hD : hdis X h a) (hS : va_S (hA X0 s.heap.size) s.heap H locs)
    (kk : ∀ (r : Int32) (X1 : hX) (H1 : Heap) (locs1 : List Loc), post r X1 → hI K X0 s.heap.size X1 H1 → mP K.1 h a F R L G H1 → hdis X1 h a → va_S (hA X0 s.heap.size) s.heap H1 locs1 → W p l e R0 s m args below meth c H1 locs1 (cells + mc1) (slots + ms1) Q (F0 m (pc + 3) ls (.int r :: rest))) : W p l e R0 s m args below meth c H locs cells slots Q (F0 m pc ls st) :=
  vx_calli hr hS (fun q _ h => hP.sub hS.1 q h) (fun q h => hP.sub hS.1 q h) (fun q _ h => hP.sub hS.1 q h) (fun E ce q9 u t H1 locs1 ht _ _ hB _ _ hS1 g1 g2 g3 => hB.1.elim) (fun r u t H1 locs1 ht _ hp hB _ hk hS1 => by
    have hB' : hI K X H.size u H1 := by rw [← ht]; exact hB
    obtain ⟨g1, g2⟩ := l_after hP hM hD hB' hk
    exact kk r u H1 locs1 hp (hP.back hS.1 hB') g1 g2 hS1)
/-! the model's methods, from the law -/
theorem l_giveM (hF : CallFix p m c cc nL s args lw_all own) (hC : HC K X0 s) (hM : mP K.1 h a F R L G H) (hw : wp) : PreV s H RX3 h (mPre K.1 h a F R L G As wp) As :=
  ⟨m_blind, va_recv (q0 := 0) (ci := 0) hC.2.2.2 hM rfl rfl, fun U hU hW => ⟨rfl, by rw [hU]; exact hM, KN.moved hW.alike hC.2.2.2, hw⟩⟩
theorem l_afterM {F1 : mF} {R1 : mR} {L1 : mL} {G1 : mG} {H1 : Heap} (hP : hI K X0 s.heap.size X H) (hD : hdis X h a) (hz : H.size ≤ H1.size) (hk : ∀ q : Nat, q < H.size → ¬ mA h a q → H1[q]? = H[q]?) : hI K X0 s.heap.size X H1 :=
  hP.kept hz (fun q hq => hk q (hP.1.lt hq) (fun z => hq (hD q z)))
theorem lm_i {post : Int32 → mF → mR → mL → mG → Prop} (hF : CallFix p m c cc nL s args lw_all own) (hls : ls.size = nL) (hC : HC K X0 s) (hMt : Met l y ws rm (mPre K.1 h a F R L G As wp) (mQi post K.1 h a) 0 0 (mA h a)) (cw : CallW R0 s args own RX3 index y bytes maxL ret ws rm 0 0 n) (hP : hI K X0 s.heap.size X H) (hM : mP K.1 h a F R L G H) (hD : hdis X h a) (hS : va_S (hA X0 s.heap.size) s.heap H locs) (hmA : ∀ q, mA h a q → hA X0 s.heap.size q) (hw : wp) (hn : As.length = n) (hst : st = As.reverse ++ .ref h :: rest) (hr : (rest.map fun v => v.category).sum ≤ 8) (hdg : decode cc pc = .ok (.invokevirtual index, 3)) (hf : cells ≤ R0.cells ∧ slots ≤ R0.slots)
    (kk : ∀ (r : Int32) (F1 : mF) (R1 : mR) (L1 : mL) (G1 : mG) (H1 : Heap) (locs1 : List Loc), post r F1 R1 L1 G1 → hI K X0 s.heap.size X H1 → mP K.1 h a F1 R1 L1 G1 H1 → va_S (hA X0 s.heap.size) s.heap H1 locs1 → W p l e R0 s m args below meth c H1 locs1 cells slots Q (F0 m (pc + 3) ls (.int r :: rest))) : W p l e R0 s m args below meth c H locs cells slots Q (F0 m pc ls st) :=
  va_calli (va_runV hF hMt cw (l_giveM hF hC hM hw) rfl hn hls hst (lv_room hr) hdg hf) hS (fun q _ z => hmA q z) (fun q z => hmA q z)
    (fun r u t H1 locs1 ht _ hp hB hz hk hS1 => kk r _ _ _ _ H1 locs1 hp (l_afterM (F1 := F) (R1 := R) (L1 := L) (G1 := G) hP hD hz hk) (by rw [← ht]; exact hB) hS1)
theorem lm_l {post : Int64 → mF → mR → mL → mG → Prop} (hF : CallFix p m c cc nL s args lw_all own) (hls : ls.size = nL) (hC : HC K X0 s) (hMt : Met l y ws rm (mPre K.1 h a F R L G As wp) (mQl post K.1 h a) 0 0 (mA h a)) (cw : CallW R0 s args own RX3 index y bytes maxL ret ws rm 0 0 n) (hP : hI K X0 s.heap.size X H) (hM : mP K.1 h a F R L G H) (hD : hdis X h a) (hS : va_S (hA X0 s.heap.size) s.heap H locs) (hmA : ∀ q, mA h a q → hA X0 s.heap.size q) (hw : wp) (hn : As.length = n) (hst : st = As.reverse ++ .ref h :: rest) (hr : (rest.map fun v => v.category).sum ≤ 8) (hdg : decode cc pc = .ok (.invokevirtual index, 3)) (hf : cells ≤ R0.cells ∧ slots ≤ R0.slots)
    (kk : ∀ (r : Int64) (F1 : mF) (R1 : mR) (L1 : mL) (G1 : mG) (H1 : Heap) (locs1 : List Loc), post r F1 R1 L1 G1 → hI K X0 s.heap.size X H1 → mP K.1 h a F1 R1 L1 G1 H1 → va_S (hA X0 s.heap.size) s.heap H1 locs1 → W p l e R0 s m args below meth c H1 locs1 cells slots Q (F0 m (pc + 3) ls (.long r :: rest))) : W p l e R0 s m args below meth c H locs cells slots Q (F0 m pc ls st) :=
  va_calll (va_runV hF hMt cw (l_giveM hF hC hM hw) rfl hn hls hst (lv_room hr) hdg hf) hS (fun q _ z => hmA q z) (fun q z => hmA q z)
    (fun r u t H1 locs1 ht _ hp hB hz hk hS1 => kk r _ _ _ _ H1 locs1 hp (l_afterM (F1 := F) (R1 := R) (L1 := L) (G1 := G) hP hD hz hk) (by rw [← ht]; exact hB) hS1)
theorem lm_f {post : UInt32 → mF → mR → mL → mG → Prop} (hF : CallFix p m c cc nL s args lw_all own) (hls : ls.size = nL) (hC : HC K X0 s) (hMt : Met l y ws rm (mPre K.1 h a F R L G As wp) (mQf post K.1 h a) 0 0 (mA h a)) (cw : CallW R0 s args own RX3 index y bytes maxL ret ws rm 0 0 n) (hP : hI K X0 s.heap.size X H) (hM : mP K.1 h a F R L G H) (hD : hdis X h a) (hS : va_S (hA X0 s.heap.size) s.heap H locs) (hmA : ∀ q, mA h a q → hA X0 s.heap.size q) (hw : wp) (hn : As.length = n) (hst : st = As.reverse ++ .ref h :: rest) (hr : (rest.map fun v => v.category).sum ≤ 8) (hdg : decode cc pc = .ok (.invokevirtual index, 3)) (hf : cells ≤ R0.cells ∧ slots ≤ R0.slots)
    (kk : ∀ (r : UInt32) (F1 : mF) (R1 : mR) (L1 : mL) (G1 : mG) (H1 : Heap) (locs1 : List Loc), post r F1 R1 L1 G1 → hI K X0 s.heap.size X H1 → mP K.1 h a F1 R1 L1 G1 H1 → va_S (hA X0 s.heap.size) s.heap H1 locs1 → W p l e R0 s m args below meth c H1 locs1 cells slots Q (F0 m (pc + 3) ls (.float r :: rest))) : W p l e R0 s m args below meth c H locs cells slots Q (F0 m pc ls st) :=
  va_callf (va_runV hF hMt cw (l_giveM hF hC hM hw) rfl hn hls hst (lv_room hr) hdg hf) hS (fun q _ z => hmA q z) (fun q z => hmA q z)
    (fun r u t H1 locs1 ht _ hp hB hz hk hS1 => kk r _ _ _ _ H1 locs1 hp (l_afterM (F1 := F) (R1 := R) (L1 := L) (G1 := G) hP hD hz hk) (by rw [← ht]; exact hB) hS1)
end LROWS

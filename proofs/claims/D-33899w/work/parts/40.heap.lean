/-! MY HEAP: a partial map of cells, over the machine's heap; what is known of static things; rows -/
set_option maxRecDepth 100000
abbrev HK : Type := KT × Nat × (Nat → Nat)
abbrev hX : Type := Nat → Option va_E
def hT (K : HK) : va_E → va_E
  | .inl (t, a) => .inl (K.1.2 t, a)
  | .inr o => .inr o
def hf (K : HK) (X : hX) : Nat → va_E := fun a => match X a with
  | some e => hT K e
  | none => .inr (0, [])
def hup (X : hX) (a : Nat) (e : va_E) : hX := fun j => if j = a then some e else X j
theorem hup_s (X : hX) (a : Nat) (e : va_E) : hup X a e a = some e := by simp [hup]
theorem hup_n (X : hX) {a j : Nat} (e : va_E) (h : j ≠ a) : hup X a e j = X j := by simp [hup, h]
/-- the heap holds the cells of X, apart, all of them made behind the law's start -/
def hR (K : HK) (X : hX) (H : Heap) : Prop := K.2.1 ≤ H.size ∧ ∃ L : List Nat, (∀ a, a ∈ L ↔ X a ≠ none) ∧ (∀ a, a ∈ L → K.2.1 ≤ a) ∧ va_P K.1.1 vcl ([] ++ va_pl L (hf K X)) H ∧ va_D (fun _ => True) ([] ++ va_pl L (hf K X))
def hA (X : hX) (N : Nat) : Nat → Prop := fun q => X q ≠ none ∨ N ≤ q
def hI (K : HK) (X0 : hX) (N : Nat) (X : hX) (H : Heap) : Prop := hR K X H ∧ ∀ a, X a ≠ none → hA X0 N a
theorem hR.ge {K : HK} {X : hX} {H : Heap} (h : hR K X H) {a : Nat} (ha : X a ≠ none) : K.2.1 ≤ a := by
  obtain ⟨-, L, h1, h2, -, -⟩ := h
  exact h2 a ((h1 a).mpr ha)
theorem hR.lt {K : HK} {X : hX} {H : Heap} (h : hR K X H) {a : Nat} (ha : X a ≠ none) : a < H.size := by
  obtain ⟨-, L, h1, -, h3, -⟩ := h
  exact va_pl_lt h3 ((h1 a).mpr ha)
theorem hf_of {K : HK} {X : hX} {a : Nat} {e : va_E} (h : X a = some e) : hf K X a = hT K e := by simp [hf, h]
theorem hf_up {K : HK} {X : hX} {a : Nat} {e : va_E} (b : Nat) : va_up (hf K X) a (hT K e) b = hf K (hup X a e) b := by
  by_cases h : b = a
  · subst h
    rw [va_up_self, hf_of (hup_s X b e)]
  · rw [va_up_ne _ _ h]
    simp [hf, hup, h]
/-- a cell of X: a world with it at a place, and what X is behind a write -/
theorem hI.cell {K : HK} {X0 : hX} {N : Nat} {X : hX} {H : Heap} (h : hI K X0 N X H) {a : Nat} {e : va_E} (hX : X a = some e) : ∃ (ws : va_W) (k : Nat), ws[k]? = some (a, hT K e) ∧ va_P K.1.1 vcl ws H ∧ va_D (hA X0 N) ws ∧
    (∀ (e' : va_E) (H1 : Heap) , K.2.1 ≤ H1.size → va_P K.1.1 vcl (ws.set k (a, hT K e')) H1 → va_D (hA X0 N) (ws.set k (a, hT K e')) → hI K X0 N (hup X a e') H1) := by
  obtain ⟨⟨h0, L, h1, h2, h3, h4⟩, hg⟩ := h
  have ha : a ∈ L := (h1 a).mpr (by rw [hX]; exact fun z => by cases z)
  obtain ⟨k, hk⟩ := va_pl_get (X := []) (f := hf K X) ha
  have hD : va_D (hA X0 N) ([] ++ va_pl L (hf K X)) := ⟨h4.1, fun i q hi => by
    obtain ⟨b, hb, e2⟩ := List.mem_map.mp (show q ∈ va_pl L (hf K X) from List.mem_of_getElem? hi)
    rw [← e2]
    exact hg b ((h1 b).mp hb)⟩
  refine ⟨_, k, by rw [hk, hf_of hX], h3, hD, fun e' H1 g0 g1 g2 => ?_⟩
  have e3 : ([] ++ va_pl L (hf K X)).set k (a, hT K e') = [] ++ va_pl L (hf K (hup X a e')) := (va_pl_set hD ha hk).trans (by rw [va_pl_congr (g := hf K (hup X a e')) (fun b => hf_up b)])
  rw [e3] at g1 g2
  refine ⟨⟨g0, L, fun b => ?_, h2, g1, g2.weaken (fun _ _ _ _ => trivial)⟩, fun b hb => ?_⟩
  · by_cases e4 : b = a
    · subst e4
      rw [hup_s]
      exact ⟨fun _ => (fun z => nomatch z), fun _ => ha⟩
    · rw [hup_n _ _ e4]
      exact h1 b
  · by_cases e4 : b = a
    · subst e4
      exact hg b (by rw [hX]; exact fun z => by cases z)
    · rw [hup_n _ _ e4] at hb
      exact hg b hb
/-- the world of all cells, and a new one -/
theorem hI.all {K : HK} {X0 : hX} {N : Nat} {X : hX} {H : Heap} (h : hI K X0 N X H) (hN : K.2.1 ≤ N) (hA0 : ∀ a, X0 a ≠ none → K.2.1 ≤ a) : ∃ (ws : va_W), va_P K.1.1 vcl ws H ∧ va_D (hA X0 N) ws ∧ (∀ (a : Nat) (e : va_E), X a = some e → ∃ k : Nat, ws[k]? = some (a, hT K e)) ∧
    (∀ (q : Nat) (e' : va_E) (H1 : Heap), K.2.1 ≤ H1.size → va_P K.1.1 vcl (ws ++ [(q, hT K e')]) H1 → va_D (hA X0 N) (ws ++ [(q, hT K e')]) → X q = none ∧ hI K X0 N (hup X q e') H1) := by
  obtain ⟨⟨h0, L, h1, h2, h3, h4⟩, hg⟩ := h
  have hD : va_D (hA X0 N) ([] ++ va_pl L (hf K X)) := ⟨h4.1, fun i q hi => by
    obtain ⟨b, hb, e2⟩ := List.mem_map.mp (show q ∈ va_pl L (hf K X) from List.mem_of_getElem? hi)
    rw [← e2]
    exact hg b ((h1 b).mp hb)⟩
  refine ⟨_, h3, hD, fun a e hX => ?_, fun q e' H1 g0 g1 g2 => ?_⟩
  · have ha : a ∈ L := (h1 a).mpr (by rw [hX]; exact fun z => by cases z)
    obtain ⟨k, hk⟩ := va_pl_get (X := []) (f := hf K X) ha
    exact ⟨k, by rw [hk, hf_of hX]⟩
  · have hlast : (([] ++ va_pl L (hf K X)) ++ [(q, hT K e')])[([] ++ va_pl L (hf K X)).length]? = some (q, hT K e') := by simp
    have hq : q ∉ L := fun z => by
      obtain ⟨k, hk⟩ := va_pl_get (X := []) (f := hf K X) z
      have hl := (List.getElem?_eq_some_iff.mp hk).1
      have := g2.1 k _ (q, hf K X q) (q, hT K e') (by rw [List.getElem?_append_left hl]; exact hk) hlast rfl
      omega
    have hAq : hA X0 N q := g2.2 _ _ hlast
    have hXq : X q = none := by
      cases hx : X q with
      | none => rfl
      | some z => exact absurd ((h1 q).mpr (by rw [hx]; exact fun y => by cases y)) hq
    have e3 : ([] ++ va_pl L (hf K X)) ++ [(q, hT K e')] = [] ++ va_pl (L ++ [q]) (hf K (hup X q e')) := by
      rw [List.append_assoc, va_pl_push hq, va_pl_congr (g := hf K (hup X q e')) (fun b => hf_up b)]
    rw [e3] at g1 g2
    refine ⟨hXq, ⟨g0, L ++ [q], fun b => ?_, fun b hb => ?_, g1, g2.weaken (fun _ _ _ _ => trivial)⟩, fun b hb => ?_⟩
    · by_cases e4 : b = q
      · subst e4
        rw [hup_s]
        exact ⟨fun _ => (fun z => nomatch z), fun _ => List.mem_append_right _ (List.mem_singleton.mpr rfl)⟩
      · rw [hup_n _ _ e4, List.mem_append, List.mem_singleton, ← h1 b]
        exact ⟨fun z => z.elim id (fun y => absurd y e4), Or.inl⟩
    · rcases List.mem_append.mp hb with z | z
      · exact h2 b z
      · rw [List.mem_singleton.mp z]
        rcases hAq with y | y
        · exact hA0 q y
        · omega
    · by_cases e4 : b = q
      · subst e4
        exact hAq
      · rw [hup_n _ _ e4] at hb
        exact hg b hb
def aN (K : HK) : Nat → Prop := fun q => K.2.1 ≤ q
def nwOK : Cond → Bool
  | .fieldLinkNest .. => true
  | .methodLinkNest .. => true
  | .castable .. => true
  | .declares .. => true
  | _ => false
def NW (U : State) : Prop := ∀ w ∈ lw_tbl, nwOK w = true → va_Nw w U
theorem nw_ot {w : Cond} (h : nwOK w = true) : w.onTables = true := by cases w <;> first | rfl | cases h
theorem NW.same {u U : State} (h : u.vm = U.vm) (hZ : NW u) : NW U := fun w hw g => va_Nw.same (nw_ot g) h (hZ w hw g)
theorem NW.warm {s U : State} (hW : s.WarmedH U.vm) (hZ : NW s) : NW U := by
  intro w hw g
  have h := hZ w hw g
  cases w with
  | fieldLinkNest => exact va_Nw.warmF hW h
  | methodLinkNest => exact va_Nw.warmM hW h
  | castable => exact va_Nw.warmC hW h
  | declares => exact va_Nw.warmD hW h
  | _ => cases g
/-- pairs of exception classes that aren't castable, as the wrappers' handlers ask -/
def ncL : List (String × String) := [("java/lang/IllegalStateException", "java/lang/IllegalArgumentException"), ("java/util/NoSuchElementException", "java/lang/IllegalArgumentException")]
/-- private methods of StringBuilder's class above, that its objects select -/
def upS : List Cond := [Cond.selects RJ5 yJ4_newCapacity yJ4_newCapacity, Cond.selects RJ5 yJ4_ensureCapacityInternal yJ4_ensureCapacityInternal]
theorem upS_good : ∀ w ∈ upS, goodWord w = true ∧ w.onTables = true := by
  intro w hw
  simp only [upS, List.mem_cons, List.not_mem_nil, or_false] at hw
  rcases hw with e | e <;> (rw [e]; exact ⟨rfl, rfl⟩)
/-- the texts "wmt" and "ad" -/
abbrev bytS : List (List Int32) := [[119, 109, 116], [97, 100]]
def EV (K : HK) (U : State) (H : Heap) : Prop :=
  (va_Z "java/util/ArrayList" "DEFAULTCAPACITY_EMPTY_ELEMENTDATA" "[Ljava/lang/Object;" (.ref (K.2.2 0)) (aN K) U H ∧ va_T (.object "java/lang/Object") (K.2.2 0) 0 (fun _ => .null) (aN K) U H ∧ va_Z "java/lang/String" "COMPACT_STRINGS" "Z" (.int 1) (aN K) U H ∧ va_Zq "jdk/internal/util/Preconditions" "SIOOBE_FORMATTER" "Ljava/util/function/BiFunction;" (aN K) U H ∧ vx_Zq Bundle.tN "UNASSIGNED_STACK" Bundle.steD (aN K) U H ∧ vx_Zq Bundle.tN "SUPPRESSED_SENTINEL" Bundle.listD (aN K) U H)
  ∧ (vk_R "ClockworkOrreries" 136 "out of range" (K.2.2 1) U ∧ vk_R "ClockworkOrreries" 143 "not possible" (K.2.2 2) U ∧ vk_R "ClockworkOrreries" 152 "there is none" (K.2.2 3) U ∧ vk_R "ClockworkOrreries$Refused" 1 "refused" (K.2.2 4) U ∧ vk_R "ClockworkOrreries$Reader" 60 "wmt" (K.2.2 5) U ∧ vk_R "ClockworkOrreries$Reader" 68 "ad" (K.2.2 6) U)
  ∧ va_Mi "[Ljava/lang/Object;" (K.2.2 7) U ∧ va_Dc U ∧ va_AO "java/lang/Object" U ∧ NW U ∧ (∀ q ∈ ncL, va_Nc q.1 q.2 U) ∧ (∀ w ∈ upS, w.before #[] U = true) ∧ vk_S 2 [3, 2] bytS (fun i => K.2.2 (5 + i)) (fun i => K.2.2 (8 + i)) (aN K) U H

theorem EV.kept {K : HK} {U : State} {H H1 : Heap} (h : EV K U H) (hq : ∀ a : Nat, a < H.size → ¬ aN K a → H1[a]? = H[a]?) : EV K U H1 := by
  obtain ⟨⟨h1, h2, h3, h4, h5, h6⟩, k0, g1, g2, g3, g4, g5, g6, g7⟩ := h
  exact ⟨⟨h1.kept hq, h2.kept hq, h3.kept hq, h4.kept hq, h5.kept hq, h6.kept hq⟩, k0, g1, g2, g3, g4, g5, g6, g7.kept hq⟩
theorem EV.warm {K : HK} {s U : State} {H : Heap} (hW : s.WarmedH U.vm) (h : EV K s H) : EV K U H := by
  obtain ⟨⟨h1, h2, h3, h4, h5, h6⟩, ⟨k1, k2, k3, k4, k5, k6⟩, g1, g2, g3, g4, g5, g6, g7⟩ := h
  have hv := hW.alike
  exact ⟨⟨h1.moved hv, h2.moved hv, h3.moved hv, h4.moved hv, h5.moved hv, h6.moved hv⟩, ⟨k1.warm hW, k2.warm hW, k3.warm hW, k4.warm hW, k5.warm hW, k6.warm hW⟩, g1.moved hv, g2.moved hv, g3.moved hv, g4.warm hW, fun q hq => (g5 q hq).moved hv, fun w hw => word_at hW (good_of_word (upS_good w hw).1) (g6 w hw), g7.moved hv⟩
theorem EV.same {K : HK} {u U : State} {H : Heap} (hv : U.vm = u.vm) (h : EV K u H) : EV K U H := by
  obtain ⟨⟨h1, h2, h3, h4, h5, h6⟩, ⟨k1, k2, k3, k4, k5, k6⟩, g1, g2, g3, g4, g5, g6, g7⟩ := h
  have ha : u.vm.Alike U.vm := by rw [hv]; exact Vm.Alike.refl _
  exact ⟨⟨h1.moved ha, h2.moved ha, h3.moved ha, h4.moved ha, h5.moved ha, h6.moved ha⟩, ⟨k1.same hv, k2.same hv, k3.same hv, k4.same hv, k5.same hv, k6.same hv⟩, g1.moved ha, g2.moved ha, g3.moved ha, g4.same hv.symm, fun q hq => (g5 q hq).moved ha, fun w hw => va_tabs (upS_good w hw).2 hv.symm (g6 w hw), g7.moved ha⟩
/-- what stays through a whole method: the entry's facts -/
def HC (K : HK) (X0 : hX) (s : State) : Prop := K.2.1 ≤ s.heap.size ∧ (∀ a, X0 a ≠ none → K.2.1 ≤ a) ∧ EV K s s.heap ∧ KN K.1 s
def hPre (K : HK) (X : hX) (sz : Nat) (wp : Prop) (U : State) : Prop := U.heap.size = sz ∧ hR K X U.heap ∧ EV K U U.heap ∧ KN K.1 U ∧ wp
def hB (K : HK) (X0 : hX) (N : Nat) (X : hX) (t : State) : Prop := hI K X0 N X t.heap
theorem HC.of {K : HK} {X : hX} {sz : Nat} {wp : Prop} {s : State} (h : hPre K X sz wp s) : HC K X s ∧ hI K X s.heap.size X s.heap ∧ wp := by
  obtain ⟨h1, h2, h3, h4, h5⟩ := h
  exact ⟨⟨h2.1, fun a ha => h2.ge ha, h3, h4⟩, ⟨h2, fun a ha => Or.inl ha⟩, h5⟩
theorem HC.old {K : HK} {X0 : hX} {s : State} (h : HC K X0 s) : ∀ q, hA X0 s.heap.size q → aN K q := fun q hq => hq.elim (h.2.1 q) (fun z => Nat.le_trans h.1 z)
theorem HC.ev {K : HK} {X0 : hX} {s : State} {H : Heap} {locs : List Loc} (h : HC K X0 s) (hS : va_S (hA X0 s.heap.size) s.heap H locs) : EV K s H := h.2.2.1.kept (fun a h1 h2 => hS.2.1 a h1 (fun z => h2 (h.old a z)))
theorem HC.sN {K : HK} {X0 : hX} {s : State} {H : Heap} {locs : List Loc} (h : HC K X0 s) (hS : va_S (hA X0 s.heap.size) s.heap H locs) : va_S (aN K) s.heap H locs := ⟨hS.1, fun a h1 h2 => hS.2.1 a h1 (fun z => h2 (h.old a z)), fun q hq => h.old _ (hS.2.2 q hq)⟩
theorem HC.hi {K : HK} {X0 : hX} {s : State} {H : Heap} {locs : List Loc} (h : HC K X0 s) (hS : va_S (hA X0 s.heap.size) s.heap H locs) : K.2.1 ≤ H.size := Nat.le_trans h.1 hS.1
theorem hPre.blind {K : HK} {X : hX} {sz : Nat} {wp : Prop} {As : List Value} : FrameBlind (va_Pc As (hPre K X sz wp)) := fun _ U g mk q => ⟨q.1, q.2.1, q.2.2.1, EV.same (u := U) rfl q.2.2.2.1, KN.moved (u := U) (Vm.Alike.refl U.vm) q.2.2.2.2.1, q.2.2.2.2.2⟩
/-- what a caller shows of its world -/
theorem HC.give {K : HK} {X0 X : hX} {s : State} {H : Heap} {locs : List Loc} {wp : Prop} (h : HC K X0 s) (hP : hI K X0 s.heap.size X H) (hS : va_S (hA X0 s.heap.size) s.heap H locs) (hw : wp) {As : List Value} : ∀ U : State, U.heap = H → s.WarmedH U.vm → va_Pc As (hPre K X H.size wp) As.toArray U := by
  intro U hU hW
  refine ⟨rfl, by rw [hU], by rw [hU]; exact hP.1, by rw [hU]; exact (h.ev hS).warm hW, KN.moved hW.alike h.2.2.2, hw⟩
/-- behind a call -/
theorem hI.back {K : HK} {X0 X X1 : hX} {N : Nat} {H H1 : Heap} (hP : hI K X0 N X H) (hz : N ≤ H.size) (h1 : hI K X H.size X1 H1) : hI K X0 N X1 H1 := ⟨h1.1, fun a ha => (h1.2 a ha).elim (hP.2 a) (fun z => Or.inr (Nat.le_trans hz z))⟩
theorem hI.sub {K : HK} {X0 X : hX} {N : Nat} {H : Heap} (hP : hI K X0 N X H) (hz : N ≤ H.size) : ∀ q, hA X H.size q → hA X0 N q := fun q hq => hq.elim (hP.2 q) (fun z => Or.inr (Nat.le_trans hz z))
theorem hI.recv {K : HK} {X0 X : hX} {N : Nat} {H : Heap} {s : State} (hP : hI K X0 N X H) (hK : KN K.1 s) {a ci : Nat} {fs : List Value} {q : vw_C} (hX : X a = some (.inr (ci, fs))) (hc : vcl[ci]? = some q) : ∃ cell : Cell, H[a]? = some cell ∧ cell.vm.isStatics = false ∧ s.vm.findClass q.1 = some cell.cls := by
  obtain ⟨ws, k, h1, h2, -, -⟩ := hP.cell hX
  exact va_recv hK h2 hc h1
/-! the rows' predicates -/
def gfI (X : hX) (a ci k : Nat) (P : Int32 → Prop) : Prop := ∃ fs x, X a = some (.inr (ci, fs)) ∧ fs[k]? = some (.int x) ∧ P x
def gfJ (X : hX) (a ci k : Nat) (P : Int64 → Prop) : Prop := ∃ fs x, X a = some (.inr (ci, fs)) ∧ fs[k]? = some (.long x) ∧ P x
def gfA (X : hX) (a ci k : Nat) (P : Nat → Prop) : Prop := ∃ fs x, X a = some (.inr (ci, fs)) ∧ fs[k]? = some (.ref x) ∧ P x
def gfQ (X : hX) (a ci k : Nat) (P : Option Nat → Prop) : Prop := ∃ fs x, X a = some (.inr (ci, fs)) ∧ fs[k]? = some (va_rf x) ∧ P x
def pfV (X : hX) (a ci k : Nat) (v : Value) (P : hX → Prop) : Prop := ∃ fs, X a = some (.inr (ci, fs)) ∧ k < fs.length ∧ P (hup X a (.inr (ci, fs.set k v)))
def isO (X : hX) (a ci : Nat) (P : Prop) : Prop := (∃ fs, X a = some (.inr (ci, fs))) ∧ P
def alI (X : hX) (t a : Nat) (i : Int32) (P : Int32 → Prop) : Prop := ∃ n f, X a = some (.inl (t, n, .inl f)) ∧ vp_in i n ∧ P (f i.toNatClampNeg)
def alJ (X : hX) (a : Nat) (i : Int32) (P : Int64 → Prop) : Prop := ∃ n f, X a = some (.inl (1, n, .inr (.inl f))) ∧ vp_in i n ∧ P (f i.toNatClampNeg)
def alF (X : hX) (a : Nat) (i : Int32) (P : UInt32 → Prop) : Prop := ∃ n f, X a = some (.inl (3, n, .inr (.inr (.inl f)))) ∧ vp_in i n ∧ P (f i.toNatClampNeg)
def alQ (X : hX) (a : Nat) (i : Int32) (P : Option Nat → Prop) : Prop := ∃ n f, X a = some (.inl (4, n, .inr (.inr (.inr (.inr f))))) ∧ vp_in i n ∧ P (f i.toNatClampNeg)
def asI (X : hX) (a : Nat) (i x : Int32) (P : hX → Prop) : Prop := ∃ n f, X a = some (.inl (0, n, .inl f)) ∧ vp_in i n ∧ P (hup X a (.inl (0, n, .inl (upd f i.toNatClampNeg x))))
def asB (X : hX) (a : Nat) (i x : Int32) (P : hX → Prop) : Prop := ∃ n f, X a = some (.inl (2, n, .inl f)) ∧ vp_in i n ∧ P (hup X a (.inl (2, n, .inl (upd f i.toNatClampNeg (vp_nar .byte x)))))
def asJ (X : hX) (a : Nat) (i : Int32) (x : Int64) (P : hX → Prop) : Prop := ∃ n f, X a = some (.inl (1, n, .inr (.inl f))) ∧ vp_in i n ∧ P (hup X a (.inl (1, n, .inr (.inl (vp_updL f i.toNatClampNeg x)))))
def asF (X : hX) (a : Nat) (i : Int32) (x : UInt32) (P : hX → Prop) : Prop := ∃ n f, X a = some (.inl (3, n, .inr (.inr (.inl f)))) ∧ vp_in i n ∧ P (hup X a (.inl (3, n, .inr (.inr (.inl (vf_upd f i.toNatClampNeg x))))))
def asQ (X : hX) (a : Nat) (i : Int32) (v : Nat) (P : hX → Prop) : Prop := ∃ n f, X a = some (.inl (4, n, .inr (.inr (.inr (.inr f))))) ∧ vp_in i n ∧ (∃ ci fs, ci < 11 ∧ X v = some (.inr (ci, fs))) ∧ P (hup X a (.inl (4, n, .inr (.inr (.inr (.inr (va_up f i.toNatClampNeg (some v))))))))
def asN (X : hX) (a : Nat) (i : Int32) (P : hX → Prop) : Prop := ∃ n f, X a = some (.inl (4, n, .inr (.inr (.inr (.inr f))))) ∧ vp_in i n ∧ P (hup X a (.inl (4, n, .inr (.inr (.inr (.inr (va_up f i.toNatClampNeg none)))))))
def alen (E : Nat) (X : hX) (a : Nat) (P : Int32 → Prop) : Prop := (∃ t w, t < 5 ∧ X a = some (.inl (t, w)) ∧ P (Int32.ofNat w.1)) ∨ (a = E ∧ P 0)
def newO (X : hX) (ci : Nat) (fs : List Value) (n kc ks mc ms : Nat) (P : Nat → hX → Prop) : Prop := kc + 1 ≤ mc ∧ ks + n ≤ ms ∧ ∀ q, X q = none → P q (hup X q (.inr (ci, fs)))
def newA (X : hX) (t : Nat) (w : (Nat → Int32) ⊕ (Nat → Int64) ⊕ (Nat → UInt32) ⊕ (Nat → UInt64) ⊕ (Nat → Option Nat)) (n : Int32) (sz kc ks mc ms : Nat) (P : Nat → hX → Prop) : Prop := ¬ n < 0 ∧ n.toNatClampNeg * sz ≤ 536870912 ∧ kc + 1 ≤ mc ∧ ks + n.toNatClampNeg ≤ ms ∧ ∀ q, X q = none → P q (hup X q (.inl (t, n.toNatClampNeg, w)))

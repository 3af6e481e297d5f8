/-! THE MACHINE IS LEFT HERE: the whole claim out of a plain statement (law_plain) -/
set_option maxRecDepth 100000
/-- the model's cells among all -/
def mIn (X : hX) (h : Nat) (a : Nat → Nat) (F : mF) (R : mR) (L : mL) (G : mG) : Prop :=
  X h = some (.inr (0, mfs a F G)) ∧ X (a 0) = some (.inl (0, 113, .inl (R 0))) ∧ X (a 1) = some (.inl (0, 113, .inl (R 1))) ∧ X (a 2) = some (.inl (0, 113, .inl (R 2))) ∧ X (a 4) = some (.inl (0, 452, .inl (R 4))) ∧ X (a 6) = some (.inl (0, 60, .inl (R 6))) ∧ X (a 9) = some (.inl (0, 12, .inl (R 9))) ∧ X (a 10) = some (.inl (1, 12, .inr (.inl (L 10)))) ∧ X (a 11) = some (.inl (1, 12, .inr (.inl (L 11)))) ∧ X (a 12) = some (.inl (0, 12, .inl (R 12)))
/-- all cells but these -/
def hless (X : hX) (l : List Nat) : hX := fun q => if q ∈ l then none else X q
/-- what is to be shown at the loop's head, the first time -/
def lGoal (E N : Nat) (xs : Nat → Int32) (x1 h x3 x4 : Nat) (x5 : Int32) (X : hX) (kc ks : Nat) : Prop :=
  ∃ (a : Nat → Nat) (F : mF) (R : mR) (L : mL) (G : mG), mIn X h a F R L G ∧ mAp h a ∧ ∃ fu : Nat, wpL_28 E 1200048 5501818 N xs fu x1 x3 x4 x5 (hless X (mAl h a)) F R L G kc ks
/-- THE PLAIN LAW: no machine in sight -/
def law_plain : Prop := ∀ (E N : Nat) (xs : Nat → Int32), N ≤ 120 → wpL_0 E 1200048 5501818 (lGoal E N xs) (fun _ => none)
theorem hI.mP {K : HK} {X0 X : hX} {N : Nat} {H : Heap} {h : Nat} {a : Nat → Nat} {F : mF} {R : mR} {L : mL} {G : mG} (hP : hI K X0 N X H) (hm : mIn X h a F R L G) : mP K.1 h a F R L G H := by
  have key : ∀ {b : Nat} {e : va_E}, X b = some e → va_at K.1.1 vcl (b, hT K e) H := fun hX => by
    obtain ⟨ws, k, h1, h2, -, -⟩ := hP.cell hX
    exact h2 k _ h1
  obtain ⟨m0, m1, m2, m3, m4, m5, m6, m7, m8, m9⟩ := hm
  intro k q hk
  match k, hk with
  | 0, hk => cases hk; exact key m0
  | 1, hk => cases hk; exact key m1
  | 2, hk => cases hk; exact key m2
  | 3, hk => cases hk; exact key m3
  | 4, hk => cases hk; exact key m4
  | 5, hk => cases hk; exact key m5
  | 6, hk => cases hk; exact key m6
  | 7, hk => cases hk; exact key m7
  | 8, hk => cases hk; exact key m8
  | 9, hk => cases hk; exact key m9
  | k + 10, hk => simp [mw] at hk
theorem mIn.some {X : hX} {h : Nat} {a : Nat → Nat} {F : mF} {R : mR} {L : mL} {G : mG} (hm : mIn X h a F R L G) {q : Nat} (hq : mA h a q) : X q ≠ none := by
  obtain ⟨m0, m1, m2, m3, m4, m5, m6, m7, m8, m9⟩ := hm
  simp only [mA, mAl, List.mem_cons, List.not_mem_nil, or_false] at hq
  rcases hq with rfl | rfl | rfl | rfl | rfl | rfl | rfl | rfl | rfl | rfl <;> simp [*]
theorem whole_start_of (hpl : law_plain) {p : Program} {e : Env} {s : State} {m : MethodId} {below : List Frame} {meth : Method} {c : Code} (l : Launch) (hflags : l.flags = flags0) {b L : Nat} {xs : Nat → Int32} (hL : L ≤ 120) (C0 : lw_At p s m meth c b L xs) : W p l e room_1 s m #[Value.ref b] below meth c s.heap [] 0 0 (lw_Z below #[Value.ref b] s) (entryFrame m ([Value.ref b] : List Value).toArray 9) := by
  obtain ⟨K, hK0, hEV, hKN⟩ := l_start C0
  obtain ⟨hx, hb, hr, hml, hown, hts, hX, hbl, hlocks, hgv⟩ := C0
  have hta : ∀ w ∈ lw_all, w.before #[Value.ref b] s = true := fun w h => hts w (lw_all_tbl h)
  have hlt : l.stackTraces = false := by rw [Launch.stackTraces, hflags]; rfl
  have hF : CallFix p m c code 9 s #[Value.ref b] lw_all R_law := ⟨hx, hb, hml, hown, hta⟩
  have hC : HC K (fun _ => none) s := ⟨Nat.le_of_eq hK0, fun a ha => absurd rfl ha, hEV, hKN⟩
  have hP0 : hI K (fun _ => none) s.heap.size (fun _ => none) s.heap := ⟨⟨Nat.le_of_eq hK0, [], fun a => ⟨fun z => (List.not_mem_nil z).elim, fun z => absurd rfl z⟩, fun a z => (List.not_mem_nil z).elim, fun k q hk => (by simp [va_pl] at hk), ⟨fun i j p q hi => (by simp [va_pl] at hi), fun _ _ _ => trivial⟩⟩, fun a ha => absurd rfl ha⟩
  have hA0 : ∀ q, hA (fun _ => none) s.heap.size q → s.heap.size ≤ q := fun q hq => hq.elim (fun z => absurd rfl z) id
  refine Tl0 (N := L) (xs := xs) l hlt K (fun _ => none) hF hC hP0 (lGoal (K.2.2 0) L xs) (fun x1 h x3 x4 x5 X kc ks H locs ls hP hS hk hl hw => ?_) (hpl (K.2.2 0) L xs hL)
  obtain ⟨a, F, R, L1, G, hm, hap, fu, hw⟩ := hw
  have hmA : ∀ q, mA h a q → hA (fun _ => none) s.heap.size q := fun q hq => hP.2 q (hm.some hq)
  have hless0 : ∀ q, hless X (mAl h a) q ≠ none → hless X (mAl h a) q = X q := fun q hq => by
    unfold hless at hq ⊢
    by_cases z : q ∈ mAl h a
    · rw [if_pos z] at hq; exact absurd rfl hq
    · rw [if_neg z]
  exact Tl28 l hlt K (fun _ => none) hF hr hlocks hC hX hbl hA0 h a hap hmA fu x1 x3 x4 x5 _ F R L1 G kc ks H locs ls (hP.less hless0) (hP.mP hm) (fun q hq => if_pos hq) hS hk (lv_sub hl [0, 1, 2, 3, 4, 5] rfl) hw

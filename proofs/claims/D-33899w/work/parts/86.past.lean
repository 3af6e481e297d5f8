/-! THE PLAIN LAW: the model's old states -/
set_option maxRecDepth 100000
/-- the same row, as far as rows go -/
def rEq (s t : row) : Prop := ∀ k, k < 113 → s k = t k
/-- the model's old states, eldest first -/
def mH (F : mF) (R : mR) (hs : List row) : Prop := hs.length ≤ 4 ∧ F 5 = nI hs.length ∧ ∀ (i : Nat) (h : i < hs.length) (k : Nat), k < 113 → R 4 (113 * i + k) = hs[i] k
/-- a state more: of five the eldest is forgotten -/
def hPush (hs : List row) (s : row) : List row := (if hs.length = 4 then hs.tail else hs) ++ [s]
def shR (f : Nat → Int32) (k : Nat) : Nat → Int32 := fun q => if q < k then f (q + 113) else f q
theorem shR_0 (f : Nat → Int32) : shR f 0 = f := by funext q; unfold shR; rw [if_neg (by omega)]
theorem shR_s (f : Nat → Int32) (k : Nat) : upd (shR f k) k (shR f k (k + 113)) = shR f (k + 1) := by
  funext q
  unfold upd shR
  by_cases h : q = k
  · subst h
    rw [if_pos rfl, if_neg (by omega), if_pos (by omega)]
  · rw [if_neg h]
    by_cases h2 : q < k
    · rw [if_pos h2, if_pos (by omega)]
    · rw [if_neg h2, if_neg (by omega)]
theorem wl_records {post : mF → mR → mL → mG → Prop} {F : mF} {R : mR} {L : mL} {G : mG} (hp : wpX3_records_48 post (va_up F 5 (F 5 - 1)) (va_up R 4 (shR (R 4) 339)) L G) :
    ∀ d k : Nat, k + d = 339 → wpX3_records_10 post (d + 1) (nI k) F (va_up R 4 (shR (R 4) k)) L G := by
  have e339 : (339 : Int32) = nI 339 := by decide +kernel
  have e113 : (113 : Int32) = nI 113 := by decide +kernel
  intro d
  induction d with
  | zero =>
    intro k hk
    rw [show k = 339 by omega]
    exact ⟨fun _ => hp, fun z => absurd (by rw [e339]; exact nI_le (Nat.le_refl _) (by decide)) z⟩
  | succ d ih =>
    intro k hk
    refine ⟨fun z => absurd z (by rw [e339]; exact nI_ge (by omega) (by omega)), fun _ => ?_⟩
    rw [e113, nI_add]
    refine ⟨vp_in_nI (by omega) (by omega), vp_in_nI (by omega) (by omega), fun R' e x e2 => ?_⟩
    rw [nI_1] at e2
    subst e2
    rw [nI_clamp (by omega), nI_clamp (by omega), va_up_self, upR_upR, shR_s] at e
    subst e
    exact ih (k + 1) (by omega)
/-- what is recorded, where there is room -/
theorem wp_records48 {post : mF → mR → mL → mG → Prop} {F : mF} {R : mR} {L : mL} {G : mG} {hs : List row} {s0 : row} (h : mH F R hs) (hl : hs.length < 4) (h0 : rEq (R 1) s0)
    (hp : ∀ (F' : mF) (R' : mR), (∀ q, q ≠ 5 → F' q = F q) → (∀ j, j ≠ 4 → R' j = R j) → mH F' R' (hs ++ [s0]) → post F' R' L G) : wpX3_records_48 post F R L G := by
  obtain ⟨h1, h2, h3⟩ := h
  unfold wpX3_records_48
  have e113 : (113 : Int32) = nI 113 := by decide +kernel
  have em : (113 : Int32) * F 5 = nI (113 * hs.length) := by
    rw [h2, e113]
    rcases (show hs.length = 0 ∨ hs.length = 1 ∨ hs.length = 2 ∨ hs.length = 3 by omega) with z | z | z | z <;> rw [z] <;> decide +kernel
  rw [em, show (0 : Int32) = nI 0 from nI_0.symm]
  refine wp_copies_1_4 (by omega) (by omega) (hp _ _ (fun q hq => va_up_ne _ _ hq) (fun j hj => va_up_ne _ _ hj) ⟨by rw [List.length_append]; show hs.length + 1 ≤ 4; omega, ?_, fun i hi k hk => ?_⟩)
  · rw [va_up_self, h2, nI_1, List.length_append]; rfl
  · rw [va_up_self]
    rw [List.length_append] at hi
    have hi : i < hs.length + 1 := hi
    unfold va_cpy
    by_cases z : i = hs.length
    · subst z
      rw [if_pos (by omega)]
      rw [show 0 + (113 * hs.length + k - 113 * hs.length) = k by omega, h0 k hk]
      simp
    · rw [if_neg (by omega), h3 i (by omega) k hk]
      rw [List.getElem_append_left (by omega)]
theorem wp_records {post : mF → mR → mL → mG → Prop} {F : mF} {R : mR} {L : mL} {G : mG} {hs : List row} {s0 : row} (h : mH F R hs) (h0 : rEq (R 1) s0)
    (hp : ∀ (F' : mF) (R' : mR), (∀ q, q ≠ 5 → F' q = F q) → (∀ j, j ≠ 4 → R' j = R j) → mH F' R' (hPush hs s0) → post F' R' L G) : wpX3_records post F R L G := by
  have h' := h
  obtain ⟨h1, h2, h3⟩ := h
  have e4 : (4 : Int32) = nI 4 := by decide +kernel
  refine ⟨fun z => ⟨340, ?_⟩, fun z => ?_⟩
  · rw [h2, e4] at z
    have hl : hs.length = 4 := (nI_eq (by omega) (by omega)).mp z
    have := wl_records (post := post) (F := F) (R := R) (L := L) (G := G) (wp_records48 (hs := hs.tail) (s0 := s0) ⟨by rw [List.length_tail]; omega, by rw [va_up_self, h2, hl, List.length_tail, hl]; decide +kernel, fun i hi k hk => ?_⟩ (by rw [List.length_tail]; omega) (by rw [va_up_ne _ _ (by decide)]; exact h0) (fun F' R' g1 g2 g3 => hp F' R' (fun q hq => by rw [g1 q hq, va_up_ne _ _ hq]) (fun j hj => by rw [g2 j hj, va_up_ne _ _ hj]) (by unfold hPush; rw [if_pos hl]; exact g3))) 339 0 rfl
    · rw [shR_0, upR_id] at this
      exact this
    · rw [List.length_tail, hl] at hi
      rw [va_up_self]
      unfold shR
      rw [if_pos (by omega), show 113 * i + k + 113 = 113 * (i + 1) + k by omega, h3 (i + 1) (by omega) k hk]
      simp
  · have hl : hs.length ≠ 4 := fun y => z (by rw [h2, y]; exact e4.symm)
    exact wp_records48 h' (by omega) h0 (fun F' R' g1 g2 g3 => hp F' R' g1 g2 (by unfold hPush; rw [if_neg hl]; exact g3))
/-- a change begins: the row is kept aside -/
theorem wp_begins {post : mF → mR → mL → mG → Prop} {F : mF} {R : mR} {L : mL} {G : mG} (hp : ∀ (F' : mF) (R' : mR), F' 8 = 0 → (∀ q, q ≠ 8 → F' q = F q) → rEq (R' 1) (R 0) → (∀ j, j ≠ 1 → R' j = R j) → post F' R' L G) : wpX3_begins post F R L G := by
  unfold wpX3_begins
  rw [show (0 : Int32) = nI 0 from nI_0.symm]
  refine wp_copies_0_1 (by decide) (by decide) (hp _ _ (by rw [va_up_self]; exact nI_0) (fun q hq => va_up_ne _ _ hq) (fun k hk => ?_) (fun j hj => va_up_ne _ _ hj))
  rw [va_up_self]
  unfold va_cpy
  rw [if_pos (by omega)]
  simp
/-- .. and ends: refused, the old row is back; else it is recorded -/
theorem wp_ends {post : Int32 → mF → mR → mL → mG → Prop} {F : mF} {R : mR} {L : mL} {G : mG} {p : Int32} {hs : List row} {s0 : row} (h : mH F R hs) (h0 : rEq (R 1) s0)
    (ha : p = -100001 ∨ p = -100002 → ∀ (F' : mF) (R' : mR), F' 8 = (if p = -100001 then 1 else 2) → (∀ q, q ≠ 8 → F' q = F q) → rEq (R' 0) s0 → (∀ j, j ≠ 0 → R' j = R j) → post 0 F' R' L G)
    (hp : ¬ (p = -100001 ∨ p = -100002) → ∀ (F' : mF) (R' : mR), (∀ q, q ≠ 5 → F' q = F q) → (∀ j, j ≠ 4 → R' j = R j) → mH F' R' (hPush hs s0) → post p F' R' L G) : wpX3_ends post F R L G p := by
  have back : ∀ c : Int32, c = (if p = -100001 then 1 else 2) → (p = -100001 ∨ p = -100002) → post 0 (va_up F 8 c) (va_up R 0 (va_cpy (R 1) (R 0) 0 0 113)) L G := fun c hc hq => by
    refine ha hq _ _ (by rw [va_up_self]; exact hc) (fun q hq => va_up_ne _ _ hq) (fun k hk => ?_) (fun j hj => va_up_ne _ _ hj)
    rw [va_up_self]
    unfold va_cpy
    rw [if_pos (by omega), show 0 + (k - 0) = k by omega]
    exact h0 k hk
  have e12 : (p = -100001 ∨ p = -100002) → wpX3_ends_12 post p F R L G := fun hq => by
    unfold wpX3_ends_12
    rw [show (0 : Int32) = nI 0 from nI_0.symm]
    refine wp_copies_1_0 (by decide) (by decide) ⟨fun z => ?_, fun z => ?_⟩
    · have := back 1 (by rw [if_pos z]) hq
      exact this
    · have := back 2 (by rw [if_neg z]) hq
      exact this
  exact ⟨fun z => e12 (Or.inl z), fun z => ⟨fun z2 => e12 (Or.inr z2), fun z2 => wp_records h h0 (hp (fun y => y.elim z z2))⟩⟩

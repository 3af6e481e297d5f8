/-! THE PLAIN LAW: the model's copies of rows -/
set_option maxRecDepth 100000
theorem upR_upR (R : mR) (j : Nat) (f g : Nat → Int32) : va_up (va_up R j f) j g = va_up R j g := by
  funext q
  by_cases h : q = j
  · subst h; rw [va_up_self, va_up_self]
  · rw [va_up_ne _ _ h, va_up_ne _ _ h, va_up_ne _ _ h]
theorem upR_id (R : mR) (j : Nat) : va_up R j (R j) = R := by
  funext q
  by_cases h : q = j
  · subst h; rw [va_up_self]
  · rw [va_up_ne _ _ h]
theorem cpy_0 (f g : Nat → Int32) (sp dp : Nat) : va_cpy f g sp dp 0 = g := by
  funext k
  unfold va_cpy
  rw [if_neg (by omega)]
theorem cpy_s (f g : Nat → Int32) (sp dp n : Nat) : upd (va_cpy f g sp dp n) (dp + n) (f (sp + n)) = va_cpy f g sp dp (n + 1) := by
  funext k
  unfold upd va_cpy
  by_cases h : k = dp + n
  · subst h
    rw [if_pos rfl, if_pos (by omega), show sp + (dp + n - dp) = sp + n by omega]
  · rw [if_neg h]
    by_cases h2 : dp ≤ k ∧ k < dp + n
    · rw [if_pos h2, if_pos (by omega)]
    · rw [if_neg h2, if_neg (by omega)]

theorem wl_copies_0_1 {post : mF → mR → mL → mG → Prop} {F : mF} {L : mL} {G : mG} {R : mR} {sp dp : Nat} (hs : sp + 113 ≤ 113) (hd : dp + 113 ≤ 113) (hp : post F (va_up R 1 (va_cpy (R 0) (R 1) sp dp 113)) L G) :
    ∀ d k : Nat, k + d = 113 → wpX3_copies_0_1_3 post (d + 1) (nI sp) (nI dp) (nI k) F (va_up R 1 (va_cpy (R 0) (R 1) sp dp k)) L G := by
  have e113 : (113 : Int32) = nI 113 := by decide +kernel
  intro d
  induction d with
  | zero =>
    intro k hk
    rw [show k = 113 by omega]
    exact ⟨fun _ => hp, fun z => absurd (by rw [e113]; exact nI_le (Nat.le_refl _) (by decide)) z⟩
  | succ d ih =>
    intro k hk
    refine ⟨fun z => absurd z (by rw [e113]; exact nI_ge (by omega) (by omega)), fun _ => ?_⟩
    rw [nI_add, nI_add]
    refine ⟨vp_in_nI (by omega) (by omega), vp_in_nI (by omega) (by omega), fun R' e x e2 => ?_⟩
    rw [nI_1] at e2
    subst e2
    rw [nI_clamp (by omega), nI_clamp (by omega), va_up_self, va_up_ne _ _ (show (0 : Nat) ≠ 1 by decide), upR_upR, cpy_s] at e
    subst e
    exact ih (k + 1) (by omega)
theorem wp_copies_0_1 {post : mF → mR → mL → mG → Prop} {F : mF} {L : mL} {G : mG} {R : mR} {sp dp : Nat} (hs : sp + 113 ≤ 113) (hd : dp + 113 ≤ 113) (hp : post F (va_up R 1 (va_cpy (R 0) (R 1) sp dp 113)) L G) : wpX3_copies_0_1 post F R L G (nI sp) (nI dp) := by
  refine ⟨114, ?_⟩
  have := wl_copies_0_1 hs hd hp 113 0 rfl
  rw [cpy_0, upR_id] at this
  exact this
theorem wl_copies_1_4 {post : mF → mR → mL → mG → Prop} {F : mF} {L : mL} {G : mG} {R : mR} {sp dp : Nat} (hs : sp + 113 ≤ 113) (hd : dp + 113 ≤ 452) (hp : post F (va_up R 4 (va_cpy (R 1) (R 4) sp dp 113)) L G) :
    ∀ d k : Nat, k + d = 113 → wpX3_copies_1_4_3 post (d + 1) (nI sp) (nI dp) (nI k) F (va_up R 4 (va_cpy (R 1) (R 4) sp dp k)) L G := by
  have e113 : (113 : Int32) = nI 113 := by decide +kernel
  intro d
  induction d with
  | zero =>
    intro k hk
    rw [show k = 113 by omega]
    exact ⟨fun _ => hp, fun z => absurd (by rw [e113]; exact nI_le (Nat.le_refl _) (by decide)) z⟩
  | succ d ih =>
    intro k hk
    refine ⟨fun z => absurd z (by rw [e113]; exact nI_ge (by omega) (by omega)), fun _ => ?_⟩
    rw [nI_add, nI_add]
    refine ⟨vp_in_nI (by omega) (by omega), vp_in_nI (by omega) (by omega), fun R' e x e2 => ?_⟩
    rw [nI_1] at e2
    subst e2
    rw [nI_clamp (by omega), nI_clamp (by omega), va_up_self, va_up_ne _ _ (show (1 : Nat) ≠ 4 by decide), upR_upR, cpy_s] at e
    subst e
    exact ih (k + 1) (by omega)
theorem wp_copies_1_4 {post : mF → mR → mL → mG → Prop} {F : mF} {L : mL} {G : mG} {R : mR} {sp dp : Nat} (hs : sp + 113 ≤ 113) (hd : dp + 113 ≤ 452) (hp : post F (va_up R 4 (va_cpy (R 1) (R 4) sp dp 113)) L G) : wpX3_copies_1_4 post F R L G (nI sp) (nI dp) := by
  refine ⟨114, ?_⟩
  have := wl_copies_1_4 hs hd hp 113 0 rfl
  rw [cpy_0, upR_id] at this
  exact this
theorem wl_copies_1_0 {post : mF → mR → mL → mG → Prop} {F : mF} {L : mL} {G : mG} {R : mR} {sp dp : Nat} (hs : sp + 113 ≤ 113) (hd : dp + 113 ≤ 113) (hp : post F (va_up R 0 (va_cpy (R 1) (R 0) sp dp 113)) L G) :
    ∀ d k : Nat, k + d = 113 → wpX3_copies_1_0_3 post (d + 1) (nI sp) (nI dp) (nI k) F (va_up R 0 (va_cpy (R 1) (R 0) sp dp k)) L G := by
  have e113 : (113 : Int32) = nI 113 := by decide +kernel
  intro d
  induction d with
  | zero =>
    intro k hk
    rw [show k = 113 by omega]
    exact ⟨fun _ => hp, fun z => absurd (by rw [e113]; exact nI_le (Nat.le_refl _) (by decide)) z⟩
  | succ d ih =>
    intro k hk
    refine ⟨fun z => absurd z (by rw [e113]; exact nI_ge (by omega) (by omega)), fun _ => ?_⟩
    rw [nI_add, nI_add]
    refine ⟨vp_in_nI (by omega) (by omega), vp_in_nI (by omega) (by omega), fun R' e x e2 => ?_⟩
    rw [nI_1] at e2
    subst e2
    rw [nI_clamp (by omega), nI_clamp (by omega), va_up_self, va_up_ne _ _ (show (1 : Nat) ≠ 0 by decide), upR_upR, cpy_s] at e
    subst e
    exact ih (k + 1) (by omega)
theorem wp_copies_1_0 {post : mF → mR → mL → mG → Prop} {F : mF} {L : mL} {G : mG} {R : mR} {sp dp : Nat} (hs : sp + 113 ≤ 113) (hd : dp + 113 ≤ 113) (hp : post F (va_up R 0 (va_cpy (R 1) (R 0) sp dp 113)) L G) : wpX3_copies_1_0 post F R L G (nI sp) (nI dp) := by
  refine ⟨114, ?_⟩
  have := wl_copies_1_0 hs hd hp 113 0 rfl
  rw [cpy_0, upR_id] at this
  exact this
theorem wl_copies_0_2 {post : mF → mR → mL → mG → Prop} {F : mF} {L : mL} {G : mG} {R : mR} {sp dp : Nat} (hs : sp + 113 ≤ 113) (hd : dp + 113 ≤ 113) (hp : post F (va_up R 2 (va_cpy (R 0) (R 2) sp dp 113)) L G) :
    ∀ d k : Nat, k + d = 113 → wpX3_copies_0_2_3 post (d + 1) (nI sp) (nI dp) (nI k) F (va_up R 2 (va_cpy (R 0) (R 2) sp dp k)) L G := by
  have e113 : (113 : Int32) = nI 113 := by decide +kernel
  intro d
  induction d with
  | zero =>
    intro k hk
    rw [show k = 113 by omega]
    exact ⟨fun _ => hp, fun z => absurd (by rw [e113]; exact nI_le (Nat.le_refl _) (by decide)) z⟩
  | succ d ih =>
    intro k hk
    refine ⟨fun z => absurd z (by rw [e113]; exact nI_ge (by omega) (by omega)), fun _ => ?_⟩
    rw [nI_add, nI_add]
    refine ⟨vp_in_nI (by omega) (by omega), vp_in_nI (by omega) (by omega), fun R' e x e2 => ?_⟩
    rw [nI_1] at e2
    subst e2
    rw [nI_clamp (by omega), nI_clamp (by omega), va_up_self, va_up_ne _ _ (show (0 : Nat) ≠ 2 by decide), upR_upR, cpy_s] at e
    subst e
    exact ih (k + 1) (by omega)
theorem wp_copies_0_2 {post : mF → mR → mL → mG → Prop} {F : mF} {L : mL} {G : mG} {R : mR} {sp dp : Nat} (hs : sp + 113 ≤ 113) (hd : dp + 113 ≤ 113) (hp : post F (va_up R 2 (va_cpy (R 0) (R 2) sp dp 113)) L G) : wpX3_copies_0_2 post F R L G (nI sp) (nI dp) := by
  refine ⟨114, ?_⟩
  have := wl_copies_0_2 hs hd hp 113 0 rfl
  rw [cpy_0, upR_id] at this
  exact this
theorem wl_copies_2_0 {post : mF → mR → mL → mG → Prop} {F : mF} {L : mL} {G : mG} {R : mR} {sp dp : Nat} (hs : sp + 113 ≤ 113) (hd : dp + 113 ≤ 113) (hp : post F (va_up R 0 (va_cpy (R 2) (R 0) sp dp 113)) L G) :
    ∀ d k : Nat, k + d = 113 → wpX3_copies_2_0_3 post (d + 1) (nI sp) (nI dp) (nI k) F (va_up R 0 (va_cpy (R 2) (R 0) sp dp k)) L G := by
  have e113 : (113 : Int32) = nI 113 := by decide +kernel
  intro d
  induction d with
  | zero =>
    intro k hk
    rw [show k = 113 by omega]
    exact ⟨fun _ => hp, fun z => absurd (by rw [e113]; exact nI_le (Nat.le_refl _) (by decide)) z⟩
  | succ d ih =>
    intro k hk
    refine ⟨fun z => absurd z (by rw [e113]; exact nI_ge (by omega) (by omega)), fun _ => ?_⟩
    rw [nI_add, nI_add]
    refine ⟨vp_in_nI (by omega) (by omega), vp_in_nI (by omega) (by omega), fun R' e x e2 => ?_⟩
    rw [nI_1] at e2
    subst e2
    rw [nI_clamp (by omega), nI_clamp (by omega), va_up_self, va_up_ne _ _ (show (2 : Nat) ≠ 0 by decide), upR_upR, cpy_s] at e
    subst e
    exact ih (k + 1) (by omega)
theorem wp_copies_2_0 {post : mF → mR → mL → mG → Prop} {F : mF} {L : mL} {G : mG} {R : mR} {sp dp : Nat} (hs : sp + 113 ≤ 113) (hd : dp + 113 ≤ 113) (hp : post F (va_up R 0 (va_cpy (R 2) (R 0) sp dp 113)) L G) : wpX3_copies_2_0 post F R L G (nI sp) (nI dp) := by
  refine ⟨114, ?_⟩
  have := wl_copies_2_0 hs hd hp 113 0 rfl
  rw [cpy_0, upR_id] at this
  exact this
theorem wl_copies_4_0 {post : mF → mR → mL → mG → Prop} {F : mF} {L : mL} {G : mG} {R : mR} {sp dp : Nat} (hs : sp + 113 ≤ 452) (hd : dp + 113 ≤ 113) (hp : post F (va_up R 0 (va_cpy (R 4) (R 0) sp dp 113)) L G) :
    ∀ d k : Nat, k + d = 113 → wpX3_copies_4_0_3 post (d + 1) (nI sp) (nI dp) (nI k) F (va_up R 0 (va_cpy (R 4) (R 0) sp dp k)) L G := by
  have e113 : (113 : Int32) = nI 113 := by decide +kernel
  intro d
  induction d with
  | zero =>
    intro k hk
    rw [show k = 113 by omega]
    exact ⟨fun _ => hp, fun z => absurd (by rw [e113]; exact nI_le (Nat.le_refl _) (by decide)) z⟩
  | succ d ih =>
    intro k hk
    refine ⟨fun z => absurd z (by rw [e113]; exact nI_ge (by omega) (by omega)), fun _ => ?_⟩
    rw [nI_add, nI_add]
    refine ⟨vp_in_nI (by omega) (by omega), vp_in_nI (by omega) (by omega), fun R' e x e2 => ?_⟩
    rw [nI_1] at e2
    subst e2
    rw [nI_clamp (by omega), nI_clamp (by omega), va_up_self, va_up_ne _ _ (show (4 : Nat) ≠ 0 by decide), upR_upR, cpy_s] at e
    subst e
    exact ih (k + 1) (by omega)
theorem wp_copies_4_0 {post : mF → mR → mL → mG → Prop} {F : mF} {L : mL} {G : mG} {R : mR} {sp dp : Nat} (hs : sp + 113 ≤ 452) (hd : dp + 113 ≤ 113) (hp : post F (va_up R 0 (va_cpy (R 4) (R 0) sp dp 113)) L G) : wpX3_copies_4_0 post F R L G (nI sp) (nI dp) := by
  refine ⟨114, ?_⟩
  have := wl_copies_4_0 hs hd hp 113 0 rfl
  rw [cpy_0, upR_id] at this
  exact this

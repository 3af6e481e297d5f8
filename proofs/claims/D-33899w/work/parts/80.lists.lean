/-! THE PLAIN LAW: lists -/
set_option maxRecDepth 100000
theorem gfI_of {X : hX} {a ci k : Nat} {P : Int32 → Prop} {fs : List Value} {x : Int32} (h : X a = some (.inr (ci, fs))) (hk : fs[k]? = some (.int x)) (hp : P x) : gfI X a ci k P := ⟨fs, x, h, hk, hp⟩
theorem gfA_of {X : hX} {a ci k : Nat} {P : Nat → Prop} {fs : List Value} {x : Nat} (h : X a = some (.inr (ci, fs))) (hk : fs[k]? = some (.ref x)) (hp : P x) : gfA X a ci k P := ⟨fs, x, h, hk, hp⟩
theorem gfQ_of {X : hX} {a ci k : Nat} {P : Option Nat → Prop} {fs : List Value} {x : Option Nat} (h : X a = some (.inr (ci, fs))) (hk : fs[k]? = some (va_rf x)) (hp : P x) : gfQ X a ci k P := ⟨fs, x, h, hk, hp⟩
theorem pfV_of {X : hX} {a ci k : Nat} {v : Value} {P : hX → Prop} {fs : List Value} (h : X a = some (.inr (ci, fs))) (hk : k < fs.length) (hp : P (hup X a (.inr (ci, fs.set k v)))) : pfV X a ci k v P := ⟨fs, h, hk, hp⟩
theorem hup_hup (X : hX) (a : Nat) (e e' : va_E) : hup (hup X a e) a e' = hup X a e' := by
  funext q
  by_cases h : q = a <;> simp [hup, h]
/-- an object that an array of references may hold -/
def obX (X : hX) (v : Nat) : Prop := ∃ ci fs, ci < 11 ∧ X v = some (.inr (ci, fs))
/-- X' holds what X holds, but at the addresses of l -/
def ext (l : List Nat) (X X' : hX) : Prop := ∀ q, q ∉ l → X q ≠ none → X' q = X q
theorem ext.refl (l : List Nat) (X : hX) : ext l X X := fun _ _ _ => rfl
theorem ext.trans {l : List Nat} {X Y Z : hX} (h1 : ext l X Y) (h2 : ext l Y Z) : ext l X Z := fun q h3 h4 => by
  have e := h1 q h3 h4
  rw [h2 q h3 (by rw [e]; exact h4), e]
theorem ext.mono {l l' : List Nat} {X Y : hX} (h : ext l X Y) (hs : ∀ q ∈ l, q ∈ l') : ext l' X Y := fun q h3 h4 => h q (fun z => h3 (hs q z)) h4
theorem ext.up {l : List Nat} {X : hX} {a : Nat} {e : va_E} (ha : a ∈ l ∨ X a = none) : ext l X (hup X a e) := fun q h3 h4 => by
  have hq : q ≠ a := fun z => by
    subst z
    exact ha.elim h3 h4
  exact hup_n X e hq
theorem obX.exO {l : List Nat} {X X' : hX} {v : Nat} (h : obX X v) (he : ext l X X') (hv : v ∉ l) : obX X' v := by
  obtain ⟨ci, fs, h1, h2⟩ := h
  exact ⟨ci, fs, h1, by rw [he v hv (by rw [h2]; exact fun z => by cases z)]; exact h2⟩
/-- a list of references, its array at arr (the shared empty one if nothing was ever put in) -/
def listX (E : Nat) (X : hX) (l arr : Nat) (xs : List Nat) : Prop :=
  (∃ md : Int32, X l = some (.inr (8, [.int md, .ref arr, .int (nI xs.length)]))) ∧
  ((xs = [] ∧ arr = E) ∨ ∃ (n : Nat) (f : Nat → Option Nat), X arr = some (.inl (4, n, .inr (.inr (.inr (.inr f))))) ∧ (0 < xs.length ∧ xs.length ≤ n) ∧ 10 ≤ n ∧ n ≤ 40 ∧ ∀ i, i < n → f i = xs[i]?)
theorem wp_ckI {E : Nat} {X : hX} {post : Int32 → hX → Prop} {i n : Nat} (h : i < n) (hn : n < 2 ^ 31) (hp : post (nI i) X) : wpJ8_checkIndex post E X (nI i) (nI n) := by
  unfold wpJ8_checkIndex wpJ9_checkIndex
  refine ⟨fun z => absurd z (nI_pos (by omega)), fun _ => ⟨fun _ => hp, fun z => absurd (nI_lt h hn) z⟩⟩
theorem wp_size {E : Nat} {X : hX} {post : Int32 → hX → Prop} {l arr : Nat} {xs : List Nat} (h : listX E X l arr xs) (hp : post (nI xs.length) X) : wpJ2_size post E X l := by
  obtain ⟨⟨md, h1⟩, -⟩ := h
  exact gfI_of h1 rfl hp
theorem listX.is {E : Nat} {X : hX} {l arr : Nat} {xs : List Nat} (h : listX E X l arr xs) : ∃ fs, X l = some (.inr (8, fs)) := by
  obtain ⟨⟨md, h1⟩, -⟩ := h
  exact ⟨_, h1⟩
theorem listX.arr {E : Nat} {X : hX} {l arr : Nat} {xs : List Nat} (h : listX E X l arr xs) {i : Nat} (hi : i < xs.length) : ∃ (n : Nat) (f : Nat → Option Nat), X arr = some (.inl (4, n, .inr (.inr (.inr (.inr f))))) ∧ (0 < xs.length ∧ xs.length ≤ n) ∧ 10 ≤ n ∧ n ≤ 40 ∧ ∀ i, i < n → f i = xs[i]? := by
  obtain ⟨-, ⟨h1, -⟩ | h1⟩ := h
  · rw [h1] at hi; exact absurd hi (Nat.not_lt_zero i)
  · exact h1
theorem wp_eD {E : Nat} {X : hX} {post : Option Nat → hX → Prop} {l arr : Nat} {xs : List Nat} (h : listX E X l arr xs) {i : Nat} (hi : i < xs.length) (hp : post (some xs[i]) X) : wpJ2_elementData post E X l (nI i) := by
  obtain ⟨n, f, g1, g2, g3, g4, g5⟩ := h.arr hi
  obtain ⟨⟨md, h1⟩, -⟩ := h
  refine gfA_of h1 rfl ⟨n, f, g1, vp_in_nI (by omega) (by omega), ?_⟩
  rw [nI_clamp (by omega), g5 i (by omega), List.getElem?_eq_getElem hi]
  exact hp
theorem wp_get {E : Nat} {X : hX} {post : Option Nat → hX → Prop} {l arr : Nat} {xs : List Nat} (h : listX E X l arr xs) {i : Nat} (hi : i < xs.length) (hp : post (some xs[i]) X) : wpJ2_get post E X l (nI i) := by
  obtain ⟨n, f, g1, g2, g3, g4, g5⟩ := h.arr hi
  obtain ⟨md, h1⟩ := h.1
  exact gfI_of h1 rfl (wp_ckI hi (by omega) ⟨h.is, wp_eD h hi ⟨_, rfl, hp⟩⟩)
theorem wp_linit {E : Nat} {X : hX} {post : hX → Prop} {l : Nat} (h : X l = some (.inr (8, [.int 0, .null, .int 0]))) (hp : ∀ X', listX E X' l E [] → ext [l] X X' → post X') : wpJ2_init post E X l := by
  unfold wpJ2_init wpJ1_init wpJ0_init
  refine pfV_of h (by decide) (pfV_of (hup_s _ _ _) (by show 1 < 3; decide) ?_)
  refine hp _ ⟨⟨0, hup_s _ _ _⟩, Or.inl ⟨rfl, rfl⟩⟩ ?_
  rw [hup_hup]
  exact ext.up (Or.inl (by simp))
theorem wp_max {post : Int32 → Prop} {a b : Nat} (ha : a < 2 ^ 31) (hb : b < 2 ^ 31) (hp : post (nI (max a b))) : wpJ11_max post (nI a) (nI b) := by
  refine ⟨fun z => ?_, fun z => ?_⟩
  · rw [Nat.max_eq_right (Nat.le_of_lt ((nI_ltI ha hb).mp z))] at hp
    exact hp
  · rw [Nat.max_eq_left (Nat.le_of_not_lt (fun y => z ((nI_ltI ha hb).mpr y)))] at hp
    exact hp
theorem wp_min {post : Int32 → Prop} {a b : Nat} (ha : a < 2 ^ 31) (hb : b < 2 ^ 31) (hp : post (nI (min a b))) : wpJ11_min post (nI a) (nI b) := by
  refine ⟨fun z => ?_, fun z => ?_⟩
  · rw [Nat.min_eq_right (Nat.le_of_lt ((nI_ltI hb ha).mp z))] at hp
    exact hp
  · rw [Nat.min_eq_left (Nat.le_of_not_lt (fun y => z ((nI_ltI hb ha).mpr y)))] at hp
    exact hp
theorem nI_shr : ∀ n, n < 64 → nI n >>> (1 &&& 31) = nI (n / 2) := by decide +kernel
theorem nI_sub1 (n : Nat) : nI (n + 1) - nI n = nI 1 := by
  rw [← nI_add n 1]
  show nI n + nI 1 - nI n = nI 1
  rw [Int32.add_comm, Int32.add_sub_cancel]
theorem wp_newLen {E : Nat} {X : hX} {post : Int32 → hX → Prop} {a b c : Nat} (ha : 0 < a) (ha2 : a < 1000) (hb : b < 1000) (hc : c < 1000) (hp : post (nI (a + max b c)) X) : wpJ10_newLength post E X (nI a) (nI b) (nI c) := by
  unfold wpJ10_newLength
  have hm : max b c < 1000 := by omega
  refine wp_max (by omega) (by omega) (fun x e => ?_)
  rw [nI_add] at e
  subst e
  refine ⟨fun z => absurd z (nI_nle (by omega) (by omega)), fun _ => ⟨fun z => ?_, fun _ => hp⟩⟩
  rw [show (2147483639 : Int32) = nI 2147483639 from by decide +kernel] at z
  have := (nI_ltI (by omega) (by omega)).mp z
  omega
theorem alen_of {E : Nat} {X : hX} {a t n : Nat} {w : (Nat → Int32) ⊕ (Nat → Int64) ⊕ (Nat → UInt32) ⊕ (Nat → UInt64) ⊕ (Nat → Option Nat)} {P : Int32 → Prop} (h : X a = some (.inl (t, n, w))) (ht : t < 5) (hp : P (nI n)) : alen E X a P := Or.inl ⟨t, (n, w), ht, h, hp⟩
/-- growth of a list that is full -/
theorem wp_grow {E mc ms : Nat} {X : hX} {post : Option Nat → hX → Prop} {l arr n : Nat} {md : Int32} {f : Nat → Option Nat} {xs : List Nat} (hl : X l = some (.inr (8, [.int md, .ref arr, .int (nI n)]))) (ha : X arr = some (.inl (4, n, .inr (.inr (.inr (.inr f)))))) (h10 : 10 ≤ n) (hn : n ≤ 26) (hx : xs.length = n) (hf : ∀ i, i < n → f i = xs[i]?) (hob : ∀ y ∈ xs, obX X y) (hmc : 1 ≤ mc) (hms : 40 ≤ ms)
    (hp : ∀ (X' : hX) (q : Nat) (f' : Nat → Option Nat), X' l = some (.inr (8, [.int md, .ref q, .int (nI n)])) → X' q = some (.inl (4, n + n / 2, .inr (.inr (.inr (.inr f'))))) → (∀ i, i < n + n / 2 → f' i = xs[i]?) → X q = none → ext [l] X X' → post (some q) X') : wpJ2_grow post E mc ms X l := by
  refine gfI_of hl rfl ⟨⟨_, hl⟩, mc, ms, by omega, by omega, ?_⟩
  refine gfA_of hl rfl (alen_of ha (by decide) ⟨fun _ => ?_, fun z => absurd (nI_lt (a := 0) (b := n) (by omega) (by omega)) (by rw [nI_0]; exact z)⟩)
  unfold wpJ2_grow_2_20
  rw [nI_1, nI_sub1, nI_shr n (by omega)]
  refine wp_newLen (by omega) (by omega) (by omega) (by omega) ?_
  rw [show max 1 (n / 2) = n / 2 by omega]
  have hcl : (nI (n + n / 2)).toNatClampNeg = n + n / 2 := nI_clamp (by omega)
  refine gfA_of hl rfl ⟨mc, ms, by omega, by omega, ⟨⟨_, ha⟩, mc, ms, by omega, by omega, ?_⟩⟩
  refine ⟨nI_pos (by omega), by rw [hcl]; omega, by omega, by rw [hcl]; omega, fun q hq => ?_⟩
  have hqa : arr ≠ q := fun z => by rw [z, hq] at ha; cases ha
  have hql : l ≠ q := fun z => by rw [z, hq] at hl; cases hl
  rw [hcl]
  have ha1 : hup X q (.inl (4, n + n / 2, .inr (.inr (.inr (.inr (fun _ => none)))))) arr = some (.inl (4, n, .inr (.inr (.inr (.inr f))))) := by rw [hup_n _ _ hqa]; exact ha
  refine alen_of ha1 (by decide) (wp_min (by omega) (by omega) ?_)
  rw [show min n (n + n / 2) = n by omega]
  have hcn : (nI n).toNatClampNeg = n := nI_clamp (by omega)
  have h00 : Int32.toNatClampNeg 0 = 0 := rfl
  refine ⟨n, f, n + n / 2, fun _ => none, ha1, hup_s _ _ _, ⟨by decide, by decide, nI_pos (by omega), by rw [hcn, h00]; omega, by rw [hcn, h00]; omega⟩, fun i hi y hy => ?_, ?_⟩
  · rw [hcn] at hi
    rw [h00, Nat.zero_add, hf i hi] at hy
    obtain ⟨ci, fs, z1, z2⟩ := hob y (List.mem_of_getElem? hy)
    exact ⟨ci, fs, z1, by rw [hup_n _ _ (fun z => by rw [z, hq] at z2; cases z2)]; exact z2⟩
  · refine ⟨q, rfl, _, rfl, ?_⟩
    rw [hup_hup]
    refine pfV_of (fs := [.int md, .ref arr, .int (nI n)]) (by rw [hup_n _ _ hql]; exact hl) (by show 1 < 3; decide) ⟨q, rfl, ?_⟩
    refine hp _ q _ (hup_s _ _ _) (by rw [hup_n _ _ (Ne.symm hql)]; exact hup_s _ _ _) (fun i hi => ?_) hq (ext.trans (ext.up (Or.inr hq)) (ext.up (Or.inl (by simp))))
    rw [h00, hcn]
    unfold va_cpy
    by_cases z : i < n
    · simp [z, hf i z]
    · rw [List.getElem?_eq_none (by omega)]
      simp [z]
/-- .. of the list that is new -/
theorem wp_grow0 {E mc ms : Nat} {X : hX} {post : Option Nat → hX → Prop} {l : Nat} {md : Int32} (hl : X l = some (.inr (8, [.int md, .ref E, .int 0]))) (hmc : 1 ≤ mc) (hms : 40 ≤ ms)
    (hp : ∀ (X' : hX) (q : Nat), X' l = some (.inr (8, [.int md, .ref q, .int 0])) → X' q = some (.inl (4, 10, .inr (.inr (.inr (.inr (fun _ => none)))))) → X q = none → ext [l] X X' → post (some q) X') : wpJ2_grow post E mc ms X l := by
  refine gfI_of hl rfl ⟨⟨_, hl⟩, mc, ms, by omega, by omega, ?_⟩
  refine gfA_of hl rfl (Or.inr ⟨rfl, ⟨fun z => absurd z (by decide), fun _ => gfA_of hl rfl ⟨fun _ => ?_, fun z => absurd rfl z⟩⟩⟩)
  have e1 : (10 : Int32) = nI 10 := by decide +kernel
  have e2 : (0 : Int32) + 1 = nI 1 := by decide +kernel
  rw [e1, e2]
  refine wp_max (by decide) (by decide) ?_
  have hcl : (nI (max 10 1)).toNatClampNeg = 10 := nI_clamp (by decide)
  refine ⟨nI_pos (by decide), by rw [hcl]; decide, by omega, by rw [hcl]; omega, fun q hq => ?_⟩
  have hql : l ≠ q := fun z => by rw [z, hq] at hl; cases hl
  rw [hcl]
  refine pfV_of (fs := [.int md, .ref E, .int 0]) (by rw [hup_n _ _ hql]; exact hl) (by show 1 < 3; decide) ⟨q, rfl, ?_⟩
  exact hp _ q (hup_s _ _ _) (by rw [hup_n _ _ (Ne.symm hql)]; exact hup_s _ _ _) hq (ext.trans (ext.up (Or.inr hq)) (ext.up (Or.inl (by simp))))
/-- the cells that a list owns -/
def lcs (l arr : Nat) (xs : List Nat) : List Nat := if xs = [] then [l] else [l, arr]
theorem lcs_l {l arr : Nat} {xs : List Nat} : l ∈ lcs l arr xs := by
  unfold lcs
  split <;> simp
theorem wp_add {E mc ms : Nat} {X : hX} {post : Int32 → hX → Prop} {l arr v : Nat} {xs : List Nat} (h : listX E X l arr xs) (hv : obX X v) (hob : ∀ y ∈ xs, obX X y) (hlen : xs.length < 25) (hmc : 1 ≤ mc) (hms : 40 ≤ ms)
    (hp : ∀ (X' : hX) (arr' : Nat), listX E X' l arr' (xs ++ [v]) → ext (lcs l arr xs) X X' → (arr' = arr ∧ xs ≠ [] ∨ X arr' = none) → post 1 X') : wpJ2_add post E mc ms X l v := by
  obtain ⟨⟨md, hl⟩, hc⟩ := h
  refine gfI_of hl rfl (pfV_of hl (by show 0 < 3; decide) ?_)
  rw [show ([.int md, .ref arr, .int (nI xs.length)] : List Value).set 0 (.int (md + 1)) = [.int (md + 1), .ref arr, .int (nI xs.length)] from rfl]
  generalize hX1 : hup X l (.inr (8, [.int (md + 1), .ref arr, .int (nI xs.length)])) = X1
  have hl1 : X1 l = some (.inr (8, [.int (md + 1), .ref arr, .int (nI xs.length)])) := by rw [← hX1]; exact hup_s _ _ _
  have hx1 : ext [l] X X1 := by rw [← hX1]; exact ext.up (Or.inl (by simp))
  have hob1 : ∀ y, obX X y → obX X1 y := fun y hy => by
    by_cases z : y = l
    · subst z; exact ⟨8, _, by decide, hl1⟩
    · exact hy.exO hx1 (by simpa using z)
  refine gfA_of hl1 rfl (gfI_of hl1 rfl ⟨⟨_, hl1⟩, mc, ms, by omega, by omega, ?_⟩)
  -- what is put in at last, from a world with room
  have last : ∀ (X2 : hX) (q n : Nat) (f : Nat → Option Nat), X2 l = some (.inr (8, [.int (md + 1), .ref q, .int (nI xs.length)])) → X2 q = some (.inl (4, n, .inr (.inr (.inr (.inr f))))) → xs.length < n → 10 ≤ n → n ≤ 40 → (∀ i, i < n → f i = xs[i]?) → ext [l] X1 X2 → (q = arr ∧ xs ≠ [] ∨ X q = none) → ∀ kc ks : Nat, wpJ2_add_2_11 (fun X_17 => post 1 X_17) E mc ms l v q (nI xs.length) X2 kc ks := by
    intro X2 q n f g1 g2 g3 g4 g5 g6 g7 g8 kc ks
    have hql : l ≠ q := fun z => by rw [z, g2] at g1; cases g1
    have hv2 : obX X2 v := by
      by_cases z : v = l
      · subst z; exact ⟨8, _, by decide, g1⟩
      · exact (hob1 v hv).exO g7 (by simpa using z)
    refine ⟨n, f, g2, vp_in_nI g3 (by omega), hv2, ?_⟩
    rw [nI_clamp (by omega), nI_1]
    refine pfV_of (fs := [.int (md + 1), .ref q, .int (nI xs.length)]) (by rw [hup_n _ _ hql]; exact g1) (by show 2 < 3; decide) ?_
    refine hp _ q ⟨⟨md + 1, by rw [hup_s, List.length_append]; rfl⟩, Or.inr ⟨n, _, (hup_n _ _ (Ne.symm hql)).trans (hup_s _ _ _), ⟨by simp, by simp; omega⟩, g4, g5, fun i hi => ?_⟩⟩ ?_ g8
    · by_cases z : i = xs.length
      · subst z
        rw [va_up_self]
        simp
      · rw [va_up_ne _ _ z, g6 i hi]
        by_cases z2 : i < xs.length
        · rw [List.getElem?_append_left z2]
        · rw [List.getElem?_eq_none (by omega), List.getElem?_eq_none (by simp; omega)]
    · have e1 : ext (lcs l arr xs) X X2 := (hx1.trans g7).mono (fun y hy => by rw [List.mem_singleton.mp hy]; exact lcs_l)
      intro y hy1 hy2
      have hyl : y ≠ l := fun z => hy1 (by rw [z]; exact lcs_l)
      have hyq : y ≠ q := fun z => by
        rcases g8 with ⟨g8, g9⟩ | g8
        · exact hy1 (by rw [z, g8]; unfold lcs; rw [if_neg g9]; simp)
        · exact hy2 (by rw [z]; exact g8)
      rw [hup_n _ _ hyl, hup_n _ _ hyq]
      exact e1 y hy1 hy2
  rcases hc with ⟨rfl, rfl⟩ | ⟨n, f, ha, ⟨h0, h1⟩, h10, h40, hf⟩
  · refine Or.inr ⟨rfl, ⟨fun _ => ⟨⟨_, hl1⟩, mc, ms, by omega, by omega, ?_⟩, fun z => absurd rfl z⟩⟩
    refine wp_grow0 hl1 hmc hms (fun X2 q g1 g2 g3 g4 => ⟨q, rfl, ?_⟩)
    refine last X2 q 10 _ g1 g2 (by decide) (by decide) (by decide) (fun i _ => by simp) g4 (Or.inr ?_) _ _
    by_cases z : q = l
    · rw [z, hl1] at g3; cases g3
    · cases hq : X q with
      | none => rfl
      | some w => rw [hx1 q (by simpa using z) (by rw [hq]; exact fun y => by cases y), hq] at g3; cases g3
  · have hla : arr ≠ l := fun z => by rw [z, hl] at ha; cases ha
    have ha1 : X1 arr = some (.inl (4, n, .inr (.inr (.inr (.inr f))))) := by rw [hx1 arr (by simpa using hla) (by rw [ha]; exact fun y => by cases y)]; exact ha
    have hne : xs ≠ [] := fun z => by rw [z] at h0; exact absurd h0 (Nat.lt_irrefl 0)
    refine alen_of ha1 (by decide) ⟨fun z => ⟨⟨_, hl1⟩, mc, ms, by omega, by omega, ?_⟩, fun z => ?_⟩
    · have z : xs.length = n := (nI_eq (by omega) (by omega)).mp z
      subst z
      refine wp_grow hl1 ha1 h10 (by omega) rfl hf (fun y hy => hob1 y (hob y hy)) hmc hms (fun X2 q f' g1 g2 g3 g4 g5 => ⟨q, rfl, ?_⟩)
      refine last X2 q _ f' g1 g2 (by omega) (by omega) (by omega) g3 g5 (Or.inr ?_) _ _
      by_cases z : q = l
      · rw [z, hl1] at g4; cases g4
      · cases hq : X q with
        | none => rfl
        | some w => rw [hx1 q (by simpa using z) (by rw [hq]; exact fun y => by cases y), hq] at g4; cases g4
    · have z2 : xs.length ≠ n := fun y => z (by rw [y])
      exact last X1 arr n f hl1 ha1 (by omega) h10 h40 hf (ext.refl _ _) (Or.inl ⟨rfl, hne⟩) _ _
/-- a wheel is replaced -/
theorem wp_set {E : Nat} {X : hX} {post : Option Nat → hX → Prop} {l arr v i : Nat} {xs : List Nat} (h : listX E X l arr xs) (hv : obX X v) (hi : i < xs.length)
    (hp : ∀ X' : hX, listX E X' l arr (xs.set i v) → ext [arr] X X' → post (some xs[i]) X') : wpJ2_set post E X l (nI i) v := by
  obtain ⟨n, f, ha, ⟨h0, h1⟩, h10, h40, hf⟩ := h.arr hi
  obtain ⟨md, hl⟩ := h.1
  have hla : l ≠ arr := fun z => by rw [z, ha] at hl; cases hl
  refine gfI_of hl rfl (wp_ckI hi (by omega) ⟨h.is, wp_eD h hi ⟨_, rfl, gfA_of hl rfl ⟨n, f, ha, vp_in_nI (by omega) (by omega), hv, ?_⟩⟩⟩)
  rw [nI_clamp (by omega)]
  refine hp _ ⟨⟨md, by rw [hup_n _ _ hla, List.length_set]; exact hl⟩, Or.inr ⟨n, _, hup_s _ _ _, ⟨by rw [List.length_set]; exact h0, by rw [List.length_set]; exact h1⟩, h10, h40, fun j hj => ?_⟩⟩ (ext.up (Or.inl (by simp)))
  by_cases z : j = i
  · subst z
    rw [va_up_self, List.getElem?_set_self hi]
  · rw [va_up_ne _ _ z, hf j hj, List.getElem?_set_ne (Ne.symm z)]

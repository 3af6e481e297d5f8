/-! MY TOOLS: the classes, the model's world, rows for the model and for plain static methods -/
set_option maxRecDepth 100000
/-- Refused: of its fields only its own one is watched -/
def TX4r : u_T := fun _ => ("ClockworkOrreries$Refused", "kind", "I", true)
abbrev vcl : List vw_C := [(RX3, TX3, 28), (RX1, TX1, 4), (RX2, TX2, 9), (RX6, TX6, 9), (RX9, TX9, 8), (RX5, TX5, 2), (RX7, TX7, 3), (RX8, TX8, 2), (RJ2, TJ2, 3), (RJ3, TJ3, 3), (RJ5, TJ5, 4), (RX4, TX4r, 1), (RJ18, TJ18, 0), (RJ16, TJ16, 0), (RJ17, TJ17, 0)]
abbrev KT : Type := va_G × (Nat → ClassId)
abbrev tyK (K : KT) : List (ClassId × FieldType) := [(K.2 0, .int), (K.2 1, .long), (K.2 2, .byte), (K.2 3, .float), (K.2 4, .object "java/lang/Object")]
def KN (K : KT) (U : State) : Prop := va_K K.1 vcl (tyK K) U
theorem KN.moved {K : KT} {u U : State} (hvm : u.vm.Alike U.vm) (h : KN K u) : KN K U := va_K.moved hvm h
abbrev rmo (fr lo : Nat) : Room := { frames := fr, cells := 0, slots := 0, locals := lo }
abbrev mF : Type := Nat → Int32
abbrev mR : Type := Nat → Nat → Int32
abbrev mL : Type := Nat → Nat → Int64
abbrev mG : Type := Nat → Int64
abbrev mS : Type := mF × mR × mL × mG
def iRem (x y : Int32) : Int32 := x - x / y * y
def lRem (x y : Int64) : Int64 := x - x / y * y
/-- the model's fields in the order of its slots: F the numbers, G the longs, a the arrays' addresses -/
abbrev mfs (a : Nat → Nat) (F : mF) (G : mG) : List Value := [.ref (a 0), .ref (a 1), .ref (a 2), .int (F 3), .ref (a 4), .int (F 5), .ref (a 6), .int (F 7), .int (F 8), .ref (a 9), .ref (a 10), .ref (a 11), .ref (a 12), .int (F 13), .long (G 14), .long (G 15), .int (F 16), .int (F 17), .int (F 18), .int (F 19), .int (F 20), .int (F 21), .int (F 22), .int (F 23), .int (F 24), .int (F 25), .int (F 26), .int (F 27)]
abbrev mw (K : KT) (h : Nat) (a : Nat → Nat) (F : mF) (R : mR) (L : mL) (G : mG) : va_W := [(h, .inr (0, mfs a F G)), (a 0, .inl (K.2 0, 113, .inl (R 0))), (a 1, .inl (K.2 0, 113, .inl (R 1))), (a 2, .inl (K.2 0, 113, .inl (R 2))), (a 4, .inl (K.2 0, 452, .inl (R 4))), (a 6, .inl (K.2 0, 60, .inl (R 6))), (a 9, .inl (K.2 0, 12, .inl (R 9))), (a 10, .inl (K.2 1, 12, .inr (.inl (L 10)))), (a 11, .inl (K.2 1, 12, .inr (.inl (L 11)))), (a 12, .inl (K.2 0, 12, .inl (R 12)))]
def mP (K : KT) (h : Nat) (a : Nat → Nat) (F : mF) (R : mR) (L : mL) (G : mG) (H : Heap) : Prop := va_P K.1 vcl (mw K h a F R L G) H
def mAl (h : Nat) (a : Nat → Nat) : List Nat := [h, a 0, a 1, a 2, a 4, a 6, a 9, a 10, a 11, a 12]
def mA (h : Nat) (a : Nat → Nat) : Nat → Prop := fun q => q ∈ mAl h a
def mAp (h : Nat) (a : Nat → Nat) : Prop := (mAl h a).Nodup
theorem mD {K : KT} {h : Nat} {a : Nat → Nat} {F : mF} {R : mR} {L : mL} {G : mG} (hap : mAp h a) : va_D (mA h a) (mw K h a F R L G) := by
  have e : (mw K h a F R L G).map (fun q => q.1) = mAl h a := rfl
  have key : ∀ (k : Nat) (q : Nat × va_E), (mw K h a F R L G)[k]? = some q → (mAl h a)[k]? = some q.1 := by
    intro k q hk
    rw [← e, List.getElem?_map, hk]; rfl
  refine ⟨fun i j p q hi hj hpq => ?_, fun k q hk => ?_⟩
  · have h1 := key i p hi
    have h2 := key j q hj
    rw [hpq, ← h2] at h1
    exact (List.getElem?_inj (by have := (List.getElem?_eq_some_iff.mp hi).1; exact this) hap).mp h1
  · exact List.mem_of_getElem? (key k q hk)
abbrev mPre (K : KT) (h : Nat) (a : Nat → Nat) (F : mF) (R : mR) (L : mL) (G : mG) (As : List Value) (wp : Prop) : Array Value → State → Prop := va_Pc (.ref h :: As) (fun U => mP K h a F R L G U.heap ∧ KN K U ∧ wp)
abbrev mB (K : KT) (h : Nat) (a : Nat → Nat) (u : mS) (t : State) : Prop := mP K h a u.1 u.2.1 u.2.2.1 u.2.2.2 t.heap
abbrev mQi (post : Int32 → mF → mR → mL → mG → Prop) (K : KT) (h : Nat) (a : Nat → Nat) : Array Value → State → Outcome → State → Prop := va_Qi (S := mS) (fun r u => post r u.1 u.2.1 u.2.2.1 u.2.2.2) (mB K h a) (mA h a)
abbrev mQl (post : Int64 → mF → mR → mL → mG → Prop) (K : KT) (h : Nat) (a : Nat → Nat) : Array Value → State → Outcome → State → Prop := va_Ql (S := mS) (fun r u => post r u.1 u.2.1 u.2.2.1 u.2.2.2) (mB K h a) (mA h a)
abbrev mQf (post : UInt32 → mF → mR → mL → mG → Prop) (K : KT) (h : Nat) (a : Nat → Nat) : Array Value → State → Outcome → State → Prop := va_Qf (S := mS) (fun r u => post r u.1 u.2.1 u.2.2.1 u.2.2.2) (mB K h a) (mA h a)
abbrev mQv (post : mF → mR → mL → mG → Prop) (K : KT) (h : Nat) (a : Nat → Nat) : Array Value → State → Outcome → State → Prop := va_Qv (S := mS) (fun u => post u.1 u.2.1 u.2.2.1 u.2.2.2) (mB K h a) (mA h a)
abbrev sPre (As : List Value) (wp : Prop) : Array Value → State → Prop := va_Pc As (fun _ => wp)
theorem vpd {i : Int32} {n : Nat} (h : (decide (i < 0) || decide (n ≤ i.toNatClampNeg)) = false) : vp_in i n := by
  intro z
  have e := decide_eq_true z
  rw [Bool.decide_or, h] at e
  cases e
theorem zb_n {x : Int32} (h : x = 0 ∨ x = 1) : narrow .boolean (.int x) = .int x := by rcases h with rfl | rfl <;> rfl
theorem zb_f {x : Int32} (h : x = 0 ∨ x = 1) : fits .boolean (.int x) = true := by rcases h with rfl | rfl <;> rfl
theorem lc_eq (x y : Int64) : (lg_cmp x y = 0) = (x = y) := by
  unfold lg_cmp
  apply propext
  constructor
  · intro h
    split at h
    · exact absurd h (by decide)
    · split at h
      · assumption
      · exact absurd h (by decide)
  · rintro rfl
    have : ¬ x > x := fun z => absurd (Int64.lt_iff_toInt_lt.mp z) (by omega)
    rw [if_neg this, if_pos rfl]
theorem lc_ge (x y : Int64) : (0 ≤ lg_cmp x y) = (y ≤ x) := propext (lg_cmp_ge x y)
theorem lc_lt (x y : Int64) : (lg_cmp x y < 0) = (x < y) := by
  have e1 : (lg_cmp x y < 0) = ¬ (0 ≤ lg_cmp x y) := propext (by rw [Int32.lt_iff_toInt_lt, Int32.le_iff_toInt_le]; omega)
  have e2 : (x < y) = ¬ (y ≤ x) := propext (by rw [Int64.lt_iff_toInt_lt, Int64.le_iff_toInt_le]; omega)
  rw [e1, e2, lc_ge]
theorem lc_le (x y : Int64) : (lg_cmp x y ≤ 0) = (x ≤ y) := by
  have h1 := lc_lt x y
  have h2 := lc_eq x y
  have e1 : (lg_cmp x y ≤ 0) = (lg_cmp x y < 0 ∨ lg_cmp x y = 0) := propext (by rw [Int32.lt_iff_toInt_lt, Int32.le_iff_toInt_le, ← Int32.toInt_inj]; show _ ≤ (0 : Int) ↔ _ < (0 : Int) ∨ _ = (0 : Int); omega)
  have e2 : (x ≤ y) = (x < y ∨ x = y) := propext (by rw [Int64.lt_iff_toInt_lt, Int64.le_iff_toInt_le, ← Int64.toInt_inj]; omega)
  rw [e1, e2, h1, h2]
theorem lc_gt (x y : Int64) : (0 < lg_cmp x y) = (y < x) := by
  have h1 := lc_le x y
  have e1 : (0 < lg_cmp x y) = ¬ (lg_cmp x y ≤ 0) := propext (by rw [Int32.lt_iff_toInt_lt, Int32.le_iff_toInt_le]; omega)
  have e2 : (y < x) = ¬ (x ≤ y) := propext (by rw [Int64.lt_iff_toInt_lt, Int64.le_iff_toInt_le]; omega)
  rw [e1, e2, h1]
section MROWS
variable {p : Program} {l : Launch} {e : Env} {R0 : Room} {s : State} {m : MethodId} {args : Array Value} {below : List Frame} {meth : Method} {c : Code} {H : Heap} {locs : List Loc} {cells slots : Nat} {Q : State → Prop}
variable {pc nL : Nat} {ls : Array Slot} {rest st As : List Value} {cc : ByteArray} {K : KT} {h : Nat} {a : Nat → Nat} {F : mF} {R : mR} {L : mL} {G : mG} {H0 : Heap} {index n maxL : Nat} {y : MethodName} {bytes : ByteArray} {ret : Option FieldType} {ws : List Cond} {rm : Room} {wp : Prop}
theorem m_get (hx : p.tables.exec = Jvm.exec) (hb : c.code = cc) (hts : ∀ w ∈ lw_all, w.before args s = true) (hown : s.vm.findClass RX3 = some m.cls) (hK : KN K s) (hP : mP K h a F R L G H) (k : Nat) (hk : k < 28) (hlink : (Cond.fieldLink RX3 index (TX3 k).1 (TX3 k).2.1 (TX3 k).2.2.1) ∈ lw_all) {v : Value} (hv : (mfs a F G)[k]? = some v) (hdg : decode cc pc = .ok (.getfield index, 3))
    (kk : W p l e R0 s m args below meth c H locs cells slots Q (F0 m (pc + 3) ls (v :: rest))) : W p l e R0 s m args below meth c H locs cells slots Q (F0 m pc ls (.ref h :: rest)) :=
  va_get (T := TX3) (N := 28) (ci := 0) hx hb hts in_X3 hown hK hP 0 rfl rfl k hk (hts _ hlink) (fun _ q => q) hv hdg kk
theorem m_puti (hx : p.tables.exec = Jvm.exec) (hb : c.code = cc) (hts : ∀ w ∈ lw_all, w.before args s = true) (hown : s.vm.findClass RX3 = some m.cls) (hK : KN K s) (hap : mAp h a) (hP : mP K h a F R L G H) (hS : va_S (mA h a) H0 H locs) (k : Nat) (hk : k < 28) (hlink : (Cond.fieldLink RX3 index (TX3 k).1 (TX3 k).2.1 (TX3 k).2.2.1) ∈ lw_all) {x : Int32} (hfin : (TX3 k).2.2.2 = false) (hn : narrow (tyX3 k) (.int x) = .int x) (hfit : fits (tyX3 k) (.int x) = true) (hs : (mfs a F G).set k (.int x) = mfs a (va_up F k x) G) (hdg : decode cc pc = .ok (.putfield index, 3))
    (kk : ∀ (H1 : Heap) (locs1 : List Loc), mP K h a (va_up F k x) R L G H1 → va_S (mA h a) H0 H1 locs1 → W p l e R0 s m args below meth c H1 locs1 cells slots Q (F0 m (pc + 3) ls rest)) : W p l e R0 s m args below meth c H locs cells slots Q (F0 m pc ls (.int x :: .ref h :: rest)) :=
  va_put (T := TX3) (N := 28) (ci := 0) hx hb hts in_X3 tyX3 tyX3_ok nmX3 hown hK hP (mD hap) hS 0 rfl rfl k hk (hts _ hlink) (fun _ q => q) hfin (tyX3_ok k hk) hn hfit (by show k < 28; exact hk) hdg
    (fun H1 locs1 q1 _ q3 => kk H1 locs1 (by rw [hs] at q1; exact q1) q3)
theorem m_putl (hx : p.tables.exec = Jvm.exec) (hb : c.code = cc) (hts : ∀ w ∈ lw_all, w.before args s = true) (hown : s.vm.findClass RX3 = some m.cls) (hK : KN K s) (hap : mAp h a) (hP : mP K h a F R L G H) (hS : va_S (mA h a) H0 H locs) (k : Nat) (hk : k < 28) (hlink : (Cond.fieldLink RX3 index (TX3 k).1 (TX3 k).2.1 (TX3 k).2.2.1) ∈ lw_all) {x : Int64} (hfin : (TX3 k).2.2.2 = false) (hn : narrow (tyX3 k) (.long x) = .long x) (hfit : fits (tyX3 k) (.long x) = true) (hs : (mfs a F G).set k (.long x) = mfs a F (va_up G k x)) (hdg : decode cc pc = .ok (.putfield index, 3))
    (kk : ∀ (H1 : Heap) (locs1 : List Loc), mP K h a F R L (va_up G k x) H1 → va_S (mA h a) H0 H1 locs1 → W p l e R0 s m args below meth c H1 locs1 cells slots Q (F0 m (pc + 3) ls rest)) : W p l e R0 s m args below meth c H locs cells slots Q (F0 m pc ls (.long x :: .ref h :: rest)) :=
  va_put (T := TX3) (N := 28) (ci := 0) hx hb hts in_X3 tyX3 tyX3_ok nmX3 hown hK hP (mD hap) hS 0 rfl rfl k hk (hts _ hlink) (fun _ q => q) hfin (tyX3_ok k hk) hn hfit (by show k < 28; exact hk) hdg
    (fun H1 locs1 q1 _ q3 => kk H1 locs1 (by rw [hs] at q1; exact q1) q3)
theorem m_iald (hx : p.tables.exec = Jvm.exec) (hb : c.code = cc) (hK : KN K s) (hP : mP K h a F R L G H) (k q0 N : Nat) (he : (mw K h a F R L G)[q0]? = some (a k, .inl (K.2 0, N, .inl (R k)))) {i : Int32} {j : Nat} (hj : i.toNatClampNeg = j) (hin : vp_in i N) (hdg : decode cc pc = .ok (.iaload, 1))
    (kk : W p l e R0 s m args below meth c H locs cells slots Q (F0 m (pc + 1) ls (.int (R k j) :: rest))) : W p l e R0 s m args below meth c H locs cells slots Q (F0 m pc ls (.int i :: .ref (a k) :: rest)) :=
  va_iald hx hb hK hP q0 0 he rfl hin hdg (by rw [hj]; exact kk)
theorem m_iast (hx : p.tables.exec = Jvm.exec) (hb : c.code = cc) (hK : KN K s) (hap : mAp h a) (hP : mP K h a F R L G H) (hS : va_S (mA h a) H0 H locs) (k q0 N : Nat) (he : (mw K h a F R L G)[q0]? = some (a k, .inl (K.2 0, N, .inl (R k)))) {i x : Int32} {j : Nat} (hj : i.toNatClampNeg = j) (hs : (mw K h a F R L G).set q0 (a k, .inl (K.2 0, N, .inl (upd (R k) j x))) = mw K h a F (va_up R k (upd (R k) j x)) L G) (hin : vp_in i N) (hdg : decode cc pc = .ok (.iastore, 1))
    (kk : ∀ (H1 : Heap) (locs1 : List Loc), mP K h a F (va_up R k (upd (R k) j x)) L G H1 → va_S (mA h a) H0 H1 locs1 → W p l e R0 s m args below meth c H1 locs1 cells slots Q (F0 m (pc + 1) ls rest)) : W p l e R0 s m args below meth c H locs cells slots Q (F0 m pc ls (.int x :: .int i :: .ref (a k) :: rest)) :=
  va_iast hx hb hK hP (mD hap) hS q0 0 he rfl hin hdg (fun H1 locs1 q1 _ q3 => kk H1 locs1 (by rw [hj, hs] at q1; exact q1) q3)
theorem m_lald (hx : p.tables.exec = Jvm.exec) (hb : c.code = cc) (hK : KN K s) (hP : mP K h a F R L G H) (k q0 N : Nat) (he : (mw K h a F R L G)[q0]? = some (a k, .inl (K.2 1, N, .inr (.inl (L k))))) {i : Int32} {j : Nat} (hj : i.toNatClampNeg = j) (hin : vp_in i N) (hdg : decode cc pc = .ok (.laload, 1))
    (kk : W p l e R0 s m args below meth c H locs cells slots Q (F0 m (pc + 1) ls (.long (L k j) :: rest))) : W p l e R0 s m args below meth c H locs cells slots Q (F0 m pc ls (.int i :: .ref (a k) :: rest)) :=
  va_lald hx hb hK hP q0 1 he rfl hin hdg (by rw [hj]; exact kk)
theorem m_last (hx : p.tables.exec = Jvm.exec) (hb : c.code = cc) (hK : KN K s) (hap : mAp h a) (hP : mP K h a F R L G H) (hS : va_S (mA h a) H0 H locs) (k q0 N : Nat) (he : (mw K h a F R L G)[q0]? = some (a k, .inl (K.2 1, N, .inr (.inl (L k))))) {i : Int32} {x : Int64} {j : Nat} (hj : i.toNatClampNeg = j) (hs : (mw K h a F R L G).set q0 (a k, .inl (K.2 1, N, .inr (.inl (vp_updL (L k) j x)))) = mw K h a F R (va_up L k (vp_updL (L k) j x)) G) (hin : vp_in i N) (hdg : decode cc pc = .ok (.lastore, 1))
    (kk : ∀ (H1 : Heap) (locs1 : List Loc), mP K h a F R (va_up L k (vp_updL (L k) j x)) G H1 → va_S (mA h a) H0 H1 locs1 → W p l e R0 s m args below meth c H1 locs1 cells slots Q (F0 m (pc + 1) ls rest)) : W p l e R0 s m args below meth c H locs cells slots Q (F0 m pc ls (.long x :: .int i :: .ref (a k) :: rest)) :=
  va_last hx hb hK hP (mD hap) hS q0 1 he rfl hin hdg (fun H1 locs1 q1 _ q3 => kk H1 locs1 (by rw [hj, hs] at q1; exact q1) q3)
theorem m_blind : FrameBlind (mPre K h a F R L G As wp) := fun _ U g mk q => ⟨q.1, q.2.1, KN.moved (u := U) (Vm.Alike.refl U.vm) q.2.2.1, q.2.2.2⟩
theorem m_calli {post : Int32 → mF → mR → mL → mG → Prop} (S : CallFix p m c cc nL s args lw_all RX3) (hM : Met l y ws rm (mPre K h a F R L G As wp) (mQi post K h a) 0 0 (mA h a)) (cw : CallW R0 s args RX3 RX3 index y bytes maxL ret ws rm 0 0 n) (hK : KN K s) (hP : mP K h a F R L G H) (hS : va_S (mA h a) H0 H locs) (hw : wp) (hn : As.length = n) (hsz : ls.size = nL) (hst : st = As.reverse ++ .ref h :: rest) (hr : (rest.map fun v => v.category).sum ≤ 8) (hdg : decode cc pc = .ok (.invokevirtual index, 3)) (hf : cells ≤ R0.cells ∧ slots ≤ R0.slots)
    (kk : ∀ (r : Int32) (F1 : mF) (R1 : mR) (L1 : mL) (G1 : mG) (H1 : Heap) (locs1 : List Loc), post r F1 R1 L1 G1 → mP K h a F1 R1 L1 G1 H1 → va_S (mA h a) H0 H1 locs1 → W p l e R0 s m args below meth c H1 locs1 cells slots Q (F0 m (pc + 3) ls (.int r :: rest))) : W p l e R0 s m args below meth c H locs cells slots Q (F0 m pc ls st) :=
  va_calli (va_runV S hM cw ⟨m_blind, va_recv (q0 := 0) (ci := 0) hK hP rfl rfl, fun U hU hW => ⟨rfl, by rw [hU]; exact hP, KN.moved hW.alike hK, hw⟩⟩ rfl hn hsz hst (lv_room hr) hdg hf) hS (fun _ _ q => q) (fun _ q => q)
    (fun r u t H1 locs1 ht _ hp hB _ _ hS1 => kk r _ _ _ _ H1 locs1 hp (by rw [← ht]; exact hB) hS1)
theorem m_calll {post : Int64 → mF → mR → mL → mG → Prop} (S : CallFix p m c cc nL s args lw_all RX3) (hM : Met l y ws rm (mPre K h a F R L G As wp) (mQl post K h a) 0 0 (mA h a)) (cw : CallW R0 s args RX3 RX3 index y bytes maxL ret ws rm 0 0 n) (hK : KN K s) (hP : mP K h a F R L G H) (hS : va_S (mA h a) H0 H locs) (hw : wp) (hn : As.length = n) (hsz : ls.size = nL) (hst : st = As.reverse ++ .ref h :: rest) (hr : (rest.map fun v => v.category).sum ≤ 8) (hdg : decode cc pc = .ok (.invokevirtual index, 3)) (hf : cells ≤ R0.cells ∧ slots ≤ R0.slots)
    (kk : ∀ (r : Int64) (F1 : mF) (R1 : mR) (L1 : mL) (G1 : mG) (H1 : Heap) (locs1 : List Loc), post r F1 R1 L1 G1 → mP K h a F1 R1 L1 G1 H1 → va_S (mA h a) H0 H1 locs1 → W p l e R0 s m args below meth c H1 locs1 cells slots Q (F0 m (pc + 3) ls (.long r :: rest))) : W p l e R0 s m args below meth c H locs cells slots Q (F0 m pc ls st) :=
  va_calll (va_runV S hM cw ⟨m_blind, va_recv (q0 := 0) (ci := 0) hK hP rfl rfl, fun U hU hW => ⟨rfl, by rw [hU]; exact hP, KN.moved hW.alike hK, hw⟩⟩ rfl hn hsz hst (lv_room hr) hdg hf) hS (fun _ _ q => q) (fun _ q => q)
    (fun r u t H1 locs1 ht _ hp hB _ _ hS1 => kk r _ _ _ _ H1 locs1 hp (by rw [← ht]; exact hB) hS1)
theorem m_callv {post : mF → mR → mL → mG → Prop} (S : CallFix p m c cc nL s args lw_all RX3) (hM : Met l y ws rm (mPre K h a F R L G As wp) (mQv post K h a) 0 0 (mA h a)) (cw : CallW R0 s args RX3 RX3 index y bytes maxL ret ws rm 0 0 n) (hK : KN K s) (hP : mP K h a F R L G H) (hS : va_S (mA h a) H0 H locs) (hw : wp) (hn : As.length = n) (hsz : ls.size = nL) (hst : st = As.reverse ++ .ref h :: rest) (hr : (rest.map fun v => v.category).sum ≤ 8) (hdg : decode cc pc = .ok (.invokevirtual index, 3)) (hf : cells ≤ R0.cells ∧ slots ≤ R0.slots)
    (kk : ∀ (F1 : mF) (R1 : mR) (L1 : mL) (G1 : mG) (H1 : Heap) (locs1 : List Loc), post F1 R1 L1 G1 → mP K h a F1 R1 L1 G1 H1 → va_S (mA h a) H0 H1 locs1 → W p l e R0 s m args below meth c H1 locs1 cells slots Q (F0 m (pc + 3) ls rest)) : W p l e R0 s m args below meth c H locs cells slots Q (F0 m pc ls st) :=
  va_callv (va_runV S hM cw ⟨m_blind, va_recv (q0 := 0) (ci := 0) hK hP rfl rfl, fun U hU hW => ⟨rfl, by rw [hU]; exact hP, KN.moved hW.alike hK, hw⟩⟩ rfl hn hsz hst (lv_room hr) hdg hf) hS (fun _ _ q => q) (fun _ q => q)
    (fun u t H1 locs1 ht _ hp hB _ _ hS1 => kk _ _ _ _ H1 locs1 hp (by rw [← ht]; exact hB) hS1)
theorem m_iret {post : Int32 → mF → mR → mL → mG → Prop} {r : Int32} (hx : p.tables.exec = Jvm.exec) (hb : c.code = cc) (hr : meth.sig.returnType = some .int) (hlocks : meth.locks = false) (hP : mP K h a F R L G H) (hS : va_S (mA h a) s.heap H locs) (hdg : decode cc pc = .ok (.ireturn, 1)) (hw : post r F R L G) : W p l e R0 s m args below meth c H locs 0 0 (MQ below (mQi post K h a) args s 0 0 (mA h a)) (F0 m pc ls [.int r]) :=
  W.iret hx hb hr (fun t ht _ => ⟨⟨r, (F, R, L, G), rfl, hw, by rw [← ht] at hP; exact hP⟩, hS.F ht⟩) hS.2.2 hdg hlocks
theorem m_zret {post : Int32 → mF → mR → mL → mG → Prop} {r : Int32} (hx : p.tables.exec = Jvm.exec) (hb : c.code = cc) (hr : meth.sig.returnType = some .boolean) (hlocks : meth.locks = false) (hP : mP K h a F R L G H) (hS : va_S (mA h a) s.heap H locs) (hdg : decode cc pc = .ok (.ireturn, 1)) (hz : r = 0 ∨ r = 1) (hw : post r F R L G) : W p l e R0 s m args below meth c H locs 0 0 (MQ below (mQi post K h a) args s 0 0 (mA h a)) (F0 m pc ls [.int r]) :=
  W.zret hx hb hr (zb_n hz) (fun t ht _ => ⟨⟨r, (F, R, L, G), rfl, hw, by rw [← ht] at hP; exact hP⟩, hS.F ht⟩) hS.2.2 hdg hlocks
theorem m_lret {post : Int64 → mF → mR → mL → mG → Prop} {r : Int64} (hx : p.tables.exec = Jvm.exec) (hb : c.code = cc) (hr : meth.sig.returnType = some .long) (hlocks : meth.locks = false) (hP : mP K h a F R L G H) (hS : va_S (mA h a) s.heap H locs) (hdg : decode cc pc = .ok (.lreturn, 1)) (hw : post r F R L G) : W p l e R0 s m args below meth c H locs 0 0 (MQ below (mQl post K h a) args s 0 0 (mA h a)) (F0 m pc ls [.long r]) :=
  W.lret hx hb hr (fun t ht _ => ⟨⟨r, (F, R, L, G), rfl, hw, by rw [← ht] at hP; exact hP⟩, hS.F ht⟩) hS.2.2 hdg hlocks
theorem m_fret {post : UInt32 → mF → mR → mL → mG → Prop} {r : UInt32} (hx : p.tables.exec = Jvm.exec) (hb : c.code = cc) (hr : meth.sig.returnType = some .float) (hlocks : meth.locks = false) (hP : mP K h a F R L G H) (hS : va_S (mA h a) s.heap H locs) (hdg : decode cc pc = .ok (.freturn, 1)) (hw : post r F R L G) : W p l e R0 s m args below meth c H locs 0 0 (MQ below (mQf post K h a) args s 0 0 (mA h a)) (F0 m pc ls [.float r]) :=
  W.fret hx hb hr (fun t ht _ => ⟨⟨r, (F, R, L, G), rfl, hw, by rw [← ht] at hP; exact hP⟩, hS.F ht⟩) hS.2.2 hdg hlocks
theorem m_vret {post : mF → mR → mL → mG → Prop} (hx : p.tables.exec = Jvm.exec) (hb : c.code = cc) (hr : meth.sig.returnType = none) (hlocks : meth.locks = false) (hP : mP K h a F R L G H) (hS : va_S (mA h a) s.heap H locs) (hdg : decode cc pc = .ok (.return_, 1)) (hw : post F R L G) : W p l e R0 s m args below meth c H locs 0 0 (MQ below (mQv post K h a) args s 0 0 (mA h a)) (F0 m pc ls []) :=
  W.vret hx hb hr (fun t ht _ => ⟨⟨(F, R, L, G), rfl, hw, by rw [← ht] at hP; exact hP⟩, hS.F ht⟩) hS.2.2 hdg hlocks
/-! plain static methods -/
theorem s_calli {own : String} {post : Int32 → Prop} (S : CallFix p m c cc nL s args lw_all own) (hM : Met l y ws rm (sPre As wp) (vp_Si post) 0 0 (fun _ => False)) (cw : CallB R0 s args own index y bytes maxL ret ws rm 0 0 n ∧ (Cond.static y).before args s = true) (hw : wp) (hn : As.length = n) (hsz : ls.size = nL) (hst : st = As.reverse ++ rest) (hr : (rest.map fun v => v.category).sum ≤ 8) (hdg : decode cc pc = .ok (.invokestatic index, 3)) (hf : cells ≤ R0.cells ∧ slots ≤ R0.slots)
    (kk : ∀ r : Int32, post r → W p l e R0 s m args below meth c H locs cells slots Q (F0 m (pc + 3) ls (.int r :: rest))) : W p l e R0 s m args below meth c H locs cells slots Q (F0 m pc ls st) :=
  vp_callSi (W.runS S hM cw ⟨fun _ _ _ _ q => q, fun _ _ _ => ⟨rfl, hw⟩⟩ rfl hn hsz hst (lv_room hr) hdg hf) kk
theorem s_calll {own : String} {post : Int64 → Prop} (S : CallFix p m c cc nL s args lw_all own) (hM : Met l y ws rm (sPre As wp) (vp_Sl post) 0 0 (fun _ => False)) (cw : CallB R0 s args own index y bytes maxL ret ws rm 0 0 n ∧ (Cond.static y).before args s = true) (hw : wp) (hn : As.length = n) (hsz : ls.size = nL) (hst : st = As.reverse ++ rest) (hr : (rest.map fun v => v.category).sum ≤ 8) (hdg : decode cc pc = .ok (.invokestatic index, 3)) (hf : cells ≤ R0.cells ∧ slots ≤ R0.slots)
    (kk : ∀ r : Int64, post r → W p l e R0 s m args below meth c H locs cells slots Q (F0 m (pc + 3) ls (.long r :: rest))) : W p l e R0 s m args below meth c H locs cells slots Q (F0 m pc ls st) :=
  vp_callSl (W.runS S hM cw ⟨fun _ _ _ _ q => q, fun _ _ _ => ⟨rfl, hw⟩⟩ rfl hn hsz hst (lv_room hr) hdg hf) kk
theorem s_iret {post : Int32 → Prop} {r : Int32} (hx : p.tables.exec = Jvm.exec) (hb : c.code = cc) (hr : meth.sig.returnType = some .int) (hlocks : meth.locks = false) (hdg : decode cc pc = .ok (.ireturn, 1)) (hw : post r) : W p l e R0 s m args below meth c s.heap [] 0 0 (MQ below (vp_Si post) args s 0 0 (fun _ => False)) (F0 m pc ls [.int r]) :=
  W.iret hx hb hr (fun t ht _ => ⟨r, rfl, hw, ht⟩) (fun q hq => nomatch hq) hdg hlocks
theorem s_zret {post : Int32 → Prop} {r : Int32} (hx : p.tables.exec = Jvm.exec) (hb : c.code = cc) (hr : meth.sig.returnType = some .boolean) (hlocks : meth.locks = false) (hdg : decode cc pc = .ok (.ireturn, 1)) (hz : r = 0 ∨ r = 1) (hw : post r) : W p l e R0 s m args below meth c s.heap [] 0 0 (MQ below (vp_Si post) args s 0 0 (fun _ => False)) (F0 m pc ls [.int r]) :=
  W.zret hx hb hr (zb_n hz) (fun t ht _ => ⟨r, rfl, hw, ht⟩) (fun q hq => nomatch hq) hdg hlocks
theorem s_lret {post : Int64 → Prop} {r : Int64} (hx : p.tables.exec = Jvm.exec) (hb : c.code = cc) (hr : meth.sig.returnType = some .long) (hlocks : meth.locks = false) (hdg : decode cc pc = .ok (.lreturn, 1)) (hw : post r) : W p l e R0 s m args below meth c s.heap [] 0 0 (MQ below (vp_Sl post) args s 0 0 (fun _ => False)) (F0 m pc ls [.long r]) :=
  W.lret hx hb hr (fun t ht _ => ⟨r, rfl, hw, ht⟩) (fun q hq => nomatch hq) hdg hlocks
end MROWS
section MROWS2
variable {p : Program} {l : Launch} {e : Env} {R0 : Room} {s : State} {m : MethodId} {args : Array Value} {below : List Frame} {meth : Method} {c : Code} {H : Heap} {locs : List Loc} {cells slots : Nat} {Q : State → Prop}
variable {pc nL : Nat} {ls : Array Slot} {rest st As : List Value} {cc : ByteArray} {K : KT} {h : Nat} {a : Nat → Nat} {F : mF} {R : mR} {L : mL} {G : mG} {H0 : Heap} {index n maxL : Nat} {y : MethodName} {bytes : ByteArray} {ret : Option FieldType} {ws : List Cond} {rm : Room} {wp : Prop}
abbrev mPreS (K : KT) (h : Nat) (a : Nat → Nat) (F : mF) (R : mR) (L : mL) (G : mG) (As : List Value) (wp : Prop) : Array Value → State → Prop := va_Pc As (fun U => mP K h a F R L G U.heap ∧ KN K U ∧ wp)
theorem m_blindS : FrameBlind (mPreS K h a F R L G As wp) := fun _ U g mk q => ⟨q.1, q.2.1, KN.moved (u := U) (Vm.Alike.refl U.vm) q.2.2.1, q.2.2.2⟩
theorem m_callSv {own : String} {post : mF → mR → mL → mG → Prop} (S : CallFix p m c cc nL s args lw_all own) (hM : Met l y ws rm (mPreS K h a F R L G As wp) (mQv post K h a) 0 0 (mA h a)) (cw : CallB R0 s args own index y bytes maxL ret ws rm 0 0 n ∧ (Cond.static y).before args s = true) (hK : KN K s) (hP : mP K h a F R L G H) (hS : va_S (mA h a) H0 H locs) (hw : wp) (hn : As.length = n) (hsz : ls.size = nL) (hst : st = As.reverse ++ rest) (hr : (rest.map fun v => v.category).sum ≤ 8) (hdg : decode cc pc = .ok (.invokestatic index, 3)) (hf : cells ≤ R0.cells ∧ slots ≤ R0.slots)
    (kk : ∀ (F1 : mF) (R1 : mR) (L1 : mL) (G1 : mG) (H1 : Heap) (locs1 : List Loc), post F1 R1 L1 G1 → mP K h a F1 R1 L1 G1 H1 → va_S (mA h a) H0 H1 locs1 → W p l e R0 s m args below meth c H1 locs1 cells slots Q (F0 m (pc + 3) ls rest)) : W p l e R0 s m args below meth c H locs cells slots Q (F0 m pc ls st) :=
  va_callv (va_runS S hM cw ⟨m_blindS, fun U hU hW => ⟨rfl, by rw [hU]; exact hP, KN.moved hW.alike hK, hw⟩⟩ rfl hn hsz hst (lv_room hr) hdg hf) hS (fun _ _ q => q) (fun _ q => q)
    (fun u t H1 locs1 ht _ hp hB _ _ hS1 => kk _ _ _ _ H1 locs1 hp (by rw [← ht]; exact hB) hS1)
end MROWS2
theorem i32_ne {x : Int32} {k : Int} (kk : Int32) (h : ¬ x = kk) (e : kk.toInt = k) : ¬ k = x.toInt := fun z => h (Int32.toInt_inj.mp (by rw [e]; exact z.symm))
/-- the switch of doesOrder: none of its letters -/
theorem lk_dflt {x : Int32} (h1 : ¬ x = 97) (h2 : ¬ x = 100) (h3 : ¬ x = 109) (h4 : ¬ x = 119) (h5 : ¬ x = 120) : Op.lookupswitch.offset [(97, 83), (100, 93), (109, 70), (119, 57), (120, 52)] 102 x.toInt = 102 := by
  have g1 : ¬ (97 : Int) = x.toInt := i32_ne 97 h1 (by decide)
  have g2 : ¬ (100 : Int) = x.toInt := i32_ne 100 h2 (by decide)
  have g3 : ¬ (109 : Int) = x.toInt := i32_ne 109 h3 (by decide)
  have g4 : ¬ (119 : Int) = x.toInt := i32_ne 119 h4 (by decide)
  have g5 : ¬ (120 : Int) = x.toInt := i32_ne 120 h5 (by decide)
  simp only [Op.lookupswitch.offset_cons, Op.lookupswitch.offset_nil, if_neg g1, if_neg g2, if_neg g3, if_neg g4, if_neg g5]
section LDW
variable {p : Program} {l : Launch} {e : Env} {R : Room} {s : State} {m : MethodId} {args : Array Value} {below : List Frame} {meth : Method} {c : Code} {H : Heap} {locs : List Loc} {cells slots : Nat} {Q : State → Prop} {pc : Nat} {ls : Array Slot} {rest : List Value} {cc : ByteArray}
theorem ldcwF {T : State} (X : Stand p l e R s m args below meth c T locs cells slots) (hexec : p.tables.exec = Jvm.exec) {own : String} {index : Nat} {v : UInt32} (hown : s.vm.findClass own = some m.cls)
    (hconst : (Cond.constantFloat own index v).before args s = true) {g : JFrame} (hg : g.method = m) (hdg : decode c.code g.pc = .ok (.ldc_w index, 3)) :
    ∀ target, Steps p.tables e below (T.setTop { g with pc := g.pc + 3, stack := .float v :: g.stack }) target → Steps p.tables e below (T.setTop g) target := by
  obtain ⟨k, cf, hk, hcf, hcp⟩ := Cond.constantFloat_spec hown hconst
  obtain ⟨k', hk', he⟩ := X.warmed.alike.2.2 _ _ hk
  intro target hrest
  subst hg
  jvm_step X.here [hexec, hdg, ldc_w.wp_float (s := T) (f := g) X.here.top hk' (by rw [he]; exact hcf) hcp]
  exact hrest
theorem lv_ldcwf (hexec : p.tables.exec = Jvm.exec) (hb : c.code = cc) {own : String} {index : Nat} {v : UInt32} (hown : s.vm.findClass own = some m.cls) (hconst : (Jvm.Cond.constantFloat own index v).before args s = true) (hdg : decode cc pc = .ok (.ldc_w index, 3)) (k : W p l e R s m args below meth c H locs cells slots Q (F0 m (pc + 3) ls (.float v :: rest))) : W p l e R s m args below meth c H locs cells slots Q (F0 m pc ls rest) := by
  intro T hT X
  obtain ⟨t, a, b⟩ := k T hT X
  exact ⟨t, ldcwF X hexec hown hconst (g := F0 m pc ls rest) rfl (by rw [hb]; exact hdg) t a, b⟩
end LDW

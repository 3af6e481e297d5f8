/-! MY ROWS: small lemmas, casts of arrays, getClass, exceptions made -/
set_option maxRecDepth 100000
abbrev iChr (x : Int32) : Int32 := UInt32.toInt32 (Int32.toUInt32 x % 65536)
theorem va_rf_some (a : Nat) : va_rf (some a) = .ref a := rfl
theorem va_rf_cat (r : Option Nat) : (va_rf r).category = 1 := by cases r <;> rfl
theorem va_rf_nar {n : String} (r : Option Nat) : narrow (.object n) (va_rf r) = va_rf r := by cases r <;> rfl
theorem va_rf_fit {n : String} (r : Option Nat) : fits (.object n) (va_rf r) = true := by cases r <;> rfl
theorem lw_CU {own C owner : String} {idx : Nat} {x y : MethodName} {b : ByteArray} {L : Nat} {r : Option FieldType} (h1 : Cond.methodLink own idx x ∈ lw_all) (h2 : Cond.sameMethod x.cls owner x.name x.desc ∈ lw_all) (h3 : Cond.selects C x y ∈ lw_all) (h4 : Cond.instanceMethod y ∈ lw_all) (h5 : Cond.initialized y.cls ∈ lw_all) (h6 : Cond.code y b L r ∈ lw_all) : GoodIn lw_all (va_wsU own idx C owner x y (ws_ y b L r)) := by
  refine lw_app ?_ (lw_meth h6)
  intro w hw
  simp only [List.mem_cons, List.not_mem_nil, or_false] at hw
  rcases hw with e | e | e | e | e
  · rw [e]; exact h1
  · rw [e]; exact h2
  · rw [e]; exact h3
  · rw [e]; exact h4
  · rw [e]; exact h5
theorem lw_CSU {own : String} {idx : Nat} {y : MethodName} {b : ByteArray} {L : Nat} {r : Option FieldType} (h1 : Cond.methodLink own idx y ∈ lw_all) (h2 : Cond.sameMethod y.cls y.cls y.name y.desc ∈ lw_all) (h3 : Cond.superclass own y.cls ∈ lw_all) (h4 : Cond.instanceMethod y ∈ lw_all) (h5 : Cond.initialized y.cls ∈ lw_all) (h6 : Cond.code y b L r ∈ lw_all) : GoodIn lw_all (va_wsSU own idx y (ws_ y b L r)) := by
  refine lw_app ?_ (lw_meth h6)
  intro w hw
  simp only [List.mem_cons, List.not_mem_nil, or_false] at hw
  rcases hw with e | e | e | e | e
  · rw [e]; exact h1
  · rw [e]; exact h2
  · rw [e]; exact h3
  · rw [e]; exact h4
  · rw [e]; exact h5
theorem lw_CUP {own C owner : String} {idx : Nat} {x y : MethodName} {b : ByteArray} {L : Nat} {r : Option FieldType} (h1 : Cond.methodLink own idx x ∈ lw_all) (h2 : Cond.sameMethod x.cls owner x.name x.desc ∈ lw_all) (h4 : Cond.instanceMethod y ∈ lw_all) (h5 : Cond.initialized y.cls ∈ lw_all) (h6 : Cond.code y b L r ∈ lw_all) : GoodIn (Cond.selects C x y :: lw_all) (va_wsU own idx C owner x y (ws_ y b L r)) := by
  have hA : ∀ w ∈ lw_all, w ∈ (Cond.selects C x y :: lw_all) ∧ _ := fun w hw => ⟨List.mem_cons_of_mem _ hw, (lw_self w hw).2⟩
  have hS : Cond.selects C x y ∈ (Cond.selects C x y :: lw_all) ∧ _ := ⟨List.mem_cons_self, good_of_word (show goodWord (Cond.selects C x y) = true from rfl)⟩
  intro w hw
  rcases List.mem_append.mp hw with e | e
  · simp only [List.mem_cons, List.not_mem_nil, or_false] at e
    rcases e with e | e | e | e | e
    · rw [e]; exact hA _ h1
    · rw [e]; exact hA _ h2
    · rw [e]; exact hS
    · rw [e]; exact hA _ h4
    · rw [e]; exact hA _ h5
  · rcases List.mem_cons.mp e with e | e
    · rw [e]; exact hA _ h6
    · exact hA _ e
section XROWS5
variable {p : Program} {l : Launch} {e : Env} {R0 : Room} {s : State} {m : MethodId} {args : Array Value} {below : List Frame} {meth : Method} {c : Code} {H : Heap} {locs : List Loc} {cells slots : Nat} {Q : State → Prop}
variable {pc nL : Nat} {ls : Array Slot} {rest st As : List Value} {cc : ByteArray} {K : HK} {X0 X : hX} {index n maxL : Nat} {own : String} {a : Nat}
theorem x_castI (hF : CallFix p m c cc nL s args lw_all own) (hC : HC K X0 s) (hP : hI K X0 s.heap.size X H) (hlink : (Cond.classLink own index "[I") ∈ lw_all) (hX : ∃ w, X a = some (.inl (0, w))) (hdg : decode cc pc = .ok (.checkcast index, 3)) (kk : W p l e R0 s m args below meth c H locs cells slots Q (F0 m (pc + 3) ls (.ref a :: rest))) : W p l e R0 s m args below meth c H locs cells slots Q (F0 m pc ls (.ref a :: rest)) := by
  obtain ⟨hx, hb, hml, hown, hts⟩ := hF
  obtain ⟨w, hX⟩ := hX
  obtain ⟨ws, q0, h1, h2, -, -⟩ := hP.cell hX
  exact va_castA hx hb hown (hts _ hlink) h2 q0 h1 (va_nm_int (hC.2.2.2.2 0 _ rfl).2) hdg kk
theorem x_castQ (hF : CallFix p m c cc nL s args lw_all own) (hC : HC K X0 s) (hP : hI K X0 s.heap.size X H) (hlink : (Cond.classLink own index "[Ljava/lang/Object;") ∈ lw_all) (hX : ∃ w, X a = some (.inl (4, w))) (hdg : decode cc pc = .ok (.checkcast index, 3)) (kk : W p l e R0 s m args below meth c H locs cells slots Q (F0 m (pc + 3) ls (.ref a :: rest))) : W p l e R0 s m args below meth c H locs cells slots Q (F0 m pc ls (.ref a :: rest)) := by
  obtain ⟨hx, hb, hml, hown, hts⟩ := hF
  obtain ⟨w, hX⟩ := hX
  obtain ⟨ws, q0, h1, h2, -, -⟩ := hP.cell hX
  exact va_castA hx hb hown (hts _ hlink) h2 q0 h1 (va_nmO (hC.2.2.2.2 4 _ rfl).2 (by decide +kernel)) hdg kk
theorem x_getC (hF : CallFix p m c cc nL s args lw_all own) (hls : ls.size = nL) (hC : HC K X0 s) (hP : hI K X0 s.heap.size X H) (hlink : (Cond.methodLink own index ⟨"java/lang/Object", "getClass", "()Ljava/lang/Class;"⟩) ∈ lw_all) (hinst : (Cond.instanceMethod ⟨"java/lang/Object", "getClass", "()Ljava/lang/Class;"⟩) ∈ lw_all) (hnat : (Cond.native ⟨"java/lang/Object", "getClass", "()Ljava/lang/Class;"⟩) ∈ lw_all) (hX : ∃ w, X a = some (.inl (4, w))) (hfr : 1 ≤ R0.frames) (hlo : (rest.map fun v => v.category).sum + 14 ≤ R0.locals) (hdg : decode cc pc = .ok (.invokevirtual index, 3)) (kk : W p l e R0 s m args below meth c H locs cells slots Q (F0 m (pc + 3) ls (.ref (K.2.2 7) :: rest))) : W p l e R0 s m args below meth c H locs cells slots Q (F0 m pc ls (.ref a :: rest)) := by
  obtain ⟨hx, hb, hml, hown, hts⟩ := hF
  obtain ⟨w, hX⟩ := hX
  obtain ⟨ws, q0, h1, h2, -, -⟩ := hP.cell hX
  refine va_getC hx hb (by rw [hml, hls]) hown (hts _ hlink) (hC.2.2.1.2.2.2.1.use) (hts _ q2360) (hts _ hinst) (hts _ hnat) hC.2.2.1.2.2.1 ?_ hfr hlo hdg kk
  have hvm0 : (vp_cell (K.1.2 4) w).vm = .none := by
    obtain ⟨n, f | f | f | f | f⟩ := w <;> rfl
  have hcl0 : (vp_cell (K.1.2 4) w).cls = K.1.2 4 := by
    obtain ⟨n, f | f | f | f | f⟩ := w <;> rfl
  have hnm := va_nmO (nm := "[Ljava/lang/Object;") (hC.2.2.2.2 4 _ rfl).2 (by decide +kernel)
  refine ⟨vp_cell (K.1.2 4) w, h2 q0 _ h1, by rw [hvm0]; rfl, by rw [hcl0]; exact hnm⟩
/-! the literal texts -/
def lenS (i : Nat) : Nat := ([3, 2] : List Nat).getD i 0
def sgV (i : Nat) (P : Prop) : Prop := i < 2 ∧ P
def sbL (i : Nat) (j : Int32) (P : Int32 → Prop) : Prop := i < 2 ∧ vp_in j (lenS i) ∧ P ((bytS.getD i []).getD j.toNatClampNeg 0)
theorem HC.str (hC : HC K X0 s) : vk_S 2 [3, 2] bytS (fun i => K.2.2 (5 + i)) (fun i => K.2.2 (8 + i)) (aN K) s s.heap := hC.2.2.1.2.2.2.2.2.2.2.2
theorem x_sval (hF : CallFix p m c cc nL s args lw_all own) (hC : HC K X0 s) (hS : va_S (hA X0 s.heap.size) s.heap H locs) {i : Nat} (hi : i < 2) (hlink : (Cond.fieldLink own index "java/lang/String" "value" "[B") ∈ lw_all) (hdg : decode cc pc = .ok (.getfield index, 3)) (kk : W p l e R0 s m args below meth c H locs cells slots Q (F0 m (pc + 3) ls (.ref (K.2.2 (8 + i)) :: rest))) : W p l e R0 s m args below meth c H locs cells slots Q (F0 m pc ls (.ref (K.2.2 (5 + i)) :: rest)) := by
  obtain ⟨hx, hb, hml, hown, hts⟩ := hF
  exact vk_getf hx hb (hC.str.1 i hi).2.2.1 (hC.sN hS) hown (hts _ hlink) (fun _ z => z) hdg kk
theorem x_scod (hF : CallFix p m c cc nL s args lw_all own) (hC : HC K X0 s) (hS : va_S (hA X0 s.heap.size) s.heap H locs) {i : Nat} (hi : i < 2) (hlink : (Cond.fieldLink own index "java/lang/String" "coder" "B") ∈ lw_all) (hdg : decode cc pc = .ok (.getfield index, 3)) (kk : W p l e R0 s m args below meth c H locs cells slots Q (F0 m (pc + 3) ls (.int 0 :: rest))) : W p l e R0 s m args below meth c H locs cells slots Q (F0 m pc ls (.ref (K.2.2 (5 + i)) :: rest)) := by
  obtain ⟨hx, hb, hml, hown, hts⟩ := hF
  exact vk_getf hx hb (hC.str.1 i hi).2.1 (hC.sN hS) hown (hts _ hlink) (fun _ z => z) hdg kk
theorem x_slen (hF : CallFix p m c cc nL s args lw_all own) (hC : HC K X0 s) (hS : va_S (hA X0 s.heap.size) s.heap H locs) {i : Nat} (hi : i < 2) (hdg : decode cc pc = .ok (.arraylength, 1)) (kk : W p l e R0 s m args below meth c H locs cells slots Q (F0 m (pc + 1) ls (.int (Int32.ofNat (lenS i)) :: rest))) : W p l e R0 s m args below meth c H locs cells slots Q (F0 m pc ls (.ref (K.2.2 (8 + i)) :: rest)) := by
  obtain ⟨hx, hb, hml, hown, hts⟩ := hF
  exact va_tlen hx hb (hC.str.1 i hi).2.2.2 (hC.sN hS) rfl hdg kk
theorem x_sbld (hF : CallFix p m c cc nL s args lw_all own) (hC : HC K X0 s) (hS : va_S (hA X0 s.heap.size) s.heap H locs) {i : Nat} {j : Int32} (hi : i < 2) (hj : vp_in j (lenS i)) (hdg : decode cc pc = .ok (.baload, 1)) (kk : W p l e R0 s m args below meth c H locs cells slots Q (F0 m (pc + 1) ls (.int ((bytS.getD i []).getD j.toNatClampNeg 0) :: rest))) : W p l e R0 s m args below meth c H locs cells slots Q (F0 m pc ls (.int j :: .ref (K.2.2 (8 + i)) :: rest)) := by
  obtain ⟨hx, hb, hml, hown, hts⟩ := hF
  exact va_tb hx hb (hC.str.1 i hi).2.2.2 (hC.sN hS) hj rfl hdg kk
end XROWS5
section XROWS6
variable {p : Program} {l : Launch} {e : Env} {R0 : Room} {s : State} {m : MethodId} {args : Array Value} {below : List Frame} {meth : Method} {c : Code} {H : Heap} {locs : List Loc} {cells slots mc1 ms1 : Nat} {Q : State → Prop}
variable {pc nL : Nat} {ls : Array Slot} {rest st As : List Value} {cc : ByteArray} {K : HK} {X0 X : hX} {index n maxL : Nat} {y : MethodName} {bytes : ByteArray} {ret : Option FieldType} {ws : List Cond} {rm : Room} {wp : Prop} {own : String}
variable {Qc : Array Value → State → Outcome → State → Prop} {free : Addr → Prop}
/-- a call through a literal text -/
theorem hr_T (hF : CallFix p m c cc nL s args lw_all own) (hls : ls.size = nL) (hC : HC K X0 s) (hP : hI K X0 s.heap.size X H) (hS : va_S (hA X0 s.heap.size) s.heap H locs) {i : Nat} (hi : i < 2) (hM : Met l y ws rm (hPc K X H.size (.ref (K.2.2 (5 + i)) :: As) wp) Qc mc1 ms1 free) (cw : CallW R0 s args own "java/lang/String" index y bytes maxL ret ws rm mc1 ms1 n) (hw : wp) (hn : As.length = n) (hst : st = As.reverse ++ .ref (K.2.2 (5 + i)) :: rest) (hr : (rest.map fun v => v.category).sum ≤ 8) (hdg : decode cc pc = .ok (.invokevirtual index, 3)) (hf : cells + mc1 ≤ R0.cells ∧ slots + ms1 ≤ R0.slots) :
    va_Run p l e R0 s m args below meth c H locs cells slots mc1 ms1 (F0 m pc ls st) rest (Qc (Value.ref (K.2.2 (5 + i)) :: As).toArray) free := by
  have hO := ((hC.str.1 i hi).1).kept (hC.sN hS).2.1
  obtain ⟨cell, h1, h2, h3, -⟩ := hO
  exact va_runV hF hM cw ⟨hPre.blind, ⟨cell, h1, h2, h3⟩, hC.give hP hS hw⟩ rfl hn hls hst (lv_room hr) hdg hf
theorem h_bret {post : Int32 → hX → Prop} {r : Int32} {mc ms : Nat} (hF : CallFix p m c cc nL s args lw_all own) (hr : meth.sig.returnType = some .byte) (hlocks : meth.locks = false) (hP : hI K X0 s.heap.size X H) (hS : va_S (hA X0 s.heap.size) s.heap H locs) (hk : cells ≤ mc ∧ slots ≤ ms) (hdg : decode cc pc = .ok (.ireturn, 1)) (hz : narrow .byte (.int r) = .int r) (hw : post r X) : W p l e R0 s m args below meth c H locs cells slots (MQ below (hQi post K X0 s.heap.size) args s mc ms (hA X0 s.heap.size)) (F0 m pc ls [.int r]) := by
  obtain ⟨hx, hb, -⟩ := hF
  refine W.widen hk.1 hk.2 ?_
  exact W.zret hx hb hr hz (fun t ht _ => ⟨⟨r, X, rfl, hw, by rw [← ht] at hP; exact hP⟩, hS.F ht⟩) hS.2.2 hdg hlocks
theorem HC.up (hC : HC K X0 s) {w : Cond} (hw : w ∈ upS) : w.before args s = true := va_tabs (upS_good w hw).2 rfl (hC.2.2.1.2.2.2.2.2.2.2.1 w hw)
end XROWS6
theorem nfsX3 : ∀ j : Nat, j < 28 → defaultValue (tyX3 j) = vp_V [.null, .null, .null, .int 0, .null, .int 0, .null, .int 0, .int 0, .null, .null, .null, .null, .int 0, .long 0, .long 0, .int 0, .int 0, .int 0, .int 0, .int 0, .int 0, .int 0, .int 0, .int 0, .int 0, .int 0, .int 0] j := by
  intro j hj
  match j, hj with
  | 0, _ => rfl
  | 1, _ => rfl
  | 2, _ => rfl
  | 3, _ => rfl
  | 4, _ => rfl
  | 5, _ => rfl
  | 6, _ => rfl
  | 7, _ => rfl
  | 8, _ => rfl
  | 9, _ => rfl
  | 10, _ => rfl
  | 11, _ => rfl
  | 12, _ => rfl
  | 13, _ => rfl
  | 14, _ => rfl
  | 15, _ => rfl
  | 16, _ => rfl
  | 17, _ => rfl
  | 18, _ => rfl
  | 19, _ => rfl
  | 20, _ => rfl
  | 21, _ => rfl
  | 22, _ => rfl
  | 23, _ => rfl
  | 24, _ => rfl
  | 25, _ => rfl
  | 26, _ => rfl
  | 27, _ => rfl
  | n + 28, h => exact absurd h (Nat.not_lt.mpr (Nat.le_add_left 28 n))
theorem nfsX1 : ∀ j : Nat, j < 4 → defaultValue (tyX1 j) = vp_V [.null, .null, .null, .null] j := by
  intro j hj
  match j, hj with
  | 0, _ => rfl
  | 1, _ => rfl
  | 2, _ => rfl
  | 3, _ => rfl
  | n + 4, h => exact absurd h (Nat.not_lt.mpr (Nat.le_add_left 4 n))
theorem nfsX2 : ∀ j : Nat, j < 9 → defaultValue (tyX2 j) = vp_V [.null, .null, .null, .null, .null, .int 0, .int 0, .int 0, .int 0] j := by
  intro j hj
  match j, hj with
  | 0, _ => rfl
  | 1, _ => rfl
  | 2, _ => rfl
  | 3, _ => rfl
  | 4, _ => rfl
  | 5, _ => rfl
  | 6, _ => rfl
  | 7, _ => rfl
  | 8, _ => rfl
  | n + 9, h => exact absurd h (Nat.not_lt.mpr (Nat.le_add_left 9 n))
theorem nfsX6 : ∀ j : Nat, j < 9 → defaultValue (tyX6 j) = vp_V [.null, .null, .null, .null, .null, .null, .int 0, .int 0, .int 0] j := by
  intro j hj
  match j, hj with
  | 0, _ => rfl
  | 1, _ => rfl
  | 2, _ => rfl
  | 3, _ => rfl
  | 4, _ => rfl
  | 5, _ => rfl
  | 6, _ => rfl
  | 7, _ => rfl
  | 8, _ => rfl
  | n + 9, h => exact absurd h (Nat.not_lt.mpr (Nat.le_add_left 9 n))
theorem nfsX9 : ∀ j : Nat, j < 8 → defaultValue (tyX9 j) = vp_V [.null, .null, .int 0, .int 0, .int 0, .int 0, .int 0, .null] j := by
  intro j hj
  match j, hj with
  | 0, _ => rfl
  | 1, _ => rfl
  | 2, _ => rfl
  | 3, _ => rfl
  | 4, _ => rfl
  | 5, _ => rfl
  | 6, _ => rfl
  | 7, _ => rfl
  | n + 8, h => exact absurd h (Nat.not_lt.mpr (Nat.le_add_left 8 n))
theorem nfsX5 : ∀ j : Nat, j < 2 → defaultValue (tyX5 j) = vp_V [.int 0, .int 0] j := by
  intro j hj
  match j, hj with
  | 0, _ => rfl
  | 1, _ => rfl
  | n + 2, h => exact absurd h (Nat.not_lt.mpr (Nat.le_add_left 2 n))
theorem nfsX7 : ∀ j : Nat, j < 3 → defaultValue (tyX7 j) = vp_V [.int 0, .int 0, .int 0] j := by
  intro j hj
  match j, hj with
  | 0, _ => rfl
  | 1, _ => rfl
  | 2, _ => rfl
  | n + 3, h => exact absurd h (Nat.not_lt.mpr (Nat.le_add_left 3 n))
theorem nfsX8 : ∀ j : Nat, j < 2 → defaultValue (tyX8 j) = vp_V [.int 0, .int 0] j := by
  intro j hj
  match j, hj with
  | 0, _ => rfl
  | 1, _ => rfl
  | n + 2, h => exact absurd h (Nat.not_lt.mpr (Nat.le_add_left 2 n))
theorem nfsJ2 : ∀ j : Nat, j < 3 → defaultValue (tyJ2 j) = vp_V [.int 0, .null, .int 0] j := by
  intro j hj
  match j, hj with
  | 0, _ => rfl
  | 1, _ => rfl
  | 2, _ => rfl
  | n + 3, h => exact absurd h (Nat.not_lt.mpr (Nat.le_add_left 3 n))
theorem nfsJ3 : ∀ j : Nat, j < 3 → defaultValue (tyJ3 j) = vp_V [.null, .int 0, .int 0] j := by
  intro j hj
  match j, hj with
  | 0, _ => rfl
  | 1, _ => rfl
  | 2, _ => rfl
  | n + 3, h => exact absurd h (Nat.not_lt.mpr (Nat.le_add_left 3 n))
theorem nfsJ5 : ∀ j : Nat, j < 4 → defaultValue (tyJ5 j) = vp_V [.null, .int 0, .int 0, .int 0] j := by
  intro j hj
  match j, hj with
  | 0, _ => rfl
  | 1, _ => rfl
  | 2, _ => rfl
  | 3, _ => rfl
  | n + 4, h => exact absurd h (Nat.not_lt.mpr (Nat.le_add_left 4 n))
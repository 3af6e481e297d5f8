/-! THE START: what holds at the law's entry, as the contracts ask it -/
set_option maxRecDepth 100000
/-- a private method of the class above -/
theorem sel_up {C : String} {y z : MethodName} {s : State} {args : Array Value} (h : (Cond.selects C z z).before args s = true) (hz : z.cls = y.cls) (hpriv : (Cond.privateMethod y).before args s = true) (hinst : (Cond.instanceMethod y).before args s = true) (hy : y.cls ≠ "java/lang/invoke/MethodHandle" ∧ y.cls ≠ "java/lang/invoke/VarHandle") : (Cond.selects C y y).before args s = true := by
  obtain ⟨c, r, m, q1, q2, q3, q4, mk, q5, q6⟩ := Cond.selects_spec h
  obtain ⟨mk2, methM, hnamed, hmethM, -, -⟩ := Cond.instanceMethod_spec hinst
  have hfound : s.methodFound? y.cls y.name y.desc = some mk2 := State.methodFound?_of_named hnamed hy
  have hcls : mk2.cls = m.cls := Option.some.inj ((findClass_of_methodNamed hnamed).symm.trans (by rw [← hz]; exact findClass_of_methodNamed q3))
  have hsel : selectMethod {} s.vm c mk2 = .method mk2 := selectMethod_private hmethM (Cond.privateMethod_at hpriv mk2 methM hnamed hmethM)
  simp only [Cond.before, Cond.holds, Cond.value, q1, hfound, hnamed, hsel, hcls, q5]
  simp; exact q6
theorem arr_at {ty : FieldType} {s : State} {args : Array Value} (h : (Cond.arrayClass ty).before args s = true) (hty : ty = .int ∨ ty = .long ∨ ty = .byte ∨ ty = .float) : ∃ cA : ClassId, ArrOfT s cA ty ∧ va_RA s cA ty := by
  obtain ⟨cA, kA, comp, h1, h2, h3⟩ := Cond.arrayClass_spec h
  refine ⟨cA, fun n z => ⟨fun k h => (by cases h), kA, h2, comp, h3⟩, ?_⟩
  rcases hty with rfl | rfl | rfl | rfl <;> exact h1
theorem arr_atO {C : String} {s : State} {args : Array Value} (h : (Cond.arrayOver (.object C)).before args s = true) : ∃ cA : ClassId, ArrOfT s cA (.object C) ∧ va_RA s cA (.object C) := by
  obtain ⟨comp, cA, kA, h1, -, h2, h3, h4⟩ := Cond.arrayOver_spec h
  exact ⟨cA, fun n z => ⟨fun k h => (by cases h), kA, h2, comp, h3⟩, kA, comp, h2, h3, h1, h4⟩
theorem l_KN {s : State} {args : Array Value} (hts : ∀ w ∈ lw_tbl, w.before args s = true) : ∃ K : KT, KN K s := by
  have hta : ∀ w ∈ lw_all, w.before args s = true := fun w h => hts w (lw_all_tbl h)
  obtain ⟨c0, i0, h0⟩ := u_known (C := RX3) (T := TX3) (N := 28) (n := 28) hta in_X3 (hta _ q1723)
  obtain ⟨c1, i1, h1⟩ := u_known (C := RX1) (T := TX1) (N := 4) (n := 4) hta in_X1 (hta _ q111)
  obtain ⟨c2, i2, h2⟩ := u_known (C := RX2) (T := TX2) (N := 9) (n := 9) hta in_X2 (hta _ q119)
  obtain ⟨c3, i3, h3⟩ := u_known (C := RX6) (T := TX6) (N := 9) (n := 9) hta in_X6 (hta _ q341)
  obtain ⟨c4, i4, h4⟩ := u_known (C := RX9) (T := TX9) (N := 8) (n := 8) hta in_X9 (hta _ q1576)
  obtain ⟨c5, i5, h5⟩ := u_known (C := RX5) (T := TX5) (N := 2) (n := 2) hta in_X5 (hta _ q852)
  obtain ⟨c6, i6, h6⟩ := u_known (C := RX7) (T := TX7) (N := 3) (n := 3) hta in_X7 (hta _ q915)
  obtain ⟨c7, i7, h7⟩ := u_known (C := RX8) (T := TX8) (N := 2) (n := 2) hta in_X8 (hta _ q948)
  obtain ⟨c8, i8, h8⟩ := u_known (C := RJ2) (T := TJ2) (N := 3) (n := 3) hta in_J2 (hta _ q125)
  obtain ⟨c9, i9, h9⟩ := u_known (C := RJ3) (T := TJ3) (N := 3) (n := 3) hta in_J3 (hta _ q193)
  obtain ⟨c10, i10, h10⟩ := u_known (C := RJ5) (T := TJ5) (N := 4) (n := 4) hta in_J5 (hta _ q211)
  obtain ⟨c11, i11, h11⟩ := u_known (C := RX4) (T := TX4r) (N := 1) (n := 7) hta in_X4r (hta _ q819)
  obtain ⟨c12, i12, h12⟩ := u_known (C := RJ18) (T := TJ18) (N := 0) (n := 6) hta (fun w h => nomatch h) (hta _ q502)
  obtain ⟨c13, i13, h13⟩ := u_known (C := RJ16) (T := TJ16) (N := 0) (n := 6) hta (fun w h => nomatch h) (hta _ q1001)
  obtain ⟨c14, i14, h14⟩ := u_known (C := RJ17) (T := TJ17) (N := 0) (n := 6) hta (fun w h => nomatch h) (hta _ q1031)
  obtain ⟨a0, e0⟩ := arr_at (hta _ q191) (Or.inl rfl)
  obtain ⟨a1, e1⟩ := arr_at (hta _ q414) (Or.inr (Or.inl rfl))
  obtain ⟨a2, e2⟩ := arr_at (hta _ q242) (Or.inr (Or.inr (Or.inl rfl)))
  obtain ⟨a3, e3⟩ := arr_at (hta _ q2326) (Or.inr (Or.inr (Or.inr rfl)))
  obtain ⟨a4, e4⟩ := arr_atO (hts _ q199)
  refine ⟨((fun k => [c0, c1, c2, c3, c4, c5, c6, c7, c8, c9, c10, c11, c12, c13, c14].getD k c0, fun k => [i0, i1, i2, i3, i4, i5, i6, i7, i8, i9, i10, i11, i12, i13, i14].getD k i0), fun k => [a0, a1, a2, a3, a4].getD k a0), fun k q hq => ?_, fun k q hq => ?_⟩
  · match k, hq with
    | 0, hq => cases hq; exact h0
    | 1, hq => cases hq; exact h1
    | 2, hq => cases hq; exact h2
    | 3, hq => cases hq; exact h3
    | 4, hq => cases hq; exact h4
    | 5, hq => cases hq; exact h5
    | 6, hq => cases hq; exact h6
    | 7, hq => cases hq; exact h7
    | 8, hq => cases hq; exact h8
    | 9, hq => cases hq; exact h9
    | 10, hq => cases hq; exact h10
    | 11, hq => cases hq; exact h11
    | 12, hq => cases hq; exact h12
    | 13, hq => cases hq; exact h13
    | 14, hq => cases hq; exact h14
    | k + 15, hq => simp [vcl] at hq
  · match k, hq with
    | 0, hq => cases hq; exact e0
    | 1, hq => cases hq; exact e1
    | 2, hq => cases hq; exact e2
    | 3, hq => cases hq; exact e3
    | 4, hq => cases hq; exact e4
    | k + 5, hq => simp [tyK] at hq
/-- a literal's address -/
theorem l_str {s : State} {args : Array Value} {own tx : String} {k : Nat} (h1 : (Cond.stringRef own k tx).before args s = true) (h2 : (Cond.exactly (.string own k) "java/lang/String").before args s = true) : ∃ a : Nat, vk_R own k tx a s := by
  obtain ⟨a, c, cA, kA, q1, -⟩ := Cond.exactly_spec (args := args) (first := s) (o := none) (s := s) (idx := []) (t := Term.string own k) (cls := "java/lang/String") h2
  exact ⟨a, vk_R.of h1 q1⟩
abbrev tmS (i : Nat) : Term := if i = 0 then Term.string "ClockworkOrreries$Reader" 60 else Term.string "ClockworkOrreries$Reader" 68
theorem lt2 {P : Nat → Prop} (h0 : P 0) (h1 : P 1) : ∀ i, i < 2 → P i := fun i hi => match i, hi with
  | 0, _ => h0
  | 1, _ => h1
  | n + 2, h => absurd h (by omega)
set_option maxHeartbeats 4000000 in
theorem l_start {p : Program} {s : State} {m : MethodId} {meth : Method} {c : Code} {b L : Nat} {xs : Nat → Int32} (C0 : lw_At p s m meth c b L xs) : ∃ K : HK, K.2.1 = s.heap.size ∧ EV K s s.heap ∧ KN K.1 s := by
  obtain ⟨hx, hb, hr, hml, hown, hts, hX, hbl, hlocks, hgv⟩ := C0
  have hs := flat_of_before _ hgv
  have hta : ∀ w ∈ lw_all, w.before #[Value.ref b] s = true := fun w h => hts w (lw_all_tbl h)
  have hA : ∀ a : Nat, a < s.heap.size → ¬ (fun q : Nat => s.heap.size ≤ q) a := fun a h => Nat.not_le.mpr h
  obtain ⟨KT0, hKN⟩ := l_KN hts
  obtain ⟨t0, ht0, hT0⟩ := va_Tof (tm := .static "java/util/ArrayList" "DEFAULTCAPACITY_EMPTY_ELEMENTDATA" "[Ljava/lang/Object;") (ty := .object "java/lang/Object") (N := 0) (f := fun _ => .null) (A := fun q : Nat => s.heap.size ≤ q) (by decide) (hs _ (by decide +kernel)) (va_eqt (hs (.eq (.length (.static "java/util/ArrayList" "DEFAULTCAPACITY_EMPTY_ELEMENTDATA" "[Ljava/lang/Object;")) (.int 0)) (by decide +kernel))) (fun j hj => absurd hj (Nat.not_lt_zero j)) hA
  obtain ⟨s1, hs1⟩ := l_str (hts _ q1052) (hs (.exactly (.string "ClockworkOrreries" 136) "java/lang/String") (by decide +kernel))
  obtain ⟨s2, hs2⟩ := l_str (hts _ q1055) (hs (.exactly (.string "ClockworkOrreries" 143) "java/lang/String") (by decide +kernel))
  obtain ⟨s3, hs3⟩ := l_str (hts _ q1184) (hs (.exactly (.string "ClockworkOrreries" 152) "java/lang/String") (by decide +kernel))
  obtain ⟨s4, hs4⟩ := l_str (hts _ q830) (hs (.exactly (.string "ClockworkOrreries$Refused" 1) "java/lang/String") (by decide +kernel))
  obtain ⟨mi, hmi⟩ := va_Mi.of (hs (.isRef (.mirror "[Ljava/lang/Object;")) (by decide +kernel))
  obtain ⟨adK, adV, hvS, hev⟩ := vk_Sof (N := 2) (tm := tmS) (len := [3, 2]) (byt := bytS) (A := fun q : Nat => s.heap.size ≤ q) (s := s) (args := #[Value.ref b]) (lt2 (by decide) (by decide))
    (lt2 (hs _ (by decide +kernel)) (hs _ (by decide +kernel))) (lt2 (hs _ (by decide +kernel)) (hs _ (by decide +kernel))) (lt2 (hs _ (by decide +kernel)) (hs _ (by decide +kernel))) (lt2 (hs _ (by decide +kernel)) (hs _ (by decide +kernel)))
    (lt2 (fun j hj => by
      match j, hj with
      | 0, _ => exact hs _ (by decide +kernel)
      | 1, _ => exact hs _ (by decide +kernel)
      | 2, _ => exact hs _ (by decide +kernel)
      | n + 3, h => exact absurd h (by show ¬ n + 3 < 3; omega)) (fun j hj => by
      match j, hj with
      | 0, _ => exact hs _ (by decide +kernel)
      | 1, _ => exact hs _ (by decide +kernel)
      | n + 2, h => exact absurd h (by show ¬ n + 2 < 2; omega)))
    (fun i j hi hj hij => by
      have hsame : (Cond.not (Cond.eq (tmS 0) (tmS 1))).before #[Value.ref b] s = true := hs _ (by decide +kernel)
      match i, j, hi, hj, hij with
      | 0, 0, _, _, h => exact absurd rfl h
      | 0, 1, _, _, _ => exact Or.inl hsame
      | 1, 0, _, _, _ => exact Or.inr hsame
      | 1, 1, _, _, h => exact absurd rfl h
      | n + 2, _, h, _, _ => omega
      | _, n + 2, _, h, _ => omega) hA
  refine ⟨(KT0, s.heap.size, fun j => [t0, s1, s2, s3, s4, adK 0, adK 1, mi, adV 0, adV 1].getD j 0), rfl, ?_, hKN⟩
  refine ⟨⟨va_Zof (hts _ q137) (hta _ q79) ht0 hA, hT0, va_Zof (hts _ q220) (hta _ q83) (va_eqt (hs (.eq (.static "java/lang/String" "COMPACT_STRINGS" "Z") (.int 1)) (by decide +kernel))) hA, va_Zqof (hts _ q570) (hta _ q87) (hs _ (by decide +kernel)) hA, vx_Zqof (hts _ q528) (hta _ q92) (hs _ (by decide +kernel)) hA, vx_Zqof (hts _ q530) (hta _ q92) (hs _ (by decide +kernel)) hA⟩,
    ⟨hs1, hs2, hs3, hs4, vk_R.of (hts _ q1631) (hev 0 (by decide)), vk_R.of (hts _ q1682) (hev 1 (by decide))⟩, hmi, va_Dc.of (hts _ q2361), va_AO.of (hts _ q199), fun w hw hok => va_Nw.of (nw_ot hok) (hts w hw), fun q hq => ?_, fun w hw => ?_, ?_⟩
  · simp only [ncL, List.mem_cons, List.not_mem_nil, or_false] at hq
    rcases hq with rfl | rfl
    · exact va_Nc.of (hs (.not (.castable "java/lang/IllegalStateException" "java/lang/IllegalArgumentException")) (by decide +kernel))
    · exact va_Nc.of (hs (.not (.castable "java/util/NoSuchElementException" "java/lang/IllegalArgumentException")) (by decide +kernel))
  · have hw' := hw
    simp only [upS, List.mem_cons, List.not_mem_nil, or_false] at hw
    rcases hw with rfl | rfl
    · exact va_tabs (upS_good _ hw').2 rfl (sel_up (z := yJ4_isLatin1) (hta _ q490) rfl (hts _ q459) (hts _ (lw_all_tbl q460)) (by decide +kernel))
    · exact va_tabs (upS_good _ hw').2 rfl (sel_up (z := yJ4_isLatin1) (hta _ q490) rfl (hts _ q455) (hts _ (lw_all_tbl q456)) (by decide +kernel))
  · refine ⟨fun i hi => ?_, fun i j hi hj e => ?_⟩
    · match i, hi with
      | 0, _ => exact hvS.1 0 (by decide)
      | 1, _ => exact hvS.1 1 (by decide)
      | n + 2, h => omega
    · match i, j, hi, hj, e with
      | 0, 0, _, _, _ => rfl
      | 1, 1, _, _, _ => rfl
      | 0, 1, _, _, e => exact hvS.2 0 1 (by decide) (by decide) e
      | 1, 0, _, _, e => exact hvS.2 1 0 (by decide) (by decide) e
      | n + 2, _, h, _, _ => omega
      | _, n + 2, _, h, _ => omega

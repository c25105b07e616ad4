/-! THE START: what the machine layer asks, out of the statement's premises -/
set_option maxRecDepth 100000
set_option maxHeartbeats 4000000
theorem st_cls {s : State} {A : Array Value} (hts : ∀ w ∈ lw_all, w.before A s = true) (h12 : ∃ c, s.vm.findClass RX13 = some c) (ci : Nat) : ∃ z : ClassId × (Nat → Nat), ∀ r : vw_C, xcl[ci]? = some r → s.vm.findClass r.1 = some z.1 ∧ (∀ k, k < r.2.2 → SlotIs s (r.2.1 k).1 (r.2.1 k).2.1 (r.2.1 k).2.2.1 (z.2 k)) ∧ (0 < r.2.2 → ClassAt s r.1 z.1) := by
  match ci with
  | 0 =>
    obtain ⟨cC, iS, h⟩ := u_known (C := RX1) (T := TX1) (N := 7) (n := 7) hts in_X1 (hts _ q181)
    exact ⟨(cC, iS), fun r hr => by
      cases Option.some.inj (show some (RX1, TX1, 7) = some r from hr)
      exact ⟨h.2.1, h.1, fun _ => h.2⟩⟩
  | 1 =>
    obtain ⟨cC, iS, h⟩ := u_known (C := RX2) (T := TX2) (N := 32) (n := 32) hts in_X2 (hts _ q2898)
    exact ⟨(cC, iS), fun r hr => by
      cases Option.some.inj (show some (RX2, TX2, 32) = some r from hr)
      exact ⟨h.2.1, h.1, fun _ => h.2⟩⟩
  | 2 =>
    obtain ⟨cC, iS, h⟩ := u_known (C := RX3) (T := TX3) (N := 10) (n := 10) hts in_X3 (hts _ q255)
    exact ⟨(cC, iS), fun r hr => by
      cases Option.some.inj (show some (RX3, TX3, 10) = some r from hr)
      exact ⟨h.2.1, h.1, fun _ => h.2⟩⟩
  | 3 =>
    obtain ⟨cC, iS, h⟩ := u_known (C := RX4) (T := TX4) (N := 5) (n := 5) hts in_X4 (hts _ q261)
    exact ⟨(cC, iS), fun r hr => by
      cases Option.some.inj (show some (RX4, TX4, 5) = some r from hr)
      exact ⟨h.2.1, h.1, fun _ => h.2⟩⟩
  | 4 =>
    obtain ⟨cC, iS, h⟩ := u_known (C := RX5) (T := TX5) (N := 8) (n := 8) hts in_X5 (hts _ q504)
    exact ⟨(cC, iS), fun r hr => by
      cases Option.some.inj (show some (RX5, TX5, 8) = some r from hr)
      exact ⟨h.2.1, h.1, fun _ => h.2⟩⟩
  | 5 =>
    obtain ⟨cC, iS, h⟩ := u_known (C := RX6) (T := TX6) (N := 2) (n := 2) hts in_X6 (hts _ q818)
    exact ⟨(cC, iS), fun r hr => by
      cases Option.some.inj (show some (RX6, TX6, 2) = some r from hr)
      exact ⟨h.2.1, h.1, fun _ => h.2⟩⟩
  | 6 =>
    obtain ⟨cC, iS, h⟩ := u_known (C := RX7) (T := TX7) (N := 5) (n := 5) hts in_X7 (hts _ q1396)
    exact ⟨(cC, iS), fun r hr => by
      cases Option.some.inj (show some (RX7, TX7, 5) = some r from hr)
      exact ⟨h.2.1, h.1, fun _ => h.2⟩⟩
  | 7 =>
    obtain ⟨cC, iS, h⟩ := u_known (C := RX8) (T := TX8) (N := 2) (n := 2) hts in_X8 (hts _ q1452)
    exact ⟨(cC, iS), fun r hr => by
      cases Option.some.inj (show some (RX8, TX8, 2) = some r from hr)
      exact ⟨h.2.1, h.1, fun _ => h.2⟩⟩
  | 8 =>
    obtain ⟨cC, iS, h⟩ := u_known (C := RX9) (T := TX9) (N := 4) (n := 4) hts in_X9 (hts _ q1509)
    exact ⟨(cC, iS), fun r hr => by
      cases Option.some.inj (show some (RX9, TX9, 4) = some r from hr)
      exact ⟨h.2.1, h.1, fun _ => h.2⟩⟩
  | 9 =>
    obtain ⟨cC, iS, h⟩ := u_known (C := RX10) (T := TX10) (N := 1) (n := 1) hts in_X10 (hts _ q1586)
    exact ⟨(cC, iS), fun r hr => by
      cases Option.some.inj (show some (RX10, TX10, 1) = some r from hr)
      exact ⟨h.2.1, h.1, fun _ => h.2⟩⟩
  | 10 =>
    obtain ⟨cC, iS, h⟩ := u_known (C := RX11) (T := TX11) (N := 2) (n := 2) hts in_X11 (hts _ q2040)
    exact ⟨(cC, iS), fun r hr => by
      cases Option.some.inj (show some (RX11, TX11, 2) = some r from hr)
      exact ⟨h.2.1, h.1, fun _ => h.2⟩⟩
  | 11 =>
    obtain ⟨cC, iS, h⟩ := u_known (C := RX12) (T := TX12) (N := 3) (n := 3) hts in_X12 (hts _ q2210)
    exact ⟨(cC, iS), fun r hr => by
      cases Option.some.inj (show some (RX12, TX12, 3) = some r from hr)
      exact ⟨h.2.1, h.1, fun _ => h.2⟩⟩
  | 12 =>
    obtain ⟨c, hc⟩ := h12
    exact ⟨(c, fun _ => 0), fun r hr => by
      cases Option.some.inj (show some (RX13, TX13, 0) = some r from hr)
      exact ⟨hc, fun k hk => absurd hk (Nat.not_lt_zero k), fun h => absurd h (Nat.lt_irrefl 0)⟩⟩
  | 13 =>
    obtain ⟨cC, iS, h⟩ := u_known (C := RJ1) (T := TJ1) (N := 3) (n := 3) hts in_J1 (hts _ q189)
    exact ⟨(cC, iS), fun r hr => by
      cases Option.some.inj (show some (RJ1, TJ1, 3) = some r from hr)
      exact ⟨h.2.1, h.1, fun _ => h.2⟩⟩
  | 14 =>
    obtain ⟨cC, iS, h⟩ := u_known (C := RJ3) (T := TJ3) (N := 3) (n := 3) hts in_J3 (hts _ q267)
    exact ⟨(cC, iS), fun r hr => by
      cases Option.some.inj (show some (RJ3, TJ3, 3) = some r from hr)
      exact ⟨h.2.1, h.1, fun _ => h.2⟩⟩
  | 15 =>
    obtain ⟨cC, iS, h⟩ := u_known (C := RJ5) (T := TJ5) (N := 9) (n := 9) hts in_J5 (hts _ q319)
    exact ⟨(cC, iS), fun r hr => by
      cases Option.some.inj (show some (RJ5, TJ5, 9) = some r from hr)
      exact ⟨h.2.1, h.1, fun _ => h.2⟩⟩
  | 16 =>
    obtain ⟨cC, iS, h⟩ := u_known (C := RJ6) (T := TJ6) (N := 4) (n := 4) hts in_J6 (hts _ q688)
    exact ⟨(cC, iS), fun r hr => by
      cases Option.some.inj (show some (RJ6, TJ6, 4) = some r from hr)
      exact ⟨h.2.1, h.1, fun _ => h.2⟩⟩
  | 17 =>
    obtain ⟨cC, iS, h⟩ := u_known (C := RJ15) (T := TJ15) (N := 4) (n := 4) hts in_J15 (hts _ q574)
    exact ⟨(cC, iS), fun r hr => by
      cases Option.some.inj (show some (RJ15, TJ15, 4) = some r from hr)
      exact ⟨h.2.1, h.1, fun _ => h.2⟩⟩
  | 18 =>
    obtain ⟨cC, iS, h⟩ := u_known (C := RJ19) (T := TJ19) (N := 1) (n := 1) hts in_J19 (hts _ q1219)
    exact ⟨(cC, iS), fun r hr => by
      cases Option.some.inj (show some (RJ19, TJ19, 1) = some r from hr)
      exact ⟨h.2.1, h.1, fun _ => h.2⟩⟩
  | 19 =>
    obtain ⟨cC, iS, h⟩ := u_known (C := RJ23) (T := TJ23) (N := 6) (n := 6) hts in_J23 (hts _ q1323)
    exact ⟨(cC, iS), fun r hr => by
      cases Option.some.inj (show some (RJ23, TJ23, 6) = some r from hr)
      exact ⟨h.2.1, h.1, fun _ => h.2⟩⟩
  | 20 =>
    obtain ⟨cC, iS, h⟩ := u_known (C := RJ26) (T := TJ26) (N := 4) (n := 4) hts in_J26 (hts _ q1800)
    exact ⟨(cC, iS), fun r hr => by
      cases Option.some.inj (show some (RJ26, TJ26, 4) = some r from hr)
      exact ⟨h.2.1, h.1, fun _ => h.2⟩⟩
  | 21 =>
    obtain ⟨cC, iS, h⟩ := u_known (C := RJ28) (T := TJ28) (N := 6) (n := 6) hts in_J28 (hts _ q1867)
    exact ⟨(cC, iS), fun r hr => by
      cases Option.some.inj (show some (RJ28, TJ28, 0) = some r from hr)
      exact ⟨h.2.1, fun k hk => absurd hk (Nat.not_lt_zero k), fun _ => h.2⟩⟩
  | 22 =>
    obtain ⟨cC, iS, h⟩ := u_known (C := RJ32) (T := TJ32) (N := 4) (n := 4) hts in_J32 (hts _ q2011)
    exact ⟨(cC, iS), fun r hr => by
      cases Option.some.inj (show some (RJ32, TJ32, 4) = some r from hr)
      exact ⟨h.2.1, h.1, fun _ => h.2⟩⟩
  | 23 =>
    obtain ⟨cC, iS, h⟩ := u_known (C := RJ34) (T := TJ34) (N := 1) (n := 1) hts in_J34 (hts _ q2187)
    exact ⟨(cC, iS), fun r hr => by
      cases Option.some.inj (show some (RJ34, TJ34, 1) = some r from hr)
      exact ⟨h.2.1, h.1, fun _ => h.2⟩⟩
  | 24 =>
    obtain ⟨cC, iS, h⟩ := u_known (C := RJ35) (T := TJ35) (N := 1) (n := 1) hts in_J35 (hts _ q2258)
    exact ⟨(cC, iS), fun r hr => by
      cases Option.some.inj (show some (RJ35, TJ35, 1) = some r from hr)
      exact ⟨h.2.1, h.1, fun _ => h.2⟩⟩
  | 25 =>
    obtain ⟨cC, iS, h⟩ := u_known (C := RJ37) (T := TJ37) (N := 4) (n := 4) hts in_J37 (hts _ q2283)
    exact ⟨(cC, iS), fun r hr => by
      cases Option.some.inj (show some (RJ37, TJ37, 4) = some r from hr)
      exact ⟨h.2.1, h.1, fun _ => h.2⟩⟩
  | n + 26 => exact ⟨(0, fun _ => 0), fun r hr => by simp [xcl] at hr⟩
theorem st_arrT {s : State} {c : ClassId} {k : Class} {comp : ClassId} {ty : FieldType} (h1 : s.vm.classes[c]? = some k) (h2 : k.kind = .array comp ty) : ArrOfT s c ty := fun n z => ⟨(fun _ h => nomatch h), k, h1, comp, h2⟩
theorem st_arr {s : State} {A : Array Value} (hts : ∀ w ∈ lw_tbl, w.before A s = true) (h7 : ∃ (c : ClassId) (k : Class) (comp : ClassId), s.vm.classes[c]? = some k ∧ k.kind = .array comp (.object "java/lang/Integer")) (t : Nat) : ∃ cA : ClassId, ∀ ty, xty[t]? = some ty → ArrOfT s cA ty ∧ (t ≠ 7 → va_RA s cA ty) := by
  have ha : ∀ w ∈ lw_all, w.before A s = true := fun w hw => hts w (List.mem_filter.mp hw).1
  match t with
  | 0 =>
    obtain ⟨c, k, comp, h1, h2, h3⟩ := Cond.arrayClass_spec (ha _ q241)
    exact ⟨c, fun ty hty => by
      cases Option.some.inj (show some .int = some ty from hty)
      exact ⟨st_arrT h2 h3, fun _ => h1⟩⟩
  | 1 =>
    obtain ⟨c, k, comp, h1, h2, h3⟩ := Cond.arrayClass_spec (ha _ q241)
    exact ⟨c, fun ty hty => by
      cases Option.some.inj (show some .int = some ty from hty)
      exact ⟨st_arrT h2 h3, fun _ => h1⟩⟩
  | 2 =>
    obtain ⟨c, k, comp, h1, h2, h3⟩ := Cond.arrayClass_spec (ha _ q212)
    exact ⟨c, fun ty hty => by
      cases Option.some.inj (show some .byte = some ty from hty)
      exact ⟨st_arrT h2 h3, fun _ => h1⟩⟩
  | 3 =>
    obtain ⟨c, k, comp, h1, h2, h3⟩ := Cond.arrayClass_spec (ha _ q3474)
    exact ⟨c, fun ty hty => by
      cases Option.some.inj (show some .long = some ty from hty)
      exact ⟨st_arrT h2 h3, fun _ => h1⟩⟩
  | 4 =>
    obtain ⟨comp, c, k, h1, -, h2, h3, h4⟩ := Cond.arrayOver_spec (n := "java/lang/Object") (hts _ q199)
    exact ⟨c, fun ty hty => by
      cases Option.some.inj (show some (FieldType.object "java/lang/Object") = some ty from hty)
      exact ⟨st_arrT h2 h3, fun _ => ⟨k, comp, h2, h3, h1, h4⟩⟩⟩
  | 5 =>
    obtain ⟨comp, c, k, h1, -, h2, h3, h4⟩ := Cond.arrayOver_spec (n := "ForestLegs$Match") (hts _ q1508)
    exact ⟨c, fun ty hty => by
      cases Option.some.inj (show some (FieldType.object "ForestLegs$Match") = some ty from hty)
      exact ⟨st_arrT h2 h3, fun _ => ⟨k, comp, h2, h3, h1, h4⟩⟩⟩
  | 6 =>
    obtain ⟨comp, c, k, h1, h2, h3, h4⟩ := Cond.arrayOver_specA (t := .int) (hts _ q1522)
    exact ⟨c, fun ty hty => by
      cases Option.some.inj (show some (FieldType.array .int) = some ty from hty)
      exact ⟨st_arrT h2 h3, fun _ => h4⟩⟩
  | 7 =>
    obtain ⟨c, k, comp, h2, h3⟩ := h7
    exact ⟨c, fun ty hty => by
      cases Option.some.inj (show some (FieldType.object "java/lang/Integer") = some ty from hty)
      exact ⟨st_arrT h2 h3, fun h => absurd rfl h⟩⟩
  | n + 8 => exact ⟨0, fun ty hty => by simp [xty] at hty⟩
def rfo (v : Value) : Option Nat := match v with
  | .ref a => some a
  | _ => none
theorem rfo_ok {v : Value} (h : v.isRef = true) : v = va_rf (rfo v) := by
  cases v <;> first | rfl | cases h
theorem st_ref {s : State} {A : Array Value} {t : Term} (h : (Cond.isRef t).before A s = true) : ∃ x : Option Nat, t.eval A s none [] s = some (va_rf x) := by
  obtain ⟨v, hv, hr⟩ := Cond.isRef_spec h
  exact ⟨rfo v, by rw [hv]; exact congrArg some (rfo_ok hr)⟩
theorem st_ex {s : State} {A : Array Value} {t : Term} {C : String} (h : (Cond.exactly t C).before A s = true) : ∃ a : Nat, t.eval A s none [] s = some (va_rf (some a)) := by
  obtain ⟨a, c, cell, k, h1, -⟩ := Cond.exactly_spec h
  exact ⟨a, h1⟩
theorem st_stat {s : State} {A : Array Value} (hts : ∀ w ∈ lw_tbl, w.before A s = true) (hgv : (Jvm.Cond.and given_1 narrow_1).before A s = true) : ∃ κ : Nat → Option Nat, (∀ (j : Nat) (e : String × String × String × (Int32 ⊕ Nat)), xstat[j]? = some e → va_Z e.1 e.2.1 e.2.2.1 (match e.2.2.2 with
  | .inl z => .int z
  | .inr k => va_rf (κ k)) (fun q => s.heap.size ≤ q) s s.heap) ∧ (∀ mi, κ 8 = some mi → va_Mi "[Ljava/lang/Object;" mi s) ∧ (∃ mi, κ 8 = some mi) ∧ (∀ (j : Nat) (e : String × Nat × String × Nat), xlits[j]? = some e → ∃ a, κ e.2.2.2 = some a ∧ vk_R e.1 e.2.1 e.2.2.1 a s) ∧ (Term.static "ForestLegs" "BY_TIME" "Ljava/util/Comparator;").eval A s none [] s = some (va_rf (κ 0)) ∧ (Term.static "java/lang/Integer$IntegerCache" "cache" "[Ljava/lang/Integer;").eval A s none [] s = some (va_rf (κ 1)) ∧ (Term.static "java/util/ArrayList" "EMPTY_ELEMENTDATA" "[Ljava/lang/Object;").eval A s none [] s = some (va_rf (κ 2)) ∧ (Term.static "java/util/ArrayList" "DEFAULTCAPACITY_EMPTY_ELEMENTDATA" "[Ljava/lang/Object;").eval A s none [] s = some (va_rf (κ 3)) ∧ (Term.static "java/util/TreeSet" "PRESENT" "Ljava/lang/Object;").eval A s none [] s = some (va_rf (κ 4)) ∧ (Term.static "java/lang/Throwable" "UNASSIGNED_STACK" "[Ljava/lang/StackTraceElement;").eval A s none [] s = some (va_rf (κ 5)) ∧ (Term.static "java/lang/Throwable" "SUPPRESSED_SENTINEL" "Ljava/util/List;").eval A s none [] s = some (va_rf (κ 6)) ∧ (Term.static "jdk/internal/util/Preconditions" "SIOOBE_FORMATTER" "Ljava/util/function/BiFunction;").eval A s none [] s = some (va_rf (κ 7)) := by
  have hs := flat_of_before _ hgv
  have hA : ∀ a : Nat, a < s.heap.size → ¬ (fun q => s.heap.size ≤ q) a := fun a h h' => absurd h (Nat.not_lt.mpr h')
  obtain ⟨a0, e0⟩ := st_ex (hs (.exactly (.static "ForestLegs" "BY_TIME" "Ljava/util/Comparator;") "ForestLegs$1") (by decide +kernel))
  generalize (some a0 : Option Nat) = x0 at e0
  obtain ⟨x1, e1⟩ := st_ref (hs (.isRef (.static "java/lang/Integer$IntegerCache" "cache" "[Ljava/lang/Integer;")) (by decide +kernel))
  obtain ⟨a2, e2⟩ := st_ex (hs (.exactly (.static "java/util/ArrayList" "EMPTY_ELEMENTDATA" "[Ljava/lang/Object;") "[Ljava/lang/Object;") (by decide +kernel))
  generalize (some a2 : Option Nat) = x2 at e2
  obtain ⟨a3, e3⟩ := st_ex (hs (.exactly (.static "java/util/ArrayList" "DEFAULTCAPACITY_EMPTY_ELEMENTDATA" "[Ljava/lang/Object;") "[Ljava/lang/Object;") (by decide +kernel))
  generalize (some a3 : Option Nat) = x3 at e3
  obtain ⟨a4, e4⟩ := st_ex (hs (.exactly (.static "java/util/TreeSet" "PRESENT" "Ljava/lang/Object;") "java/lang/Object") (by decide +kernel))
  generalize (some a4 : Option Nat) = x4 at e4
  obtain ⟨x5, e5⟩ := st_ref (hs (.isRef (.static "java/lang/Throwable" "UNASSIGNED_STACK" "[Ljava/lang/StackTraceElement;")) (by decide +kernel))
  obtain ⟨x6, e6⟩ := st_ref (hs (.isRef (.static "java/lang/Throwable" "SUPPRESSED_SENTINEL" "Ljava/util/List;")) (by decide +kernel))
  obtain ⟨x7, e7⟩ := st_ref (hs (.isRef (.static "jdk/internal/util/Preconditions" "SIOOBE_FORMATTER" "Ljava/util/function/BiFunction;")) (by decide +kernel))
  have i0 := va_eqi (hs (.eq (.static "java/lang/Integer$IntegerCache" "high" "I") (.int 127)) (by decide +kernel))
  have i1 := va_eqi (hs (.eq (.static "java/lang/String" "COMPACT_STRINGS" "Z") (.int 1)) (by decide +kernel))
  have i2 := va_eqi (hs (.eq (.static "java/util/Arrays$LegacyMergeSort" "userRequested" "Z") (.int 0)) (by decide +kernel))
  have i3 := va_eqi (hs (.eq (.static "java/util/TimSort" "$assertionsDisabled" "Z") (.int 1)) (by decide +kernel))
  obtain ⟨mi, hmi⟩ := va_Mi.of (hs (.isRef (.mirror "[Ljava/lang/Object;")) (by decide +kernel))
  obtain ⟨s0, t0⟩ := st_ex (hs (.exactly (.string "ForestLegsModel" 102) "java/lang/String") (by decide +kernel))
  obtain ⟨s1, t1⟩ := st_ex (hs (.exactly (.string "ForestLegsModel" 108) "java/lang/String") (by decide +kernel))
  obtain ⟨s2, t2⟩ := st_ex (hs (.exactly (.string "ForestLegsModel" 110) "java/lang/String") (by decide +kernel))
  obtain ⟨s3, t3⟩ := st_ex (hs (.exactly (.string "ForestLegsModel" 112) "java/lang/String") (by decide +kernel))
  obtain ⟨s4, t4⟩ := st_ex (hs (.exactly (.string "ForestLegs$Reader" 64) "java/lang/String") (by decide +kernel))
  obtain ⟨s5, t5⟩ := st_ex (hs (.exactly (.string "ForestLegs$Reader" 94) "java/lang/String") (by decide +kernel))
  obtain ⟨s6, t6⟩ := st_ex (hs (.exactly (.string "ForestLegs$Reader" 96) "java/lang/String") (by decide +kernel))
  obtain ⟨s7, t7⟩ := st_ex (hs (.exactly (.string "ForestLegs$Reader" 209) "java/lang/String") (by decide +kernel))
  obtain ⟨s8, t8⟩ := st_ex (hs (.exactly (.string "ForestLegs$Reader" 214) "java/lang/String") (by decide +kernel))
  obtain ⟨s9, t9⟩ := st_ex (hs (.exactly (.string "ForestLegs$Reader" 216) "java/lang/String") (by decide +kernel))
  obtain ⟨s10, t10⟩ := st_ex (hs (.exactly (.string "ForestLegs$Reader" 218) "java/lang/String") (by decide +kernel))
  refine ⟨fun k => match k with | 0 => x0 | 1 => x1 | 2 => x2 | 3 => x3 | 4 => x4 | 5 => x5 | 6 => x6 | 7 => x7 | 8 => some mi | 10 => some s0 | 11 => some s1 | 12 => some s2 | 13 => some s3 | 14 => some s4 | 15 => some s5 | 16 => some s6 | 17 => some s7 | 18 => some s8 | 19 => some s9 | 20 => some s10 | _ => none, fun j e he => ?_, fun m hm => by cases hm; exact hmi, ⟨mi, rfl⟩, fun j e he => ?_, e0, e1, e2, e3, e4, e5, e6, e7⟩
  · match j with
    | 0 =>
      cases Option.some.inj (show _ = some e from he)
      exact va_Zof (hts _ q2189) (hts _ (List.mem_filter.mp q123).1) e0 hA
    | 1 =>
      cases Option.some.inj (show _ = some e from he)
      exact va_Zof (hts _ q1218) (hts _ (List.mem_filter.mp q154).1) e1 hA
    | 2 =>
      cases Option.some.inj (show _ = some e from he)
      exact va_Zof (hts _ q1216) (hts _ (List.mem_filter.mp q154).1) i0 hA
    | 3 =>
      cases Option.some.inj (show _ = some e from he)
      exact va_Zof (hts _ q418) (hts _ (List.mem_filter.mp q133).1) i1 hA
    | 4 =>
      cases Option.some.inj (show _ = some e from he)
      exact va_Zof (hts _ q277) (hts _ (List.mem_filter.mp q130).1) e2 hA
    | 5 =>
      cases Option.some.inj (show _ = some e from he)
      exact va_Zof (hts _ q1253) (hts _ (List.mem_filter.mp q130).1) e3 hA
    | 6 =>
      cases Option.some.inj (show _ = some e from he)
      exact va_Zof (hts _ q2236) (hts _ (List.mem_filter.mp q173).1) e4 hA
    | 7 =>
      cases Option.some.inj (show _ = some e from he)
      exact va_Zof (hts _ q528) (hts _ (List.mem_filter.mp q139).1) e5 hA
    | 8 =>
      cases Option.some.inj (show _ = some e from he)
      exact va_Zof (hts _ q530) (hts _ (List.mem_filter.mp q139).1) e6 hA
    | 9 =>
      cases Option.some.inj (show _ = some e from he)
      exact va_Zof (hts _ q1614) (hts _ (List.mem_filter.mp q160).1) i2 hA
    | 10 =>
      cases Option.some.inj (show _ = some e from he)
      exact va_Zof (hts _ q1709) (hts _ (List.mem_filter.mp q162).1) i3 hA
    | 11 =>
      cases Option.some.inj (show _ = some e from he)
      exact va_Zof (hts _ q461) (hts _ (List.mem_filter.mp q137).1) e7 hA
    | n + 12 => simp [xstat] at he
  · match j with
    | 0 =>
      cases Option.some.inj (show _ = some e from he)
      exact ⟨s0, rfl, vk_R.of (hts _ q3042) t0⟩
    | 1 =>
      cases Option.some.inj (show _ = some e from he)
      exact ⟨s1, rfl, vk_R.of (hts _ q3075) t1⟩
    | 2 =>
      cases Option.some.inj (show _ = some e from he)
      exact ⟨s2, rfl, vk_R.of (hts _ q3076) t2⟩
    | 3 =>
      cases Option.some.inj (show _ = some e from he)
      exact ⟨s3, rfl, vk_R.of (hts _ q3077) t3⟩
    | 4 =>
      cases Option.some.inj (show _ = some e from he)
      exact ⟨s4, rfl, vk_R.of (hts _ q404) t4⟩
    | 5 =>
      cases Option.some.inj (show _ = some e from he)
      exact ⟨s5, rfl, vk_R.of (hts _ q827) t5⟩
    | 6 =>
      cases Option.some.inj (show _ = some e from he)
      exact ⟨s6, rfl, vk_R.of (hts _ q828) t6⟩
    | 7 =>
      cases Option.some.inj (show _ = some e from he)
      exact ⟨s7, rfl, vk_R.of (hts _ q791) t7⟩
    | 8 =>
      cases Option.some.inj (show _ = some e from he)
      exact ⟨s8, rfl, vk_R.of (hts _ q800) t8⟩
    | 9 =>
      cases Option.some.inj (show _ = some e from he)
      exact ⟨s9, rfl, vk_R.of (hts _ q801) t9⟩
    | 10 =>
      cases Option.some.inj (show _ = some e from he)
      exact ⟨s10, rfl, vk_R.of (hts _ q802) t10⟩
    | n + 11 => simp [xlits] at he
theorem st_c12 {s : State} {A : Array Value} (hgv : (Jvm.Cond.and given_1 narrow_1).before A s = true) : ∃ c, s.vm.findClass RX13 = some c := by
  obtain ⟨a, c, cell, k, h1, h2, -⟩ := Cond.exactly_spec (flat_of_before _ hgv (.exactly (.static "ForestLegs" "BY_TIME" "Ljava/util/Comparator;") "ForestLegs$1") (by decide +kernel))
  exact ⟨c, h2⟩
/-- a static array of references: its cell -/
theorem st_sarr {s : State} {A : Array Value} {t : Term} {ty : FieldType} {x : Option Nat} (h : (Cond.arrayOf t ty).before A s = true) (ht : t.eval A s none [] s = some (va_rf x)) : ∃ (a : Nat) (cell : Cell), x = some a ∧ s.heap[a]? = some cell ∧ s.isArrayOf cell ty ∧ cell.vm ≠ .unknown := by
  cases x with
  | none =>
    have h' : (Cond.arrayOf t ty).holds A s none s [] = true := h
    have ht' : t.eval A s none [] s = some .null := ht
    simp [Cond.holds, Cond.value, ht'] at h'
  | some a =>
    cases hc : s.heap[a]? with
    | none =>
      have h' : (Cond.arrayOf t ty).holds A s none s [] = true := h
      have ht' : t.eval A s none [] s = some (.ref a) := ht
      simp [Cond.holds, Cond.value, ht', hc] at h'
    | some cell =>
      obtain ⟨h1, h2⟩ := Cond.arrayOf_spec (args := A) (first := s) (o := none) (idx := []) h ht hc
      exact ⟨a, cell, rfl, hc, h1, h2⟩
theorem st_c7 {s : State} {A : Array Value} (hgv : (Jvm.Cond.and given_1 narrow_1).before A s = true) : ∃ (c : ClassId) (k : Class) (comp : ClassId), s.vm.classes[c]? = some k ∧ k.kind = .array comp (.object "java/lang/Integer") := by
  have hs := flat_of_before _ hgv
  obtain ⟨x, hx⟩ := st_ref (hs (.isRef (.static "java/lang/Integer$IntegerCache" "cache" "[Ljava/lang/Integer;")) (by decide +kernel))
  obtain ⟨a, cell, -, -, h2, -⟩ := st_sarr (hs (.arrayOf (.static "java/lang/Integer$IntegerCache" "cache" "[Ljava/lang/Integer;") (.object "java/lang/Integer")) (by decide +kernel)) hx
  obtain ⟨-, k, hk, comp, hkk⟩ := h2
  exact ⟨_, k, comp, hk, hkk⟩
/-- what the machine layer asks of the start -/
theorem st_OK {l : Launch} (hfl : l.flags = flags0) {s : State} {A : Array Value} (hts : ∀ w ∈ lw_tbl, w.before A s = true) (hgv : (Jvm.Cond.and given_1 narrow_1).before A s = true) : ∃ (D : va_G) (dA : Nat → ClassId) (κ : Nat → Option Nat), xOK (l, s, D, dA, s.heap.size + 1200048, xsl s.heap + 5501818, κ) ∧ (∃ mi, κ 8 = some mi) ∧ (∀ (j : Nat) (e : String × Nat × String × Nat), xlits[j]? = some e → ∃ a, κ e.2.2.2 = some a ∧ vk_R e.1 e.2.1 e.2.2.1 a s) ∧ (Term.static "ForestLegs" "BY_TIME" "Ljava/util/Comparator;").eval A s none [] s = some (va_rf (κ 0)) ∧ (Term.static "java/lang/Integer$IntegerCache" "cache" "[Ljava/lang/Integer;").eval A s none [] s = some (va_rf (κ 1)) ∧ (Term.static "java/util/ArrayList" "EMPTY_ELEMENTDATA" "[Ljava/lang/Object;").eval A s none [] s = some (va_rf (κ 2)) ∧ (Term.static "java/util/ArrayList" "DEFAULTCAPACITY_EMPTY_ELEMENTDATA" "[Ljava/lang/Object;").eval A s none [] s = some (va_rf (κ 3)) ∧ (Term.static "java/util/TreeSet" "PRESENT" "Ljava/lang/Object;").eval A s none [] s = some (va_rf (κ 4)) ∧ (Term.static "java/lang/Throwable" "UNASSIGNED_STACK" "[Ljava/lang/StackTraceElement;").eval A s none [] s = some (va_rf (κ 5)) ∧ (Term.static "java/lang/Throwable" "SUPPRESSED_SENTINEL" "Ljava/util/List;").eval A s none [] s = some (va_rf (κ 6)) ∧ (Term.static "jdk/internal/util/Preconditions" "SIOOBE_FORMATTER" "Ljava/util/function/BiFunction;").eval A s none [] s = some (va_rf (κ 7)) := by
  have hs := flat_of_before _ hgv
  have ha : ∀ w ∈ lw_all, w.before A s = true := fun w hw => hts w (List.mem_filter.mp hw).1
  have hA : ∀ a : Nat, a < s.heap.size → ¬ (fun q => s.heap.size ≤ q) a := fun a h h' => absurd h (Nat.not_lt.mpr h')
  obtain ⟨κ, h1, h2, h3, h4, h5⟩ := st_stat hts hgv
  have hD := st_cls ha (st_c12 hgv)
  have hB := st_arr hts (st_c7 hgv)
  refine ⟨(fun ci => (hD ci).choose.1, fun ci => (hD ci).choose.2), fun t => (hB t).choose, κ, ⟨⟨A, hts⟩, ⟨fun ci r hr => (hD ci).choose_spec r hr, fun t ty ht => (hB t).choose_spec ty ht⟩, fun j e he => ?_, h2, h4, ?_, ?_, ?_, ?_⟩, h3, h4, h5⟩
  · have := h1 j e he
    obtain ⟨C, n, d, v⟩ := e
    cases v with
    | inl z => exact this
    | inr k => exact this
  · exact vx_Zqof (hts _ q528) (ha _ q139) (hs (.isRef (.static "java/lang/Throwable" "UNASSIGNED_STACK" "[Ljava/lang/StackTraceElement;")) (by decide +kernel)) hA
  · exact vx_Zqof (hts _ q530) (ha _ q139) (hs (.isRef (.static "java/lang/Throwable" "SUPPRESSED_SENTINEL" "Ljava/util/List;")) (by decide +kernel)) hA
  · show Launch.stackTraces l = false
    unfold Launch.stackTraces
    rw [hfl]
    decide +kernel
  · intro a h
    obtain ⟨a', c, cell, k, g1, g2, g3, -, g5, g6, -⟩ := Cond.exactly_spec (hs (.exactly (.static "ForestLegs" "BY_TIME" "Ljava/util/Comparator;") "ForestLegs$1") (by decide +kernel))
    have h9 := h5.1
    have e1 : κ 0 = some a := h
    rw [e1] at h9
    cases g1.symm.trans h9
    have e2 := ((hD 12).choose_spec (RX13, TX13, 0) rfl).1
    exact ⟨cell, g3, g5, by rw [g6]; exact Option.some.inj (g2.symm.trans e2)⟩


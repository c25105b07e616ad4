/-! CALLS OF METHODS THAT A CLASS ABOVE DECLARES: through a class whose words name the declarer, through an interface -/
set_option maxRecDepth 100000
theorem sel_via {s : State} {args : Array Value} {C J : String} {x y : MethodName} (hf : s.methodFound? x.cls x.name x.desc = s.methodFound? J x.name x.desc) (h : (Cond.selects C ⟨J, x.name, x.desc⟩ y).before args s = true) : (Cond.selects C x y).before args s = true := by
  simp only [Cond.before, Cond.holds, Cond.value, hf] at h ⊢
  exact h
section
variable {G : xG} {own nm : String} {cc : ByteArray} {nL d pc n : Nat} {ret : Option FieldType} {lv : List (Nat × Value)} {st : List Value} {P : PH} {K Kc : Option (xO × PH)}
theorem x_callW_G {d' maxL n' : Nat} {x y : MethodName} {bytes : ByteArray} {rt : Option FieldType} {b index ci : Nat} {r : vw_C} {owner : String} (As rest : List Value) (hct : CT G d' y bytes maxL rt (.ref b :: As) P Kc) (hrc : ∀ z, Kc = some z → xco P b = some ci) (hmd : xMd y bytes maxL rt n') (hr : xcl[ci]? = some r) (hlink : Cond.methodLink own index x ∈ lw_all) (hsame : Cond.sameMethod x.cls owner x.name x.desc ∈ lw_all) (hown : xnoMH owner) (hdecl : Cond.declares ⟨owner, x.name, x.desc⟩ ∈ lw_tbl) (hin : Cond.instanceMethod y ∈ lw_all) (hsel : Cond.selects r.1 ⟨owner, x.name, x.desc⟩ y ∈ lw_all) (har : xAr x.desc n' = true) (hd : decode cc pc = .ok (.invokevirtual index, 3)) (hAs : As.length = n') (hst : st = As.reverse ++ .ref b :: rest) (hdd : d' < d) (hrest : (rest.map fun v => v.category).sum ≤ 20) (hn : pc + 3 = n) (hK : ∀ r, K = some r → ∃ v P1, Kc = some (.inr v, P1)) (hk : ∀ v P1, Kc = some (.inr v, P1) → X G own nm cc nL ret d n lv (v.toList ++ rest) P1 K) : X G own nm cc nL ret d pc lv st P K := by
  subst hst
  subst hn
  rcases hKz : K with _ | z
  · exact x_no
  rw [← hKz]
  obtain ⟨v0, P0, hKc⟩ := hK z hKz
  have hb := hrc _ hKc
  refine x_calls (len := 3) hct hdd hmd.2.2.1 hmd.1 hmd.2.1 (fun {p e R s m args below meth c} hC {T locs cells slots ls Pre Post} X hr0 hsz hB hpre => ?_) hK hk
  have hts := xok_hts hC
  obtain ⟨cell, h1, h2, h3⟩ := xrecvC hr0 hC.2.2.2.2.2.2.2.2.2.2.2.1 (xok_K hC) hr hb
  obtain ⟨⟨A, hA⟩, -⟩ := hC.2.2.2.2.2.2.2.2.2.2.2.1
  have hde : va_Decl s ⟨owner, x.name, x.desc⟩ := va_Decl.abs (va_Nw.warmD hC.2.2.2.2.2.2.1 (va_Nw.of rfl (hA _ hdecl)))
  obtain ⟨r0, rm, q1, q2, q3, q4⟩ := id hde
  obtain ⟨c1, ck, r1, w1, w2, w3, w4, w5⟩ := Cond.sameMethod_found (hts _ hsame)
  have w6 : r1 = r0 := Option.some.inj (w5.symm.trans q1)
  have w7 : s.methodFound? owner x.name x.desc = some r0 := State.methodFound?_of_named q1 hown
  have hse : (Cond.selects r.1 x y).before args s = true := sel_via (by rw [w4, w7, w6]) (hts _ hsel)
  exact va_callVU (g := F0 m pc ls _) X hC.1 hC.2.2.2.2.1 (hts _ hlink) (hts _ hsame) hde hown hse (hts _ hin) (hts _ hmd.1) hB h1 h2 h3 rfl hsz (argsL := As) (rest := rest) (fun sig h => hAs.trans (xAr_of har sig h)) rfl (by show 2 * 0 + _ ≤ 20; omega) (by rw [hC.2.1]; exact hd) hpre
theorem x_callW_R {d' maxL n' : Nat} {x y : MethodName} {bytes : ByteArray} {rt : Option FieldType} {b index ci : Nat} {r : vw_C} {owner : String} {K2 : Option Nat → PH → Option (xO × PH)} (As rest : List Value) (hct : CT G d' y bytes maxL rt (.ref b :: As) P Kc) (hrc : ∀ z, Kc = some z → xco P b = some ci) (hmd : xMd y bytes maxL rt n') (hr : xcl[ci]? = some r) (hlink : Cond.methodLink own index x ∈ lw_all) (hsame : Cond.sameMethod x.cls owner x.name x.desc ∈ lw_all) (hown : xnoMH owner) (hdecl : Cond.declares ⟨owner, x.name, x.desc⟩ ∈ lw_tbl) (hin : Cond.instanceMethod y ∈ lw_all) (hsel : Cond.selects r.1 ⟨owner, x.name, x.desc⟩ y ∈ lw_all) (har : xAr x.desc n' = true) (hd : decode cc pc = .ok (.invokevirtual index, 3)) (hAs : As.length = n') (hst : st = As.reverse ++ .ref b :: rest) (hdd : d' < d) (hrest : (rest.map fun v => v.category).sum ≤ 20) (hn : pc + 3 = n) (hk : ∀ x P1, X G own nm cc nL ret d n lv (va_rf x :: rest) P1 (K2 x P1)) : X G own nm cc nL ret d pc lv st P (xcR Kc K2) :=
  x_callW_G As rest hct hrc hmd hr hlink hsame hown hdecl hin hsel har hd hAs hst hdd hrest hn xcR_some (fun v P1 e => x_rR e hk)
/-- what a call asks through the interface x.cls of a method that the interface J above it declares -/
def xFd (C J : String) (x y : MethodName) (n : Nat) : Prop := Cond.declares ⟨J, x.name, x.desc⟩ ∈ lw_tbl ∧ Cond.publicMethod ⟨J, x.name, x.desc⟩ ∈ lw_tbl ∧ Cond.interfaceMethod x.cls J x.name x.desc ∈ lw_tbl ∧ Cond.publicMethod y ∈ lw_tbl ∧ Cond.unhidden C x.name x.desc ∈ lw_tbl ∧ Cond.castable C x.cls ∈ lw_tbl ∧ Cond.selects C ⟨J, x.name, x.desc⟩ y ∈ lw_all ∧ Cond.instanceMethod y ∈ lw_all ∧ xnoMH x.cls ∧ xnoMH J ∧ x.cls ≠ J ∧ xAr x.desc n = true
theorem tab_tr {u U : State} {c : Cond} {A : Array Value} (hc : c.onTables = true) (h : c.before #[] (u.setVm U.vm) = true) : c.before A U = true := by
  have e := Cond.onTables_vm (A := #[]) (A' := #[]) (U := u) (U' := U) U.vm c hc
  have hU : U.setVm U.vm = U := rfl
  rw [hU] at e
  refine va_any hc (A := #[]) ?_
  rw [← e]
  exact h
theorem iface_setVm {s : State} {vm' : Vm} {args : Array Value} (h : s.vm.Alike vm') (ref owner name desc : String) : (Cond.interfaceMethod ref owner name desc).before args (s.setVm vm') = (Cond.interfaceMethod ref owner name desc).before args s := by
  simp only [Cond.before, Cond.holds, Cond.value, State.vm_setVm, h.findClass, State.methodFound?_setVm h, State.methodNamed?_setVm h, arm_isInterface_setVm h]
theorem x_callJ_G {d' maxL n' : Nat} {y : MethodName} {bytes : ByteArray} {rt : Option FieldType} {b index ci count : Nat} {r : vw_C} {J : String} {x : MethodName} {K : Option (xO × PH)} (As rest : List Value) (hct : CT G d' y bytes maxL rt (.ref b :: As) P Kc) (hrc : ∀ z, Kc = some z → xco P b = some ci) (hmd : xMd y bytes maxL rt n') (hr : xcl[ci]? = some r) (hlink : Cond.methodLink own index x ∈ lw_all) (hf : xFd r.1 J x y n') (hd : decode cc pc = .ok (.invokeinterface index count, 5)) (hAs : As.length = n') (hst : st = As.reverse ++ .ref b :: rest) (hdd : d' < d) (hrest : (rest.map fun v => v.category).sum ≤ 20) (hn : pc + 5 = n) (hK : ∀ r, K = some r → ∃ v P1, Kc = some (.inr v, P1)) (hk : ∀ v P1, Kc = some (.inr v, P1) → X G own nm cc nL ret d n lv (v.toList ++ rest) P1 K) : X G own nm cc nL ret d pc lv st P K := by
  subst hst
  subst hn
  rcases hKz : K with _ | z
  · exact x_no
  rw [← hKz]
  obtain ⟨v0, P0, hKc⟩ := hK z hKz
  have hb := hrc _ hKc
  refine x_calls (len := 5) hct hdd hmd.2.2.1 hmd.1 hmd.2.1 (fun {p e R s m args below meth c} hC {T locs cells slots ls Pre Post} X hr0 hsz hB hpre => ?_) hK hk
  have hts := xok_hts hC
  obtain ⟨cell, h1, h2, h3⟩ := xrecvC hr0 hC.2.2.2.2.2.2.2.2.2.2.2.1 (xok_K hC) hr hb
  obtain ⟨⟨A, hA⟩, -⟩ := hC.2.2.2.2.2.2.2.2.2.2.2.1
  obtain ⟨f1, f2, f3, f4, f5, f6, f7, f8, f9, f10, f11, f12⟩ := hf
  have hal := hC.2.2.2.2.2.2.1.alike
  have w1 : (Cond.declares ⟨J, x.name, x.desc⟩).before args s = true := tab_tr (u := g0 G) rfl (by rw [Cond.declares_setVm hal]; exact va_any rfl (hA _ f1))
  have w2 : (Cond.publicMethod ⟨J, x.name, x.desc⟩).before args s = true := tab_tr (u := g0 G) rfl (by rw [Cond.publicMethod_setVm hal]; exact va_any rfl (hA _ f2))
  have w3 : (Cond.interfaceMethod x.cls J x.name x.desc).before args s = true := tab_tr (u := g0 G) rfl (by rw [iface_setVm hal]; exact va_any rfl (hA _ f3))
  have w4 : (Cond.publicMethod y).before args s = true := tab_tr (u := g0 G) rfl (by rw [Cond.publicMethod_setVm hal]; exact va_any rfl (hA _ f4))
  have w5 : (Cond.unhidden r.1 x.name x.desc).before args s = true := tab_tr (u := g0 G) rfl (by rw [Cond.unhidden_setVm hal]; exact va_any rfl (hA _ f5))
  have w6 : (Cond.castable r.1 x.cls).before args s = true := tab_tr (u := g0 G) rfl (by rw [Cond.castable_setVm hal]; exact va_any rfl (hA _ f6))
  obtain ⟨kB, hkB, -⟩ := Vm.findClass_spec h3
  obtain ⟨cL, kL, r1, q1, q2, q3, q4, q5⟩ := Cond.interfaceMethod_spec w3
  have q6 : s.methodFound? J x.name x.desc = some r1 := State.methodFound?_of_named q5 f10
  have hse : (Cond.selects r.1 x y).before args s = true := sel_via (by rw [q4, q6]) (hts _ f7)
  obtain ⟨v, vm₁, B, z1, z2, z3, z4⟩ := X.interfaceBackUp (g := F0 m pc ls _) hC.1 (J := J) hC.2.2.2.2.1 (hts _ hlink) w1 w2 w3 f11 hse (hts _ f8) w4 w5 w6 f9 hB h3 hkB ⟨cell, h1, rfl, h2⟩ rfl hsz (Steps.refl _) (argsL := As) (rest := rest) (fun sig h => hAs.trans (xAr_of f12 sig h)) rfl (by show 2 * 0 + _ ≤ 20; omega) (by rw [hC.2.1]; exact hd) hpre
  exact ⟨v, vm₁, B, z1, z2, z3, fun target h => z4.trans h⟩
theorem x_callJ_I {d' maxL n' : Nat} {y : MethodName} {bytes : ByteArray} {rt : Option FieldType} {b index ci count : Nat} {r : vw_C} {J : String} {x : MethodName} {K2 : Int32 → PH → Option (xO × PH)} (As rest : List Value) (hct : CT G d' y bytes maxL rt (.ref b :: As) P Kc) (hrc : ∀ z, Kc = some z → xco P b = some ci) (hmd : xMd y bytes maxL rt n') (hr : xcl[ci]? = some r) (hlink : Cond.methodLink own index x ∈ lw_all) (hf : xFd r.1 J x y n') (hd : decode cc pc = .ok (.invokeinterface index count, 5)) (hAs : As.length = n') (hst : st = As.reverse ++ .ref b :: rest) (hdd : d' < d) (hrest : (rest.map fun v => v.category).sum ≤ 20) (hn : pc + 5 = n) (hk : ∀ x P1, X G own nm cc nL ret d n lv (.int x :: rest) P1 (K2 x P1)) : X G own nm cc nL ret d pc lv st P (xcI Kc K2) :=
  x_callJ_G As rest hct hrc hmd hr hlink hf hd hAs hst hdd hrest hn xcI_some (fun v P1 e => x_rI e hk)
theorem x_callJ_R {d' maxL n' : Nat} {y : MethodName} {bytes : ByteArray} {rt : Option FieldType} {b index ci count : Nat} {r : vw_C} {J : String} {x : MethodName} {K2 : Option Nat → PH → Option (xO × PH)} (As rest : List Value) (hct : CT G d' y bytes maxL rt (.ref b :: As) P Kc) (hrc : ∀ z, Kc = some z → xco P b = some ci) (hmd : xMd y bytes maxL rt n') (hr : xcl[ci]? = some r) (hlink : Cond.methodLink own index x ∈ lw_all) (hf : xFd r.1 J x y n') (hd : decode cc pc = .ok (.invokeinterface index count, 5)) (hAs : As.length = n') (hst : st = As.reverse ++ .ref b :: rest) (hdd : d' < d) (hrest : (rest.map fun v => v.category).sum ≤ 20) (hn : pc + 5 = n) (hk : ∀ x P1, X G own nm cc nL ret d n lv (va_rf x :: rest) P1 (K2 x P1)) : X G own nm cc nL ret d pc lv st P (xcR Kc K2) :=
  x_callJ_G As rest hct hrc hmd hr hlink hf hd hAs hst hdd hrest hn xcR_some (fun v P1 e => x_rR e hk)
end

/-! MORE ROWS: callees that throw, handlers -/
set_option maxRecDepth 100000
def lp {α β : Type} (F : (α → Option β) → α → Option β) : Nat → α → Option β
  | 0 => fun _ => none
  | n + 1 => F (lp F n)
def FU : Nat := 10000
theorem lp_ok {α β : Type} {F : (α → Option β) → α → Option β} {W : α → Option β → Prop} (h0 : ∀ a, W a none) (hs : ∀ k, (∀ a, W a (k a)) → ∀ a, W a (F k a)) : ∀ n a, W a (lp F n a) := by
  intro n
  induction n with
  | zero => exact h0
  | succ n ih => exact hs _ ih
theorem lg_slen {n : Nat} (vs : List Value) (h : (vs.map fun v => v.category).sum ≤ n) : (lg_sl vs).length ≤ n := by
  refine Nat.le_trans ?_ h
  induction vs generalizing n with
  | nil => exact Nat.le_refl _
  | cons v vs ih =>
    have h1 := ih (Nat.le_refl _)
    have h2 : (lg_sl (v :: vs)).length = (if v.category = 2 then 2 else 1) + (lg_sl vs).length := by
      unfold lg_sl
      rw [List.flatMap_cons, List.length_append]
      split <;> rfl
    have h3 : 1 ≤ v.category := by cases v <;> exact Nat.le_of_ble_eq_true rfl
    rw [h2, List.map_cons, List.sum_cons]
    split <;> omega

def xtI {σ β : Type} (r : Option (xO × σ)) (K2 : Int32 → σ → Option (xO × β)) (T : Nat → σ → Option (xO × β)) : Option (xO × β) := match r with
  | some (.inl q, s) => T q s
  | some (.inr (some (.int x)), s) => K2 x s
  | _ => none
def xtR {σ β : Type} (r : Option (xO × σ)) (K2 : Option Nat → σ → Option (xO × β)) (T : Nat → σ → Option (xO × β)) : Option (xO × β) := match r with
  | some (.inl q, s) => T q s
  | some (.inr (some (.ref x)), s) => K2 (some x) s
  | some (.inr (some .null), s) => K2 none s
  | _ => none
def xtV {σ β : Type} (r : Option (xO × σ)) (K2 : σ → Option (xO × β)) (T : Nat → σ → Option (xO × β)) : Option (xO × β) := match r with
  | some (.inl q, s) => T q s
  | some (.inr none, s) => K2 s
  | _ => none
section M3
variable {G : xG} {own nm : String} {cc : ByteArray} {nL d pc n : Nat} {ret : Option FieldType} {lv : List (Nat × Value)} {st : List Value} {P : PH} {K K1 K2 Kc : Option (xO × PH)}
theorem x_getsI {j index : Nat} {C fn ds : String} {v : Int32} (hj : xstat[j]? = some (C, fn, ds, .inl v)) (hlink : Cond.fieldLink own index C fn ds ∈ lw_all ∨ ∃ host, Cond.fieldLinkNest own index C fn ds host ∈ lw_tbl) (hd : decode cc pc = .ok (.getstatic index, 3)) (hn : pc + 3 = n) (kk : X G own nm cc nL ret d n lv (.int v :: st) P K) : X G own nm cc nL ret d pc lv st P K :=
  x_gets hj hlink hd hn kk
/-- caught here, by the one handler -/
theorem x_caught {q ci a1 b1 h1 ct : Nat} {r : vw_C} {name : String} (htb : xtb own nm = [(a1, b1, h1, ct)]) (hin : a1 ≤ pc ∧ pc < b1) (h0 : ct ≠ 0) (hr0 : xcl[ci]? = some r) (hlink : Cond.classLink own ct name ∈ lw_all) (hcast : xCan r.1 name) (k : X G own nm cc nL ret d h1 lv [.ref q] P K) : XTh G own nm cc nL ret d pc lv q P (xcl1 P q ci K) := by
  intro o P' h
  have hq := xcl1_some h
  have hK : K = some (o, P') := by
    unfold xcl1 at h
    rw [if_pos hq] at h
    exact h
  obtain ⟨g1, g2⟩ := k o P' hK
  refine ⟨g1, fun hl p e R s m args below meth c hC H locs cells slots ls st hr hS hv T hT X => ?_⟩
  have hts := xok_hts hC
  have hown := hC.2.2.2.2.1
  obtain ⟨ce, c1, c2, c3⟩ := xrecvC hr hC.2.2.2.2.2.2.2.2.2.2.2.1 (xok_K hC) hr0 hq
  have hpl : e.platform.magicAccessors = ({} : Platform).magicAccessors := by rw [X.admits.platform]
  obtain ⟨c6, hc6, hcl6⟩ := Cond.classLink_spec hown (hts _ hlink) e.platform hpl
  have hasg := xcan_asg hC.2.2.2.2.2.2.2.2.2.2.2.1 hC.2.2.2.2.2.2.1 hcast c3 hc6
  have htab := hC.2.2.2.2.2.2.2.2.2.2.2.2.2
  rw [htb] at htab
  obtain ⟨x, hx1, hx2⟩ := List.map_eq_singleton_iff.mp htab
  have e1 := congrArg Prod.fst hx2
  have e2 := congrArg (fun z => z.2.1) hx2
  have e3 := congrArg (fun z => z.2.2.1) hx2
  have e4 := congrArg (fun z => z.2.2.2) hx2
  dsimp only at e1 e2 e3 e4
  obtain ⟨vm', X', st'⟩ := X.thenCaughtThrough q (g := F0 m pc ls st) rfl (Steps.refl _) (by rw [hT]; exact c1) c2 (by obtain ⟨k9, h9, -⟩ := Vm.findClass_spec c3; exact ⟨k9, h9⟩) [] x [] (by rw [hx1]; rfl)
    (fun z hz => nomatch hz) (by show (decide (x.startPc ≤ pc) && decide (pc < x.endPc)) = true; rw [e1, e2]; simp [hin.1, hin.2]) (Or.inr ⟨by rw [e4]; exact h0, _, by rw [e4]; exact hcl6, hasg⟩)
  obtain ⟨t, a2, b2⟩ := g2 hl p e R s m args below meth c hC H locs cells slots ls hr hS hv (T.setVm vm') hT X'
  refine ⟨t, st'.trans ?_, b2⟩
  have e5 : (x.handlerPc) = h1 := e3
  subst e5
  exact a2

theorem x_callVT_I {d' maxL n' : Nat} {y : MethodName} {bytes : ByteArray} {rt : Option FieldType} {b index ci : Nat} {r : vw_C} {K2 : Int32 → PH → Option (xO × PH)} {TT : Nat → PH → Option (xO × PH)} (As rest : List Value) (hct : CT G d' y bytes maxL rt (.ref b :: As) P Kc) (hrc : ∀ z, Kc = some z → xco P b = some ci) (hmd : xMd y bytes maxL rt n') (hr : xcl[ci]? = some r) (hlink : Cond.methodLink own index y ∈ lw_all) (hin : Cond.instanceMethod y ∈ lw_all) (hsel : Cond.selects r.1 y y ∈ lw_all) (hd : decode cc pc = .ok (.invokevirtual index, 3)) (hAs : As.length = n') (hst : st = As.reverse ++ .ref b :: rest) (hdd : d' < d) (hrest : (rest.map fun v => v.category).sum ≤ 20) (hn : pc + 3 = n) (hk : ∀ x P1, X G own nm cc nL ret d n lv (.int x :: rest) P1 (K2 x P1)) (hx : ∀ q P1, XTh G own nm cc nL ret d pc lv q P1 (TT q P1)) : X G own nm cc nL ret d pc lv st P (xtI Kc K2 TT) := by
  refine x_callVT_G As rest hct hrc hmd hr hlink hin hsel hd hAs hst hdd hrest hn (fun r h => ?_) (fun v P1 e => ?_) (fun q P1 e => ?_)
  · rcases Kc with _ | z
    · cases h
    · exact ⟨z, rfl⟩
  · subst e
    show X _ _ _ _ _ _ _ _ _ _ _ _
    rcases v with _ | v
    · exact x_no
    · cases v <;> first | exact x_no | exact hk _ _
  · subst e
    exact hx q P1

theorem x_callVT_R {d' maxL n' : Nat} {y : MethodName} {bytes : ByteArray} {rt : Option FieldType} {b index ci : Nat} {r : vw_C} {K2 : Option Nat → PH → Option (xO × PH)} {TT : Nat → PH → Option (xO × PH)} (As rest : List Value) (hct : CT G d' y bytes maxL rt (.ref b :: As) P Kc) (hrc : ∀ z, Kc = some z → xco P b = some ci) (hmd : xMd y bytes maxL rt n') (hr : xcl[ci]? = some r) (hlink : Cond.methodLink own index y ∈ lw_all) (hin : Cond.instanceMethod y ∈ lw_all) (hsel : Cond.selects r.1 y y ∈ lw_all) (hd : decode cc pc = .ok (.invokevirtual index, 3)) (hAs : As.length = n') (hst : st = As.reverse ++ .ref b :: rest) (hdd : d' < d) (hrest : (rest.map fun v => v.category).sum ≤ 20) (hn : pc + 3 = n) (hk : ∀ x P1, X G own nm cc nL ret d n lv (va_rf x :: rest) P1 (K2 x P1)) (hx : ∀ q P1, XTh G own nm cc nL ret d pc lv q P1 (TT q P1)) : X G own nm cc nL ret d pc lv st P (xtR Kc K2 TT) := by
  refine x_callVT_G As rest hct hrc hmd hr hlink hin hsel hd hAs hst hdd hrest hn (fun r h => ?_) (fun v P1 e => ?_) (fun q P1 e => ?_)
  · rcases Kc with _ | z
    · cases h
    · exact ⟨z, rfl⟩
  · subst e
    show X _ _ _ _ _ _ _ _ _ _ _ _
    rcases v with _ | v
    · exact x_no
    · cases v <;> first | exact x_no | exact hk (some _) _ | exact hk none _
  · subst e
    exact hx q P1

theorem x_callVT_V {d' maxL n' : Nat} {y : MethodName} {bytes : ByteArray} {rt : Option FieldType} {b index ci : Nat} {r : vw_C} {K2 : PH → Option (xO × PH)} {TT : Nat → PH → Option (xO × PH)} (As rest : List Value) (hct : CT G d' y bytes maxL rt (.ref b :: As) P Kc) (hrc : ∀ z, Kc = some z → xco P b = some ci) (hmd : xMd y bytes maxL rt n') (hr : xcl[ci]? = some r) (hlink : Cond.methodLink own index y ∈ lw_all) (hin : Cond.instanceMethod y ∈ lw_all) (hsel : Cond.selects r.1 y y ∈ lw_all) (hd : decode cc pc = .ok (.invokevirtual index, 3)) (hAs : As.length = n') (hst : st = As.reverse ++ .ref b :: rest) (hdd : d' < d) (hrest : (rest.map fun v => v.category).sum ≤ 20) (hn : pc + 3 = n) (hk : ∀ P1, X G own nm cc nL ret d n lv rest P1 (K2 P1)) (hx : ∀ q P1, XTh G own nm cc nL ret d pc lv q P1 (TT q P1)) : X G own nm cc nL ret d pc lv st P (xtV Kc K2 TT) := by
  refine x_callVT_G As rest hct hrc hmd hr hlink hin hsel hd hAs hst hdd hrest hn (fun r h => ?_) (fun v P1 e => ?_) (fun q P1 e => ?_)
  · rcases Kc with _ | z
    · cases h
    · exact ⟨z, rfl⟩
  · subst e
    show X _ _ _ _ _ _ _ _ _ _ _ _
    rcases v with _ | v
    · exact hk _
    · exact x_no
  · subst e
    exact hx q P1

end M3

/-! new NoSuchElementException() -/
def xnse {α : Type} (P : PH) (K : Nat → PH → Option α) : Option α := K P.2.1 (xpush P (.inr (21, [])) 6)
section NSE
variable {G : xG} {own nm : String} {cc : ByteArray} {nL d pc n : Nat} {ret : Option FieldType} {lv : List (Nat × Value)} {st : List Value} {P : PH}
theorem x_nse {cc : ByteArray} {K2 : Nat → PH → Option (xO × PH)} (hcl : Cond.classLink "ForestLegs" 391 "java/util/NoSuchElementException" ∈ lw_all) (hini : Cond.initialized "java/util/NoSuchElementException" ∈ lw_all) (d0 : decode cc pc = .ok (.new 391, 3)) (d3 : decode cc (pc + 3) = .ok (.dup, 1)) (d4 : decode cc (pc + 4) = .ok (.invokespecial 393, 3)) (hd6 : 6 ≤ d) (hst : (st.map fun v => v.category).sum ≤ 20) (hn : pc + 7 = n) (kk : ∀ a P1, X G "ForestLegs" nm cc nL ret d n lv (.ref a :: st) P1 (K2 a P1)) : X G "ForestLegs" nm cc nL ret d pc lv st P (xnse P K2) := by
  subst hn
  refine x_heap (P1 := xpush P (.inr (21, [])) 6) ⟨Nat.le_succ _, Nat.le_add_right _ _⟩ (fun {p e R s m args below meth c} hC {H locs cells slots Q ls} hr hS hl hlim g => ?_) (kk P.2.1 (xpush P (.inr (21, [])) 6))
  have hts := xok_hts hC
  have hK := xok_K hC
  have hexec := hC.1
  have hb := hC.2.1
  have hown := hC.2.2.2.2.1
  have q1 := hC.2.2.2.2.2.2.2.1
  have q2 := hC.2.2.2.2.2.2.2.2.1
  have hO := hC.2.2.2.2.2.2.2.2.2.2.2.1
  have hWs := hC.2.2.2.2.2.2.1
  obtain ⟨hfc, -⟩ := hK.1 21 _ rfl
  refine xtight2 fun hle => ?_
  obtain ⟨r1, r2⟩ := xroom hC hr hS hlim hle
  have hsize : ls.size = c.maxLocals := hl.1.trans hC.2.2.2.1.symm
  intro T hT X
  subst hT
  have htr : e.platform.stackTraces = false := (show e.platform.stackTraces = (gl G).stackTraces by rw [X.admits.platform]).trans hO.2.2.2.2.2.2.2.1
  have Y := vx_rebase X (R' := { frames := R.frames, locals := R.locals, cells := 1, slots := 6 }) (Nat.le_refl _) (Nat.le_refl _) r1 r2
  obtain ⟨s', hA'⟩ : ∃ z, z = (T.setVm s.vm).setFrames (.invoking m args :: below) := ⟨_, rfl⟩
  rw [← hA'] at Y
  have hvm : s'.vm = s.vm := by rw [hA']; rfl
  have hhp : s'.heap = T.heap := by rw [hA']; rfl
  have hW0 : s.WarmedH s'.vm := by rw [hvm]; exact State.WarmedH.refl s
  have hW9 : (g0 G).WarmedH s'.vm := by rw [hvm]; exact hWs
  have hat' : ∀ w ∈ nse_at, w.before args s' = true := fun w hw => by
    obtain ⟨⟨A, hA⟩, -⟩ := hO
    exact nse_mv hW9 hw (hA w (nse_in w hw))
  have hk' : (Cond.classLink "ForestLegs" 391 "java/util/NoSuchElementException").before args s' = true := word_at hW0 (lw_self _ hcl).2 (hts _ hcl)
  have hini' : (Cond.initialized "java/util/NoSuchElementException").before args s' = true := word_at hW0 (lw_self _ hini).2 (hts _ hini)
  have hkeep : ∀ a : Nat, a < (g0 G).heap.size → ¬ (fun q => gZ G ≤ q) a → T.heap[a]? = (g0 G).heap[a]? := fun a _ h => hr.2.2.1 a (Nat.lt_of_not_le h)
  have hU' : vx_Zq Bundle.tN "UNASSIGNED_STACK" Bundle.steD (fun q => gZ G ≤ q) s' s'.heap := by rw [hhp]; exact vx_Zq.moved hW9.alike (hO.2.2.2.2.2.1.kept hkeep)
  have hN' : vx_Zq Bundle.tN "SUPPRESSED_SENTINEL" Bundle.listD (fun q => gZ G ≤ q) s' s'.heap := by rw [hhp]; exact vx_Zq.moved hW9.alike (hO.2.2.2.2.2.2.1.kept hkeep)
  have h : ∀ w ∈ Bundle.ownAtoms0 "ForestLegs" 393 "java/util/NoSuchElementException" ["java/lang/RuntimeException", "java/lang/Exception"], w.before args s' = true := vx_own hat' (vx_isRefq hU'.1) (vx_isRefq hN'.1) hU'.2.word hN'.2.word
  have hown' : s'.vm.findClass "ForestLegs" = some m.cls := by rw [hvm]; exact hown
  have hins : (Cond.instantiable "java/util/NoSuchElementException" 6).before args s' = true := h _ (by simp [Bundle.ownAtoms0])
  obtain ⟨vm₁, cX, kX, hfX, hkX, -, hsz, X₁, st1⟩ := Y.newCold hexec (own := "ForestLegs") (C := "java/util/NoSuchElementException") (index := 391) (n := 6) hown' hk' hins hini'
    (g := F0 m pc ls st) rfl (by rw [hb]; exact d0) (Nat.le_refl _) (Nat.le_refl _)
  generalize hT1 : (T.setVm vm₁).pushCell { cls := cX, slots := kX.instanceTypes.map defaultValue, vm := .none } = T1 at X₁ st1
  have hcat : (Value.ref T.heap.size).category = 1 := rfl
  have hcellA : T1.heap[T.heap.size]? = some (freshCell cX kX) := by rw [← hT1]; exact State.heap_pushCell_size _ _
  have d3' : decode c.code (pc + 3) = .ok (.dup, 1) := by rw [hb]; exact d3
  obtain ⟨V, ce, L, Z, hL, hlt, hcl9, hvm9, hsl9, stp⟩ := nse_made X₁ hexec htr (own := "ForestLegs") (cls := "java/util/NoSuchElementException") (names := ["java/lang/RuntimeException", "java/lang/Exception"]) (ic := 393) hown' (by decide +kernel) (by decide +kernel) h (fun x hx => nomatch hx) hfX hkX hcellA (by rw [hhp]; exact Nat.le_refl _)
    (g := { method := m, pc := pc + 4, locals := ls, stack := .ref T.heap.size :: .ref T.heap.size :: st, locked := none }) rfl hsize (rest := st) rfl
    (by rw [hb]; exact d4) (by show 2 + 3 < R.frames; omega) (by simp only [List.map_cons, List.sum_cons, hcat]; show 2 * 0 + _ + (13 * (2 + 1) + 41) ≤ R.locals; omega)
  have Z0 := Stand.forget (locs := []) Z (fun y hy => by rw [hL y hy, hhp]; exact Nat.le_refl _)
  obtain ⟨f1, f2⟩ := vx_frame Z0.same
  rw [hhp] at f1 f2
  have hcid : ce.cls = (gD G).1 21 := by
    rw [hcl9]
    rw [hvm] at hfX
    exact Option.some.inj (hfX.symm.trans hfc)
  have hh : (V.setCell T.heap.size ce).heap[T.heap.size]? = some ce := heapAt_setCell_self (s := V) ce hlt
  have hsz9 : ce.slots.size = 6 := hsl9.trans hsz
  have hzz : (V.setCell T.heap.size ce).heap.size = T.heap.size + 1 := by
    have h2 : (V.setCell T.heap.size ce).heap.size ≤ s'.heap.size + 1 := Z0.same.2.2.1
    rw [hhp] at h2
    have h3 := (Array.getElem?_eq_some_iff.mp hh).1
    omega
  have eH : (V.setCell T.heap.size ce).heap = T.heap.push ce := push_eq hzz hh (fun q hq => f2 q hq (fun z hz => nomatch hz))
  subst hA'
  have X5 := vx_back9 X Y Z0
  obtain ⟨t, a1, b1⟩ := g _ locs _ _ ls (xr_push (c := .inr (21, [])) (n := 6) hr hsz9 ⟨_, rfl, rfl, by rw [hr.1.1]; exact ⟨ce, by simp, hcid, hvm9, fun k hk => absurd hk (Nat.not_lt_zero k)⟩⟩) hS.push hl _ eH { X5 with same := X5.same.mono (Nat.le_refl _) (Nat.le_refl _) }
  refine ⟨t, st1 _ ?_, b1⟩
  show Steps p.tables e below (T1.setTop { method := m, pc := pc + 3, locals := ls, stack := .ref T.heap.size :: st, locked := none }) _
  jvm_step X₁.here [X₁.here.top, hexec, d3', Value.category]
  rw [hr.1.1] at a1
  exact stp _ a1
end NSE

/-! methods with a table of their own -/
def CTW (G : xG) (d : Nat) (y : MethodName) (bytes : ByteArray) (maxL : Nat) (ret : Option FieldType) (hh : List (Nat × Nat × Nat × Nat)) (As : List Value) (P : PH) (K : Option (xO × PH)) : Prop :=
  ∀ (o : xO) (P' : PH), K = some (o, P') → xLe P P' ∧ (xLim G P' → MetFree (gl G) y (headSpec [Cond.codeWith y bytes maxL ret hh] (xRm G d P)) (xPc G As P) (fun _ _ _ _ _ => True) (xEnd G P o P'))
theorem CTW_of {G : xG} {d : Nat} {y : MethodName} {bytes : ByteArray} {maxL : Nat} {ret : Option FieldType} {hh : List (Nat × Nat × Nat × Nat)} {As : List Value} {P : PH} {K : Option (xO × PH)} (hO : xOK G) (hy : plainFor y = true) (htb : xtb y.cls y.name = hh) (hsl : (lg_sl As).length ≤ maxL)
    (k : X G y.cls y.name bytes maxL ret d 0 (lv_args 0 As) [] P K) : CTW G d y bytes maxL ret hh As P K := by
  intro o P' hK
  refine ⟨(k o P' hK).1, fun hl => ?_⟩
  refine MetFree.of_bodySF (code := bytes) (maxLocals := maxL) (ret := ret) hy ?_ ?_
  · intro args s m h hn
    obtain ⟨m9, meth, c, hn9, h1, h2, h3, h4, -, h5, h6, -⟩ := Cond.codeWith_spec (atoms_spec (ws := [Cond.codeWith y bytes maxL ret hh]) h _ List.mem_cons_self)
    cases hn.symm.trans hn9
    exact ⟨meth, c, h1, h2, h3, h4, h5, h6⟩
  · intro p e s m args below meth c s₁ B hml hP _
    obtain ⟨rfl, hW, hr⟩ := hP
    have hC : xok G (p, e, (headSpec [Cond.codeWith y bytes maxL ret hh] (xRm G d P)).room, s, m, As.toArray, below, meth, c) y.cls y.name bytes maxL ret d := by
      refine ⟨B.exec, B.bytes, B.returns, hml, findClass_of_methodNamed B.named, B.notSynchronized, hW, Nat.le_refl _, Nat.le_refl _, ?_, ?_, hO, (name_of_methodNamed B.named B.method).1, ?_⟩
      · show gC G ≤ s.heap.size + (gC G - P.2.1)
        rw [hr.1.1]; omega
      · show gS G ≤ xsl s.heap + (gS G - P.2.2.1)
        rw [hr.1.2.1]; omega
      · obtain ⟨m9, meth9, c9, hn9, h1, h2, -, -, h6, -⟩ := Cond.codeWith_spec (atoms_spec (ws := [Cond.codeWith y bytes maxL ret hh]) B.pre _ List.mem_cons_self)
        cases Option.some.inj (hn9.symm.trans B.named)
        cases Option.some.inj (h1.symm.trans B.method)
        cases Option.some.inj (h2.symm.trans (Stand.of_body B).code)
        rw [htb, ← h6]
    have hh0 : s₁.heap = s.heap := by rw [B.state]; rfl
    have hx := (k o P' hK).2 hl _ _ _ _ _ _ _ _ _ hC s.heap [] 0 0 _ hr ⟨Nat.le_refl _, fun l h => by cases h⟩ (lv_entry As hsl)
    rw [← lg_entry_eq] at hx
    obtain ⟨t, a1, oc, b1, b2, b3, b4, b5, L, b6, b7⟩ := hx s₁ hh0 (Stand.of_body B)
    refine ⟨t, oc, a1, b1, b2, b3, b4, b5, L, ?_, b7⟩
    rw [hr.1.1, hr.1.2.1]
    exact b6
section CALLSW
variable {G : xG} {own nm : String} {cc : ByteArray} {nL d pc n : Nat} {ret : Option FieldType} {lv : List (Nat × Value)} {st : List Value} {P : PH} {Kc : Option (xO × PH)}
theorem x_callsW {len d' maxL : Nat} {y : MethodName} {bytes : ByteArray} {rt : Option FieldType} {hh : List (Nat × Nat × Nat × Nat)} {As' rest : List Value} {K : Option (xO × PH)} (hct : CTW G d' y bytes maxL rt hh As' P Kc) (hd' : d' < d) (hml : maxL ≤ 59) (hcode : Cond.codeWith y bytes maxL rt hh ∈ lw_all) (hini : Cond.initialized y.cls ∈ lw_all)
    (row : ∀ {p : Program} {e : Env} {R : Room} {s : State} {m : MethodId} {args : Array Value} {below : List Frame} {meth : Method} {c : Code}, xok G (p, e, R, s, m, args, below, meth, c) own nm cc nL ret d → ∀ {T : State} {locs : List Loc} {cells slots : Nat} {ls : Array Slot} {Pre : Pt → Array Value → Prop} {Post : Pt → Array Value → Option Value → Pt → Prop}, Stand p (gl G) e R s m args below meth c T locs cells slots → xr G P T.heap → ls.size = c.maxLocals → Back (gl G) R p e below s args y len 20 Pre Post →
      (∀ vm₁, s.WarmedH vm₁ → Pre ⟨T.setVm vm₁, locs, cells, slots⟩ As'.toArray) →
      ∃ (v : Option Value) (vm₁ : Vm) (B : Pt), s.WarmedH vm₁ ∧ Stand p (gl G) e R s m args below meth c B.U B.locs B.cells B.slots ∧ Post ⟨T.setVm vm₁, locs, cells, slots⟩ As'.toArray v B ∧
        ∀ target, Steps p.tables e below (B.U.setTop (F0 m (pc + len) ls (v.toList ++ rest))) target → Steps p.tables e below (T.setTop (F0 m pc ls st)) target)
    (hK : ∀ r, K = some r → ∃ v P1, Kc = some (.inr v, P1)) (hk : ∀ v P1, Kc = some (.inr v, P1) → X G own nm cc nL ret d (pc + len) lv (v.toList ++ rest) P1 K) : X G own nm cc nL ret d pc lv st P K := by
  intro o P' h
  obtain ⟨v, P1, hKc⟩ := hK _ h
  obtain ⟨g1, g2⟩ := hk v P1 hKc o P' h
  obtain ⟨c1, c2⟩ := hct (.inr v) P1 hKc
  refine ⟨⟨Nat.le_trans c1.1 g1.1, Nat.le_trans c1.2 g1.2⟩, fun hl p e R s m args below meth c hC H locs cells slots ls hr hS hv => ?_⟩
  have hl1 : xLim G P1 := ⟨Nat.le_trans g1.1 hl.1, Nat.le_trans g1.2 hl.2⟩
  have hM : Met (gl G) y [Cond.codeWith y bytes maxL rt hh] (xRm G d' P) (xPc G As' P) (fun _ st oc t => xoc (.inr v) oc ∧ xr G P1 t.heap) (gC G - P.2.1) (gS G - P.2.2.1) (fun q => gZ G ≤ q) := by
    refine fun p e h1 h2 h3 s m args below h4 h5 h6 h7 => ?_
    obtain ⟨n, oc, a1, a2, a3, a4, a5, a6, L, a7, a8⟩ := c2 hl1 p e h1 h2 h3 s m args below h4 h5 h6 h7
    exact ⟨n, oc, a1, a2, a3, ⟨a4, a5⟩, L, ⟨⟨v, a4⟩, a6, a7⟩, a8⟩
  have q1 := hC.2.2.2.2.2.2.2.1
  have q2 := hC.2.2.2.2.2.2.2.2.1
  have hts := xok_hts hC
  have hB : Back (gl G) R p e below s args y len 20 (PreOf R (gC G - P.2.1) (gS G - P.2.2.1) (xPc G As' P)) (PostOf (fun _ st oc t => xoc (.inr v) oc ∧ xr G P1 t.heap) (gC G - P.2.1) (gS G - P.2.2.1) (fun q => gZ G ≤ q)) := by
    refine va_backW (hh := hh) (bytes := bytes) (maxL := maxL) (ret := rt) hM (fun a U g mk h => h) rfl rfl (by show d' + 1 ≤ R.frames; omega) (by show 20 + (maxL + 11) + 90 * d' ≤ R.locals; omega) ?_ List.mem_cons_self ?_
    · intro w hw a' U hW
      rw [List.mem_singleton.mp hw]
      exact word_at hW (lw_self _ hcode).2 (hts _ hcode)
    · exact fun a' U hW => word_at hW (lw_self _ hini).2 (hts _ hini)
  refine xtight2 fun hle => ?_
  intro T hT X
  have h1 := hr.1.1
  have h2 := hr.1.2.1
  have h3 := hC.2.2.2.2.2.2.2.2.2.1
  have h4 := hC.2.2.2.2.2.2.2.2.2.2.1
  have h5 := hS.1
  have h6 := c1.1
  have h7 := c1.2
  have h8 := hl1.1
  have h9 := hl1.2
  obtain ⟨v', vm₁, B, w1, X', ⟨g', mk, t, L, e1, e2, ⟨e3, e4⟩, e5, e6, e7, e8⟩, st'⟩ := row hC X (by rw [hT]; exact hr) (hv.1.trans hC.2.2.2.1.symm) hB (fun vm₁ hW₁ => ⟨by show (H.size - s.heap.size) + (gC G - P.2.1) ≤ R.cells; omega, by show (xsl H - xsl s.heap) + (gS G - P.2.2.1) ≤ R.slots; omega, rfl, State.WarmedH.trans hC.2.2.2.2.2.2.1 hW₁, by show xr G P T.heap; rw [hT]; exact hr⟩)
  have hv' : v' = v := Outcome.returned.inj e3
  subst hv'
  obtain ⟨t', a, b⟩ := g2 hl p e R s m args below meth c hC t.heap B.locs B.cells B.slots ls e4 ⟨by rw [← e1]; exact X'.same.2.1, fun l hl => by
    rw [e5] at hl
    rcases List.mem_append.mp hl with hl | hl
    · exact hS.2 l hl
    · exact e6 l hl⟩ hv B.U e1 X'
  exact ⟨t', st' t' a, b⟩
def xMdW (y : MethodName) (bytes : ByteArray) (maxL : Nat) (rt : Option FieldType) (hh : List (Nat × Nat × Nat × Nat)) (n : Nat) : Prop := Cond.codeWith y bytes maxL rt hh ∈ lw_all ∧ Cond.initialized y.cls ∈ lw_all ∧ maxL ≤ 59 ∧ xAr y.desc n = true ∧ xnoMH y.cls
theorem x_callVW_I {d' maxL n' : Nat} {y : MethodName} {bytes : ByteArray} {rt : Option FieldType} {hh : List (Nat × Nat × Nat × Nat)} {b index ci : Nat} {r : vw_C} {K2 : Int32 → PH → Option (xO × PH)} (As rest : List Value) (hct : CTW G d' y bytes maxL rt hh (.ref b :: As) P Kc) (hrc : ∀ z, Kc = some z → xco P b = some ci) (hmd : xMdW y bytes maxL rt hh n') (hr : xcl[ci]? = some r) (hlink : Cond.methodLink own index y ∈ lw_all) (hin : Cond.instanceMethod y ∈ lw_all) (hsel : Cond.selects r.1 y y ∈ lw_all) (hd : decode cc pc = .ok (.invokevirtual index, 3)) (hAs : As.length = n') (hst : st = As.reverse ++ .ref b :: rest) (hdd : d' < d) (hrest : (rest.map fun v => v.category).sum ≤ 20) (hn : pc + 3 = n) (hk : ∀ x P1, X G own nm cc nL ret d n lv (.int x :: rest) P1 (K2 x P1)) : X G own nm cc nL ret d pc lv st P (xcI Kc K2) := by
  subst hst
  subst hn
  rcases hKz : xcI Kc K2 with _ | z
  · exact x_no
  rw [← hKz]
  obtain ⟨v0, P0, hKc⟩ := xcI_some z hKz
  have hb := hrc _ hKc
  refine x_callsW (len := 3) (rest := rest) hct hdd hmd.2.2.1 hmd.1 hmd.2.1 (fun {p e R s m args below meth c} hC {T locs cells slots ls Pre Post} X hr0 hsz hB hpre => ?_) xcI_some (fun v P1 e => x_rI e hk)
  have hts := xok_hts hC
  obtain ⟨cell, h1, h2, h3⟩ := xrecvC hr0 hC.2.2.2.2.2.2.2.2.2.2.2.1 (xok_K hC) hr hb
  obtain ⟨mk, methM, hnamed, hmethM, hstM, habM⟩ := Cond.instanceMethod_spec (hts _ hin)
  obtain ⟨m8, methM', cM, hn8, hmethM', -, -, -, -, -, -, hsigM⟩ := Cond.codeWith_spec (hts _ hmd.1)
  cases Option.some.inj (hn8.symm.trans hnamed)
  cases hmethM.symm.trans hmethM'
  obtain ⟨c2, r2, m2, q1, q2, q3, q4, kP, hkP, hkPi⟩ := Cond.selects_spec (hts _ hsel)
  cases h3.symm.trans q1
  cases (State.methodFound?_of_named hnamed hmd.2.2.2.2).symm.trans q2
  cases hnamed.symm.trans q3
  have hselP : selectMethod e.platform s.vm cell.cls mk = .method mk := by rw [Launch.admits_selectMethod X.admits]; exact q4
  obtain ⟨vm₁, X₁, hstep₁⟩ := X.invokevirtual hC.1 hC.2.2.2.2.1 (hts _ hlink) hnamed hmethM hstM hkP hkPi hmd.2.2.2.2 (a := b) (cell := cell) h1
    (fun z h => by rw [h] at h2; cases h2) hselP hmethM habM hkP hkPi (g := F0 m pc ls (As.reverse ++ .ref b :: rest)) rfl (argsL := As) (rest := rest) ((fun sig h => hAs.trans (xAr_of hmd.2.2.2.1 sig h)) _ hsigM) rfl (by rw [hC.2.1]; exact hd)
  obtain ⟨v, B, X', hpost, hsteps⟩ := hB m meth c ⟨T.setVm vm₁, locs, cells, slots⟩ { (F0 m pc ls (As.reverse ++ .ref b :: rest)) with stack := rest } (.invokevirtual index) mk (Value.ref b :: As).toArray X₁ rfl hsz (by rw [hC.2.1]; exact hd) (by show 2 * 0 + (rest.map fun v => v.category).sum ≤ 20; omega) (X₁.named hnamed) (hpre vm₁ X₁.warmed)
  exact ⟨v, vm₁, B, X₁.warmed, X', hpost, fun target h => hstep₁ _ fun acts => by rw [doInvoke_state]; exact hsteps.trans h⟩
theorem x_callSW_I {d' maxL n' : Nat} {y : MethodName} {bytes : ByteArray} {rt : Option FieldType} {hh : List (Nat × Nat × Nat × Nat)} {index : Nat} {K2 : Int32 → PH → Option (xO × PH)} (As rest : List Value) (hct : CTW G d' y bytes maxL rt hh As P Kc) (hmd : xMdW y bytes maxL rt hh n') (hlink : Cond.methodLink own index y ∈ lw_all) (hin : Cond.static y ∈ lw_all) (hd : decode cc pc = .ok (.invokestatic index, 3)) (hAs : As.length = n') (hst : st = As.reverse ++ rest) (hdd : d' < d) (hrest : (rest.map fun v => v.category).sum ≤ 20) (hn : pc + 3 = n) (hk : ∀ x P1, X G own nm cc nL ret d n lv (.int x :: rest) P1 (K2 x P1)) : X G own nm cc nL ret d pc lv st P (xcI Kc K2) := by
  subst hst
  subst hn
  refine x_callsW (len := 3) (rest := rest) hct hdd hmd.2.2.1 hmd.1 hmd.2.1 (fun {p e R s m args below meth c} hC {T locs cells slots ls Pre Post} X hr0 hsz hB hpre => ?_) xcI_some (fun v P1 e => x_rI e hk)
  have hts := xok_hts hC
  obtain ⟨mk, methM, cM, hnamed, hmethM, -, -, -, -, -, -, hsigM⟩ := Cond.codeWith_spec (hts _ hmd.1)
  have hstatic : methM.isStatic = true := Cond.static_spec hnamed hmethM (hts _ hin)
  obtain ⟨kP, hkP, -⟩ := className_of_methodNamed hnamed
  have hinitP : kP.init = .initialized := Cond.initialized_spec (findClass_of_methodNamed hnamed) hkP (hts _ hmd.2.1)
  obtain ⟨vm₁, X₁, hstep₁⟩ := X.invokestatic hC.1 hC.2.2.2.2.1 (hts _ hlink) hnamed hmethM hstatic hkP hinitP hmd.2.2.2.2 (g := F0 m pc ls (As.reverse ++ rest)) rfl (argsL := As) (rest := rest) ((fun sig h => hAs.trans (xAr_of hmd.2.2.2.1 sig h)) _ hsigM) rfl (by rw [hC.2.1]; exact hd)
  obtain ⟨v, B, X', hpost, hsteps⟩ := hB m meth c ⟨T.setVm vm₁, locs, cells, slots⟩ { (F0 m pc ls (As.reverse ++ rest)) with stack := rest } (.invokestatic index) mk As.toArray X₁ rfl hsz (by rw [hC.2.1]; exact hd) (by show 2 * 0 + (rest.map fun v => v.category).sum ≤ 20; omega) (X₁.named hnamed) (hpre vm₁ X₁.warmed)
  exact ⟨v, vm₁, B, X₁.warmed, X', hpost, fun target h => hstep₁ _ fun acts => by rw [doInvoke_state]; exact hsteps.trans h⟩
end CALLSW

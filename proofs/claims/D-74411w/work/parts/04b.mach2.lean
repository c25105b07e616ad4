/-! MORE ROWS: dispatch by class, natives, casts' facts, super calls -/
set_option maxRecDepth 100000
theorem xfit_o {C : String} (x : Option Nat) : xfit (.object C) (va_rf x) := by cases x <;> exact ⟨rfl, rfl⟩
theorem xfit_a {t : FieldType} (x : Option Nat) : xfit (.array t) (va_rf x) := by cases x <;> exact ⟨rfl, rfl⟩
theorem xnar_b (v : Int32) : narrow .byte (.int v) = .int (vp_nar .byte v) := by simp [narrow, vp_nar]
theorem xfit_b {v : Int32} (h : vp_nar .byte v = v) : xfit .byte (.int v) := by
  have h1 : narrow .byte (.int v) = .int v := by rw [xnar_b, h]
  refine ⟨h1, ?_⟩
  rw [← h1]
  simp [narrow, pk_fb]
theorem xfit_z {v : Int32} (h : vp_nar .boolean v = v) : xfit .boolean (.int v) := by
  have h1 : narrow .boolean (.int v) = .int v := by
    have : narrow .boolean (.int v) = .int (vp_nar .boolean v) := by simp [narrow, vp_nar]
    rw [this, h]
  refine ⟨h1, ?_⟩
  have h2 : v &&& 1 = v := by
    have : vp_nar .boolean v = v &&& 1 := by simp [narrow, vp_nar]
    rw [← this, h]
  have h3 : v = 0 ∨ v = 1 := by
    obtain ⟨j, hj, e⟩ := pk_andE v (m := 1) 1 (by decide)
    rw [h2] at e
    have : j = 0 ∨ j = 1 := by omega
    rcases this with rfl | rfl
    · exact Or.inl e
    · exact Or.inr e
  rcases h3 with rfl | rfl <;> rfl
section M2
variable {G : xG} {own nm : String} {cc : ByteArray} {nL d pc n : Nat} {ret : Option FieldType} {lv : List (Nat × Value)} {st : List Value} {P : PH} {K K1 K2 Kc : Option (xO × PH)}
theorem x_cl1 {a ci : Nat} (k : xco P a = some ci → X G own nm cc nL ret d pc lv st P K) : X G own nm cc nL ret d pc lv st P (xcl1 P a ci K) := by
  unfold xcl1
  split
  · rename_i e
    exact k e
  · exact x_no
theorem x_sw {a : Nat} {K2 : Nat → Option (xO × PH)} (k : ∀ c, xco P a = some c → X G own nm cc nL ret d pc lv st P (K2 c)) : X G own nm cc nL ret d pc lv st P (xsw P a K2) := by
  unfold xsw
  split
  · rename_i c e
    exact k c e
  · exact x_no
theorem x_nm {e : Int32} {K2 : Int32 → Option (xO × PH)} (k : ∀ x, X G own nm cc nL ret d pc lv (.int x :: st) P (K2 x)) : X G own nm cc nL ret d pc lv (.int e :: st) P (bnd e K2) := k e
theorem x_iincB {j : Nat} {i : Int} {c x : Int32} {K2 : Int32 → Option (xO × PH)} (q : Nat) (lv' : Int32 → List (Nat × Value)) (hd : decode cc pc = .ok (.iinc j i, 3)) (hq : lv[q]? = some (j, .int x)) (hv : Int32.ofInt i = c) (hj : j < nL) (hl' : ∀ v, xst j (.int v) lv = lv' v) (hn : pc + 3 = n) (k : ∀ v, X G own nm cc nL ret d n (lv' v) st P (K2 v)) : X G own nm cc nL ret d pc lv st P (bnd (x + c) K2) :=
  x_iinc (x + c) q _ hd hq (by rw [hv]) hj (hl' _) hn (k _)
theorem x_ifnullR {a : Nat} {off : Int} (hd : decode cc pc = .ok (.ifnull off, 3)) (hn : pc + 3 = n) (k : X G own nm cc nL ret d n lv st P K) : X G own nm cc nL ret d pc lv (.ref a :: st) P K := by
  subst hn; exact x_pure (fun hx hb _ _ hl k => lv_ifnull hx hb hd (k _ hl)) k
theorem x_ifnonnullR {a : Nat} {off : Int} (hd : decode cc pc = .ok (.ifnonnull off, 3)) (ht : (pc : Int) + off = (n : Int)) (k : X G own nm cc nL ret d n lv st P K) : X G own nm cc nL ret d pc lv (.ref a :: st) P K :=
  x_pure (fun hx hb _ _ hl k => lv_ifnonnull hx hb hd ht (k _ hl)) k
/-! lookupswitch: one case a time -/
theorem x_lk {dflt : Int} {ps : Array (Int × Int)} {len : Nat} {x : Int32} {off : Int} (hd : decode cc pc = .ok (.lookupswitch dflt ps, len)) (hp : (ps.toList.zip (ps.toList.drop 1)).all (fun (a, next) => a.1 < next.1) = true) (ho : Op.lookupswitch.offset ps.toList dflt x.toInt = off) (ht : (pc : Int) + off = (n : Int)) (k : X G own nm cc nL ret d n lv st P K) : X G own nm cc nL ret d pc lv (.int x :: st) P K :=
  x_pure (fun hx hb _ _ hl k => lv_lookup hx hb hd hp ho ht (k _ hl)) k
/-! natives -/
def xArc (own : String) (index : Nat) : Prop := Cond.methodLink own index arraycopyName ∈ lw_all ∧ Cond.native arraycopyName ∈ lw_all ∧ Cond.static arraycopyName ∈ lw_all ∧ Cond.initialized "java/lang/System" ∈ lw_all
theorem xnn (z : Int32) (hz : ¬ z < 0) : z.toInt = (z.toNatClampNeg : Int) := by
  have hz0 : (0 : Int) ≤ z.toInt := by
    have := Int32.not_lt.mp hz
    simpa using Int32.le_iff_toInt_le.mp this
  show z.toInt = ((z.toInt.toNat : Nat) : Int)
  omega
def xcpB {α : Type} (P : PH) (src dst : Nat) (sp dp n : Int32) (K : PH → Option α) : Option α := match P.1 src, P.1 dst with
  | some (_, .inl (2, n0, .inl f)), some (true, .inl (2, n1, .inl g)) => if ¬ sp < 0 ∧ ¬ dp < 0 ∧ ¬ n < 0 ∧ sp.toNatClampNeg + n.toNatClampNeg ≤ n0 ∧ dp.toNatClampNeg + n.toNatClampNeg ≤ n1 then K (xup P dst (.inl (2, n1, .inl (va_cpy f g sp.toNatClampNeg dp.toNatClampNeg n.toNatClampNeg)))) else none
  | _, _ => none
def xcpR {α : Type} (P : PH) (src dst : Nat) (sp dp n : Int32) (K : PH → Option α) : Option α := match P.1 src, P.1 dst with
  | some (true, .inl (4, n0, .inr (.inr (.inr (.inr f))))), some (true, .inl (4, n1, .inr (.inr (.inr (.inr g))))) => if (¬ sp < 0 ∧ ¬ dp < 0 ∧ ¬ n < 0 ∧ sp.toNatClampNeg + n.toNatClampNeg ≤ n0 ∧ dp.toNatClampNeg + n.toNatClampNeg ≤ n1) ∧ (List.range n.toNatClampNeg).all (fun i => xmayq P 4 (f (sp.toNatClampNeg + i))) = true then K (xup P dst (.inl (4, n1, .inr (.inr (.inr (.inr (va_cpy f g sp.toNatClampNeg dp.toNatClampNeg n.toNatClampNeg))))))) else none
  | _, _ => none
theorem x_cpB {a0 a index : Nat} {sp dp n' : Int32} {K2 : PH → Option (xO × PH)} (hw : xArc own index) (hd : decode cc pc = .ok (.invokestatic index, 3)) (h0 : 1 ≤ d) (hrest : (st.map fun v => v.category).sum ≤ 20) (hn : pc + 3 = n) (kk : ∀ P1, X G own nm cc nL ret d n lv st P1 (K2 P1)) : X G own nm cc nL ret d pc lv (.int n' :: .int dp :: .ref a :: .int sp :: .ref a0 :: st) P (xcpB P a0 a sp dp n' K2) := by
  subst hn
  unfold xcpB
  split
  · rename_i w0 n0 f n1 g ha0 ha1
    split
    · rename_i hc
      obtain ⟨h1, h2, h3, h4, h5⟩ := hc
      refine x_heap (P1 := xup P a (.inl (2, n1, .inl (va_cpy f g sp.toNatClampNeg dp.toNatClampNeg n'.toNatClampNeg)))) ⟨Nat.le_refl _, Nat.le_refl _⟩ (fun {p e R s m args below meth c} hC {H locs cells slots Q ls} hr hS hl hlim gg => ?_) (kk _)
      have hts := xok_hts hC
      have hK := xok_K hC
      obtain ⟨cs, hc0, hA0, hu0, hz0, -, hv0⟩ := xarrF hr hK hC.2.2.2.2.2.2.1 (ty := .byte) rfl ha0
      have hv0' : ∀ j, j < n0 → cs.slots[j]? = some (Value.int (f j)) := fun j hj => by rw [hv0 j hj]; show (arrV _ _ _).slots[_]? = _; rw [arrV_read _ _ hj]
      obtain ⟨hc1, hA1⟩ := xarr hr hK (ty := .byte) rfl ha1
      have hb0 : ∀ j, j < n0 → vp_nar .byte (f j) = f j := by
        have h := (hr.2.2.2 _ _ _ ha0).1
        cases w0 with
        | true => exact (show xat G a0 (.inl (2, n0, .inl f)) H from h).2 rfl
        | false => exact (show xaf G a0 (.inl (2, n0, .inl f)) H from h).2 rfl
      have hb1 := (show xat G a (.inl (2, n1, .inl g)) H from (hr.2.2.2 _ _ _ ha1).1).2 rfl
      have hZ := (hr.2.2.2 a true _ ha1).2 rfl
      obtain ⟨hst0, k0, hk0, cm0, hkk0⟩ := hA0
      obtain ⟨-, k1, hk1, cm1, hkk1⟩ := hA1 n1 (fun j => .int (g j))
      have q1 := hC.2.2.2.2.2.2.2.1
      have q2 := hC.2.2.2.2.2.2.2.2.1
      have hnw : nativeFrameWords "java/lang/System" "arraycopy" 5 ≤ 40 := by decide +kernel
      intro T hT X
      obtain ⟨vm', X', step⟩ := X.arraycopy hC.1 hC.2.2.2.2.1 (hts _ hw.1) (hts _ hw.2.1) (hts _ hw.2.2.1) (hts _ hw.2.2.2) (src := a0) (dst := a) (cs := cs) (cd := vp_cell (gA G 2) (n1, .inl g)) (srcPos := sp) (destPos := dp) (n := n') (by rw [hT]; exact hc0) (by rw [hT]; exact hc1)
        hst0 (fun _ h => by cases h) hu0 (fun h => by cases h) hk0 hk1 hkk0 hkk1 (by simp [refKind]) h1 h2 h3
        (by rw [xnn sp h1, xnn n' h3]; have hz0' : n0 ≤ cs.slots.size := hz0; omega)
        (by rw [xnn dp h2, xnn n' h3]; show ¬ _ > ((arrV _ n1 (fun j => .int (g j))).slots.size : Int); rw [arrV_size]; omega)
        (fun vm₁ _ i hi => by
          have e : cs.slots.getD (sp.toNatClampNeg + i) .null = .int (f (sp.toNatClampNeg + i)) := by
            rw [Array.getD_eq_getD_getElem?, hv0' _ (by omega)]
            rfl
          refine ⟨?_, ?_⟩
          · rw [e]
            exact (xfit_b (hb0 _ (by show _ < n0; omega))).2
          · rw [e]
            exact trivial)
        (g := F0 m pc ls (.int n' :: .int dp :: .ref a :: .int sp :: .ref a0 :: st)) rfl (by rw [hC.2.2.2.1]; exact hl.1) (rest := st) rfl (by rw [hC.2.1]; exact hd) (by omega) (by show 2 * 0 + _ + (nativeFrameWords "java/lang/System" "arraycopy" 5 + 11) ≤ _; omega)
      have e1 : copied cs (vp_cell (gA G 2) (n1, .inl g)) sp dp n' = vp_cell (gA G 2) (n1, .inl (va_cpy f g sp.toNatClampNeg dp.toNatClampNeg n'.toNatClampNeg)) := va_copiedX (fun z => .int z) cs _ f g hv0' h4
      rw [e1] at X' step
      have hl' : a < H.size := (Array.getElem?_eq_some_iff.mp hc1).1
      have oq : ∀ q : Nat, q ≠ a → (H.setIfInBounds a (vp_cell (gA G 2) (n1, .inl (va_cpy f g sp.toNatClampNeg dp.toNatClampNeg n'.toNatClampNeg))))[q]? = H[q]? := fun q hq => by simp [Array.getElem?_setIfInBounds, Ne.symm hq]
      have ea : (H.setIfInBounds a (vp_cell (gA G 2) (n1, .inl (va_cpy f g sp.toNatClampNeg dp.toNatClampNeg n'.toNatClampNeg))))[a]? = some (vp_cell (gA G 2) (n1, .inl (va_cpy f g sp.toNatClampNeg dp.toNatClampNeg n'.toNatClampNeg))) := by simp [Array.getElem?_setIfInBounds, hl']
      have hz : (H.setIfInBounds a (vp_cell (gA G 2) (n1, .inl (va_cpy f g sp.toNatClampNeg dp.toNatClampNeg n'.toNatClampNeg)))).size = H.size := by simp
      obtain ⟨t, a1, b1⟩ := gg _ _ _ _ ls (xr_put (c1 := .inl (2, n1, .inl (va_cpy f g sp.toNatClampNeg dp.toNatClampNeg n'.toNatClampNeg))) hr ha1 hz (xsl_put hz hc1 ea (by simp [vp_cell_i, arrV_size]) oq) oq ⟨ea, fun _ j hj => by
          show vp_nar .byte (va_cpy f g _ _ _ j) = va_cpy f g _ _ _ j
          unfold va_cpy
          split
          · exact hb0 _ (by show _ < n0; omega)
          · exact hb1 j hj⟩) ⟨by rw [hz]; exact hS.1, fun q hq => by
          rcases List.mem_append.mp hq with h | h
          · exact hS.2 q h
          · obtain ⟨z, -, hz⟩ := List.mem_map.mp h
            rw [← hz]
            exact hZ⟩ hl _ (by show ((T.setVm vm').setCell a _).heap = _; rw [← hT]; rfl) X'
      exact ⟨t, step t a1, b1⟩
    · exact x_no
  · exact x_no
theorem x_cpR {a0 a index : Nat} {sp dp n' : Int32} {K2 : PH → Option (xO × PH)} (hw : xArc own index) (hd : decode cc pc = .ok (.invokestatic index, 3)) (h0 : 1 ≤ d) (hrest : (st.map fun v => v.category).sum ≤ 20) (hn : pc + 3 = n) (kk : ∀ P1, X G own nm cc nL ret d n lv st P1 (K2 P1)) : X G own nm cc nL ret d pc lv (.int n' :: .int dp :: .ref a :: .int sp :: .ref a0 :: st) P (xcpR P a0 a sp dp n' K2) := by
  subst hn
  unfold xcpR
  split
  · rename_i n0 f n1 g ha0 ha1
    split
    · rename_i hc
      obtain ⟨⟨h1, h2, h3, h4, h5⟩, hall⟩ := hc
      refine x_heap (P1 := xup P a (.inl (4, n1, .inr (.inr (.inr (.inr (va_cpy f g sp.toNatClampNeg dp.toNatClampNeg n'.toNatClampNeg))))))) ⟨Nat.le_refl _, Nat.le_refl _⟩ (fun {p e R s m args below meth c} hC {H locs cells slots Q ls} hr hS hl hlim gg => ?_) (kk _)
      have hts := xok_hts hC
      have hK := xok_K hC
      obtain ⟨hc0, hA0⟩ := xarr hr hK (ty := .object "java/lang/Object") rfl ha0
      obtain ⟨hc1, hA1⟩ := xarr hr hK (ty := .object "java/lang/Object") rfl ha1
      have hZ := (hr.2.2.2 a true _ ha1).2 rfl
      obtain ⟨-, k0, hk0, cm0, hkk0⟩ := hA0 n0 (fun j => va_rf (f j))
      obtain ⟨-, k1, hk1, cm1, hkk1⟩ := hA1 n1 (fun j => va_rf (g j))
      have q1 := hC.2.2.2.2.2.2.2.1
      have q2 := hC.2.2.2.2.2.2.2.2.1
      have hnw : nativeFrameWords "java/lang/System" "arraycopy" 5 ≤ 40 := by decide +kernel
      intro T hT X
      obtain ⟨vm', X', step⟩ := X.arraycopy hC.1 hC.2.2.2.2.1 (hts _ hw.1) (hts _ hw.2.1) (hts _ hw.2.2.1) (hts _ hw.2.2.2) (src := a0) (dst := a) (cs := vp_cell (gA G 4) (n0, .inr (.inr (.inr (.inr f))))) (cd := vp_cell (gA G 4) (n1, .inr (.inr (.inr (.inr g))))) (srcPos := sp) (destPos := dp) (n := n') (by rw [hT]; exact hc0) (by rw [hT]; exact hc1)
        (fun _ h => by cases h) (fun _ h => by cases h) (fun h => by cases h) (fun h => by cases h) hk0 hk1 hkk0 hkk1 rfl h1 h2 h3
        (by rw [xnn sp h1, xnn n' h3]; show ¬ _ > ((arrV _ n0 (fun j => va_rf (f j))).slots.size : Int); rw [arrV_size]; omega)
        (by rw [xnn dp h2, xnn n' h3]; show ¬ _ > ((arrV _ n1 (fun j => va_rf (g j))).slots.size : Int); rw [arrV_size]; omega)
        (fun vm₁ hal i hi => by
          have e : (vp_cell (gA G 4) (n0, .inr (.inr (.inr (.inr f))))).slots.getD (sp.toNatClampNeg + i) .null = va_rf (f (sp.toNatClampNeg + i)) := by
            show (arrV _ n0 (fun j => va_rf (f j))).slots.getD _ _ = _
            rw [Array.getD_eq_getD_getElem?, arrV_read _ _ (by omega)]
            rfl
          rw [e]
          have hm := List.all_eq_true.mp hall i (List.mem_range.mpr hi)
          cases hy : f (sp.toNatClampNeg + i) with
          | none => exact ⟨rfl, trivial⟩
          | some y =>
            rw [hy] at hm
            simp only [xmayq] at hm
            split at hm
            · rename_i w ci fs hb
              obtain ⟨r, T', hr1, hr2, hr3⟩ := xmay_ok 4 ci hm
              cases (show some (FieldType.object "java/lang/Object") = some (.object T') from hr2)
              obtain ⟨kA, comp, r1, r2, r3, -⟩ := (hK.2 4 (.object "java/lang/Object") rfl).2 (by decide)
              cases hk1.symm.trans r1
              cases hkk1.symm.trans r2
              obtain ⟨cellV, g1, g2, g3, g4⟩ := xrecv hr hK hr1 hb
              have hasg := xcan_asg hC.2.2.2.2.2.2.2.2.2.2.2.1 hC.2.2.2.2.2.2.1 hr3 g3 r3
              obtain ⟨kE, hkE, -⟩ := Vm.findClass_spec r3
              obtain ⟨kC, hkC, -⟩ := Vm.findClass_spec g3
              obtain ⟨kC', hkC', -⟩ := hal.2.2 _ _ hkC
              obtain ⟨kE', hkE', -⟩ := hal.2.2 _ _ hkE
              refine ⟨rfl, cellV, (show T.heap[y]? = some cellV by rw [hT]; exact g1), (fun q h => by rw [h] at g2; cases g2), ⟨kC', hkC'⟩, ?_, ?_⟩
              · exact ⟨kE', hkE'⟩
              · show vm₁.assignable _ _ = true
                rw [hal.assignable]
                exact hasg
            · cases hm)
        (g := F0 m pc ls (.int n' :: .int dp :: .ref a :: .int sp :: .ref a0 :: st)) rfl (by rw [hC.2.2.2.1]; exact hl.1) (rest := st) rfl (by rw [hC.2.1]; exact hd) (by omega) (by show 2 * 0 + _ + (nativeFrameWords "java/lang/System" "arraycopy" 5 + 11) ≤ _; omega)
      have e1 : copied (vp_cell (gA G 4) (n0, .inr (.inr (.inr (.inr f))))) (vp_cell (gA G 4) (n1, .inr (.inr (.inr (.inr g))))) sp dp n' = vp_cell (gA G 4) (n1, .inr (.inr (.inr (.inr (va_cpy f g sp.toNatClampNeg dp.toNatClampNeg n'.toNatClampNeg))))) := va_copied (fun z => va_rf z) _ _ f g h4
      rw [e1] at X' step
      have hl' : a < H.size := (Array.getElem?_eq_some_iff.mp hc1).1
      have oq : ∀ q : Nat, q ≠ a → (H.setIfInBounds a (vp_cell (gA G 4) (n1, .inr (.inr (.inr (.inr (va_cpy f g sp.toNatClampNeg dp.toNatClampNeg n'.toNatClampNeg)))))))[q]? = H[q]? := fun q hq => by simp [Array.getElem?_setIfInBounds, Ne.symm hq]
      have ea : (H.setIfInBounds a (vp_cell (gA G 4) (n1, .inr (.inr (.inr (.inr (va_cpy f g sp.toNatClampNeg dp.toNatClampNeg n'.toNatClampNeg)))))))[a]? = some (vp_cell (gA G 4) (n1, .inr (.inr (.inr (.inr (va_cpy f g sp.toNatClampNeg dp.toNatClampNeg n'.toNatClampNeg)))))) := by simp [Array.getElem?_setIfInBounds, hl']
      have hz : (H.setIfInBounds a (vp_cell (gA G 4) (n1, .inr (.inr (.inr (.inr (va_cpy f g sp.toNatClampNeg dp.toNatClampNeg n'.toNatClampNeg))))))).size = H.size := by simp
      obtain ⟨t, a1, b1⟩ := gg _ _ _ _ ls (xr_put (c1 := .inl (4, n1, .inr (.inr (.inr (.inr (va_cpy f g sp.toNatClampNeg dp.toNatClampNeg n'.toNatClampNeg)))))) hr ha1 hz (xsl_put hz hc1 ea (by simp [vp_cell_q, arrV_size]) oq) oq ⟨ea, fun _ => trivial⟩) ⟨by rw [hz]; exact hS.1, fun q hq => by
          rcases List.mem_append.mp hq with h | h
          · exact hS.2 q h
          · obtain ⟨z, -, hz⟩ := List.mem_map.mp h
            rw [← hz]
            exact hZ⟩ hl _ (by show ((T.setVm vm').setCell a _).heap = _; rw [← hT]; rfl) X'
      exact ⟨t, step t a1, b1⟩
    · exact x_no
  · exact x_no
/-! clone of bytes -/
def xclB {α : Type} (P : PH) (a : Nat) (K : Nat → PH → Option α) : Option α := match P.1 a with
  | some (true, .inl (2, n, .inl f)) => K P.2.1 (xpush P (.inl (2, n, .inl f)) n)
  | _ => none
def xClo (own ad : String) (index : Nat) : Prop := Cond.methodLink own index ⟨ad, "clone", "()Ljava/lang/Object;"⟩ ∈ lw_all ∧ Cond.sameMethod ad "java/lang/Object" "clone" "()Ljava/lang/Object;" ∈ lw_all ∧ Cond.native ⟨"java/lang/Object", "clone", "()Ljava/lang/Object;"⟩ ∈ lw_all ∧ Cond.instanceMethod ⟨"java/lang/Object", "clone", "()Ljava/lang/Object;"⟩ ∈ lw_all ∧ Cond.selects ad ⟨ad, "clone", "()Ljava/lang/Object;"⟩ ⟨"java/lang/Object", "clone", "()Ljava/lang/Object;"⟩ ∈ lw_all ∧ Cond.castable ad "java/lang/Cloneable" ∈ lw_tbl
theorem x_clB {a index : Nat} {K2 : Nat → PH → Option (xO × PH)} (hw : xClo own "[B" index) (hd : decode cc pc = .ok (.invokevirtual index, 3)) (h0 : 1 ≤ d) (hrest : (st.map fun v => v.category).sum ≤ 20) (hn : pc + 3 = n) (kk : ∀ b P1, X G own nm cc nL ret d n lv (.ref b :: st) P1 (K2 b P1)) : X G own nm cc nL ret d pc lv (.ref a :: st) P (xclB P a K2) := by
  subst hn
  unfold xclB
  split
  · rename_i N f ha
    refine x_heap (P1 := xpush P (.inl (2, N, .inl f)) N) ⟨Nat.le_succ _, Nat.le_add_right _ _⟩ (fun {p e R s m args below meth c} hC {H locs cells slots Q ls} hr hS hl hlim gg => ?_) (kk P.2.1 _)
    have hts := xok_hts hC
    have hK := xok_K hC
    obtain ⟨hc0, hA0⟩ := xarr hr hK (ty := .byte) rfl ha
    have hb0 := (hr.2.2.2 _ _ _ ha).1.2
    have q1 := hC.2.2.2.2.2.2.2.1
    have q2 := hC.2.2.2.2.2.2.2.2.1
    obtain ⟨⟨A, hA⟩, -⟩ := hC.2.2.2.2.2.2.2.2.2.2.2.1
    have hnm : s.vm.findClass "[B" = some (gA G 2) := (hK.2 2 .byte rfl).2 (by decide)
    obtain ⟨c0, t0', f1, f2, f3⟩ := Cond.castable_spec (va_Nw.warmC hC.2.2.2.2.2.2.1 (va_Nw.of rfl (hA _ hw.2.2.2.2.2)))
    cases hnm.symm.trans f1
    refine xtight2 fun hle => ?_
    obtain ⟨r1, r2⟩ := xroom hC hr hS hlim hle
    intro T hT X
    have hcellT : T.heap[a]? = some (vp_cell (gA G 2) (N, .inl f)) := by rw [hT]; exact hc0
    have hsz : (vp_cell (gA G 2) (N, .inl f)).slots.size = N := arrV_size _ _ _
    obtain ⟨-, kA, hkA, comp, hkind⟩ := State.isArrayOf_alike X.warmed.alike (hA0 0 (fun _ => .null))
    obtain ⟨-, kS, hkS, compS, hkindS⟩ := hA0 0 (fun _ => .null)
    obtain ⟨vm', X', st'⟩ := X.cloneArray hC.1 hC.2.2.2.2.1 (hts _ hw.1) (hts _ hw.2.1) (hts _ hw.2.2.1) (hts _ hw.2.2.2.1) (hts _ hw.2.2.2.2.1) (a := a) (cell := vp_cell (gA G 2) (N, .inl f)) hcellT (fun k h => by cases h) (fun h => by cases h) hnm f2 f3
      (fun i v hv => by
        have hk' : T.vm.classes[gA G 2]? = some kA := hkA
        have hv' : fits .byte v = true := va_fit (fun j hj => (xfit_b (hb0 rfl j hj)).2) i v hv
        show T.fitsSlot (gA G 2) .none i v = true
        simpa [State.fitsSlot, State.slotType?, hk', hkind] using hv')
      (g := F0 m pc ls (.ref a :: st)) rfl (by rw [hC.2.2.2.1]; exact hl.1) rfl (by rw [hC.2.1]; exact hd) (by omega) (by show 2 * 0 + _ + 14 ≤ _; omega) r1 (by rw [hsz]; exact r2) (hloader := Vm.clonesLoader_of_array hkS hkindS)
    have hE : ({ cls := (vp_cell (gA G 2) (N, .inl f)).cls, slots := (vp_cell (gA G 2) (N, .inl f)).slots } : Cell) = vp_cell (gA G 2) (N, .inl f) := rfl
    rw [hE, hsz] at X'
    obtain ⟨t, b1, b2⟩ := gg (H.push (vp_cell (gA G 2) (N, .inl f))) locs _ _ ls (xr_push hr hsz ⟨by rw [hr.1.1]; simp, hb0⟩) hS.push hl _ (by show ((T.setVm vm').pushCell _).heap = _; rw [← hT]; rfl) X'
    refine ⟨t, st' t ?_, b2⟩
    rw [hr.1.1, ← hT] at b1
    exact b1
  · exact x_no
/-! the mirror of Object[] -/
def xGc (own : String) (index : Nat) : Prop := Cond.methodLink own index ⟨"java/lang/Object", "getClass", "()Ljava/lang/Class;"⟩ ∈ lw_all ∧ Cond.declares ⟨"java/lang/Object", "getClass", "()Ljava/lang/Class;"⟩ ∈ lw_tbl ∧ Cond.selects "[Ljava/lang/Object;" ⟨"java/lang/Object", "getClass", "()Ljava/lang/Class;"⟩ ⟨"java/lang/Object", "getClass", "()Ljava/lang/Class;"⟩ ∈ lw_all ∧ Cond.instanceMethod ⟨"java/lang/Object", "getClass", "()Ljava/lang/Class;"⟩ ∈ lw_all ∧ Cond.native ⟨"java/lang/Object", "getClass", "()Ljava/lang/Class;"⟩ ∈ lw_all
/-- an Object[]'s class -/
def xgc {α : Type} (P : PH) (a : Nat) (K : Nat → Option α) : Option α := match P.1 a with
  | some (true, .inl (4, _, _)) => (match P.2.2.2 8 with
    | some mi => K mi
    | none => none)
  | _ => none
theorem x_getC {a index : Nat} {K2 : Nat → Option (xO × PH)} (hw : xGc own index) (hd : decode cc pc = .ok (.invokevirtual index, 3)) (h0 : 1 ≤ d) (hrest : (st.map fun v => v.category).sum ≤ 20) (hn : pc + 3 = n) (kk : ∀ b, X G own nm cc nL ret d n lv (.ref b :: st) P (K2 b)) : X G own nm cc nL ret d pc lv (.ref a :: st) P (xgc P a K2) := by
  subst hn
  unfold xgc
  split
  · rename_i N x ha
    split
    · rename_i mi hmi
      refine x_heap xLe.rf (fun {p e R s m args below meth c} hC {H locs cells slots Q ls} hr hS hl hlim gg => ?_) (kk mi)
      have hts := xok_hts hC
      have hK := xok_K hC
      have hM := (hC.2.2.2.2.2.2.2.2.2.2.2.1.2.2.2.1 mi (by rw [← hr.1.2.2]; exact hmi)).moved hC.2.2.2.2.2.2.1.alike
      obtain ⟨⟨A, hA⟩, -⟩ := hC.2.2.2.2.2.2.2.2.2.2.2.1
      have q1 := hC.2.2.2.2.2.2.2.1
      have q2 := hC.2.2.2.2.2.2.2.2.1
      obtain ⟨hc0, hA0⟩ := xarr hr hK (ty := .object "java/lang/Object") rfl ha
      obtain ⟨kA, comp, r1, r2, r3, r4⟩ := (hK.2 4 (.object "java/lang/Object") rfl).2 (by decide)
      have hcv : (vp_cell (gA G 4) (N, x)).vm = .none ∧ (vp_cell (gA G 4) (N, x)).cls = gA G 4 := by rcases x with x | x | x | x | x <;> exact ⟨rfl, rfl⟩
      exact va_getC hC.1 hC.2.1 (by rw [hC.2.2.2.1]; exact hl.1.symm) hC.2.2.2.2.1 (hts _ hw.1) (va_Nw.use rfl (va_Nw.warmD hC.2.2.2.2.2.2.1 (va_Nw.of rfl (hA _ hw.2.1)))) (hts _ hw.2.2.1) (hts _ hw.2.2.2.1) (hts _ hw.2.2.2.2) hM ⟨_, hc0, by rw [hcv.1]; rfl, by rw [hcv.2]; exact r4⟩ (by omega) (by omega) hd (gg H locs cells slots ls hr hS hl)
    · exact x_no
  · exact x_no
def xmir {α : Type} (P : PH) (K : Nat → Option α) : Option α := match P.2.2.2 8 with
  | some mi => K mi
  | none => none
theorem x_ldcM {index : Nat} {K2 : Nat → Option (xO × PH)} (hw : Cond.classLink own index "[Ljava/lang/Object;" ∈ lw_all) (hd : decode cc pc = .ok (.ldc index, 2)) (hn : pc + 2 = n) (kk : ∀ b, X G own nm cc nL ret d n lv (.ref b :: st) P (K2 b)) : X G own nm cc nL ret d pc lv st P (xmir P K2) := by
  subst hn
  unfold xmir
  split
  · rename_i mi hmi
    refine x_heap xLe.rf (fun {p e R s m args below meth c} hC {H locs cells slots Q ls} hr hS hl hlim gg => ?_) (kk mi)
    have hM := (hC.2.2.2.2.2.2.2.2.2.2.2.1.2.2.2.1 mi (by rw [← hr.1.2.2]; exact hmi)).moved hC.2.2.2.2.2.2.1.alike
    exact va_ldcM hC.1 hC.2.1 hC.2.2.2.2.1 (xok_hts hC _ hw) hM hd (gg H locs cells slots ls hr hS hl)
  · exact x_no
theorem x_ldcS {j index k : Nat} {tx : String} {K2 : Option Nat → Option (xO × PH)} (hj : xlits[j]? = some (own, index, tx, k)) (hd : decode cc pc = .ok (.ldc index, 2)) (hn : pc + 2 = n) (kk : ∀ x, X G own nm cc nL ret d n lv (va_rf x :: st) P (K2 x)) : X G own nm cc nL ret d pc lv st P (xcon P k K2) := by
  subst hn
  refine x_heap xLe.rf (fun {p e R s m args below meth c} hC {H locs cells slots Q ls} hr hS hl hlim gg => ?_) (kk (P.2.2.2 k))
  obtain ⟨a, ha, hR⟩ := hC.2.2.2.2.2.2.2.2.2.2.2.1.2.2.2.2.1 j _ hj
  have ha' : P.2.2.2 k = some a := by rw [hr.1.2.2]; exact ha
  have g2 := gg H locs cells slots ls hr hS hl
  rw [ha'] at g2
  exact va_ldcS hC.1 hC.2.1 hC.2.2.2.2.1 (vk_R.warm hC.2.2.2.2.2.2.1 hR) hd g2
end M2
/-! int[][] -/
def xmulti {α : Type} (P : PH) (n k : Int32) (K : Nat → PH → Option α) : Option α := if (¬ n < 0 ∧ ¬ k < 0) ∧ n.toNatClampNeg ≤ 1000 ∧ k.toNatClampNeg ≤ 1000 then K P.2.1 (fun b => if b = P.2.1 then some (true, .inl (6, n.toNatClampNeg, .inr (.inr (.inr (.inr (fun j => if j < n.toNatClampNeg then some (P.2.1 + 1 + j) else none)))))) else if P.2.1 < b ∧ b ≤ P.2.1 + n.toNatClampNeg then some (true, .inl (0, k.toNatClampNeg, .inl (fun _ => 0))) else P.1 b, P.2.1 + 1 + n.toNatClampNeg, P.2.2.1 + (n.toNatClampNeg + n.toNatClampNeg * k.toNatClampNeg), P.2.2.2) else none
theorem xouter (c : ClassId) (N h0 : Nat) : ∀ i, Jvm.Free.Multi.outerC c N h0 i = arrV c N (fun j => if j < i then .ref (h0 + 1 + j) else .null)
  | 0 => by
    show ({ cls := c, slots := Array.replicate N .null, vm := .none } : Cell) = _
    rw [arrV_new]
    simp
  | i + 1 => by
    show (Jvm.Free.Multi.outerC c N h0 i).setSlot i _ = _
    rw [xouter c N h0 i, arrV_store]
    congr 1
    funext j
    unfold updV
    by_cases h : j = i
    · subst h; simp
    · simp only [if_neg h]
      by_cases h2 : j < i
      · rw [if_pos h2, if_pos (by omega)]
      · rw [if_neg h2, if_neg (by omega)]
theorem xsl_fill (s : State) (c comp : ClassId) (N M : Nat) (dv : Value) : ∀ i, xsl (Jvm.Free.Multi.fill s c comp N M dv i).heap = xsl s.heap + N + i * M
  | 0 => by
    show xsl (s.heap.push _) = _
    rw [xsl_push]
    simp [Jvm.Free.Multi.outerC]
  | i + 1 => by
    have ih := xsl_fill s c comp N M dv i
    obtain ⟨f1, f2, -⟩ := Jvm.Free.Multi.fill_facts s c comp N M dv i
    have hlt : s.heap.size < (Jvm.Free.Multi.fill s c comp N M dv i).heap.size := by omega
    have e1 : xsl ((Jvm.Free.Multi.fill s c comp N M dv i).heap.push (Jvm.Free.Multi.innerC comp M dv)) = xsl s.heap + N + i * M + M := by
      rw [xsl_push, ih]; simp [Jvm.Free.Multi.innerC]
    show xsl (((Jvm.Free.Multi.fill s c comp N M dv i).heap.push (Jvm.Free.Multi.innerC comp M dv)).setIfInBounds s.heap.size (Jvm.Free.Multi.outerC c N s.heap.size (i + 1))) = _
    have e2 := xsl_put (H := (Jvm.Free.Multi.fill s c comp N M dv i).heap.push (Jvm.Free.Multi.innerC comp M dv)) (H' := ((Jvm.Free.Multi.fill s c comp N M dv i).heap.push (Jvm.Free.Multi.innerC comp M dv)).setIfInBounds s.heap.size (Jvm.Free.Multi.outerC c N s.heap.size (i + 1))) (a := s.heap.size) (c := Jvm.Free.Multi.outerC c N s.heap.size i) (c' := Jvm.Free.Multi.outerC c N s.heap.size (i + 1)) (by simp) (by rw [push_lt hlt]; exact f2) (by rw [Array.getElem?_setIfInBounds_self_of_lt (by simp; omega)]) (by rw [(Jvm.Free.Multi.outerC_facts c N _ _).2.2, (Jvm.Free.Multi.outerC_facts c N _ _).2.2]) (fun q hq => by rw [Array.getElem?_setIfInBounds_ne (Ne.symm hq)])
    rw [e2, e1, Nat.succ_mul]
    omega
theorem xAO_moved {t : FieldType} {u U : State} {A A' : Array Value} (hvm : u.vm.Alike U.vm) (h : (Cond.arrayOver (.array t)).before A u = true) : (Cond.arrayOver (.array t)).before A' U = true := by
  obtain ⟨comp, c, k, h1, h2, h3, h4, h5⟩ : ∃ comp c k, u.vm.findClass (FieldType.array t).toString = some comp ∧ (u.vm.classes.findIdx? fun (x : Class) => match x.kind with | .array component _ => component == comp | _ => false) = some c ∧ u.vm.classes[c]? = some k ∧ k.kind = .array comp (.array t) ∧ u.vm.findClass ("[" ++ (FieldType.array t).toString) = some c := by
    simp only [Cond.before, Cond.holds, Cond.value, beq_iff_eq] at h
    cases hc : u.vm.findClass (FieldType.array t).toString with
    | none => simp [hc] at h
    | some comp =>
      simp only [hc, Option.bind_some, Option.bind_eq_some_iff, Option.map_eq_some_iff] at h
      obtain ⟨c, hi, k, hk, hb⟩ := h
      obtain ⟨hlt, hp, -⟩ := Array.findIdx?_eq_some_iff_getElem.mp hi
      have hkk : u.vm.classes[c] = k := (Array.getElem?_eq_some_iff.mp hk).2
      rw [hkk] at hp
      cases hkind : k.kind with
      | array component ty =>
        rw [hkind] at hb hp
        simp at hb hp
        exact ⟨comp, c, k, rfl, hi, hk, by rw [hkind, hp, hb.1], hb.2⟩
      | _ => rw [hkind] at hb; simp at hb
  obtain ⟨k', hk', he⟩ := hvm.2.2 _ _ h3
  have hi : (U.vm.classes.findIdx? fun (x : Class) => match x.kind with | .array component _ => component == comp | _ => false) = some c := by
    have e1 := va_idx_bare U.vm comp
    have e2 := va_idx_bare u.vm comp
    have e3 : U.vm.bare = u.vm.bare := by first | exact hvm.bare_eq | exact hvm.bare_eq.symm
    rw [e3] at e1
    exact e1.symm.trans (e2.trans h2)
  have hkind : k'.kind = .array comp (.array t) := by rw [he]; exact h4
  have f1 : U.vm.findClass (FieldType.array t).toString = some comp := by rw [hvm.findClass]; exact h1
  have f2 : U.vm.findClass ("[" ++ (FieldType.array t).toString) = some c := by rw [hvm.findClass]; exact h5
  unfold Cond.before Cond.holds
  simp only [Cond.value]
  rw [f1, Option.bind_some]
  refine (congrArg (fun o : Option Nat => (o.bind (fun c => (U.vm.classes[c]?).map fun (k : Class) => match k.kind with | .array _ ty => decide (ty = FieldType.array t) && decide (U.vm.findClass ("[" ++ (FieldType.array t).toString) = some c) | _ => false) == some true)) hi).trans ?_
  simp [hk', hkind, f2]
section M4
variable {G : xG} {own nm : String} {cc : ByteArray} {nL d pc n : Nat} {ret : Option FieldType} {lv : List (Nat × Value)} {st : List Value} {P : PH} {K Kc : Option (xO × PH)}
theorem x_multi {index : Nat} {i k : Int32} {K2 : Nat → PH → Option (xO × PH)} (hcl : Cond.classLink own index "[[I" ∈ lw_all) (hw : Cond.arrayOver (.array .int) ∈ lw_tbl) (hi : Cond.arrayClass .int ∈ lw_all) (hd : decode cc pc = .ok (.multianewarray index 2, 4)) (hn : pc + 4 = n) (kk : ∀ a P1, X G own nm cc nL ret d n lv (.ref a :: st) P1 (K2 a P1)) : X G own nm cc nL ret d pc lv (.int k :: .int i :: st) P (xmulti P i k K2) := by
  subst hn
  unfold xmulti
  split
  · rename_i h
    obtain ⟨⟨h1, h2⟩, h3, h4⟩ := h
    refine x_heap ⟨by show P.2.1 ≤ P.2.1 + 1 + _; omega, Nat.le_add_right _ _⟩ (fun {p e R s m args below meth c} hC {H locs cells slots Q ls} hr hS hl hlim gg => ?_) (kk P.2.1 _)
    have hts := xok_hts hC
    have hK := xok_K hC
    obtain ⟨⟨A, hA⟩, -⟩ := hC.2.2.2.2.2.2.2.2.2.2.2.1
    have hO : (Cond.arrayOver (.array .int)).before args s = true := xAO_moved hC.2.2.2.2.2.2.1.alike (hA _ hw)
    have q1 := hr.1.1
    have q2 := hr.1.2.1
    have q3 := hC.2.2.2.2.2.2.2.2.2.1
    have q4 := hC.2.2.2.2.2.2.2.2.2.2.1
    have q5 := hlim.1
    have q6 := hlim.2
    have q7 := hS.1
    dsimp only at q5 q6
    refine xtight2 fun hle => ?_
    intro T hT X
    obtain ⟨vm₁, cA, comp, w1, w2, w3, w4, w5, X', st'⟩ := X.multianewarray2F hC.1 (ty := .int) hC.2.2.2.2.1 (hts _ hcl) hO (hts _ hi) (g := F0 m pc ls (.int k :: .int i :: st)) rfl (by rw [hC.2.1]; exact hd) rfl h1 h2 (by omega) (Nat.le_trans (Nat.mul_le_mul h4 (show componentBytes .int ≤ 8 by decide)) (by omega)) (by omega) rfl rfl (by omega) (by omega)
    have eA : cA = gA G 6 := xfcls hK (t := 6) (ty := .array .int) rfl (by decide) w2
    have eI : comp = gA G 0 := xfcls hK (t := 0) (ty := .int) rfl (by decide) w3
    subst eA
    subst eI
    have hTh : (T.setVm vm₁).heap = H := hT
    obtain ⟨f1, f2, -⟩ := Jvm.Free.Multi.fill_facts (T.setVm vm₁) (gA G 6) (gA G 0) i.toNatClampNeg k.toNatClampNeg (defaultValue .int) i.toNatClampNeg
    rw [hTh] at f1 f2
    have hin := fun j hj => Jvm.Free.Multi.fill_inner (T.setVm vm₁) (gA G 6) (gA G 0) i.toNatClampNeg k.toNatClampNeg (defaultValue .int) i.toNatClampNeg j hj
    have hold := fun {q : Nat} (hq : q < H.size) => Jvm.Free.Multi.fill_old (T.setVm vm₁) (gA G 6) (gA G 0) i.toNatClampNeg k.toNatClampNeg (defaultValue .int) (a := q) (by rw [hTh]; exact hq) i.toNatClampNeg
    rw [hTh] at hin hold
    have hsl := xsl_fill (T.setVm vm₁) (gA G 6) (gA G 0) i.toNatClampNeg k.toNatClampNeg (defaultValue .int) i.toNatClampNeg
    rw [hTh] at hsl
    suffices hx : xr G _ _ ∧ xS G s _ locs by
      obtain ⟨t, b1, b2⟩ := gg _ locs _ _ ls hx.1 hx.2 hl _ rfl X'
      refine ⟨t, st' t ?_, b2⟩
      rw [q1, ← hT] at b1
      exact b1
    refine ⟨⟨⟨?_, ?_, hr.1.2.2⟩, ?_, ?_, ?_⟩, ⟨?_, hS.2⟩⟩
    · show P.2.1 + 1 + i.toNatClampNeg = _
      rw [f1]; omega
    · show P.2.2.1 + (i.toNatClampNeg + i.toNatClampNeg * k.toNatClampNeg) = _
      rw [hsl]; omega
    · rw [f1]; have := hr.2.1; omega
    · intro q hq
      rw [hold (by have := hr.2.1; omega)]
      exact hr.2.2.1 q hq
    · intro a w c hac
      dsimp only at hac
      split at hac
      · rename_i e
        subst e
        cases hac
        refine ⟨⟨?_, fun _ => trivial⟩, fun _ => by have := hr.2.1; omega⟩
        rw [q1, f2, xouter]
        have ef : (fun j => if j < i.toNatClampNeg then Value.ref (H.size + 1 + j) else Value.null) = fun j => va_rf (if j < i.toNatClampNeg then some (H.size + 1 + j) else none) := by
          funext j
          by_cases hj : j < i.toNatClampNeg
          · rw [if_pos hj, if_pos hj]; rfl
          · rw [if_neg hj, if_neg hj]; rfl
        rw [ef]
        exact congrArg some (vp_cell_q _ _ _).symm
      · split at hac
        · rename_i e1 e2
          cases hac
          have hz := hr.2.1
          refine ⟨⟨?_, fun z => by cases z⟩, fun _ => by omega⟩
          have := hin (a - H.size - 1) (by omega)
          rw [show H.size + 1 + (a - H.size - 1) = a by omega] at this
          rw [this]
          refine congrArg some ?_
          refine Eq.trans ?_ (vp_cell_i _ _ _).symm
          exact arrV_new _ _ _
        · obtain ⟨z1, z2⟩ := hr.2.2.2 a w c hac
          obtain ⟨ce, z3⟩ := z1.size
          exact ⟨z1.kept (hold (Array.getElem?_eq_some_iff.mp z3).1), z2⟩
    · rw [f1]; omega
  · exact x_no
end M4
section M3
variable {G : xG} {own nm : String} {cc : ByteArray} {nL d pc n : Nat} {ret : Option FieldType} {lv : List (Nat × Value)} {st : List Value} {P : PH} {K Kc : Option (xO × PH)}
theorem x_callU_G {d' maxL n' : Nat} {x y : MethodName} {bytes : ByteArray} {rt : Option FieldType} {b index ci : Nat} {r : vw_C} {owner : String} (As rest : List Value) (hct : CT G d' y bytes maxL rt (.ref b :: As) P Kc) (hrc : ∀ z, Kc = some z → xco P b = some ci) (hmd : xMd y bytes maxL rt n') (hr : xcl[ci]? = some r) (hlink : Cond.methodLink own index x ∈ lw_all) (hsame : Cond.sameMethod x.cls owner x.name x.desc ∈ lw_all) (hown : xnoMH owner) (hdecl : (⟨owner, x.name, x.desc⟩ : MethodName) = y ∨ Cond.declares ⟨owner, x.name, x.desc⟩ ∈ lw_tbl ∨ ∃ b0 m0 r0, Cond.instanceMethod ⟨owner, x.name, x.desc⟩ ∈ lw_all ∧ Cond.code ⟨owner, x.name, x.desc⟩ b0 m0 r0 ∈ lw_all) (hin : Cond.instanceMethod y ∈ lw_all) (hsel : Cond.selects r.1 x y ∈ lw_all) (har : xAr x.desc n' = true) (hd : decode cc pc = .ok (.invokevirtual index, 3)) (hAs : As.length = n') (hst : st = As.reverse ++ .ref b :: rest) (hdd : d' < d) (hrest : (rest.map fun v => v.category).sum ≤ 20) (hn : pc + 3 = n) (hK : ∀ r, K = some r → ∃ v P1, Kc = some (.inr v, P1)) (hk : ∀ v P1, Kc = some (.inr v, P1) → X G own nm cc nL ret d n lv (v.toList ++ rest) P1 K) : X G own nm cc nL ret d pc lv st P K := by
  subst hst
  subst hn
  rcases hKz : K with _ | z
  · exact x_no
  rw [← hKz]
  obtain ⟨v0, P0, hKc⟩ := hK z hKz
  have hb := hrc _ hKc
  refine x_calls (len := 3) hct hdd hmd.2.2.1 hmd.1 hmd.2.1 (fun {p e R s m args below meth c} hC {T locs cells slots ls Pre Post} X hr0 hsz hB hpre => ?_) hK hk
  have hts := xok_hts hC
  obtain ⟨cell, h1, h2, h3⟩ := xrecvC hr0 hC.2.2.2.2.2.2.2.2.2.2.2.1 (xok_K hC) hr hb
  obtain ⟨⟨A, hA⟩, -⟩ := hC.2.2.2.2.2.2.2.2.2.2.2.1
  have hde : va_Decl s ⟨owner, x.name, x.desc⟩ := by
    rcases hdecl with e | e | ⟨b0, m0, r0, e1, e2⟩
    · rw [e]; exact va_Decl.of (hts _ hin) (hts _ hmd.1)
    · exact va_Decl.abs (va_Nw.warmD hC.2.2.2.2.2.2.1 (va_Nw.of rfl (hA _ e)))
    · exact va_Decl.of (hts _ e1) (hts _ e2)
  exact va_callVU (g := F0 m pc ls _) X hC.1 hC.2.2.2.2.1 (hts _ hlink) (hts _ hsame) hde hown (hts _ hsel) (hts _ hin) (hts _ hmd.1) hB h1 h2 h3 rfl hsz (argsL := As) (rest := rest) (fun sig h => hAs.trans (xAr_of har sig h)) rfl (by show 2 * 0 + _ ≤ 20; omega) (by rw [hC.2.1]; exact hd) hpre
theorem x_callP_G {d' maxL n' : Nat} {y : MethodName} {bytes : ByteArray} {rt : Option FieldType} {b index ci : Nat} {r : vw_C} (As rest : List Value) (hct : CT G d' y bytes maxL rt (.ref b :: As) P Kc) (hrc : ∀ z, Kc = some z → xco P b = some ci) (hmd : xMd y bytes maxL rt n') (hr : xcl[ci]? = some r) (hlink : Cond.methodLink own index y ∈ lw_all) (hsame : Cond.sameMethod y.cls y.cls y.name y.desc ∈ lw_all) (hpriv : Cond.privateMethod y ∈ lw_tbl) (hin : Cond.instanceMethod y ∈ lw_all) (hd : decode cc pc = .ok (.invokevirtual index, 3)) (hAs : As.length = n') (hst : st = As.reverse ++ .ref b :: rest) (hdd : d' < d) (hrest : (rest.map fun v => v.category).sum ≤ 20) (hn : pc + 3 = n) (hK : ∀ r, K = some r → ∃ v P1, Kc = some (.inr v, P1)) (hk : ∀ v P1, Kc = some (.inr v, P1) → X G own nm cc nL ret d n lv (v.toList ++ rest) P1 K) : X G own nm cc nL ret d pc lv st P K := by
  subst hst
  subst hn
  rcases hKz : K with _ | z
  · exact x_no
  rw [← hKz]
  obtain ⟨v0, P0, hKc⟩ := hK z hKz
  have hb := hrc _ hKc
  refine x_calls (len := 3) hct hdd hmd.2.2.1 hmd.1 hmd.2.1 (fun {p e R s m args below meth c} hC {T locs cells slots ls Pre Post} X hr0 hsz hB hpre => ?_) hK hk
  have hts := xok_hts hC
  obtain ⟨cell, h1, h2, h3⟩ := xrecvC hr0 hC.2.2.2.2.2.2.2.2.2.2.2.1 (xok_K hC) hr hb
  obtain ⟨⟨A, hA⟩, -⟩ := hC.2.2.2.2.2.2.2.2.2.2.2.1
  have hpr : (Cond.privateMethod y).before args s = true := va_any rfl (va_Nw.same (u := (g0 G).setVm s.vm) (U := s) rfl rfl (by show (Cond.privateMethod y).before #[] ((g0 G).setVm s.vm) = true; rw [Cond.privateMethod_setVm hC.2.2.2.2.2.2.1.alike]; exact va_any rfl (hA _ hpriv)))
  obtain ⟨cn, ck, r1, hcn, hck, hni, hf, hn1⟩ := Cond.sameMethod_found (hts _ hsame)
  obtain ⟨mk, methM, hnamed, hmethM, hstM, habM⟩ := Cond.instanceMethod_spec (hts _ hin)
  obtain ⟨methM', cM, hmethM', -, -, -, -, -, -, hsigM⟩ := Cond.code_spec hnamed (hts _ hmd.1)
  cases hmethM.symm.trans hmethM'
  obtain ⟨kP, hkP, hkPn⟩ := className_of_methodNamed hnamed
  have hkPi : kP.isInterface = false := by
    have e1 : s.vm.findClass y.cls = some mk.cls := findClass_of_methodNamed hnamed
    cases hcn.symm.trans e1
    cases hck.symm.trans hkP
    exact hni
  have hselP : selectMethod e.platform s.vm cell.cls mk = .method mk := by
    rw [Launch.admits_selectMethod X.admits]
    exact selectMethod_private hmethM (Cond.privateMethod_at hpr mk methM hnamed hmethM)
  obtain ⟨vm₁, X₁, hstep₁⟩ := X.invokevirtual hC.1 hC.2.2.2.2.1 (hts _ hlink) hnamed hmethM hstM hkP hkPi hmd.2.2.2.2 (a := b) (cell := cell) h1
    (fun z h => by rw [h] at h2; cases h2) hselP hmethM habM hkP hkPi (g := F0 m pc ls (As.reverse ++ .ref b :: rest)) rfl (argsL := As) (rest := rest) ((fun sig h => hAs.trans (xAr_of hmd.2.2.2.1 sig h)) _ hsigM) rfl (by rw [hC.2.1]; exact hd)
  obtain ⟨v, B, X', hpost, hsteps⟩ := hB m meth c ⟨T.setVm vm₁, locs, cells, slots⟩ { (F0 m pc ls (As.reverse ++ .ref b :: rest)) with stack := rest } (.invokevirtual index) mk (Value.ref b :: As).toArray X₁ rfl hsz (by rw [hC.2.1]; exact hd) (by show 2 * 0 + (rest.map fun v => v.category).sum ≤ 20; omega) (X₁.named hnamed) (hpre vm₁ X₁.warmed)
  exact ⟨v, vm₁, B, X₁.warmed, X', hpost, fun target h => hstep₁ _ fun acts => by rw [doInvoke_state]; exact hsteps.trans h⟩
theorem x_callP_I {d' maxL n' : Nat} {y : MethodName} {bytes : ByteArray} {rt : Option FieldType} {b index ci : Nat} {r : vw_C} {K2 : Int32 → PH → Option (xO × PH)} (As rest : List Value) (hct : CT G d' y bytes maxL rt (.ref b :: As) P Kc) (hrc : ∀ z, Kc = some z → xco P b = some ci) (hmd : xMd y bytes maxL rt n') (hr : xcl[ci]? = some r) (hlink : Cond.methodLink own index y ∈ lw_all) (hsame : Cond.sameMethod y.cls y.cls y.name y.desc ∈ lw_all) (hpriv : Cond.privateMethod y ∈ lw_tbl) (hin : Cond.instanceMethod y ∈ lw_all) (hd : decode cc pc = .ok (.invokevirtual index, 3)) (hAs : As.length = n') (hst : st = As.reverse ++ .ref b :: rest) (hdd : d' < d) (hrest : (rest.map fun v => v.category).sum ≤ 20) (hn : pc + 3 = n) (hk : ∀ x P1, X G own nm cc nL ret d n lv (.int x :: rest) P1 (K2 x P1)) : X G own nm cc nL ret d pc lv st P (xcI Kc K2) :=
  x_callP_G As rest hct hrc hmd hr hlink hsame hpriv hin hd hAs hst hdd hrest hn xcI_some (fun v P1 e => x_rI e hk)
theorem x_callP_R {d' maxL n' : Nat} {y : MethodName} {bytes : ByteArray} {rt : Option FieldType} {b index ci : Nat} {r : vw_C} {K2 : Option Nat → PH → Option (xO × PH)} (As rest : List Value) (hct : CT G d' y bytes maxL rt (.ref b :: As) P Kc) (hrc : ∀ z, Kc = some z → xco P b = some ci) (hmd : xMd y bytes maxL rt n') (hr : xcl[ci]? = some r) (hlink : Cond.methodLink own index y ∈ lw_all) (hsame : Cond.sameMethod y.cls y.cls y.name y.desc ∈ lw_all) (hpriv : Cond.privateMethod y ∈ lw_tbl) (hin : Cond.instanceMethod y ∈ lw_all) (hd : decode cc pc = .ok (.invokevirtual index, 3)) (hAs : As.length = n') (hst : st = As.reverse ++ .ref b :: rest) (hdd : d' < d) (hrest : (rest.map fun v => v.category).sum ≤ 20) (hn : pc + 3 = n) (hk : ∀ x P1, X G own nm cc nL ret d n lv (va_rf x :: rest) P1 (K2 x P1)) : X G own nm cc nL ret d pc lv st P (xcR Kc K2) :=
  x_callP_G As rest hct hrc hmd hr hlink hsame hpriv hin hd hAs hst hdd hrest hn xcR_some (fun v P1 e => x_rR e hk)
theorem x_callP_V {d' maxL n' : Nat} {y : MethodName} {bytes : ByteArray} {rt : Option FieldType} {b index ci : Nat} {r : vw_C} {K2 : PH → Option (xO × PH)} (As rest : List Value) (hct : CT G d' y bytes maxL rt (.ref b :: As) P Kc) (hrc : ∀ z, Kc = some z → xco P b = some ci) (hmd : xMd y bytes maxL rt n') (hr : xcl[ci]? = some r) (hlink : Cond.methodLink own index y ∈ lw_all) (hsame : Cond.sameMethod y.cls y.cls y.name y.desc ∈ lw_all) (hpriv : Cond.privateMethod y ∈ lw_tbl) (hin : Cond.instanceMethod y ∈ lw_all) (hd : decode cc pc = .ok (.invokevirtual index, 3)) (hAs : As.length = n') (hst : st = As.reverse ++ .ref b :: rest) (hdd : d' < d) (hrest : (rest.map fun v => v.category).sum ≤ 20) (hn : pc + 3 = n) (hk : ∀ P1, X G own nm cc nL ret d n lv rest P1 (K2 P1)) : X G own nm cc nL ret d pc lv st P (xcV Kc K2) :=
  x_callP_G As rest hct hrc hmd hr hlink hsame hpriv hin hd hAs hst hdd hrest hn xcV_some (fun v P1 e => x_rV e hk)
theorem x_ldcw {index : Nat} (v : Int32) (hd : decode cc pc = .ok (.ldc_w index, 3)) (hw : Cond.constant own index v ∈ lw_all) (hn : pc + 3 = n) (k : X G own nm cc nL ret d n lv (.int v :: st) P K) : X G own nm cc nL ret d pc lv st P K := by
  subst hn; exact x_pure (fun hx hb hts ho hl k => lv_ldcw hx hb ho (hts _ hw) hd (k _ hl)) k
theorem x_callSU_G {d' maxL n' : Nat} {y : MethodName} {bytes : ByteArray} {rt : Option FieldType} {b index ci : Nat} {r : vw_C} (As rest : List Value) (hct : CT G d' y bytes maxL rt (.ref b :: As) P Kc) (hrc : ∀ z, Kc = some z → xco P b = some ci) (hmd : xMd y bytes maxL rt n') (hr : xcl[ci]? = some r) (hlink : Cond.methodLink own index y ∈ lw_all) (hsame : Cond.sameMethod y.cls y.cls y.name y.desc ∈ lw_all) (hsup : Cond.superclass own y.cls ∈ lw_all) (hno : y.name ≠ "<init>") (hin : Cond.instanceMethod y ∈ lw_all) (hd : decode cc pc = .ok (.invokespecial index, 3)) (hAs : As.length = n') (hst : st = As.reverse ++ .ref b :: rest) (hdd : d' < d) (hrest : (rest.map fun v => v.category).sum ≤ 20) (hn : pc + 3 = n) (hK : ∀ r, K = some r → ∃ v P1, Kc = some (.inr v, P1)) (hk : ∀ v P1, Kc = some (.inr v, P1) → X G own nm cc nL ret d n lv (v.toList ++ rest) P1 K) : X G own nm cc nL ret d pc lv st P K := by
  subst hst
  subst hn
  rcases hKz : K with _ | z
  · exact x_no
  rw [← hKz]
  obtain ⟨v0, P0, hKc⟩ := hK z hKz
  have hb := hrc _ hKc
  refine x_calls (len := 3) hct hdd hmd.2.2.1 hmd.1 hmd.2.1 (fun {p e R s m args below meth c} hC {T locs cells slots ls Pre Post} X hr0 hsz hB hpre => ?_) hK hk
  have hts := xok_hts hC
  obtain ⟨cell, h1, h2, h3⟩ := xrecvC hr0 hC.2.2.2.2.2.2.2.2.2.2.2.1 (xok_K hC) hr hb
  obtain ⟨kB, hkB, -⟩ := Vm.findClass_spec h3
  exact va_callSU (g := F0 m pc ls _) X hC.1 hC.2.2.2.2.1 (hts _ hlink) (hts _ hsame) (hts _ hsup) (hts _ hin) (hts _ hmd.1) hno hB h1 h2 hkB rfl hsz (argsL := As) (rest := rest) (fun sig h => hAs.trans (xAr_of hmd.2.2.2.1 sig h)) rfl (by show 2 * 0 + _ ≤ 20; omega) (by rw [hC.2.1]; exact hd) hpre
theorem x_callU_I {d' maxL n' : Nat} {x y : MethodName} {bytes : ByteArray} {rt : Option FieldType} {b index ci : Nat} {r : vw_C} {owner : String} {K2 : Int32 → PH → Option (xO × PH)} (As rest : List Value) (hct : CT G d' y bytes maxL rt (.ref b :: As) P Kc) (hrc : ∀ z, Kc = some z → xco P b = some ci) (hmd : xMd y bytes maxL rt n') (hr : xcl[ci]? = some r) (hlink : Cond.methodLink own index x ∈ lw_all) (hsame : Cond.sameMethod x.cls owner x.name x.desc ∈ lw_all) (hown : xnoMH owner) (hdecl : (⟨owner, x.name, x.desc⟩ : MethodName) = y ∨ Cond.declares ⟨owner, x.name, x.desc⟩ ∈ lw_tbl ∨ ∃ b0 m0 r0, Cond.instanceMethod ⟨owner, x.name, x.desc⟩ ∈ lw_all ∧ Cond.code ⟨owner, x.name, x.desc⟩ b0 m0 r0 ∈ lw_all) (hin : Cond.instanceMethod y ∈ lw_all) (hsel : Cond.selects r.1 x y ∈ lw_all) (har : xAr x.desc n' = true) (hd : decode cc pc = .ok (.invokevirtual index, 3)) (hAs : As.length = n') (hst : st = As.reverse ++ .ref b :: rest) (hdd : d' < d) (hrest : (rest.map fun v => v.category).sum ≤ 20) (hn : pc + 3 = n) (hk : ∀ x P1, X G own nm cc nL ret d n lv (.int x :: rest) P1 (K2 x P1)) : X G own nm cc nL ret d pc lv st P (xcI Kc K2) :=
  x_callU_G As rest hct hrc hmd hr hlink hsame hown hdecl hin hsel har hd hAs hst hdd hrest hn xcI_some (fun v P1 e => x_rI e hk)
theorem x_callSU_I {d' maxL n' : Nat} {y : MethodName} {bytes : ByteArray} {rt : Option FieldType} {b index ci : Nat} {r : vw_C} {K2 : Int32 → PH → Option (xO × PH)} (As rest : List Value) (hct : CT G d' y bytes maxL rt (.ref b :: As) P Kc) (hrc : ∀ z, Kc = some z → xco P b = some ci) (hmd : xMd y bytes maxL rt n') (hr : xcl[ci]? = some r) (hlink : Cond.methodLink own index y ∈ lw_all) (hsame : Cond.sameMethod y.cls y.cls y.name y.desc ∈ lw_all) (hsup : Cond.superclass own y.cls ∈ lw_all) (hno : y.name ≠ "<init>") (hin : Cond.instanceMethod y ∈ lw_all) (hd : decode cc pc = .ok (.invokespecial index, 3)) (hAs : As.length = n') (hst : st = As.reverse ++ .ref b :: rest) (hdd : d' < d) (hrest : (rest.map fun v => v.category).sum ≤ 20) (hn : pc + 3 = n) (hk : ∀ x P1, X G own nm cc nL ret d n lv (.int x :: rest) P1 (K2 x P1)) : X G own nm cc nL ret d pc lv st P (xcI Kc K2) :=
  x_callSU_G As rest hct hrc hmd hr hlink hsame hsup hno hin hd hAs hst hdd hrest hn xcI_some (fun v P1 e => x_rI e hk)
theorem x_callU_R {d' maxL n' : Nat} {x y : MethodName} {bytes : ByteArray} {rt : Option FieldType} {b index ci : Nat} {r : vw_C} {owner : String} {K2 : Option Nat → PH → Option (xO × PH)} (As rest : List Value) (hct : CT G d' y bytes maxL rt (.ref b :: As) P Kc) (hrc : ∀ z, Kc = some z → xco P b = some ci) (hmd : xMd y bytes maxL rt n') (hr : xcl[ci]? = some r) (hlink : Cond.methodLink own index x ∈ lw_all) (hsame : Cond.sameMethod x.cls owner x.name x.desc ∈ lw_all) (hown : xnoMH owner) (hdecl : (⟨owner, x.name, x.desc⟩ : MethodName) = y ∨ Cond.declares ⟨owner, x.name, x.desc⟩ ∈ lw_tbl ∨ ∃ b0 m0 r0, Cond.instanceMethod ⟨owner, x.name, x.desc⟩ ∈ lw_all ∧ Cond.code ⟨owner, x.name, x.desc⟩ b0 m0 r0 ∈ lw_all) (hin : Cond.instanceMethod y ∈ lw_all) (hsel : Cond.selects r.1 x y ∈ lw_all) (har : xAr x.desc n' = true) (hd : decode cc pc = .ok (.invokevirtual index, 3)) (hAs : As.length = n') (hst : st = As.reverse ++ .ref b :: rest) (hdd : d' < d) (hrest : (rest.map fun v => v.category).sum ≤ 20) (hn : pc + 3 = n) (hk : ∀ x P1, X G own nm cc nL ret d n lv (va_rf x :: rest) P1 (K2 x P1)) : X G own nm cc nL ret d pc lv st P (xcR Kc K2) :=
  x_callU_G As rest hct hrc hmd hr hlink hsame hown hdecl hin hsel har hd hAs hst hdd hrest hn xcR_some (fun v P1 e => x_rR e hk)
theorem x_callSU_R {d' maxL n' : Nat} {y : MethodName} {bytes : ByteArray} {rt : Option FieldType} {b index ci : Nat} {r : vw_C} {K2 : Option Nat → PH → Option (xO × PH)} (As rest : List Value) (hct : CT G d' y bytes maxL rt (.ref b :: As) P Kc) (hrc : ∀ z, Kc = some z → xco P b = some ci) (hmd : xMd y bytes maxL rt n') (hr : xcl[ci]? = some r) (hlink : Cond.methodLink own index y ∈ lw_all) (hsame : Cond.sameMethod y.cls y.cls y.name y.desc ∈ lw_all) (hsup : Cond.superclass own y.cls ∈ lw_all) (hno : y.name ≠ "<init>") (hin : Cond.instanceMethod y ∈ lw_all) (hd : decode cc pc = .ok (.invokespecial index, 3)) (hAs : As.length = n') (hst : st = As.reverse ++ .ref b :: rest) (hdd : d' < d) (hrest : (rest.map fun v => v.category).sum ≤ 20) (hn : pc + 3 = n) (hk : ∀ x P1, X G own nm cc nL ret d n lv (va_rf x :: rest) P1 (K2 x P1)) : X G own nm cc nL ret d pc lv st P (xcR Kc K2) :=
  x_callSU_G As rest hct hrc hmd hr hlink hsame hsup hno hin hd hAs hst hdd hrest hn xcR_some (fun v P1 e => x_rR e hk)
theorem x_callU_V {d' maxL n' : Nat} {x y : MethodName} {bytes : ByteArray} {rt : Option FieldType} {b index ci : Nat} {r : vw_C} {owner : String} {K2 : PH → Option (xO × PH)} (As rest : List Value) (hct : CT G d' y bytes maxL rt (.ref b :: As) P Kc) (hrc : ∀ z, Kc = some z → xco P b = some ci) (hmd : xMd y bytes maxL rt n') (hr : xcl[ci]? = some r) (hlink : Cond.methodLink own index x ∈ lw_all) (hsame : Cond.sameMethod x.cls owner x.name x.desc ∈ lw_all) (hown : xnoMH owner) (hdecl : (⟨owner, x.name, x.desc⟩ : MethodName) = y ∨ Cond.declares ⟨owner, x.name, x.desc⟩ ∈ lw_tbl ∨ ∃ b0 m0 r0, Cond.instanceMethod ⟨owner, x.name, x.desc⟩ ∈ lw_all ∧ Cond.code ⟨owner, x.name, x.desc⟩ b0 m0 r0 ∈ lw_all) (hin : Cond.instanceMethod y ∈ lw_all) (hsel : Cond.selects r.1 x y ∈ lw_all) (har : xAr x.desc n' = true) (hd : decode cc pc = .ok (.invokevirtual index, 3)) (hAs : As.length = n') (hst : st = As.reverse ++ .ref b :: rest) (hdd : d' < d) (hrest : (rest.map fun v => v.category).sum ≤ 20) (hn : pc + 3 = n) (hk : ∀ P1, X G own nm cc nL ret d n lv rest P1 (K2 P1)) : X G own nm cc nL ret d pc lv st P (xcV Kc K2) :=
  x_callU_G As rest hct hrc hmd hr hlink hsame hown hdecl hin hsel har hd hAs hst hdd hrest hn xcV_some (fun v P1 e => x_rV e hk)
theorem x_callSU_V {d' maxL n' : Nat} {y : MethodName} {bytes : ByteArray} {rt : Option FieldType} {b index ci : Nat} {r : vw_C} {K2 : PH → Option (xO × PH)} (As rest : List Value) (hct : CT G d' y bytes maxL rt (.ref b :: As) P Kc) (hrc : ∀ z, Kc = some z → xco P b = some ci) (hmd : xMd y bytes maxL rt n') (hr : xcl[ci]? = some r) (hlink : Cond.methodLink own index y ∈ lw_all) (hsame : Cond.sameMethod y.cls y.cls y.name y.desc ∈ lw_all) (hsup : Cond.superclass own y.cls ∈ lw_all) (hno : y.name ≠ "<init>") (hin : Cond.instanceMethod y ∈ lw_all) (hd : decode cc pc = .ok (.invokespecial index, 3)) (hAs : As.length = n') (hst : st = As.reverse ++ .ref b :: rest) (hdd : d' < d) (hrest : (rest.map fun v => v.category).sum ≤ 20) (hn : pc + 3 = n) (hk : ∀ P1, X G own nm cc nL ret d n lv rest P1 (K2 P1)) : X G own nm cc nL ret d pc lv st P (xcV Kc K2) :=
  x_callSU_G As rest hct hrc hmd hr hlink hsame hsup hno hin hd hAs hst hdd hrest hn xcV_some (fun v P1 e => x_rV e hk)
end M3


/-! throwing -/
/-- the frame at pc with q thrown over it refines K -/
def XTh (G : xG) (own nm : String) (cc : ByteArray) (nL : Nat) (ret : Option FieldType) (d pc : Nat) (lv : List (Nat × Value)) (q : Nat) (P : PH) (K : Option (xO × PH)) : Prop :=
  ∀ (o : xO) (P' : PH), K = some (o, P') → xLe P P' ∧ (xLim G P' → ∀ (p : Program) (e : Env) (R : Room) (s : State) (m : MethodId) (args : Array Value) (below : List Frame) (meth : Method) (c : Code), xok G (p, e, R, s, m, args, below, meth, c) own nm cc nL ret d → ∀ (H : Heap) (locs : List Loc) (cells slots : Nat) (ls : Array Slot) (st : List Value), xr G P H → xS G s H locs → lv_has ls nL lv → ∀ T : State, T.heap = H → Stand p (gl G) e R s m args below meth c T locs cells slots → ∃ t, Steps p.tables e below ((T.setTop (F0 m pc ls st)).pushFrame (.throwing q)) t ∧ xQ G below s o P' t)
theorem xtight3 {p : Program} {l : Launch} {e : Env} {R : Room} {s : State} {m : MethodId} {args : Array Value} {below : List Frame} {meth : Method} {c : Code} {T : State} {locs : List Loc} {cells slots : Nat} (X : Stand p l e R s m args below meth c T locs cells slots) : Stand p l e R s m args below meth c T locs (T.heap.size - s.heap.size) (xsl T.heap - xsl s.heap) ∧ xsl s.heap ≤ xsl T.heap ∧ s.heap.size ≤ T.heap.size := by
  obtain ⟨q1, q2, q3, q4, q5, q6⟩ := id X.same
  have hsz : xsl T.heap = xsl s.heap + ((T.heap.toList.drop s.heap.size).map (fun c => c.slots.size)).sum := by
    refine xsl_split (fun q x hx => ?_) q2
    obtain ⟨c', h1, -, h3, -⟩ := q6 q x hx
    exact ⟨c', h1, h3⟩
  have q2' : s.heap.size ≤ T.heap.size := q2
  refine ⟨{ X with same := ⟨q1, q2, ?_, q4, ?_, q6⟩ }, by omega, q2'⟩
  · show T.heap.size ≤ _; omega
  · show ((T.heap.toList.drop s.heap.size).map (fun c => c.slots.size)).sum ≤ _; omega
section THR
variable {G : xG} {own nm : String} {cc : ByteArray} {nL d pc n : Nat} {ret : Option FieldType} {lv : List (Nat × Value)} {st : List Value} {P : PH} {K Kc : Option (xO × PH)}
theorem x_athrow {q : Nat} (hd : decode cc pc = .ok (.athrow, 1)) (k : XTh G own nm cc nL ret d pc lv q P K) : X G own nm cc nL ret d pc lv (.ref q :: st) P K := by
  intro o P' h
  obtain ⟨h1, h2⟩ := k o P' h
  refine ⟨h1, fun hl p e R s m args below meth c hC H locs cells slots ls hr hS hv T hT X => ?_⟩
  obtain ⟨t, st', hq⟩ := h2 hl p e R s m args below meth c hC H locs cells slots ls st hr hS hv T hT X
  refine ⟨t, ?_, hq⟩
  have hexec := hC.1
  have hdg' : decode c.code pc = .ok (.athrow, 1) := by rw [hC.2.1]; exact hd
  jvm_step X.here [X.here.top, hexec, hdg', athrow.wp_sem]
  exact st'
/-- not caught here -/
theorem xt_out {q : Nat} (htb : (xtb own nm).all (fun h => !(decide (h.1 ≤ pc) && decide (pc < h.2.1))) = true) : XTh G own nm cc nL ret d pc lv q P (rT q P) := by
  intro o P' h
  cases h
  refine ⟨xLe.rf, fun hl p e R s m args below meth c hC H locs cells slots ls st hr hS hv T hT X => ?_⟩
  obtain ⟨X', hle, hle2⟩ := xtight3 X
  have hout : ∀ x ∈ c.exceptionTable.toList, covers x pc = false := by
    intro x hx
    have h1 : (x.startPc, x.endPc, x.handlerPc, x.catchType) ∈ xtb own nm := by
      rw [← hC.2.2.2.2.2.2.2.2.2.2.2.2.2]
      exact List.mem_map.mpr ⟨x, hx, rfl⟩
    have h2 := List.all_eq_true.mp htb _ h1
    simp only [covers, Bool.not_eq_true', Bool.and_eq_false_imp, decide_eq_true_eq, decide_eq_false_iff_not] at h2 ⊢
    exact h2
  obtain ⟨st1, hrun, hend, hW, hsm⟩ := X'.leaveThrown q (g := F0 m pc ls st) rfl rfl rfl hout hC.2.2.2.2.2.1
  have e1 := hr.1.1
  have e2 := hr.1.2.1
  have e3 := hl.1
  have e4 := hl.2
  subst hT
  exact ⟨_, st1, .threw q, hrun, hend, rfl, by show xr G P T.heap; exact hr, hW, locs, hsm.mono (by omega) (by omega), hS.2⟩
theorem x_throw {q : Nat} (hd : decode cc pc = .ok (.athrow, 1)) (htb : (xtb own nm).all (fun h => !(decide (h.1 ≤ pc) && decide (pc < h.2.1))) = true) : X G own nm cc nL ret d pc lv (.ref q :: st) P (rT q P) :=
  x_athrow hd (xt_out htb)
/-- a callee that may throw -/
theorem x_backT {l : Launch} {R : Room} {p : Program} {e : Env} {below : List Frame} {s : State} {sargs : Array Value} {y : MethodName} {len W9 : Nat} {bytes : ByteArray} {maxL : Nat} {rt : Option FieldType} {rm : Room} {Pc : Array Value → State → Prop} {E : Array Value → State → Outcome → State → Prop} {q : Nat} {mc ms : Nat}
    (hM : MetFree l y (headSpec [Cond.code y bytes maxL rt] rm) Pc (fun _ _ _ _ _ => True) E) (hE : ∀ a st oc t, E a st oc t → oc = .threw q ∧ st.WarmedH t.vm ∧ ∃ L, st.sameButNew ({ t with vm := st.vm } : State) L mc ms ∧ ∀ z ∈ L, gZ G ≤ z.base) (hblind : FrameBlind Pc) (hrc : rm.cells = mc) (hrs : rm.slots = ms)
    (hframes : rm.frames + 1 ≤ R.frames) (hlocals : W9 + (maxL + 11) + rm.locals ≤ R.locals)
    (hcode : ∀ a' U, s.WarmedH U.vm → (Cond.code y bytes maxL rt).before a' U = true) (hinit : ∀ a' U, s.WarmedH U.vm → (Cond.initialized y.cls).before a' U = true)
    (m : MethodId) (meth : Method) (c : Code) (A : Pt) (g : JFrame) (ig : Instr) (mk : MethodId) (a : Array Value)
    (X : Stand p l e R s m sargs below meth c A.U A.locs A.cells A.slots) (hg : g.method = m) (hsize : g.locals.size = c.maxLocals) (hdg : decode c.code g.pc = .ok (ig, len))
    (hW : 2 * g.monitorRoom + (g.stack.map fun v => v.category).sum ≤ W9) (hn : A.U.methodNamed? y = some mk) (hc4 : A.cells + mc ≤ R.cells) (hc5 : A.slots + ms ≤ R.slots) (hp : Pc a A.U) :
    ∃ (t : State) (B : Pt) (L : List Loc), Stand p l e R s m sargs below meth c B.U B.locs B.cells B.slots ∧ B.U.heap = t.heap ∧ (∃ st oc, E a st oc t) ∧ B.locs = A.locs ++ L ∧ (∀ z ∈ L, gZ G ≤ z.base) ∧
      Steps p.tables e below (doInvoke e (A.U.setTop g) [] mk a).1 ((B.U.setTop g).pushFrame (.throwing q)) := by
  have h1 : (headSpec [Cond.code y bytes maxL rt] rm).pre.before a A.U = true := atoms_intro fun w hw => by rw [List.mem_singleton.mp hw]; exact hcode _ _ X.warmed
  have h2 : (Cond.code y bytes maxL rt).before a A.U = true := hcode _ _ X.warmed
  have h3 : (Cond.initialized y.cls).before a A.U = true := hinit _ _ X.warmed
  have h4 : A.cells + (headSpec [Cond.code y bytes maxL rt] rm).room.cells ≤ R.cells := by rw [show (headSpec [Cond.code y bytes maxL rt] rm).room.cells = mc from hrc]; exact hc4
  have h5 : A.slots + (headSpec [Cond.code y bytes maxL rt] rm).room.slots ≤ R.slots := by rw [show (headSpec [Cond.code y bytes maxL rt] rm).room.slots = ms from hrs]; exact hc5
  have hPc : Pc a (A.U.calling g mk a) := hblind _ _ _ _ hp
  obtain ⟨U, Ls, c0, s0⟩ := A
  dsimp only [Pt.U, Pt.locs, Pt.cells, Pt.slots] at h1 h2 h3 h4 h5 X hn hPc ⊢
  obtain ⟨methY, cY, hmY, hcY, -, hlY, -, -, -, -⟩ := Cond.code_spec hn h2
  obtain ⟨kY, hkY, -⟩ := className_of_methodNamed hn
  have hinitY : kY.init = .initialized := Cond.initialized_spec (findClass_of_methodNamed hn) hkY h3
  have h : At U g.method c below := by rw [hg]; exact X.here
  have hlocals9 : W9 + (maxL + 11) + (headSpec [Cond.code y bytes maxL rt] rm).room.locals ≤ R.locals := hlocals
  have happ : (headSpec [Cond.code y bytes maxL rt] rm).appliesLoose y e.platform (U.calling g mk a) = true :=
    Spec.appliesLoose_calling (g := g) h hdg hn hkY hinitY
      (X.room_calling (g := g) (R' := (headSpec [Cond.code y bytes maxL rt] rm).room) hsize hmY hcY hframes (by rw [hlY]; omega) h4 h5) h1
  obtain ⟨mid, hmid⟩ := h.above
  have hfr : (U.setTop g).frames = (.java g :: mid) ++ below := by rw [State.frames_setTop' g h.top, hmid]; rfl
  obtain ⟨o, s₂, hsteps, -, hend, hq⟩ := Steps.callFree hM p X.admits X.cas X.clock (acts := []) hfr happ hPc trivial
  obtain ⟨rfl, hW₂, L, hsm, hL⟩ := hE _ _ _ _ hq
  rw [State.frames_setTop' g h.top] at hend
  obtain ⟨g₀, hg0⟩ := Option.isSome_iff_exists.mp h.top
  obtain ⟨r, hr⟩ := State.topJava?_eq_some.mp hg0
  have hr' : (({ U with heap := s₂.heap, slotsUsed := s₂.slotsUsed } : State).setVm s₂.vm).frames = .java g₀ :: r := hr
  obtain ⟨e2, q2, q3, q4, q5, q6⟩ := id hsm
  have e3 : s₂ = ({ (U.calling g mk a).setFrames s₂.frames with heap := s₂.heap, slotsUsed := s₂.slotsUsed } : State).setVm s₂.vm := by
    have : s₂ = ({ s₂ with vm := (U.calling g mk a).vm } : State).setVm s₂.vm := rfl
    exact this.trans (congrArg (fun z : State => z.setVm s₂.vm) e2)
  have hf₂ : s₂.frames = .throwing q :: .java g :: U.frames.tail := hend
  have hW' : U.WarmedH s₂.vm := hW₂
  have hs₂ : s₂ = ((({ U with heap := s₂.heap, slotsUsed := s₂.slotsUsed } : State).setVm s₂.vm).setTop g).pushFrame (.throwing q) := by
    refine e3.trans ?_
    rw [hf₂, State.calling_eq h.top, State.setFrames_setFrames, State.pushFrame, State.frames_setTop _ hr', State.setTop_of_frames _ hr', State.setFrames_setFrames, hr]
    rfl
  have hsame : U.sameButNew ({ U with heap := s₂.heap, slotsUsed := s₂.slotsUsed } : State) L mc ms := by
    refine ⟨?_, q2, q3, q4, q5, q6⟩
    obtain ⟨t, ht, -⟩ := State.frames_cons hr
    show ({ U with heap := s₂.heap, slotsUsed := s₂.slotsUsed } : State) = { U.setFrames U.frames with heap := s₂.heap, slotsUsed := s₂.slotsUsed }
    rw [State.setFrames_self ht]
  subst hg
  refine ⟨s₂, ⟨(({ U with heap := s₂.heap, slotsUsed := s₂.slotsUsed } : State).setVm s₂.vm), Ls ++ L, c0 + mc, s0 + ms⟩, L,
    ⟨X.admits, X.cas, X.clock, X.frames, X.room, X.hears, X.method, X.code, (X.here.setHeapUsed s₂.heap s₂.slotsUsed).setVm hW'.alike, X.tail, State.WarmedH.trans X.warmed hW', X.limits, X.bytes, X.same.trans (hsame.setVm s.vm)⟩,
    rfl, ⟨_, _, hq⟩, rfl, hL, ?_⟩
  show Steps p.tables e below _ (((({ U with heap := s₂.heap, slotsUsed := s₂.slotsUsed } : State).setVm s₂.vm).setTop g).pushFrame (.throwing q))
  rw [← hs₂]
  exact hsteps
/-- a virtual call of a method that may throw -/
theorem x_callVT_G {d' maxL n' : Nat} {y : MethodName} {bytes : ByteArray} {rt : Option FieldType} {b index ci : Nat} {r : vw_C} (As rest : List Value) (hct : CT G d' y bytes maxL rt (.ref b :: As) P Kc) (hrc : ∀ z, Kc = some z → xco P b = some ci) (hmd : xMd y bytes maxL rt n') (hr : xcl[ci]? = some r) (hlink : Cond.methodLink own index y ∈ lw_all) (hin : Cond.instanceMethod y ∈ lw_all) (hsel : Cond.selects r.1 y y ∈ lw_all) (hd : decode cc pc = .ok (.invokevirtual index, 3)) (hAs : As.length = n') (hst : st = As.reverse ++ .ref b :: rest) (hdd : d' < d) (hrest : (rest.map fun v => v.category).sum ≤ 20) (hn : pc + 3 = n) (hK : ∀ r, K = some r → ∃ z, Kc = some z) (hk : ∀ v P1, Kc = some (.inr v, P1) → X G own nm cc nL ret d n lv (v.toList ++ rest) P1 K) (hx : ∀ q P1, Kc = some (.inl q, P1) → XTh G own nm cc nL ret d pc lv q P1 K) : X G own nm cc nL ret d pc lv st P K := by
  rcases hKz : K with _ | z
  · exact x_no
  rw [← hKz]
  obtain ⟨⟨o1, P1⟩, hKc⟩ := hK z hKz
  rcases o1 with q | v
  · subst hst
    subst hn
    have hb := hrc _ hKc
    intro o P' h
    obtain ⟨g1, g2⟩ := hx q P1 hKc o P' h
    obtain ⟨c1, c2⟩ := hct (.inl q) P1 hKc
    refine ⟨⟨Nat.le_trans c1.1 g1.1, Nat.le_trans c1.2 g1.2⟩, fun hl p e R s m args below meth c hC H locs cells slots ls hr1 hS hv => ?_⟩
    have hl1 : xLim G P1 := ⟨Nat.le_trans g1.1 hl.1, Nat.le_trans g1.2 hl.2⟩
    have q1 := hC.2.2.2.2.2.2.2.1
    have q2 := hC.2.2.2.2.2.2.2.2.1
    have hts := xok_hts hC
    refine xtight2 fun hle => ?_
    intro T hT X
    have h1 := hr1.1.1
    have h2 := hr1.1.2.1
    have h3 := hC.2.2.2.2.2.2.2.2.2.1
    have h4 := hC.2.2.2.2.2.2.2.2.2.2.1
    have h5 := hS.1
    have h6 := c1.1
    have h7 := c1.2
    have h8 := hl1.1
    have h9 := hl1.2
    have h10 := hmd.2.2.1
    obtain ⟨cell, j1, j2, j3⟩ := xrecvC hr1 hC.2.2.2.2.2.2.2.2.2.2.2.1 (xok_K hC) hr hb
    obtain ⟨mk, methM, hnamed, hmethM, hstM, habM⟩ := Cond.instanceMethod_spec (hts _ hin)
    obtain ⟨methM', cM, hmethM', -, -, -, -, -, -, hsigM⟩ := Cond.code_spec hnamed (hts _ hmd.1)
    cases hmethM.symm.trans hmethM'
    obtain ⟨cc2, r2, m2, k1, k2, k3, k4, kP, hkP, hkPi⟩ := Cond.selects_spec (hts _ hsel)
    cases j3.symm.trans k1
    cases (State.methodFound?_of_named hnamed hmd.2.2.2.2).symm.trans k2
    cases hnamed.symm.trans k3
    have hselP : selectMethod e.platform s.vm cell.cls mk = .method mk := by rw [Launch.admits_selectMethod X.admits]; exact k4
    obtain ⟨vm₁, X₁, hstep₁⟩ := X.invokevirtual hC.1 hC.2.2.2.2.1 (hts _ hlink) hnamed hmethM hstM hkP hkPi hmd.2.2.2.2 (a := b) (cell := cell) (by rw [hT]; exact j1)
      (fun z h => by rw [h] at j2; cases j2) hselP hmethM habM hkP hkPi (g := F0 m pc ls (As.reverse ++ .ref b :: rest)) rfl (argsL := As) (rest := rest) ((fun sig h => hAs.trans (xAr_of hmd.2.2.2.1 sig h)) _ hsigM) rfl (by rw [hC.2.1]; exact hd)
    obtain ⟨t, B, L, X', e1, ⟨st0, oc, e2⟩, e3, e4, hsteps⟩ := x_backT (G := G) (mc := gC G - P.2.1) (ms := gS G - P.2.2.1) (W9 := 20) (c2 hl1) (fun a st oc t h => ⟨h.1, h.2.2.1, h.2.2.2⟩) (fun a U g mk h => h) rfl rfl (by show d' + 1 ≤ R.frames; omega) (by show 20 + (maxL + 11) + 90 * d' ≤ R.locals; omega) (fun a' U hW => word_at hW (lw_self _ hmd.1).2 (hts _ hmd.1)) (fun a' U hW => word_at hW (lw_self _ hmd.2.1).2 (hts _ hmd.2.1))
      m meth c ⟨T.setVm vm₁, locs, H.size - s.heap.size, xsl H - xsl s.heap⟩ { (F0 m pc ls (As.reverse ++ .ref b :: rest)) with stack := rest } (.invokevirtual index) mk (Value.ref b :: As).toArray X₁ rfl (hv.1.trans hC.2.2.2.1.symm) (by rw [hC.2.1]; exact hd) (by show 2 * 0 + (rest.map fun v => v.category).sum ≤ 20; omega) (X₁.named hnamed) (by show (H.size - s.heap.size) + (gC G - P.2.1) ≤ R.cells; omega) (by show (xsl H - xsl s.heap) + (gS G - P.2.2.1) ≤ R.slots; omega) ⟨rfl, State.WarmedH.trans hC.2.2.2.2.2.2.1 X₁.warmed, by show xr G P T.heap; rw [hT]; exact hr1⟩
    obtain ⟨t', a1, b1⟩ := g2 hl p e R s m args below meth c hC t.heap B.locs B.cells B.slots ls rest e2.2.1 ⟨by rw [← e1]; exact X'.same.2.1, fun l hl => by
      rw [e3] at hl
      rcases List.mem_append.mp hl with hl | hl
      · exact hS.2 l hl
      · exact e4 l hl⟩ hv B.U e1 X'
    exact ⟨t', hstep₁ _ fun acts => by rw [doInvoke_state]; exact hsteps.trans a1, b1⟩
  · refine x_callV_G As rest hct hrc hmd hr hlink hin hsel hd hAs hst hdd hrest hn (fun r h => ⟨v, P1, hKc⟩) (fun v' P1' e => ?_)
    exact hk v' P1' e
end THR


/-! A MATCH IS MADE -/
set_option maxRecDepth 100000
section
variable {e : Nat → Nat → Bool} {n m : Nat}
theorem CN_at {i k : Nat} (hi : i < n) (hk : k < m) : CN e n m i k = max (max (CN e n m (i + 1) k) (CN e n m i (k + 1))) (if e i k then 1 + CN e n m (i + 1) (k + 1) else 0) := by
  obtain ⟨p, hp⟩ : ∃ p, n - i = p + 1 := ⟨n - i - 1, by omega⟩
  obtain ⟨q, hq⟩ : ∃ q, m - k = q + 1 := ⟨m - k - 1, by omega⟩
  have e1 : n - (i + 1) = p := by omega
  have e2 : m - (k + 1) = q := by omega
  have e3 : n - (p + 1) = i := by omega
  have e4 : m - (q + 1) = k := by omega
  unfold CN
  rw [hp, hq, e1, e2, cn, e3, e4]
theorem CN_n {i k : Nat} (h : n ≤ i) : CN e n m i k = 0 := by unfold CN; rw [show n - i = 0 by omega, cn_0]
theorem CN_m {i k : Nat} (h : m ≤ k) : CN e n m i k = 0 := by unfold CN; rw [show m - k = 0 by omega, cn_k0]
theorem CN_mono (i k : Nat) : CN e n m i (k + 1) ≤ CN e n m i k := by
  by_cases hi : i < n
  · by_cases hk : k < m
    · rw [CN_at hi hk]
      omega
    · rw [CN_m (by omega), CN_m (by omega)]
      exact Int.le_refl _
  · rw [CN_n (by omega), CN_n (by omega)]
    exact Int.le_refl _
def tT (e : Nat → Nat → Bool) (n m i : Nat) : Nat → Nat → Int
  | 0, _ => 0
  | d + 1, j => max (if e i j then 1 + CN e n m (i + 1) (j + 1) else 0) (tT e n m i d (j + 1))
theorem CN_tT {i : Nat} (hi : i < n) : ∀ d j, j + d = m → CN e n m i j = max (CN e n m (i + 1) j) (tT e n m i d j) := by
  intro d
  induction d with
  | zero =>
    intro j hj
    rw [CN_m (by omega), CN_m (by omega)]
    rfl
  | succ d ih =>
    intro j hj
    have := ih (j + 1) (by omega)
    have := CN_mono (e := e) (n := n) (m := m) (i + 1) j
    rw [CN_at hi (by omega), tT]
    omega
theorem tT_rg {i : Nat} : ∀ d j, 0 ≤ tT e n m i d j ∧ tT e n m i d j ≤ n + 1 := by
  intro d
  induction d with
  | zero => intro j; exact ⟨Int.le_refl _, by rw [tT]; omega⟩
  | succ d ih =>
    intro j
    have h1 := ih (j + 1)
    have h2 := CN_rg e n m (i + 1) (j + 1)
    rw [tT]
    split <;> omega
end
section
variable {n m : Nat} {P : PH} {R : Nat → Int} {a c i k : Int} {x y : Nat} {nm : List Int32}
theorem CRep.size (h : CRep n P x R c nm) : f_X6_size P x = rI (z (rLen R c)) P := by
  obtain ⟨s, cl, is, q0, q1, q2, q3, q4, q5⟩ := h
  simp (disch := omega) only [f_X6_size, z_add, z_sub, z_mul, z_neg, zlt, zle, zeq, zne, l0, l1, l2, l3, l4, l5, l6, l7, l8, l9, l10, l11, l16, l17, l20, l24, l32, l37, l47, l57, l60, l67, l77, l97, l99, l122, l48, l57, l100, l237, l397, l600, l900, l880, l9998, l9999, bnd, xcI_rI, xcV_rV, xcR_rR, zb0, zb1, nz0, nz1, nar_z0, nar_z1, nar_b2, ↓reduceIte, ↓xnul_s, ↓xnul_n, xcst_n, List.set_cons_zero, List.set_cons_succ, ↓xcl1_s q1, ↓xgR_s (k := 0) q1 rfl, ↓xgR_s (k := 1) q1 rfl, q2.2.size, q3]
theorem CRep.code (h : CRep n P x R c nm) (h0 : 0 ≤ i) (h1 : i < rLen R c) : f_X6_code P x (z i) = rI (z (rCode R c i)) P := by
  obtain ⟨s, cl, is, q0, q1, q2, q3, q4, q5⟩ := h
  obtain ⟨p, hp1, hp2⟩ := q2.2.get (i := i) h0 (by omega)
  obtain ⟨w, h7⟩ := (q4 _ _ hp1).2
  rw [show ((i.toNat : Nat) : Int) = i by omega] at h7
  simp (disch := omega) only [f_X6_code, f_J19_intValue, z_add, z_sub, z_mul, z_neg, zlt, zle, zeq, zne, l0, l1, l2, l3, l4, l5, l6, l7, l8, l9, l10, l11, l16, l17, l20, l24, l32, l37, l47, l57, l60, l67, l77, l97, l99, l122, l48, l57, l100, l237, l397, l600, l900, l880, l9998, l9999, bnd, xcI_rI, xcV_rV, xcR_rR, zb0, zb1, nz0, nz1, nar_z0, nar_z1, nar_b2, ↓reduceIte, ↓xnul_s, ↓xnul_n, xcst_n, List.set_cons_zero, List.set_cons_succ, ↓xcl1_s q1, ↓xgR_s (k := 0) q1 rfl, ↓xgR_s (k := 1) q1 rfl, hp2, ↓xcst_s h7 (cs := [18]) rfl, ↓xcl1_s h7, ↓xgI_s (k := 0) h7 rfl]
theorem RRep.get (h : RRep n P x R a nm) (h0 : 0 ≤ k) (h1 : k < rNp R a) : ∃ s pl p, P.1 x = some (true, oB 6 [.ref s, .int (z (rCrs R a)), .int (z (rSt R a)), .int (z (rFi R a)), .ref pl]) ∧ f_J3_get P pl (z k) = rR (some p) P ∧ P.1 p = some (true, oB 7 [.int (z (rPc R a k)), .int (z (rPt R a k))]) := by
  obtain ⟨s, pl, ps, q0, q1, q2, q3, q4, q5⟩ := h
  obtain ⟨p, hp1, hp2⟩ := q2.2.get (i := k) h0 (by omega)
  have h7 := (q4 _ _ hp1).2
  rw [show ((k.toNat : Nat) : Int) = k by omega] at h7
  exact ⟨s, pl, p, q1, hp2, h7⟩
end
/-- a match under way -/
def MJ (n0 : Nat) (P0 P : PH) (y x ca tk mo n m : Nat) (g : Nat → Nat → Int32) (t : Nat → Int32) : Prop := Fr n0 W0 P0 P ∧ P.1 y = some (true, oB 8 [.ref x, .ref ca, .ref tk, .ref mo]) ∧ (∃ f, P.1 mo = some (true, .inl (6, n + 1, .inr (.inr (.inr (.inr f))))) ∧ ∀ j, j ≤ n → f j = some (mo + 1 + j)) ∧ (∀ j, j ≤ n → P.1 (mo + 1 + j) = some (true, .inl (0, m + 1, .inl (g j)))) ∧ P.1 tk = some (true, .inl (0, n, .inl t)) ∧ (n0 ≤ y ∧ y < tk ∧ tk < mo)
def upd2 (g : Nat → Nat → Int32) (i k : Nat) (v : Int32) : Nat → Nat → Int32 := fun i' => if i' = i then upd (g i) k v else g i'
section
variable {n0 n m : Nat} {P0 P : PH} {R : Nat → Int} {a c : Int} {x y ca tk mo N : Nat} {nm nm' : List Int32} {g : Nat → Nat → Int32} {t : Nat → Int32}
theorem MJ.row (h : MJ n0 P0 P y x ca tk mo n m g t) {i k : Nat} (hi : i ≤ n) (v : Int32) : MJ n0 P0 (xup P (mo + 1 + i) (.inl (0, m + 1, .inl (upd (g i) k v)))) y x ca tk mo n m (upd2 g i k v) t := by
  obtain ⟨h1, h2, ⟨f, h3, h3'⟩, h4, h5, h6⟩ := h
  refine ⟨h1.trans (Fr.up h1.iv (h4 i hi) rfl (fun b hb => by cases hb) fun h => by omega), (up_ne (by omega)).trans h2, ⟨f, (up_ne (by omega)).trans h3, h3'⟩, fun j hj => ?_, (up_ne (by omega)).trans h5, h6⟩
  by_cases hji : j = i
  · subst hji
    rw [up_at]
    unfold upd2
    rw [if_pos rfl]
  · rw [up_ne (by omega), h4 j hj]
    unfold upd2
    rw [if_neg hji]
theorem MJ.tak (h : MJ n0 P0 P y x ca tk mo n m g t) {i : Nat} (v : Int32) : MJ n0 P0 (xup P tk (.inl (0, n, .inl (upd t i v)))) y x ca tk mo n m g (upd t i v) := by
  obtain ⟨h1, h2, ⟨f, h3, h3'⟩, h4, h5, h6⟩ := h
  exact ⟨h1.trans (Fr.up h1.iv h5 rfl (fun b hb => by cases hb) fun h => by omega), (up_ne (by omega)).trans h2, ⟨f, (up_ne (by omega)).trans h3, h3'⟩, fun j hj => (up_ne (by omega)).trans (h4 j hj), up_at, h6⟩
theorem MJ.isOf (h : MJ n0 P0 P y x ca tk mo n m g t) (hr : RRep N P x R a nm) (hc : CRep N P ca R c nm') (hV : RV R) (ha : 0 ≤ a) (ha' : a < R 1) (hc0 : 0 ≤ c) (hc1 : c < R 0) {i k : Nat} (hi : (i : Int) < rLen R c) (hk : (k : Int) < rNp R a) : f_X9_isOf P y (z i) (z k) = rI (z (b2 (eqC R a c i k = true))) P := by
  have h2 := h.2.1
  obtain ⟨s, pl, p, q1, q2, q3⟩ := hr.get (k := k) (by omega) hk
  have q4 := hc.code (i := i) (by omega) hi
  have r1 := hV.code hc0 hc1 (i := i) (by omega) hi
  have r2 := hV.pc ha ha' (k := k) (by omega) hk
  simp (disch := omega) only [f_X9_isOf, z_add, z_sub, z_mul, z_neg, zlt, zle, zeq, zne, l0, l1, l2, l3, l4, l5, l6, l7, l8, l9, l10, l11, l16, l17, l20, l24, l32, l37, l47, l57, l60, l67, l77, l97, l99, l122, l48, l57, l100, l237, l397, l600, l900, l880, l9998, l9999, bnd, xcI_rI, xcV_rV, xcR_rR, zb0, zb1, nz0, nz1, nar_z0, nar_z1, nar_b2, ↓reduceIte, ↓xnul_s, ↓xnul_n, xcst_n, List.set_cons_zero, List.set_cons_succ, ↓xcl1_s h2, ↓xgR_s (k := 0) h2 rfl, ↓xgR_s (k := 1) h2 rfl, ↓xgR_s (k := 2) h2 rfl, ↓xgR_s (k := 3) h2 rfl, ↓xcl1_s q1, ↓xgR_s (k := 0) q1 rfl, ↓xgI_s (k := 1) q1 rfl, ↓xgI_s (k := 2) q1 rfl, ↓xgI_s (k := 3) q1 rfl, ↓xgR_s (k := 4) q1 rfl, q2, ↓xcst_s q3 (cs := [7]) rfl, ↓xcl1_s q3, ↓xgI_s (k := 0) q3 rfl, ↓xgI_s (k := 1) q3 rfl, q4]
  unfold eqC
  by_cases c1 : rPc R a k = rCode R c i
  · rw [if_pos c1, b2_t' (by simp [c1])]
  · rw [if_neg c1, b2_f' (by simp; omega)]
end
section
variable {P0 : PH} {R : Nat → Int} {a c : Int} {x y ca tk mo N : Nat} {nm nm' : List Int32} {t : Nat → Int32} {n m : Nat}
theorem MJ.ns {P : PH} {g : Nat → Nat → Int32} (h : MJ P0.2.1 P0 P y x ca tk mo n m g t) (hI : Iv P0) (hr : RRep N P0 x R a nm) (hc : CRep N P0 ca R c nm') : RRep N P x R a nm ∧ CRep N P ca R c nm' := ⟨hr.fr hI h.1 okV_0, hc.fr hI h.1 okV_0⟩
theorem MJ.mostFrom {P : PH} {g : Nat → Nat → Int32} (h : MJ P0.2.1 P0 P y x ca tk mo n m g t) (hI : Iv P0) (hr : RRep N P0 x R a nm) (hc : CRep N P0 ca R c nm') (hV : RV R) (ha : 0 ≤ a) (ha' : a < R 1) (hc0 : 0 ≤ c) (hc1 : c < R 0) (hn : rLen R c = n) (hm : rNp R a = m) {i k : Nat} (hi : i < n) (hk : k ≤ m) (hg : ∀ q, q ≤ m → g (i + 1) q = z (CN (eqC R a c) n m (i + 1) q)) : f_X9_mostFrom P y (z i) (z k) (z m) = rI (z (CN (eqC R a c) n m i k)) P := by
  have hl := hV.len hc0 hc1
  have hp := hV.np ha ha'
  obtain ⟨hr1, hc1'⟩ := h.ns hI hr hc
  have h2 := h.2.1
  obtain ⟨f, h3, h3'⟩ := h.2.2.1
  have h4 := h.2.2.2.1 (i + 1) (by omega)
  have hf := h3' (i + 1) (by omega)
  have e1 : ((i : Int) + 1).toNat = i + 1 := by omega
  suffices hS : OK (f_X9_mostFrom P y (z i) (z k) (z m)) (fun v s' => v = some (.int (z (CN (eqC R a c) n m i k))) ∧ s' = P) by
    obtain ⟨v, s', e, rfl, rfl⟩ := hS
    exact e
  simp (disch := omega) only [f_X9_mostFrom, z_add, z_sub, z_mul, z_neg, zlt, zle, zeq, zne, l0, l1, l2, l3, l4, l5, l6, l7, l8, l9, l10, l11, l16, l17, l20, l24, l32, l37, l47, l57, l60, l67, l77, l97, l99, l122, l48, l57, l100, l237, l397, l600, l900, l880, l9998, l9999, bnd, xcI_rI, xcV_rV, xcR_rR, zb0, zb1, nz0, nz1, nar_z0, nar_z1, nar_b2, ↓reduceIte, ↓xnul_s, ↓xnul_n, xcst_n, List.set_cons_zero, List.set_cons_succ, ↓xcl1_s h2, ↓xgR_s (k := 0) h2 rfl, ↓xgR_s (k := 1) h2 rfl, ↓xgR_s (k := 2) h2 rfl, ↓xgR_s (k := 3) h2 rfl, ↓xaR_s h3, e1, hf, ↓xaI_s h4, Int.toNat_natCast, hg]
  refine ok_lpn (fun d p => ∃ (j : Nat) (v : Int), p = (z i, z m, z v, z j, P) ∧ d = m - j ∧ j ≤ m ∧ (0 ≤ v ∧ v ≤ 20) ∧ max v (tT (eqC R a c) n m i (m - j) j) = CN (eqC R a c) n m i k) ?_ FU _ _ ⟨k, CN (eqC R a c) n m (i + 1) k, rfl, rfl, hk, ?_, ?_⟩ (by simp only [FU]; omega)
  · rintro kk d p ⟨j, v, rfl, rfl, b1, b2, b3⟩ hkk
    simp (disch := omega) only [f_X9_mostFrom_15F, f_X9_mostFrom_53, z_add, z_sub, z_mul, z_neg, zlt, zle, zeq, zne, l0, l1, l2, l3, l4, l5, l6, l7, l8, l9, l10, l11, l16, l17, l20, l24, l32, l37, l47, l57, l60, l67, l77, l97, l99, l122, l48, l57, l100, l237, l397, l600, l900, l880, l9998, l9999, bnd, xcI_rI, xcV_rV, xcR_rR, zb0, zb1, nz0, nz1, nar_z0, nar_z1, nar_b2, ↓reduceIte, ↓xnul_s, ↓xnul_n, xcst_n, List.set_cons_zero, List.set_cons_succ]
    refine ok_ite (fun c1 => ?_) fun c1 => ?_
    · refine ok_rI.mpr ⟨?_, rfl⟩
      rw [show m - j = 0 by omega, tT] at b3
      rw [← b3, Int.max_eq_left (by omega)]
    · have hio := h.isOf hr1 hc1' hV ha ha' hc0 hc1 (i := i) (k := j) (by omega) (by omega)
      obtain ⟨d, hd⟩ : ∃ d, m - j = d + 1 := ⟨m - j - 1, by omega⟩
      have hcn := CN_rg (eqC R a c) n m (i + 1) (j + 1)
      rw [hd, tT] at b3
      have e2 : ((j : Int) + 1).toNat = j + 1 := by omega
      have hgj := hg (j + 1) (by omega)
      simp (disch := omega) only [hio, z_add, z_sub, z_mul, z_neg, zlt, zle, zeq, zne, l0, l1, l2, l3, l4, l5, l6, l7, l8, l9, l10, l11, l16, l17, l20, l24, l32, l37, l47, l57, l60, l67, l77, l97, l99, l122, l48, l57, l100, l237, l397, l600, l900, l880, l9998, l9999, bnd, xcI_rI, xcV_rV, xcR_rR, zb0, zb1, nz0, nz1, nar_z0, nar_z1, nar_b2, ↓reduceIte, ↓xnul_s, ↓xnul_n, xcst_n, List.set_cons_zero, List.set_cons_succ]
      refine ok_ite (fun c2 => ?_) fun c2 => ?_
      · rw [if_neg c2] at b3
        have := tT_rg (e := eqC R a c) (n := n) (m := m) (i := i) d (j + 1)
        exact hkk d _ (by omega) ⟨j + 1, v, rfl, by omega, by omega, b2, by rw [show m - (j + 1) = d by omega, ← b3]; omega⟩
      · rw [if_pos (Decidable.not_not.mp c2)] at b3
        simp (disch := omega) only [z_add, z_sub, z_mul, z_neg, zlt, zle, zeq, zne, l0, l1, l2, l3, l4, l5, l6, l7, l8, l9, l10, l11, l16, l17, l20, l24, l32, l37, l47, l57, l60, l67, l77, l97, l99, l122, l48, l57, l100, l237, l397, l600, l900, l880, l9998, l9999, bnd, xcI_rI, xcV_rV, xcR_rR, zb0, zb1, nz0, nz1, nar_z0, nar_z1, nar_b2, ↓reduceIte, ↓xnul_s, ↓xnul_n, xcst_n, List.set_cons_zero, List.set_cons_succ, ↓xcl1_s h2, ↓xgR_s (k := 0) h2 rfl, ↓xgR_s (k := 1) h2 rfl, ↓xgR_s (k := 2) h2 rfl, ↓xgR_s (k := 3) h2 rfl, ↓xaR_s h3, e1, hf, ↓xaI_s h4, e2, hgj, f_J8_max]
        have hmx : (if v < 1 + CN (eqC R a c) n m (i + 1) (j + 1) then rI (z (1 + CN (eqC R a c) n m (i + 1) (j + 1))) P else rI (z v) P) = rI (z (max v (1 + CN (eqC R a c) n m (i + 1) (j + 1)))) P := by
          split
          · rw [Int.max_eq_right (by omega)]
          · rw [Int.max_eq_left (by omega)]
        rw [hmx, xcI_rI]
        exact hkk d _ (by omega) ⟨j + 1, _, rfl, by omega, by omega, by omega, by rw [show m - (j + 1) = d by omega, ← b3]; omega⟩
  · have := CN_rg (eqC R a c) n m (i + 1) k
    omega
  · exact (CN_tT hi (m - k) k (by omega)).symm
/-- the table's rows from i on, row i from column k on -/
def gI (e : Nat → Nat → Bool) (n m : Nat) (i k : Int) (g : Nat → Nat → Int32) : Prop := ∀ i' k' : Nat, i' ≤ n → k' ≤ m → ((i' : Int) > i ∨ ((i' : Int) = i ∧ (k' : Int) > k)) → g i' k' = z (CN e n m i' k')
theorem MJ.l67 {Q : Option Value → PH → Prop} {k59 : Int32 × Int32 × PH → Option (xO × PH)} (hI : Iv P0) (hr : RRep N P0 x R a nm) (hc : CRep N P0 ca R c nm') (hV : RV R) (ha : 0 ≤ a) (ha' : a < R 1) (hc0 : 0 ≤ c) (hc1 : c < R 0) (hn : rLen R c = n) (hm : rNp R a = m) {w i : Nat} (hi : i < n) {P : PH} {g : Nat → Nat → Int32} (h : MJ P0.2.1 P0 P y x ca tk mo n m g t) (hg : gI (eqC R a c) n m i m g) (hw : wt P = w) (hQ : ∀ P' g', MJ P0.2.1 P0 P' y x ca tk mo n m g' t → gI (eqC R a c) n m i (-1) g' → wt P' = w → OK (k59 (z m, z (i - 1), P')) Q) : OK (lp (f_X9_init_67F y k59) FU (z m, z i, z m, P)) Q := by
  have hl := hV.len hc0 hc1
  have hp := hV.np ha ha'
  refine ok_lpn (fun d p => ∃ (k : Int) (P1 : PH) (g1 : Nat → Nat → Int32), p = (z m, z i, z k, P1) ∧ d = (k + 1).toNat ∧ -1 ≤ k ∧ k ≤ m ∧ MJ P0.2.1 P0 P1 y x ca tk mo n m g1 t ∧ gI (eqC R a c) n m i k g1 ∧ wt P1 = w) ?_ FU _ _ ⟨m, P, g, rfl, rfl, by omega, by omega, h, hg, hw⟩ (by simp only [FU]; omega)
  rintro kk d p ⟨k, P1, g1, rfl, rfl, b1, b2, b3, b4, b5⟩ hkk
  simp (disch := omega) only [f_X9_init_67F, z_add, z_sub, z_mul, z_neg, zlt, zle, zeq, zne, l0, l1, l2, l3, l4, l5, l6, l7, l8, l9, l10, l11, l16, l17, l20, l24, l32, l37, l47, l57, l60, l67, l77, l97, l99, l122, l48, l57, l100, l237, l397, l600, l900, l880, l9998, l9999, bnd, xcI_rI, xcV_rV, xcR_rR, zb0, zb1, nz0, nz1, nar_z0, nar_z1, nar_b2, ↓reduceIte, ↓xnul_s, ↓xnul_n, xcst_n, List.set_cons_zero, List.set_cons_succ]
  refine ok_ite (fun c1 => ?_) fun c1 => ?_
  · have : k = -1 := by omega
    subst this
    exact hQ P1 g1 b3 b4 b5
  · obtain ⟨q, hq⟩ : ∃ q : Nat, k = q := ⟨_, (Int.toNat_of_nonneg (by omega)).symm⟩
    subst hq
    have h2 := b3.2.1
    obtain ⟨f, h3, h3'⟩ := b3.2.2.1
    have h4 := b3.2.2.2.1 i (by omega)
    have hf := h3' i (by omega)
    have hmf := b3.mostFrom hI hr hc hV ha ha' hc0 hc1 hn hm hi (k := q) (by omega) (fun r hr => b4 (i + 1) r (by omega) hr (Or.inl (by omega)))
    simp (disch := omega) only [z_add, z_sub, z_mul, z_neg, zlt, zle, zeq, zne, l0, l1, l2, l3, l4, l5, l6, l7, l8, l9, l10, l11, l16, l17, l20, l24, l32, l37, l47, l57, l60, l67, l77, l97, l99, l122, l48, l57, l100, l237, l397, l600, l900, l880, l9998, l9999, bnd, xcI_rI, xcV_rV, xcR_rR, zb0, zb1, nz0, nz1, nar_z0, nar_z1, nar_b2, ↓reduceIte, ↓xnul_s, ↓xnul_n, xcst_n, List.set_cons_zero, List.set_cons_succ, ↓xcl1_s h2, ↓xgR_s (k := 0) h2 rfl, ↓xgR_s (k := 1) h2 rfl, ↓xgR_s (k := 2) h2 rfl, ↓xgR_s (k := 3) h2 rfl, ↓xaR_s h3, Int.toNat_natCast, hf, hmf, ↓xsI_s h4]
    refine hkk _ _ (by omega) ⟨(q : Int) - 1, _, _, rfl, rfl, by omega, by omega, b3.row (by omega) _, ?_, b5⟩
    intro i' k' e1 e2 e3
    unfold upd2
    by_cases hii : i' = i
    · subst hii
      rw [if_pos rfl]
      unfold upd
      by_cases hkq : k' = q
      · subst hkq
        rw [if_pos rfl]
      · rw [if_neg hkq]
        exact b4 i' k' e1 e2 (by omega)
    · rw [if_neg hii]
      exact b4 i' k' e1 e2 (by omega)
theorem MJ.l59 {Q : Option Value → PH → Prop} (hI : Iv P0) (hr : RRep N P0 x R a nm) (hc : CRep N P0 ca R c nm') (hV : RV R) (ha : 0 ≤ a) (ha' : a < R 1) (hc0 : 0 ≤ c) (hc1 : c < R 0) (hn : rLen R c = n) (hm : rNp R a = m) {w : Nat} {P : PH} {g : Nat → Nat → Int32} (h : MJ P0.2.1 P0 P y x ca tk mo n m g t) (hg : ∀ k, g n k = z 0) (hw : wt P = w) (hQ : ∀ P' g', MJ P0.2.1 P0 P' y x ca tk mo n m g' t → gI (eqC R a c) n m (-1) m g' → wt P' = w → OK (lp (f_X9_init_109F y) FU (z m, z 0, z 0, P')) Q) : OK (lp (f_X9_init_59F y) FU (z m, z ((n : Int) - 1), P)) Q := by
  have hl := hV.len hc0 hc1
  have hp := hV.np ha ha'
  refine ok_lpn (fun d p => ∃ (i : Int) (P1 : PH) (g1 : Nat → Nat → Int32), p = (z m, z i, P1) ∧ d = (i + 1).toNat ∧ -1 ≤ i ∧ i < n ∧ MJ P0.2.1 P0 P1 y x ca tk mo n m g1 t ∧ gI (eqC R a c) n m i m g1 ∧ wt P1 = w) ?_ FU _ _ ⟨(n : Int) - 1, P, g, rfl, rfl, by omega, by omega, h, ?_, hw⟩ (by simp only [FU]; omega)
  · rintro kk d p ⟨i, P1, g1, rfl, rfl, b1, b2, b3, b4, b5⟩ hkk
    simp (disch := omega) only [f_X9_init_59F, z_add, z_sub, z_mul, z_neg, zlt, zle, zeq, zne, l0, l1, l2, l3, l4, l5, l6, l7, l8, l9, l10, l11, l16, l17, l20, l24, l32, l37, l47, l57, l60, l67, l77, l97, l99, l122, l48, l57, l100, l237, l397, l600, l900, l880, l9998, l9999, bnd, xcI_rI, xcV_rV, xcR_rR, zb0, zb1, nz0, nz1, nar_z0, nar_z1, nar_b2, ↓reduceIte, ↓xnul_s, ↓xnul_n, xcst_n, List.set_cons_zero, List.set_cons_succ]
    refine ok_ite (fun c1 => ?_) fun c1 => ?_
    · have : i = -1 := by omega
      subst this
      exact hQ P1 g1 b3 b4 b5
    · obtain ⟨q, hq⟩ : ∃ q : Nat, i = q := ⟨_, (Int.toNat_of_nonneg (by omega)).symm⟩
      subst hq
      refine b3.l67 hI hr hc hV ha ha' hc0 hc1 hn hm (i := q) (by omega) b4 b5 fun P' g' e1 e2 e3 => hkk _ _ (by omega) ⟨(q : Int) - 1, P', g', rfl, rfl, by omega, by omega, e1, ?_, e3⟩
      intro i' k' d1 d2 d3
      exact e2 i' k' d1 d2 (by omega)
  · intro i' k' d1 d2 d3
    have : i' = n := by omega
    subst this
    rw [hg, CN_n (Nat.le_refl _)]
theorem MJ.l203 {k109 : Int32 × Int32 × Int32 × PH → Option (xO × PH)} {Q : Option Value → PH → Prop} {P : PH} {g : Nat → Nat → Int32} (h : MJ P0.2.1 P0 P y x ca tk mo n m g t) {i : Nat} {f : Int} {o : Option Nat} (hn : n ≤ 10) (hi : i < n) (ht : t i = z (tv o)) (hr : -1 ≤ tv o ∧ tv o < 16 ∧ (o = none ↔ tv o = -1)) (hQ : OK (k109 (z m, z (if o = none then f else tv o + 1), z (i + 1), P)) Q) : OK (f_X9_init_203 y k109 (z m) (z f) (z i) P) Q := by
  have h2 := h.2.1
  have h5 := h.2.2.2.2.1
  unfold f_X9_init_203 f_X9_init_225
  simp (disch := omega) only [z_add, z_sub, z_mul, z_neg, zlt, zle, zeq, zne, l0, l1, l2, l3, l4, l5, l6, l7, l8, l9, l10, l11, l16, l17, l20, l24, l32, l37, l47, l57, l60, l67, l77, l97, l99, l122, l48, l57, l100, l237, l397, l600, l900, l880, l9998, l9999, bnd, xcI_rI, xcV_rV, xcR_rR, zb0, zb1, nz0, nz1, nar_z0, nar_z1, nar_b2, ↓reduceIte, ↓xnul_s, ↓xnul_n, xcst_n, List.set_cons_zero, List.set_cons_succ, ↓xcl1_s h2, ↓xgR_s (k := 0) h2 rfl, ↓xgR_s (k := 1) h2 rfl, ↓xgR_s (k := 2) h2 rfl, ↓xgR_s (k := 3) h2 rfl, ↓xaI_s h5, Int.toNat_natCast, ht]
  by_cases c1 : o = none
  · have := hr.2.2.mp c1
    rw [if_pos c1] at hQ
    rw [if_pos this]
    exact hQ
  · have : ¬ tv o = -1 := fun e => c1 (hr.2.2.mpr e)
    rw [if_neg c1] at hQ
    rw [if_neg this]
    exact hQ
def tjI (e : Nat → Nat → Bool) (n m i : Nat) (t : Nat → Int32) : Prop := ∀ q, q < i → t q = z (tv (tkn e n m q))
theorem MJ.l131 {k109 : Int32 × Int32 × Int32 × PH → Option (xO × PH)} {Q : Option Value → PH → Prop} (hI : Iv P0) (hr : RRep N P0 x R a nm) (hc : CRep N P0 ca R c nm') (hV : RV R) (ha : 0 ≤ a) (ha' : a < R 1) (hc0 : 0 ≤ c) (hc1 : c < R 0) (hn : rLen R c = n) (hm : rNp R a = m) {w i : Nat} (hi : i < n) {P : PH} {g : Nat → Nat → Int32} (hg : gI (eqC R a c) n m (-1) m g) {t0 : Nat → Int32} (h : MJ P0.2.1 P0 P y x ca tk mo n m g t0) (hw : wt P = w) (ht : tjI (eqC R a c) n m i t0) (hb : t0 i = z (-1)) (hQ : ∀ P' t', MJ P0.2.1 P0 P' y x ca tk mo n m g t' → tjI (eqC R a c) n m (i + 1) t' → wt P' = w → OK (k109 (z m, z (frm (eqC R a c) n m (i + 1)), z (i + 1), P')) Q) : OK (lp (f_X9_init_131F y k109) FU (z m, z (frm (eqC R a c) n m i), z i, z (frm (eqC R a c) n m i), P)) Q := by
  have hl := hV.len hc0 hc1
  have hp := hV.np ha ha'
  have hf := frm_le (e := eqC R a c) (n := n) (m := m) i
  have hend : ∀ (P' : PH) (t' : Nat → Int32), MJ P0.2.1 P0 P' y x ca tk mo n m g t' → tjI (eqC R a c) n m i t' → t' i = z (tv (tkn (eqC R a c) n m i)) → wt P' = w → OK (f_X9_init_203 y k109 (z m) (z (frm (eqC R a c) n m i)) (z i) P') Q := by
    intro P' t' d1 d2 d3 d4
    have hr := tkn_rg (e := eqC R a c) (n := n) (m := m) (i := i)
    refine d1.l203 (o := tkn (eqC R a c) n m i) (by omega) hi d3 ⟨by omega, by omega, hr.2.2⟩ ?_
    rw [← frm_s]
    refine hQ P' t' d1 ?_ d4
    intro q hq
    by_cases hqi : q = i
    · rw [hqi]; exact d3
    · exact d2 q (by omega)
  refine ok_lpn (fun d p => ∃ (k : Nat) (P1 : PH) (t1 : Nat → Int32), p = (z m, z (frm (eqC R a c) n m i), z i, z k, P1) ∧ d = m - k ∧ k ≤ m ∧ frm (eqC R a c) n m i ≤ k ∧ MJ P0.2.1 P0 P1 y x ca tk mo n m g t1 ∧ tjI (eqC R a c) n m i t1 ∧ wt P1 = w ∧ ((t1 i = z (-1) ∧ ∀ q, frm (eqC R a c) n m i ≤ q → q < k → (eqC R a c i q && decide (1 + CN (eqC R a c) n m (i + 1) (q + 1) = CN (eqC R a c) n m i (frm (eqC R a c) n m i))) = false) ∨ (∃ j : Nat, tkn (eqC R a c) n m i = some j ∧ t1 i = z j))) ?_ FU _ _ ⟨frm (eqC R a c) n m i, P, t0, rfl, rfl, hf, Nat.le_refl _, h, ht, hw, Or.inl ⟨hb, fun q a1 a2 => absurd a1 (by omega)⟩⟩ (by simp only [FU]; omega)
  rintro kk d p ⟨k, P1, t1, rfl, rfl, h1, h2, h3, h4, h5, h6⟩ hk
  have o2 := h3.2.1
  obtain ⟨fm, o3, o3'⟩ := h3.2.2.1
  have o5 := h3.2.2.2.2.1
  simp (disch := omega) only [f_X9_init_131F, z_add, z_sub, z_mul, z_neg, zlt, zle, zeq, zne, l0, l1, l2, l3, l4, l5, l6, l7, l8, l9, l10, l11, l16, l17, l20, l24, l32, l37, l47, l57, l60, l67, l77, l97, l99, l122, l48, l57, l100, l237, l397, l600, l900, l880, l9998, l9999, bnd, xcI_rI, xcV_rV, xcR_rR, zb0, zb1, nz0, nz1, nar_z0, nar_z1, nar_b2, ↓reduceIte, ↓xnul_s, ↓xnul_n, xcst_n, List.set_cons_zero, List.set_cons_succ]
  refine ok_ite (fun c1 => ?_) fun c1 => ?_
  · refine hend P1 t1 h3 h4 ?_ h5
    rcases h6 with ⟨h6, h7⟩ | ⟨j, h6, h7⟩
    · rw [h6]
      unfold tkn
      rw [tkf_none (fun q a1 a2 => h7 q a1 (by omega))]
      rfl
    · rw [h7, h6]
      rfl
  · simp (disch := omega) only [z_add, z_sub, z_mul, z_neg, zlt, zle, zeq, zne, l0, l1, l2, l3, l4, l5, l6, l7, l8, l9, l10, l11, l16, l17, l20, l24, l32, l37, l47, l57, l60, l67, l77, l97, l99, l122, l48, l57, l100, l237, l397, l600, l900, l880, l9998, l9999, bnd, xcI_rI, xcV_rV, xcR_rR, zb0, zb1, nz0, nz1, nar_z0, nar_z1, nar_b2, ↓reduceIte, ↓xnul_s, ↓xnul_n, xcst_n, List.set_cons_zero, List.set_cons_succ, ↓xcl1_s o2, ↓xgR_s (k := 0) o2 rfl, ↓xgR_s (k := 1) o2 rfl, ↓xgR_s (k := 2) o2 rfl, ↓xgR_s (k := 3) o2 rfl, ↓xaI_s o5, Int.toNat_natCast]
    rcases h6 with ⟨h6, h7⟩ | ⟨j, h6, h7⟩
    · obtain ⟨hr1, hc1'⟩ := h3.ns hI hr hc
      have hio := h3.isOf hr1 hc1' hV ha ha' hc0 hc1 (i := i) (k := k) (by omega) (by omega)
      have r1 := CN_rg (eqC R a c) n m (i + 1) (k + 1)
      have r2 := CN_rg (eqC R a c) n m i (frm (eqC R a c) n m i)
      have e1 : ((i : Int) + 1).toNat = i + 1 := by omega
      have e2 : ((k : Int) + 1).toNat = k + 1 := by omega
      have e3 : ((k : Int) + 1) = ((k + 1 : Nat) : Int) := by omega
      have hstep : (tkn (eqC R a c) n m i ≠ some k) → ∀ q, frm (eqC R a c) n m i ≤ q → q < k + 1 → (eqC R a c i q && decide (1 + CN (eqC R a c) n m (i + 1) (q + 1) = CN (eqC R a c) n m i (frm (eqC R a c) n m i))) = false := by
        intro hne q a1 a2
        by_cases hq : q = k
        · subst hq
          cases hh : (eqC R a c i q && decide (1 + CN (eqC R a c) n m (i + 1) (q + 1) = CN (eqC R a c) n m i (frm (eqC R a c) n m i)))
          · rfl
          · exact absurd (tkf_step (by omega) h2 h7 hh) hne
        · exact h7 q a1 (by omega)
      have hcont : (¬ (eqC R a c i k = true ∧ 1 + CN (eqC R a c) n m (i + 1) (k + 1) = CN (eqC R a c) n m i (frm (eqC R a c) n m i))) → OK (kk (z m, z (frm (eqC R a c) n m i), z i, z (k + 1), P1)) Q := by
        intro hne
        rw [e3]
        refine hk _ _ (by omega) ⟨k + 1, P1, t1, rfl, rfl, by omega, by omega, h3, h4, h5, Or.inl ⟨h6, hstep ?_⟩⟩
        intro hs
        have := List.find?_some hs
        exact hne ((CN_cond rfl).mp this)
      have g4 := h3.2.2.2.1 (i + 1) (by omega)
      have g4' := h3.2.2.2.1 i (by omega)
      have m1 := o3' (i + 1) (by omega)
      have m1' := o3' i (by omega)
      have v1 := hg (i + 1) (k + 1) (by omega) (by omega) (Or.inl (by omega))
      have v2 := hg i (frm (eqC R a c) n m i) (by omega) (by omega) (Or.inl (by omega))
      simp (disch := omega) only [h6, z_add, z_sub, z_mul, z_neg, zlt, zle, zeq, zne, l0, l1, l2, l3, l4, l5, l6, l7, l8, l9, l10, l11, l16, l17, l20, l24, l32, l37, l47, l57, l60, l67, l77, l97, l99, l122, l48, l57, l100, l237, l397, l600, l900, l880, l9998, l9999, bnd, xcI_rI, xcV_rV, xcR_rR, zb0, zb1, nz0, nz1, nar_z0, nar_z1, nar_b2, ↓reduceIte, ↓xnul_s, ↓xnul_n, xcst_n, List.set_cons_zero, List.set_cons_succ, hio, f_X9_init_197]
      refine ok_ite (fun c2 => ?_) fun c2 => ?_
      · exact hcont (fun hh => c2 hh.1)
      · have c2 : eqC R a c i k = true := Decidable.not_not.mp c2
        simp (disch := omega) only [z_add, z_sub, z_mul, z_neg, zlt, zle, zeq, zne, l0, l1, l2, l3, l4, l5, l6, l7, l8, l9, l10, l11, l16, l17, l20, l24, l32, l37, l47, l57, l60, l67, l77, l97, l99, l122, l48, l57, l100, l237, l397, l600, l900, l880, l9998, l9999, bnd, xcI_rI, xcV_rV, xcR_rR, zb0, zb1, nz0, nz1, nar_z0, nar_z1, nar_b2, ↓reduceIte, ↓xnul_s, ↓xnul_n, xcst_n, List.set_cons_zero, List.set_cons_succ, ↓xcl1_s o2, ↓xgR_s (k := 0) o2 rfl, ↓xgR_s (k := 1) o2 rfl, ↓xgR_s (k := 2) o2 rfl, ↓xgR_s (k := 3) o2 rfl, ↓xaR_s o3, e1, m1, m1', Int.toNat_natCast, ↓xaI_s g4, ↓xaI_s g4', e2, v1, v2]
        refine ok_ite (fun c3 => ?_) fun c3 => ?_
        · have hj : tkn (eqC R a c) n m i = some k := tkf_step (by omega) h2 h7 ((CN_cond rfl).mpr ⟨c2, c3⟩)
          simp (disch := omega) only [z_add, z_sub, z_mul, z_neg, zlt, zle, zeq, zne, l0, l1, l2, l3, l4, l5, l6, l7, l8, l9, l10, l11, l16, l17, l20, l24, l32, l37, l47, l57, l60, l67, l77, l97, l99, l122, l48, l57, l100, l237, l397, l600, l900, l880, l9998, l9999, bnd, xcI_rI, xcV_rV, xcR_rR, zb0, zb1, nz0, nz1, nar_z0, nar_z1, nar_b2, ↓reduceIte, ↓xnul_s, ↓xnul_n, xcst_n, List.set_cons_zero, List.set_cons_succ, ↓xcl1_s o2, ↓xgR_s (k := 0) o2 rfl, ↓xgR_s (k := 1) o2 rfl, ↓xgR_s (k := 2) o2 rfl, ↓xgR_s (k := 3) o2 rfl, ↓xsI_s o5, Int.toNat_natCast]
          rw [e3]
          refine hk _ _ (by omega) ⟨k + 1, _, _, rfl, rfl, by omega, by omega, h3.tak (i := i) (z k), ?_, h5, Or.inr ⟨k, hj, by unfold upd; rw [if_pos rfl]⟩⟩
          intro q hq
          unfold upd
          rw [if_neg (by omega)]
          exact h4 q hq
        · exact hcont (fun hh => c3 hh.2)
    · have := tkf_lt h6
      simp (disch := omega) only [h7, z_add, z_sub, z_mul, z_neg, zlt, zle, zeq, zne, l0, l1, l2, l3, l4, l5, l6, l7, l8, l9, l10, l11, l16, l17, l20, l24, l32, l37, l47, l57, l60, l67, l77, l97, l99, l122, l48, l57, l100, l237, l397, l600, l900, l880, l9998, l9999, bnd, xcI_rI, xcV_rV, xcR_rR, zb0, zb1, nz0, nz1, nar_z0, nar_z1, nar_b2, ↓reduceIte, ↓xnul_s, ↓xnul_n, xcst_n, List.set_cons_zero, List.set_cons_succ]
      rw [if_neg (by omega)]
      exact hend P1 t1 h3 h4 (by rw [h7, h6]; rfl) h5
theorem MJ.l109 (hI : Iv P0) (hr : RRep N P0 x R a nm) (hc : CRep N P0 ca R c nm') (hV : RV R) (ha : 0 ≤ a) (ha' : a < R 1) (hc0 : 0 ≤ c) (hc1 : c < R 0) (hn : rLen R c = n) (hm : rNp R a = m) {P : PH} {g : Nat → Nat → Int32} (hg : gI (eqC R a c) n m (-1) m g) (h : MJ P0.2.1 P0 P y x ca tk mo n m g t) : ∃ P' t', lp (f_X9_init_109F y) FU (z m, z 0, z 0, P) = rV P' ∧ MJ P0.2.1 P0 P' y x ca tk mo n m g t' ∧ tjI (eqC R a c) n m n t' ∧ wt P' = wt P := by
  have hl := hV.len hc0 hc1
  suffices hS : OK (lp (f_X9_init_109F y) FU (z m, z 0, z 0, P)) (fun v P' => v = none ∧ ∃ t', MJ P0.2.1 P0 P' y x ca tk mo n m g t' ∧ tjI (eqC R a c) n m n t' ∧ wt P' = wt P) by
    obtain ⟨v, s', e, rfl, t', q1, q2, q3⟩ := hS
    exact ⟨s', t', e, q1, q2, q3⟩
  refine ok_lpn (fun d p => ∃ (i : Nat) (P1 : PH) (t1 : Nat → Int32), p = (z m, z (frm (eqC R a c) n m i), z i, P1) ∧ d = n - i ∧ i ≤ n ∧ MJ P0.2.1 P0 P1 y x ca tk mo n m g t1 ∧ tjI (eqC R a c) n m i t1 ∧ wt P1 = wt P) ?_ FU _ _ ⟨0, P, t, rfl, rfl, by omega, h, fun q hq => absurd hq (by omega), rfl⟩ (by simp only [FU]; omega)
  rintro kk d p ⟨i, P1, t1, rfl, rfl, h4, h5, h6, h7⟩ hk
  have o2 := h5.2.1
  have o5 := h5.2.2.2.2.1
  simp (disch := omega) only [f_X9_init_109F, z_add, z_sub, z_mul, z_neg, zlt, zle, zeq, zne, l0, l1, l2, l3, l4, l5, l6, l7, l8, l9, l10, l11, l16, l17, l20, l24, l32, l37, l47, l57, l60, l67, l77, l97, l99, l122, l48, l57, l100, l237, l397, l600, l900, l880, l9998, l9999, bnd, xcI_rI, xcV_rV, xcR_rR, zb0, zb1, nz0, nz1, nar_z0, nar_z1, nar_b2, ↓reduceIte, ↓xnul_s, ↓xnul_n, xcst_n, List.set_cons_zero, List.set_cons_succ, ↓xcl1_s o2, ↓xgR_s (k := 0) o2 rfl, ↓xgR_s (k := 1) o2 rfl, ↓xgR_s (k := 2) o2 rfl, ↓xgR_s (k := 3) o2 rfl, ↓xlen_s o5 (by decide)]
  refine ok_ite (fun c1 => ?_) fun c1 => ?_
  · have : i = n := by omega
    subst this
    exact ok_rV.mpr ⟨rfl, t1, h5, h6, h7⟩
  · simp (disch := omega) only [z_add, z_sub, z_mul, z_neg, zlt, zle, zeq, zne, l0, l1, l2, l3, l4, l5, l6, l7, l8, l9, l10, l11, l16, l17, l20, l24, l32, l37, l47, l57, l60, l67, l77, l97, l99, l122, l48, l57, l100, l237, l397, l600, l900, l880, l9998, l9999, bnd, xcI_rI, xcV_rV, xcR_rR, zb0, zb1, nz0, nz1, nar_z0, nar_z1, nar_b2, ↓reduceIte, ↓xnul_s, ↓xnul_n, xcst_n, List.set_cons_zero, List.set_cons_succ, ↓xcl1_s o2, ↓xgR_s (k := 0) o2 rfl, ↓xgR_s (k := 1) o2 rfl, ↓xgR_s (k := 2) o2 rfl, ↓xgR_s (k := 3) o2 rfl, ↓xsI_s o5, Int.toNat_natCast]
    refine MJ.l131 hI hr hc hV ha ha' hc0 hc1 hn hm (i := i) (by omega) hg (h5.tak (i := i) (z (-1))) h7 ?_ (by unfold upd; rw [if_pos rfl]) fun P' t' b1 b2 b3 => hk _ _ (by omega) ⟨i + 1, P', t', rfl, rfl, by omega, b1, b2, b3⟩
    intro q hq
    unfold upd
    rw [if_neg (by omega)]
    exact h6 q hq
end
/-- an array of arrays, and they -/
def pmulti (P : PH) (n k : Nat) : PH := (fun b => if b = P.2.1 then some (true, .inl (6, n, .inr (.inr (.inr (.inr (fun j => if j < n then some (P.2.1 + 1 + j) else none)))))) else if P.2.1 < b ∧ b ≤ P.2.1 + n then some (true, .inl (0, k, .inl (fun _ => 0))) else P.1 b, P.2.1 + 1 + n, P.2.2.1 + (n + n * k), P.2.2.2)
theorem xmulti_s {α : Type} {P : PH} {n k : Nat} {K : Nat → PH → Option α} (hn : n ≤ 1000) (hk : k ≤ 1000) : xmulti P (z n) (z k) K = K P.2.1 (pmulti P n k) := by
  have c1 : ¬ ((n : Int) < 0) := by omega
  have c2 : ¬ ((k : Int) < 0) := by omega
  unfold xmulti pmulti
  simp (disch := omega) only [z_add, z_sub, z_mul, z_neg, zlt, zle, zeq, zne, l0, l1, l2, l3, l4, l5, l6, l7, l8, l9, l10, l11, l16, l17, l20, l24, l32, l37, l47, l57, l60, l67, l77, l97, l99, l122, l48, l57, l100, l237, l397, l600, l900, l880, l9998, l9999, bnd, xcI_rI, xcV_rV, xcR_rR, zb0, zb1, nz0, nz1, nar_z0, nar_z1, nar_b2, ↓reduceIte, zix, Int.toNat_natCast, c1, c2, hn, hk, not_false_eq_true, and_self, ↓reduceIte]
theorem pm_old {P : PH} (hI : Iv P) {n k a : Nat} {x : Bool × PC} (h : P.1 a = some x) : (pmulti P n k).1 a = some x := by
  have := hI.lt h
  unfold pmulti
  simp only
  rw [if_neg (by omega), if_neg (by omega)]
  exact h
theorem pm_own {P : PH} {n k o b : Nat} (h : oArr (pmulti P n k) o b) : oArr P o b := by
  obtain ⟨w, x, e, h2⟩ := h
  unfold pmulti at e
  simp only at e
  split at e
  · cases e; cases h2
  · split at e
    · cases e; cases h2
    · exact ⟨w, x, e, h2⟩
theorem Fr.pm {n0 n k : Nat} {W : Nat → Prop} {P : PH} (hI : Iv P) : Fr n0 W P (pmulti P n k) := by
  have hf : fal (pmulti P n k) = fal P := by
    funext b
    unfold fal pmulti
    simp only
    by_cases h : b = P.2.1
    · rw [if_pos h, h, hI.1 _ (Nat.le_refl _)]
    · rw [if_neg h]
      by_cases h2 : P.2.1 < b ∧ b ≤ P.2.1 + n
      · rw [if_pos h2, hI.1 b (by omega)]
      · rw [if_neg h2]
  refine ⟨⟨fun b hb => ?_, fun o o' b h1 h2 => hI.2.1 o o' b (pm_own h1) (pm_own h2), fun o b h => ?_, ?_⟩, ⟨?_, ?_, rfl⟩, fun o b h => Or.inl (pm_own h), fun a w x hx => ⟨x, pm_old hI hx, rfl⟩, fun a w x _ hx _ _ => pm_old hI hx⟩
  · have hb : P.2.1 + 1 + n ≤ b := hb
    unfold pmulti
    simp only
    rw [if_neg (by omega), if_neg (by omega)]
    exact hI.1 b (by omega)
  · have := hI.2.2.1 o b (pm_own h)
    show b < P.2.1 + 1 + n
    omega
  · rw [hf]
    obtain ⟨b, e1, e2, e3⟩ := hI.2.2.2.2
    refine ⟨hI.2.2.2.1, b, e1, (show b < P.2.1 + 1 + n by omega), ?_⟩
    unfold pmulti
    simp only
    rw [if_neg (by omega), if_neg (by omega)]
    exact e3
  · show P.2.1 ≤ P.2.1 + 1 + n
    omega
  · show P.2.2.1 ≤ P.2.2.1 + (n + n * k)
    omega
theorem MT.make {N : Nat} {P0 : PH} (hI : Iv P0) {R : Nat → Int} {a c : Int} {x ca : Nat} {nm nm' : List Int32} (hr : RRep N P0 x R a nm) (hc : CRep N P0 ca R c nm') (hV : RV R) (ha : 0 ≤ a) (ha' : a < R 1) (hc0 : 0 ≤ c) (hc1 : c < R 0) : ∃ P', f_X9_init (xpush P0 (oB 8 [.null, .null, .null, .null]) 4) P0.2.1 (some x) (some ca) = rV P' ∧ Fr P0.2.1 W0 P0 P' ∧ MT P' P0.2.1 x R a c ∧ wt P' ≤ wt P0 + 300 := by
  have hl := hV.len hc0 hc1
  have hp := hV.np ha ha'
  obtain ⟨n, hn⟩ : ∃ n : Nat, rLen R c = n := ⟨_, (Int.toNat_of_nonneg (by omega)).symm⟩
  obtain ⟨m, hm⟩ : ∃ m : Nat, rNp R a = m := ⟨_, (Int.toNat_of_nonneg (by omega)).symm⟩
  have f1 : Fr P0.2.1 W0 P0 (xpush P0 (oB 8 [.null, .null, .null, .null]) 4) := Fr.push hI rfl
  have g1 : (xpush P0 (oB 8 [.null, .null, .null, .null]) 4).1 P0.2.1 = some (true, oB 8 [.null, .null, .null, .null]) := push_at
  have n1 : (xpush P0 (oB 8 [.null, .null, .null, .null]) 4).2.1 = P0.2.1 + 1 := rfl
  have w1 : wt (xpush P0 (oB 8 [.null, .null, .null, .null]) 4) = wt P0 + 1 + 4 := wt_push
  generalize xpush P0 (oB 8 [.null, .null, .null, .null]) 4 = P1 at *
  have f2 : Fr P0.2.1 W0 P1 (xup P1 P0.2.1 (oB 8 [.ref x, .null, .null, .null])) := Fr.upo f1.iv g1 rfl (fun b hb => by cases hb) fun h => absurd h (Nat.lt_irrefl _)
  have g2 : (xup P1 P0.2.1 (oB 8 [.ref x, .null, .null, .null])).1 P0.2.1 = some (true, oB 8 [.ref x, .null, .null, .null]) := up_at
  have n2 : (xup P1 P0.2.1 (oB 8 [.ref x, .null, .null, .null])).2.1 = P1.2.1 := rfl
  have w2 : wt (xup P1 P0.2.1 (oB 8 [.ref x, .null, .null, .null])) = wt P1 := rfl
  have e1 : ∀ {β : Type} (K : PH → Option β), xpF P1 P0.2.1 8 0 (.ref x) K = K (xup P1 P0.2.1 (oB 8 [.ref x, .null, .null, .null])) := fun K => xpF_z g1 (by simp)
  generalize xup P1 P0.2.1 (oB 8 [.ref x, .null, .null, .null]) = P2 at *
  have f3 : Fr P0.2.1 W0 P2 (xup P2 P0.2.1 (oB 8 [.ref x, .ref ca, .null, .null])) := Fr.upo f2.iv g2 rfl (fun b hb => by cases hb) fun h => absurd h (Nat.lt_irrefl _)
  have g3 : (xup P2 P0.2.1 (oB 8 [.ref x, .ref ca, .null, .null])).1 P0.2.1 = some (true, oB 8 [.ref x, .ref ca, .null, .null]) := up_at
  have n3 : (xup P2 P0.2.1 (oB 8 [.ref x, .ref ca, .null, .null])).2.1 = P2.2.1 := rfl
  have w3 : wt (xup P2 P0.2.1 (oB 8 [.ref x, .ref ca, .null, .null])) = wt P2 := rfl
  have e2 : ∀ {β : Type} (K : PH → Option β), xpF P2 P0.2.1 8 1 (.ref ca) K = K (xup P2 P0.2.1 (oB 8 [.ref x, .ref ca, .null, .null])) := fun K => xpF_z g2 (by simp)
  generalize xup P2 P0.2.1 (oB 8 [.ref x, .ref ca, .null, .null]) = P3 at *
  have F3 := f1.trans (f2.trans f3)
  have hr3 := hr.fr hI F3 okV_0
  have hc3 := (hc.fr hI F3 okV_0).size
  rw [hn] at hc3
  have f4 : Fr P0.2.1 W0 P3 (xpush P3 (.inl (0, n, .inl (fun _ => 0))) n) := Fr.push F3.iv rfl
  have g4 : (xpush P3 (.inl (0, n, .inl (fun _ => 0))) n).1 P0.2.1 = some (true, oB 8 [.ref x, .ref ca, .null, .null]) := push_old F3.iv g3
  have t4 : (xpush P3 (.inl (0, n, .inl (fun _ => 0))) n).1 P3.2.1 = some (true, .inl (0, n, .inl (fun _ => 0))) := push_at
  have n4 : (xpush P3 (.inl (0, n, .inl (fun _ => 0))) n).2.1 = P3.2.1 + 1 := rfl
  have w4 : wt (xpush P3 (.inl (0, n, .inl (fun _ => 0))) n) = wt P3 + 1 + n := wt_push
  have e3 : ∀ {β : Type} (K : Nat → PH → Option β), xnaI P3 0 (z n) K = K P3.2.1 (xpush P3 (.inl (0, n, .inl (fun _ => 0))) n) := fun K => xnaI_s (by omega)
  generalize xpush P3 (.inl (0, n, .inl (fun _ => 0))) n = P4 at *
  have F4 := F3.trans f4
  have f5 : Fr P0.2.1 W0 P4 (xup P4 P0.2.1 (oB 8 [.ref x, .ref ca, .ref P3.2.1, .null])) := Fr.upo f4.iv g4 rfl (fun b hb => by cases hb) fun h => absurd h (Nat.lt_irrefl _)
  have g5 : (xup P4 P0.2.1 (oB 8 [.ref x, .ref ca, .ref P3.2.1, .null])).1 P0.2.1 = some (true, oB 8 [.ref x, .ref ca, .ref P3.2.1, .null]) := up_at
  have t5 : (xup P4 P0.2.1 (oB 8 [.ref x, .ref ca, .ref P3.2.1, .null])).1 P3.2.1 = some (true, .inl (0, n, .inl (fun _ => 0))) := (up_ne (by omega)).trans t4
  have n5 : (xup P4 P0.2.1 (oB 8 [.ref x, .ref ca, .ref P3.2.1, .null])).2.1 = P4.2.1 := rfl
  have w5 : wt (xup P4 P0.2.1 (oB 8 [.ref x, .ref ca, .ref P3.2.1, .null])) = wt P4 := rfl
  have e4 : ∀ {β : Type} (K : PH → Option β), xpF P4 P0.2.1 8 2 (.ref P3.2.1) K = K (xup P4 P0.2.1 (oB 8 [.ref x, .ref ca, .ref P3.2.1, .null])) := fun K => xpF_z g4 (by simp)
  generalize xup P4 P0.2.1 (oB 8 [.ref x, .ref ca, .ref P3.2.1, .null]) = P5 at *
  have F5 := F4.trans f5
  have hc5 := (hc.fr hI F5 okV_0).size
  rw [hn] at hc5
  have f6 : Fr P0.2.1 W0 P5 (pmulti P5 (n + 1) (m + 1)) := Fr.pm F5.iv
  have g6 : (pmulti P5 (n + 1) (m + 1)).1 P0.2.1 = some (true, oB 8 [.ref x, .ref ca, .ref P3.2.1, .null]) := pm_old F5.iv g5
  have t6 : (pmulti P5 (n + 1) (m + 1)).1 P3.2.1 = some (true, .inl (0, n, .inl (fun _ => 0))) := pm_old F5.iv t5
  have a6 : (pmulti P5 (n + 1) (m + 1)).1 P5.2.1 = some (true, .inl (6, n + 1, .inr (.inr (.inr (.inr (fun j => if j < n + 1 then some (P5.2.1 + 1 + j) else none)))))) := if_pos rfl
  have b6 : ∀ j, j ≤ n → (pmulti P5 (n + 1) (m + 1)).1 (P5.2.1 + 1 + j) = some (true, .inl (0, m + 1, .inl (fun _ => 0))) := fun j hj => (if_neg (by omega)).trans (if_pos ⟨by omega, by omega⟩)
  have w6 : wt (pmulti P5 (n + 1) (m + 1)) = wt P5 + (1 + (n + 1) + ((n + 1) + (n + 1) * (m + 1))) := by
    show P5.2.1 + 1 + (n + 1) + (P5.2.2.1 + ((n + 1) + (n + 1) * (m + 1))) = P5.2.1 + P5.2.2.1 + _
    omega
  have e5 : ∀ {β : Type} (K : Nat → PH → Option β), xmulti P5 (z ((n : Int) + 1)) (z ((m : Int) + 1)) K = K P5.2.1 (pmulti P5 (n + 1) (m + 1)) := fun K => xmulti_s (n := n + 1) (k := m + 1) (by omega) (by omega)
  generalize pmulti P5 (n + 1) (m + 1) = P6 at *
  have F6 := F5.trans f6
  have f7 : Fr P0.2.1 W0 P6 (xup P6 P0.2.1 (oB 8 [.ref x, .ref ca, .ref P3.2.1, .ref P5.2.1])) := Fr.upo f6.iv g6 rfl (fun b hb => by cases hb) fun h => absurd h (Nat.lt_irrefl _)
  have e6 : ∀ {β : Type} (K : PH → Option β), xpF P6 P0.2.1 8 3 (.ref P5.2.1) K = K (xup P6 P0.2.1 (oB 8 [.ref x, .ref ca, .ref P3.2.1, .ref P5.2.1])) := fun K => xpF_z g6 (by simp)
  have hJ : MJ P0.2.1 P0 (xup P6 P0.2.1 (oB 8 [.ref x, .ref ca, .ref P3.2.1, .ref P5.2.1])) P0.2.1 x ca P3.2.1 P5.2.1 n m (fun _ _ => 0) (fun _ => 0) := ⟨F6.trans f7, up_at, ⟨_, (up_ne (by omega)).trans a6, fun j hj => if_pos (by omega)⟩, fun j hj => (up_ne (by omega)).trans (b6 j hj), (up_ne (by omega)).trans t6, ⟨Nat.le_refl _, by omega, by omega⟩⟩
  have w7 : wt (xup P6 P0.2.1 (oB 8 [.ref x, .ref ca, .ref P3.2.1, .ref P5.2.1])) = wt P6 := rfl
  have hc7 := (hc.fr hI hJ.1 okV_0).size
  rw [hn] at hc7
  generalize xup P6 P0.2.1 (oB 8 [.ref x, .ref ca, .ref P3.2.1, .ref P5.2.1]) = P7 at *
  have hloop : OK (lp (f_X9_init_59F P0.2.1) FU (z m, z ((n : Int) - 1), P7)) (fun v P' => v = none ∧ ∃ g t, MJ P0.2.1 P0 P' P0.2.1 x ca P3.2.1 P5.2.1 n m g t ∧ tjI (eqC R a c) n m n t ∧ wt P' = wt P7) := by
    refine hJ.l59 hI hr hc hV ha ha' hc0 hc1 hn hm (fun k => rfl) rfl fun P' g' h1 h2 h3 => ?_
    obtain ⟨P'', t', q1, q2, q3, q4⟩ := MJ.l109 hI hr hc hV ha ha' hc0 hc1 hn hm h2 h1
    exact ⟨none, P'', q1, rfl, g', t', q2, q3, by omega⟩
  obtain ⟨v, P', q0, rfl, g, t, q1, q2, q3⟩ := hloop
  obtain ⟨s, pl, ps, r0, r1, r2, r3, r4, r5⟩ := hr3
  have hsz := r2.2.size
  rw [r3, hm] at hsz
  refine ⟨P', ?_, q1.1, ⟨ca, P3.2.1, P5.2.1, t, q1.2.1, ?_, ?_⟩, ?_⟩
  · simp (disch := omega) only [f_X9_init, va_rf, z_add, z_sub, z_mul, z_neg, zlt, zle, zeq, zne, l0, l1, l2, l3, l4, l5, l6, l7, l8, l9, l10, l11, l16, l17, l20, l24, l32, l37, l47, l57, l60, l67, l77, l97, l99, l122, l48, l57, l100, l237, l397, l600, l900, l880, l9998, l9999, bnd, xcI_rI, xcV_rV, xcR_rR, zb0, zb1, nz0, nz1, nar_z0, nar_z1, nar_b2, ↓reduceIte, ↓xnul_s, ↓xnul_n, xcst_n, List.set_cons_zero, List.set_cons_succ, e1, e2, ↓xcl1_s r1, ↓xgR_s (k := 0) r1 rfl, ↓xgI_s (k := 1) r1 rfl, ↓xgI_s (k := 2) r1 rfl, ↓xgI_s (k := 3) r1 rfl, ↓xgR_s (k := 4) r1 rfl, hsz, hc3, e3, e4, hc5, e5, e6, hc7, q0]
    rfl
  · rw [hn, Int.toNat_natCast]
    exact q1.2.2.2.2.1
  · intro i hi
    rw [q2 i (by omega)]
    unfold rTk
    rw [hn, hm, Int.toNat_natCast, Int.toNat_natCast]
  · have : (n + 1) * (m + 1) ≤ 11 * 17 := Nat.mul_le_mul (by omega) (by omega)
    omega

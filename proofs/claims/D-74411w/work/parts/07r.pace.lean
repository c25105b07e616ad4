/-! PACES: what they are; the component's -/
set_option maxRecDepth 100000
/-- a leg of which a pace is told -/
def pOk (R : Nat → Int) (a : Int) (i : Nat) : Prop := rLg R a i ≠ -2 ∧ 0 < rBL R (rCrs R a) i
/-- how many of the first legs' parts are so -/
def pcnt (R : Nat → Int) (a : Int) (pr : Int → Int → Bool) : Nat → Nat
  | 0 => 0
  | i + 1 => pcnt R a pr i + (if (rLg R a i ≠ -2 ∧ 0 < rBL R (rCrs R a) i) ∧ pr (rLg R a i) (rBL R (rCrs R a) i) = true then 1 else 0)
def pT : Int → Int → Bool := fun _ _ => true
def pLt (x y : Int) : Int → Int → Bool := fun u v => decide (u * y < x * v)
def pLe (x y : Int) : Int → Int → Bool := fun u v => decide (u * y ≤ x * v)
def pAll (R : Nat → Int) (a : Int) (pr : Int → Int → Bool) : Nat := pcnt R a pr (rLen R (rCrs R a) + 1).toNat
/-- x / y is a's pace: the middle one, of two the lesser -/
def isPace (R : Nat → Int) (a x y : Int) : Prop := ((0 ≤ x ∧ x ≤ 9999) ∧ 1 ≤ y ∧ y ≤ 9999) ∧ 1 ≤ pAll R a pT ∧ pAll R a (pLt x y) ≤ (pAll R a pT - 1) / 2 ∧ (pAll R a pT - 1) / 2 < pAll R a (pLe x y)
theorem frac_lt {u v x y x' y' : Int} (hy : 1 ≤ y) (hv : 1 ≤ v) (hy' : 1 ≤ y') (h1 : u * y ≤ x * v) (h2 : x * y' < x' * y) : u * y' < x' * v := by
  have e1 : u * y * y' ≤ x * v * y' := Int.mul_le_mul_of_nonneg_right h1 (by omega)
  have e2 : x * y' * v < x' * y * v := Int.mul_lt_mul_of_pos_right h2 (by omega)
  have e3 : x * v * y' = x * y' * v := by rw [Int.mul_assoc, Int.mul_comm v, ← Int.mul_assoc]
  have e4 : u * y * y' = u * y' * y := by rw [Int.mul_assoc, Int.mul_comm y, ← Int.mul_assoc]
  have e5 : x' * y * v = x' * v * y := by rw [Int.mul_assoc, Int.mul_comm y, ← Int.mul_assoc]
  have e6 : u * y' * y < x' * v * y := by omega
  exact Int.lt_of_mul_lt_mul_right e6 (by omega)
theorem pcnt_le {R : Nat → Int} {a : Int} {p p' : Int → Int → Bool} (h : ∀ u v, 0 < v → p u v = true → p' u v = true) : ∀ i, pcnt R a p i ≤ pcnt R a p' i := by
  intro i
  induction i with
  | zero => exact Nat.le_refl _
  | succ i ih =>
    unfold pcnt
    by_cases c : (rLg R a i ≠ -2 ∧ 0 < rBL R (rCrs R a) i) ∧ p (rLg R a i) (rBL R (rCrs R a) i) = true
    · rw [if_pos c, if_pos ⟨c.1, h _ _ c.1.2 c.2⟩]
      omega
    · rw [if_neg c]
      omega
/-- all paces are one fraction -/
theorem isPace.uniq {R : Nat → Int} {a x y x' y' : Int} (h : isPace R a x y) (h' : isPace R a x' y') : x * y' = x' * y := by
  have key : ∀ x y x' y', isPace R a x y → isPace R a x' y' → ¬ x * y' < x' * y := by
    intro x y x' y' h h' hlt
    have := pcnt_le (R := R) (a := a) (p := pLe x y) (p' := pLt x' y') (fun u v hv hp => by
      unfold pLe at hp
      unfold pLt
      exact decide_eq_true (frac_lt h.1.2.1 hv h'.1.2.1 (of_decide_eq_true hp) hlt)) (rLen R (rCrs R a) + 1).toNat
    have h2 := h.2.2.2
    have h3 := h'.2.2.1
    unfold pAll at *
    omega
  have h1 := key x y x' y' h h'
  have h2 := key x' y' x y h' h
  omega
theorem pcnt_bound {R : Nat → Int} {a : Int} {p : Int → Int → Bool} : ∀ i, pcnt R a p i ≤ i := by
  intro i
  induction i with
  | zero => exact Nat.le_refl _
  | succ i ih => unfold pcnt; split <;> omega
/-- after j polls -/
def QR (C : (Int → Int → Bool) → Nat) (j : Nat) (Cj : (Int → Int → Bool) → Nat) : Prop := (∀ pr, C pr ≤ Cj pr + j) ∧ ∀ x y, 1 ≤ y → 1 ≤ Cj (pLe x y) → C (pLe x y) = Cj (pLe x y) + j
theorem QR.step {C Cj C' : (Int → Int → Bool) → Nat} {j : Nat} {u v : Int} (hv : 1 ≤ v) (h : QR C j Cj) (h1 : ∀ pr, C' pr + (if pr u v = true then 1 else 0) = Cj pr) (h2 : ∀ pr, (∀ u' v', 1 ≤ v' → pr u' v' = true → u' * v < u * v') → Cj pr = 0) : QR C (j + 1) C' := by
  refine ⟨fun pr => ?_, fun x y hy hc => ?_⟩
  · have := h.1 pr
    have := h1 pr
    split at this <;> omega
  · have h3 := h1 (pLe x y)
    by_cases hp : pLe x y u v = true
    · rw [if_pos hp] at h3
      have := h.2 x y hy (by omega)
      omega
    · rw [if_neg hp] at h3
      have h4 : x * v < u * y := by
        unfold pLe at hp
        have h5 : ¬ u * y ≤ x * v := fun e => hp (decide_eq_true e)
        omega
      have := h2 (pLe x y) (fun u' v' hv' hp' => frac_lt hy hv' hv (of_decide_eq_true hp') h4)
      omega
theorem QF.callee {n m k k' : Nat} {P P1 P2 : PH} {W : Nat → Prop} {cs rs : List Nat} {R : Nat → Int} {N : Nat → List Int32} (hI : Iv P) (h : QF m k P P1) (hM : MRep n P1 m cs rs R N) (hf : Fr P1.2.1 W P1 P2) (hw : okW n P1 m W) (hW : ∀ a, W a → P.2.1 ≤ a) (hk : wt P2 ≤ wt P1 + k') : QF m (k + k') P P2 :=
  ⟨Fr.call hI h.1 hf fun a ha => Or.inr (hW a ha), by rw [cred_fr hM h.iv hf hw]; have := h.2; omega⟩
section
variable {n m : Nat} {cs rs : List Nat} {R : Nat → Int} {N : Nat → List Int32} {P : PH}
theorem MRep.ne {x c : Nat} {w : Bool} {fs : List Value} (h : MRep n P m cs rs R N) (hc : P.1 x = some (w, oB c fs)) (hc3 : c ≠ 3) : x ≠ m := by
  obtain ⟨cl, rl, mo, h0, h1, h2, h3⟩ := h
  intro e
  rw [e, h1] at hc
  cases hc
  exact hc3 rfl
theorem MRep.noAr (h : MRep n P m cs rs R N) : noAr P (fun q => q = m) := by
  obtain ⟨cl, rl, mo, h0, h1, h2, h3⟩ := h
  exact noAr_eq h1
/-- the queue stays when the meet is asked -/
theorem QQ.qf {P1 : PH} {q nq k : Nat} {C : (Int → Int → Bool) → Nat} (hq : QQ P q nq C) (h : MRep n P m cs rs R N) (hI : Iv P) (hf : QF m k P P1) : QQ P1 q nq C := by
  obtain ⟨fs, hc⟩ := hq.cell
  exact hq.fr hI hf.1 (h.ne hc (by decide)) h.noAr fun a w fs ha => h.ne ha (by decide)
/-- the queue is emptied to the middle one -/
theorem MRep.mid (h : MRep n P m cs rs R N) (hI : Iv P) (hn : n ≤ P.2.1) {q : Nat} (hq : P.2.1 ≤ q) {a : Int} (hN : 1 ≤ pAll R a pT) {P1 : PH} (h1 : MRep n P1 m cs rs R N) {c : Nat} (hQ : QF m c P P1) (hqq : QQ P1 q (pAll R a pT) (pAll R a)) : ∃ P' p x y, lp (f_X4_pace_121F m) FU (q, z (((pAll R a pT - 1) / 2 : Nat)), P1) = rR (some p) P' ∧ QF m c P P' ∧ MRep n P' m cs rs R N ∧ P'.1 p = some (true, oB 10 [.int (z x), .int (z y)]) ∧ isPace R a x y := by
  suffices hS : OK (lp (f_X4_pace_121F m) FU (q, z (((pAll R a pT - 1) / 2 : Nat)), P1)) (fun v P' => ∃ p x y, v = some (va_rf (some p)) ∧ QF m c P P' ∧ MRep n P' m cs rs R N ∧ P'.1 p = some (true, oB 10 [.int (z x), .int (z y)]) ∧ isPace R a x y) by
    obtain ⟨v, P', e, p, x, y, rfl, r⟩ := hS
    exact ⟨P', p, x, y, e, r⟩
  have hb := pcnt_bound (R := R) (a := a) (p := pT) (rLen R (rCrs R a) + 1).toNat
  have hb2 : pAll R a pT ≤ 16 := by
    obtain ⟨U, V, t, f, b, mc, g1, g2, -⟩ := hqq
    exact g2.2.1.1
  refine ok_lpn (fun d p => ∃ (j : Nat) (P2 : PH) (C : (Int → Int → Bool) → Nat), p = (q, z d, P2) ∧ j + d = (pAll R a pT - 1) / 2 ∧ MRep n P2 m cs rs R N ∧ QF m c P P2 ∧ QQ P2 q (pAll R a pT - j) C ∧ QR (pAll R a) j C) ?_ FU _ _ ⟨0, P1, _, rfl, by omega, h1, hQ, hqq, ⟨fun _ => Nat.le_refl _, fun _ _ _ _ => rfl⟩⟩ (by simp only [FU]; omega)
  rintro kk d p ⟨j, P2, C, rfl, g1, g2, g3, g4, g5⟩ hk
  obtain ⟨nn, hnn⟩ : ∃ nn, pAll R a pT - j = nn + 1 := ⟨pAll R a pT - j - 1, by omega⟩
  rw [hnn] at g4
  obtain ⟨fs, hcell⟩ := g4.cell
  obtain ⟨P3, p, u, v, C', e3, e4, e5, e6, e7, e8, e9, e10⟩ := g4.poll g3.iv
  have okq : okW n P2 m (fun x => x = q) := okW_1 hcell (g2.ne hcell (by decide)) (by decide) (Or.inl (by omega))
  have h3 : MRep n P3 m cs rs R N := g2.fr g3.iv e9 okq
  have q3 : QF m c P P3 := (QF.callee hI g3 g2 e9 okq (fun a ha => by rw [ha]; exact hq) (k' := 0) (by omega))
  simp (disch := omega) only [f_X4_pace_121F, z_add, z_sub, z_mul, z_neg, zlt, zle, zeq, zne, l0, l1, l2, l3, l4, l5, l6, l7, l8, l9, l10, l11, l16, l17, l20, l24, l32, l37, l47, l57, l60, l67, l77, l97, l99, l122, l48, l57, l100, l237, l397, l600, l900, l880, l9998, l9999, bnd, xcI_rI, xcV_rV, xcR_rR, zb0, zb1, nz0, nz1, nar_z0, nar_z1, nar_b2, ↓reduceIte, ↓xnul_s, ↓xnul_n, xcst_n, List.set_cons_zero, List.set_cons_succ]
  refine ok_ite (fun c1 => ?_) fun c1 => ?_
  · have hd : d = 0 := by omega
    simp (disch := omega) only [e3, z_add, z_sub, z_mul, z_neg, zlt, zle, zeq, zne, l0, l1, l2, l3, l4, l5, l6, l7, l8, l9, l10, l11, l16, l17, l20, l24, l32, l37, l47, l57, l60, l67, l77, l97, l99, l122, l48, l57, l100, l237, l397, l600, l900, l880, l9998, l9999, bnd, xcI_rI, xcV_rV, xcR_rR, zb0, zb1, nz0, nz1, nar_z0, nar_z1, nar_b2, ↓reduceIte, ↓xnul_s, ↓xnul_n, xcst_n, List.set_cons_zero, List.set_cons_succ, ↓xcst_s e4 (cs := [10]) rfl]
    refine ok_rR.mpr ⟨p, u, v, rfl, q3, h3, e4, ⟨⟨e5.1, e5.2⟩, hN, ?_, ?_⟩⟩
    · have h0 := e8 (pLt u v) (fun u' v' _ hp => of_decide_eq_true hp)
      have := g5.1 (pLt u v)
      omega
    · have h1 := e7 (pLe u v)
      rw [if_pos (show pLe u v u v = true from decide_eq_true (Int.le_refl _))] at h1
      have := g5.2 u v e5.2.1 (by omega)
      omega
  · simp (disch := omega) only [f_J31_remove, z_add, z_sub, z_mul, z_neg, zlt, zle, zeq, zne, l0, l1, l2, l3, l4, l5, l6, l7, l8, l9, l10, l11, l16, l17, l20, l24, l32, l37, l47, l57, l60, l67, l77, l97, l99, l122, l48, l57, l100, l237, l397, l600, l900, l880, l9998, l9999, bnd, xcI_rI, xcV_rV, xcR_rR, zb0, zb1, nz0, nz1, nar_z0, nar_z1, nar_b2, ↓reduceIte, ↓xnul_s, ↓xnul_n, xcst_n, List.set_cons_zero, List.set_cons_succ, ↓xcl1_s hcell, e3]
    refine hk (d - 1) _ (by omega) ⟨j + 1, P3, C', ?_, by omega, h3, q3, ?_, g5.step e5.2.1 e7 e8⟩
    · rw [show ((d : Int) + -1) = ((d - 1 : Nat) : Int) by omega]
    · rw [show pAll R a pT - (j + 1) = nn by omega]; exact e6
theorem xup_new {P : PH} (hI : Iv P) {n0 x c : Nat} {W : Nat → Prop} {fs fs' : List Value} (hx : P.1 x = some (true, oB c fs)) (hl : fs'.length = fs.length) (hc : ownF c = none) (hn : n0 ≤ x) : Fr n0 W P (xup P x (oB c fs')) := by
  refine Fr.upo hI hx hl (fun b hb => ?_) fun h => absurd h (by omega)
  have : ownA (oB c fs') = none := by unfold ownA; simp only [hc]
  rw [this] at hb
  cases hb
theorem MRep.pace (h : MRep n P m cs rs R N) (hI : Iv P) (hn : n ≤ P.2.1) (hV : RV R) {a : Int} (ha : 0 ≤ a) (ha' : a < R 1) : ∃ P', QF m 100 P P' ∧ MRep n P' m cs rs R N ∧ ((pAll R a pT = 0 ∧ f_X4_pace P m (z a) = rR none P') ∨ ∃ p x y, f_X4_pace P m (z a) = rR (some p) P' ∧ P'.1 p = some (true, oB 10 [.int (z x), .int (z y)]) ∧ isPace R a x y) := by
  have h0R := hV.nC
  have hcr := hV.crs ha ha'
  have hl := hV.len hcr.1 hcr.2
  suffices hS : OK (f_X4_pace P m (z a)) (fun v P' => QF m 100 P P' ∧ MRep n P' m cs rs R N ∧ ((pAll R a pT = 0 ∧ v = some (va_rf none)) ∨ ∃ p x y, v = some (va_rf (some p)) ∧ P'.1 p = some (true, oB 10 [.int (z x), .int (z y)]) ∧ isPace R a x y)) by
    obtain ⟨v, P', e, q1, q2, q3⟩ := hS
    refine ⟨P', q1, q2, ?_⟩
    rcases q3 with ⟨q3, rfl⟩ | ⟨p, x, y, rfl, q3⟩
    · exact Or.inl ⟨q3, e⟩
    · exact Or.inr ⟨p, x, y, e, q3⟩
  obtain ⟨cl, rl, mo, hcm, hcz, hrz, hcg, hrg⟩ := h.at
  obtain ⟨P1, e1, qq1, f1, w1⟩ := QQ.new hI
  have h1 := h.fr hI f1 okW_0
  have Q1 : QF m 22 P P1 := QF.of h hI f1 okW_0 (fun _ h => h.elim) (by omega)
  obtain ⟨cl, rl, mo, hcm1, hcz1, hrz1, hcg1, hrg1⟩ := h1.at
  obtain ⟨x, hx, hxr⟩ := h1.run ha ha'
  obtain ⟨s, pl, ps, k0, k1, k2, k3, k4, k5⟩ := hxr
  simp (disch := omega) only [f_X4_pace, z_add, z_sub, z_mul, z_neg, zlt, zle, zeq, zne, l0, l1, l2, l3, l4, l5, l6, l7, l8, l9, l10, l11, l16, l17, l20, l24, l32, l37, l47, l57, l60, l67, l77, l97, l99, l122, l48, l57, l100, l237, l397, l600, l900, l880, l9998, l9999, bnd, xcI_rI, xcV_rV, xcR_rR, zb0, zb1, nz0, nz1, nar_z0, nar_z1, nar_b2, ↓reduceIte, ↓xnul_s, ↓xnul_n, xcst_n, List.set_cons_zero, List.set_cons_succ, ↓xcl1_s hcm, ↓xnew_s, List.length_cons, List.length_nil, Nat.reduceAdd, e1, ↓xcl1_s hcm1, ↓xgR_s (k := 0) hcm1 rfl, ↓xgR_s (k := 1) hcm1 rfl, ↓xgI_s (k := 2) hcm1 rfl, ↓xgI_s (k := 3) hcm1 rfl, hrg1 a x ha ha' hx, ↓xcst_s k1 (cs := [6]) rfl, ↓xcl1_s k1, ↓xgR_s (k := 0) k1 rfl, ↓xgI_s (k := 1) k1 rfl, ↓xgI_s (k := 2) k1 rfl, ↓xgI_s (k := 3) k1 rfl, ↓xgR_s (k := 4) k1 rfl]
  clear hcm hcz hrz hcg hrg hcm1 hcz1 hrz1 hcg1 hrg1 k0 k1 k2 k3 k4 k5 e1
  refine ok_lpn (fun d p => ∃ (i : Nat) (P2 : PH), p = (z a, P.2.1, z (rCrs R a), z i, P2) ∧ d = (rLen R (rCrs R a) + 1).toNat - i ∧ (i : Int) ≤ rLen R (rCrs R a) + 1 ∧ MRep n P2 m cs rs R N ∧ QF m (22 + 3 * i) P P2 ∧ QQ P2 P.2.1 (pcnt R a pT i) (fun pr => pcnt R a pr i)) ?_ FU _ _ ⟨0, P1, rfl, rfl, by omega, h1, Q1, qq1⟩ (by simp only [FU]; omega)
  rintro kk d p ⟨i, P2, rfl, rfl, g1, g2, g3, g4⟩ hk
  have hI2 := g3.iv
  obtain ⟨cl, rl, mo, hcm, hcz, hrz, hcg, hrg⟩ := g2.at
  obtain ⟨ca, hca, hcar⟩ := g2.crs hcr.1 hcr.2
  have hsz := hcar.size
  obtain ⟨s', cl', is, r0, r1, r2, r3, r4, r5⟩ := hcar
  simp (disch := omega) only [f_X4_pace_30F, f_X4_pace_105, z_add, z_sub, z_mul, z_neg, zlt, zle, zeq, zne, l0, l1, l2, l3, l4, l5, l6, l7, l8, l9, l10, l11, l16, l17, l20, l24, l32, l37, l47, l57, l60, l67, l77, l97, l99, l122, l48, l57, l100, l237, l397, l600, l900, l880, l9998, l9999, bnd, xcI_rI, xcV_rV, xcR_rR, zb0, zb1, nz0, nz1, nar_z0, nar_z1, nar_b2, ↓reduceIte, ↓xnul_s, ↓xnul_n, xcst_n, List.set_cons_zero, List.set_cons_succ, ↓xcl1_s hcm, ↓xgR_s (k := 0) hcm rfl, ↓xgR_s (k := 1) hcm rfl, ↓xgI_s (k := 2) hcm rfl, ↓xgI_s (k := 3) hcm rfl, hcg _ ca hcr.1 hcr.2 hca, ↓xcst_s r1 (cs := [5]) rfl, hsz]
  refine ok_ite (fun c1 => ?_) fun c1 => ?_
  · have hi : i = (rLen R (rCrs R a) + 1).toNat := by omega
    subst hi
    have hsq := g4.size
    rw [hsq, xcI_rI]
    refine ok_neg (by decide) ?_
    by_cases hN : pAll R a pT = 0
    · have hN' : pcnt R a pT (rLen R (rCrs R a) + 1).toNat = 0 := hN
      rw [hN'] at g4 ⊢
      rw [show (z ((0 : Nat) : Int) - z 1) / z 2 = z 0 from by decide]
      show OK (f_X4_pace_121F m (lp (f_X4_pace_121F m) 9999) (P.2.1, z 0, P2)) _
      simp (disch := omega) only [f_X4_pace_121F, z_add, z_sub, z_mul, z_neg, zlt, zle, zeq, zne, l0, l1, l2, l3, l4, l5, l6, l7, l8, l9, l10, l11, l16, l17, l20, l24, l32, l37, l47, l57, l60, l67, l77, l97, l99, l122, l48, l57, l100, l237, l397, l600, l900, l880, l9998, l9999, bnd, xcI_rI, xcV_rV, xcR_rR, zb0, zb1, nz0, nz1, nar_z0, nar_z1, nar_b2, ↓reduceIte, ↓xnul_s, ↓xnul_n, xcst_n, List.set_cons_zero, List.set_cons_succ, g4.poll0, xcst_n, Int.le_refl]
      exact ok_rR.mpr ⟨g3.mono (by omega), g2, Or.inl ⟨hN, rfl⟩⟩
    · have hb2 : pAll R a pT ≤ 16 := by
        obtain ⟨U, V, t, f, b, mc, u1, u2, -⟩ := g4
        exact u2.2.1.1
      have hdv : (z ((pAll R a pT : Nat) : Int) - z 1) / z 2 = z (((pAll R a pT - 1) / 2 : Nat)) := by
        have : ∀ q : Fin 17, 1 ≤ q.1 → (z ((q.1 : Nat) : Int) - z 1) / z 2 = z (((q.1 - 1) / 2 : Nat)) := by decide +kernel
        exact this ⟨pAll R a pT, by omega⟩ (show 1 ≤ pAll R a pT by omega)
      obtain ⟨P3, p, x, y, s1, s2, s3, s4, s5⟩ := h.mid hI hn (Nat.le_refl _) (a := a) (by omega) g2 g3 g4
      show OK (lp (f_X4_pace_121F m) FU (P.2.1, (z ((pAll R a pT : Nat) : Int) - z 1) / z 2, P2)) _
      rw [hdv, s1]
      exact ok_rR.mpr ⟨s2.mono (by omega), s3, Or.inr ⟨p, x, y, rfl, s4, s5⟩⟩
  · obtain ⟨P3, y3, e3, e3', t3, q3⟩ := g2.mleg hI2 hV ha ha' (i := i) (by omega) (by omega)
    have hr := rLg_rg hV ha ha' (i := i) (by omega) (by omega)
    have hrb := rBL_rg hV (c := rCrs R a) (i := i) (by omega) (by omega)
    have gq3 := g4.qf g2 hI2 q3
    have hskip : ¬ (rLg R a i ≠ -2 ∧ 0 < rBL R (rCrs R a) i) → (∀ pr, pcnt R a pr (i + 1) = pcnt R a pr i) := fun hn pr => by
      rw [pcnt, if_neg (fun e => hn e.1), Nat.add_zero]
    simp (disch := omega) only [e3, e3', z_add, z_sub, z_mul, z_neg, zlt, zle, zeq, zne, l0, l1, l2, l3, l4, l5, l6, l7, l8, l9, l10, l11, l16, l17, l20, l24, l32, l37, l47, l57, l60, l67, l77, l97, l99, l122, l48, l57, l100, l237, l397, l600, l900, l880, l9998, l9999, bnd, xcI_rI, xcV_rV, xcR_rR, zb0, zb1, nz0, nz1, nar_z0, nar_z1, nar_b2, ↓reduceIte, ↓xnul_s, ↓xnul_n, xcst_n, List.set_cons_zero, List.set_cons_succ]
    refine ok_ite (fun c2 => ?_) fun c2 => ?_
    · have hs := hskip fun e => e.1 c2
      refine hk _ _ (by omega) ⟨i + 1, P3, rfl, rfl, by omega, t3, (g3.trans hI q3).mono (by omega), ?_⟩
      rw [hs pT, funext hs]
      exact gq3
    · obtain ⟨P4, e4, t4, q4⟩ := t3.best q3.iv hV hcr.1 hcr.2 (i := i) (by omega) (by omega)
      have gq4 := gq3.qf t3 q3.iv q4
      simp (disch := omega) only [e4, z_add, z_sub, z_mul, z_neg, zlt, zle, zeq, zne, l0, l1, l2, l3, l4, l5, l6, l7, l8, l9, l10, l11, l16, l17, l20, l24, l32, l37, l47, l57, l60, l67, l77, l97, l99, l122, l48, l57, l100, l237, l397, l600, l900, l880, l9998, l9999, bnd, xcI_rI, xcV_rV, xcR_rR, zb0, zb1, nz0, nz1, nar_z0, nar_z1, nar_b2, ↓reduceIte, ↓xnul_s, ↓xnul_n, xcst_n, List.set_cons_zero, List.set_cons_succ]
      refine ok_ite (fun c3 => ?_) fun c3 => ?_
      · have hs := hskip fun e => by omega
        refine hk _ _ (by omega) ⟨i + 1, P4, rfl, rfl, by omega, t4, (g3.trans hI (q3.trans hI2 q4)).mono (by omega), ?_⟩
        rw [hs pT, funext hs]
        exact gq4
      · have Q4 := g3.trans hI (q3.trans hI2 q4)
        have hIv4 := Q4.iv
        have f5 : Fr P4.2.1 W0 P4 (xpush P4 (oB 10 [.int (z 0), .int (z 0)]) 2) := Fr.push hIv4 rfl
        have g5 : (xpush P4 (oB 10 [.int (z 0), .int (z 0)]) 2).1 P4.2.1 = some (true, oB 10 [.int (z 0), .int (z 0)]) := push_at
        have w5 : wt (xpush P4 (oB 10 [.int (z 0), .int (z 0)]) 2) = wt P4 + 1 + 2 := wt_push
        have t5 := t4.fr hIv4 f5 okW_0
        have Q5 : QF m 3 P4 (xpush P4 (oB 10 [.int (z 0), .int (z 0)]) 2) := QF.of t4 hIv4 f5 okW_0 (fun _ h => h.elim) (by omega)
        have gq5 := gq4.fr hIv4 f5 (fun h => h) noAr_0 (fun _ _ _ _ h => h)
        simp (disch := omega) only [↓xnew_s, List.length_cons, List.length_nil, Nat.reduceAdd]
        generalize xpush P4 (oB 10 [.int (z 0), .int (z 0)]) 2 = P5 at *
        obtain ⟨P6, y6, e6, e6', t6, q6⟩ := t5.mleg f5.iv hV ha ha' (i := i) (by omega) (by omega)
        have gq6 := gq5.qf t5 f5.iv q6
        have g6 := q6.1.ob (f5.iv.lt g5) g5 (t5.ne g5 (by decide))
        obtain ⟨P7, e7, t7, q7⟩ := t6.best q6.iv hV hcr.1 hcr.2 (i := i) (by omega) (by omega)
        have gq7 := gq6.qf t6 q6.iv q7
        have g7 := q7.1.ob (q6.iv.lt g6) g6 (t6.ne g6 (by decide))
        have hge : P.2.1 ≤ P4.2.1 := Q4.1.next
        have Q7 := (Q4.trans hI (Q5.trans hIv4 (q6.trans f5.iv q7)))
        -- the part is filled in
        have f8 : Fr P7.2.1 (fun q => q = P4.2.1) P7 (xup P7 P4.2.1 (oB 10 [.int (z (rLg R a i)), .int (z 0)])) := Fr.upo Q7.iv g7 rfl (fun b hb => by cases hb) fun _ => rfl
        have g8 : (xup P7 P4.2.1 (oB 10 [.int (z (rLg R a i)), .int (z 0)])).1 P4.2.1 = some (true, oB 10 [.int (z (rLg R a i)), .int (z 0)]) := up_at
        have f9 : Fr P7.2.1 (fun q => q = P4.2.1) _ (xup (xup P7 P4.2.1 (oB 10 [.int (z (rLg R a i)), .int (z 0)])) P4.2.1 (oB 10 [.int (z (rLg R a i)), .int (z (rBL R (rCrs R a) i))])) := Fr.upo f8.iv g8 rfl (fun b hb => by cases hb) fun _ => rfl
        have g9 : (xup (xup P7 P4.2.1 (oB 10 [.int (z (rLg R a i)), .int (z 0)])) P4.2.1 (oB 10 [.int (z (rLg R a i)), .int (z (rBL R (rCrs R a) i))])).1 P4.2.1 = some (true, oB 10 [.int (z (rLg R a i)), .int (z (rBL R (rCrs R a) i))]) := up_at
        have w9 : wt (xup (xup P7 P4.2.1 (oB 10 [.int (z (rLg R a i)), .int (z 0)])) P4.2.1 (oB 10 [.int (z (rLg R a i)), .int (z (rBL R (rCrs R a) i))])) = wt P7 := rfl
        have F9 := f8.trans f9
        have ok9 : okW n P7 m (fun q => q = P4.2.1) := okW_1 g7 (t7.ne g7 (by decide)) (by decide) (Or.inl (by omega))
        have t9 := t7.fr Q7.iv F9 ok9
        have Q9 := QF.callee hI Q7 t7 F9 ok9 (fun a ha => by rw [ha]; exact hge) (k' := 0) (by omega)
        have e8 : ∀ {β : Type} (K : PH → Option β), xpF P7 P4.2.1 10 0 (.int (z (rLg R a i))) K = K (xup P7 P4.2.1 (oB 10 [.int (z (rLg R a i)), .int (z 0)])) := fun K => xpF_z g7 (by simp)
        have e9 : ∀ {β : Type} (K : PH → Option β), xpF (xup P7 P4.2.1 (oB 10 [.int (z (rLg R a i)), .int (z 0)])) P4.2.1 10 1 (.int (z (rBL R (rCrs R a) i))) K = K (xup (xup P7 P4.2.1 (oB 10 [.int (z (rLg R a i)), .int (z 0)])) P4.2.1 (oB 10 [.int (z (rLg R a i)), .int (z (rBL R (rCrs R a) i))])) := fun K => xpF_z g8 (by simp)
        have Q49 := QF.callee hIv4 (Q5.trans hIv4 (q6.trans f5.iv q7)) t7 F9 ok9 (fun a ha => by rw [ha]; exact Nat.le_refl _) (k' := 0) (by omega)
        have gq9 := gq4.qf t4 hIv4 Q49
        have hlen : pcnt R a pT i < 16 := by
          have := pcnt_bound (R := R) (a := a) (p := pT) i
          omega
        generalize xup (xup P7 P4.2.1 (oB 10 [.int (z (rLg R a i)), .int (z 0)])) P4.2.1 (oB 10 [.int (z (rLg R a i)), .int (z (rBL R (rCrs R a) i))]) = P9 at *
        obtain ⟨P10, e10, q10, f10, w10⟩ := gq9.add Q9.iv hlen g9 (by omega) (by omega)
        obtain ⟨fsq, hcq⟩ := gq9.cell
        have ok10 : okW n P9 m (fun x => x = P.2.1) := okW_1 hcq (t9.ne hcq (by decide)) (by decide) (Or.inl hn)
        have t10 := t9.fr Q9.iv f10 ok10
        have Q10 := QF.callee hI Q9 t9 f10 ok10 (fun a ha => by rw [ha]; exact Nat.le_refl _) (k' := 0) (by omega)
        simp (disch := omega) only [e6, e6', e7, z_add, z_sub, z_mul, z_neg, zlt, zle, zeq, zne, l0, l1, l2, l3, l4, l5, l6, l7, l8, l9, l10, l11, l16, l17, l20, l24, l32, l37, l47, l57, l60, l67, l77, l97, l99, l122, l48, l57, l100, l237, l397, l600, l900, l880, l9998, l9999, bnd, xcI_rI, xcV_rV, xcR_rR, zb0, zb1, nz0, nz1, nar_z0, nar_z1, nar_b2, ↓reduceIte, ↓xnul_s, ↓xnul_n, xcst_n, List.set_cons_zero, List.set_cons_succ, f_X11_init, e8, e9, e10]
        refine hk _ _ (by omega) ⟨i + 1, P10, rfl, rfl, by omega, t10, Q10.mono (by omega), ?_⟩
        have hpc : ∀ pr, pcnt R a pr (i + 1) = pcnt R a pr i + (if pr (rLg R a i) (rBL R (rCrs R a) i) = true then 1 else 0) := by
          intro pr
          rw [pcnt]
          congr 1
          by_cases e : pr (rLg R a i) (rBL R (rCrs R a) i) = true
          · rw [if_pos ⟨⟨c2, by omega⟩, e⟩, if_pos e]
          · rw [if_neg (fun h => e h.2), if_neg e]
        rw [funext hpc, hpc pT]
        exact q10
end

/-! A MEET's QUERIES: the component's -/
set_option maxRecDepth 100000
/-- K answers v and leaves the meet -/
def Qy (n m : Nat) (cs rs : List Nat) (R : Nat → Int) (N : Nat → List Int32) (k : Nat) (P : PH) (K : Option (xO × PH)) (v : Int) : Prop := ∃ P', K = rI (z v) P' ∧ MRep n P' m cs rs R N ∧ QF m k P P'
theorem ok_qy {n m : Nat} {cs rs : List Nat} {R : Nat → Int} {N : Nat → List Int32} {k : Nat} {P : PH} {K : Option (xO × PH)} {v : Int} (h : OK K (fun o P' => o = some (.int (z v)) ∧ MRep n P' m cs rs R N ∧ QF m k P P')) : Qy n m cs rs R N k P K v := by
  obtain ⟨o, P', e, rfl, h1, h2⟩ := h
  exact ⟨P', e, h1, h2⟩
theorem Qy.mono {n m : Nat} {cs rs : List Nat} {R : Nat → Int} {N : Nat → List Int32} {k k' : Nat} {P : PH} {K : Option (xO × PH)} {v : Int} (h : Qy n m cs rs R N k P K v) (hk : k ≤ k') : Qy n m cs rs R N k' P K v := by
  obtain ⟨P', e, h1, h2⟩ := h
  exact ⟨P', e, h1, h2.mono hk⟩
section
variable {n m : Nat} {cs rs : List Nat} {R : Nat → Int} {N : Nat → List Int32} {P : PH}
theorem MRep.isOf (h : MRep n P m cs rs R N) (hV : RV R) {a c : Int} (ha : 0 ≤ a) (ha' : a < R 1) (hc : -10 ≤ c) (hc' : c < 1000) : f_X4_isOf P m (z a) (z c) = rI (z (b2 (rCrs R a = c))) P := by
  have h1 := hV.nR
  have h0 := hV.nC
  have hcr := hV.crs ha ha'
  obtain ⟨cl, rl, mo, hcm, hcz, hrz, hcg, hrg⟩ := h.at
  obtain ⟨x, hx, hxr⟩ := h.run ha ha'
  obtain ⟨s, pl, ps, q0, q1, q2, q3, q4, q5⟩ := hxr
  simp (disch := omega) only [f_X4_isOf, z_add, z_sub, z_mul, z_neg, zlt, zle, zeq, zne, l0, l1, l2, l3, l4, l5, l6, l7, l8, l9, l10, l11, l16, l17, l20, l24, l32, l37, l47, l57, l60, l67, l77, l97, l99, l122, l48, l57, l100, l237, l397, l600, l900, l880, l9998, l9999, bnd, xcI_rI, xcV_rV, xcR_rR, zb0, zb1, nz0, nz1, nar_z0, nar_z1, nar_b2, ↓reduceIte, ↓xnul_s, ↓xnul_n, xcst_n, List.set_cons_zero, List.set_cons_succ, ↓xcl1_s hcm, ↓xgR_s (k := 0) hcm rfl, ↓xgR_s (k := 1) hcm rfl, ↓xgI_s (k := 2) hcm rfl, ↓xgI_s (k := 3) hcm rfl, hrg a x ha ha' hx, ↓xcst_s q1 (cs := [6]) rfl, ↓xcl1_s q1, ↓xgR_s (k := 0) q1 rfl, ↓xgI_s (k := 1) q1 rfl, ↓xgI_s (k := 2) q1 rfl, ↓xgI_s (k := 3) q1 rfl, ↓xgR_s (k := 4) q1 rfl]
  unfold b2
  split <;> rfl
theorem MRep.isValid (h : MRep n P m cs rs R N) (hI : Iv P) (hV : RV R) {a : Int} (ha : 0 ≤ a) (ha' : a < R 1) : Qy n m cs rs R N 0 P (f_X4_isValid P m (z a)) (b2 (rVal R a)) := by
  have hcr := hV.crs ha ha'
  have h0 := hV.nC
  obtain ⟨cl, rl, mo, hcm, hcz, hrz, hcg, hrg⟩ := h.at
  obtain ⟨P1, y, x, e, r1, r2, r3, r4⟩ := h.match hI hV ha ha'
  have hm := r3.missed hV ha ha' hcr.1 hcr.2
  have hrm := rMis_rg hV (a := a) hcr.1 hcr.2
  have hl := hV.len hcr.1 hcr.2
  refine ⟨P1, ?_, r1, r4⟩
  simp (disch := omega) only [f_X4_isValid, z_add, z_sub, z_mul, z_neg, zlt, zle, zeq, zne, l0, l1, l2, l3, l4, l5, l6, l7, l8, l9, l10, l11, l16, l17, l20, l24, l32, l37, l47, l57, l60, l67, l77, l97, l99, l122, l48, l57, l100, l237, l397, l600, l900, l880, l9998, l9999, bnd, xcI_rI, xcV_rV, xcR_rR, zb0, zb1, nz0, nz1, nar_z0, nar_z1, nar_b2, ↓reduceIte, ↓xnul_s, ↓xnul_n, xcst_n, List.set_cons_zero, List.set_cons_succ, ↓xcl1_s hcm, ↓xgR_s (k := 0) hcm rfl, ↓xgR_s (k := 1) hcm rfl, ↓xgI_s (k := 2) hcm rfl, ↓xgI_s (k := 3) hcm rfl, e, hm]
  unfold b2
  split <;> rfl

theorem MRep.ofL (h : MRep n P m cs rs R N) (hI : Iv P) (hV : RV R) {a i : Int} (ha : 0 ≤ a) (ha' : a < R 1) (hi : 0 ≤ i) (hi' : i ≤ rLen R (rCrs R a)) : Qy n m cs rs R N 0 P (f_X4_of P m (z a) (z i) (z 1)) (rLg R a i) := by
  obtain ⟨cl, rl, mo, hcm, hcz, hrz, hcg, hrg⟩ := h.at
  obtain ⟨P1, y, x, e, r1, r2, r3, r4⟩ := h.match hI hV ha ha'
  obtain ⟨x', hx', hxr⟩ := r1.run ha ha'
  rw [r2] at hx'
  cases hx'
  have hm := r3.leg hxr hV ha ha' hi hi'
  refine ⟨P1, ?_, r1, r4⟩
  simp (disch := omega) only [f_X4_of, z_add, z_sub, z_mul, z_neg, zlt, zle, zeq, zne, l0, l1, l2, l3, l4, l5, l6, l7, l8, l9, l10, l11, l16, l17, l20, l24, l32, l37, l47, l57, l60, l67, l77, l97, l99, l122, l48, l57, l100, l237, l397, l600, l900, l880, l9998, l9999, bnd, xcI_rI, xcV_rV, xcR_rR, zb0, zb1, nz0, nz1, nar_z0, nar_z1, nar_b2, ↓reduceIte, ↓xnul_s, ↓xnul_n, xcst_n, List.set_cons_zero, List.set_cons_succ, ↓xcl1_s hcm, ↓xgR_s (k := 0) hcm rfl, ↓xgR_s (k := 1) hcm rfl, ↓xgI_s (k := 2) hcm rfl, ↓xgI_s (k := 3) hcm rfl, show ¬ ((1 : Int) = 0) by decide, e, hm]

theorem MRep.ofS (h : MRep n P m cs rs R N) (hI : Iv P) (hV : RV R) {a i : Int} (ha : 0 ≤ a) (ha' : a < R 1) (hi : 0 ≤ i) (hi' : i ≤ rLen R (rCrs R a)) : Qy n m cs rs R N 0 P (f_X4_of P m (z a) (z i) (z 0)) (rSp R a i) := by
  obtain ⟨cl, rl, mo, hcm, hcz, hrz, hcg, hrg⟩ := h.at
  obtain ⟨P1, y, x, e, r1, r2, r3, r4⟩ := h.match hI hV ha ha'
  obtain ⟨x', hx', hxr⟩ := r1.run ha ha'
  rw [r2] at hx'
  cases hx'
  have hm := r3.split hxr hV ha ha' hi hi'
  refine ⟨P1, ?_, r1, r4⟩
  simp (disch := omega) only [f_X4_of, z_add, z_sub, z_mul, z_neg, zlt, zle, zeq, zne, l0, l1, l2, l3, l4, l5, l6, l7, l8, l9, l10, l11, l16, l17, l20, l24, l32, l37, l47, l57, l60, l67, l77, l97, l99, l122, l48, l57, l100, l237, l397, l600, l900, l880, l9998, l9999, bnd, xcI_rI, xcV_rV, xcR_rR, zb0, zb1, nz0, nz1, nar_z0, nar_z1, nar_b2, ↓reduceIte, ↓xnul_s, ↓xnul_n, xcst_n, List.set_cons_zero, List.set_cons_succ, ↓xcl1_s hcm, ↓xgR_s (k := 0) hcm rfl, ↓xgR_s (k := 1) hcm rfl, ↓xgI_s (k := 2) hcm rfl, ↓xgI_s (k := 3) hcm rfl, show ¬ ((1 : Int) = 0) by decide, e, hm]

theorem MRep.leastL (h : MRep n P m cs rs R N) (hI : Iv P) (hV : RV R) {c i : Int} (hc : 0 ≤ c) (hc' : c < R 0) (hi : 0 ≤ i) (hi' : i ≤ rLen R c) : Qy n m cs rs R N 0 P (f_X4_least P m (z c) (z i) (z 1)) (rBR R c i) := by
  have h1 := hV.nR
  have h0 := hV.nC
  have hlc := hV.len hc hc'
  have hB : rBR R c i = amin (vLg R c i) (R 1).toNat := rfl
  rw [hB]
  apply ok_qy
  obtain ⟨cl, rl, mo, hcm, hcz, hrz, hcg, hrg⟩ := h.at
  unfold f_X4_least
  rw [xcl1_s hcm]
  clear hcm hcz hrz hcg hrg
  rw [show ((-2 : Int32), (0 : Int32), P) = (z (amin (vLg R c i) 0), z (0 : Nat), P) from rfl]
  generalize hv : vLg R c i = v
  generalize hj : i = j at *
  refine ok_lpn (fun d p => ∃ (i : Nat) (P1 : PH), p = (z c, z j, z 1, z (amin v i), z i, P1) ∧ d = (R 1).toNat - i ∧ (i : Int) ≤ R 1 ∧ MRep n P1 m cs rs R N ∧ QF m (0) P P1) ?_ FU _ _ ⟨0, P, rfl, rfl, by omega, h, QF.rf hI⟩ (by simp only [FU]; omega)
  rintro kk d p ⟨i, P1, rfl, rfl, h4, h5, h6⟩ hk
  have hI1 := h6.iv
  have hst : ∀ (v0 : Int) (P2 : PH), v0 = amin v (i + 1) → MRep n P2 m cs rs R N → QF m (0) P P2 → (i : Int) < R 1 → OK (kk (z c, z j, z 1, z v0, z ((i : Int) + 1), P2)) _ := fun v0 P2 ev0 t2 q2 hl => hk _ _ (by omega) ⟨i + 1, P2, (by rw [ev0]; rfl), rfl, by omega, t2, q2⟩
  obtain ⟨cl, rl, mo, hcm, hcz, hrz, hcg, hrg⟩ := h5.at
  simp (disch := omega) only [f_X4_least_7F, f_X4_least_77, f_X4_least_73, z_add, z_sub, z_mul, z_neg, zlt, zle, zeq, zne, l0, l1, l2, l3, l4, l5, l6, l7, l8, l9, l10, l11, l16, l17, l20, l24, l32, l37, l47, l57, l60, l67, l77, l97, l99, l122, l48, l57, l100, l237, l397, l600, l900, l880, l9998, l9999, bnd, xcI_rI, xcV_rV, xcR_rR, zb0, zb1, nz0, nz1, nar_z0, nar_z1, nar_b2, ↓reduceIte, ↓xnul_s, ↓xnul_n, xcst_n, List.set_cons_zero, List.set_cons_succ, ↓xcl1_s hcm, ↓xgR_s (k := 0) hcm rfl, ↓xgR_s (k := 1) hcm rfl, ↓xgI_s (k := 2) hcm rfl, ↓xgI_s (k := 3) hcm rfl, hcz, hrz]
  refine ok_ite (fun c1 => ?_) fun c1 => ?_
  · have hi : i = (R 1).toNat := by omega
    subst hi
    exact ok_rI.mpr ⟨rfl, h5, h6⟩
  have hcr := hV.crs (a := i) (by omega) (by omega)
  have ha0 := amin_rg v i
  have hio := h5.isOf hV (a := i) (c := c) (by omega) (by omega) (by omega) (by omega)
  simp (disch := omega) only [hio, z_add, z_sub, z_mul, z_neg, zlt, zle, zeq, zne, l0, l1, l2, l3, l4, l5, l6, l7, l8, l9, l10, l11, l16, l17, l20, l24, l32, l37, l47, l57, l60, l67, l77, l97, l99, l122, l48, l57, l100, l237, l397, l600, l900, l880, l9998, l9999, bnd, xcI_rI, xcV_rV, xcR_rR, zb0, zb1, nz0, nz1, nar_z0, nar_z1, nar_b2, ↓reduceIte, ↓xnul_s, ↓xnul_n, xcst_n, List.set_cons_zero, List.set_cons_succ]
  refine ok_ite (fun c2 => ?_) fun c2 => ?_
  · have hvi : v i = -2 := by rw [← hv]; unfold vLg; rw [if_neg c2]
    exact hst _ _ (by exact (amin_n hvi).1) h5 h6 (by omega)
  · have c2 : rCrs R i = c := Decidable.not_not.mp c2
    obtain ⟨P2, e2, t2, q2⟩ := h5.ofL hI1 hV (a := i) (i := j) (by omega) (by omega) hi (by rw [c2]; exact hi')
    have hvi : v i = rLg R i j := by rw [← hv]; unfold vLg; rw [if_pos c2]
    have hr := rLg_rg hV (a := i) (i := j) (by omega) (by omega) hi (by rw [c2]; exact hi')
    simp (disch := omega) only [e2, z_add, z_sub, z_mul, z_neg, zlt, zle, zeq, zne, l0, l1, l2, l3, l4, l5, l6, l7, l8, l9, l10, l11, l16, l17, l20, l24, l32, l37, l47, l57, l60, l67, l77, l97, l99, l122, l48, l57, l100, l237, l397, l600, l900, l880, l9998, l9999, bnd, xcI_rI, xcV_rV, xcR_rR, zb0, zb1, nz0, nz1, nar_z0, nar_z1, nar_b2, ↓reduceIte, ↓xnul_s, ↓xnul_n, xcst_n, List.set_cons_zero, List.set_cons_succ]
    refine ok_ite (fun c3 => ?_) fun c3 => ?_
    · exact hst _ _ (by exact (amin_n (hvi.trans c3)).1) t2 (h6.trans hI q2) (by omega)
    · refine ok_ite (fun c4 => ?_) fun c4 => ?_
      · exact hst _ _ (by exact (amin_y (by rw [hvi]; exact c3) (Or.inl c4)).1) t2 (h6.trans hI q2) (by omega)
      · have hw : rLg R (amin v i) j = lst0 v i ∧ (0 ≤ amin v i ∧ amin v i < i) ∧ rCrs R (amin v i) = c ∧ lst0 v i ≠ -2 := by
          rcases ha0 with ha0 | ha0
          · exact absurd ha0 c4
          · have hz : (((amin v i).toNat : Nat) : Int) = amin v i := by omega
            have hvv := ha0.2.2
            have hvv' := hvv
            rw [← hv] at hvv
            have := vLg_c hvv
            rw [hv] at this
            rw [hz] at this
            refine ⟨?_, ⟨ha0.1, ha0.2.1⟩, this.1, ?_⟩
            · unfold lst0; rw [if_neg c4, this.2]
            · unfold lst0; rw [if_neg c4]; exact hvv'
        obtain ⟨P3, e3, t3, q3⟩ := t2.ofL q2.iv hV (a := i) (i := j) (by omega) (by omega) hi (by rw [c2]; exact hi')
        obtain ⟨P4, e4, t4, q4⟩ := t3.ofL q3.iv hV (a := amin v i) (i := j) (by omega) (by omega) hi (by rw [hw.2.2.1]; exact hi')
        have hr2 := rLg_rg hV (a := amin v i) (i := j) (by omega) (by omega) hi (by rw [hw.2.2.1]; exact hi')
        simp (disch := omega) only [e3, e4, z_add, z_sub, z_mul, z_neg, zlt, zle, zeq, zne, l0, l1, l2, l3, l4, l5, l6, l7, l8, l9, l10, l11, l16, l17, l20, l24, l32, l37, l47, l57, l60, l67, l77, l97, l99, l122, l48, l57, l100, l237, l397, l600, l900, l880, l9998, l9999, bnd, xcI_rI, xcV_rV, xcR_rR, zb0, zb1, nz0, nz1, nar_z0, nar_z1, nar_b2, ↓reduceIte, ↓xnul_s, ↓xnul_n, xcst_n, List.set_cons_zero, List.set_cons_succ]
        have hq := (h6.trans hI q2).trans hI (q3.trans q2.iv q4)
        refine ok_ite (fun c5 => ?_) fun c5 => ?_
        · exact hst _ _ (by exact (amin_k c4 (by omega)).1) t4 hq (by omega)
        · exact hst _ _ (by exact (amin_y (by rw [hvi]; exact c3) (Or.inr (by omega))).1) t4 hq (by omega)

theorem MRep.leastS (h : MRep n P m cs rs R N) (hI : Iv P) (hV : RV R) {c i : Int} (hc : 0 ≤ c) (hc' : c < R 0) (hi : 0 ≤ i) (hi' : i ≤ rLen R c) : Qy n m cs rs R N 0 P (f_X4_least P m (z c) (z i) (z 0)) (rBS R c i) := by
  have h1 := hV.nR
  have h0 := hV.nC
  have hlc := hV.len hc hc'
  have hB : rBS R c i = amin (vSp R c i) (R 1).toNat := rfl
  rw [hB]
  apply ok_qy
  obtain ⟨cl, rl, mo, hcm, hcz, hrz, hcg, hrg⟩ := h.at
  unfold f_X4_least
  rw [xcl1_s hcm]
  clear hcm hcz hrz hcg hrg
  rw [show ((-2 : Int32), (0 : Int32), P) = (z (amin (vSp R c i) 0), z (0 : Nat), P) from rfl]
  generalize hv : vSp R c i = v
  generalize hj : i = j at *
  refine ok_lpn (fun d p => ∃ (i : Nat) (P1 : PH), p = (z c, z j, z 0, z (amin v i), z i, P1) ∧ d = (R 1).toNat - i ∧ (i : Int) ≤ R 1 ∧ MRep n P1 m cs rs R N ∧ QF m (0) P P1) ?_ FU _ _ ⟨0, P, rfl, rfl, by omega, h, QF.rf hI⟩ (by simp only [FU]; omega)
  rintro kk d p ⟨i, P1, rfl, rfl, h4, h5, h6⟩ hk
  have hI1 := h6.iv
  have hst : ∀ (v0 : Int) (P2 : PH), v0 = amin v (i + 1) → MRep n P2 m cs rs R N → QF m (0) P P2 → (i : Int) < R 1 → OK (kk (z c, z j, z 0, z v0, z ((i : Int) + 1), P2)) _ := fun v0 P2 ev0 t2 q2 hl => hk _ _ (by omega) ⟨i + 1, P2, (by rw [ev0]; rfl), rfl, by omega, t2, q2⟩
  obtain ⟨cl, rl, mo, hcm, hcz, hrz, hcg, hrg⟩ := h5.at
  simp (disch := omega) only [f_X4_least_7F, f_X4_least_77, f_X4_least_73, z_add, z_sub, z_mul, z_neg, zlt, zle, zeq, zne, l0, l1, l2, l3, l4, l5, l6, l7, l8, l9, l10, l11, l16, l17, l20, l24, l32, l37, l47, l57, l60, l67, l77, l97, l99, l122, l48, l57, l100, l237, l397, l600, l900, l880, l9998, l9999, bnd, xcI_rI, xcV_rV, xcR_rR, zb0, zb1, nz0, nz1, nar_z0, nar_z1, nar_b2, ↓reduceIte, ↓xnul_s, ↓xnul_n, xcst_n, List.set_cons_zero, List.set_cons_succ, ↓xcl1_s hcm, ↓xgR_s (k := 0) hcm rfl, ↓xgR_s (k := 1) hcm rfl, ↓xgI_s (k := 2) hcm rfl, ↓xgI_s (k := 3) hcm rfl, hcz, hrz]
  refine ok_ite (fun c1 => ?_) fun c1 => ?_
  · have hi : i = (R 1).toNat := by omega
    subst hi
    exact ok_rI.mpr ⟨rfl, h5, h6⟩
  have hcr := hV.crs (a := i) (by omega) (by omega)
  have ha0 := amin_rg v i
  have hio := h5.isOf hV (a := i) (c := c) (by omega) (by omega) (by omega) (by omega)
  simp (disch := omega) only [hio, z_add, z_sub, z_mul, z_neg, zlt, zle, zeq, zne, l0, l1, l2, l3, l4, l5, l6, l7, l8, l9, l10, l11, l16, l17, l20, l24, l32, l37, l47, l57, l60, l67, l77, l97, l99, l122, l48, l57, l100, l237, l397, l600, l900, l880, l9998, l9999, bnd, xcI_rI, xcV_rV, xcR_rR, zb0, zb1, nz0, nz1, nar_z0, nar_z1, nar_b2, ↓reduceIte, ↓xnul_s, ↓xnul_n, xcst_n, List.set_cons_zero, List.set_cons_succ]
  refine ok_ite (fun c2 => ?_) fun c2 => ?_
  · have hvi : v i = -2 := by rw [← hv]; unfold vSp; rw [if_neg c2]
    exact hst _ _ (by exact (amin_n hvi).1) h5 h6 (by omega)
  · have c2 : rCrs R i = c := Decidable.not_not.mp c2
    obtain ⟨P2, e2, t2, q2⟩ := h5.ofS hI1 hV (a := i) (i := j) (by omega) (by omega) hi (by rw [c2]; exact hi')
    have hvi : v i = rSp R i j := by rw [← hv]; unfold vSp; rw [if_pos c2]
    have hr := rSp_rg hV (a := i) (i := j) (by omega) (by omega)
    simp (disch := omega) only [e2, z_add, z_sub, z_mul, z_neg, zlt, zle, zeq, zne, l0, l1, l2, l3, l4, l5, l6, l7, l8, l9, l10, l11, l16, l17, l20, l24, l32, l37, l47, l57, l60, l67, l77, l97, l99, l122, l48, l57, l100, l237, l397, l600, l900, l880, l9998, l9999, bnd, xcI_rI, xcV_rV, xcR_rR, zb0, zb1, nz0, nz1, nar_z0, nar_z1, nar_b2, ↓reduceIte, ↓xnul_s, ↓xnul_n, xcst_n, List.set_cons_zero, List.set_cons_succ]
    refine ok_ite (fun c3 => ?_) fun c3 => ?_
    · exact hst _ _ (by exact (amin_n (hvi.trans c3)).1) t2 (h6.trans hI q2) (by omega)
    · refine ok_ite (fun c4 => ?_) fun c4 => ?_
      · exact hst _ _ (by exact (amin_y (by rw [hvi]; exact c3) (Or.inl c4)).1) t2 (h6.trans hI q2) (by omega)
      · have hw : rSp R (amin v i) j = lst0 v i ∧ (0 ≤ amin v i ∧ amin v i < i) ∧ rCrs R (amin v i) = c ∧ lst0 v i ≠ -2 := by
          rcases ha0 with ha0 | ha0
          · exact absurd ha0 c4
          · have hz : (((amin v i).toNat : Nat) : Int) = amin v i := by omega
            have hvv := ha0.2.2
            have hvv' := hvv
            rw [← hv] at hvv
            have := vSp_c hvv
            rw [hv] at this
            rw [hz] at this
            refine ⟨?_, ⟨ha0.1, ha0.2.1⟩, this.1, ?_⟩
            · unfold lst0; rw [if_neg c4, this.2]
            · unfold lst0; rw [if_neg c4]; exact hvv'
        obtain ⟨P3, e3, t3, q3⟩ := t2.ofS q2.iv hV (a := i) (i := j) (by omega) (by omega) hi (by rw [c2]; exact hi')
        obtain ⟨P4, e4, t4, q4⟩ := t3.ofS q3.iv hV (a := amin v i) (i := j) (by omega) (by omega) hi (by rw [hw.2.2.1]; exact hi')
        have hr2 := rSp_rg hV (a := amin v i) (i := j) (by omega) (by omega)
        simp (disch := omega) only [e3, e4, z_add, z_sub, z_mul, z_neg, zlt, zle, zeq, zne, l0, l1, l2, l3, l4, l5, l6, l7, l8, l9, l10, l11, l16, l17, l20, l24, l32, l37, l47, l57, l60, l67, l77, l97, l99, l122, l48, l57, l100, l237, l397, l600, l900, l880, l9998, l9999, bnd, xcI_rI, xcV_rV, xcR_rR, zb0, zb1, nz0, nz1, nar_z0, nar_z1, nar_b2, ↓reduceIte, ↓xnul_s, ↓xnul_n, xcst_n, List.set_cons_zero, List.set_cons_succ]
        have hq := (h6.trans hI q2).trans hI (q3.trans q2.iv q4)
        refine ok_ite (fun c5 => ?_) fun c5 => ?_
        · exact hst _ _ (by exact (amin_k c4 (by omega)).1) t4 hq (by omega)
        · exact hst _ _ (by exact (amin_y (by rw [hvi]; exact c3) (Or.inr (by omega))).1) t4 hq (by omega)

theorem MRep.leads (h : MRep n P m cs rs R N) (hI : Iv P) (hV : RV R) {c i : Int} (hc : 0 ≤ c) (hc' : c < R 0) (hi : 0 ≤ i) (hi' : i ≤ rLen R c) : Qy n m cs rs R N 0 P (f_X4_leads P m (z c) (z i)) (rBS R c i) := by
  obtain ⟨cl, rl, mo, hcm, hcz, hrz, hcg, hrg⟩ := h.at
  obtain ⟨P2, e2, t2, q2⟩ := h.leastS hI hV hc hc' hi hi'
  exact ⟨P2, by simp (disch := omega) only [f_X4_leads, z_add, z_sub, z_mul, z_neg, zlt, zle, zeq, zne, l0, l1, l2, l3, l4, l5, l6, l7, l8, l9, l10, l11, l16, l17, l20, l24, l32, l37, l47, l57, l60, l67, l77, l97, l99, l122, l48, l57, l100, l237, l397, l600, l900, l880, l9998, l9999, bnd, xcI_rI, xcV_rV, xcR_rR, zb0, zb1, nz0, nz1, nar_z0, nar_z1, nar_b2, ↓reduceIte, ↓xnul_s, ↓xnul_n, xcst_n, List.set_cons_zero, List.set_cons_succ, ↓xcl1_s hcm, ↓xgR_s (k := 0) hcm rfl, ↓xgR_s (k := 1) hcm rfl, ↓xgI_s (k := 2) hcm rfl, ↓xgI_s (k := 3) hcm rfl, e2], t2, q2⟩
theorem MRep.fastest (h : MRep n P m cs rs R N) (hI : Iv P) (hV : RV R) {c i : Int} (hc : 0 ≤ c) (hc' : c < R 0) (hi : 0 ≤ i) (hi' : i ≤ rLen R c) : Qy n m cs rs R N 0 P (f_X4_fastest P m (z c) (z i)) (rBR R c i) := by
  obtain ⟨cl, rl, mo, hcm, hcz, hrz, hcg, hrg⟩ := h.at
  obtain ⟨P2, e2, t2, q2⟩ := h.leastL hI hV hc hc' hi hi'
  exact ⟨P2, by simp (disch := omega) only [f_X4_fastest, z_add, z_sub, z_mul, z_neg, zlt, zle, zeq, zne, l0, l1, l2, l3, l4, l5, l6, l7, l8, l9, l10, l11, l16, l17, l20, l24, l32, l37, l47, l57, l60, l67, l77, l97, l99, l122, l48, l57, l100, l237, l397, l600, l900, l880, l9998, l9999, bnd, xcI_rI, xcV_rV, xcR_rR, zb0, zb1, nz0, nz1, nar_z0, nar_z1, nar_b2, ↓reduceIte, ↓xnul_s, ↓xnul_n, xcst_n, List.set_cons_zero, List.set_cons_succ, ↓xcl1_s hcm, ↓xgR_s (k := 0) hcm rfl, ↓xgR_s (k := 1) hcm rfl, ↓xgI_s (k := 2) hcm rfl, ↓xgI_s (k := 3) hcm rfl, e2], t2, q2⟩
/-- the match's leg -/
theorem MRep.mleg (h : MRep n P m cs rs R N) (hI : Iv P) (hV : RV R) {a i : Int} (ha : 0 ≤ a) (ha' : a < R 1) (hi : 0 ≤ i) (hi' : i ≤ rLen R (rCrs R a)) : ∃ P' y, f_X4_match P m (z a) = rR (some y) P' ∧ f_X9_leg P' y (z i) = rI (z (rLg R a i)) P' ∧ MRep n P' m cs rs R N ∧ QF m 0 P P' := by
  obtain ⟨P1, y, x, e, r1, r2, r3, r4⟩ := h.match hI hV ha ha'
  obtain ⟨x', hx', hxr⟩ := r1.run ha ha'
  rw [r2] at hx'
  cases hx'
  exact ⟨P1, y, e, r3.leg hxr hV ha ha' hi hi', r1, r4⟩
theorem MRep.msplit (h : MRep n P m cs rs R N) (hI : Iv P) (hV : RV R) {a i : Int} (ha : 0 ≤ a) (ha' : a < R 1) (hi : 0 ≤ i) (hi' : i ≤ rLen R (rCrs R a)) : ∃ P' y, f_X4_match P m (z a) = rR (some y) P' ∧ f_X9_split P' y (z i) = rI (z (rSp R a i)) P' ∧ MRep n P' m cs rs R N ∧ QF m 0 P P' := by
  obtain ⟨P1, y, x, e, r1, r2, r3, r4⟩ := h.match hI hV ha ha'
  obtain ⟨x', hx', hxr⟩ := r1.run ha ha'
  rw [r2] at hx'
  cases hx'
  exact ⟨P1, y, e, r3.split hxr hV ha ha' hi hi', r1, r4⟩
theorem MRep.mtime (h : MRep n P m cs rs R N) (hI : Iv P) (hV : RV R) {a i : Int} (ha : 0 ≤ a) (ha' : a < R 1) (hi : -1 ≤ i) (hi' : i ≤ rLen R (rCrs R a)) : ∃ P' y, f_X4_match P m (z a) = rR (some y) P' ∧ f_X9_time P' y (z i) = rI (z (cTm R a i)) P' ∧ MRep n P' m cs rs R N ∧ QF m 0 P P' := by
  obtain ⟨P1, y, x, e, r1, r2, r3, r4⟩ := h.match hI hV ha ha'
  obtain ⟨x', hx', hxr⟩ := r1.run ha ha'
  rw [r2] at hx'
  cases hx'
  exact ⟨P1, y, e, r3.time hxr hV ha ha' hi hi', r1, r4⟩
theorem MRep.best (h : MRep n P m cs rs R N) (hI : Iv P) (hV : RV R) {c i : Int} (hc : 0 ≤ c) (hc' : c < R 0) (hi : 0 ≤ i) (hi' : i ≤ rLen R c) : Qy n m cs rs R N 0 P (f_X4_best P m (z c) (z i)) (rBL R c i) := by
  have h1 := hV.nR
  have hr := rBR_rg hV (c := c) (i := i)
  obtain ⟨cl, rl, mo, hcm, hcz, hrz, hcg, hrg⟩ := h.at
  obtain ⟨P2, e2, t2, q2⟩ := h.fastest hI hV hc hc' hi hi'
  apply ok_qy
  simp (disch := omega) only [f_X4_best, z_add, z_sub, z_mul, z_neg, zlt, zle, zeq, zne, l0, l1, l2, l3, l4, l5, l6, l7, l8, l9, l10, l11, l16, l17, l20, l24, l32, l37, l47, l57, l60, l67, l77, l97, l99, l122, l48, l57, l100, l237, l397, l600, l900, l880, l9998, l9999, bnd, xcI_rI, xcV_rV, xcR_rR, zb0, zb1, nz0, nz1, nar_z0, nar_z1, nar_b2, ↓reduceIte, ↓xnul_s, ↓xnul_n, xcst_n, List.set_cons_zero, List.set_cons_succ, ↓xcl1_s hcm, ↓xgR_s (k := 0) hcm rfl, ↓xgR_s (k := 1) hcm rfl, ↓xgI_s (k := 2) hcm rfl, ↓xgI_s (k := 3) hcm rfl, e2]
  refine ok_ite (fun c2 => ?_) fun c2 => ?_
  · exact ok_rI.mpr ⟨by rw [show rBL R c i = -2 by omega], t2, q2⟩
  · obtain ⟨P3, e3, t3, q3⟩ := t2.fastest q2.iv hV hc hc' hi hi'
    obtain ⟨P4, y, e4, e5, t4, q4⟩ := t3.mleg q3.iv hV (a := rBR R c i) (i := i) (by omega) (by omega) hi (by rw [show rCrs R (rBR R c i) = c by omega]; exact hi')
    simp (disch := omega) only [e3, e4, e5, z_add, z_sub, z_mul, z_neg, zlt, zle, zeq, zne, l0, l1, l2, l3, l4, l5, l6, l7, l8, l9, l10, l11, l16, l17, l20, l24, l32, l37, l47, l57, l60, l67, l77, l97, l99, l122, l48, l57, l100, l237, l397, l600, l900, l880, l9998, l9999, bnd, xcI_rI, xcV_rV, xcR_rR, zb0, zb1, nz0, nz1, nar_z0, nar_z1, nar_b2, ↓reduceIte, ↓xnul_s, ↓xnul_n, xcst_n, List.set_cons_zero, List.set_cons_succ]
    exact ok_rI.mpr ⟨by rw [show rLg R (rBR R c i) i = rBL R c i by omega], t4, q2.trans hI (q3.trans q2.iv q4)⟩
theorem MRep.lost (h : MRep n P m cs rs R N) (hI : Iv P) (hV : RV R) {a i : Int} (ha : 0 ≤ a) (ha' : a < R 1) (hi : 0 ≤ i) (hi' : i ≤ rLen R (rCrs R a)) : Qy n m cs rs R N 0 P (f_X4_lost P m (z a) (z i)) (rLost R a i) := by
  have h0 := hV.nC
  have hcr := hV.crs ha ha'
  have hr := rLg_rg hV ha ha' hi hi'
  obtain ⟨cl, rl, mo, hcm, hcz, hrz, hcg, hrg⟩ := h.at
  obtain ⟨P2, y, e2, e2', t2, q2⟩ := h.mleg hI hV ha ha' hi hi'
  apply ok_qy
  unfold rLost
  simp (disch := omega) only [f_X4_lost, z_add, z_sub, z_mul, z_neg, zlt, zle, zeq, zne, l0, l1, l2, l3, l4, l5, l6, l7, l8, l9, l10, l11, l16, l17, l20, l24, l32, l37, l47, l57, l60, l67, l77, l97, l99, l122, l48, l57, l100, l237, l397, l600, l900, l880, l9998, l9999, bnd, xcI_rI, xcV_rV, xcR_rR, zb0, zb1, nz0, nz1, nar_z0, nar_z1, nar_b2, ↓reduceIte, ↓xnul_s, ↓xnul_n, xcst_n, List.set_cons_zero, List.set_cons_succ, ↓xcl1_s hcm, ↓xgR_s (k := 0) hcm rfl, ↓xgR_s (k := 1) hcm rfl, ↓xgI_s (k := 2) hcm rfl, ↓xgI_s (k := 3) hcm rfl, e2, e2']
  by_cases c2 : rLg R a i = -2
  · rw [if_pos c2, if_pos c2]
    exact ok_rI.mpr ⟨rfl, t2, q2⟩
  · rw [if_neg c2, if_neg c2]
    obtain ⟨P3, y3, e3, e3', t3, q3⟩ := t2.mleg q2.iv hV ha ha' hi hi'
    obtain ⟨cl, rl, mo, hcm3, hcz3, hrz3, hcg3, hrg3⟩ := t3.at
    obtain ⟨x, hx, hxr⟩ := t3.run ha ha'
    obtain ⟨s, pl, ps, k0, k1, k2, k3, k4, k5⟩ := hxr
    obtain ⟨P4, e4, t4, q4⟩ := t3.best q3.iv hV hcr.1 hcr.2 hi hi'
    simp (disch := omega) only [e3, e3', z_add, z_sub, z_mul, z_neg, zlt, zle, zeq, zne, l0, l1, l2, l3, l4, l5, l6, l7, l8, l9, l10, l11, l16, l17, l20, l24, l32, l37, l47, l57, l60, l67, l77, l97, l99, l122, l48, l57, l100, l237, l397, l600, l900, l880, l9998, l9999, bnd, xcI_rI, xcV_rV, xcR_rR, zb0, zb1, nz0, nz1, nar_z0, nar_z1, nar_b2, ↓reduceIte, ↓xnul_s, ↓xnul_n, xcst_n, List.set_cons_zero, List.set_cons_succ, ↓xcl1_s hcm3, ↓xgR_s (k := 0) hcm3 rfl, ↓xgR_s (k := 1) hcm3 rfl, ↓xgI_s (k := 2) hcm3 rfl, ↓xgI_s (k := 3) hcm3 rfl, hrg3 a x ha ha' hx, ↓xcst_s k1 (cs := [6]) rfl, ↓xcl1_s k1, ↓xgR_s (k := 0) k1 rfl, ↓xgI_s (k := 1) k1 rfl, ↓xgI_s (k := 2) k1 rfl, ↓xgI_s (k := 3) k1 rfl, ↓xgR_s (k := 4) k1 rfl, e4]
    exact ok_rI.mpr ⟨rfl, t4, q2.trans hI (q3.trans q2.iv q4)⟩
theorem MRep.ideal (h : MRep n P m cs rs R N) (hI : Iv P) (hV : RV R) {c : Int} (hc : 0 ≤ c) (hc' : c < R 0) : Qy n m cs rs R N 0 P (f_X4_ideal P m (z c)) (idS (fun i => rBL R c i) (rLen R c + 1).toNat) := by
  have h1 := hV.nR
  have h0 := hV.nC
  have hl := hV.len hc hc'
  obtain ⟨cl, rl, mo, hcm, hcz, hrz, hcg, hrg⟩ := h.at
  apply ok_qy
  unfold f_X4_ideal
  rw [xcl1_s hcm]
  clear hcm hcz hrz hcg hrg
  refine ok_lpn (fun d p => ∃ (i : Nat) (P1 : PH), p = (z c, z (idS (fun i => rBL R c i) i), z i, P1) ∧ d = (rLen R c + 1).toNat - i ∧ (i : Int) ≤ rLen R c + 1 ∧ MRep n P1 m cs rs R N ∧ QF m 0 P P1 ∧ idS (fun i => rBL R c i) i ≠ -2) ?_ FU _ _ ⟨0, P, rfl, rfl, by omega, h, QF.rf hI, (by show (0 : Int) ≠ -2; decide)⟩ (by simp only [FU]; omega)
  rintro kk d p ⟨i, P1, rfl, rfl, h4, h5, h6, h7⟩ hk
  have hI1 := h6.iv
  obtain ⟨cl, rl, mo, hcm, hcz, hrz, hcg, hrg⟩ := h5.at
  obtain ⟨x, hx, hxr⟩ := h5.crs hc hc'
  have hsz := hxr.size
  obtain ⟨s, pl, ps, k0, k1, k2, k3, k4, k5⟩ := hxr
  simp (disch := omega) only [f_X4_ideal_4F, z_add, z_sub, z_mul, z_neg, zlt, zle, zeq, zne, l0, l1, l2, l3, l4, l5, l6, l7, l8, l9, l10, l11, l16, l17, l20, l24, l32, l37, l47, l57, l60, l67, l77, l97, l99, l122, l48, l57, l100, l237, l397, l600, l900, l880, l9998, l9999, bnd, xcI_rI, xcV_rV, xcR_rR, zb0, zb1, nz0, nz1, nar_z0, nar_z1, nar_b2, ↓reduceIte, ↓xnul_s, ↓xnul_n, xcst_n, List.set_cons_zero, List.set_cons_succ, ↓xcl1_s hcm, ↓xgR_s (k := 0) hcm rfl, ↓xgR_s (k := 1) hcm rfl, ↓xgI_s (k := 2) hcm rfl, ↓xgI_s (k := 3) hcm rfl, hcg c x hc hc' hx, ↓xcst_s k1 (cs := [5]) rfl, hsz]
  refine ok_ite (fun c1 => ?_) fun c1 => ?_
  · have hi : i = (rLen R c + 1).toNat := by omega
    subst hi
    exact ok_rI.mpr ⟨rfl, h5, h6⟩
  obtain ⟨P2, e2, t2, q2⟩ := h5.best hI1 hV hc hc' (i := i) (by omega) (by omega)
  have hr := rBL_rg hV (c := c) (i := i) (by omega) (by omega)
  simp (disch := omega) only [e2, z_add, z_sub, z_mul, z_neg, zlt, zle, zeq, zne, l0, l1, l2, l3, l4, l5, l6, l7, l8, l9, l10, l11, l16, l17, l20, l24, l32, l37, l47, l57, l60, l67, l77, l97, l99, l122, l48, l57, l100, l237, l397, l600, l900, l880, l9998, l9999, bnd, xcI_rI, xcV_rV, xcR_rR, zb0, zb1, nz0, nz1, nar_z0, nar_z1, nar_b2, ↓reduceIte, ↓xnul_s, ↓xnul_n, xcst_n, List.set_cons_zero, List.set_cons_succ]
  refine ok_ite (fun c2 => ?_) fun c2 => ?_
  · refine ok_rI.mpr ⟨?_, t2, h6.trans hI q2⟩
    have := idS_bad (f := fun i : Nat => rBL R c i) (i := i + 1) (by rw [idS]; exact if_pos (Or.inr c2)) ((rLen R c + 1).toNat - (i + 1))
    rw [show i + 1 + ((rLen R c + 1).toNat - (i + 1)) = (rLen R c + 1).toNat by omega] at this
    rw [this]
  · obtain ⟨P3, e3, t3, q3⟩ := t2.best q2.iv hV hc hc' (i := i) (by omega) (by omega)
    have e : idS (fun i => rBL R c i) (i + 1) = idS (fun i => rBL R c i) i + rBL R c i := by
      rw [idS]
      exact if_neg (fun h => h.elim h7 c2)
    have hb := idS_rg (f := fun i : Nat => rBL R c i) (B := 9999) (n := i) (fun q hq => rBL_rg hV (by omega) (by omega)) (by omega)
    simp (disch := omega) only [e3, z_add, z_sub, z_mul, z_neg, zlt, zle, zeq, zne, l0, l1, l2, l3, l4, l5, l6, l7, l8, l9, l10, l11, l16, l17, l20, l24, l32, l37, l47, l57, l60, l67, l77, l97, l99, l122, l48, l57, l100, l237, l397, l600, l900, l880, l9998, l9999, bnd, xcI_rI, xcV_rV, xcR_rR, zb0, zb1, nz0, nz1, nar_z0, nar_z1, nar_b2, ↓reduceIte, ↓xnul_s, ↓xnul_n, xcst_n, List.set_cons_zero, List.set_cons_succ]
    exact hk _ _ (by omega) ⟨i + 1, P3, by rw [e]; rfl, rfl, by omega, t3, h6.trans hI (q2.trans hI1 q3), by rw [e]; omega⟩

theorem MRep.placeL (h : MRep n P m cs rs R N) (hI : Iv P) (hV : RV R) {a i : Int} (ha : 0 ≤ a) (ha' : a < R 1) (hi : 0 ≤ i) (hi' : i ≤ rLen R (rCrs R a)) : Qy n m cs rs R N 0 P (f_X4_place P m (z a) (z i) (z 1)) (pLg R (rCrs R a) i (rLg R a i)) := by
  have h1 := hV.nR
  have h0 := hV.nC
  have hca := hV.crs ha ha'
  have hlc := hV.len hca.1 hca.2
  have ho := rLg_rg hV ha ha' hi hi'
  unfold pLg
  apply ok_qy
  obtain ⟨cl, rl, mo, hcm, hcz, hrz, hcg, hrg⟩ := h.at
  unfold f_X4_place
  rw [xcl1_s hcm]
  clear hcm hcz hrz hcg hrg
  generalize hj : i = j at *
  rw [show ((1 : Int32), (0 : Int32), P) = (z (1 + sumS (fun o => b2 (vLg R (rCrs R a) j o ≠ -2 ∧ vLg R (rCrs R a) j o < rLg R a j)) 0), z (0 : Nat), P) from rfl]
  refine ok_lpn (fun d p => ∃ (i : Nat) (P1 : PH), p = (z a, z j, z 1, z (1 + sumS (fun o => b2 (vLg R (rCrs R a) j o ≠ -2 ∧ vLg R (rCrs R a) j o < rLg R a j)) i), z i, P1) ∧ d = (R 1).toNat - i ∧ (i : Int) ≤ R 1 ∧ MRep n P1 m cs rs R N ∧ QF m (0) P P1) ?_ FU _ _ ⟨0, P, rfl, rfl, by omega, h, QF.rf hI⟩ (by simp only [FU]; omega)
  rintro kk d p ⟨i, P1, rfl, rfl, h4, h5, h6⟩ hk
  have hI1 := h6.iv
  have hst : ∀ (v0 : Int) (P2 : PH), v0 = 1 + sumS (fun o => b2 (vLg R (rCrs R a) j o ≠ -2 ∧ vLg R (rCrs R a) j o < rLg R a j)) (i + 1) → MRep n P2 m cs rs R N → QF m (0) P P2 → (i : Int) < R 1 → OK (kk (z a, z j, z 1, z v0, z ((i : Int) + 1), P2)) _ := fun v0 P2 ev0 t2 q2 hl => hk _ _ (by omega) ⟨i + 1, P2, (by rw [ev0]; rfl), rfl, by omega, t2, q2⟩
  obtain ⟨cl, rl, mo, hcm, hcz, hrz, hcg, hrg⟩ := h5.at
  simp (disch := omega) only [f_X4_place_6F, f_X4_place_82, f_X4_place_83, z_add, z_sub, z_mul, z_neg, zlt, zle, zeq, zne, l0, l1, l2, l3, l4, l5, l6, l7, l8, l9, l10, l11, l16, l17, l20, l24, l32, l37, l47, l57, l60, l67, l77, l97, l99, l122, l48, l57, l100, l237, l397, l600, l900, l880, l9998, l9999, bnd, xcI_rI, xcV_rV, xcR_rR, zb0, zb1, nz0, nz1, nar_z0, nar_z1, nar_b2, ↓reduceIte, ↓xnul_s, ↓xnul_n, xcst_n, List.set_cons_zero, List.set_cons_succ, ↓xcl1_s hcm, ↓xgR_s (k := 0) hcm rfl, ↓xgR_s (k := 1) hcm rfl, ↓xgI_s (k := 2) hcm rfl, ↓xgI_s (k := 3) hcm rfl, hcz, hrz]
  refine ok_ite (fun c1 => ?_) fun c1 => ?_
  · have hi : i = (R 1).toNat := by omega
    subst hi
    exact ok_rI.mpr ⟨rfl, h5, h6⟩
  have hcr := hV.crs (a := i) (by omega) (by omega)
  have hio := h5.isOf hV (a := i) (c := rCrs R a) (by omega) (by omega) (by omega) (by omega)
  obtain ⟨x, hx, hxr⟩ := h5.run ha ha'
  obtain ⟨s, pl, ps, k0, k1, k2, k3, k4, k5⟩ := hxr
  simp (disch := omega) only [hrg a x ha ha' hx, ↓xcst_s k1 (cs := [6]) rfl, ↓xcl1_s k1, ↓xgR_s (k := 0) k1 rfl, ↓xgI_s (k := 1) k1 rfl, ↓xgI_s (k := 2) k1 rfl, ↓xgI_s (k := 3) k1 rfl, ↓xgR_s (k := 4) k1 rfl, hio, z_add, z_sub, z_mul, z_neg, zlt, zle, zeq, zne, l0, l1, l2, l3, l4, l5, l6, l7, l8, l9, l10, l11, l16, l17, l20, l24, l32, l37, l47, l57, l60, l67, l77, l97, l99, l122, l48, l57, l100, l237, l397, l600, l900, l880, l9998, l9999, bnd, xcI_rI, xcV_rV, xcR_rR, zb0, zb1, nz0, nz1, nar_z0, nar_z1, nar_b2, ↓reduceIte, ↓xnul_s, ↓xnul_n, xcst_n, List.set_cons_zero, List.set_cons_succ]
  refine ok_ite (fun c2 => ?_) fun c2 => ?_
  · have hvi : vLg R (rCrs R a) j i = -2 := by unfold vLg; rw [if_neg c2]
    exact hst _ _ (by rw [sumS, b2_f (fun h => h.1 hvi), Int.add_zero, Int.add_zero]) h5 h6 (by omega)
  · have c2 : rCrs R i = rCrs R a := Decidable.not_not.mp c2
    obtain ⟨P2, e2, t2, q2⟩ := h5.ofL hI1 hV (a := i) (i := j) (by omega) (by omega) hi (by rw [c2]; exact hi')
    have hvi : vLg R (rCrs R a) j i = rLg R i j := by unfold vLg; rw [if_pos c2]
    have hr := rLg_rg hV (a := i) (i := j) (by omega) (by omega) hi (by rw [c2]; exact hi')
    simp (disch := omega) only [e2, z_add, z_sub, z_mul, z_neg, zlt, zle, zeq, zne, l0, l1, l2, l3, l4, l5, l6, l7, l8, l9, l10, l11, l16, l17, l20, l24, l32, l37, l47, l57, l60, l67, l77, l97, l99, l122, l48, l57, l100, l237, l397, l600, l900, l880, l9998, l9999, bnd, xcI_rI, xcV_rV, xcR_rR, zb0, zb1, nz0, nz1, nar_z0, nar_z1, nar_b2, ↓reduceIte, ↓xnul_s, ↓xnul_n, xcst_n, List.set_cons_zero, List.set_cons_succ]
    refine ok_ite (fun c3 => ?_) fun c3 => ?_
    · exact hst _ _ (by rw [sumS, b2_f (fun h => h.1 (hvi.trans c3)), Int.add_zero, Int.add_zero]) t2 (h6.trans hI q2) (by omega)
    · obtain ⟨P3, e3, t3, q3⟩ := t2.ofL q2.iv hV (a := i) (i := j) (by omega) (by omega) hi (by rw [c2]; exact hi')
      obtain ⟨P4, e4, t4, q4⟩ := t3.ofL q3.iv hV (a := a) (i := j) (by omega) (by omega) hi hi'
      simp (disch := omega) only [e3, e4, z_add, z_sub, z_mul, z_neg, zlt, zle, zeq, zne, l0, l1, l2, l3, l4, l5, l6, l7, l8, l9, l10, l11, l16, l17, l20, l24, l32, l37, l47, l57, l60, l67, l77, l97, l99, l122, l48, l57, l100, l237, l397, l600, l900, l880, l9998, l9999, bnd, xcI_rI, xcV_rV, xcR_rR, zb0, zb1, nz0, nz1, nar_z0, nar_z1, nar_b2, ↓reduceIte, ↓xnul_s, ↓xnul_n, xcst_n, List.set_cons_zero, List.set_cons_succ]
      have hq := (h6.trans hI q2).trans hI (q3.trans q2.iv q4)
      refine ok_ite (fun c4 => ?_) fun c4 => ?_
      · exact hst _ _ (by rw [sumS, b2_f (fun h => by omega), Int.add_zero, Int.add_zero]) t4 hq (by omega)
      · exact hst _ _ (by rw [sumS, b2_t ⟨by rw [hvi]; exact c3, by omega⟩, Int.add_assoc]) t4 hq (by omega)

theorem MRep.placeS (h : MRep n P m cs rs R N) (hI : Iv P) (hV : RV R) {a i : Int} (ha : 0 ≤ a) (ha' : a < R 1) (hi : 0 ≤ i) (hi' : i ≤ rLen R (rCrs R a)) : Qy n m cs rs R N 0 P (f_X4_place P m (z a) (z i) (z 0)) (pSp R (rCrs R a) i (rSp R a i)) := by
  have h1 := hV.nR
  have h0 := hV.nC
  have hca := hV.crs ha ha'
  have hlc := hV.len hca.1 hca.2
  have ho := rSp_rg hV (i := i) ha ha'
  unfold pSp
  apply ok_qy
  obtain ⟨cl, rl, mo, hcm, hcz, hrz, hcg, hrg⟩ := h.at
  unfold f_X4_place
  rw [xcl1_s hcm]
  clear hcm hcz hrz hcg hrg
  generalize hj : i = j at *
  rw [show ((1 : Int32), (0 : Int32), P) = (z (1 + sumS (fun o => b2 (vSp R (rCrs R a) j o ≠ -2 ∧ vSp R (rCrs R a) j o < rSp R a j)) 0), z (0 : Nat), P) from rfl]
  refine ok_lpn (fun d p => ∃ (i : Nat) (P1 : PH), p = (z a, z j, z 0, z (1 + sumS (fun o => b2 (vSp R (rCrs R a) j o ≠ -2 ∧ vSp R (rCrs R a) j o < rSp R a j)) i), z i, P1) ∧ d = (R 1).toNat - i ∧ (i : Int) ≤ R 1 ∧ MRep n P1 m cs rs R N ∧ QF m (0) P P1) ?_ FU _ _ ⟨0, P, rfl, rfl, by omega, h, QF.rf hI⟩ (by simp only [FU]; omega)
  rintro kk d p ⟨i, P1, rfl, rfl, h4, h5, h6⟩ hk
  have hI1 := h6.iv
  have hst : ∀ (v0 : Int) (P2 : PH), v0 = 1 + sumS (fun o => b2 (vSp R (rCrs R a) j o ≠ -2 ∧ vSp R (rCrs R a) j o < rSp R a j)) (i + 1) → MRep n P2 m cs rs R N → QF m (0) P P2 → (i : Int) < R 1 → OK (kk (z a, z j, z 0, z v0, z ((i : Int) + 1), P2)) _ := fun v0 P2 ev0 t2 q2 hl => hk _ _ (by omega) ⟨i + 1, P2, (by rw [ev0]; rfl), rfl, by omega, t2, q2⟩
  obtain ⟨cl, rl, mo, hcm, hcz, hrz, hcg, hrg⟩ := h5.at
  simp (disch := omega) only [f_X4_place_6F, f_X4_place_82, f_X4_place_83, z_add, z_sub, z_mul, z_neg, zlt, zle, zeq, zne, l0, l1, l2, l3, l4, l5, l6, l7, l8, l9, l10, l11, l16, l17, l20, l24, l32, l37, l47, l57, l60, l67, l77, l97, l99, l122, l48, l57, l100, l237, l397, l600, l900, l880, l9998, l9999, bnd, xcI_rI, xcV_rV, xcR_rR, zb0, zb1, nz0, nz1, nar_z0, nar_z1, nar_b2, ↓reduceIte, ↓xnul_s, ↓xnul_n, xcst_n, List.set_cons_zero, List.set_cons_succ, ↓xcl1_s hcm, ↓xgR_s (k := 0) hcm rfl, ↓xgR_s (k := 1) hcm rfl, ↓xgI_s (k := 2) hcm rfl, ↓xgI_s (k := 3) hcm rfl, hcz, hrz]
  refine ok_ite (fun c1 => ?_) fun c1 => ?_
  · have hi : i = (R 1).toNat := by omega
    subst hi
    exact ok_rI.mpr ⟨rfl, h5, h6⟩
  have hcr := hV.crs (a := i) (by omega) (by omega)
  have hio := h5.isOf hV (a := i) (c := rCrs R a) (by omega) (by omega) (by omega) (by omega)
  obtain ⟨x, hx, hxr⟩ := h5.run ha ha'
  obtain ⟨s, pl, ps, k0, k1, k2, k3, k4, k5⟩ := hxr
  simp (disch := omega) only [hrg a x ha ha' hx, ↓xcst_s k1 (cs := [6]) rfl, ↓xcl1_s k1, ↓xgR_s (k := 0) k1 rfl, ↓xgI_s (k := 1) k1 rfl, ↓xgI_s (k := 2) k1 rfl, ↓xgI_s (k := 3) k1 rfl, ↓xgR_s (k := 4) k1 rfl, hio, z_add, z_sub, z_mul, z_neg, zlt, zle, zeq, zne, l0, l1, l2, l3, l4, l5, l6, l7, l8, l9, l10, l11, l16, l17, l20, l24, l32, l37, l47, l57, l60, l67, l77, l97, l99, l122, l48, l57, l100, l237, l397, l600, l900, l880, l9998, l9999, bnd, xcI_rI, xcV_rV, xcR_rR, zb0, zb1, nz0, nz1, nar_z0, nar_z1, nar_b2, ↓reduceIte, ↓xnul_s, ↓xnul_n, xcst_n, List.set_cons_zero, List.set_cons_succ]
  refine ok_ite (fun c2 => ?_) fun c2 => ?_
  · have hvi : vSp R (rCrs R a) j i = -2 := by unfold vSp; rw [if_neg c2]
    exact hst _ _ (by rw [sumS, b2_f (fun h => h.1 hvi), Int.add_zero, Int.add_zero]) h5 h6 (by omega)
  · have c2 : rCrs R i = rCrs R a := Decidable.not_not.mp c2
    obtain ⟨P2, e2, t2, q2⟩ := h5.ofS hI1 hV (a := i) (i := j) (by omega) (by omega) hi (by rw [c2]; exact hi')
    have hvi : vSp R (rCrs R a) j i = rSp R i j := by unfold vSp; rw [if_pos c2]
    have hr := rSp_rg hV (a := i) (i := j) (by omega) (by omega)
    simp (disch := omega) only [e2, z_add, z_sub, z_mul, z_neg, zlt, zle, zeq, zne, l0, l1, l2, l3, l4, l5, l6, l7, l8, l9, l10, l11, l16, l17, l20, l24, l32, l37, l47, l57, l60, l67, l77, l97, l99, l122, l48, l57, l100, l237, l397, l600, l900, l880, l9998, l9999, bnd, xcI_rI, xcV_rV, xcR_rR, zb0, zb1, nz0, nz1, nar_z0, nar_z1, nar_b2, ↓reduceIte, ↓xnul_s, ↓xnul_n, xcst_n, List.set_cons_zero, List.set_cons_succ]
    refine ok_ite (fun c3 => ?_) fun c3 => ?_
    · exact hst _ _ (by rw [sumS, b2_f (fun h => h.1 (hvi.trans c3)), Int.add_zero, Int.add_zero]) t2 (h6.trans hI q2) (by omega)
    · obtain ⟨P3, e3, t3, q3⟩ := t2.ofS q2.iv hV (a := i) (i := j) (by omega) (by omega) hi (by rw [c2]; exact hi')
      obtain ⟨P4, e4, t4, q4⟩ := t3.ofS q3.iv hV (a := a) (i := j) (by omega) (by omega) hi hi'
      simp (disch := omega) only [e3, e4, z_add, z_sub, z_mul, z_neg, zlt, zle, zeq, zne, l0, l1, l2, l3, l4, l5, l6, l7, l8, l9, l10, l11, l16, l17, l20, l24, l32, l37, l47, l57, l60, l67, l77, l97, l99, l122, l48, l57, l100, l237, l397, l600, l900, l880, l9998, l9999, bnd, xcI_rI, xcV_rV, xcR_rR, zb0, zb1, nz0, nz1, nar_z0, nar_z1, nar_b2, ↓reduceIte, ↓xnul_s, ↓xnul_n, xcst_n, List.set_cons_zero, List.set_cons_succ]
      have hq := (h6.trans hI q2).trans hI (q3.trans q2.iv q4)
      refine ok_ite (fun c4 => ?_) fun c4 => ?_
      · exact hst _ _ (by rw [sumS, b2_f (fun h => by omega), Int.add_zero, Int.add_zero]) t4 hq (by omega)
      · exact hst _ _ (by rw [sumS, b2_t ⟨by rw [hvi]; exact c3, by omega⟩, Int.add_assoc]) t4 hq (by omega)
end

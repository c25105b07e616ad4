/-! A MATCH: what it answers -/
set_option maxRecDepth 100000
def cTm (R : Nat → Int) (a i : Int) : Int := if rTm R a i = -1 then -2 else rTm R a i
theorem cTm_rg {R : Nat → Int} (hV : RV R) {a i : Int} (ha : 0 ≤ a) (ha' : a < R 1) : cTm R a i = -2 ∨ (0 ≤ cTm R a i ∧ cTm R a i ≤ 9999) := by
  have := rTm_rg hV (i := i) ha ha'
  unfold cTm
  split <;> omega
section
variable {n m : Nat} {P : PH} {R : Nat → Int} {a i : Int} {x y : Nat} {nm : List Int32}
theorem MT.time (h : MT P y x R a (rCrs R a)) (hr : RRep n P x R a nm) (hV : RV R) (ha : 0 ≤ a) (ha' : a < R 1) (hi : -1 ≤ i) (hi' : i ≤ rLen R (rCrs R a)) : f_X9_time P y (z i) = rI (z (cTm R a i)) P := by
  obtain ⟨ca, tk, mo, g, h1, h2, h3⟩ := h
  obtain ⟨s, pl, ps, q0, q1, q2, q3, q4, q5⟩ := hr
  have hc := hV.crs ha ha'
  have hl := hV.len hc.1 hc.2
  have hp := hV.np ha ha'
  have hs := hV.st ha ha'
  have hL : (((rLen R (rCrs R a)).toNat : Nat) : Int) = rLen R (rCrs R a) := by omega
  unfold cTm
  simp (disch := omega) only [f_X9_time, z_add, z_sub, z_mul, z_neg, zlt, zle, zeq, zne, l0, l1, l2, l3, l4, l5, l6, l7, l8, l9, l10, l11, l16, l17, l20, l24, l32, l37, l47, l57, l60, l67, l77, l97, l99, l122, l48, l57, l100, l237, l397, l600, l900, l880, l9998, l9999, bnd, xcI_rI, xcV_rV, xcR_rR, zb0, zb1, nz0, nz1, nar_z0, nar_z1, nar_b2, ↓reduceIte, ↓xnul_s, ↓xnul_n, xcst_n, List.set_cons_zero, List.set_cons_succ, ↓xcl1_s h1, ↓xgR_s (k := 0) h1 rfl, ↓xgR_s (k := 1) h1 rfl, ↓xgR_s (k := 2) h1 rfl, ↓xgR_s (k := 3) h1 rfl, ↓xcl1_s q1, ↓xgR_s (k := 0) q1 rfl, ↓xgI_s (k := 1) q1 rfl, ↓xgI_s (k := 2) q1 rfl, ↓xgI_s (k := 3) q1 rfl, ↓xgR_s (k := 4) q1 rfl, ↓xlen_s h2 (by decide), hL]
  by_cases c1 : 0 ≤ i
  · rw [if_pos c1]
    by_cases c2 : i = rLen R (rCrs R a)
    · rw [if_pos c2]
      have e : rTm R a i = rFi R a := by unfold rTm; rw [if_neg (by omega), if_pos c2]
      rw [e, if_neg (by omega)]
    · rw [if_neg c2]
      have hr := rTk_rg hV (c := rCrs R a) ha ha' i.toNat
      have hg := h3 i.toNat (by omega)
      have e := rTm_tk (R := R) (a := a) c1 c2
      simp (disch := omega) only [↓xaI_s h2, hL, hg, z_add, z_sub, z_mul, z_neg, zlt, zle, zeq, zne, l0, l1, l2, l3, l4, l5, l6, l7, l8, l9, l10, l11, l16, l17, l20, l24, l32, l37, l47, l57, l60, l67, l77, l97, l99, l122, l48, l57, l100, l237, l397, l600, l900, l880, l9998, l9999, bnd, xcI_rI, xcV_rV, xcR_rR, zb0, zb1, nz0, nz1, nar_z0, nar_z1, nar_b2, ↓reduceIte, ↓xnul_s, ↓xnul_n, xcst_n, List.set_cons_zero, List.set_cons_succ]
      by_cases c3 : tv (rTk R a (rCrs R a) i.toNat) = -1
      · rw [if_pos c3]
        rw [if_pos c3] at e
        rw [e]
        rfl
      · rw [if_neg c3]
        rw [if_neg c3] at e
        obtain ⟨p, hp1, hp2⟩ := q2.2.get (i := tv (rTk R a (rCrs R a) i.toNat)) (by omega) (by omega)
        have h7 := (q4 _ _ hp1).2
        rw [show (((tv (rTk R a (rCrs R a) i.toNat)).toNat : Nat) : Int) = tv (rTk R a (rCrs R a) i.toNat) by omega] at h7
        have hpt := hV.pt ha ha' (k := tv (rTk R a (rCrs R a) i.toNat)) (by omega) (by omega)
        simp (disch := omega) only [hp2, z_add, z_sub, z_mul, z_neg, zlt, zle, zeq, zne, l0, l1, l2, l3, l4, l5, l6, l7, l8, l9, l10, l11, l16, l17, l20, l24, l32, l37, l47, l57, l60, l67, l77, l97, l99, l122, l48, l57, l100, l237, l397, l600, l900, l880, l9998, l9999, bnd, xcI_rI, xcV_rV, xcR_rR, zb0, zb1, nz0, nz1, nar_z0, nar_z1, nar_b2, ↓reduceIte, ↓xnul_s, ↓xnul_n, xcst_n, List.set_cons_zero, List.set_cons_succ, ↓xcst_s h7 (cs := [7]) rfl, ↓xcl1_s h7, ↓xgI_s (k := 0) h7 rfl, ↓xgI_s (k := 1) h7 rfl]
        rw [e, if_neg (by omega)]
  · rw [if_neg c1]
    have e : rTm R a i = rSt R a := by unfold rTm; rw [if_pos (by omega)]
    rw [e, if_neg (by omega)]
theorem MT.leg (h : MT P y x R a (rCrs R a)) (hr : RRep n P x R a nm) (hV : RV R) (ha : 0 ≤ a) (ha' : a < R 1) (hi : 0 ≤ i) (hi' : i ≤ rLen R (rCrs R a)) : f_X9_leg P y (z i) = rI (z (rLg R a i)) P := by
  have e1 := h.time hr hV ha ha' (i := i) (by omega) (by omega)
  have e2 := h.time hr hV ha ha' (i := i - 1) (by omega) (by omega)
  have r1 := cTm_rg hV (i := i) ha ha'
  have r2 := cTm_rg hV (i := i - 1) ha ha'
  have s1 := rTm_rg hV (i := i) ha ha'
  have s2 := rTm_rg hV (i := i - 1) ha ha'
  obtain ⟨ca, tk, mo, g, h1, h2, h3⟩ := h
  simp (disch := omega) only [f_X9_leg, z_add, z_sub, z_mul, z_neg, zlt, zle, zeq, zne, l0, l1, l2, l3, l4, l5, l6, l7, l8, l9, l10, l11, l16, l17, l20, l24, l32, l37, l47, l57, l60, l67, l77, l97, l99, l122, l48, l57, l100, l237, l397, l600, l900, l880, l9998, l9999, bnd, xcI_rI, xcV_rV, xcR_rR, zb0, zb1, nz0, nz1, nar_z0, nar_z1, nar_b2, ↓reduceIte, ↓xnul_s, ↓xnul_n, xcst_n, List.set_cons_zero, List.set_cons_succ, ↓xcl1_s h1, ↓xgR_s (k := 0) h1 rfl, ↓xgR_s (k := 1) h1 rfl, ↓xgR_s (k := 2) h1 rfl, ↓xgR_s (k := 3) h1 rfl, e1, e2]
  unfold rLg
  unfold cTm at *
  by_cases c1 : rTm R a i = -1
  · simp only [c1, ↓reduceIte, ite_self]
  · have c3 : ¬ rTm R a i = -2 := by omega
    by_cases c2 : rTm R a (i - 1) = -1
    · simp only [c1, c2, c3, ↓reduceIte]
    · have c4 : ¬ rTm R a (i - 1) = -2 := by omega
      simp only [c1, c2, c3, c4, ↓reduceIte]
theorem MT.split (h : MT P y x R a (rCrs R a)) (hr : RRep n P x R a nm) (hV : RV R) (ha : 0 ≤ a) (ha' : a < R 1) (hi : 0 ≤ i) (hi' : i ≤ rLen R (rCrs R a)) : f_X9_split P y (z i) = rI (z (rSp R a i)) P := by
  have e1 := h.time hr hV ha ha' (i := i) (by omega) (by omega)
  have r1 := cTm_rg hV (i := i) ha ha'
  have s1 := rTm_rg hV (i := i) ha ha'
  obtain ⟨ca, tk, mo, g, h1, h2, h3⟩ := h
  obtain ⟨s, pl, ps, q0, q1, q2, q3, q4, q5⟩ := hr
  simp (disch := omega) only [f_X9_split, z_add, z_sub, z_mul, z_neg, zlt, zle, zeq, zne, l0, l1, l2, l3, l4, l5, l6, l7, l8, l9, l10, l11, l16, l17, l20, l24, l32, l37, l47, l57, l60, l67, l77, l97, l99, l122, l48, l57, l100, l237, l397, l600, l900, l880, l9998, l9999, bnd, xcI_rI, xcV_rV, xcR_rR, zb0, zb1, nz0, nz1, nar_z0, nar_z1, nar_b2, ↓reduceIte, ↓xnul_s, ↓xnul_n, xcst_n, List.set_cons_zero, List.set_cons_succ, ↓xcl1_s h1, ↓xgR_s (k := 0) h1 rfl, ↓xgR_s (k := 1) h1 rfl, ↓xgR_s (k := 2) h1 rfl, ↓xgR_s (k := 3) h1 rfl, ↓xcl1_s q1, ↓xgR_s (k := 0) q1 rfl, ↓xgI_s (k := 1) q1 rfl, ↓xgI_s (k := 2) q1 rfl, ↓xgI_s (k := 3) q1 rfl, ↓xgR_s (k := 4) q1 rfl, e1]
  unfold rSp
  unfold cTm at *
  by_cases c1 : rTm R a i = -1
  · simp only [c1, ↓reduceIte]
  · have c3 : ¬ rTm R a i = -2 := by omega
    simp only [c1, c3, ↓reduceIte]
theorem mis_s {e : Nat → Nat → Bool} {n m i : Nat} : mis e n m (i + 1) = mis e n m i + (if tkn e n m i = none then 1 else 0) := rfl
theorem MT.missed {c : Int} (h : MT P y x R a c) (hV : RV R) (ha : 0 ≤ a) (ha' : a < R 1) (hc : 0 ≤ c) (hc' : c < R 0) : f_X9_missed P y = rI (z (rMis R a c)) P := by
  obtain ⟨ca, tk, mo, g, h1, h2, h3⟩ := h
  have hl := hV.len hc hc'
  obtain ⟨L, hL⟩ : ∃ L : Nat, rLen R c = L := ⟨_, (Int.toNat_of_nonneg (by omega)).symm⟩
  unfold rMis
  rw [hL] at h2 ⊢
  rw [hL] at h3
  rw [Int.toNat_natCast] at h2 ⊢
  suffices hS : OK (f_X9_missed P y) (fun v s' => v = some (.int (z (mis (eqC R a c) L (rNp R a).toNat L))) ∧ s' = P) by
    obtain ⟨v, s', e, rfl, rfl⟩ := hS
    exact e
  simp (disch := omega) only [f_X9_missed, z_add, z_sub, z_mul, z_neg, zlt, zle, zeq, zne, l0, l1, l2, l3, l4, l5, l6, l7, l8, l9, l10, l11, l16, l17, l20, l24, l32, l37, l47, l57, l60, l67, l77, l97, l99, l122, l48, l57, l100, l237, l397, l600, l900, l880, l9998, l9999, bnd, xcI_rI, xcV_rV, xcR_rR, zb0, zb1, nz0, nz1, nar_z0, nar_z1, nar_b2, ↓reduceIte, ↓xnul_s, ↓xnul_n, xcst_n, List.set_cons_zero, List.set_cons_succ, ↓xcl1_s h1, ↓xgR_s (k := 0) h1 rfl, ↓xgR_s (k := 1) h1 rfl, ↓xgR_s (k := 2) h1 rfl, ↓xgR_s (k := 3) h1 rfl, ↓xlen_s h2 (by decide)]
  refine ok_lpn (fun d p => ∃ i : Nat, p = (z (mis (eqC R a c) L (rNp R a).toNat i), some tk, z L, z i, P) ∧ d = L - i ∧ i ≤ L) ?_ FU _ _ ⟨0, rfl, rfl, Nat.zero_le _⟩ (by simp only [FU]; omega)
  rintro kk d p ⟨i, rfl, rfl, h4⟩ hk
  simp (disch := omega) only [f_X9_missed_13F, f_X9_missed_37, z_add, z_sub, z_mul, z_neg, zlt, zle, zeq, zne, l0, l1, l2, l3, l4, l5, l6, l7, l8, l9, l10, l11, l16, l17, l20, l24, l32, l37, l47, l57, l60, l67, l77, l97, l99, l122, l48, l57, l100, l237, l397, l600, l900, l880, l9998, l9999, bnd, xcI_rI, xcV_rV, xcR_rR, zb0, zb1, nz0, nz1, nar_z0, nar_z1, nar_b2, ↓reduceIte, ↓xnul_s, ↓xnul_n, xcst_n, List.set_cons_zero, List.set_cons_succ]
  refine ok_ite (fun c1 => ?_) fun c1 => ?_
  · have : i = L := by omega
    subst this
    exact ok_rI.mpr ⟨rfl, rfl⟩
  · have hg := h3 i (by omega)
    have hp := hV.np ha ha'
    have hr := rTk_rg hV (c := c) ha ha' i
    simp (disch := omega) only [↓xaI_s h2, Int.toNat_natCast, hg, z_add, z_sub, z_mul, z_neg, zlt, zle, zeq, zne, l0, l1, l2, l3, l4, l5, l6, l7, l8, l9, l10, l11, l16, l17, l20, l24, l32, l37, l47, l57, l60, l67, l77, l97, l99, l122, l48, l57, l100, l237, l397, l600, l900, l880, l9998, l9999, bnd, xcI_rI, xcV_rV, xcR_rR, zb0, zb1, nz0, nz1, nar_z0, nar_z1, nar_b2, ↓reduceIte, ↓xnul_s, ↓xnul_n, xcst_n, List.set_cons_zero, List.set_cons_succ]
    have hst : ∀ v : Int, v = mis (eqC R a c) L (rNp R a).toNat (i + 1) → OK (kk (z v, some tk, z L, z ((i : Int) + 1), P)) _ := fun v hv => hk _ _ (by omega) ⟨i + 1, by rw [hv]; rfl, rfl, by omega⟩
    have et : rTk R a c i = tkn (eqC R a c) L (rNp R a).toNat i := by unfold rTk; rw [hL, Int.toNat_natCast]
    refine ok_ite (fun c2 => ?_) fun c2 => ?_
    · exact hst _ (by rw [mis_s, if_pos (et ▸ hr.2.2.mpr c2)])
    · exact hst _ (by rw [mis_s, if_neg (fun e => c2 (hr.2.2.mp (et ▸ e)))])
/-- the first control that punch k takes -/
def rTs (R : Nat → Int) (a k : Int) : Nat → Nat → Int
  | 0, _ => -2
  | d + 1, i => if tv (rTk R a (rCrs R a) i) = k then i else rTs R a k d (i + 1)
theorem MT.takes (h : MT P y x R a (rCrs R a)) (hV : RV R) (ha : 0 ≤ a) (ha' : a < R 1) {k : Int} (hk : 0 ≤ k) (hk' : k < 100) : f_X9_takes P y (z k) = rI (z (rTs R a k (rLen R (rCrs R a)).toNat 0)) P := by
  obtain ⟨ca, tk, mo, g, h1, h2, h3⟩ := h
  have hc := hV.crs ha ha'
  have hl := hV.len hc.1 hc.2
  obtain ⟨L, hL⟩ : ∃ L : Nat, rLen R (rCrs R a) = L := ⟨_, (Int.toNat_of_nonneg (by omega)).symm⟩
  rw [hL] at h2 h3 ⊢
  rw [Int.toNat_natCast] at h2 ⊢
  suffices hS : OK (f_X9_takes P y (z k)) (fun v s' => v = some (.int (z (rTs R a k L 0))) ∧ s' = P) by
    obtain ⟨v, s', e, rfl, rfl⟩ := hS
    exact e
  simp (disch := omega) only [f_X9_takes, z_add, z_sub, z_mul, z_neg, zlt, zle, zeq, zne, l0, l1, l2, l3, l4, l5, l6, l7, l8, l9, l10, l11, l16, l17, l20, l24, l32, l37, l47, l57, l60, l67, l77, l97, l99, l122, l48, l57, l100, l237, l397, l600, l900, l880, l9998, l9999, bnd, xcI_rI, xcV_rV, xcR_rR, zb0, zb1, nz0, nz1, nar_z0, nar_z1, nar_b2, ↓reduceIte, ↓xnul_s, ↓xnul_n, xcst_n, List.set_cons_zero, List.set_cons_succ, ↓xcl1_s h1, ↓xgR_s (k := 0) h1 rfl, ↓xgR_s (k := 1) h1 rfl, ↓xgR_s (k := 2) h1 rfl, ↓xgR_s (k := 3) h1 rfl]
  refine ok_lpn (fun d p => ∃ i : Nat, p = (z k, z i, P) ∧ d = L - i ∧ i ≤ L ∧ rTs R a k L 0 = rTs R a k (L - i) i) ?_ FU _ _ ⟨0, rfl, rfl, Nat.zero_le _, rfl⟩ (by simp only [FU]; omega)
  rintro kk d p ⟨i, rfl, rfl, h4, h5⟩ hk
  simp (disch := omega) only [f_X9_takes_2F, z_add, z_sub, z_mul, z_neg, zlt, zle, zeq, zne, l0, l1, l2, l3, l4, l5, l6, l7, l8, l9, l10, l11, l16, l17, l20, l24, l32, l37, l47, l57, l60, l67, l77, l97, l99, l122, l48, l57, l100, l237, l397, l600, l900, l880, l9998, l9999, bnd, xcI_rI, xcV_rV, xcR_rR, zb0, zb1, nz0, nz1, nar_z0, nar_z1, nar_b2, ↓reduceIte, ↓xnul_s, ↓xnul_n, xcst_n, List.set_cons_zero, List.set_cons_succ, ↓xcl1_s h1, ↓xgR_s (k := 0) h1 rfl, ↓xgR_s (k := 1) h1 rfl, ↓xgR_s (k := 2) h1 rfl, ↓xgR_s (k := 3) h1 rfl, ↓xlen_s h2 (by decide)]
  refine ok_ite (fun c1 => ?_) fun c1 => ?_
  · refine ok_rI.mpr ⟨?_, rfl⟩
    rw [h5, show L - i = 0 by omega]
    rfl
  · have hg := h3 i (by omega)
    have hr := rTk_rg hV (c := rCrs R a) ha ha' i
    have hp := hV.np ha ha'
    obtain ⟨d, hd⟩ : ∃ d, L - i = d + 1 := ⟨L - i - 1, by omega⟩
    rw [hd, rTs] at h5
    simp (disch := omega) only [↓xaI_s h2, Int.toNat_natCast, hg, z_add, z_sub, z_mul, z_neg, zlt, zle, zeq, zne, l0, l1, l2, l3, l4, l5, l6, l7, l8, l9, l10, l11, l16, l17, l20, l24, l32, l37, l47, l57, l60, l67, l77, l97, l99, l122, l48, l57, l100, l237, l397, l600, l900, l880, l9998, l9999, bnd, xcI_rI, xcV_rV, xcR_rR, zb0, zb1, nz0, nz1, nar_z0, nar_z1, nar_b2, ↓reduceIte, ↓xnul_s, ↓xnul_n, xcst_n, List.set_cons_zero, List.set_cons_succ]
    refine ok_ite (fun c2 => ?_) fun c2 => ?_
    · rw [if_pos c2] at h5
      exact ok_rI.mpr ⟨by rw [h5], rfl⟩
    · rw [if_neg c2] at h5
      exact hk d _ (by omega) ⟨i + 1, rfl, by omega, by omega, by rw [h5, show L - (i + 1) = d by omega]⟩
end

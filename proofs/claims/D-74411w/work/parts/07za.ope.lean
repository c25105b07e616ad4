/-! WHO RUNS WITH WHOM -/
set_option maxRecDepth 100000
/-- two are together at a point -/
def tgB (R : Nat → Int) (a b i : Int) : Bool := decide ((rTm R a i ≠ -1 ∧ rTm R b i ≠ -1) ∧ -R 2 ≤ rTm R a i - rTm R b i ∧ rTm R a i - rTm R b i ≤ R 2)
def setT (R : Nat → Int) (a b : Int) : Int32 := orB (fun i => tgB R a b i) (rLen R (rCrs R a) + 1).toNat
/-- a leg of two, as a team -/
def tmL (R : Nat → Int) (a b i : Int) : Int := if rLg R a i = -2 then rLg R b i else if rLg R b i = -2 then rLg R a i else min (rLg R a i) (rLg R b i)
def vTeam (R : Nat → Int) (a b : Int) : Int := idS (fun i => tmL R a b i) (rLen R (rCrs R a) + 1).toNat
def mtV (R : Nat → Int) (a : Int) (q : Nat) : Int := if wn2 R a q = 0 then vTeam R a q else -2
def vMate (R : Nat → Int) (a : Int) : Int := amin (mtV R a) (R 1).toNat
def psB (R : Nat → Int) (a b i : Int) : Int := if ((rTm R a i ≠ -1 ∧ rTm R b i ≠ -1) ∧ rTm R a (i + 1) ≠ -1 ∧ rTm R b (i + 1) ≠ -1) ∧ rTm R b i < rTm R a i ∧ rTm R a (i + 1) < rTm R b (i + 1) then 1 else 0
def vPass (R : Nat → Int) (a b : Int) : Int := sumS (fun i => psB R a b i) (rLen R (rCrs R a)).toNat
/-- alone at a point -/
def alB (R : Nat → Int) (a i : Int) : Nat → Bool
  | 0 => true
  | o + 1 => alB R a i o && !(decide (wn2 R a o = 0) && tgB R a o i)
def setA (R : Nat → Int) (a : Int) : Int32 := orB (fun i => decide (rTm R a i ≠ -1) && alB R a i (R 1).toNat) (rLen R (rCrs R a) + 1).toNat
theorem tmL_rg {R : Nat → Int} (hV : RV R) {a b i : Int} (ha : 0 ≤ a) (ha' : a < R 1) (hb : 0 ≤ b) (hb' : b < R 1) (hc : rCrs R a = rCrs R b) (hi : 0 ≤ i) (hi' : i ≤ rLen R (rCrs R a)) : tmL R a b i = -2 ∨ (0 ≤ tmL R a b i ∧ tmL R a b i ≤ 9999) := by
  have h1 := rLg_rg hV ha ha' hi hi'
  have h2 := rLg_rg hV hb hb' hi (by rw [← hc]; exact hi')
  unfold tmL
  repeat' split
  all_goals omega
theorem vTeam_rg {R : Nat → Int} (hV : RV R) {a b : Int} (ha : 0 ≤ a) (ha' : a < R 1) (hb : 0 ≤ b) (hb' : b < R 1) (hc : rCrs R a = rCrs R b) : vTeam R a b = -2 ∨ (0 ≤ vTeam R a b ∧ vTeam R a b ≤ 200000) := by
  have hcr := hV.crs ha ha'
  have hl := hV.len hcr.1 hcr.2
  have := idS_rg (f := fun i : Nat => tmL R a b i) (B := 9999) (n := (rLen R (rCrs R a) + 1).toNat) (fun q hq => tmL_rg hV ha ha' hb hb' hc (by omega) (by omega)) (by omega)
  unfold vTeam
  omega
section
variable {n m x : Nat} {P : PH} {g : GX} {cs rs : List Nat} {R : Nat → Int} {N : Nat → List Int32}
theorem abs_z {P : PH} {v : Int} (h : -100000 ≤ v ∧ v ≤ 100000) : f_J8_abs P (z v) = rI (z (max v (-v))) P := by
  simp (disch := omega) only [f_J8_abs, z_add, z_sub, z_mul, z_neg, zlt, zle, zeq, zne, l0, l1, l2, l3, l4, l5, l6, l7, l8, l9, l10, l11, l16, l17, l20, l24, l32, l37, l47, l57, l60, l67, l77, l97, l99, l122, l48, l57, l100, l237, l397, l600, l900, l880, l9998, l9999, bnd, xcI_rI, xcV_rV, xcR_rR, zb0, zb1, nz0, nz1, nar_z0, nar_z1, nar_b2, ↓reduceIte]
  split
  · rw [Int.max_eq_left (by omega)]
  · rw [Int.max_eq_right (by omega)]
theorem MRep.areT (h : MRep n P m cs rs R N) (hI : Iv P) (hV : RV R) {a b i : Int} (ha : 0 ≤ a) (ha' : a < R 1) (hb : 0 ≤ b) (hb' : b < R 1) (hc : rCrs R a = rCrs R b) (hi : 0 ≤ i) (hi' : i ≤ rLen R (rCrs R a)) : Qy n m cs rs R N 0 P (f_X4_areTogether P m (z a) (z b) (z i)) (b2 (tgB R a b i = true)) := by
  have hg := hV.gap
  have r1 := rTm_rg hV (i := i) ha ha'
  have r2 := rTm_rg hV (i := i) hb hb'
  obtain ⟨cl, rl, mo, hcm, hcz, hrz, hcg, hrg⟩ := h.at
  obtain ⟨P1, y1, e1, e1', t1, q1⟩ := h.mtime hI hV ha ha' (i := i) (by omega) hi'
  obtain ⟨P2, y2, e2, e2', t2, q2⟩ := t1.mtime q1.iv hV hb hb' (i := i) (by omega) (by rw [← hc]; exact hi')
  obtain ⟨P3, y3, e3, e3', t3, q3⟩ := t2.mtime q2.iv hV ha ha' (i := i) (by omega) hi'
  obtain ⟨P4, y4, e4, e4', t4, q4⟩ := t3.mtime q3.iv hV hb hb' (i := i) (by omega) (by rw [← hc]; exact hi')
  obtain ⟨cl4, rl4, mo4, hcm4, -⟩ := t4.at
  have u2 := q1.trans hI q2
  have u4 := (u2.trans hI q3).trans hI q4
  have c1r : cTm R a i = -2 ∨ (0 ≤ cTm R a i ∧ cTm R a i ≤ 9999) := by unfold cTm; split <;> omega
  have c2r : cTm R b i = -2 ∨ (0 ≤ cTm R b i ∧ cTm R b i ≤ 9999) := by unfold cTm; split <;> omega
  simp (disch := omega) only [f_X4_areTogether, z_add, z_sub, z_mul, z_neg, zlt, zle, zeq, zne, l0, l1, l2, l3, l4, l5, l6, l7, l8, l9, l10, l11, l16, l17, l20, l24, l32, l37, l47, l57, l60, l67, l77, l97, l99, l122, l48, l57, l100, l237, l397, l600, l900, l880, l9998, l9999, bnd, xcI_rI, xcV_rV, xcR_rR, zb0, zb1, nz0, nz1, nar_z0, nar_z1, nar_b2, ↓reduceIte, ↓xnul_s, ↓xnul_n, xcst_n, List.set_cons_zero, List.set_cons_succ, ↓xcl1_s hcm, e1, e1']
  by_cases d1 : rTm R a i = -1
  · have : cTm R a i = -2 := by unfold cTm; rw [if_pos d1]
    rw [if_pos this, b2_f' (by unfold tgB; simp [d1])]
    exact ⟨P1, rfl, t1, q1⟩
  · have k1 : cTm R a i = rTm R a i := by unfold cTm; rw [if_neg d1]
    rw [if_neg (by omega)]
    simp (disch := omega) only [z_add, z_sub, z_mul, z_neg, zlt, zle, zeq, zne, l0, l1, l2, l3, l4, l5, l6, l7, l8, l9, l10, l11, l16, l17, l20, l24, l32, l37, l47, l57, l60, l67, l77, l97, l99, l122, l48, l57, l100, l237, l397, l600, l900, l880, l9998, l9999, bnd, xcI_rI, xcV_rV, xcR_rR, zb0, zb1, nz0, nz1, nar_z0, nar_z1, nar_b2, ↓reduceIte, ↓xnul_s, ↓xnul_n, xcst_n, List.set_cons_zero, List.set_cons_succ, e2, e2']
    by_cases d2 : rTm R b i = -1
    · have : cTm R b i = -2 := by unfold cTm; rw [if_pos d2]
      rw [if_pos this, b2_f' (by unfold tgB; simp [d2])]
      exact ⟨P2, rfl, t2, u2⟩
    · have k2 : cTm R b i = rTm R b i := by unfold cTm; rw [if_neg d2]
      rw [if_neg (by omega)]
      simp (disch := omega) only [z_add, z_sub, z_mul, z_neg, zlt, zle, zeq, zne, l0, l1, l2, l3, l4, l5, l6, l7, l8, l9, l10, l11, l16, l17, l20, l24, l32, l37, l47, l57, l60, l67, l77, l97, l99, l122, l48, l57, l100, l237, l397, l600, l900, l880, l9998, l9999, bnd, xcI_rI, xcV_rV, xcR_rR, zb0, zb1, nz0, nz1, nar_z0, nar_z1, nar_b2, ↓reduceIte, ↓xnul_s, ↓xnul_n, xcst_n, List.set_cons_zero, List.set_cons_succ, e3, e3', e4, e4', abs_z, ↓xcl1_s hcm4, ↓xgR_s (k := 0) hcm4 rfl, ↓xgR_s (k := 1) hcm4 rfl, ↓xgI_s (k := 2) hcm4 rfl, ↓xgI_s (k := 3) hcm4 rfl]
      by_cases d3 : R 2 < max (cTm R a i - cTm R b i) (-(cTm R a i - cTm R b i))
      · rw [if_pos d3, b2_f' (by unfold tgB; simp only [decide_eq_true_eq]; omega)]
        exact ⟨P4, rfl, t4, u4⟩
      · rw [if_neg d3, b2_t' (by unfold tgB; simp only [decide_eq_true_eq]; omega)]
        exact ⟨P4, rfl, t4, u4⟩
theorem X_togetherOf (hx : CX P x g (some m)) (hI : Iv P) (hM' : MRep n P m cs rs R N) (hV : RV R) {a b : Int} (ha : 0 ≤ a) (ha' : a < R 1) (hb : 0 ≤ b) (hb' : b < R 1) (hc : rCrs R a = rCrs R b) : Qy n m cs rs R N 0 P (f_X1_togetherOf P x (z a) (z b)) (setT R a b).toInt := by
  have hne := hx.ne hM'
  have hcr := hV.crs ha ha'
  have hl := hV.len hcr.1 hcr.2
  have hL : (((rLen R (rCrs R a)).toNat : Nat) : Int) = rLen R (rCrs R a) := by omega
  apply ok_qy
  unfold f_X1_togetherOf setT
  rw [hx.cl]
  refine ok_lpn (fun d p => ∃ (i : Nat) (P1 : PH), p = (z a, z b, z ((orB (fun i => tgB R a b i) i).toInt), z i, P1) ∧ d = (rLen R (rCrs R a) + 1).toNat - i ∧ (i : Int) ≤ rLen R (rCrs R a) + 1 ∧ MRep n P1 m cs rs R N ∧ QF m (0) P P1) ?_ FU _ _ ⟨0, P, rfl, rfl, by omega, hM', QF.rf hI⟩ (by simp only [FU]; omega)
  rintro kk d p ⟨i, P1, rfl, rfl, h4, h5, h6⟩ hk
  have hI1 := h6.iv
  have x1 := hx.qf hI hne h6
  have hst : ∀ (v0 : Int) (P2 : PH), v0 = (orB (fun i => tgB R a b i) (i + 1)).toInt → MRep n P2 m cs rs R N → QF m (0) P P2 → (i : Int) < rLen R (rCrs R a) + 1 → OK (kk (z a, z b, z v0, z ((i : Int) + 1), P2)) _ := fun v0 P2 ev0 t2 q2 hl => hk _ _ (by omega) ⟨i + 1, P2, (by rw [ev0]; rfl), rfl, by omega, t2, q2⟩
  obtain ⟨cl, rl, mm, hcm, hcz, hrz, hcg, hrg⟩ := h5.at
  simp (disch := omega) only [f_X1_togetherOf_5F, f_X1_togetherOf_45, z_add, z_sub, z_mul, z_neg, zlt, zle, zeq, zne, l0, l1, l2, l3, l4, l5, l6, l7, l8, l9, l10, l11, l16, l17, l20, l24, l32, l37, l47, l57, l60, l67, l77, l97, l99, l122, l48, l57, l100, l237, l397, l600, l900, l880, l9998, l9999, bnd, xcI_rI, xcV_rV, xcR_rR, zb0, zb1, nz0, nz1, nar_z0, nar_z1, nar_b2, ↓reduceIte, ↓xnul_s, ↓xnul_n, xcst_n, List.set_cons_zero, List.set_cons_succ, ↓x1.gm, ↓xcl1_s hcm, ↓xgR_s (k := 0) hcm rfl, ↓xgR_s (k := 1) hcm rfl, ↓xgI_s (k := 2) hcm rfl, ↓xgI_s (k := 3) hcm rfl, hcz, hrz]
  obtain ⟨P3, y3, x3, e3, h5, u1, u2, q3⟩ := h5.match hI1 hV ha ha'
  obtain ⟨ca, tk, mo3, gg, v1, v2⟩ := u2.tlen
  have h6 := h6.trans hI q3
  have x3 := hx.qf hI hne h6
  simp (disch := omega) only [e3, z_add, z_sub, z_mul, z_neg, zlt, zle, zeq, zne, l0, l1, l2, l3, l4, l5, l6, l7, l8, l9, l10, l11, l16, l17, l20, l24, l32, l37, l47, l57, l60, l67, l77, l97, l99, l122, l48, l57, l100, l237, l397, l600, l900, l880, l9998, l9999, bnd, xcI_rI, xcV_rV, xcR_rR, zb0, zb1, nz0, nz1, nar_z0, nar_z1, nar_b2, ↓reduceIte, ↓xnul_s, ↓xnul_n, xcst_n, List.set_cons_zero, List.set_cons_succ, ↓xcl1_s v1, ↓xgR_s (k := 0) v1 rfl, ↓xgR_s (k := 1) v1 rfl, ↓xgR_s (k := 2) v1 rfl, ↓xgR_s (k := 3) v1 rfl, ↓xlen_s v2 (by decide), hL, ↓x3.gm]
  refine ok_ite (fun c1 => ?_) fun c1 => ?_
  · have hi : i = (rLen R (rCrs R a) + 1).toNat := by omega
    subst hi
    exact ok_rI.mpr ⟨rfl, h5, h6⟩
  obtain ⟨P4, e4, t4, q4⟩ := h5.areT q3.iv hV ha ha' hb hb' hc (i := i) (by omega) (by omega)
  have h7 := h6.trans hI q4
  simp (disch := omega) only [e4, z_add, z_sub, z_mul, z_neg, zlt, zle, zeq, zne, l0, l1, l2, l3, l4, l5, l6, l7, l8, l9, l10, l11, l16, l17, l20, l24, l32, l37, l47, l57, l60, l67, l77, l97, l99, l122, l48, l57, l100, l237, l397, l600, l900, l880, l9998, l9999, bnd, xcI_rI, xcV_rV, xcR_rR, zb0, zb1, nz0, nz1, nar_z0, nar_z1, nar_b2, ↓reduceIte, ↓xnul_s, ↓xnul_n, xcst_n, List.set_cons_zero, List.set_cons_succ]
  refine ok_ite (fun c2 => ?_) fun c2 => ?_
  · rw [orB_n (p := fun i : Nat => tgB R a b i) (i := i) c2]
    exact hst _ _ (by rfl) t4 h7 (by omega)
  · rw [orB_y (p := fun i : Nat => tgB R a b i) (i := i) (Decidable.not_not.mp c2)]
    exact hst _ _ (by rfl) t4 h7 (by omega)
theorem X_teamOf (hx : CX P x g (some m)) (hI : Iv P) (hM' : MRep n P m cs rs R N) (hV : RV R) {a b : Int} (ha : 0 ≤ a) (ha' : a < R 1) (hb : 0 ≤ b) (hb' : b < R 1) (hc : rCrs R a = rCrs R b) : Qy n m cs rs R N 0 P (f_X1_teamOf P x (z a) (z b)) (vTeam R a b) := by
  have hne := hx.ne hM'
  have hcr := hV.crs ha ha'
  have hl := hV.len hcr.1 hcr.2
  have hL : (((rLen R (rCrs R a)).toNat : Nat) : Int) = rLen R (rCrs R a) := by omega
  apply ok_qy
  unfold f_X1_teamOf vTeam
  rw [hx.cl]
  refine ok_lpn (fun d p => ∃ (i : Nat) (P1 : PH), p = (z a, z b, z (idS (fun i => tmL R a b i) i), z i, P1) ∧ d = (rLen R (rCrs R a) + 1).toNat - i ∧ (i : Int) ≤ rLen R (rCrs R a) + 1 ∧ MRep n P1 m cs rs R N ∧ QF m 0 P P1 ∧ idS (fun i => tmL R a b i) i ≠ -2) ?_ FU _ _ ⟨0, P, rfl, rfl, by omega, hM', QF.rf hI, (by show (0 : Int) ≠ -2; decide)⟩ (by simp only [FU]; omega)
  rintro kk d p ⟨i, P1, rfl, rfl, h4, h5, h6, h7⟩ hk
  have x1 := hx.qf hI hne h6
  obtain ⟨P3, y3, x3, e3, h5, u1, u2, q3⟩ := h5.match h6.iv hV ha ha'
  obtain ⟨ca, tk, mo3, gg, v1, v2⟩ := u2.tlen
  have h6 := h6.trans hI q3
  have x3 := hx.qf hI hne h6
  simp (disch := omega) only [f_X1_teamOf_5F, ↓x1.gm, e3, z_add, z_sub, z_mul, z_neg, zlt, zle, zeq, zne, l0, l1, l2, l3, l4, l5, l6, l7, l8, l9, l10, l11, l16, l17, l20, l24, l32, l37, l47, l57, l60, l67, l77, l97, l99, l122, l48, l57, l100, l237, l397, l600, l900, l880, l9998, l9999, bnd, xcI_rI, xcV_rV, xcR_rR, zb0, zb1, nz0, nz1, nar_z0, nar_z1, nar_b2, ↓reduceIte, ↓xnul_s, ↓xnul_n, xcst_n, List.set_cons_zero, List.set_cons_succ, ↓xcl1_s v1, ↓xgR_s (k := 0) v1 rfl, ↓xgR_s (k := 1) v1 rfl, ↓xgR_s (k := 2) v1 rfl, ↓xgR_s (k := 3) v1 rfl, ↓xlen_s v2 (by decide), hL, ↓x3.gm]
  refine ok_ite (fun c1 => ?_) fun c1 => ?_
  · have hi : i = (rLen R (rCrs R a) + 1).toNat := by omega
    subst hi
    exact ok_rI.mpr ⟨rfl, h5, h6⟩
  obtain ⟨P4, y4, e4, e4', t4, q4⟩ := h5.mleg q3.iv hV ha ha' (i := i) (by omega) (by omega)
  have x4 := x3.qf q3.iv hne q4
  obtain ⟨P5, y5, e5, e5', t5, q5⟩ := t4.mleg q4.iv hV hb hb' (i := i) (by omega) (by rw [← hc]; omega)
  have h8 := (h6.trans hI q4).trans hI q5
  have r1 := rLg_rg hV (a := a) (i := i) ha ha' (by omega) (by omega)
  have r2 := rLg_rg hV (a := b) (i := i) hb hb' (by omega) (by rw [← hc]; omega)
  have rt := tmL_rg hV (i := i) ha ha' hb hb' hc (by omega) (by omega)
  have hs := idS_rg (f := fun i : Nat => tmL R a b i) (B := 9999) (n := i) (fun q hq => tmL_rg hV ha ha' hb hb' hc (by omega) (by omega)) (by omega)
  simp (disch := omega) only [e4, e4', z_add, z_sub, z_mul, z_neg, zlt, zle, zeq, zne, l0, l1, l2, l3, l4, l5, l6, l7, l8, l9, l10, l11, l16, l17, l20, l24, l32, l37, l47, l57, l60, l67, l77, l97, l99, l122, l48, l57, l100, l237, l397, l600, l900, l880, l9998, l9999, bnd, xcI_rI, xcV_rV, xcR_rR, zb0, zb1, nz0, nz1, nar_z0, nar_z1, nar_b2, ↓reduceIte, ↓xnul_s, ↓xnul_n, xcst_n, List.set_cons_zero, List.set_cons_succ, ↓x4.gm, e5, e5', f_X1_teamOf_69, f_X1_teamOf_101, f_J8_min]
  have hgo : ∀ v, v = tmL R a b i → v ≠ -2 → OK (kk (z a, z b, z (idS (fun i => tmL R a b i) i + v), z ((i : Int) + 1), P5)) (fun o P' => o = some (.int (z (idS (fun i => tmL R a b i) (rLen R (rCrs R a) + 1).toNat))) ∧ MRep n P' m cs rs R N ∧ QF m 0 P P') := by
    intro v hv hv2
    have e : idS (fun i => tmL R a b i) (i + 1) = idS (fun i => tmL R a b i) i + tmL R a b i := by
      rw [idS]
      exact if_neg (fun h => h.elim h7 (by omega))
    exact hk _ _ (by omega) ⟨i + 1, P5, by rw [e, hv]; rfl, rfl, by omega, t5, h8, by rw [e]; omega⟩
  refine ok_ite (fun c2 => ?_) fun c2 => ?_
  · refine ok_ite (fun c3 => ?_) fun c3 => ?_
    · refine ok_rI.mpr ⟨?_, t5, h8⟩
      have := idS_bad (f := fun i : Nat => tmL R a b i) (i := i + 1) (by rw [idS]; exact if_pos (Or.inr (by unfold tmL; rw [if_pos c2, c3]))) ((rLen R (rCrs R a) + 1).toNat - (i + 1))
      rw [show i + 1 + ((rLen R (rCrs R a) + 1).toNat - (i + 1)) = (rLen R (rCrs R a) + 1).toNat by omega] at this
      rw [this]
    · rw [if_pos c2]
      exact hgo _ (by unfold tmL; rw [if_pos c2]) c3
  · rw [if_neg c2]
    refine ok_ite (fun c3 => ?_) fun c3 => ?_
    · exact hgo _ (by unfold tmL; rw [if_neg c2, if_pos c3]) c2
    · by_cases c4 : rLg R b i < rLg R a i
      · rw [if_pos c4, xcI_rI, z_add]
        exact hgo _ (by unfold tmL; rw [if_neg c2, if_neg c3, Int.min_eq_right (by omega)]) c3
      · rw [if_neg c4, xcI_rI, z_add]
        exact hgo _ (by unfold tmL; rw [if_neg c2, if_neg c3, Int.min_eq_left (by omega)]) c2
end

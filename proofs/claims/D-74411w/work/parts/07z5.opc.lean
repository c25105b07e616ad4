/-! .. MORE -/
set_option maxRecDepth 100000
theorem QO.mono {mo : Option Nat} {x k k' : Nat} {P P' : PH} (h : QO mo x k P P') (hk : k ≤ k') : QO mo x k' P P' := ⟨h.1, by have := h.2; omega⟩
section
variable {n m x : Nat} {P : PH} {g : GX} {cs rs : List Nat} {R : Nat → Int} {N : Nat → List Int32}
/-- a match of another course -/
theorem X_missesOf (hx : CX P x g (some m)) (hI : Iv P) (hM : MRep n P m cs rs R N) (hV : RV R) {a c : Int} (ha : 0 ≤ a) (ha' : a < R 1) (hc : 0 ≤ c) (hc' : c < R 0) : Qy n m cs rs R N 300 P (f_X1_missesOf P x (z a) (z c)) (rMis R a c) := by
  obtain ⟨cl, rl, mo, hcm, hcz, hrz, hcg, hrg⟩ := hM.at
  have f1 : Fr P.2.1 W0 P (xpush P (oB 8 [.null, .null, .null, .null]) 4) := Fr.push hI rfl
  have h1 := hM.fr hI f1 okW_0
  have x1 := hx.fr hI f1 fun h => h
  obtain ⟨y, hy, hyr⟩ := hM.run ha ha'
  obtain ⟨w, hw, hwc⟩ := hM.crs hc hc'
  obtain ⟨P2, e2, f2, t2, w2⟩ := MT.make hI hyr hwc hV ha ha' hc hc'
  have h2 := hM.fr hI f2 okW_0
  have hcr := cred_fr hM hI f2 okW_0
  have e3 := t2.missed hV ha ha' hc hc'
  obtain ⟨cl1, rl1, mo1, hcm1, hcz1, hrz1, hcg1, hrg1⟩ := h1.at
  obtain ⟨s, pl, ps, k0, k1, k2⟩ := hyr.fr hI f1 okV_0
  obtain ⟨s', pl', ps', j0, j1, j2⟩ := hwc.fr hI f1 okV_0
  refine ⟨P2, ?_, h2, f2.mono (fun _ h => h.elim), by omega⟩
  unfold f_X1_missesOf
  rw [hx.cl, xnew_s, show [Value.null, Value.null, Value.null, Value.null].length = 4 from rfl, x1.gm, xnul_s, xgR_s hcm1 rfl, xnul_s, hrg1 a y ha ha' hy, xcR_rR, xcst_s k1 (by decide), x1.gm, xnul_s, xgR_s hcm1 rfl, xnul_s, hcg1 c w hc hc' hw, xcR_rR, xcst_s j1 (by decide), e2, xcV_rV, e3, xcI_rI]
end
section
variable {n x : Nat} {P : PH} {g : GX} {mo : Option Nat} {cs rs : List Nat} {R : Nat → Int} {N : Nat → List Int32}
theorem X_worst (hx : CX P x g mo) (hI : Iv P) (hM : MO n P mo cs rs R N) (hV : RV R) {a : Int} (ha : i32 a) : Oq n P x g mo cs rs R N 0 (f_X1_worst P x (z a)) (if 0 ≤ a ∧ a < R 1 then vWorst R a else -1) (b2 (¬ (0 ≤ a ∧ a < R 1))) := by
  unfold f_X1_worst
  rw [hx.cl, X_isRunner hx hM hV ha, xcI_rI]
  by_cases c0 : 0 ≤ a ∧ a < R 1
  · obtain ⟨m, rfl, hM'⟩ := hM.get (by omega)
    have hne := hx.ne hM'
    have hcr := hV.crs c0.1 c0.2
    have hl := hV.len hcr.1 hcr.2
    rw [b2_t' c0, if_pos c0, nb c0, if_neg (by decide)]
    apply ok_oq
    unfold vWorst
    have hL : (((rLen R (rCrs R a)).toNat : Nat) : Int) = rLen R (rCrs R a) := by omega
    refine ok_lpn (fun d p => ∃ (i : Nat) (P1 : PH), p = (z a, z (wst (fun i => rLost R a i) i), z i, P1) ∧ d = (rLen R (rCrs R a) + 1).toNat - i ∧ (i : Int) ≤ rLen R (rCrs R a) + 1 ∧ MRep n P1 m cs rs R N ∧ QF m (0) P P1) ?_ FU _ _ ⟨0, P, rfl, rfl, by omega, hM', QF.rf hI⟩ (by simp only [FU]; omega)
    rintro kk d p ⟨i, P1, rfl, rfl, h4, h5, h6⟩ hk
    have hI1 := h6.iv
    have x1 := hx.qf hI hne h6
    have hst : ∀ (v0 : Int) (P2 : PH), v0 = wst (fun i => rLost R a i) (i + 1) → MRep n P2 m cs rs R N → QF m (0) P P2 → (i : Int) < rLen R (rCrs R a) + 1 → OK (kk (z a, z v0, z ((i : Int) + 1), P2)) _ := fun v0 P2 ev0 t2 q2 hl => hk _ _ (by omega) ⟨i + 1, P2, (by rw [ev0]; rfl), rfl, by omega, t2, q2⟩
    obtain ⟨cl, rl, mm, hcm, hcz, hrz, hcg, hrg⟩ := h5.at
    simp (disch := omega) only [f_X1_worst_19F, f_X1_worst_78, f_X1_worst_76, z_add, z_sub, z_mul, z_neg, zlt, zle, zeq, zne, l0, l1, l2, l3, l4, l5, l6, l7, l8, l9, l10, l11, l16, l17, l20, l24, l32, l37, l47, l57, l60, l67, l77, l97, l99, l122, l48, l57, l100, l237, l397, l600, l900, l880, l9998, l9999, bnd, xcI_rI, xcV_rV, xcR_rR, zb0, zb1, nz0, nz1, nar_z0, nar_z1, nar_b2, ↓reduceIte, ↓xnul_s, ↓xnul_n, xcst_n, List.set_cons_zero, List.set_cons_succ, ↓x1.gm, ↓xcl1_s hcm, ↓xgR_s (k := 0) hcm rfl, ↓xgR_s (k := 1) hcm rfl, ↓xgI_s (k := 2) hcm rfl, ↓xgI_s (k := 3) hcm rfl, hcz, hrz]
    obtain ⟨P3, y3, x3, e3, h5, u1, u2, q3⟩ := h5.match hI1 hV c0.1 c0.2
    obtain ⟨ca, tk, mo3, gg, v1, v2⟩ := u2.tlen
    have h6 := h6.trans hI q3
    have x3 := hx.qf hI hne h6
    simp (disch := omega) only [e3, z_add, z_sub, z_mul, z_neg, zlt, zle, zeq, zne, l0, l1, l2, l3, l4, l5, l6, l7, l8, l9, l10, l11, l16, l17, l20, l24, l32, l37, l47, l57, l60, l67, l77, l97, l99, l122, l48, l57, l100, l237, l397, l600, l900, l880, l9998, l9999, bnd, xcI_rI, xcV_rV, xcR_rR, zb0, zb1, nz0, nz1, nar_z0, nar_z1, nar_b2, ↓reduceIte, ↓xnul_s, ↓xnul_n, xcst_n, List.set_cons_zero, List.set_cons_succ, ↓xcl1_s v1, ↓xgR_s (k := 0) v1 rfl, ↓xgR_s (k := 1) v1 rfl, ↓xgR_s (k := 2) v1 rfl, ↓xgR_s (k := 3) v1 rfl, ↓xlen_s v2 (by decide), hL, ↓x3.gm]
    refine ok_ite (fun c1 => ?_) fun c1 => ?_
    · have hi : i = (rLen R (rCrs R a) + 1).toNat := by omega
      subst hi
      exact (op_yes hx hI h5 h6 hne).ok
    have w0 := wst_rg (fun i => rLost R a i) i
    obtain ⟨P4, e4, t4, q4⟩ := h5.lost q3.iv hV c0.1 c0.2 (i := i) (by omega) (by omega)
    have hr := rLost_rg hV c0.1 c0.2 (i := i) (by omega) (by omega)
    have x4 := x3.qf q3.iv hne q4
    have h7 := h6.trans hI q4
    simp (disch := omega) only [e4, z_add, z_sub, z_mul, z_neg, zlt, zle, zeq, zne, l0, l1, l2, l3, l4, l5, l6, l7, l8, l9, l10, l11, l16, l17, l20, l24, l32, l37, l47, l57, l60, l67, l77, l97, l99, l122, l48, l57, l100, l237, l397, l600, l900, l880, l9998, l9999, bnd, xcI_rI, xcV_rV, xcR_rR, zb0, zb1, nz0, nz1, nar_z0, nar_z1, nar_b2, ↓reduceIte, ↓xnul_s, ↓xnul_n, xcst_n, List.set_cons_zero, List.set_cons_succ, ↓x4.gm]
    refine ok_ite (fun c2 => ?_) fun c2 => ?_
    · exact hst _ _ (by rw [wst, if_neg (fun h => h.1 c2)]) t4 h7 (by omega)
    · refine ok_ite (fun c3 => ?_) fun c3 => ?_
      · exact hst _ _ (by rw [wst, if_pos ⟨c2, Or.inl c3⟩]) t4 h7 (by omega)
      · have w1 := w0.resolve_left c3
        have hz : (((wst (fun i => rLost R a i) i).toNat : Nat) : Int) = wst (fun i => rLost R a i) i := by omega
        obtain ⟨P5, e5, t5, q5⟩ := t4.lost q4.iv hV c0.1 c0.2 (i := i) (by omega) (by omega)
        have x5 := x4.qf q4.iv hne q5
        obtain ⟨P6, e6, t6, q6⟩ := t5.lost q5.iv hV c0.1 c0.2 (i := wst (fun i => rLost R a i) i) (by omega) (by omega)
        have hr' := rLost_rg hV c0.1 c0.2 (i := wst (fun i => rLost R a i) i) (by omega) (by omega)
        have h8 := (h7.trans hI q5).trans hI q6
        simp (disch := omega) only [e5, z_add, z_sub, z_mul, z_neg, zlt, zle, zeq, zne, l0, l1, l2, l3, l4, l5, l6, l7, l8, l9, l10, l11, l16, l17, l20, l24, l32, l37, l47, l57, l60, l67, l77, l97, l99, l122, l48, l57, l100, l237, l397, l600, l900, l880, l9998, l9999, bnd, xcI_rI, xcV_rV, xcR_rR, zb0, zb1, nz0, nz1, nar_z0, nar_z1, nar_b2, ↓reduceIte, ↓xnul_s, ↓xnul_n, xcst_n, List.set_cons_zero, List.set_cons_succ, ↓x5.gm, e6]
        refine ok_ite (fun c4 => ?_) fun c4 => ?_
        · exact hst _ _ (by rw [wst, if_neg (fun h => h.2.elim c3 (by simp only [hz]; omega))]) t6 h8 (by omega)
        · exact hst _ _ (by rw [wst, if_pos ⟨c2, Or.inr (by simp only [hz]; omega)⟩]) t6 h8 (by omega)
  · rw [b2_f' c0, if_pos (by decide), if_neg c0, nb' c0]
    exact op_no (w := 1) hx hI hM
theorem X_mistakes (hx : CX P x g mo) (hI : Iv P) (hn : n ≤ P.2.1) (hM : MO n P mo cs rs R N) (hV : RV R) {a : Int} (ha : i32 a) : Oq n P x g mo cs rs R N 100 (f_X1_mistakes P x (z a)) (if 0 ≤ a ∧ a < R 1 then vMistakes R a else -1) (b2 (¬ (0 ≤ a ∧ a < R 1))) := by
  unfold f_X1_mistakes
  rw [hx.cl, X_isRunner hx hM hV ha, xcI_rI]
  by_cases c0 : 0 ≤ a ∧ a < R 1
  · obtain ⟨m, rfl, hM'⟩ := hM.get (by omega)
    have hne := hx.ne hM'
    have hcr := hV.crs c0.1 c0.2
    have hl := hV.len hcr.1 hcr.2
    have hL : (((rLen R (rCrs R a)).toNat : Nat) : Int) = rLen R (rCrs R a) := by omega
    obtain ⟨P1, po, e1, q1, t1, po1⟩ := hM'.paceO hI hn hV c0.1 c0.2
    rw [b2_t' c0, if_pos c0, nb c0, if_neg (by decide), hx.gm, xnul_s, e1, xcR_rR]
    apply ok_oq
    unfold vMistakes
    refine ok_lpn (fun d p => ∃ (i : Nat) (P2 : PH), p = (z a, po, z (orB (fun i => decide (0 < rMk R a i)) i).toInt, z i, P2) ∧ d = (rLen R (rCrs R a) + 1).toNat - i ∧ (i : Int) ≤ rLen R (rCrs R a) + 1 ∧ MRep n P2 m cs rs R N ∧ QF m 100 P P2 ∧ PO P2 R a po) ?_ FU _ _ ⟨0, P1, rfl, rfl, by omega, t1, q1, po1⟩ (by simp only [FU]; omega)
    rintro kk d p ⟨i, P2, rfl, rfl, g1, g2, g3, g4⟩ hk
    have x2 := hx.qf hI hne g3
    obtain ⟨P3, y3, x3, e3, h5, u1, u2, q3⟩ := g2.match g3.iv hV c0.1 c0.2
    obtain ⟨ca, tk, mo3, gg, v1, v2⟩ := u2.tlen
    have h6 := g3.trans hI q3
    have x3 := hx.qf hI hne h6
    simp (disch := omega) only [f_X1_mistakes_28F, z_add, z_sub, z_mul, z_neg, zlt, zle, zeq, zne, l0, l1, l2, l3, l4, l5, l6, l7, l8, l9, l10, l11, l16, l17, l20, l24, l32, l37, l47, l57, l60, l67, l77, l97, l99, l122, l48, l57, l100, l237, l397, l600, l900, l880, l9998, l9999, bnd, xcI_rI, xcV_rV, xcR_rR, zb0, zb1, nz0, nz1, nar_z0, nar_z1, nar_b2, ↓reduceIte, ↓xnul_s, ↓xnul_n, xcst_n, List.set_cons_zero, List.set_cons_succ, e3, ↓xcl1_s v1, ↓xgR_s (k := 0) v1 rfl, ↓xgR_s (k := 1) v1 rfl, ↓xgR_s (k := 2) v1 rfl, ↓xgR_s (k := 3) v1 rfl, ↓xlen_s v2 (by decide), hL, ↓x2.gm, ↓x3.gm]
    refine ok_ite (fun c1 => ?_) fun c1 => ?_
    · have hi : i = (rLen R (rCrs R a) + 1).toNat := by omega
      subst hi
      exact (op_yes hx hI h5 h6 hne).ok
    have po3 := g4.qf g2 g3.iv q3
    obtain ⟨P4, e4, t4, q4⟩ := h5.mistake q3.iv hV c0.1 c0.2 (i := i) (by omega) (by omega) po3
    have po4 := po3.qf h5 q3.iv q4
    have hmk := rMk_rg hV c0.1 c0.2 (i := i) (by omega) (by omega)
    simp (disch := omega) only [e4, z_add, z_sub, z_mul, z_neg, zlt, zle, zeq, zne, l0, l1, l2, l3, l4, l5, l6, l7, l8, l9, l10, l11, l16, l17, l20, l24, l32, l37, l47, l57, l60, l67, l77, l97, l99, l122, l48, l57, l100, l237, l397, l600, l900, l880, l9998, l9999, bnd, xcI_rI, xcV_rV, xcR_rR, zb0, zb1, nz0, nz1, nar_z0, nar_z1, nar_b2, ↓reduceIte, ↓xnul_s, ↓xnul_n, xcst_n, List.set_cons_zero, List.set_cons_succ, f_X1_mistakes_68]
    refine ok_ite (fun c2 => ?_) fun c2 => ?_
    · rw [orB_n (p := fun i => decide (0 < rMk R a i)) (i := i) (by simp; omega)]
      exact hk _ _ (by omega) ⟨i + 1, P4, rfl, rfl, by omega, t4, h6.trans hI q4, po4⟩
    · rw [orB_y (p := fun i => decide (0 < rMk R a i)) (i := i) (by simp; omega)]
      exact hk _ _ (by omega) ⟨i + 1, P4, rfl, rfl, by omega, t4, h6.trans hI q4, po4⟩
  · rw [b2_f' c0, if_pos (by decide), if_neg c0, nb' c0]
    exact op_no (w := 1) hx hI hM
theorem X_missed (hx : CX P x g mo) (hI : Iv P) (hM : MO n P mo cs rs R N) (hV : RV R) {a : Int} (ha : i32 a) : Oq n P x g mo cs rs R N 0 (f_X1_missed P x (z a)) (if 0 ≤ a ∧ a < R 1 then vMissed R a else -1) (b2 (¬ (0 ≤ a ∧ a < R 1))) := by
  unfold f_X1_missed
  rw [hx.cl, X_isRunner hx hM hV ha, xcI_rI]
  by_cases c0 : 0 ≤ a ∧ a < R 1
  · obtain ⟨m, rfl, hM'⟩ := hM.get (by omega)
    have hne := hx.ne hM'
    have hcr := hV.crs c0.1 c0.2
    have hl := hV.len hcr.1 hcr.2
    have hL : (((rLen R (rCrs R a)).toNat : Nat) : Int) = rLen R (rCrs R a) := by omega
    obtain ⟨P1, y1, x1, e1, h5, u1, u2, h6⟩ := hM'.match hI hV c0.1 c0.2
    obtain ⟨ca, tk, mo3, gg, v1, v2, v3⟩ := u2
    rw [b2_t' c0, if_pos c0, nb c0, if_neg (by decide), hx.gm, xnul_s, e1, xcR_rR]
    simp (disch := omega) only [z_add, z_sub, z_mul, z_neg, zlt, zle, zeq, zne, l0, l1, l2, l3, l4, l5, l6, l7, l8, l9, l10, l11, l16, l17, l20, l24, l32, l37, l47, l57, l60, l67, l77, l97, l99, l122, l48, l57, l100, l237, l397, l600, l900, l880, l9998, l9999, bnd, xcI_rI, xcV_rV, xcR_rR, zb0, zb1, nz0, nz1, nar_z0, nar_z1, nar_b2, ↓reduceIte, ↓xnul_s, ↓xnul_n, xcst_n, List.set_cons_zero, List.set_cons_succ, ↓xcl1_s v1, ↓xgR_s (k := 0) v1 rfl, ↓xgR_s (k := 1) v1 rfl, ↓xgR_s (k := 2) v1 rfl, ↓xgR_s (k := 3) v1 rfl]
    apply ok_oq
    unfold vMissed
    generalize hp : (fun i : Nat => decide (tv (rTk R a (rCrs R a) i) = -1)) = p
    refine ok_lpn (fun d q => ∃ (i : Nat), q = (z (orB p i).toInt, some tk, z i, P1) ∧ d = (rLen R (rCrs R a)).toNat - i ∧ (i : Int) ≤ rLen R (rCrs R a)) ?_ FU _ _ ⟨0, rfl, rfl, by omega⟩ (by simp only [FU]; omega)
    rintro kk d q ⟨i, rfl, rfl, g1⟩ hk
    simp (disch := omega) only [f_X1_missed_31F, f_X1_missed_55, z_add, z_sub, z_mul, z_neg, zlt, zle, zeq, zne, l0, l1, l2, l3, l4, l5, l6, l7, l8, l9, l10, l11, l16, l17, l20, l24, l32, l37, l47, l57, l60, l67, l77, l97, l99, l122, l48, l57, l100, l237, l397, l600, l900, l880, l9998, l9999, bnd, xcI_rI, xcV_rV, xcR_rR, zb0, zb1, nz0, nz1, nar_z0, nar_z1, nar_b2, ↓reduceIte, ↓xnul_s, ↓xnul_n, xcst_n, List.set_cons_zero, List.set_cons_succ, ↓xlen_s v2 (by decide), hL]
    refine ok_ite (fun c1 => ?_) fun c1 => ?_
    · have hi : i = (rLen R (rCrs R a)).toNat := by omega
      subst hi
      exact (op_yes hx hI h5 h6 hne).ok
    have hg := v3 i (by omega)
    have hr := rTk_rg hV (c := rCrs R a) c0.1 c0.2 i
    have hnp := hV.np c0.1 c0.2
    have hpi : p i = decide (tv (rTk R a (rCrs R a) i) = -1) := by rw [← hp]
    simp (disch := omega) only [↓xaI_s v2, z_add, z_sub, z_mul, z_neg, zlt, zle, zeq, zne, l0, l1, l2, l3, l4, l5, l6, l7, l8, l9, l10, l11, l16, l17, l20, l24, l32, l37, l47, l57, l60, l67, l77, l97, l99, l122, l48, l57, l100, l237, l397, l600, l900, l880, l9998, l9999, bnd, xcI_rI, xcV_rV, xcR_rR, zb0, zb1, nz0, nz1, nar_z0, nar_z1, nar_b2, ↓reduceIte, ↓xnul_s, ↓xnul_n, xcst_n, List.set_cons_zero, List.set_cons_succ, Int.toNat_natCast, hg]
    refine ok_ite (fun c2 => ?_) fun c2 => ?_
    · rw [orB_y (p := p) (i := i) (by rw [hpi]; exact decide_eq_true c2)]
      exact hk _ _ (by omega) ⟨i + 1, rfl, rfl, by omega⟩
    · rw [orB_n (p := p) (i := i) (by rw [hpi]; simpa using c2)]
      exact hk _ _ (by omega) ⟨i + 1, rfl, rfl, by omega⟩
  · rw [b2_f' c0, if_pos (by decide), if_neg c0, nb' c0]
    exact op_no (w := 1) hx hI hM
theorem X_misses (hx : CX P x g mo) (hI : Iv P) (hM : MO n P mo cs rs R N) (hV : RV R) {a c : Int} (ha : i32 a) (hc : i32 c) : Oq n P x g mo cs rs R N 300 (f_X1_misses P x (z a) (z c)) (if (0 ≤ a ∧ a < R 1) ∧ 0 ≤ c ∧ c < R 0 then rMis R a c else -1) (b2 (¬ ((0 ≤ a ∧ a < R 1) ∧ 0 ≤ c ∧ c < R 0))) := by
  unfold f_X1_misses f_X1_misses_29
  rw [hx.cl, X_isRunner hx hM hV ha, xcI_rI]
  by_cases c1 : 0 ≤ a ∧ a < R 1
  · rw [b2_t' c1, if_neg (by decide), X_isCourse hx hM hV hc, xcI_rI]
    by_cases c2 : 0 ≤ c ∧ c < R 0
    · obtain ⟨m, rfl, hM'⟩ := hM.get (by omega)
      obtain ⟨P1, e1, h1, q1, x1, I1⟩ := (X_missesOf hx hI hM' hV c1.1 c1.2 c2.1 c2.2).u hI hx hM'
      rw [b2_t' c2, if_pos (And.intro c1 c2), nb (And.intro c1 c2), if_neg (by decide), e1, xcI_rI]
      exact op_yes hx hI h1 q1 (hx.ne hM')
    · rw [b2_f' c2, if_pos (by decide), if_neg (fun h : _ ∧ _ => c2 h.2), nb' (fun h : _ ∧ _ => c2 h.2)]
      exact op_no (w := 1) hx hI hM
  · rw [b2_f' c1, if_pos (by decide), if_neg (fun h : _ ∧ _ => c1 h.1), nb' (fun h : _ ∧ _ => c1 h.1)]
    exact op_no (w := 1) hx hI hM
theorem rMis_b {R : Nat → Int} (hV : RV R) {a c : Int} (hc : 0 ≤ c) (hc' : c < R 0) : 0 ≤ rMis R a c ∧ rMis R a c ≤ 10 := by
  have := rMis_rg hV (a := a) hc hc'
  have := hV.len hc hc'
  omega
theorem X_fits (hx : CX P x g mo) (hI : Iv P) (hM : MO n P mo cs rs R N) (hV : RV R) {a : Int} (ha : i32 a) : Oq n P x g mo cs rs R N 2000 (f_X1_fits P x (z a)) (if 0 ≤ a ∧ a < R 1 then vFit R a (R 0 - 1).toNat else -1) (b2 (¬ (0 ≤ a ∧ a < R 1))) := by
  unfold f_X1_fits
  rw [hx.cl, X_isRunner hx hM hV ha, xcI_rI]
  by_cases c0 : 0 ≤ a ∧ a < R 1
  · obtain ⟨m, rfl, hM'⟩ := hM.get (by omega)
    have hne := hx.ne hM'
    have h0 := hV.nC
    have hcr := hV.crs c0.1 c0.2
    rw [b2_t' c0, if_pos c0, nb c0, if_neg (by decide)]
    refine Oq.mono (k := 600 * (R 0 - 1).toNat) ?_ (by omega)
    apply ok_oq
    refine ok_lpn (fun d p => ∃ (i : Nat) (P1 : PH), p = (z a, z (vFit R a i), z ((i : Int) + 1), P1) ∧ d = (R 0 - 1).toNat - i ∧ (i : Int) ≤ R 0 - 1 ∧ MRep n P1 m cs rs R N ∧ QF m ((600) * i) P P1) ?_ FU _ _ ⟨0, P, rfl, rfl, by omega, hM', QF.rf hI⟩ (by simp only [FU]; omega)
    rintro kk d p ⟨i, P1, rfl, rfl, h4, h5, h6⟩ hk
    have hI1 := h6.iv
    have x1 := hx.qf hI hne h6
    have hst : ∀ (v0 : Int) (P2 : PH), v0 = vFit R a (i + 1) → MRep n P2 m cs rs R N → QF m ((600) * (i + 1)) P P2 → (i : Int) < R 0 - 1 → OK (kk (z a, z v0, z ((i : Int) + 1 + 1), P2)) _ := fun v0 P2 ev0 t2 q2 hl => hk _ _ (by omega) ⟨i + 1, P2, (by rw [ev0]; rfl), rfl, by omega, t2, q2⟩
    obtain ⟨cl, rl, mm, hcm, hcz, hrz, hcg, hrg⟩ := h5.at
    simp (disch := omega) only [f_X1_fits_18F, f_X1_fits_100, f_X1_fits_102, z_add, z_sub, z_mul, z_neg, zlt, zle, zeq, zne, l0, l1, l2, l3, l4, l5, l6, l7, l8, l9, l10, l11, l16, l17, l20, l24, l32, l37, l47, l57, l60, l67, l77, l97, l99, l122, l48, l57, l100, l237, l397, l600, l900, l880, l9998, l9999, bnd, xcI_rI, xcV_rV, xcR_rR, zb0, zb1, nz0, nz1, nar_z0, nar_z1, nar_b2, ↓reduceIte, ↓xnul_s, ↓xnul_n, xcst_n, List.set_cons_zero, List.set_cons_succ, ↓x1.gm, ↓xcl1_s hcm, ↓xgR_s (k := 0) hcm rfl, ↓xgR_s (k := 1) hcm rfl, ↓xgI_s (k := 2) hcm rfl, ↓xgI_s (k := 3) hcm rfl, hcz, hrz]
    refine ok_ite (fun c1 => ?_) fun c1 => ?_
    · have hi : i = (R 0 - 1).toNat := by omega
      subst hi
      exact (op_yes hx hI h5 h6 hne).ok
    have hf := vFit_rg R a i
    have m1 := rMis_b hV (a := a) (c := i + 1) (by omega) (by omega)
    have m2 := rMis_b hV (a := a) (c := vFit R a i) (by omega) (by omega)
    obtain ⟨P3, e3, t3, q3, x3, I3⟩ := (X_missesOf x1 hI1 h5 hV c0.1 c0.2 (c := (i : Int) + 1) (by omega) (by omega)).u hI1 x1 h5
    obtain ⟨P4, e4, t4, q4, x4, I4⟩ := (X_missesOf x3 I3 t3 hV c0.1 c0.2 (c := vFit R a i) (by omega) (by omega)).u I3 x3 t3
    obtain ⟨cl4, rl4, mm4, hcm4, hcz4, hrz4, hcg4, hrg4⟩ := t4.at
    have h7 : QF m (600 * (i + 1)) P P4 := ((h6.trans hI q3).trans hI q4).mono (by omega)
    obtain ⟨y, hy, hyc⟩ := t4.crs (c := (i : Int) + 1) (by omega) (by omega)
    obtain ⟨s, pl, ps, k0, k1, k2⟩ := id hyc
    obtain ⟨y', hy', hyc'⟩ := t4.crs (c := vFit R a i) (by omega) (by omega)
    obtain ⟨s', pl', ps', k0', k1', k2'⟩ := id hyc'
    have l1 := hV.len (c := (i : Int) + 1) (by omega) (by omega)
    have l2 := hV.len (c := vFit R a i) (by omega) (by omega)
    simp (disch := omega) only [e3, e4, z_add, z_sub, z_mul, z_neg, zlt, zle, zeq, zne, l0, l1, l2, l3, l4, l5, l6, l7, l8, l9, l10, l11, l16, l17, l20, l24, l32, l37, l47, l57, l60, l67, l77, l97, l99, l122, l48, l57, l100, l237, l397, l600, l900, l880, l9998, l9999, bnd, xcI_rI, xcV_rV, xcR_rR, zb0, zb1, nz0, nz1, nar_z0, nar_z1, nar_b2, ↓reduceIte, ↓xnul_s, ↓xnul_n, xcst_n, List.set_cons_zero, List.set_cons_succ, ↓x4.gm, ↓xcl1_s hcm4, ↓xgR_s (k := 0) hcm4 rfl, ↓xgR_s (k := 1) hcm4 rfl, ↓xgI_s (k := 2) hcm4 rfl, ↓xgI_s (k := 3) hcm4 rfl]
    have hy1 := hcg4 _ y (by omega) (by omega) hy
    have hy2 := hcg4 _ y' (by omega) (by omega) hy'
    refine ok_ite (fun c2 => ?_) fun c2 => ?_
    · exact hst _ _ (by rw [vFit, if_pos (Or.inl (by omega))]) t4 h7 (by omega)
    · refine ok_ite (fun c3 => ?_) fun c3 => ?_
      · simp (disch := omega) only [hy1, hy2, z_add, z_sub, z_mul, z_neg, zlt, zle, zeq, zne, l0, l1, l2, l3, l4, l5, l6, l7, l8, l9, l10, l11, l16, l17, l20, l24, l32, l37, l47, l57, l60, l67, l77, l97, l99, l122, l48, l57, l100, l237, l397, l600, l900, l880, l9998, l9999, bnd, xcI_rI, xcV_rV, xcR_rR, zb0, zb1, nz0, nz1, nar_z0, nar_z1, nar_b2, ↓reduceIte, ↓xnul_s, ↓xnul_n, xcst_n, List.set_cons_zero, List.set_cons_succ, ↓xcst_s k1 (cs := [5]) rfl, ↓xcst_s k1' (cs := [5]) rfl, hyc.size, hyc'.size, ↓x4.gm, ↓xcl1_s hcm4, ↓xgR_s (k := 0) hcm4 rfl, ↓xgR_s (k := 1) hcm4 rfl, ↓xgI_s (k := 2) hcm4 rfl, ↓xgI_s (k := 3) hcm4 rfl]
        refine ok_ite (fun c4 => ?_) fun c4 => ?_
        · exact hst _ _ (by rw [vFit, if_neg (by omega)]) t4 h7 (by omega)
        · exact hst _ _ (by rw [vFit, if_pos (by omega)]) t4 h7 (by omega)
      · exact hst _ _ (by rw [vFit, if_neg (by omega)]) t4 h7 (by omega)
  · rw [b2_f' c0, if_pos (by decide), if_neg c0, nb' c0]
    exact op_no (w := 1) hx hI hM
end

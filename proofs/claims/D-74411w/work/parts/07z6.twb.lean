/-! .. THE TWIN's -/
set_option maxRecDepth 100000
section
variable {s : TS} {R : Nat → Int}
theorem Tw_lost (hR : TRep s R) (hV : RV R) {a : Int} (ha : i32 a) : To s (T_lost s (z a)) (if 0 ≤ a ∧ a < R 1 then vLost R a else -1) (b2 (¬ (0 ≤ a ∧ a < R 1))) := by
  unfold T_lost
  have h1 := hV.nR
  have h0 := hV.nC
  rw [isR_z hR h1.1 h1.2 ha.1 ha.2, xcI_rI]
  by_cases c0 : 0 ≤ a ∧ a < R 1
  · have hcr := hV.crs c0.1 c0.2
    have hl := hV.len hcr.1 hcr.2
    rw [b2_t' c0, if_pos c0, nb c0]
    refine Eq.mpr (congrArg (fun K => To s K _ _) tw_1) ?_
    apply ok_to
    unfold vLost
    refine ok_lpn (fun d p => ∃ (i : Nat) (s1 : TS), p = (z a, z (sumS (fun i => max 0 (rLost R a i)) i), z i, s1) ∧ d = (rLen R (rCrs R a) + 1).toNat - i ∧ (i : Int) ≤ rLen R (rCrs R a) + 1 ∧ TQ (tF s (z 0)) s1) ?_ FU _ _ ⟨0, tF s (z 0), rfl, rfl, by omega, TQ.rf⟩ (by simp only [FU]; omega)
    rintro kk d p ⟨i, s1, rfl, rfl, h4, h5⟩ hk
    have hR1 := h5.rep (tF_rep hR)
    have hst : ∀ (v0 : Int) (s2 : TS), v0 = sumS (fun i => max 0 (rLost R a i)) (i + 1) → TQ (tF s (z 0)) s2 → (i : Int) < rLen R (rCrs R a) + 1 → OK (kk (z a, z v0, z ((i : Int) + 1), s2)) _ := fun v0 s2 ev0 t2 hl => hk _ _ (by omega) ⟨i + 1, s2, (by rw [ev0]; rfl), rfl, by omega, t2⟩
    simp (disch := omega) only [T_lost_21F, T_lost_63, z_add, z_sub, z_mul, z_neg, zlt, zle, zeq, zne, l0, l1, l2, l3, l4, l5, l6, l7, l8, l9, l10, l11, l16, l17, l20, l24, l32, l37, l47, l57, l60, l67, l77, l97, l99, l122, l48, l57, l100, l237, l397, l600, l900, l880, l9998, l9999, bnd, xcI_rI, xcV_rV, xcR_rR, zb0, zb1, nz0, nz1, nar_z0, nar_z1, nar_b2, ↓reduceIte, T_cell_z, ald19, ast19, ald20, ast20, ald21, ast21, ald22, ast22, ald25, ast25, ald26, ast26, (ald_nC hR1), (ald_nR hR1), (ald_gap hR1), (ald_slk hR1), (ald_len hR1), (ald_crs hR1), (ald_st hR1), (ald_fi hR1), (ald_np hR1), (codeOf_z hR1), (pCode_z hR1), (pTime_z hR1), (total_z hR1), (isC_z hR1), (isR_z hR1)]
    refine ok_ite (fun c1 => ?_) fun c1 => ?_
    · have hi : i = (rLen R (rCrs R a) + 1).toNat := by omega
      subst hi
      exact ok_rI.mpr ⟨rfl, h5⟩
    obtain ⟨s2, e2, t2⟩ := lostOn_z hR1 hV c0.1 c0.2 (i := i) (by omega) (by omega)
    have hr := rLost_rg hV c0.1 c0.2 (i := i) (by omega) (by omega)
    simp (disch := omega) only [e2, z_add, z_sub, z_mul, z_neg, zlt, zle, zeq, zne, l0, l1, l2, l3, l4, l5, l6, l7, l8, l9, l10, l11, l16, l17, l20, l24, l32, l37, l47, l57, l60, l67, l77, l97, l99, l122, l48, l57, l100, l237, l397, l600, l900, l880, l9998, l9999, bnd, xcI_rI, xcV_rV, xcR_rR, zb0, zb1, nz0, nz1, nar_z0, nar_z1, nar_b2, ↓reduceIte, T_cell_z, ald19, ast19, ald20, ast20, ald21, ast21, ald22, ast22, ald25, ast25, ald26, ast26]
    refine ok_ite (fun c2 => ?_) fun c2 => ?_
    · exact hst _ _ (by rw [sumS, Int.max_eq_left (by omega)]) (h5.trans t2.q) (by omega)
    · exact hst _ _ (by rw [sumS, Int.max_eq_right (by omega)]) (h5.trans t2.q) (by omega)
  · rw [b2_f' c0, if_neg c0, nb' c0]
    exact To.n1 rfl
theorem Tw_worst (hR : TRep s R) (hV : RV R) {a : Int} (ha : i32 a) : To s (T_worst s (z a)) (if 0 ≤ a ∧ a < R 1 then vWorst R a else -1) (b2 (¬ (0 ≤ a ∧ a < R 1))) := by
  unfold T_worst
  have h1 := hV.nR
  have h0 := hV.nC
  rw [isR_z hR h1.1 h1.2 ha.1 ha.2, xcI_rI]
  by_cases c0 : 0 ≤ a ∧ a < R 1
  · have hcr := hV.crs c0.1 c0.2
    have hl := hV.len hcr.1 hcr.2
    rw [b2_t' c0, if_pos c0, nb c0]
    refine Eq.mpr (congrArg (fun K => To s K _ _) tw_1) ?_
    apply ok_to
    unfold vWorst
    refine ok_lpn (fun d p => ∃ (i : Nat) (s1 : TS), p = (z a, z (wst (fun i => rLost R a i) i), z ((if wst (fun i => rLost R a i) i = -2 then 0 else rLost R a (wst (fun i => rLost R a i) i))), z i, s1) ∧ d = (rLen R (rCrs R a) + 1).toNat - i ∧ (i : Int) ≤ rLen R (rCrs R a) + 1 ∧ TQ (tF s (z 0)) s1) ?_ FU _ _ ⟨0, tF s (z 0), rfl, rfl, by omega, TQ.rf⟩ (by simp only [FU]; omega)
    rintro kk d p ⟨i, s1, rfl, rfl, h4, h5⟩ hk
    have hR1 := h5.rep (tF_rep hR)
    have hst : ∀ (v0 v1 : Int) (s2 : TS), v0 = wst (fun i => rLost R a i) (i + 1) → v1 = (if wst (fun i => rLost R a i) (i + 1) = -2 then 0 else rLost R a (wst (fun i => rLost R a i) (i + 1))) → TQ (tF s (z 0)) s2 → (i : Int) < rLen R (rCrs R a) + 1 → OK (kk (z a, z v0, z v1, z ((i : Int) + 1), s2)) _ := fun v0 v1 s2 ev0 ev1 t2 hl => hk _ _ (by omega) ⟨i + 1, s2, (by rw [ev0, ev1]; rfl), rfl, by omega, t2⟩
    simp (disch := omega) only [T_worst_25F, T_worst_74, T_worst_80, z_add, z_sub, z_mul, z_neg, zlt, zle, zeq, zne, l0, l1, l2, l3, l4, l5, l6, l7, l8, l9, l10, l11, l16, l17, l20, l24, l32, l37, l47, l57, l60, l67, l77, l97, l99, l122, l48, l57, l100, l237, l397, l600, l900, l880, l9998, l9999, bnd, xcI_rI, xcV_rV, xcR_rR, zb0, zb1, nz0, nz1, nar_z0, nar_z1, nar_b2, ↓reduceIte, T_cell_z, ald19, ast19, ald20, ast20, ald21, ast21, ald22, ast22, ald25, ast25, ald26, ast26, (ald_nC hR1), (ald_nR hR1), (ald_gap hR1), (ald_slk hR1), (ald_len hR1), (ald_crs hR1), (ald_st hR1), (ald_fi hR1), (ald_np hR1), (codeOf_z hR1), (pCode_z hR1), (pTime_z hR1), (total_z hR1), (isC_z hR1), (isR_z hR1)]
    refine ok_ite (fun c1 => ?_) fun c1 => ?_
    · have hi : i = (rLen R (rCrs R a) + 1).toNat := by omega
      subst hi
      exact ok_rI.mpr ⟨rfl, h5⟩
    have w0 := wst_rg (fun i => rLost R a i) i
    obtain ⟨s2, e2, t2⟩ := lostOn_z hR1 hV c0.1 c0.2 (i := i) (by omega) (by omega)
    have hr := rLost_rg hV c0.1 c0.2 (i := i) (by omega) (by omega)
    have hr' : ∀ j : Int, 0 ≤ j → j < i → rLost R a j = -2 ∨ (0 ≤ rLost R a j ∧ rLost R a j ≤ 9999) := fun j hj hj' => rLost_rg hV c0.1 c0.2 (i := j) (by omega) (by omega)
    have hm : -2 ≤ (if wst (fun i => rLost R a i) i = -2 then 0 else rLost R a (wst (fun i => rLost R a i) i)) ∧ (if wst (fun i => rLost R a i) i = -2 then 0 else rLost R a (wst (fun i => rLost R a i) i)) ≤ 9999 := by
      split
      · omega
      · have := hr' (wst (fun i => rLost R a i) i) (by omega) (by omega)
        omega
    simp (disch := omega) only [e2, z_add, z_sub, z_mul, z_neg, zlt, zle, zeq, zne, l0, l1, l2, l3, l4, l5, l6, l7, l8, l9, l10, l11, l16, l17, l20, l24, l32, l37, l47, l57, l60, l67, l77, l97, l99, l122, l48, l57, l100, l237, l397, l600, l900, l880, l9998, l9999, bnd, xcI_rI, xcV_rV, xcR_rR, zb0, zb1, nz0, nz1, nar_z0, nar_z1, nar_b2, ↓reduceIte, T_cell_z, ald19, ast19, ald20, ast20, ald21, ast21, ald22, ast22, ald25, ast25, ald26, ast26]
    refine ok_ite (fun c2 => ?_) fun c2 => ?_
    · have hw : wst (fun i => rLost R a i) (i + 1) = wst (fun i => rLost R a i) i := by rw [wst, if_neg (fun h => h.1 c2)]
      exact hst _ _ _ (by rw [hw]) (by rw [hw]) (h5.trans t2.q) (by omega)
    · refine ok_ite (fun c3 => ?_) fun c3 => ?_
      · have hw : wst (fun i => rLost R a i) (i + 1) = i := by rw [wst, if_pos ⟨c2, Or.inl c3⟩]
        exact hst _ _ _ (by rw [hw]) (by rw [hw, if_neg (by omega)]) (h5.trans t2.q) (by omega)
      · have w1 := w0.resolve_left c3
        have hz : (((wst (fun i => rLost R a i) i).toNat : Nat) : Int) = wst (fun i => rLost R a i) i := by omega
        simp only [c3, ↓reduceIte] at hm ⊢
        refine ok_ite (fun c4 => ?_) fun c4 => ?_
        · have hw : wst (fun i => rLost R a i) (i + 1) = wst (fun i => rLost R a i) i := by rw [wst, if_neg (fun h => h.2.elim c3 (by simp only [hz]; omega))]
          exact hst _ _ _ (by rw [hw]) (by rw [hw, if_neg c3]) (h5.trans t2.q) (by omega)
        · have hw : wst (fun i => rLost R a i) (i + 1) = i := by rw [wst, if_pos ⟨c2, Or.inr (by simp only [hz]; omega)⟩]
          exact hst _ _ _ (by rw [hw]) (by rw [hw, if_neg (by omega)]) (h5.trans t2.q) (by omega)
  · rw [b2_f' c0, if_neg c0, nb' c0]
    exact To.n1 rfl
theorem Tw_changes (hR : TRep s R) (hV : RV R) {c : Int} (hc : i32 c) : To s (T_changes s (z c)) (if 0 ≤ c ∧ c < R 0 then vChanges R c else -1) (b2 (¬ (0 ≤ c ∧ c < R 0))) := by
  unfold T_changes
  have h1 := hV.nR
  have h0 := hV.nC
  rw [isC_z hR h0.1 h0.2 hc.1 hc.2, xcI_rI]
  by_cases c0 : 0 ≤ c ∧ c < R 0
  · have hl := hV.len c0.1 c0.2
    rw [b2_t' c0, if_pos c0, nb c0]
    refine Eq.mpr (congrArg (fun K => To s K _ _) tw_1) ?_
    apply ok_to
    unfold vChanges
    refine ok_lpn (fun d p => ∃ (i : Nat) (s1 : TS), p = (z c, z (sumS (fun i => b2 ((rBS R c i ≠ -2 ∧ rBS R c (i + 1) ≠ -2) ∧ rBS R c i ≠ rBS R c (i + 1))) i), z ((i : Int) + 1), s1) ∧ d = (rLen R c).toNat - i ∧ (i : Int) ≤ rLen R c ∧ TQ (tF s (z 0)) s1) ?_ FU _ _ ⟨0, tF s (z 0), rfl, rfl, by omega, TQ.rf⟩ (by simp only [FU]; omega)
    rintro kk d p ⟨i, s1, rfl, rfl, h4, h5⟩ hk
    have hR1 := h5.rep (tF_rep hR)
    have hst : ∀ (v0 : Int) (s2 : TS), v0 = sumS (fun i => b2 ((rBS R c i ≠ -2 ∧ rBS R c (i + 1) ≠ -2) ∧ rBS R c i ≠ rBS R c (i + 1))) (i + 1) → TQ (tF s (z 0)) s2 → (i : Int) < rLen R c → OK (kk (z c, z v0, z ((i : Int) + 1 + 1), s2)) _ := fun v0 s2 ev0 t2 hl => hk _ _ (by omega) ⟨i + 1, s2, (by rw [ev0]; rfl), rfl, by omega, t2⟩
    simp (disch := omega) only [T_changes_21F, T_changes_79, T_changes_80, z_add, z_sub, z_mul, z_neg, zlt, zle, zeq, zne, l0, l1, l2, l3, l4, l5, l6, l7, l8, l9, l10, l11, l16, l17, l20, l24, l32, l37, l47, l57, l60, l67, l77, l97, l99, l122, l48, l57, l100, l237, l397, l600, l900, l880, l9998, l9999, bnd, xcI_rI, xcV_rV, xcR_rR, zb0, zb1, nz0, nz1, nar_z0, nar_z1, nar_b2, ↓reduceIte, T_cell_z, ald19, ast19, ald20, ast20, ald21, ast21, ald22, ast22, ald25, ast25, ald26, ast26, (ald_nC hR1), (ald_nR hR1), (ald_gap hR1), (ald_slk hR1), (ald_len hR1), (ald_crs hR1), (ald_st hR1), (ald_fi hR1), (ald_np hR1), (codeOf_z hR1), (pCode_z hR1), (pTime_z hR1), (total_z hR1), (isC_z hR1), (isR_z hR1)]
    refine ok_ite (fun c1 => ?_) fun c1 => ?_
    · have hi : i = (rLen R c).toNat := by omega
      subst hi
      exact ok_rI.mpr ⟨rfl, h5⟩
    obtain ⟨s2, e2, t2⟩ := lead_z hR1 hV c0.1 c0.2 (i := i) (by omega) (by omega)
    obtain ⟨s3, e3, t3⟩ := lead_z (t2.rep hR1) hV c0.1 c0.2 (i := i + 1) (by omega) (by omega)
    have r3 := rBS_rg hV (c := c) (i := i)
    have r4 := rBS_rg hV (c := c) (i := i + 1)
    have h7 := h5.trans (t2.trans t3).q
    simp (disch := omega) only [show (i : Int) + 1 - 1 = i by omega, e2, e3, z_add, z_sub, z_mul, z_neg, zlt, zle, zeq, zne, l0, l1, l2, l3, l4, l5, l6, l7, l8, l9, l10, l11, l16, l17, l20, l24, l32, l37, l47, l57, l60, l67, l77, l97, l99, l122, l48, l57, l100, l237, l397, l600, l900, l880, l9998, l9999, bnd, xcI_rI, xcV_rV, xcR_rR, zb0, zb1, nz0, nz1, nar_z0, nar_z1, nar_b2, ↓reduceIte, T_cell_z, ald19, ast19, ald20, ast20, ald21, ast21, ald22, ast22, ald25, ast25, ald26, ast26]
    refine ok_ite (fun c2 => ?_) fun c2 => ?_
    · exact hst _ _ (by rw [sumS, b2, if_neg (by omega)]) h7 (by omega)
    · refine ok_ite (fun c3 => ?_) fun c3 => ?_
      · exact hst _ _ (by rw [sumS, b2, if_neg (by omega)]) h7 (by omega)
      · refine ok_ite (fun c4 => ?_) fun c4 => ?_
        · exact hst _ _ (by rw [sumS, b2, if_neg (by omega)]) h7 (by omega)
        · exact hst _ _ (by rw [sumS, b2, if_pos (by omega)]) h7 (by omega)
  · rw [b2_f' c0, if_neg c0, nb' c0]
    exact To.n1 rfl
theorem Tw_mistakes (hR : TRep s R) (hV : RV R) {a : Int} (ha : i32 a) : To s (T_mistakes s (z a)) (if 0 ≤ a ∧ a < R 1 then vMistakes R a else -1) (b2 (¬ (0 ≤ a ∧ a < R 1))) := by
  unfold T_mistakes
  have h1 := hV.nR
  have h0 := hV.nC
  rw [isR_z hR h1.1 h1.2 ha.1 ha.2, xcI_rI]
  by_cases c0 : 0 ≤ a ∧ a < R 1
  · have hcr := hV.crs c0.1 c0.2
    have hl := hV.len hcr.1 hcr.2
    rw [b2_t' c0, if_pos c0, nb c0]
    refine Eq.mpr (congrArg (fun K => To s K _ _) tw_1) ?_
    apply ok_to
    unfold vMistakes
    refine ok_lpn (fun d p => ∃ (i : Nat) (s1 : TS), p = (z a, z ((orB (fun i => decide (0 < rMk R a i)) i).toInt), z i, s1) ∧ d = (rLen R (rCrs R a) + 1).toNat - i ∧ (i : Int) ≤ rLen R (rCrs R a) + 1 ∧ TQ (tF s (z 0)) s1) ?_ FU _ _ ⟨0, tF s (z 0), rfl, rfl, by omega, TQ.rf⟩ (by simp only [FU]; omega)
    rintro kk d p ⟨i, s1, rfl, rfl, h4, h5⟩ hk
    have hR1 := h5.rep (tF_rep hR)
    have hst : ∀ (v0 : Int) (s2 : TS), v0 = (orB (fun i => decide (0 < rMk R a i)) (i + 1)).toInt → TQ (tF s (z 0)) s2 → (i : Int) < rLen R (rCrs R a) + 1 → OK (kk (z a, z v0, z ((i : Int) + 1), s2)) _ := fun v0 s2 ev0 t2 hl => hk _ _ (by omega) ⟨i + 1, s2, (by rw [ev0]; rfl), rfl, by omega, t2⟩
    simp (disch := omega) only [T_mistakes_21F, T_mistakes_58, z_add, z_sub, z_mul, z_neg, zlt, zle, zeq, zne, l0, l1, l2, l3, l4, l5, l6, l7, l8, l9, l10, l11, l16, l17, l20, l24, l32, l37, l47, l57, l60, l67, l77, l97, l99, l122, l48, l57, l100, l237, l397, l600, l900, l880, l9998, l9999, bnd, xcI_rI, xcV_rV, xcR_rR, zb0, zb1, nz0, nz1, nar_z0, nar_z1, nar_b2, ↓reduceIte, T_cell_z, ald19, ast19, ald20, ast20, ald21, ast21, ald22, ast22, ald25, ast25, ald26, ast26, (ald_nC hR1), (ald_nR hR1), (ald_gap hR1), (ald_slk hR1), (ald_len hR1), (ald_crs hR1), (ald_st hR1), (ald_fi hR1), (ald_np hR1), (codeOf_z hR1), (pCode_z hR1), (pTime_z hR1), (total_z hR1), (isC_z hR1), (isR_z hR1)]
    refine ok_ite (fun c1 => ?_) fun c1 => ?_
    · have hi : i = (rLen R (rCrs R a) + 1).toNat := by omega
      subst hi
      exact ok_rI.mpr ⟨rfl, h5⟩
    obtain ⟨s2, e2, t2⟩ := mistakeOf_z hR1 hV c0.1 c0.2 (i := i) (by omega) (by omega)
    have hr := rMk_rg hV c0.1 c0.2 (i := i) (by omega) (by omega)
    simp (disch := omega) only [e2, z_add, z_sub, z_mul, z_neg, zlt, zle, zeq, zne, l0, l1, l2, l3, l4, l5, l6, l7, l8, l9, l10, l11, l16, l17, l20, l24, l32, l37, l47, l57, l60, l67, l77, l97, l99, l122, l48, l57, l100, l237, l397, l600, l900, l880, l9998, l9999, bnd, xcI_rI, xcV_rV, xcR_rR, zb0, zb1, nz0, nz1, nar_z0, nar_z1, nar_b2, ↓reduceIte, T_cell_z, ald19, ast19, ald20, ast20, ald21, ast21, ald22, ast22, ald25, ast25, ald26, ast26]
    refine ok_ite (fun c2 => ?_) fun c2 => ?_
    · rw [orB_n (p := fun i => decide (0 < rMk R a i)) (i := i) (by simp; omega)]
      exact hst _ _ (by rfl) (h5.trans t2) (by omega)
    · rw [orB_y (p := fun i => decide (0 < rMk R a i)) (i := i) (by simp; omega)]
      exact hst _ _ (by rfl) (h5.trans t2) (by omega)
  · rw [b2_f' c0, if_neg c0, nb' c0]
    exact To.n1 rfl
theorem Tw_missed (hR : TRep s R) (hV : RV R) {a : Int} (ha : i32 a) : To s (T_missed s (z a)) (if 0 ≤ a ∧ a < R 1 then vMissed R a else -1) (b2 (¬ (0 ≤ a ∧ a < R 1))) := by
  unfold T_missed
  have h1 := hV.nR
  have h0 := hV.nC
  rw [isR_z hR h1.1 h1.2 ha.1 ha.2, xcI_rI]
  by_cases c0 : 0 ≤ a ∧ a < R 1
  · have hcr := hV.crs c0.1 c0.2
    have hl := hV.len hcr.1 hcr.2
    have hnp := hV.np c0.1 c0.2
    rw [b2_t' c0, if_pos c0, nb c0]
    refine Eq.mpr (congrArg (fun K => To s K _ _) tw_1) ?_
    obtain ⟨s1, e1, t1, k1⟩ := missedBy_z (tF_rep (w := z 0) hR) hV c0.1 c0.2
    have hR1 := t1.rep (tF_rep hR)
    rw [e1, xcI_rI]
    apply ok_to
    unfold vMissed
    generalize hp : (fun i : Nat => decide (tv (rTk R a (rCrs R a) i) = -1)) = p
    refine ok_lpn (fun d q => ∃ (i : Nat), q = (z a, z (orB p i).toInt, z i, s1) ∧ d = (rLen R (rCrs R a)).toNat - i ∧ (i : Int) ≤ rLen R (rCrs R a)) ?_ FU _ _ ⟨0, rfl, rfl, by omega⟩ (by simp only [FU]; omega)
    rintro kk d q ⟨i, rfl, rfl, g1⟩ hk
    have h5 := t1.q
    simp (disch := omega) only [T_missed_27F, T_missed_65, z_add, z_sub, z_mul, z_neg, zlt, zle, zeq, zne, l0, l1, l2, l3, l4, l5, l6, l7, l8, l9, l10, l11, l16, l17, l20, l24, l32, l37, l47, l57, l60, l67, l77, l97, l99, l122, l48, l57, l100, l237, l397, l600, l900, l880, l9998, l9999, bnd, xcI_rI, xcV_rV, xcR_rR, zb0, zb1, nz0, nz1, nar_z0, nar_z1, nar_b2, ↓reduceIte, T_cell_z, ald19, ast19, ald20, ast20, ald21, ast21, ald22, ast22, ald25, ast25, ald26, ast26, (ald_nC hR1), (ald_nR hR1), (ald_gap hR1), (ald_slk hR1), (ald_len hR1), (ald_crs hR1), (ald_st hR1), (ald_fi hR1), (ald_np hR1), (codeOf_z hR1), (pCode_z hR1), (pTime_z hR1), (total_z hR1), (isC_z hR1), (isR_z hR1)]
    refine ok_ite (fun c1 => ?_) fun c1 => ?_
    · have hi : i = (rLen R (rCrs R a)).toNat := by omega
      subst hi
      exact ok_rI.mpr ⟨rfl, h5⟩
    have hg := k1 i (by omega)
    have hr := rTk_rg hV (c := rCrs R a) c0.1 c0.2 i
    have hpi : p i = decide (tv (rTk R a (rCrs R a) i) = -1) := by rw [← hp]
    simp (disch := omega) only [z_add, z_sub, z_mul, z_neg, zlt, zle, zeq, zne, l0, l1, l2, l3, l4, l5, l6, l7, l8, l9, l10, l11, l16, l17, l20, l24, l32, l37, l47, l57, l60, l67, l77, l97, l99, l122, l48, l57, l100, l237, l397, l600, l900, l880, l9998, l9999, bnd, xcI_rI, xcV_rV, xcR_rR, zb0, zb1, nz0, nz1, nar_z0, nar_z1, nar_b2, ↓reduceIte, T_cell_z, ald19, ast19, ald20, ast20, ald21, ast21, ald22, ast22, ald25, ast25, ald26, ast26, Int.toNat_natCast, hg]
    refine ok_ite (fun c2 => ?_) fun c2 => ?_
    · rw [orB_y (p := p) (i := i) (by rw [hpi]; exact decide_eq_true c2)]
      exact hk _ _ (by omega) ⟨i + 1, rfl, rfl, by omega⟩
    · rw [orB_n (p := p) (i := i) (by rw [hpi]; simpa using c2)]
      exact hk _ _ (by omega) ⟨i + 1, rfl, rfl, by omega⟩
  · rw [b2_f' c0, if_neg c0, nb' c0]
    exact To.n1 rfl
theorem Tw_misses (hR : TRep s R) (hV : RV R) {a c : Int} (ha : i32 a) (hc : i32 c) : To s (T_misses s (z a) (z c)) (if (0 ≤ a ∧ a < R 1) ∧ 0 ≤ c ∧ c < R 0 then rMis R a c else -1) (b2 (¬ ((0 ≤ a ∧ a < R 1) ∧ 0 ≤ c ∧ c < R 0))) := by
  unfold T_misses
  have h1 := hV.nR
  have h0 := hV.nC
  rw [isR_z hR h1.1 h1.2 ha.1 ha.2, xcI_rI]
  by_cases c1 : 0 ≤ a ∧ a < R 1
  · rw [b2_t' c1, if_neg (by decide), isC_z hR h0.1 h0.2 hc.1 hc.2, xcI_rI]
    by_cases c2 : 0 ≤ c ∧ c < R 0
    · rw [b2_t' c2, if_neg (by decide), if_pos (And.intro c1 c2), nb (And.intro c1 c2)]
      refine Eq.mpr (congrArg (fun K => To s K _ _) tw_1) ?_
      obtain ⟨s1, e1, t1, k1⟩ := T_matches_z (tF_rep (w := z 0) hR) hV c1.1 c1.2 c2.1 c2.2
      rw [e1, xcI_rI]
      exact To.m t1
    · rw [b2_f' c2, if_pos (by decide), if_neg (fun h : _ ∧ _ => c2 h.2), nb' (fun h : _ ∧ _ => c2 h.2)]
      exact To.n1 rfl
  · rw [b2_f' c1, if_pos (by decide), if_neg (fun h : _ ∧ _ => c1 h.1), nb' (fun h : _ ∧ _ => c1 h.1)]
    exact To.n1 rfl
theorem Tw_fits (hR : TRep s R) (hV : RV R) {a : Int} (ha : i32 a) : To s (T_fits s (z a)) (if 0 ≤ a ∧ a < R 1 then vFit R a (R 0 - 1).toNat else -1) (b2 (¬ (0 ≤ a ∧ a < R 1))) := by
  unfold T_fits
  have h1 := hV.nR
  have h0 := hV.nC
  rw [isR_z hR h1.1 h1.2 ha.1 ha.2, xcI_rI]
  by_cases c0 : 0 ≤ a ∧ a < R 1
  · have hcr := hV.crs c0.1 c0.2
    rw [b2_t' c0, if_pos c0, nb c0]
    refine Eq.mpr (congrArg (fun K => To s K _ _) tw_1) ?_
    apply ok_to
    refine ok_lpn (fun d p => ∃ (i : Nat) (s1 : TS), p = (z a, z (vFit R a i), z ((i : Int) + 1), s1) ∧ d = (R 0 - 1).toNat - i ∧ (i : Int) ≤ R 0 - 1 ∧ TQ (tF s (z 0)) s1) ?_ FU _ _ ⟨0, tF s (z 0), rfl, rfl, by omega, TQ.rf⟩ (by simp only [FU]; omega)
    rintro kk d p ⟨i, s1, rfl, rfl, h4, h5⟩ hk
    have hR1 := h5.rep (tF_rep hR)
    have hst : ∀ (v0 : Int) (s2 : TS), v0 = vFit R a (i + 1) → TQ (tF s (z 0)) s2 → (i : Int) < R 0 - 1 → OK (kk (z a, z v0, z ((i : Int) + 1 + 1), s2)) _ := fun v0 s2 ev0 t2 hl => hk _ _ (by omega) ⟨i + 1, s2, (by rw [ev0]; rfl), rfl, by omega, t2⟩
    simp (disch := omega) only [T_fits_21F, T_fits_80, T_fits_84, T_fits_85, z_add, z_sub, z_mul, z_neg, zlt, zle, zeq, zne, l0, l1, l2, l3, l4, l5, l6, l7, l8, l9, l10, l11, l16, l17, l20, l24, l32, l37, l47, l57, l60, l67, l77, l97, l99, l122, l48, l57, l100, l237, l397, l600, l900, l880, l9998, l9999, bnd, xcI_rI, xcV_rV, xcR_rR, zb0, zb1, nz0, nz1, nar_z0, nar_z1, nar_b2, ↓reduceIte, T_cell_z, ald19, ast19, ald20, ast20, ald21, ast21, ald22, ast22, ald25, ast25, ald26, ast26, (ald_nC hR1), (ald_nR hR1), (ald_gap hR1), (ald_slk hR1), (ald_len hR1), (ald_crs hR1), (ald_st hR1), (ald_fi hR1), (ald_np hR1), (codeOf_z hR1), (pCode_z hR1), (pTime_z hR1), (total_z hR1), (isC_z hR1), (isR_z hR1)]
    refine ok_ite (fun c1 => ?_) fun c1 => ?_
    · have hi : i = (R 0 - 1).toNat := by omega
      subst hi
      exact ok_rI.mpr ⟨rfl, h5⟩
    have hf := vFit_rg R a i
    have m1 := rMis_b hV (a := a) (c := i + 1) (by omega) (by omega)
    have m2 := rMis_b hV (a := a) (c := vFit R a i) (by omega) (by omega)
    have l1 := hV.len (c := (i : Int) + 1) (by omega) (by omega)
    have l2 := hV.len (c := vFit R a i) (by omega) (by omega)
    obtain ⟨s2, e2, t2, -⟩ := T_matches_z hR1 hV c0.1 c0.2 (c := (i : Int) + 1) (by omega) (by omega)
    obtain ⟨s3, e3, t3, -⟩ := T_matches_z (t2.rep hR1) hV c0.1 c0.2 (c := vFit R a i) (by omega) (by omega)
    have hR3 := t3.rep (t2.rep hR1)
    have h7 := h5.trans (t2.trans t3).q
    simp (disch := omega) only [e2, e3, z_add, z_sub, z_mul, z_neg, zlt, zle, zeq, zne, l0, l1, l2, l3, l4, l5, l6, l7, l8, l9, l10, l11, l16, l17, l20, l24, l32, l37, l47, l57, l60, l67, l77, l97, l99, l122, l48, l57, l100, l237, l397, l600, l900, l880, l9998, l9999, bnd, xcI_rI, xcV_rV, xcR_rR, zb0, zb1, nz0, nz1, nar_z0, nar_z1, nar_b2, ↓reduceIte, T_cell_z, ald19, ast19, ald20, ast20, ald21, ast21, ald22, ast22, ald25, ast25, ald26, ast26, ald_len hR3]
    refine ok_ite (fun c2 => ?_) fun c2 => ?_
    · exact hst _ _ (by rw [vFit, if_pos (Or.inl (by omega))]) h7 (by omega)
    · refine ok_ite (fun c3 => ?_) fun c3 => ?_
      · refine ok_ite (fun c4 => ?_) fun c4 => ?_
        · exact hst _ _ (by rw [vFit, if_neg (by omega)]) h7 (by omega)
        · exact hst _ _ (by rw [vFit, if_pos (by omega)]) h7 (by omega)
      · exact hst _ _ (by rw [vFit, if_neg (by omega)]) h7 (by omega)
  · rw [b2_f' c0, if_neg c0, nb' c0]
    exact To.n1 rfl
end

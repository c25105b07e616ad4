/-! .. THE TWIN's -/
set_option maxRecDepth 100000
section
variable {s : TS} {R : Nat → Int}
theorem b2e {p q : Prop} [Decidable p] [Decidable q] (h : p = q) : b2 p = b2 q := by subst h; congr
theorem togetherOf_z (hR : TRep s R) (hV : RV R) {a b : Int} (ha : 0 ≤ a) (ha' : a < R 1) (hb : 0 ≤ b) (hb' : b < R 1) (hc : rCrs R a = rCrs R b) : ∃ s', T_togetherOf s (z a) (z b) = rI (z (setT R a b).toInt) s' ∧ TM s s' := by
  have h1 := hV.nR
  have h0 := hV.nC
  have hg := hV.gap
  have hcr := hV.crs ha ha'
  have hl := hV.len hcr.1 hcr.2
  apply ok_pu
  unfold T_togetherOf setT
  refine ok_lpn (fun d p => ∃ (i : Nat) (s1 : TS), p = (z a, z b, z ((orB (fun i => tgB R a b i) i).toInt), z i, s1) ∧ d = (rLen R (rCrs R a) + 1).toNat - i ∧ (i : Int) ≤ rLen R (rCrs R a) + 1 ∧ TM s s1) ?_ FU _ _ ⟨0, s, rfl, rfl, by omega, TM.rf⟩ (by simp only [FU]; omega)
  rintro kk d p ⟨i, s1, rfl, rfl, h4, h5⟩ hk
  have hR1 := h5.rep hR
  have hst : ∀ (v0 : Int) (s2 : TS), v0 = (orB (fun i => tgB R a b i) (i + 1)).toInt → TM s s2 → (i : Int) < rLen R (rCrs R a) + 1 → OK (kk (z a, z b, z v0, z ((i : Int) + 1), s2)) _ := fun v0 s2 ev0 t2 hl => hk _ _ (by omega) ⟨i + 1, s2, (by rw [ev0]; rfl), rfl, by omega, t2⟩
  simp (disch := omega) only [T_togetherOf_5F, T_togetherOf_88, T_togetherOf_89, z_add, z_sub, z_mul, z_neg, zlt, zle, zeq, zne, l0, l1, l2, l3, l4, l5, l6, l7, l8, l9, l10, l11, l16, l17, l20, l24, l32, l37, l47, l57, l60, l67, l77, l97, l99, l122, l48, l57, l100, l237, l397, l600, l900, l880, l9998, l9999, bnd, xcI_rI, xcV_rV, xcR_rR, zb0, zb1, nz0, nz1, nar_z0, nar_z1, nar_b2, ↓reduceIte, T_cell_z, ald19, ast19, ald20, ast20, ald21, ast21, ald22, ast22, ald25, ast25, ald26, ast26, (ald_nC hR1), (ald_nR hR1), (ald_gap hR1), (ald_slk hR1), (ald_len hR1), (ald_crs hR1), (ald_st hR1), (ald_fi hR1), (ald_np hR1), (codeOf_z hR1), (pCode_z hR1), (pTime_z hR1), (total_z hR1), (isC_z hR1), (isR_z hR1)]
  refine ok_ite (fun c1 => ?_) fun c1 => ?_
  · have hi : i = (rLen R (rCrs R a) + 1).toNat := by omega
    subst hi
    exact ok_rI.mpr ⟨rfl, h5⟩
  have r1 := rTm_rg hV (i := i) ha ha'
  have r2 := rTm_rg hV (i := i) hb hb'
  obtain ⟨s2, e2, t2⟩ := tm_z hR1 hV ha ha' (i := i) (by omega) (by omega)
  have hR2 := t2.rep hR1
  obtain ⟨s3, e3, t3⟩ := tm_z hR2 hV hb hb' (i := i) (by omega) (by rw [← hc]; omega)
  have hR3 := t3.rep hR2
  have h7 := h5.trans (t2.trans t3)
  simp (disch := omega) only [e2, e3, z_add, z_sub, z_mul, z_neg, zlt, zle, zeq, zne, l0, l1, l2, l3, l4, l5, l6, l7, l8, l9, l10, l11, l16, l17, l20, l24, l32, l37, l47, l57, l60, l67, l77, l97, l99, l122, l48, l57, l100, l237, l397, l600, l900, l880, l9998, l9999, bnd, xcI_rI, xcV_rV, xcR_rR, zb0, zb1, nz0, nz1, nar_z0, nar_z1, nar_b2, ↓reduceIte, T_cell_z, ald19, ast19, ald20, ast20, ald21, ast21, ald22, ast22, ald25, ast25, ald26, ast26]
  refine ok_ite (fun c2 => ?_) fun c2 => ?_
  · rw [orB_n (p := fun i : Nat => tgB R a b i) (i := i) (by unfold tgB; simp [c2])]
    exact hst _ _ (by rfl) h7 (by omega)
  · refine ok_ite (fun c3 => ?_) fun c3 => ?_
    · rw [orB_n (p := fun i : Nat => tgB R a b i) (i := i) (by unfold tgB; simp [c3])]
      exact hst _ _ (by rfl) h7 (by omega)
    · simp (disch := omega) only [z_add, z_sub, z_mul, z_neg, zlt, zle, zeq, zne, l0, l1, l2, l3, l4, l5, l6, l7, l8, l9, l10, l11, l16, l17, l20, l24, l32, l37, l47, l57, l60, l67, l77, l97, l99, l122, l48, l57, l100, l237, l397, l600, l900, l880, l9998, l9999, bnd, xcI_rI, xcV_rV, xcR_rR, zb0, zb1, nz0, nz1, nar_z0, nar_z1, nar_b2, ↓reduceIte, T_cell_z, ald19, ast19, ald20, ast20, ald21, ast21, ald22, ast22, ald25, ast25, ald26, ast26, ald_gap hR3]
      rw [T_in_z s3 (a := rTm R a i - rTm R b i) (b := -R 2) (c := R 2) ⟨by omega, by omega⟩ ⟨by omega, by omega⟩ ⟨by omega, by omega⟩, xcI_rI]
      by_cases c4 : -R 2 ≤ rTm R a i - rTm R b i ∧ rTm R a i - rTm R b i ≤ R 2
      · rw [b2_t' c4, if_neg (by decide), orB_y (p := fun i : Nat => tgB R a b i) (i := i) (by unfold tgB; simp only [decide_eq_true_eq]; exact ⟨⟨c2, c3⟩, c4⟩)]
        exact hst _ _ (by rfl) h7 (by omega)
      · rw [b2_f' c4, if_pos (by decide), orB_n (p := fun i : Nat => tgB R a b i) (i := i) (by unfold tgB; simp only [decide_eq_true_eq]; exact fun h => c4 h.2)]
        exact hst _ _ (by rfl) h7 (by omega)
theorem teamOf_z (hR : TRep s R) (hV : RV R) {a b : Int} (ha : 0 ≤ a) (ha' : a < R 1) (hb : 0 ≤ b) (hb' : b < R 1) (hc : rCrs R a = rCrs R b) : ∃ s', T_teamOf s (z a) (z b) = rI (z (vTeam R a b)) s' ∧ TM s s' := by
  have h1 := hV.nR
  have h0 := hV.nC
  have hcr := hV.crs ha ha'
  have hl := hV.len hcr.1 hcr.2
  apply ok_pu
  unfold T_teamOf vTeam
  refine ok_lpn (fun d p => ∃ (i : Nat) (s1 : TS), p = (z a, z b, z (idS (fun i => tmL R a b i) i), z i, s1) ∧ d = (rLen R (rCrs R a) + 1).toNat - i ∧ (i : Int) ≤ rLen R (rCrs R a) + 1 ∧ TM s s1 ∧ idS (fun i => tmL R a b i) i ≠ -2) ?_ FU _ _ ⟨0, s, rfl, rfl, by omega, TM.rf, (by show (0 : Int) ≠ -2; decide)⟩ (by simp only [FU]; omega)
  rintro kk d p ⟨i, s1, rfl, rfl, h4, h5, h6⟩ hk
  have hR1 := h5.rep hR
  simp (disch := omega) only [T_teamOf_5F, z_add, z_sub, z_mul, z_neg, zlt, zle, zeq, zne, l0, l1, l2, l3, l4, l5, l6, l7, l8, l9, l10, l11, l16, l17, l20, l24, l32, l37, l47, l57, l60, l67, l77, l97, l99, l122, l48, l57, l100, l237, l397, l600, l900, l880, l9998, l9999, bnd, xcI_rI, xcV_rV, xcR_rR, zb0, zb1, nz0, nz1, nar_z0, nar_z1, nar_b2, ↓reduceIte, T_cell_z, ald19, ast19, ald20, ast20, ald21, ast21, ald22, ast22, ald25, ast25, ald26, ast26, (ald_nC hR1), (ald_nR hR1), (ald_gap hR1), (ald_slk hR1), (ald_len hR1), (ald_crs hR1), (ald_st hR1), (ald_fi hR1), (ald_np hR1), (codeOf_z hR1), (pCode_z hR1), (pTime_z hR1), (total_z hR1), (isC_z hR1), (isR_z hR1)]
  refine ok_ite (fun c1 => ?_) fun c1 => ?_
  · have hi : i = (rLen R (rCrs R a) + 1).toNat := by omega
    subst hi
    exact ok_rI.mpr ⟨rfl, h5⟩
  have r1 := rLg_rg hV (a := a) (i := i) ha ha' (by omega) (by omega)
  have r2 := rLg_rg hV (a := b) (i := i) hb hb' (by omega) (by rw [← hc]; omega)
  have rt := tmL_rg hV (i := i) ha ha' hb hb' hc (by omega) (by omega)
  have hs := idS_rg (f := fun i : Nat => tmL R a b i) (B := 9999) (n := i) (fun q hq => tmL_rg hV ha ha' hb hb' hc (by omega) (by omega)) (by omega)
  obtain ⟨s2, e2, t2⟩ := lg_z hR1 hV ha ha' (i := i) (by omega) (by omega)
  obtain ⟨s3, e3, t3⟩ := lg_z (t2.rep hR1) hV hb hb' (i := i) (by omega) (by rw [← hc]; omega)
  have h7 := h5.trans (t2.trans t3)
  simp (disch := omega) only [e2, e3, z_add, z_sub, z_mul, z_neg, zlt, zle, zeq, zne, l0, l1, l2, l3, l4, l5, l6, l7, l8, l9, l10, l11, l16, l17, l20, l24, l32, l37, l47, l57, l60, l67, l77, l97, l99, l122, l48, l57, l100, l237, l397, l600, l900, l880, l9998, l9999, bnd, xcI_rI, xcV_rV, xcR_rR, zb0, zb1, nz0, nz1, nar_z0, nar_z1, nar_b2, ↓reduceIte, T_cell_z, ald19, ast19, ald20, ast20, ald21, ast21, ald22, ast22, ald25, ast25, ald26, ast26, T_teamOf_61, T_teamOf_88, T_teamOf_95]
  have hgo : ∀ v, v = tmL R a b i → v ≠ -2 → OK (kk (z a, z b, z (idS (fun i => tmL R a b i) i + v), z ((i : Int) + 1), s3)) (fun o s' => o = some (.int (z (idS (fun i => tmL R a b i) (rLen R (rCrs R a) + 1).toNat))) ∧ TM s s') := by
    intro v hv hv2
    have e : idS (fun i => tmL R a b i) (i + 1) = idS (fun i => tmL R a b i) i + tmL R a b i := by
      rw [idS]
      exact if_neg (fun h => h.elim h6 (by omega))
    exact hk _ _ (by omega) ⟨i + 1, s3, by rw [e, hv]; rfl, rfl, by omega, h7, by rw [e]; omega⟩
  refine ok_ite (fun c2 => ?_) fun c2 => ?_
  · refine ok_ite (fun c3 => ?_) fun c3 => ?_
    · refine ok_rI.mpr ⟨?_, h7⟩
      have := idS_bad (f := fun i : Nat => tmL R a b i) (i := i + 1) (by rw [idS]; exact if_pos (Or.inr (by unfold tmL; rw [if_pos c2, c3]))) ((rLen R (rCrs R a) + 1).toNat - (i + 1))
      rw [show i + 1 + ((rLen R (rCrs R a) + 1).toNat - (i + 1)) = (rLen R (rCrs R a) + 1).toNat by omega] at this
      rw [this]
    · rw [if_pos c2]
      exact hgo _ (by unfold tmL; rw [if_pos c2]) c3
  · rw [if_neg c2]
    refine ok_ite (fun c3 => ?_) fun c3 => ?_
    · exact hgo _ (by unfold tmL; rw [if_neg c2, if_pos c3]) c2
    · refine ok_ite (fun c4 => ?_) fun c4 => ?_
      · exact hgo _ (by unfold tmL; rw [if_neg c2, if_neg c3, Int.min_eq_right (by omega)]) c3
      · exact hgo _ (by unfold tmL; rw [if_neg c2, if_neg c3, Int.min_eq_left (by omega)]) c2
theorem T_why_z (hR : TRep s R) (hV : RV R) {a b : Int} (ha : i32 a) (hb : i32 b) : T_whyNotTwo s (z a) (z b) 1 = rI (z (wn2 R a b)) s := by
  have := T_why2_z (p := True) hR hV (a := a) (b := b) ha hb
  rw [b2_t' trivial, if_pos trivial] at this
  exact this
theorem Tw_together (hR : TRep s R) (hV : RV R) {a b : Int} (ha : i32 a) (hb : i32 b) : To s (T_together s (z a) (z b)) (if wn2 R a b = 0 then (setT R a b).toInt else -1) (wn2 R a b) := by
  unfold T_together
  have hw := wn2_rg (R := R) (a := a) (b := b)
  rw [T_why_z hR hV ha hb, xcI_rI, T_ref_z ⟨by omega, by omega⟩, xcI_rI]
  by_cases c0 : wn2 R a b = 0
  · have c := wn2_0.mp c0
    obtain ⟨s1, e1, t1⟩ := togetherOf_z (tF_rep (w := z (wn2 R a b)) hR) hV c.1.1 c.1.2 c.2.1.1 c.2.1.2 c.2.2.2
    rw [b2_f' (fun h => h c0), if_pos (by decide), if_pos c0, e1, xcI_rI]
    exact To.m t1
  · rw [b2_t' c0, if_neg (by decide), if_neg c0]
    exact ⟨_, rfl, TQ.rf⟩
theorem Tw_team (hR : TRep s R) (hV : RV R) {a b : Int} (ha : i32 a) (hb : i32 b) : To s (T_team s (z a) (z b)) (if wn2 R a b = 0 then vTeam R a b else -1) (wn2 R a b) := by
  unfold T_team
  have hw := wn2_rg (R := R) (a := a) (b := b)
  rw [T_why_z hR hV ha hb, xcI_rI, T_ref_z ⟨by omega, by omega⟩, xcI_rI]
  by_cases c0 : wn2 R a b = 0
  · have c := wn2_0.mp c0
    obtain ⟨s1, e1, t1⟩ := teamOf_z (tF_rep (w := z (wn2 R a b)) hR) hV c.1.1 c.1.2 c.2.1.1 c.2.1.2 c.2.2.2
    rw [b2_f' (fun h => h c0), if_pos (by decide), if_pos c0, e1, xcI_rI]
    exact To.m t1
  · rw [b2_t' c0, if_neg (by decide), if_neg c0]
    exact ⟨_, rfl, TQ.rf⟩
theorem Tw_mate (hR : TRep s R) (hV : RV R) {a : Int} (ha : i32 a) : To s (T_mate s (z a)) (if 0 ≤ a ∧ a < R 1 then vMate R a else -1) (b2 (¬ (0 ≤ a ∧ a < R 1))) := by
  unfold T_mate
  have h1 := hV.nR
  have h0 := hV.nC
  rw [isR_z hR h1.1 h1.2 ha.1 ha.2, xcI_rI]
  by_cases c0 : 0 ≤ a ∧ a < R 1
  · rw [b2_t' c0, if_pos c0, nb c0]
    refine Eq.mpr (congrArg (fun K => To s K _ _) tw_1) ?_
    apply ok_to
    unfold vMate
    generalize hv : mtV R a = v
    refine ok_lpn (fun d p => ∃ (i : Nat) (s1 : TS), p = (z a, z (amin v i), z (lst0 v i), z i, s1) ∧ d = (R 1).toNat - i ∧ (i : Int) ≤ R 1 ∧ TQ (tF s (z 0)) s1) ?_ FU _ _ ⟨0, tF s (z 0), rfl, rfl, by omega, TQ.rf⟩ (by simp only [FU]; omega)
    rintro kk d p ⟨i, s1, rfl, rfl, h4, h5⟩ hk
    have hR1 := h5.rep (tF_rep hR)
    have hst : ∀ (v0 v1 : Int) (s2 : TS), v0 = amin v (i + 1) → v1 = lst0 v (i + 1) → TQ (tF s (z 0)) s2 → (i : Int) < R 1 → OK (kk (z a, z v0, z v1, z ((i : Int) + 1), s2)) _ := fun v0 v1 s2 ev0 ev1 t2 hl => hk _ _ (by omega) ⟨i + 1, s2, (by rw [ev0, ev1]; rfl), rfl, by omega, t2⟩
    simp (disch := omega) only [T_mate_25F, T_mate_64, T_mate_76, T_mate_97, T_mate_103, z_add, z_sub, z_mul, z_neg, zlt, zle, zeq, zne, l0, l1, l2, l3, l4, l5, l6, l7, l8, l9, l10, l11, l16, l17, l20, l24, l32, l37, l47, l57, l60, l67, l77, l97, l99, l122, l48, l57, l100, l237, l397, l600, l900, l880, l9998, l9999, bnd, xcI_rI, xcV_rV, xcR_rR, zb0, zb1, nz0, nz1, nar_z0, nar_z1, nar_b2, ↓reduceIte, T_cell_z, ald19, ast19, ald20, ast20, ald21, ast21, ald22, ast22, ald25, ast25, ald26, ast26, (ald_nC hR1), (ald_nR hR1), (ald_gap hR1), (ald_slk hR1), (ald_len hR1), (ald_crs hR1), (ald_st hR1), (ald_fi hR1), (ald_np hR1), (codeOf_z hR1), (pCode_z hR1), (pTime_z hR1), (total_z hR1), (isC_z hR1), (isR_z hR1)]
    refine ok_ite (fun c1 => ?_) fun c1 => ?_
    · have hi : i = (R 1).toNat := by omega
      subst hi
      exact ok_rI.mpr ⟨rfl, h5⟩
    have hvr : ∀ o : Nat, o < i → v o = -2 ∨ (0 ≤ v o ∧ v o ≤ 200000) := fun o ho => by rw [← hv]; exact mtV_rg hV o
    have hl0 := lst0_rg hvr (by omega)
    have ha0 := amin_rg v i
    have hcr := hV.crs c0.1 c0.2
    have hcr' := hV.crs (a := i) (by omega) (by omega)
    have hvi : v i = mtV R a i := by rw [hv]
    have hws : wn2 R a i = if a = i ∨ rCrs R a ≠ rCrs R i then 5 else 0 := by unfold wn2; rw [if_neg (by omega)]
    have hno : ¬ wn2 R a i = 0 → v i = -2 := fun h => by rw [hvi, mtV, if_neg h]
    simp (disch := omega) only [z_add, z_sub, z_mul, z_neg, zlt, zle, zeq, zne, l0, l1, l2, l3, l4, l5, l6, l7, l8, l9, l10, l11, l16, l17, l20, l24, l32, l37, l47, l57, l60, l67, l77, l97, l99, l122, l48, l57, l100, l237, l397, l600, l900, l880, l9998, l9999, bnd, xcI_rI, xcV_rV, xcR_rR, zb0, zb1, nz0, nz1, nar_z0, nar_z1, nar_b2, ↓reduceIte, T_cell_z, ald19, ast19, ald20, ast20, ald21, ast21, ald22, ast22, ald25, ast25, ald26, ast26]
    refine ok_ite (fun c2 => ?_) fun c2 => ?_
    · have hv2 := hno (by rw [hws, if_pos (Or.inl c2.symm)]; decide)
      exact hst _ _ _ (by exact (amin_n hv2).1) (by exact (amin_n hv2).2) h5 (by omega)
    · refine ok_ite (fun c3 => ?_) fun c3 => ?_
      · have cw : wn2 R a i = 0 := by rw [hws, if_neg (by omega)]
        have c := wn2_0.mp cw
        have hvt : v i = vTeam R a i := by rw [hvi, mtV, if_pos cw]
        have htr := vTeam_rg hV c.1.1 c.1.2 c.2.1.1 c.2.1.2 c.2.2.2
        obtain ⟨s2, e2, t2⟩ := teamOf_z hR1 hV c.1.1 c.1.2 c.2.1.1 c.2.1.2 c.2.2.2
        simp (disch := omega) only [e2, z_add, z_sub, z_mul, z_neg, zlt, zle, zeq, zne, l0, l1, l2, l3, l4, l5, l6, l7, l8, l9, l10, l11, l16, l17, l20, l24, l32, l37, l47, l57, l60, l67, l77, l97, l99, l122, l48, l57, l100, l237, l397, l600, l900, l880, l9998, l9999, bnd, xcI_rI, xcV_rV, xcR_rR, zb0, zb1, nz0, nz1, nar_z0, nar_z1, nar_b2, ↓reduceIte, T_cell_z, ald19, ast19, ald20, ast20, ald21, ast21, ald22, ast22, ald25, ast25, ald26, ast26]
        refine ok_ite (fun c4 => ?_) fun c4 => ?_
        · exact hst _ _ _ (by exact (amin_n (hvt.trans c4)).1) (by exact (amin_n (hvt.trans c4)).2) (h5.trans t2.q) (by omega)
        · refine ok_ite (fun c5 => ?_) fun c5 => ?_
          · exact hst _ _ _ (by exact (amin_y (by rw [hvt]; exact c4) (Or.inl c5)).1) (by rw [← hvt]; exact (amin_y (by rw [hvt]; exact c4) (Or.inl c5)).2) (h5.trans t2.q) (by omega)
          · refine ok_ite (fun c6 => ?_) fun c6 => ?_
            · exact hst _ _ _ (by exact (amin_k c5 (by omega)).1) (by exact (amin_k c5 (by omega)).2) (h5.trans t2.q) (by omega)
            · exact hst _ _ _ (by exact (amin_y (by rw [hvt]; exact c4) (Or.inr (by omega))).1) (by rw [← hvt]; exact (amin_y (by rw [hvt]; exact c4) (Or.inr (by omega))).2) (h5.trans t2.q) (by omega)
      · have hv2 := hno (by rw [hws, if_pos (Or.inr (fun e => c3 e.symm))]; decide)
        exact hst _ _ _ (by exact (amin_n hv2).1) (by exact (amin_n hv2).2) h5 (by omega)
  · rw [b2_f' c0, if_neg c0, nb' c0]
    exact To.n1 rfl
theorem Tw_passes (hR : TRep s R) (hV : RV R) {a b : Int} (ha : i32 a) (hb : i32 b) : To s (T_passes s (z a) (z b)) (if wn2 R a b = 0 then vPass R a b else -1) (wn2 R a b) := by
  unfold T_passes
  have h1 := hV.nR
  have h0 := hV.nC
  have hw := wn2_rg (R := R) (a := a) (b := b)
  rw [T_why_z hR hV ha hb, xcI_rI, T_ref_z ⟨by omega, by omega⟩, xcI_rI]
  by_cases c0 : wn2 R a b = 0
  · have c := wn2_0.mp c0
    have hcr := hV.crs c.1.1 c.1.2
    have hl := hV.len hcr.1 hcr.2
    rw [b2_f' (fun h => h c0), if_pos (by decide), if_pos c0, c0]
    apply ok_to
    unfold vPass
    refine ok_lpn (fun d p => ∃ (i : Nat) (s1 : TS), p = (z a, z b, z (sumS (fun i => psB R a b i) i), z ((i : Int) + 1), s1) ∧ d = (rLen R (rCrs R a)).toNat - i ∧ (i : Int) ≤ rLen R (rCrs R a) ∧ TQ (tF s (z 0)) s1) ?_ FU _ _ ⟨0, tF s (z 0), rfl, rfl, by omega, TQ.rf⟩ (by simp only [FU]; omega)
    rintro kk d p ⟨i, s1, rfl, rfl, h4, h5⟩ hk
    have hR1 := h5.rep (tF_rep hR)
    have hst : ∀ (v0 : Int) (s2 : TS), v0 = sumS (fun i => psB R a b i) (i + 1) → TQ (tF s (z 0)) s2 → (i : Int) < rLen R (rCrs R a) → OK (kk (z a, z b, z v0, z ((i : Int) + 1 + 1), s2)) _ := fun v0 s2 ev0 t2 hl => hk _ _ (by omega) ⟨i + 1, s2, (by rw [ev0]; rfl), rfl, by omega, t2⟩
    simp (disch := omega) only [T_passes_21F, z_add, z_sub, z_mul, z_neg, zlt, zle, zeq, zne, l0, l1, l2, l3, l4, l5, l6, l7, l8, l9, l10, l11, l16, l17, l20, l24, l32, l37, l47, l57, l60, l67, l77, l97, l99, l122, l48, l57, l100, l237, l397, l600, l900, l880, l9998, l9999, bnd, xcI_rI, xcV_rV, xcR_rR, zb0, zb1, nz0, nz1, nar_z0, nar_z1, nar_b2, ↓reduceIte, T_cell_z, ald19, ast19, ald20, ast20, ald21, ast21, ald22, ast22, ald25, ast25, ald26, ast26, (ald_nC hR1), (ald_nR hR1), (ald_gap hR1), (ald_slk hR1), (ald_len hR1), (ald_crs hR1), (ald_st hR1), (ald_fi hR1), (ald_np hR1), (codeOf_z hR1), (pCode_z hR1), (pTime_z hR1), (total_z hR1), (isC_z hR1), (isR_z hR1)]
    refine ok_ite (fun c1 => ?_) fun c1 => ?_
    · have hi : i = (rLen R (rCrs R a)).toNat := by omega
      subst hi
      exact ok_rI.mpr ⟨rfl, h5⟩
    have m1 := rTm_rg hV (i := i) c.1.1 c.1.2
    have m2 := rTm_rg hV (i := (i : Int) + 1) c.1.1 c.1.2
    have m3 := rTm_rg hV (i := i) c.2.1.1 c.2.1.2
    have m4 := rTm_rg hV (i := (i : Int) + 1) c.2.1.1 c.2.1.2
    obtain ⟨s2, e2, t2⟩ := tm_z hR1 hV c.1.1 c.1.2 (i := i) (by omega) (by omega)
    have hR2 := t2.rep hR1
    obtain ⟨s3, e3, t3⟩ := tm_z hR2 hV c.2.1.1 c.2.1.2 (i := i) (by omega) (by rw [← c.2.2.2]; omega)
    have hR3 := t3.rep hR2
    obtain ⟨s4, e4, t4⟩ := tm_z hR3 hV c.1.1 c.1.2 (i := (i : Int) + 1) (by omega) (by omega)
    have hR4 := t4.rep hR3
    obtain ⟨s5', e5, t5⟩ := tm_z hR4 hV c.2.1.1 c.2.1.2 (i := (i : Int) + 1) (by omega) (by rw [← c.2.2.2]; omega)
    have h7 := h5.trans (t2.trans (t3.trans (t4.trans t5))).q
    simp (disch := omega) only [show (i : Int) + 1 - 1 = i by omega, e2, e3, e4, e5, z_add, z_sub, z_mul, z_neg, zlt, zle, zeq, zne, l0, l1, l2, l3, l4, l5, l6, l7, l8, l9, l10, l11, l16, l17, l20, l24, l32, l37, l47, l57, l60, l67, l77, l97, l99, l122, l48, l57, l100, l237, l397, l600, l900, l880, l9998, l9999, bnd, xcI_rI, xcV_rV, xcR_rR, zb0, zb1, nz0, nz1, nar_z0, nar_z1, nar_b2, ↓reduceIte, T_cell_z, ald19, ast19, ald20, ast20, ald21, ast21, ald22, ast22, ald25, ast25, ald26, ast26, show ¬ ((1 : Int) = 0) by decide]
    have hno : psB R a b i = 0 → OK (T_passes_138 kk (z a) (z b) (z ((i : Int) + 1)) (z (sumS (fun i => psB R a b i) i)) 0 s5') (fun o s' => o = some (.int (z (sumS (fun i => psB R a b i) (rLen R (rCrs R a)).toNat))) ∧ TQ (tF s (z 0)) s') := by
      intro hp
      simp (disch := omega) only [T_passes_138, z_add, z_sub, z_mul, z_neg, zlt, zle, zeq, zne, l0, l1, l2, l3, l4, l5, l6, l7, l8, l9, l10, l11, l16, l17, l20, l24, l32, l37, l47, l57, l60, l67, l77, l97, l99, l122, l48, l57, l100, l237, l397, l600, l900, l880, l9998, l9999, bnd, xcI_rI, xcV_rV, xcR_rR, zb0, zb1, nz0, nz1, nar_z0, nar_z1, nar_b2, ↓reduceIte, T_cell_z, ald19, ast19, ald20, ast20, ald21, ast21, ald22, ast22, ald25, ast25, ald26, ast26]
      exact hst _ _ (by rw [sumS, hp]) h7 (by omega)
    have hno' : psB R a b i = 0 → OK (T_passes_110 kk (z a) (z b) (z (sumS (fun i => psB R a b i) i)) (z ((i : Int) + 1)) (z (rTm R a i)) (z (rTm R b i)) (z (rTm R a ((i : Int) + 1))) (z (rTm R b ((i : Int) + 1))) s5') (fun o s' => o = some (.int (z (sumS (fun i => psB R a b i) (rLen R (rCrs R a)).toNat))) ∧ TQ (tF s (z 0)) s') := fun hp => hno hp
    refine ok_ite (fun c2 => ?_) fun c2 => ?_
    · exact hno' (by unfold psB; rw [if_neg (by omega)])
    · refine ok_ite (fun c3 => ?_) fun c3 => ?_
      · exact hno' (by unfold psB; rw [if_neg (by omega)])
      · refine ok_ite (fun c4 => ?_) fun c4 => ?_
        · exact hno' (by unfold psB; rw [if_neg (by omega)])
        · refine ok_ite (fun c5 => ?_) fun c5 => ?_
          · exact hno' (by unfold psB; rw [if_neg (by omega)])
          · unfold T_passes_111
            rw [if_neg (by decide)]
            simp (disch := omega) only [zle]
            refine ok_ite (fun c6 => ?_) fun c6 => ?_
            · exact hno (by unfold psB; rw [if_neg (by omega)])
            · refine ok_ite (fun c7 => ?_) fun c7 => ?_
              · exact hno (by unfold psB; rw [if_neg (by omega)])
              · simp (disch := omega) only [T_passes_138, z_add, z_sub, z_mul, z_neg, zlt, zle, zeq, zne, l0, l1, l2, l3, l4, l5, l6, l7, l8, l9, l10, l11, l16, l17, l20, l24, l32, l37, l47, l57, l60, l67, l77, l97, l99, l122, l48, l57, l100, l237, l397, l600, l900, l880, l9998, l9999, bnd, xcI_rI, xcV_rV, xcR_rR, zb0, zb1, nz0, nz1, nar_z0, nar_z1, nar_b2, ↓reduceIte, T_cell_z, ald19, ast19, ald20, ast20, ald21, ast21, ald22, ast22, ald25, ast25, ald26, ast26]
                exact hst _ _ (by rw [sumS, psB, if_pos (by omega)]) h7 (by omega)
  · rw [b2_t' c0, if_neg (by decide), if_neg c0]
    exact ⟨_, rfl, TQ.rf⟩
end

/-! .. THE ANSWERS -/
set_option maxRecDepth 100000
section
variable {n x : Nat} {P : PH} {g : GX} {mo : Option Nat} {cs rs : List Nat} {R : Nat → Int} {N : Nat → List Int32}
theorem X_together (hx : CX P x g mo) (hI : Iv P) (hM : MO n P mo cs rs R N) (hV : RV R) {a b : Int} (ha : i32 a) (hb : i32 b) : Oq n P x g mo cs rs R N 0 (f_X1_together P x (z a) (z b)) (if wn2 R a b = 0 then (setT R a b).toInt else -1) (wn2 R a b) := by
  unfold f_X1_together
  have hw := wn2_rg (R := R) (a := a) (b := b)
  rw [hx.cl, X_whyNot hx hM hV ha hb, xcI_rI]
  by_cases c0 : wn2 R a b = 0
  · have c := wn2_0.mp c0
    obtain ⟨m, rfl, hM'⟩ := hM.get (by omega)
    obtain ⟨P1, e1, h1, q1, x1, I1⟩ := (X_togetherOf hx hI hM' hV c.1.1 c.1.2 c.2.1.1 c.2.1.2 c.2.2.2).u hI hx hM'
    rw [if_pos c0, c0, if_pos (by decide), e1, xcI_rI]
    exact op_yes hx hI h1 q1 (hx.ne hM')
  · rw [if_neg c0]
    simp (disch := omega) only [z_add, z_sub, z_mul, z_neg, zlt, zle, zeq, zne, l0, l1, l2, l3, l4, l5, l6, l7, l8, l9, l10, l11, l16, l17, l20, l24, l32, l37, l47, l57, l60, l67, l77, l97, l99, l122, l48, l57, l100, l237, l397, l600, l900, l880, l9998, l9999, bnd, xcI_rI, xcV_rV, xcR_rR, zb0, zb1, nz0, nz1, nar_z0, nar_z1, nar_b2, ↓reduceIte]
    rw [if_neg (by omega)]
    exact op_no hx hI hM
theorem X_team (hx : CX P x g mo) (hI : Iv P) (hM : MO n P mo cs rs R N) (hV : RV R) {a b : Int} (ha : i32 a) (hb : i32 b) : Oq n P x g mo cs rs R N 0 (f_X1_team P x (z a) (z b)) (if wn2 R a b = 0 then vTeam R a b else -1) (wn2 R a b) := by
  unfold f_X1_team
  have hw := wn2_rg (R := R) (a := a) (b := b)
  rw [hx.cl, X_whyNot hx hM hV ha hb, xcI_rI]
  by_cases c0 : wn2 R a b = 0
  · have c := wn2_0.mp c0
    obtain ⟨m, rfl, hM'⟩ := hM.get (by omega)
    obtain ⟨P1, e1, h1, q1, x1, I1⟩ := (X_teamOf hx hI hM' hV c.1.1 c.1.2 c.2.1.1 c.2.1.2 c.2.2.2).u hI hx hM'
    rw [if_pos c0, c0, if_pos (by decide), e1, xcI_rI]
    exact op_yes hx hI h1 q1 (hx.ne hM')
  · rw [if_neg c0]
    simp (disch := omega) only [z_add, z_sub, z_mul, z_neg, zlt, zle, zeq, zne, l0, l1, l2, l3, l4, l5, l6, l7, l8, l9, l10, l11, l16, l17, l20, l24, l32, l37, l47, l57, l60, l67, l77, l97, l99, l122, l48, l57, l100, l237, l397, l600, l900, l880, l9998, l9999, bnd, xcI_rI, xcV_rV, xcR_rR, zb0, zb1, nz0, nz1, nar_z0, nar_z1, nar_b2, ↓reduceIte]
    rw [if_neg (by omega)]
    exact op_no hx hI hM
theorem mtV_rg {R : Nat → Int} (hV : RV R) {a : Int} (q : Nat) : mtV R a q = -2 ∨ (0 ≤ mtV R a q ∧ mtV R a q ≤ 200000) := by
  unfold mtV
  split
  · rename_i h
    have c := wn2_0.mp h
    exact vTeam_rg hV c.1.1 c.1.2 c.2.1.1 c.2.1.2 c.2.2.2
  · exact Or.inl rfl
theorem X_mate (hx : CX P x g mo) (hI : Iv P) (hM : MO n P mo cs rs R N) (hV : RV R) {a : Int} (ha : i32 a) : Oq n P x g mo cs rs R N 0 (f_X1_mate P x (z a)) (if 0 ≤ a ∧ a < R 1 then vMate R a else -1) (b2 (¬ (0 ≤ a ∧ a < R 1))) := by
  unfold f_X1_mate
  have hnr := hV.nR
  rw [hx.cl, X_isRunner hx hM hV ha, xcI_rI]
  by_cases c0 : 0 ≤ a ∧ a < R 1
  · obtain ⟨m, rfl, hM'⟩ := hM.get (by omega)
    have hne := hx.ne hM'
    have hcr := hV.crs c0.1 c0.2
    have hl := hV.len hcr.1 hcr.2
    rw [b2_t' c0, if_pos c0, nb c0, if_neg (by decide)]
    apply ok_oq
    unfold vMate
    generalize hv : mtV R a = v
    refine ok_lpn (fun d p => ∃ (i : Nat) (P1 : PH), p = (z a, z (amin v i), z i, P1) ∧ d = (R 1).toNat - i ∧ (i : Int) ≤ R 1 ∧ MRep n P1 m cs rs R N ∧ QF m (0) P P1) ?_ FU _ _ ⟨0, P, rfl, rfl, by omega, hM', QF.rf hI⟩ (by simp only [FU]; omega)
    rintro kk d p ⟨i, P1, rfl, rfl, h4, h5, h6⟩ hk
    have hI1 := h6.iv
    have x1 := hx.qf hI hne h6
    have hst : ∀ (v0 : Int) (P2 : PH), v0 = amin v (i + 1) → MRep n P2 m cs rs R N → QF m (0) P P2 → (i : Int) < R 1 → OK (kk (z a, z v0, z ((i : Int) + 1), P2)) _ := fun v0 P2 ev0 t2 q2 hl => hk _ _ (by omega) ⟨i + 1, P2, (by rw [ev0]; rfl), rfl, by omega, t2, q2⟩
    obtain ⟨cl, rl, mm, hcm, hcz, hrz, hcg, hrg⟩ := h5.at
    simp (disch := omega) only [f_X1_mate_19F, f_X1_mate_79, f_X1_mate_81, z_add, z_sub, z_mul, z_neg, zlt, zle, zeq, zne, l0, l1, l2, l3, l4, l5, l6, l7, l8, l9, l10, l11, l16, l17, l20, l24, l32, l37, l47, l57, l60, l67, l77, l97, l99, l122, l48, l57, l100, l237, l397, l600, l900, l880, l9998, l9999, bnd, xcI_rI, xcV_rV, xcR_rR, zb0, zb1, nz0, nz1, nar_z0, nar_z1, nar_b2, ↓reduceIte, ↓xnul_s, ↓xnul_n, xcst_n, List.set_cons_zero, List.set_cons_succ, ↓x1.gm, ↓xcl1_s hcm, ↓xgR_s (k := 0) hcm rfl, ↓xgR_s (k := 1) hcm rfl, ↓xgI_s (k := 2) hcm rfl, ↓xgI_s (k := 3) hcm rfl, hcz, hrz]
    refine ok_ite (fun c1 => ?_) fun c1 => ?_
    · have hi : i = (R 1).toNat := by omega
      subst hi
      exact (op_yes hx hI h5 h6 hne).ok
    have ha0 := amin_rg v i
    have hw := wn2_rg (R := R) (a := a) (b := i)
    simp (disch := omega) only [X_whyNot x1 (Or.inr ⟨m, rfl, h5⟩) hV (a := a) (b := i) ha ⟨by omega, by omega⟩, z_add, z_sub, z_mul, z_neg, zlt, zle, zeq, zne, l0, l1, l2, l3, l4, l5, l6, l7, l8, l9, l10, l11, l16, l17, l20, l24, l32, l37, l47, l57, l60, l67, l77, l97, l99, l122, l48, l57, l100, l237, l397, l600, l900, l880, l9998, l9999, bnd, xcI_rI, xcV_rV, xcR_rR, zb0, zb1, nz0, nz1, nar_z0, nar_z1, nar_b2, ↓reduceIte, ↓xnul_s, ↓xnul_n, xcst_n, List.set_cons_zero, List.set_cons_succ]
    have hvi : v i = mtV R a i := by rw [hv]
    refine ok_ite (fun c2 => ?_) fun c2 => ?_
    · have : v i = -2 := by rw [hvi, mtV, if_neg (by omega)]
      exact hst _ _ (by exact (amin_n this).1) h5 h6 (by omega)
    · have cw : wn2 R a i = 0 := by omega
      have c := wn2_0.mp cw
      have hvt : v i = vTeam R a i := by rw [hvi, mtV, if_pos cw]
      have htr := vTeam_rg hV c.1.1 c.1.2 c.2.1.1 c.2.1.2 c.2.2.2
      obtain ⟨P2, e2, t2, q2, x2, I2⟩ := (X_teamOf x1 hI1 h5 hV c.1.1 c.1.2 c.2.1.1 c.2.1.2 c.2.2.2).u hI1 x1 h5
      have h7 := h6.trans hI q2
      simp (disch := omega) only [e2, z_add, z_sub, z_mul, z_neg, zlt, zle, zeq, zne, l0, l1, l2, l3, l4, l5, l6, l7, l8, l9, l10, l11, l16, l17, l20, l24, l32, l37, l47, l57, l60, l67, l77, l97, l99, l122, l48, l57, l100, l237, l397, l600, l900, l880, l9998, l9999, bnd, xcI_rI, xcV_rV, xcR_rR, zb0, zb1, nz0, nz1, nar_z0, nar_z1, nar_b2, ↓reduceIte, ↓xnul_s, ↓xnul_n, xcst_n, List.set_cons_zero, List.set_cons_succ]
      refine ok_ite (fun c3 => ?_) fun c3 => ?_
      · exact hst _ _ (by exact (amin_n (hvt.trans c3)).1) t2 h7 (by omega)
      · refine ok_ite (fun c4 => ?_) fun c4 => ?_
        · exact hst _ _ (by exact (amin_y (by rw [hvt]; exact c3) (Or.inl c4)).1) t2 h7 (by omega)
        · have ha1 := ha0.resolve_left c4
          have hz : (((amin v i).toNat : Nat) : Int) = amin v i := by omega
          have hvb : v (amin v i).toNat = vTeam R a (amin v i) ∧ wn2 R a (amin v i) = 0 := by
            have h8 := ha1.2.2
            rw [← hv] at h8 ⊢
            unfold mtV at h8 ⊢
            rw [show (((amin (fun q : Nat => if wn2 R a q = 0 then vTeam R a q else -2) i).toNat : Nat) : Int) = (amin (fun q : Nat => if wn2 R a q = 0 then vTeam R a q else -2) i) by rw [← hv] at hz; exact hz] at h8 ⊢
            split at h8
            · rename_i h9
              exact ⟨by rw [if_pos h9], h9⟩
            · exact absurd rfl h8
          have cb := wn2_0.mp hvb.2
          have hbr := vTeam_rg hV cb.1.1 cb.1.2 cb.2.1.1 cb.2.1.2 cb.2.2.2
          obtain ⟨P3, e3, t3, q3, x3, I3⟩ := (X_teamOf x2 I2 t2 hV c.1.1 c.1.2 c.2.1.1 c.2.1.2 c.2.2.2).u I2 x2 t2
          obtain ⟨P4, e4, t4, q4, x4, I4⟩ := (X_teamOf x3 I3 t3 hV cb.1.1 cb.1.2 cb.2.1.1 cb.2.1.2 cb.2.2.2).u I3 x3 t3
          have h8 := (h7.trans hI q3).trans hI q4
          have hl0 : lst0 v i = v (amin v i).toNat := by unfold lst0; rw [if_neg c4]
          simp (disch := omega) only [e3, e4, z_add, z_sub, z_mul, z_neg, zlt, zle, zeq, zne, l0, l1, l2, l3, l4, l5, l6, l7, l8, l9, l10, l11, l16, l17, l20, l24, l32, l37, l47, l57, l60, l67, l77, l97, l99, l122, l48, l57, l100, l237, l397, l600, l900, l880, l9998, l9999, bnd, xcI_rI, xcV_rV, xcR_rR, zb0, zb1, nz0, nz1, nar_z0, nar_z1, nar_b2, ↓reduceIte, ↓xnul_s, ↓xnul_n, xcst_n, List.set_cons_zero, List.set_cons_succ]
          refine ok_ite (fun c5 => ?_) fun c5 => ?_
          · exact hst _ _ (by exact (amin_k c4 (by omega)).1) t4 h8 (by omega)
          · exact hst _ _ (by exact (amin_y (by rw [hvt]; exact c3) (Or.inr (by omega))).1) t4 h8 (by omega)
  · rw [b2_f' c0, if_pos (by decide), if_neg c0, nb' c0]
    exact op_no (w := 1) hx hI hM
theorem MT.qf {m k : Nat} {P' : PH} {y q : Nat} {a c : Int} (h : MT P y q R a c) (hI : Iv P) (hM : MRep n P m cs rs R N) (hq : QF m k P P') : MT P' y q R a c := by
  obtain ⟨cl, rl, mo, h0, h1, -⟩ := id hM
  exact h.fr (n := n) hI hq.1 (okV_1 h1 (by decide) (Or.inr (Or.inr (Or.inl rfl))))
theorem X_passes (hx : CX P x g mo) (hI : Iv P) (hM : MO n P mo cs rs R N) (hV : RV R) {a b : Int} (ha : i32 a) (hb : i32 b) : Oq n P x g mo cs rs R N 0 (f_X1_passes P x (z a) (z b)) (if wn2 R a b = 0 then vPass R a b else -1) (wn2 R a b) := by
  unfold f_X1_passes
  have hw := wn2_rg (R := R) (a := a) (b := b)
  rw [hx.cl, X_whyNot hx hM hV ha hb, xcI_rI]
  by_cases c0 : wn2 R a b = 0
  · have c := wn2_0.mp c0
    obtain ⟨m, rfl, hM'⟩ := hM.get (by omega)
    have hne := hx.ne hM'
    have hcr := hV.crs c.1.1 c.1.2
    have hl := hV.len hcr.1 hcr.2
    have hL : (((rLen R (rCrs R a)).toNat : Nat) : Int) = rLen R (rCrs R a) := by omega
    obtain ⟨P1, y1, w1, e1, t1, u1, u2, q1⟩ := hM'.match hI hV c.1.1 c.1.2
    have x1 := hx.qf hI hne q1
    obtain ⟨P2, y2, w2, e2, t2, j1, j2, q2⟩ := t1.match q1.iv hV c.2.1.1 c.2.1.2
    have h5 := t2
    have h6 := q1.trans hI q2
    have u3 := u2.qf q1.iv t1 q2
    obtain ⟨w1', hw1, hr1⟩ := t2.run c.1.1 c.1.2
    rw [u1] at hw1
    cases hw1
    obtain ⟨w2', hw2, hr2⟩ := t2.run c.2.1.1 c.2.1.2
    rw [j1] at hw2
    cases hw2
    obtain ⟨ca, tk, mo3, gg, v1, v2⟩ := u3.tlen
    have tmA : ∀ i : Int, -1 ≤ i → i ≤ rLen R (rCrs R a) → f_X9_time P2 y1 (z i) = rI (z (cTm R a i)) P2 := fun i h1 h2 => u3.time hr1 hV c.1.1 c.1.2 h1 h2
    have tmB : ∀ i : Int, -1 ≤ i → i ≤ rLen R (rCrs R a) → f_X9_time P2 y2 (z i) = rI (z (cTm R b i)) P2 := fun i h1 h2 => j2.time hr2 hV c.2.1.1 c.2.1.2 h1 (by rw [← c.2.2.2]; exact h2)
    rw [if_pos c0, c0, if_pos (by decide), hx.gm, xnul_s, e1, xcR_rR, x1.gm, xnul_s, e2, xcR_rR]
    apply ok_oq
    unfold vPass
    refine ok_lpn (fun d p => ∃ (i : Nat), p = (some y1, some y2, z (sumS (fun i => psB R a b i) i), z ((i : Int) + 1), P2) ∧ d = (rLen R (rCrs R a)).toNat - i ∧ (i : Int) ≤ rLen R (rCrs R a)) ?_ FU _ _ ⟨0, rfl, rfl, by omega⟩ (by simp only [FU]; omega)
    rintro kk d p ⟨i, rfl, rfl, h4⟩ hk
    simp (disch := omega) only [f_X1_passes_43F, z_add, z_sub, z_mul, z_neg, zlt, zle, zeq, zne, l0, l1, l2, l3, l4, l5, l6, l7, l8, l9, l10, l11, l16, l17, l20, l24, l32, l37, l47, l57, l60, l67, l77, l97, l99, l122, l48, l57, l100, l237, l397, l600, l900, l880, l9998, l9999, bnd, xcI_rI, xcV_rV, xcR_rR, zb0, zb1, nz0, nz1, nar_z0, nar_z1, nar_b2, ↓reduceIte, ↓xnul_s, ↓xnul_n, xcst_n, List.set_cons_zero, List.set_cons_succ, ↓xcl1_s v1, ↓xgR_s (k := 0) v1 rfl, ↓xgR_s (k := 1) v1 rfl, ↓xgR_s (k := 2) v1 rfl, ↓xgR_s (k := 3) v1 rfl, ↓xlen_s v2 (by decide), hL]
    refine ok_ite (fun c1 => ?_) fun c1 => ?_
    · have hi : i = (rLen R (rCrs R a)).toNat := by omega
      subst hi
      exact (op_yes hx hI h5 h6 hne).ok
    have k1 := cTm_rg hV (i := i) c.1.1 c.1.2
    have k2 := cTm_rg hV (i := (i : Int) + 1) c.1.1 c.1.2
    have k3 := cTm_rg hV (i := i) c.2.1.1 c.2.1.2
    have k4 := cTm_rg hV (i := (i : Int) + 1) c.2.1.1 c.2.1.2
    have g1 : cTm R a i = if rTm R a i = -1 then -2 else rTm R a i := rfl
    have g2 : cTm R a ((i : Int) + 1) = if rTm R a ((i : Int) + 1) = -1 then -2 else rTm R a ((i : Int) + 1) := rfl
    have g3 : cTm R b i = if rTm R b i = -1 then -2 else rTm R b i := rfl
    have g4 : cTm R b ((i : Int) + 1) = if rTm R b ((i : Int) + 1) = -1 then -2 else rTm R b ((i : Int) + 1) := rfl
    have m1 := rTm_rg hV (i := i) c.1.1 c.1.2
    have m2 := rTm_rg hV (i := (i : Int) + 1) c.1.1 c.1.2
    have m3 := rTm_rg hV (i := i) c.2.1.1 c.2.1.2
    have m4 := rTm_rg hV (i := (i : Int) + 1) c.2.1.1 c.2.1.2
    have e : sumS (fun i => psB R a b i) (i + 1) = sumS (fun i => psB R a b i) i + psB R a b i := rfl
    have hgo : ∀ v, v = sumS (fun i => psB R a b i) (i + 1) → OK (kk (some y1, some y2, z v, z ((i : Int) + 1 + 1), P2)) _ := fun v hv => hk _ _ (by omega) ⟨i + 1, by rw [hv]; rfl, rfl, by omega⟩
    rw [e] at hgo
    simp (disch := omega) only [show (i : Int) + 1 - 1 = i by omega, tmA, tmB, z_add, z_sub, z_mul, z_neg, zlt, zle, zeq, zne, l0, l1, l2, l3, l4, l5, l6, l7, l8, l9, l10, l11, l16, l17, l20, l24, l32, l37, l47, l57, l60, l67, l77, l97, l99, l122, l48, l57, l100, l237, l397, l600, l900, l880, l9998, l9999, bnd, xcI_rI, xcV_rV, xcR_rR, zb0, zb1, nz0, nz1, nar_z0, nar_z1, nar_b2, ↓reduceIte, ↓xnul_s, ↓xnul_n, xcst_n, List.set_cons_zero, List.set_cons_succ, f_X1_passes_153, f_X1_passes_154, f_X1_passes_157]
    have hp0 : ∀ v, v = sumS (fun i => psB R a b i) i → psB R a b i = 0 → v = sumS (fun i => psB R a b i) i + psB R a b i := fun v h1 h2 => by omega
    refine ok_ite (fun c2 => ?_) fun c2 => ?_
    · exact hgo _ (hp0 _ rfl (by unfold psB; rw [if_neg (by omega)]))
    · refine ok_ite (fun c3 => ?_) fun c3 => ?_
      · exact hgo _ (hp0 _ rfl (by unfold psB; rw [if_neg (by omega)]))
      · refine ok_ite (fun c4 => ?_) fun c4 => ?_
        · exact hgo _ (hp0 _ rfl (by unfold psB; rw [if_neg (by omega)]))
        · refine ok_ite (fun c5 => ?_) fun c5 => ?_
          · exact hgo _ (hp0 _ rfl (by unfold psB; rw [if_neg (by omega)]))
          · refine ok_ite (fun c6 => ?_) fun c6 => ?_
            · exact hgo _ (hp0 _ (by omega) (by unfold psB; rw [if_neg (by omega)]))
            · refine ok_ite (fun c7 => ?_) fun c7 => ?_
              · exact hgo _ (hp0 _ (by omega) (by unfold psB; rw [if_neg (by omega)]))
              · exact hgo _ (by unfold psB; rw [if_pos (by omega)])
  · rw [if_neg c0]
    simp (disch := omega) only [z_add, z_sub, z_mul, z_neg, zlt, zle, zeq, zne, l0, l1, l2, l3, l4, l5, l6, l7, l8, l9, l10, l11, l16, l17, l20, l24, l32, l37, l47, l57, l60, l67, l77, l97, l99, l122, l48, l57, l100, l237, l397, l600, l900, l880, l9998, l9999, bnd, xcI_rI, xcV_rV, xcR_rR, zb0, zb1, nz0, nz1, nar_z0, nar_z1, nar_b2, ↓reduceIte]
    rw [if_neg (by omega)]
    exact op_no hx hI hM
end

/-! .. ALONE, CHASE, OVER -/
set_option maxRecDepth 100000
theorem ttS_rg {k : Nat} : ∀ i : Nat, (ttS k i).1 ≤ i ∧ (ttS k i).2.2 ≤ i ∧ -2 ≤ (ttS k i).2.1 ∧ (ttS k i).2.1 ≤ i := by
  intro i
  induction i with
  | zero => simp [ttS]
  | succ i ih =>
    unfold ttS
    split
    · split
      · simp only; omega
      · simp only; omega
    · simp only; omega
theorem ttS_end {k n : Nat} (h : k < 2 ^ n) : ∀ d, (ttS k (n + d)).1 = (ttS k n).1 ∧ (ttS k (n + d)).2.1 = (ttS k n).2.1 := by
  intro d
  induction d with
  | zero => exact ⟨rfl, rfl⟩
  | succ d ih =>
    have h1 : k / 2 ^ (n + d) = 0 := Nat.div_eq_of_lt (Nat.lt_of_lt_of_le h (Nat.pow_le_pow_right (by omega) (by omega)))
    rw [show n + (d + 1) = n + d + 1 by omega]
    have e : ttS k (n + d + 1) = ((ttS k (n + d)).1, (ttS k (n + d)).2.1, 0) := by rw [ttS, h1, if_neg (by decide)]
    rw [e]
    exact ih
section
variable {s : TS} {R : Nat → Int}
theorem Tw_alone (hR : TRep s R) (hV : RV R) {a : Int} (ha : i32 a) : To s (T_alone s (z a)) (if 0 ≤ a ∧ a < R 1 then (setA R a).toInt else -1) (b2 (¬ (0 ≤ a ∧ a < R 1))) := by
  unfold T_alone
  have h1 := hV.nR
  have h0 := hV.nC
  rw [isR_z hR h1.1 h1.2 ha.1 ha.2, xcI_rI]
  by_cases c0 : 0 ≤ a ∧ a < R 1
  · have hcr := hV.crs c0.1 c0.2
    have hl := hV.len hcr.1 hcr.2
    rw [b2_t' c0, if_pos c0, nb c0]
    refine Eq.mpr (congrArg (fun K => To s K _ _) tw_1) ?_
    apply ok_to
    unfold setA
    generalize hL : (rLen R (rCrs R a) + 1).toNat = L
    refine ok_lpn (fun d p => ∃ (i : Nat) (s1 : TS), p = (z a, z (orB (fun i => decide (rTm R a i ≠ -1)) i).toInt, z i, s1) ∧ d = L - i ∧ i ≤ L ∧ TQ (tF s (z 0)) s1) ?_ FU _ _ ⟨0, tF s (z 0), rfl, rfl, by omega, TQ.rf⟩ (by simp only [FU]; omega)
    rintro kk d p ⟨i, s1, rfl, rfl, h4, h5⟩ hk
    have hR1 := h5.rep (tF_rep hR)
    simp (disch := omega) only [T_alone_21F, T_alone_59, z_add, z_sub, z_mul, z_neg, zlt, zle, zeq, zne, l0, l1, l2, l3, l4, l5, l6, l7, l8, l9, l10, l11, l16, l17, l20, l24, l32, l37, l47, l57, l60, l67, l77, l97, l99, l122, l48, l57, l100, l237, l397, l600, l900, l880, l9998, l9999, bnd, xcI_rI, xcV_rV, xcR_rR, zb0, zb1, nz0, nz1, nar_z0, nar_z1, nar_b2, ↓reduceIte, T_cell_z, ald19, ast19, ald20, ast20, ald21, ast21, ald22, ast22, ald25, ast25, ald26, ast26, (ald_nC hR1), (ald_nR hR1), (ald_gap hR1), (ald_slk hR1), (ald_len hR1), (ald_crs hR1), (ald_st hR1), (ald_fi hR1), (ald_np hR1), (codeOf_z hR1), (pCode_z hR1), (pTime_z hR1), (total_z hR1), (isC_z hR1), (isR_z hR1)]
    refine ok_ite (fun c1 => ?_) fun c1 => ?_
    · have hi : i = L := by omega
      subst hi
      refine ok_lpn (fun d p => ∃ (o : Nat) (s2 : TS), p = (z a, z (orB (fun j => decide (rTm R a j ≠ -1) && alB R a j o) i).toInt, z o, s2) ∧ d = (R 1).toNat - o ∧ (o : Int) ≤ R 1 ∧ TQ (tF s (z 0)) s2) ?_ FU _ _ ⟨0, s1, (by rw [orB_congr (p := fun j => decide (rTm R a j ≠ -1) && alB R a j 0) (q := fun j => decide (rTm R a j ≠ -1)) (fun j _ => by simp [alB])]; rfl), rfl, by omega, h5⟩ (by simp only [FU]; omega)
      rintro kk2 d p ⟨o, s2, rfl, rfl, g4, g5⟩ hk2
      have hR2 := g5.rep (tF_rep hR)
      simp (disch := omega) only [T_alone_69F, T_alone_106, T_alone_118, z_add, z_sub, z_mul, z_neg, zlt, zle, zeq, zne, l0, l1, l2, l3, l4, l5, l6, l7, l8, l9, l10, l11, l16, l17, l20, l24, l32, l37, l47, l57, l60, l67, l77, l97, l99, l122, l48, l57, l100, l237, l397, l600, l900, l880, l9998, l9999, bnd, xcI_rI, xcV_rV, xcR_rR, zb0, zb1, nz0, nz1, nar_z0, nar_z1, nar_b2, ↓reduceIte, T_cell_z, ald19, ast19, ald20, ast20, ald21, ast21, ald22, ast22, ald25, ast25, ald26, ast26, (ald_nC hR2), (ald_nR hR2), (ald_gap hR2), (ald_slk hR2), (ald_len hR2), (ald_crs hR2), (ald_st hR2), (ald_fi hR2), (ald_np hR2), (codeOf_z hR2), (pCode_z hR2), (pTime_z hR2), (total_z hR2), (isC_z hR2), (isR_z hR2)]
      refine ok_ite (fun c2 => ?_) fun c2 => ?_
      · have ho : o = (R 1).toNat := by omega
        subst ho
        exact ok_rI.mpr ⟨rfl, g5⟩
      · have hcr' := hV.crs (a := o) (by omega) (by omega)
        have hws : wn2 R a o = if a = o ∨ rCrs R a ≠ rCrs R o then 5 else 0 := by unfold wn2; rw [if_neg (by omega)]
        have hst : ∀ (x : Int32) (s3 : TS), x = orB (fun j => decide (rTm R a j ≠ -1) && alB R a j (o + 1)) i → TQ (tF s (z 0)) s3 → OK (kk2 (z a, x, z ((o : Int) + 1), s3)) _ := fun x s3 hx t3 => hk2 _ _ (by omega) ⟨o + 1, s3, by rw [hx, z_of]; rfl, rfl, by omega, t3⟩
        have hsame : ¬ wn2 R a o = 0 → z (orB (fun j => decide (rTm R a j ≠ -1) && alB R a j o) i).toInt &&& z (orB (fun j => decide (rTm R a j ≠ -1) && alB R a j o) i).toInt = orB (fun j => decide (rTm R a j ≠ -1) && alB R a j (o + 1)) i := by
          intro hn
          rw [Int32.and_self, z_of]
          exact orB_congr fun j _ => by simp [alB, hn]
        refine ok_ite (fun c3 => ?_) fun c3 => ?_
        · exact hst _ _ (hsame (by rw [hws, if_pos (Or.inl c3.symm)]; decide)) g5
        · simp (disch := omega) only [z_add, z_sub, z_mul, z_neg, zlt, zle, zeq, zne, l0, l1, l2, l3, l4, l5, l6, l7, l8, l9, l10, l11, l16, l17, l20, l24, l32, l37, l47, l57, l60, l67, l77, l97, l99, l122, l48, l57, l100, l237, l397, l600, l900, l880, l9998, l9999, bnd, xcI_rI, xcV_rV, xcR_rR, zb0, zb1, nz0, nz1, nar_z0, nar_z1, nar_b2, ↓reduceIte, T_cell_z, ald19, ast19, ald20, ast20, ald21, ast21, ald22, ast22, ald25, ast25, ald26, ast26, (ald_nC hR2), (ald_nR hR2), (ald_gap hR2), (ald_slk hR2), (ald_len hR2), (ald_crs hR2), (ald_st hR2), (ald_fi hR2), (ald_np hR2), (codeOf_z hR2), (pCode_z hR2), (pTime_z hR2), (total_z hR2), (isC_z hR2), (isR_z hR2)]
          refine ok_ite (fun c4 => ?_) fun c4 => ?_
          · have cw : wn2 R a o = 0 := by rw [hws, if_neg (by omega)]
            have c := wn2_0.mp cw
            obtain ⟨s3, e3, t3⟩ := togetherOf_z hR2 hV c.1.1 c.1.2 c.2.1.1 c.2.1.2 c.2.2.2
            rw [e3, xcI_rI]
            refine hst _ _ ?_ (g5.trans t3.q)
            rw [z_of, z_of]
            unfold setT
            rw [hL]
            refine (orB_not (by omega)).trans ?_
            refine orB_congr fun j _ => ?_
            simp only [alB, cw, decide_true, Bool.true_and, Bool.and_assoc]
          · exact hst _ _ (hsame (by rw [hws, if_pos (Or.inr (fun e => c4 e.symm))]; decide)) g5
    · obtain ⟨s2, e2, t2⟩ := tm_z hR1 hV c0.1 c0.2 (i := i) (by omega) (by omega)
      have r1 := rTm_rg hV (i := i) c0.1 c0.2
      have hst : ∀ (v : Int) (s2 : TS), v = (orB (fun i => decide (rTm R a i ≠ -1)) (i + 1)).toInt → TQ (tF s (z 0)) s2 → OK (kk (z a, z v, z ((i : Int) + 1), s2)) _ := fun v s2 hv t2 => hk _ _ (by omega) ⟨i + 1, s2, by rw [hv]; rfl, rfl, by omega, t2⟩
      simp (disch := omega) only [e2, z_add, z_sub, z_mul, z_neg, zlt, zle, zeq, zne, l0, l1, l2, l3, l4, l5, l6, l7, l8, l9, l10, l11, l16, l17, l20, l24, l32, l37, l47, l57, l60, l67, l77, l97, l99, l122, l48, l57, l100, l237, l397, l600, l900, l880, l9998, l9999, bnd, xcI_rI, xcV_rV, xcR_rR, zb0, zb1, nz0, nz1, nar_z0, nar_z1, nar_b2, ↓reduceIte, T_cell_z, ald19, ast19, ald20, ast20, ald21, ast21, ald22, ast22, ald25, ast25, ald26, ast26]
      refine ok_ite (fun c2 => ?_) fun c2 => ?_
      · rw [orB_n (p := fun i : Nat => decide (rTm R a i ≠ -1)) (i := i) (by simp [c2])]
        exact hst _ _ rfl (h5.trans t2.q)
      · rw [orB_y (p := fun i : Nat => decide (rTm R a i ≠ -1)) (i := i) (by simp [c2])]
        exact hst _ _ rfl (h5.trans t2.q)
  · rw [b2_f' c0, if_neg c0, nb' c0]
    exact To.n1 rfl
theorem Tw_chase (hR : TRep s R) (hV : RV R) {a b k : Int} (ha : i32 a) (hb : i32 b) (hk : i32 k) : To s (T_chase s (z a) (z b) (z k)) (if (0 ≤ k ∧ k ≤ 2) ∧ wn2 R a b = 0 then vChase R a b k else -1) (if 0 ≤ k ∧ k ≤ 2 then wn2 R a b else 1) := by
  unfold T_chase
  have h1 := hV.nR
  have h0 := hV.nC
  have hw := wn2_rg (R := R) (a := a) (b := b)
  rw [l2, show (0 : Int32) = z 0 from rfl, T_in_z s (a := k) (b := 0) (c := 2) hk ⟨by decide, by decide⟩ ⟨by decide, by decide⟩, xcI_rI, T_why2_z hR hV ha hb, xcI_rI, T_ref_z (by split <;> omega), xcI_rI]
  by_cases ck : 0 ≤ k ∧ k ≤ 2
  · rw [if_pos ck]
    by_cases c0 : wn2 R a b = 0
    · have c := wn2_0.mp c0
      have hcr := hV.crs c.1.1 c.1.2
      have hl := hV.len hcr.1 hcr.2
      have hs := setT_n (b := b) hV c.1.1 c.1.2
      have hcl := fun h2 => cc_last hV (b := b) c.1.1 c.1.2 rfl h2
      obtain ⟨s1, e1, t1⟩ := togetherOf_z (tF_rep (w := z (wn2 R a b)) hR) hV c.1.1 c.1.2 c.2.1.1 c.2.1.2 c.2.2.2
      rw [b2_f' (fun h => h c0), if_pos (by decide), if_pos (And.intro ck c0), e1, xcI_rI, z_of, hs.1, c0]
      rw [c0] at t1
      have h5 := t1.q
      have hR1 := h5.rep (tF_rep hR)
      apply ok_to
      unfold vChase
      generalize orN (fun i => tgB R a b i) (rLen R (rCrs R a) + 1).toNat = K at *
      have htt := cc_tt K hs.2.2
      have hen := ttS_end hs.2.1 (11 - (rLen R (rCrs R a) + 1).toNat)
      rw [show (rLen R (rCrs R a) + 1).toNat + (11 - (rLen R (rCrs R a) + 1).toNat) = 11 by omega] at hen
      rw [hen.1, hen.2] at htt
      refine ok_lpn (fun d p => ∃ (i : Nat), p = (z a, z b, z k, z K, z ((ttS K i).1 : Nat), z (ttS K i).2.1, z ((ttS K i).2.2 : Nat), z i, s1) ∧ d = (rLen R (rCrs R a) + 1).toNat - i ∧ (i : Int) ≤ rLen R (rCrs R a) + 1) ?_ FU _ _ ⟨0, rfl, rfl, by omega⟩ (by simp only [FU]; omega)
      rintro kk d p ⟨i, rfl, rfl, h4⟩ hk0
      have htr := ttS_rg (k := K) i
      simp (disch := omega) only [T_chase_42F, z_add, z_sub, z_mul, z_neg, zlt, zle, zeq, zne, l0, l1, l2, l3, l4, l5, l6, l7, l8, l9, l10, l11, l16, l17, l20, l24, l32, l37, l47, l57, l60, l67, l77, l97, l99, l122, l48, l57, l100, l237, l397, l600, l900, l880, l9998, l9999, bnd, xcI_rI, xcV_rV, xcR_rR, zb0, zb1, nz0, nz1, nar_z0, nar_z1, nar_b2, ↓reduceIte, T_cell_z, ald19, ast19, ald20, ast20, ald21, ast21, ald22, ast22, ald25, ast25, ald26, ast26, (ald_nC hR1), (ald_nR hR1), (ald_gap hR1), (ald_slk hR1), (ald_len hR1), (ald_crs hR1), (ald_st hR1), (ald_fi hR1), (ald_np hR1), (codeOf_z hR1), (pCode_z hR1), (pTime_z hR1), (total_z hR1), (isC_z hR1), (isR_z hR1)]
      refine ok_ite (fun c1 => ?_) fun c1 => ?_
      · have hi : i = (rLen R (rCrs R a) + 1).toNat := by omega
        subst hi
        rw [← htt.1, ← htt.2.1] at *
        generalize ccS K 11 = cc at *
        simp (disch := omega) only [z_add, z_sub, z_mul, z_neg, zlt, zle, zeq, zne, l0, l1, l2, l3, l4, l5, l6, l7, l8, l9, l10, l11, l16, l17, l20, l24, l32, l37, l47, l57, l60, l67, l77, l97, l99, l122, l48, l57, l100, l237, l397, l600, l900, l880, l9998, l9999, bnd, xcI_rI, xcV_rV, xcR_rR, zb0, zb1, nz0, nz1, nar_z0, nar_z1, nar_b2, ↓reduceIte, T_cell_z, ald19, ast19, ald20, ast20, ald21, ast21, ald22, ast22, ald25, ast25, ald26, ast26, T_chase_120]
        refine ok_ite (fun c2 => ?_) fun c2 => ?_
        · have c2' : cc.1 = 0 := by omega
          have c3 : cc.2 = -2 := htt.2.2.2.1.mp c2'
          rw [if_pos c2, if_pos c3]
          exact ok_rI.mpr ⟨rfl, h5⟩
        · have c3 : ¬ cc.2 = -2 := fun e => c2 (by have := htt.2.2.2.1.mpr e; omega)
          have hl2 := hcl c3
          have ht := hl2.2.2.2
          unfold tgB at ht
          simp only [decide_eq_true_eq] at ht
          rw [if_neg c3]
          refine ok_ite (fun c4 => ?_) fun c4 => ?_
          · have ra := rTm_rg hV (i := cc.2 + cc.1 - 1) c.1.1 c.1.2
            have rb := rTm_rg hV (i := cc.2 + cc.1 - 1) c.2.1.1 c.2.1.2
            obtain ⟨s3, e3, t3⟩ := tm_z hR1 hV c.1.1 c.1.2 (i := cc.2 + cc.1 - 1) (by omega) (by omega)
            obtain ⟨s4, e4, t4⟩ := tm_z (t3.rep hR1) hV c.2.1.1 c.2.1.2 (i := cc.2 + cc.1 - 1) (by omega) (by rw [← c.2.2.2]; omega)
            have h7 := h5.trans (t3.trans t4).q
            rw [if_neg (by omega), if_neg (by omega)]
            simp (disch := omega) only [e3, e4, z_add, z_sub, z_mul, z_neg, zlt, zle, zeq, zne, l0, l1, l2, l3, l4, l5, l6, l7, l8, l9, l10, l11, l16, l17, l20, l24, l32, l37, l47, l57, l60, l67, l77, l97, l99, l122, l48, l57, l100, l237, l397, l600, l900, l880, l9998, l9999, bnd, xcI_rI, xcV_rV, xcR_rR, zb0, zb1, nz0, nz1, nar_z0, nar_z1, nar_b2, ↓reduceIte, T_cell_z, ald19, ast19, ald20, ast20, ald21, ast21, ald22, ast22, ald25, ast25, ald26, ast26]
            refine ok_ite (fun c5 => ?_) fun c5 => ?_
            · rw [if_pos (Or.inl c5)]
              exact ok_rI.mpr ⟨rfl, h7⟩
            · refine ok_ite (fun c6 => ?_) fun c6 => ?_
              · refine ok_ite (fun c7 => ?_) fun c7 => ?_
                · rw [if_neg (by omega)]
                  exact ok_rI.mpr ⟨rfl, h7⟩
                · rw [if_pos (by omega)]
                  exact ok_rI.mpr ⟨rfl, h7⟩
              · rw [if_neg (by omega)]
                exact ok_rI.mpr ⟨rfl, h7⟩
          · rw [if_neg c2]
            refine ok_ite (fun c5 => ?_) fun c5 => ?_
            · rw [if_pos c5]
              exact ok_rI.mpr ⟨rfl, h5⟩
            · rw [if_neg c5, if_pos (by omega)]
              exact ok_rI.mpr ⟨rfl, h5⟩
      · have hq : K / 2 ^ i ≤ K := Nat.div_le_self _ _
        have hsh := shr_z (k := K) (i := i) (by omega) (by omega)
        have han := and1_z (k := K / 2 ^ i) (by omega)
        have hm2 : K / 2 ^ i % 2 = 0 ∨ K / 2 ^ i % 2 = 1 := by omega
        have hgo : ∀ (u : Int) (v : Int) (w : Int), u = (ttS K (i + 1)).1 → v = (ttS K (i + 1)).2.1 → w = (ttS K (i + 1)).2.2 → OK (kk (z a, z b, z k, z K, z u, z v, z w, z ((i : Int) + 1), s1)) _ := fun u v w hu hv hw => hk0 _ _ (by omega) ⟨i + 1, by rw [hu, hv, hw]; rfl, rfl, by omega⟩
        rw [show z K >>> (z i &&& 31) = z ((K / 2 ^ i : Nat) : Int) from hsh, han]
        generalize hKm : K / 2 ^ i % 2 = q at *
        simp (disch := omega) only [z_add, z_sub, z_mul, z_neg, zlt, zle, zeq, zne, l0, l1, l2, l3, l4, l5, l6, l7, l8, l9, l10, l11, l16, l17, l20, l24, l32, l37, l47, l57, l60, l67, l77, l97, l99, l122, l48, l57, l100, l237, l397, l600, l900, l880, l9998, l9999, bnd, xcI_rI, xcV_rV, xcR_rR, zb0, zb1, nz0, nz1, nar_z0, nar_z1, nar_b2, ↓reduceIte, T_cell_z, ald19, ast19, ald20, ast20, ald21, ast21, ald22, ast22, ald25, ast25, ald26, ast26, T_chase_82, T_chase_104]
        refine ok_ite (fun c2 => ?_) fun c2 => ?_
        · have c2' : K / 2 ^ i % 2 = 1 := by omega
          refine ok_ite (fun c3 => ?_) fun c3 => ?_
          · have hv : ttS K (i + 1) = ((ttS K i).1, (ttS K i).2.1, (ttS K i).2.2 + 1) := by rw [ttS, if_pos c2', if_neg (by omega)]
            exact hgo _ _ _ (by rw [hv]) (by rw [hv]) (by rw [hv]; simp only; omega)
          · have hv : ttS K (i + 1) = ((ttS K i).2.2 + 1, (i : Int) - ((ttS K i).2.2 + 1 : Nat) + 1, (ttS K i).2.2 + 1) := by rw [ttS, if_pos c2', if_pos (by omega)]
            exact hgo _ _ _ (by rw [hv]; simp only; omega) (by rw [hv]; simp only; omega) (by rw [hv]; simp only; omega)
        · have c2' : ¬ K / 2 ^ i % 2 = 1 := by omega
          have hv : ttS K (i + 1) = ((ttS K i).1, (ttS K i).2.1, 0) := by rw [ttS, if_neg c2']
          rw [if_pos (by omega)]
          exact hgo _ _ _ (by rw [hv]) (by rw [hv]) (by rw [hv]; rfl)
    · rw [b2_t' c0, if_neg (by decide), if_neg (fun h : _ ∧ _ => c0 h.2)]
      exact ⟨_, rfl, TQ.rf⟩
  · rw [if_neg ck, if_neg (fun h : _ ∧ _ => ck h.1), b2_t' (by decide)]
    exact To.n1 rfl
end

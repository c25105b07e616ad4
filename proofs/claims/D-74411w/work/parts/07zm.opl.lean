/-! COURSES, RUNNERS: the component's -/
set_option maxRecDepth 100000
theorem xtab_i {α : Type} {v : Int} {ks : List α} {kd : α} (h0 : 0 ≤ v) (h1 : v < ks.length) (h2 : ks.length ≤ 100) : xtab (z v) 0 ks kd = ks.getD v.toNat kd := by
  unfold xtab
  rw [zint (by omega) (by omega), if_neg (by omega), Int.sub_zero]
theorem xtab_d {α : Type} {v : Int} {ks : List α} {kd : α} (hv : i32 v) (h1 : v < 0 ∨ (ks.length : Int) ≤ v) : xtab (z v) 0 ks kd = kd := by
  unfold xtab
  rw [zint hv.1 hv.2, if_pos (by omega)]
theorem gd0 {α : Type} {a0 d : α} {l : List α} : (a0 :: l).getD 0 d = a0 := rfl
theorem gd1 {α : Type} {a0 a1 d : α} {l : List α} : (a0 :: a1 :: l).getD 1 d = a1 := rfl
theorem gd2 {α : Type} {a0 a1 a2 d : α} {l : List α} : (a0 :: a1 :: a2 :: l).getD 2 d = a2 := rfl
theorem gd3 {α : Type} {a0 a1 a2 a3 d : α} {l : List α} : (a0 :: a1 :: a2 :: a3 :: l).getD 3 d = a3 := rfl
theorem gd4 {α : Type} {a0 a1 a2 a3 a4 d : α} {l : List α} : (a0 :: a1 :: a2 :: a3 :: a4 :: l).getD 4 d = a4 := rfl
theorem gd5 {α : Type} {a0 a1 a2 a3 a4 a5 d : α} {l : List α} : (a0 :: a1 :: a2 :: a3 :: a4 :: a5 :: l).getD 5 d = a5 := rfl
theorem gd6 {α : Type} {a0 a1 a2 a3 a4 a5 a6 d : α} {l : List α} : (a0 :: a1 :: a2 :: a3 :: a4 :: a5 :: a6 :: l).getD 6 d = a6 := rfl
theorem gd7 {α : Type} {a0 a1 a2 a3 a4 a5 a6 a7 d : α} {l : List α} : (a0 :: a1 :: a2 :: a3 :: a4 :: a5 :: a6 :: a7 :: l).getD 7 d = a7 := rfl
theorem gd8 {α : Type} {a0 a1 a2 a3 a4 a5 a6 a7 a8 d : α} {l : List α} : (a0 :: a1 :: a2 :: a3 :: a4 :: a5 :: a6 :: a7 :: a8 :: l).getD 8 d = a8 := rfl
theorem gd9 {α : Type} {a0 a1 a2 a3 a4 a5 a6 a7 a8 a9 d : α} {l : List α} : (a0 :: a1 :: a2 :: a3 :: a4 :: a5 :: a6 :: a7 :: a8 :: a9 :: l).getD 9 d = a9 := rfl
def vCourse (R : Nat → Int) (c k : Int) : Int := if k = 0 then rLen R c else if k = 1 then sumS (fun i => b2 (rCrs R i = c)) (R 1).toNat else if k = 2 then sumS (fun i => b2 ((c = -1 ∨ rCrs R i = c) ∧ rVal R i)) (R 1).toNat else if k = 3 then idS (fun i => rBL R c i) (rLen R c + 1).toNat else vmin (vTot R c) (R 1).toNat
section
variable {n x : Nat} {P : PH} {g : GX} {mo : Option Nat} {cs rs : List Nat} {R : Nat → Int} {N : Nat → List Int32} {m : Nat}
theorem X_course (hx : CX P x g mo) (hI : Iv P) (hn : n ≤ P.2.1) (hM : MO n P mo cs rs R N) (hV : RV R) {c k : Int} (hc : i32 c) (hk4 : i32 k) : Oq n P x g mo cs rs R N 300 (f_X1_course P x (z c) (z k)) (if (0 ≤ c ∧ c < R 0) ∧ 0 ≤ k ∧ k ≤ 4 then vCourse R c k else -1) (b2 (¬ ((0 ≤ c ∧ c < R 0) ∧ 0 ≤ k ∧ k ≤ 4))) := by
  have hnr := hV.nR
  have hnc := hV.nC
  unfold f_X1_course
  rw [hx.cl, X_isCourse hx hM hV hc, xcI_rI]
  by_cases c1 : 0 ≤ c ∧ c < R 0
  · obtain ⟨m, rfl, hM'⟩ := hM.get (by omega)
    have hne := hx.ne hM'
    rw [b2_t' c1, if_neg (by decide)]
    apply ok_oq
    refine ok_lpn (fun d p => ∃ (i : Nat) (P1 : PH), p = (z c, z k, z (sumS (fun o => b2 (rCrs R o = c)) i), z i, P1) ∧ d = (R 1).toNat - i ∧ (i : Int) ≤ R 1 ∧ MRep n P1 m cs rs R N ∧ QF m (0) P P1) ?_ FU _ _ ⟨0, P, rfl, rfl, by omega, hM', QF.rf hI⟩ (by simp only [FU]; omega)
    rintro kk d p ⟨i, P1, rfl, rfl, h4, h5, h6⟩ hk
    have hI1 := h6.iv
    have x1 := hx.qf hI hne h6
    have hst : ∀ (v0 : Int) (P2 : PH), v0 = sumS (fun o => b2 (rCrs R o = c)) (i + 1) → MRep n P2 m cs rs R N → QF m (0) P P2 → (i : Int) < R 1 → OK (kk (z c, z k, z v0, z ((i : Int) + 1), P2)) _ := fun v0 P2 ev0 t2 q2 hl => hk _ _ (by omega) ⟨i + 1, P2, (by rw [ev0]; rfl), rfl, by omega, t2, q2⟩
    obtain ⟨cl, rl, mm, hcm, hcz, hrz, hcg, hrg⟩ := h5.at
    simp (disch := omega) only [f_X1_course_19F, f_X1_course_55, z_add, z_sub, z_mul, z_neg, zlt, zle, zeq, zne, l0, l1, l2, l3, l4, l5, l6, l7, l8, l9, l10, l11, l16, l17, l20, l24, l32, l37, l47, l57, l60, l67, l77, l97, l99, l122, l48, l57, l100, l237, l397, l600, l900, l880, l9998, l9999, bnd, xcI_rI, xcV_rV, xcR_rR, zb0, zb1, nz0, nz1, nar_z0, nar_z1, nar_b2, ↓reduceIte, ↓xnul_s, ↓xnul_n, xcst_n, List.set_cons_zero, List.set_cons_succ, ↓x1.gm, ↓xcl1_s hcm, ↓xgR_s (k := 0) hcm rfl, ↓xgR_s (k := 1) hcm rfl, ↓xgI_s (k := 2) hcm rfl, ↓xgI_s (k := 3) hcm rfl, hcz, hrz]
    have hn1 : n ≤ P1.2.1 := Nat.le_trans hn h6.1.next
    refine ok_ite (fun c3 => ?_) fun c3 => ?_
    · have hi : i = (R 1).toNat := by omega
      subst hi
      by_cases c2 : 0 ≤ k ∧ k ≤ 4
      · rw [if_pos (And.intro c1 c2), nb (And.intro c1 c2), xtab_i c2.1 (by simp; omega) (by simp)]
        have hk5 : k = 0 ∨ k = 1 ∨ k = 2 ∨ k = 3 ∨ k = 4 := by omega
        rcases hk5 with rfl | rfl | rfl | rfl | rfl
        · obtain ⟨y, hy, hyc⟩ := h5.crs c1.1 c1.2
          obtain ⟨s, pl, ps, r0, r1, r2⟩ := id hyc
          rw [show Int.toNat 0 = 0 from rfl, gd0, hcg c y c1.1 c1.2 hy, xcR_rR, xcst_s r1 (by decide), xnul_s, hyc.size, xcI_rI]
          exact ((op_yes hx hI h5 h6 hne).mono (by omega)).ok
        · rw [show Int.toNat 1 = 1 from rfl, gd1]
          exact ((op_yes hx hI h5 h6 hne).mono (by omega)).ok
        · obtain ⟨P2, l, xs, V, e1, p1, hl, rk, t1, q1, hlen⟩ := X_rankedOn x1 hI1 hn1 h5 hV c1.1 c1.2
          have hcnt : (xs.length : Int) = vCourse R c 2 := by
            have := rk.2.2 fun _ => true
            rw [List.countP_true] at this
            rw [this]
            exact sumS_congr fun o _ => b2_c ⟨fun e => ⟨Or.inr e.1.1, e.1.2⟩, fun e => ⟨⟨e.1.resolve_left (by omega), e.2⟩, rfl⟩⟩
          rw [show Int.toNat 2 = 2 from rfl, gd2, e1, xcR_rR, xnul_s, p1.size, xcI_rI, hcnt]
          exact ((op_yes hx hI t1 (h6.trans hI q1) hne).mono (by omega)).ok
        · obtain ⟨P2, e2, t2, q2⟩ := h5.ideal hI1 hV c1.1 c1.2
          rw [show Int.toNat 3 = 3 from rfl, gd3, e2, xcI_rI]
          exact ((op_yes hx hI t2 (h6.trans hI q2) hne).mono (by omega)).ok
        · obtain ⟨P2, e2, t2, q2⟩ := X_leastTotal x1 hI1 hn1 h5 hV c1.1 c1.2
          rw [show Int.toNat 4 = 4 from rfl, gd4, e2, xcI_rI]
          exact ((op_yes hx hI t2 (h6.trans hI q2) hne).mono (by omega)).ok
      · rw [if_neg (fun h : _ ∧ _ => c2 h.2), nb' (fun h : _ ∧ _ => c2 h.2), xtab_d hk4 (by simp; omega)]
        exact ((op_rf (w := 1) hx hI h5 h6 hne).mono (by omega)).ok
    · have hio := h5.isOf hV (a := i) (c := c) (by omega) (by omega) (by omega) (by omega)
      simp (disch := omega) only [hio, z_add, z_sub, z_mul, z_neg, zlt, zle, zeq, zne, l0, l1, l2, l3, l4, l5, l6, l7, l8, l9, l10, l11, l16, l17, l20, l24, l32, l37, l47, l57, l60, l67, l77, l97, l99, l122, l48, l57, l100, l237, l397, l600, l900, l880, l9998, l9999, bnd, xcI_rI, xcV_rV, xcR_rR, zb0, zb1, nz0, nz1, nar_z0, nar_z1, nar_b2, ↓reduceIte, ↓xnul_s, ↓xnul_n, xcst_n, List.set_cons_zero, List.set_cons_succ]
      refine ok_ite (fun c4 => ?_) fun c4 => ?_
      · exact hst _ _ (by rw [sumS, b2_f' c4, Int.add_zero]) h5 h6 (by omega)
      · have c4 : rCrs R i = c := Decidable.not_not.mp c4
        exact hst _ _ (by rw [sumS, b2_t' c4]) h5 h6 (by omega)
  · rw [b2_f' c1, if_pos (by decide), if_neg (fun h : _ ∧ _ => c1 h.1), nb' (fun h : _ ∧ _ => c1 h.1)]
    exact op_no (w := 1) hx hI hM
def vRunner (R : Nat → Int) (a k : Int) : Int := if k = 0 then rCrs R a else if k = 1 then rSt R a else if k = 2 then rFi R a else if k = 3 then rTot R a else if k = 4 then rNp R a else if k = 5 then rMis R a (rCrs R a) else if k = 6 then rNp R a - (rLen R (rCrs R a) - rMis R a (rCrs R a)) else if k = 7 then b2 (rVal R a) else if k = 8 then (if rVal R a then 1 + sumS (fun o => b2 ((rCrs R o = rCrs R a ∧ rVal R o) ∧ rTot R o < rTot R a)) (R 1).toNat else -2) else (if rVal R a then rTot R a - vmin (vTot R (rCrs R a)) (R 1).toNat else -2)
theorem X_runner (hx : CX P x g mo) (hI : Iv P) (hn : n ≤ P.2.1) (hM : MO n P mo cs rs R N) (hV : RV R) {a k : Int} (ha : i32 a) (hk4 : i32 k) : Oq n P x g mo cs rs R N 400 (f_X1_runner P x (z a) (z k)) (if (0 ≤ a ∧ a < R 1) ∧ 0 ≤ k ∧ k ≤ 9 then vRunner R a k else -1) (b2 (¬ ((0 ≤ a ∧ a < R 1) ∧ 0 ≤ k ∧ k ≤ 9))) := by
  have hnr := hV.nR
  have hnc := hV.nC
  unfold f_X1_runner
  rw [hx.cl, X_isRunner hx hM hV ha, xcI_rI]
  by_cases c1 : 0 ≤ a ∧ a < R 1
  · obtain ⟨m, rfl, hM'⟩ := hM.get (by omega)
    have hne := hx.ne hM'
    have hcr := hV.crs c1.1 c1.2
    have hl := hV.len hcr.1 hcr.2
    have hnp := hV.np c1.1 c1.2
    have hst := hV.st c1.1 c1.2
    obtain ⟨cl, rl, mm, hcm, hcz, hrz, hcg, hrg⟩ := hM'.at
    obtain ⟨P1, ym, u, e1, t1, hu1, mt, q1⟩ := hM'.match hI hV c1.1 c1.2
    obtain ⟨u', hu, hur⟩ := hM'.run c1.1 c1.2
    rw [hu1] at hu
    cases hu
    obtain ⟨u', hu, hur1⟩ := t1.run c1.1 c1.2
    rw [hu1] at hu
    cases hu
    obtain ⟨s', pl', ps', j0, j1, j2⟩ := id hur
    obtain ⟨s, pl, ps, r0, r1, r2, r3, r4⟩ := id hur1
    obtain ⟨ca, tk, mo2, tg, h1, h2, h3⟩ := id mt
    have hmis := mt.missed hV c1.1 c1.2 hcr.1 hcr.2
    obtain ⟨L, hL⟩ : ∃ L : Nat, rLen R (rCrs R a) = L := ⟨_, (Int.toNat_of_nonneg (by omega)).symm⟩
    have x1 := hx.qf hI hne q1
    have hI1 := q1.iv
    have hn1 : n ≤ P1.2.1 := Nat.le_trans hn q1.1.next
    have hsz := r2.2.size
    rw [r3] at hsz
    rw [b2_t' c1, if_neg (by decide), hx.gm, xnul_s, xgR_s hcm rfl, xnul_s, hrg a u c1.1 c1.2 hu1, xcR_rR, xcst_s j1 (by decide), hx.gm, xnul_s, e1, xcR_rR, xnul_s, xgR_s (k := 4) r1 rfl, xnul_s, hsz, xcI_rI, xnul_s, xgR_s (k := 2) h1 rfl, xnul_s]
    rw [hL, Int.toNat_natCast] at h2
    rw [xlen_s h2 (by decide)]
    have hb := fun i => mis_rg (e := eqC R a (rCrs R a)) (n := L) (m := (rNp R a).toNat) i
    apply ok_oq
    refine ok_lpn (fun d p => ∃ i : Nat, p = (z a, z k, some u, some ym, z (rNp R a - (i - mis (eqC R a (rCrs R a)) L (rNp R a).toNat i)), some tk, z L, z i, P1) ∧ d = L - i ∧ i ≤ L) ?_ FU _ _ ⟨0, by rw [show rNp R a - (((0 : Nat) : Int) - mis (eqC R a (rCrs R a)) L (rNp R a).toNat 0) = rNp R a from by show rNp R a - (0 - 0) = _; omega]; rfl, rfl, Nat.zero_le _⟩ (by simp only [FU]; omega)
    rintro kk d p ⟨i, rfl, rfl, h4⟩ hk
    have hbi := hb i
    simp (disch := omega) only [f_X1_runner_67F, f_X1_runner_94, z_add, z_sub, z_mul, z_neg, zlt, zle, zeq, zne, l0, l1, l2, l3, l4, l5, l6, l7, l8, l9, l10, l11, l16, l17, l20, l24, l32, l37, l47, l57, l60, l67, l77, l97, l99, l122, l48, l57, l100, l237, l397, l600, l900, l880, l9998, l9999, bnd, xcI_rI, xcV_rV, xcR_rR, zb0, zb1, nz0, nz1, nar_z0, nar_z1, nar_b2, ↓reduceIte, ↓xnul_s, ↓xnul_n, xcst_n, List.set_cons_zero, List.set_cons_succ]
    refine ok_ite (fun c3 => ?_) fun c3 => ?_
    · have hi : i = L := by omega
      subst hi
      have hmm : rMis R a (rCrs R a) = mis (eqC R a (rCrs R a)) i (rNp R a).toNat i := by
        show mis (eqC R a (rCrs R a)) (rLen R (rCrs R a)).toNat (rNp R a).toNat (rLen R (rCrs R a)).toNat = _
        rw [hL, Int.toNat_natCast]
      by_cases c2 : 0 ≤ k ∧ k ≤ 9
      · rw [if_pos (And.intro c1 c2), nb (And.intro c1 c2), xtab_i c2.1 (by simp; omega) (by simp)]
        have hk5 : k = 0 ∨ k = 1 ∨ k = 2 ∨ k = 3 ∨ k = 4 ∨ k = 5 ∨ k = 6 ∨ k = 7 ∨ k = 8 ∨ k = 9 := by omega
        have fin : ∀ {v : Int} {P2 : PH} {j : Nat}, MRep n P2 m cs rs R N → QF m j P1 P2 → j ≤ 400 → OK (xcI (f_X1_fine P2 x (z v)) fun a b => rI a b) (fun o P' => o = some (.int (z v)) ∧ CX P' x (gx g (z 0)) (some m) ∧ MO n P' (some m) cs rs R N ∧ QO (some m) x 400 P P') := fun t2 q2 hj => ((op_yes hx hI t2 (q1.trans hI q2) hne).mono (by omega)).ok
        have fin0 : ∀ {v : Int}, OK (xcI (f_X1_fine P1 x (z v)) fun a b => rI a b) (fun o P' => o = some (.int (z v)) ∧ CX P' x (gx g (z 0)) (some m) ∧ MO n P' (some m) cs rs R N ∧ QO (some m) x 400 P P') := fin t1 (QF.rf hI1) (by omega)
        rcases hk5 with rfl | rfl | rfl | rfl | rfl | rfl | rfl | rfl | rfl | rfl
        · rw [show Int.toNat 0 = 0 from rfl, gd0, xgI_s (k := 1) r1 rfl]
          exact fin0
        · rw [show Int.toNat 1 = 1 from rfl, gd1, xgI_s (k := 2) r1 rfl]
          exact fin0
        · rw [show Int.toNat 2 = 2 from rfl, gd2, xgI_s (k := 3) r1 rfl]
          exact fin0
        · rw [show Int.toNat 3 = 3 from rfl, gd3]
          unfold f_X7_total
          rw [xcl1_s r1, xgI_s (k := 3) r1 rfl, xgI_s (k := 2) r1 rfl, z_sub, xcI_rI]
          exact fin0
        · rw [show Int.toNat 4 = 4 from rfl, gd4, xgR_s (k := 4) r1 rfl, xnul_s, hsz, xcI_rI]
          exact fin0
        · rw [show Int.toNat 5 = 5 from rfl, gd5, hmis, xcI_rI]
          exact fin0
        · rw [show Int.toNat 6 = 6 from rfl, gd6]
          have : vRunner R a 6 = rNp R a - ((i : Int) - mis (eqC R a (rCrs R a)) i (rNp R a).toNat i) := by
            rw [← hmm, ← hL]; rfl
          rw [this]
          exact fin0
        · rw [show Int.toNat 7 = 7 from rfl, gd7, x1.gm, xnul_s]
          obtain ⟨P2, e2, t2, q2⟩ := t1.isValid hI1 hV c1.1 c1.2
          rw [e2, xcI_rI]
          have hv : vRunner R a 7 = b2 (rVal R a) := rfl
          rw [hv]
          unfold f_X1_runner_244
          by_cases c4 : rVal R a
          · rw [b2_t' c4]
            exact ok_neg (by decide) (fin t2 q2 (by omega))
          · rw [b2_f' c4]
            exact ok_pos (by decide) (fin t2 q2 (by omega))
        · rw [show Int.toNat 8 = 8 from rfl, gd8, x1.gm, xnul_s]
          obtain ⟨P2, e2, t2, q2⟩ := t1.isValid hI1 hV c1.1 c1.2
          rw [e2, xcI_rI]
          unfold f_X1_runner_270
          by_cases c4 : rVal R a
          · have hv : vRunner R a 8 = 1 + sumS (fun o => b2 ((rCrs R o = rCrs R a ∧ rVal R o) ∧ rTot R o < rTot R a)) (R 1).toNat := if_pos c4
            rw [hv, b2_t' c4, if_neg (by decide)]
            obtain ⟨P3, e3, t3, q3⟩ := X_placeOf (x1.qf hI1 hne q2) q2.iv (Nat.le_trans hn1 q2.1.next) t2 hV c1.1 c1.2
            rw [e3, xcI_rI]
            exact fin t3 (q2.trans hI1 q3) (by omega)
          · have hv : vRunner R a 8 = -2 := if_neg c4
            rw [hv, b2_f' c4, if_pos (by decide)]
            exact fin t2 q2 (by omega)
        · rw [show Int.toNat 9 = 9 from rfl, gd9, x1.gm, xnul_s]
          obtain ⟨P2, e2, t2, q2⟩ := t1.isValid hI1 hV c1.1 c1.2
          rw [e2, xcI_rI]
          unfold f_X1_runner_304
          by_cases c4 : rVal R a
          · have hv : vRunner R a 9 = rTot R a - vmin (vTot R (rCrs R a)) (R 1).toNat := if_pos c4
            have r1' := q2.1.ob (hI1.lt r1) r1 (t1.ne r1 (by decide))
            obtain ⟨P3, e3, t3, q3⟩ := X_leastTotal (x1.qf hI1 hne q2) q2.iv (Nat.le_trans hn1 q2.1.next) t2 hV hcr.1 hcr.2
            unfold f_X7_total
            rw [hv, b2_t' c4, if_neg (by decide), xcl1_s r1', xgI_s (k := 3) r1' rfl, xgI_s (k := 2) r1' rfl, z_sub, xcI_rI, xgI_s (k := 1) r1' rfl, e3, xcI_rI, z_sub]
            exact fin t3 (q2.trans hI1 q3) (by omega)
          · have hv : vRunner R a 9 = -2 := if_neg c4
            rw [hv, b2_f' c4, if_pos (by decide)]
            exact fin t2 q2 (by omega)
      · rw [if_neg (fun h : _ ∧ _ => c2 h.2), nb' (fun h : _ ∧ _ => c2 h.2), xtab_d hk4 (by simp; omega)]
        exact ((op_rf (w := 1) hx hI t1 q1 hne).mono (by omega)).ok
    · have hg := h3 i (by omega)
      have hr := rTk_rg hV (c := rCrs R a) c1.1 c1.2 i
      have et : rTk R a (rCrs R a) i = tkn (eqC R a (rCrs R a)) L (rNp R a).toNat i := by unfold rTk; rw [hL, Int.toNat_natCast]
      simp (disch := omega) only [↓xaI_s h2, Int.toNat_natCast, hg, z_add, z_sub, z_mul, z_neg, zlt, zle, zeq, zne, l0, l1, l2, l3, l4, l5, l6, l7, l8, l9, l10, l11, l16, l17, l20, l24, l32, l37, l47, l57, l60, l67, l77, l97, l99, l122, l48, l57, l100, l237, l397, l600, l900, l880, l9998, l9999, bnd, xcI_rI, xcV_rV, xcR_rR, zb0, zb1, nz0, nz1, nar_z0, nar_z1, nar_b2, ↓reduceIte, ↓xnul_s, ↓xnul_n, xcst_n, List.set_cons_zero, List.set_cons_succ]
      have hst : ∀ v, v = rNp R a - (((i + 1 : Nat) : Int) - mis (eqC R a (rCrs R a)) L (rNp R a).toNat (i + 1)) → OK (kk (z a, z k, some u, some ym, z v, some tk, z L, z ((i : Int) + 1), P1)) _ := fun v hv => hk (L - (i + 1)) _ (by omega) ⟨i + 1, by rw [hv]; rfl, rfl, by omega⟩
      refine ok_ite (fun c2 => ?_) fun c2 => ?_
      · refine hst _ ?_
        rw [mis_s, if_pos (et ▸ hr.2.2.mpr c2)]
        omega
      · refine hst _ ?_
        rw [mis_s, if_neg (fun e => c2 (hr.2.2.mp (et ▸ e)))]
        omega
  · rw [b2_f' c1, if_pos (by decide), if_neg (fun h : _ ∧ _ => c1 h.1), nb' (fun h : _ ∧ _ => c1 h.1)]
    exact op_no (w := 1) hx hI hM
end

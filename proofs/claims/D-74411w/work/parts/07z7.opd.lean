/-! .. MORE -/
set_option maxRecDepth 100000
def vPunch (R : Nat → Int) (a k w : Int) : Int := if w = 0 then rPc R a k else if w = 1 then rPt R a k else rTs R a k (rLen R (rCrs R a)).toNat 0
/-- without a leg: who, how long -/
def vWo (R : Nat → Int) (c i : Int) : Nat → Int × Int
  | 0 => (-2, -2)
  | o + 1 => if (rCrs R o = c ∧ rVal R o) ∧ ((vWo R c i o).1 = -2 ∨ rTot R o - rLg R o i < (vWo R c i o).2) then ((o : Int), rTot R o - rLg R o i) else vWo R c i o
theorem vWo_rg {R : Nat → Int} (hV : RV R) {c i : Int} (hi : 0 ≤ i) (hi' : i ≤ rLen R c) : ∀ n : Nat, (n : Int) ≤ R 1 → (-2 ≤ (vWo R c i n).1 ∧ (vWo R c i n).1 < n) ∧ -10000 ≤ (vWo R c i n).2 ∧ (vWo R c i n).2 ≤ 20000 := by
  intro n
  induction n with
  | zero => intro _; simp [vWo]
  | succ n ih =>
    intro hn
    have h1 := ih (by omega)
    unfold vWo
    split
    · rename_i h
      have h2 := rLg_rg hV (a := n) (i := i) (by omega) (by omega) hi (by rw [h.1.1]; exact hi')
      have h3 := hV.st (a := n) (by omega) (by omega)
      unfold rTot
      simp only
      omega
    · omega
/-- what all lose on a leg -/
def hSm (R : Nat → Int) (c i : Int) (n : Nat) : Int := sumS (fun o => if rCrs R o = c then max 0 (rLost R o i) else 0) n
theorem hSm_rg {R : Nat → Int} (hV : RV R) {c i : Int} (hi : 0 ≤ i) (hi' : i ≤ rLen R c) {n : Nat} (hn : (n : Int) ≤ R 1) : 0 ≤ hSm R c i n ∧ hSm R c i n ≤ 9999 * n := sumS_rg (B := 9999) fun o ho => by
  split
  · rename_i h
    have := rLost_rg hV (a := o) (i := i) (by omega) (by omega) hi (by rw [h]; exact hi')
    omega
  · omega
def vHd (R : Nat → Int) (c : Int) : Nat → Int × Int
  | 0 => (-2, -2)
  | i + 1 => if rBR R c i ≠ -2 ∧ (vHd R c i).2 < hSm R c i (R 1).toNat then ((i : Int), hSm R c i (R 1).toNat) else vHd R c i
theorem vHd_rg {R : Nat → Int} (hV : RV R) {c : Int} : ∀ n : Nat, (n : Int) ≤ rLen R c + 1 → (-2 ≤ (vHd R c n).1 ∧ (vHd R c n).1 < n) ∧ (-2 ≤ (vHd R c n).2 ∧ (vHd R c n).2 ≤ 100000) ∧ ((vHd R c n).1 = -2 → (vHd R c n).2 = -2) := by
  have h1 := hV.nR
  intro n
  induction n with
  | zero => intro _; simp [vHd]
  | succ n ih =>
    intro hn
    have h2 := ih (by omega)
    have h3 := hSm_rg hV (c := c) (i := n) (n := (R 1).toNat) (by omega) (by omega) (by omega)
    unfold vHd
    split
    · simp only
      omega
    · omega
/-- over from one code to another: the least, who -/
def vOvI (R : Nat → Int) (f t a : Int) (b : Int × Int) : Nat → Int × Int
  | 0 => b
  | i + 1 => if (rCode R (rCrs R a) i = f ∧ rCode R (rCrs R a) (i + 1) = t) ∧ rLg R a (i + 1) ≠ -2 ∧ ((vOvI R f t a b i).1 = -2 ∨ rLg R a (i + 1) < (vOvI R f t a b i).1) then (rLg R a (i + 1), a) else vOvI R f t a b i
def vOv (R : Nat → Int) (f t : Int) : Nat → Int × Int
  | 0 => (-2, -2)
  | o + 1 => vOvI R f t o (vOv R f t o) (rLen R (rCrs R o) - 1).toNat
theorem vOvI_rg {R : Nat → Int} (hV : RV R) {f t a : Int} {b : Int × Int} (ha : 0 ≤ a) (ha' : a < R 1) (hb : (-2 ≤ b.1 ∧ b.1 ≤ 9999) ∧ -2 ≤ b.2 ∧ b.2 ≤ 10) : ∀ n : Nat, (n : Int) < rLen R (rCrs R a) → (-2 ≤ (vOvI R f t a b n).1 ∧ (vOvI R f t a b n).1 ≤ 9999) ∧ -2 ≤ (vOvI R f t a b n).2 ∧ (vOvI R f t a b n).2 ≤ 10 := by
  have h1 := hV.nR
  intro n
  induction n with
  | zero => intro _; exact hb
  | succ n ih =>
    intro hn
    have h2 := ih (by omega)
    have h3 := rLg_rg hV (a := a) (i := (n : Int) + 1) ha ha' (by omega) (by omega)
    unfold vOvI
    split
    · simp only
      omega
    · exact h2
theorem vOv_rg {R : Nat → Int} (hV : RV R) {f t : Int} : ∀ n : Nat, (n : Int) ≤ R 1 → (-2 ≤ (vOv R f t n).1 ∧ (vOv R f t n).1 ≤ 9999) ∧ -2 ≤ (vOv R f t n).2 ∧ (vOv R f t n).2 ≤ 10 := by
  intro n
  induction n with
  | zero => intro _; simp [vOv]
  | succ n ih =>
    intro hn
    have hcr := hV.crs (a := n) (by omega) (by omega)
    have hl := hV.len hcr.1 hcr.2
    exact vOvI_rg hV (by omega) (by omega) (ih (by omega)) _ (by omega)
section
variable {n x : Nat} {P : PH} {g : GX} {mo : Option Nat} {cs rs : List Nat} {R : Nat → Int} {N : Nat → List Int32}
theorem X_punch (hx : CX P x g mo) (hI : Iv P) (hM : MO n P mo cs rs R N) (hV : RV R) {a i k : Int} (ha : i32 a) (hi : i32 i) (hk : i32 k) : Oq n P x g mo cs rs R N 0 (f_X1_punch P x (z a) (z i) (z k)) (if ((0 ≤ a ∧ a < R 1) ∧ 0 ≤ i ∧ i < rNp R a) ∧ 0 ≤ k ∧ k ≤ 2 then vPunch R a i k else -1) (b2 (¬ (((0 ≤ a ∧ a < R 1) ∧ 0 ≤ i ∧ i < rNp R a) ∧ 0 ≤ k ∧ k ≤ 2))) := by
  unfold f_X1_punch f_X1_punch_18
  rw [hx.cl, X_isPunch hx hM hV ha hi, xcI_rI]
  by_cases c1 : (0 ≤ a ∧ a < R 1) ∧ 0 ≤ i ∧ i < rNp R a
  · rw [b2_t' c1, if_neg (by decide), l2, show (0 : Int32) = z 0 from rfl, X_isIn_z hk (by omega) (by omega), xcI_rI]
    by_cases c2 : 0 ≤ k ∧ k ≤ 2
    · obtain ⟨m, rfl, hM'⟩ := hM.get (by omega)
      have hne := hx.ne hM'
      have hnp := hV.np c1.1.1 c1.1.2
      obtain ⟨cl, rl, mm, hcm, hcz, hrz, hcg, hrg⟩ := hM'.at
      obtain ⟨y, hy, hyc⟩ := hM'.run c1.1.1 c1.1.2
      obtain ⟨s, pl, ps, r0, r1, r2, r3, r4, r5⟩ := id hyc
      obtain ⟨p, hp, hg⟩ := r2.2.get (i := i) c1.2.1 (by omega)
      have hpc := (r4 i.toNat p hp).2
      rw [show ((i.toNat : Nat) : Int) = i by omega] at hpc
      rw [b2_t' c2, if_pos (And.intro c1 c2), nb (And.intro c1 c2), if_neg (by decide), hx.gm, xnul_s, xgR_s hcm rfl, xnul_s, hrg a y c1.1.1 c1.1.2 hy, xcR_rR, xcst_s r1 (by decide), xnul_s, xgR_s r1 rfl, xnul_s, hg, xcR_rR, xcst_s hpc (by decide), l1]
      simp (disch := omega) only [zeq]
      unfold vPunch f_X1_punch_92
      by_cases c3 : k = 0
      · rw [if_pos c3, if_pos c3, xnul_s, xgI_s hpc rfl]
        exact op_yes hx hI hM' (QF.rf hI) hne
      · rw [if_neg c3, if_neg c3]
        by_cases c4 : k = 1
        · rw [if_pos c4, if_pos c4, xnul_s, xgI_s (k := 1) hpc rfl]
          exact op_yes hx hI hM' (QF.rf hI) hne
        · obtain ⟨P1, y1, x1, e1, h1, u1, u2, q1⟩ := hM'.match hI hV c1.1.1 c1.1.2
          have e2 := u2.takes hV c1.1.1 c1.1.2 (k := i) c1.2.1 (by omega)
          rw [if_neg c4, if_neg c4, hx.gm, xnul_s, e1, xcR_rR, xnul_s, e2, xcI_rI]
          exact op_yes hx hI h1 q1 hne
    · rw [b2_f' c2, if_pos (by decide), if_neg (fun h : _ ∧ _ => c2 h.2), nb' (fun h : _ ∧ _ => c2 h.2)]
      exact op_no (w := 1) hx hI hM
  · rw [b2_f' c1, if_pos (by decide), if_neg (fun h : _ ∧ _ => c1 h.1), nb' (fun h : _ ∧ _ => c1 h.1)]
    exact op_no (w := 1) hx hI hM
theorem X_without (hx : CX P x g mo) (hI : Iv P) (hM : MO n P mo cs rs R N) (hV : RV R) {c i k : Int} (hc : i32 c) (hi : i32 i) (hk : i32 k) : Oq n P x g mo cs rs R N 0 (f_X1_without P x (z c) (z i) (z k)) (if ((0 ≤ c ∧ c < R 0) ∧ 0 ≤ i ∧ i ≤ rLen R c) ∧ 0 ≤ k ∧ k ≤ 1 then (if k = 0 then (vWo R c i (R 1).toNat).1 else (vWo R c i (R 1).toNat).2) else -1) (b2 (¬ (((0 ≤ c ∧ c < R 0) ∧ 0 ≤ i ∧ i ≤ rLen R c) ∧ 0 ≤ k ∧ k ≤ 1))) := by
  unfold f_X1_without f_X1_without_18
  have hnr := hV.nR
  have hnc := hV.nC
  rw [hx.cl, X_isPoint hx hM hV hc hi, xcI_rI]
  by_cases c1 : (0 ≤ c ∧ c < R 0) ∧ 0 ≤ i ∧ i ≤ rLen R c
  · rw [b2_t' c1, if_neg (by decide), l1, show (0 : Int32) = z 0 from rfl, X_isIn_z hk (by omega) (by omega), xcI_rI]
    by_cases c2 : 0 ≤ k ∧ k ≤ 1
    · obtain ⟨m, rfl, hM'⟩ := hM.get (by omega)
      have hne := hx.ne hM'
      rw [b2_t' c2, if_pos (And.intro c1 c2), nb (And.intro c1 c2), if_neg (by decide)]
      apply ok_oq
      generalize hj : i = j at *
      refine ok_lpn (fun d p => ∃ (i : Nat) (P1 : PH), p = (z c, z j, z k, z ((vWo R c j i).2), z ((vWo R c j i).1), z i, P1) ∧ d = (R 1).toNat - i ∧ (i : Int) ≤ R 1 ∧ MRep n P1 m cs rs R N ∧ QF m (0) P P1) ?_ FU _ _ ⟨0, P, rfl, rfl, by omega, hM', QF.rf hI⟩ (by simp only [FU]; omega)
      rintro kk d p ⟨i, P1, rfl, rfl, h4, h5, h6⟩ hk
      have hI1 := h6.iv
      have x1 := hx.qf hI hne h6
      have hst : ∀ (v0 v1 : Int) (P2 : PH), v0 = (vWo R c j (i + 1)).2 → v1 = (vWo R c j (i + 1)).1 → MRep n P2 m cs rs R N → QF m (0) P P2 → (i : Int) < R 1 → OK (kk (z c, z j, z k, z v0, z v1, z ((i : Int) + 1), P2)) _ := fun v0 v1 P2 ev0 ev1 t2 q2 hl => hk _ _ (by omega) ⟨i + 1, P2, (by rw [ev0, ev1]; rfl), rfl, by omega, t2, q2⟩
      obtain ⟨cl, rl, mm, hcm, hcz, hrz, hcg, hrg⟩ := h5.at
      simp (disch := omega) only [f_X1_without_35F, f_X1_without_133, f_X1_without_141, f_X1_without_159, z_add, z_sub, z_mul, z_neg, zlt, zle, zeq, zne, l0, l1, l2, l3, l4, l5, l6, l7, l8, l9, l10, l11, l16, l17, l20, l24, l32, l37, l47, l57, l60, l67, l77, l97, l99, l122, l48, l57, l100, l237, l397, l600, l900, l880, l9998, l9999, bnd, xcI_rI, xcV_rV, xcR_rR, zb0, zb1, nz0, nz1, nar_z0, nar_z1, nar_b2, ↓reduceIte, ↓xnul_s, ↓xnul_n, xcst_n, List.set_cons_zero, List.set_cons_succ, ↓x1.gm, ↓xcl1_s hcm, ↓xgR_s (k := 0) hcm rfl, ↓xgR_s (k := 1) hcm rfl, ↓xgI_s (k := 2) hcm rfl, ↓xgI_s (k := 3) hcm rfl, hcz, hrz]
      refine ok_ite (fun c3 => ?_) fun c3 => ?_
      · have hi : i = (R 1).toNat := by omega
        subst hi
        by_cases c4 : k = 0
        · rw [if_pos c4, if_pos c4]
          exact (op_yes hx hI h5 h6 hne).ok
        · rw [if_neg c4, if_neg c4]
          exact (op_yes hx hI h5 h6 hne).ok
      · have hio := h5.isOf hV (a := i) (c := c) (by omega) (by omega) (by omega) (by omega)
        have hw := vWo_rg hV (c := c) c1.2.1 c1.2.2 i h4
        simp (disch := omega) only [hio, z_add, z_sub, z_mul, z_neg, zlt, zle, zeq, zne, l0, l1, l2, l3, l4, l5, l6, l7, l8, l9, l10, l11, l16, l17, l20, l24, l32, l37, l47, l57, l60, l67, l77, l97, l99, l122, l48, l57, l100, l237, l397, l600, l900, l880, l9998, l9999, bnd, xcI_rI, xcV_rV, xcR_rR, zb0, zb1, nz0, nz1, nar_z0, nar_z1, nar_b2, ↓reduceIte, ↓xnul_s, ↓xnul_n, xcst_n, List.set_cons_zero, List.set_cons_succ, ↓x1.gm]
        refine ok_ite (fun c4 => ?_) fun c4 => ?_
        · exact hst _ _ _ (by rw [vWo, if_neg (fun h => c4 h.1.1)]) (by rw [vWo, if_neg (fun h => c4 h.1.1)]) h5 h6 (by omega)
        · have c4 : rCrs R i = c := Decidable.not_not.mp c4
          obtain ⟨P2, e2, t2, q2, x2, I2⟩ := (h5.isValid hI1 hV (a := i) (by omega) (by omega)).u hI1 x1 h5
          have h7 := h6.trans hI q2
          simp (disch := omega) only [e2, z_add, z_sub, z_mul, z_neg, zlt, zle, zeq, zne, l0, l1, l2, l3, l4, l5, l6, l7, l8, l9, l10, l11, l16, l17, l20, l24, l32, l37, l47, l57, l60, l67, l77, l97, l99, l122, l48, l57, l100, l237, l397, l600, l900, l880, l9998, l9999, bnd, xcI_rI, xcV_rV, xcR_rR, zb0, zb1, nz0, nz1, nar_z0, nar_z1, nar_b2, ↓reduceIte, ↓xnul_s, ↓xnul_n, xcst_n, List.set_cons_zero, List.set_cons_succ, ↓x2.gm]
          refine ok_ite (fun c5 => ?_) fun c5 => ?_
          · exact hst _ _ _ (by rw [vWo, if_neg (fun h => c5 h.1.2)]) (by rw [vWo, if_neg (fun h => c5 h.1.2)]) t2 h7 (by omega)
          · have c5 : rVal R i := Decidable.not_not.mp c5
            obtain ⟨cl2, rl2, mm2, hcm2, hcz2, hrz2, hcg2, hrg2⟩ := t2.at
            obtain ⟨y, hy, hyc⟩ := t2.run (a := i) (by omega) (by omega)
            obtain ⟨s, pl, ps, r0, r1, r2⟩ := id hyc
            obtain ⟨P3, y3, e3, e3', t3, q3⟩ := t2.mleg I2 hV (a := i) (i := j) (by omega) (by omega) c1.2.1 (by rw [c4]; exact c1.2.2)
            have hl := rLg_rg hV (a := i) (i := j) (by omega) (by omega) c1.2.1 (by rw [c4]; exact c1.2.2)
            have hs := hV.st (a := i) (by omega) (by omega)
            have h8 := h7.trans hI q3
            have hyg := hrg2 i y (by omega) (by omega) hy
            have ht : rFi R i - rSt R i = rTot R i := rfl
            simp (disch := omega) only [z_add, z_sub, z_mul, z_neg, zlt, zle, zeq, zne, l0, l1, l2, l3, l4, l5, l6, l7, l8, l9, l10, l11, l16, l17, l20, l24, l32, l37, l47, l57, l60, l67, l77, l97, l99, l122, l48, l57, l100, l237, l397, l600, l900, l880, l9998, l9999, bnd, xcI_rI, xcV_rV, xcR_rR, zb0, zb1, nz0, nz1, nar_z0, nar_z1, nar_b2, ↓reduceIte, ↓xnul_s, ↓xnul_n, xcst_n, List.set_cons_zero, List.set_cons_succ, ↓xcl1_s hcm2, ↓xgR_s (k := 0) hcm2 rfl, ↓xgR_s (k := 1) hcm2 rfl, ↓xgI_s (k := 2) hcm2 rfl, ↓xgI_s (k := 3) hcm2 rfl, hyg, ↓xcst_s r1 (cs := [6]) rfl, f_X7_total, ↓xcl1_s r1, ↓xgR_s (k := 0) r1 rfl, ↓xgI_s (k := 1) r1 rfl, ↓xgI_s (k := 2) r1 rfl, ↓xgI_s (k := 3) r1 rfl, ↓xgR_s (k := 4) r1 rfl, ↓x2.gm, e3, e3']
            rw [ht] at *
            refine ok_ite (fun c6 => ?_) fun c6 => ?_
            · have hv : vWo R c j (i + 1) = ((i : Int), rTot R i - rLg R i j) := by rw [vWo, if_pos ⟨⟨c4, c5⟩, Or.inl c6⟩]
              exact hst _ _ _ (by rw [hv]) (by rw [hv]) t3 h8 (by omega)
            · refine ok_ite (fun c7 => ?_) fun c7 => ?_
              · have hv : vWo R c j (i + 1) = ((i : Int), rTot R i - rLg R i j) := by rw [vWo, if_pos ⟨⟨c4, c5⟩, Or.inr c7⟩]
                exact hst _ _ _ (by rw [hv]) (by rw [hv]) t3 h8 (by omega)
              · have hv : vWo R c j (i + 1) = vWo R c j i := by rw [vWo, if_neg (fun h => h.2.elim c6 c7)]
                exact hst _ _ _ (by rw [hv]) (by rw [hv]) t3 h8 (by omega)
    · rw [b2_f' c2, if_pos (by decide), if_neg (fun h : _ ∧ _ => c2 h.2), nb' (fun h : _ ∧ _ => c2 h.2)]
      exact op_no (w := 1) hx hI hM
  · rw [b2_f' c1, if_pos (by decide), if_neg (fun h : _ ∧ _ => c1 h.1), nb' (fun h : _ ∧ _ => c1 h.1)]
    exact op_no (w := 1) hx hI hM
theorem X_hardest (hx : CX P x g mo) (hI : Iv P) (hM : MO n P mo cs rs R N) (hV : RV R) {c k : Int} (hc : i32 c) (hk : i32 k) : Oq n P x g mo cs rs R N 0 (f_X1_hardest P x (z c) (z k)) (if (0 ≤ c ∧ c < R 0) ∧ 0 ≤ k ∧ k ≤ 1 then (if k = 0 then (vHd R c (rLen R c + 1).toNat).1 else (vHd R c (rLen R c + 1).toNat).2) else -1) (b2 (¬ ((0 ≤ c ∧ c < R 0) ∧ 0 ≤ k ∧ k ≤ 1))) := by
  unfold f_X1_hardest f_X1_hardest_17
  have hnr := hV.nR
  have hnc := hV.nC
  rw [hx.cl, X_isCourse hx hM hV hc, xcI_rI]
  by_cases c1 : 0 ≤ c ∧ c < R 0
  · rw [b2_t' c1, if_neg (by decide), l1, show (0 : Int32) = z 0 from rfl, X_isIn_z hk (by omega) (by omega), xcI_rI]
    by_cases c2 : 0 ≤ k ∧ k ≤ 1
    · obtain ⟨m, rfl, hM'⟩ := hM.get (by omega)
      have hne := hx.ne hM'
      have hl := hV.len c1.1 c1.2
      rw [b2_t' c2, if_pos (And.intro c1 c2), nb (And.intro c1 c2), if_neg (by decide)]
      apply ok_oq
      refine ok_lpn (fun d p => ∃ (i : Nat) (P1 : PH), p = (z c, z k, z ((vHd R c i).2), z ((vHd R c i).1), z i, P1) ∧ d = (rLen R c + 1).toNat - i ∧ (i : Int) ≤ rLen R c + 1 ∧ MRep n P1 m cs rs R N ∧ QF m (0) P P1) ?_ FU _ _ ⟨0, P, rfl, rfl, by omega, hM', QF.rf hI⟩ (by simp only [FU]; omega)
      rintro kk d p ⟨i, P1, rfl, rfl, h4, h5, h6⟩ hk
      have hI1 := h6.iv
      have x1 := hx.qf hI hne h6
      have hst : ∀ (v0 v1 : Int) (P2 : PH), v0 = (vHd R c (i + 1)).2 → v1 = (vHd R c (i + 1)).1 → MRep n P2 m cs rs R N → QF m (0) P P2 → (i : Int) < rLen R c + 1 → OK (kk (z c, z k, z v0, z v1, z ((i : Int) + 1), P2)) _ := fun v0 v1 P2 ev0 ev1 t2 q2 hl => hk _ _ (by omega) ⟨i + 1, P2, (by rw [ev0, ev1]; rfl), rfl, by omega, t2, q2⟩
      obtain ⟨cl, rl, mm, hcm, hcz, hrz, hcg, hrg⟩ := h5.at
      simp (disch := omega) only [f_X1_hardest_33F, f_X1_hardest_171, z_add, z_sub, z_mul, z_neg, zlt, zle, zeq, zne, l0, l1, l2, l3, l4, l5, l6, l7, l8, l9, l10, l11, l16, l17, l20, l24, l32, l37, l47, l57, l60, l67, l77, l97, l99, l122, l48, l57, l100, l237, l397, l600, l900, l880, l9998, l9999, bnd, xcI_rI, xcV_rV, xcR_rR, zb0, zb1, nz0, nz1, nar_z0, nar_z1, nar_b2, ↓reduceIte, ↓xnul_s, ↓xnul_n, xcst_n, List.set_cons_zero, List.set_cons_succ, ↓x1.gm, ↓xcl1_s hcm, ↓xgR_s (k := 0) hcm rfl, ↓xgR_s (k := 1) hcm rfl, ↓xgI_s (k := 2) hcm rfl, ↓xgI_s (k := 3) hcm rfl, hcz, hrz]
      obtain ⟨y, hy, hyc⟩ := h5.crs c1.1 c1.2
      obtain ⟨s, pl, ps, k0, k1, k2⟩ := id hyc
      simp (disch := omega) only [hcg c y c1.1 c1.2 hy, z_add, z_sub, z_mul, z_neg, zlt, zle, zeq, zne, l0, l1, l2, l3, l4, l5, l6, l7, l8, l9, l10, l11, l16, l17, l20, l24, l32, l37, l47, l57, l60, l67, l77, l97, l99, l122, l48, l57, l100, l237, l397, l600, l900, l880, l9998, l9999, bnd, xcI_rI, xcV_rV, xcR_rR, zb0, zb1, nz0, nz1, nar_z0, nar_z1, nar_b2, ↓reduceIte, ↓xnul_s, ↓xnul_n, xcst_n, List.set_cons_zero, List.set_cons_succ, ↓xcst_s k1 (cs := [5]) rfl, hyc.size]
      refine ok_ite (fun c3 => ?_) fun c3 => ?_
      · have hi : i = (rLen R c + 1).toNat := by omega
        subst hi
        by_cases c4 : k = 0
        · rw [if_pos c4, if_pos c4]
          exact (op_yes hx hI h5 h6 hne).ok
        · rw [if_neg c4, if_neg c4]
          exact (op_yes hx hI h5 h6 hne).ok
      · have hw := vHd_rg hV (c := c) i h4
        clear hcm hcz hrz hcg hrg k1 k2 hy hyc
        refine ok_lpn (fun d p => ∃ (o : Nat) (P2 : PH), p = (z c, z k, z (vHd R c i).2, z (vHd R c i).1, z i, z (hSm R c i o), z o, P2) ∧ d = (R 1).toNat - o ∧ (o : Int) ≤ R 1 ∧ MRep n P2 m cs rs R N ∧ QF m 0 P P2) ?_ FU _ _ ⟨0, P1, rfl, rfl, by omega, h5, h6⟩ (by simp only [FU]; omega)
        rintro kk2 d p ⟨o, P2, rfl, rfl, g4, g5, g6⟩ hk2
        have x2 := hx.qf hI hne g6
        obtain ⟨cl, rl, mm, hcm, hcz, hrz, hcg, hrg⟩ := g5.at
        have hsm := hSm_rg hV (c := c) (i := i) (n := o) (by omega) (by omega) g4
        simp (disch := omega) only [f_X1_hardest_63F, f_X1_hardest_154, f_X1_hardest_114, z_add, z_sub, z_mul, z_neg, zlt, zle, zeq, zne, l0, l1, l2, l3, l4, l5, l6, l7, l8, l9, l10, l11, l16, l17, l20, l24, l32, l37, l47, l57, l60, l67, l77, l97, l99, l122, l48, l57, l100, l237, l397, l600, l900, l880, l9998, l9999, bnd, xcI_rI, xcV_rV, xcR_rR, zb0, zb1, nz0, nz1, nar_z0, nar_z1, nar_b2, ↓reduceIte, ↓xnul_s, ↓xnul_n, xcst_n, List.set_cons_zero, List.set_cons_succ, ↓x2.gm, ↓xcl1_s hcm, ↓xgR_s (k := 0) hcm rfl, ↓xgR_s (k := 1) hcm rfl, ↓xgI_s (k := 2) hcm rfl, ↓xgI_s (k := 3) hcm rfl, hrz]
        refine ok_ite (fun c4 => ?_) fun c4 => ?_
        · have ho : o = (R 1).toNat := by omega
          subst ho
          have hbr := rBR_rg hV (c := c) (i := i)
          obtain ⟨P3, e3, t3, q3⟩ := g5.fastest g6.iv hV c1.1 c1.2 (i := i) (by omega) (by omega)
          have h7 := g6.trans hI q3
          simp (disch := omega) only [e3, z_add, z_sub, z_mul, z_neg, zlt, zle, zeq, zne, l0, l1, l2, l3, l4, l5, l6, l7, l8, l9, l10, l11, l16, l17, l20, l24, l32, l37, l47, l57, l60, l67, l77, l97, l99, l122, l48, l57, l100, l237, l397, l600, l900, l880, l9998, l9999, bnd, xcI_rI, xcV_rV, xcR_rR, zb0, zb1, nz0, nz1, nar_z0, nar_z1, nar_b2, ↓reduceIte, ↓xnul_s, ↓xnul_n, xcst_n, List.set_cons_zero, List.set_cons_succ]
          refine ok_ite (fun c5 => ?_) fun c5 => ?_
          · exact hst _ _ _ (by rw [vHd, if_neg (fun h => h.1 c5)]) (by rw [vHd, if_neg (fun h => h.1 c5)]) t3 h7 (by omega)
          · refine ok_ite (fun c6 => ?_) fun c6 => ?_
            · exact hst _ _ _ (by rw [vHd, if_pos ⟨c5, c6⟩]) (by rw [vHd, if_pos ⟨c5, c6⟩]) t3 h7 (by omega)
            · exact hst _ _ _ (by rw [vHd, if_neg (fun h => c6 h.2)]) (by rw [vHd, if_neg (fun h => c6 h.2)]) t3 h7 (by omega)
        · have hio := g5.isOf hV (a := o) (c := c) (by omega) (by omega) (by omega) (by omega)
          have hst2 : ∀ (v : Int) (P3 : PH), v = hSm R c i (o + 1) → MRep n P3 m cs rs R N → QF m 0 P P3 → OK (kk2 (z c, z k, z (vHd R c i).2, z (vHd R c i).1, z i, z v, z ((o : Int) + 1), P3)) _ := fun v P3 ev t3 q3 => hk2 _ _ (by omega) ⟨o + 1, P3, (by rw [ev]; rfl), rfl, by omega, t3, q3⟩
          simp (disch := omega) only [hio, z_add, z_sub, z_mul, z_neg, zlt, zle, zeq, zne, l0, l1, l2, l3, l4, l5, l6, l7, l8, l9, l10, l11, l16, l17, l20, l24, l32, l37, l47, l57, l60, l67, l77, l97, l99, l122, l48, l57, l100, l237, l397, l600, l900, l880, l9998, l9999, bnd, xcI_rI, xcV_rV, xcR_rR, zb0, zb1, nz0, nz1, nar_z0, nar_z1, nar_b2, ↓reduceIte, ↓xnul_s, ↓xnul_n, xcst_n, List.set_cons_zero, List.set_cons_succ, ↓x2.gm]
          refine ok_ite (fun c5 => ?_) fun c5 => ?_
          · exact hst2 _ _ (by unfold hSm; rw [sumS, if_neg c5]) g5 g6
          · have c5 : rCrs R o = c := Decidable.not_not.mp c5
            obtain ⟨P3, e3, t3, q3⟩ := g5.lost g6.iv hV (a := o) (i := i) (by omega) (by omega) (by omega) (by rw [c5]; omega)
            have hr := rLost_rg hV (a := o) (i := i) (by omega) (by omega) (by omega) (by rw [c5]; omega)
            simp (disch := omega) only [e3, z_add, z_sub, z_mul, z_neg, zlt, zle, zeq, zne, l0, l1, l2, l3, l4, l5, l6, l7, l8, l9, l10, l11, l16, l17, l20, l24, l32, l37, l47, l57, l60, l67, l77, l97, l99, l122, l48, l57, l100, l237, l397, l600, l900, l880, l9998, l9999, bnd, xcI_rI, xcV_rV, xcR_rR, zb0, zb1, nz0, nz1, nar_z0, nar_z1, nar_b2, ↓reduceIte, ↓xnul_s, ↓xnul_n, xcst_n, List.set_cons_zero, List.set_cons_succ, max_z]
            exact hst2 _ _ (by unfold hSm; rw [sumS, if_pos c5]) t3 (g6.trans hI q3)
    · rw [b2_f' c2, if_pos (by decide), if_neg (fun h : _ ∧ _ => c2 h.2), nb' (fun h : _ ∧ _ => c2 h.2)]
      exact op_no (w := 1) hx hI hM
  · rw [b2_f' c1, if_pos (by decide), if_neg (fun h : _ ∧ _ => c1 h.1), nb' (fun h : _ ∧ _ => c1 h.1)]
    exact op_no (w := 1) hx hI hM
theorem X_over (hx : CX P x g mo) (hI : Iv P) (hM : MO n P mo cs rs R N) (hV : RV R) {f t k : Int} (hf : i32 f) (ht : i32 t) (hk : i32 k) : Oq n P x g mo cs rs R N 0 (f_X1_over P x (z f) (z t) (z k)) (if (mo ≠ none ∧ 0 ≤ k ∧ k ≤ 1) ∧ (1 ≤ f ∧ f ≤ 99) ∧ 1 ≤ t ∧ t ≤ 99 then (if k = 0 then (vOv R f t (R 1).toNat).1 else (vOv R f t (R 1).toNat).2) else -1) (if mo ≠ none ∧ 0 ≤ k ∧ k ≤ 1 then (if (1 ≤ f ∧ f ≤ 99) ∧ 1 ≤ t ∧ t ≤ 99 then 0 else 2) else 1) := by
  have hnr := hV.nR
  have hnc := hV.nC
  have l99' : (99 : Int32) = z 99 := rfl
  unfold f_X1_over f_X1_over_16 f_X1_over_42
  rw [hx.cl, hx.gm]
  cases mo with
  | none =>
    have hno : ¬ ((none : Option Nat) ≠ none) := fun h => h rfl
    rw [xnul_n, if_neg (fun h : (_ ∧ _) ∧ _ => hno h.1.1), if_neg (fun h : _ ∧ _ => hno h.1)]
    exact op_no (w := 1) hx hI hM
  | some m =>
    obtain ⟨m', e', hM'⟩ := hM.resolve_left fun h => by cases h.1
    cases e'
    have hne := hx.ne hM'
    rw [xnul_s, l1, l99', show (0 : Int32) = z 0 from rfl, X_isIn_z hk (by omega) (by omega), xcI_rI]
    by_cases c0 : 0 ≤ k ∧ k ≤ 1
    · have c0' : some m ≠ none ∧ 0 ≤ k ∧ k ≤ 1 := ⟨(fun h => by cases h), c0⟩
      rw [b2_t' c0, if_neg (by decide), X_isIn_z hf (by omega) (by omega), xcI_rI, if_pos c0']
      by_cases c1 : 1 ≤ f ∧ f ≤ 99
      · rw [b2_t' c1, if_neg (by decide), X_isIn_z ht (by omega) (by omega), xcI_rI]
        by_cases c2 : 1 ≤ t ∧ t ≤ 99
        · rw [b2_t' c2, if_neg (by decide), if_pos (And.intro c0' (And.intro c1 c2)), if_pos (And.intro c1 c2)]
          apply ok_oq
          refine ok_lpn (fun d p => ∃ (i : Nat) (P1 : PH), p = (z f, z t, z k, z ((vOv R f t i).1), z ((vOv R f t i).2), z i, P1) ∧ d = (R 1).toNat - i ∧ (i : Int) ≤ R 1 ∧ MRep n P1 m cs rs R N ∧ QF m (0) P P1) ?_ FU _ _ ⟨0, P, rfl, rfl, by omega, hM', QF.rf hI⟩ (by simp only [FU]; omega)
          rintro kk d p ⟨i, P1, rfl, rfl, h4, h5, h6⟩ hk
          have hI1 := h6.iv
          have x1 := hx.qf hI hne h6
          have hst : ∀ (v0 v1 : Int) (P2 : PH), v0 = (vOv R f t (i + 1)).1 → v1 = (vOv R f t (i + 1)).2 → MRep n P2 m cs rs R N → QF m (0) P P2 → (i : Int) < R 1 → OK (kk (z f, z t, z k, z v0, z v1, z ((i : Int) + 1), P2)) _ := fun v0 v1 P2 ev0 ev1 t2 q2 hl => hk _ _ (by omega) ⟨i + 1, P2, (by rw [ev0, ev1]; rfl), rfl, by omega, t2, q2⟩
          obtain ⟨cl, rl, mm, hcm, hcz, hrz, hcg, hrg⟩ := h5.at
          simp (disch := omega) only [f_X1_over_59F, f_X1_over_227, z_add, z_sub, z_mul, z_neg, zlt, zle, zeq, zne, l0, l1, l2, l3, l4, l5, l6, l7, l8, l9, l10, l11, l16, l17, l20, l24, l32, l37, l47, l57, l60, l67, l77, l97, l99, l122, l48, l57, l100, l237, l397, l600, l900, l880, l9998, l9999, bnd, xcI_rI, xcV_rV, xcR_rR, zb0, zb1, nz0, nz1, nar_z0, nar_z1, nar_b2, ↓reduceIte, ↓xnul_s, ↓xnul_n, xcst_n, List.set_cons_zero, List.set_cons_succ, ↓x1.gm, ↓xcl1_s hcm, ↓xgR_s (k := 0) hcm rfl, ↓xgR_s (k := 1) hcm rfl, ↓xgI_s (k := 2) hcm rfl, ↓xgI_s (k := 3) hcm rfl, hcz, hrz]
          refine ok_ite (fun c3 => ?_) fun c3 => ?_
          · have hi : i = (R 1).toNat := by omega
            subst hi
            by_cases c4 : k = 0
            · rw [if_pos c4, if_pos c4]
              exact (op_yes hx hI h5 h6 hne).ok
            · rw [if_neg c4, if_neg c4]
              exact (op_yes hx hI h5 h6 hne).ok
          · have hcr := hV.crs (a := i) (by omega) (by omega)
            have hl := hV.len hcr.1 hcr.2
            have hb := vOv_rg hV (f := f) (t := t) i h4
            obtain ⟨y, hy, hyc⟩ := h5.run (a := i) (by omega) (by omega)
            obtain ⟨s, pl, ps, r0, r1, r2⟩ := id hyc
            obtain ⟨w, hw, hwc⟩ := h5.crs hcr.1 hcr.2
            obtain ⟨s', pl', ps', j0, j1, j2⟩ := id hwc
            have hyg := hrg i y (by omega) (by omega) hy
            have hwg := hcg _ w hcr.1 hcr.2 hw
            simp (disch := omega) only [z_add, z_sub, z_mul, z_neg, zlt, zle, zeq, zne, l0, l1, l2, l3, l4, l5, l6, l7, l8, l9, l10, l11, l16, l17, l20, l24, l32, l37, l47, l57, l60, l67, l77, l97, l99, l122, l48, l57, l100, l237, l397, l600, l900, l880, l9998, l9999, bnd, xcI_rI, xcV_rV, xcR_rR, zb0, zb1, nz0, nz1, nar_z0, nar_z1, nar_b2, ↓reduceIte, ↓xnul_s, ↓xnul_n, xcst_n, List.set_cons_zero, List.set_cons_succ, ↓x1.gm, ↓xcl1_s hcm, ↓xgR_s (k := 0) hcm rfl, ↓xgR_s (k := 1) hcm rfl, ↓xgI_s (k := 2) hcm rfl, ↓xgI_s (k := 3) hcm rfl, hyg, hwg, ↓xcst_s r1 (cs := [6]) rfl, ↓xcl1_s r1, ↓xgR_s (k := 0) r1 rfl, ↓xgI_s (k := 1) r1 rfl, ↓xgI_s (k := 2) r1 rfl, ↓xgI_s (k := 3) r1 rfl, ↓xgR_s (k := 4) r1 rfl, ↓xcst_s j1 (cs := [5]) rfl]
            have hO : vOv R f t (i + 1) = vOvI R f t i (vOv R f t i) (rLen R (rCrs R i) - 1).toNat := rfl
            have hb2 := fun q hq => vOvI_rg hV (f := f) (t := t) (a := i) (by omega) (by omega) hb q hq
            generalize vOv R f t i = b at *
            clear hcm hcz hrz hcg hrg hyg hwg r1 r2 hy hyc
            refine ok_lpn (fun d p => ∃ (o : Nat) (P2 : PH), p = (z f, z t, z k, z (vOvI R f t i b o).1, z (vOvI R f t i b o).2, z i, some w, z ((o : Int) + 1), P2) ∧ d = (rLen R (rCrs R i) - 1).toNat - o ∧ (o : Int) ≤ rLen R (rCrs R i) - 1 ∧ MRep n P2 m cs rs R N ∧ QF m 0 P P2) ?_ FU _ _ ⟨0, P1, rfl, rfl, by omega, h5, h6⟩ (by simp only [FU]; omega)
            rintro kk2 d p ⟨o, P2, rfl, rfl, g4, g5, g6⟩ hk2
            have x2 := hx.qf hI hne g6
            obtain ⟨w', hw', hwc'⟩ := g5.crs hcr.1 hcr.2
            rw [hw] at hw'
            cases hw'
            have hbo := hb2 o (by omega)
            simp (disch := omega) only [f_X1_over_116F, f_X1_over_167, f_X1_over_169, f_X1_over_195, f_X1_over_203, z_add, z_sub, z_mul, z_neg, zlt, zle, zeq, zne, l0, l1, l2, l3, l4, l5, l6, l7, l8, l9, l10, l11, l16, l17, l20, l24, l32, l37, l47, l57, l60, l67, l77, l97, l99, l122, l48, l57, l100, l237, l397, l600, l900, l880, l9998, l9999, bnd, xcI_rI, xcV_rV, xcR_rR, zb0, zb1, nz0, nz1, nar_z0, nar_z1, nar_b2, ↓reduceIte, ↓xnul_s, ↓xnul_n, xcst_n, List.set_cons_zero, List.set_cons_succ, hwc'.size]
            refine ok_ite (fun c4 => ?_) fun c4 => ?_
            · have ho : o = (rLen R (rCrs R i) - 1).toNat := by omega
              subst ho
              exact hst _ _ _ (by rw [hO]) (by rw [hO]) g5 g6 (by omega)
            · have k1 := hwc'.code (i := o) (by omega) (by omega)
              have k2 := hwc'.code (i := (o : Int) + 1) (by omega) (by omega)
              have v1 := hV.code hcr.1 hcr.2 (i := o) (by omega) (by omega)
              have v2 := hV.code hcr.1 hcr.2 (i := (o : Int) + 1) (by omega) (by omega)
              have hst2 : ∀ (v u : Int) (P3 : PH), v = (vOvI R f t i b (o + 1)).1 → u = (vOvI R f t i b (o + 1)).2 → MRep n P3 m cs rs R N → QF m 0 P P3 → OK (kk2 (z f, z t, z k, z v, z u, z i, some w, z ((o : Int) + 1 + 1), P3)) _ := fun v u P3 ev eu t3 q3 => hk2 _ _ (by omega) ⟨o + 1, P3, (by rw [ev, eu]; rfl), rfl, by omega, t3, q3⟩
              simp (disch := omega) only [show (o : Int) + 1 - 1 = o by omega, k1, z_add, z_sub, z_mul, z_neg, zlt, zle, zeq, zne, l0, l1, l2, l3, l4, l5, l6, l7, l8, l9, l10, l11, l16, l17, l20, l24, l32, l37, l47, l57, l60, l67, l77, l97, l99, l122, l48, l57, l100, l237, l397, l600, l900, l880, l9998, l9999, bnd, xcI_rI, xcV_rV, xcR_rR, zb0, zb1, nz0, nz1, nar_z0, nar_z1, nar_b2, ↓reduceIte, ↓xnul_s, ↓xnul_n, xcst_n, List.set_cons_zero, List.set_cons_succ]
              refine ok_ite (fun c5 => ?_) fun c5 => ?_
              · simp (disch := omega) only [k2, z_add, z_sub, z_mul, z_neg, zlt, zle, zeq, zne, l0, l1, l2, l3, l4, l5, l6, l7, l8, l9, l10, l11, l16, l17, l20, l24, l32, l37, l47, l57, l60, l67, l77, l97, l99, l122, l48, l57, l100, l237, l397, l600, l900, l880, l9998, l9999, bnd, xcI_rI, xcV_rV, xcR_rR, zb0, zb1, nz0, nz1, nar_z0, nar_z1, nar_b2, ↓reduceIte, ↓xnul_s, ↓xnul_n, xcst_n, List.set_cons_zero, List.set_cons_succ]
                refine ok_ite (fun c6 => ?_) fun c6 => ?_
                · obtain ⟨P3, y3, e3, e3', t3, q3⟩ := g5.mleg g6.iv hV (a := i) (i := (o : Int) + 1) (by omega) (by omega) (by omega) (by omega)
                  have hlr := rLg_rg hV (a := i) (i := (o : Int) + 1) (by omega) (by omega) (by omega) (by omega)
                  simp (disch := omega) only [↓x2.gm, e3, e3', z_add, z_sub, z_mul, z_neg, zlt, zle, zeq, zne, l0, l1, l2, l3, l4, l5, l6, l7, l8, l9, l10, l11, l16, l17, l20, l24, l32, l37, l47, l57, l60, l67, l77, l97, l99, l122, l48, l57, l100, l237, l397, l600, l900, l880, l9998, l9999, bnd, xcI_rI, xcV_rV, xcR_rR, zb0, zb1, nz0, nz1, nar_z0, nar_z1, nar_b2, ↓reduceIte, ↓xnul_s, ↓xnul_n, xcst_n, List.set_cons_zero, List.set_cons_succ]
                  have h8 := g6.trans hI q3
                  refine ok_ite (fun c7 => ?_) fun c7 => ?_
                  · have hv : vOvI R f t i b (o + 1) = vOvI R f t i b o := by rw [vOvI, if_neg (fun h => h.2.1 c7)]
                    exact hst2 _ _ _ (by rw [hv]) (by rw [hv]) t3 h8
                  · refine ok_ite (fun c8 => ?_) fun c8 => ?_
                    · have hv : vOvI R f t i b (o + 1) = (rLg R i ((o : Int) + 1), (i : Int)) := by rw [vOvI, if_pos ⟨⟨c5, c6⟩, c7, Or.inl c8⟩]
                      exact hst2 _ _ _ (by rw [hv]) (by rw [hv]) t3 h8
                    · refine ok_ite (fun c9 => ?_) fun c9 => ?_
                      · have hv : vOvI R f t i b (o + 1) = (rLg R i ((o : Int) + 1), (i : Int)) := by rw [vOvI, if_pos ⟨⟨c5, c6⟩, c7, Or.inr c9⟩]
                        exact hst2 _ _ _ (by rw [hv]) (by rw [hv]) t3 h8
                      · have hv : vOvI R f t i b (o + 1) = vOvI R f t i b o := by rw [vOvI, if_neg (fun h => h.2.2.elim c8 c9)]
                        exact hst2 _ _ _ (by rw [hv]) (by rw [hv]) t3 h8
                · have hv : vOvI R f t i b (o + 1) = vOvI R f t i b o := by rw [vOvI, if_neg (fun h => c6 h.1.2)]
                  exact hst2 _ _ _ (by rw [hv]) (by rw [hv]) g5 g6
              · have hv : vOvI R f t i b (o + 1) = vOvI R f t i b o := by rw [vOvI, if_neg (fun h => c5 h.1.1)]
                exact hst2 _ _ _ (by rw [hv]) (by rw [hv]) g5 g6
        · rw [b2_f' c2, if_pos (by decide), if_neg (fun h : _ ∧ _ => c2 h.2.2), if_neg (fun h : _ ∧ _ => c2 h.2)]
          exact op_no (w := 2) hx hI hM
      · rw [b2_f' c1, if_pos (by decide), if_neg (fun h : _ ∧ _ => c1 h.2.1), if_neg (fun h : _ ∧ _ => c1 h.1)]
        exact op_no (w := 2) hx hI hM
    · rw [b2_f' c0, if_pos (by decide), if_neg (fun h : _ ∧ _ => c0 h.1.2), if_neg (fun h : _ ∧ _ => c0 h.2)]
      exact op_no (w := 1) hx hI hM
end

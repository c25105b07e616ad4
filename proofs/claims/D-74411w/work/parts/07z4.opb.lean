/-! QUERIES WITH A LOOP -/
set_option maxRecDepth 100000
theorem ok_to {s : TS} {K : Option (xO × TS)} {v w : Int} (h : OK K (fun o s' => o = some (.int (z v)) ∧ TQ (tF s (z w)) s')) : To s K v w := by
  obtain ⟨o, s', e, rfl, h1⟩ := h
  exact ⟨s', e, h1⟩
/-- a row of bits -/
def orB (p : Nat → Bool) : Nat → Int32
  | 0 => 0
  | i + 1 => orB p i ||| (if p i then 1 <<< (z i &&& 31) else 0)
theorem orB_y {p : Nat → Bool} {i : Nat} (h : p i = true) : z (orB p i).toInt ||| z 1 <<< (z i &&& 31) = z (orB p (i + 1)).toInt := by
  rw [z_of, z_of, orB, if_pos h]
  rfl
theorem orB_n {p : Nat → Bool} {i : Nat} (h : ¬ p i = true) : z (orB p i).toInt ||| z 0 = z (orB p (i + 1)).toInt := by
  rw [z_of, z_of, orB, if_neg h]
  rfl
def vLost (R : Nat → Int) (a : Int) : Int := sumS (fun i => max 0 (rLost R a i)) (rLen R (rCrs R a) + 1).toNat
def vChanges (R : Nat → Int) (c : Int) : Int := sumS (fun i => b2 ((rBS R c i ≠ -2 ∧ rBS R c (i + 1) ≠ -2) ∧ rBS R c i ≠ rBS R c (i + 1))) (rLen R c).toNat
/-- the first with the most; -2: none -/
def wst (f : Nat → Int) : Nat → Int
  | 0 => -2
  | i + 1 => if f i ≠ -2 ∧ (wst f i = -2 ∨ f (wst f i).toNat < f i) then i else wst f i
theorem wst_rg (f : Nat → Int) : ∀ n, wst f n = -2 ∨ (0 ≤ wst f n ∧ wst f n < n ∧ f (wst f n).toNat ≠ -2) := by
  intro n
  induction n with
  | zero => exact Or.inl rfl
  | succ n ih =>
    unfold wst
    split
    · rename_i h
      refine Or.inr ⟨by omega, by omega, ?_⟩
      simpa using h.1
    · omega
def vWorst (R : Nat → Int) (a : Int) : Int := wst (fun i => rLost R a i) (rLen R (rCrs R a) + 1).toNat
noncomputable def vMistakes (R : Nat → Int) (a : Int) : Int := (orB (fun i => decide (0 < rMk R a i)) (rLen R (rCrs R a) + 1).toNat).toInt
def vMissed (R : Nat → Int) (a : Int) : Int := (orB (fun i => decide (tv (rTk R a (rCrs R a) i) = -1)) (rLen R (rCrs R a)).toNat).toInt
def vFit (R : Nat → Int) (a : Int) : Nat → Int
  | 0 => 0
  | i + 1 => if rMis R a (i + 1) < rMis R a (vFit R a i) ∨ (rMis R a (i + 1) = rMis R a (vFit R a i) ∧ rLen R (vFit R a i) < rLen R (i + 1)) then i + 1 else vFit R a i
theorem vFit_rg (R : Nat → Int) (a : Int) : ∀ n, 0 ≤ vFit R a n ∧ vFit R a n ≤ n := by
  intro n
  induction n with
  | zero => exact ⟨Int.le_refl _, Int.le_refl _⟩
  | succ n ih =>
    unfold vFit
    split <;> omega
section
variable {n x : Nat} {P : PH} {g : GX} {mo : Option Nat} {cs rs : List Nat} {R : Nat → Int} {N : Nat → List Int32}
theorem max_z {P : PH} {v : Int} (h : -2147483648 ≤ v ∧ v < 2147483648) : f_J8_max P (z 0) (z v) = rI (z (max 0 v)) P := by
  simp (disch := omega) only [f_J8_max, z_add, z_sub, z_mul, z_neg, zlt, zle, zeq, zne, l0, l1, l2, l3, l4, l5, l6, l7, l8, l9, l10, l11, l16, l17, l20, l24, l32, l37, l47, l57, l60, l67, l77, l97, l99, l122, l48, l57, l100, l237, l397, l600, l900, l880, l9998, l9999, bnd, xcI_rI, xcV_rV, xcR_rR, zb0, zb1, nz0, nz1, nar_z0, nar_z1, nar_b2, ↓reduceIte]
  split
  · rw [Int.max_eq_right (by omega)]
  · rw [Int.max_eq_left (by omega)]
theorem sumS_lost {R : Nat → Int} (hV : RV R) {a : Int} (ha : 0 ≤ a) (ha' : a < R 1) {i : Nat} (hi : (i : Int) ≤ rLen R (rCrs R a) + 1) : 0 ≤ sumS (fun i => max 0 (rLost R a i)) i ∧ sumS (fun i => max 0 (rLost R a i)) i ≤ 9999 * i := sumS_rg (B := 9999) fun j hj => by
  have := rLost_rg hV ha ha' (i := j) (by omega) (by omega)
  omega
theorem X_lost (hx : CX P x g mo) (hI : Iv P) (hM : MO n P mo cs rs R N) (hV : RV R) {a : Int} (ha : i32 a) : Oq n P x g mo cs rs R N 0 (f_X1_lost P x (z a)) (if 0 ≤ a ∧ a < R 1 then vLost R a else -1) (b2 (¬ (0 ≤ a ∧ a < R 1))) := by
  unfold f_X1_lost
  rw [hx.cl, X_isRunner hx hM hV ha, xcI_rI]
  by_cases c0 : 0 ≤ a ∧ a < R 1
  · obtain ⟨m, rfl, hM'⟩ := hM.get (by omega)
    have hne := hx.ne hM'
    have hcr := hV.crs c0.1 c0.2
    have hl := hV.len hcr.1 hcr.2
    rw [b2_t' c0, if_pos c0, nb c0, if_neg (by decide)]
    apply ok_oq
    unfold vLost
    have hL : (((rLen R (rCrs R a)).toNat : Nat) : Int) = rLen R (rCrs R a) := by omega
    refine ok_lpn (fun d p => ∃ (i : Nat) (P1 : PH), p = (z a, z (sumS (fun i => max 0 (rLost R a i)) i), z i, P1) ∧ d = (rLen R (rCrs R a) + 1).toNat - i ∧ (i : Int) ≤ rLen R (rCrs R a) + 1 ∧ MRep n P1 m cs rs R N ∧ QF m (0) P P1) ?_ FU _ _ ⟨0, P, rfl, rfl, by omega, hM', QF.rf hI⟩ (by simp only [FU]; omega)
    rintro kk d p ⟨i, P1, rfl, rfl, h4, h5, h6⟩ hk
    have hI1 := h6.iv
    have x1 := hx.qf hI hne h6
    have hst : ∀ (v0 : Int) (P2 : PH), v0 = sumS (fun i => max 0 (rLost R a i)) (i + 1) → MRep n P2 m cs rs R N → QF m (0) P P2 → (i : Int) < rLen R (rCrs R a) + 1 → OK (kk (z a, z v0, z ((i : Int) + 1), P2)) _ := fun v0 P2 ev0 t2 q2 hl => hk _ _ (by omega) ⟨i + 1, P2, (by rw [ev0]; rfl), rfl, by omega, t2, q2⟩
    obtain ⟨cl, rl, mm, hcm, hcz, hrz, hcg, hrg⟩ := h5.at
    simp (disch := omega) only [f_X1_lost_18F, z_add, z_sub, z_mul, z_neg, zlt, zle, zeq, zne, l0, l1, l2, l3, l4, l5, l6, l7, l8, l9, l10, l11, l16, l17, l20, l24, l32, l37, l47, l57, l60, l67, l77, l97, l99, l122, l48, l57, l100, l237, l397, l600, l900, l880, l9998, l9999, bnd, xcI_rI, xcV_rV, xcR_rR, zb0, zb1, nz0, nz1, nar_z0, nar_z1, nar_b2, ↓reduceIte, ↓xnul_s, ↓xnul_n, xcst_n, List.set_cons_zero, List.set_cons_succ, ↓x1.gm, ↓xcl1_s hcm, ↓xgR_s (k := 0) hcm rfl, ↓xgR_s (k := 1) hcm rfl, ↓xgI_s (k := 2) hcm rfl, ↓xgI_s (k := 3) hcm rfl, hcz, hrz]
    obtain ⟨P3, y3, x3, e3, h5, u1, u2, q3⟩ := h5.match hI1 hV c0.1 c0.2
    obtain ⟨ca, tk, mo3, gg, v1, v2⟩ := u2.tlen
    have h6 := h6.trans hI q3
    have x3 := hx.qf hI hne h6
    simp (disch := omega) only [e3, z_add, z_sub, z_mul, z_neg, zlt, zle, zeq, zne, l0, l1, l2, l3, l4, l5, l6, l7, l8, l9, l10, l11, l16, l17, l20, l24, l32, l37, l47, l57, l60, l67, l77, l97, l99, l122, l48, l57, l100, l237, l397, l600, l900, l880, l9998, l9999, bnd, xcI_rI, xcV_rV, xcR_rR, zb0, zb1, nz0, nz1, nar_z0, nar_z1, nar_b2, ↓reduceIte, ↓xnul_s, ↓xnul_n, xcst_n, List.set_cons_zero, List.set_cons_succ, ↓xcl1_s v1, ↓xgR_s (k := 0) v1 rfl, ↓xgR_s (k := 1) v1 rfl, ↓xgR_s (k := 2) v1 rfl, ↓xgR_s (k := 3) v1 rfl, ↓xlen_s v2 (by decide), hL, ↓x3.gm]
    refine ok_ite (fun c1 => ?_) fun c1 => ?_
    · have hi : i = (rLen R (rCrs R a) + 1).toNat := by omega
      subst hi
      exact (op_yes hx hI h5 h6 hne).ok
    obtain ⟨P4, e4, t4, q4⟩ := h5.lost q3.iv hV c0.1 c0.2 (i := i) (by omega) (by omega)
    have hr := rLost_rg hV c0.1 c0.2 (i := i) (by omega) (by omega)
    have hs := sumS_lost hV c0.1 c0.2 (i := i) (by omega)
    simp (disch := omega) only [e4, z_add, z_sub, z_mul, z_neg, zlt, zle, zeq, zne, l0, l1, l2, l3, l4, l5, l6, l7, l8, l9, l10, l11, l16, l17, l20, l24, l32, l37, l47, l57, l60, l67, l77, l97, l99, l122, l48, l57, l100, l237, l397, l600, l900, l880, l9998, l9999, bnd, xcI_rI, xcV_rV, xcR_rR, zb0, zb1, nz0, nz1, nar_z0, nar_z1, nar_b2, ↓reduceIte, ↓xnul_s, ↓xnul_n, xcst_n, List.set_cons_zero, List.set_cons_succ, max_z]
    exact hst _ _ (by rfl) t4 (h6.trans hI q4) (by omega)
  · rw [b2_f' c0, if_pos (by decide), if_neg c0, nb' c0]
    exact op_no (w := 1) hx hI hM
theorem X_changes (hx : CX P x g mo) (hI : Iv P) (hM : MO n P mo cs rs R N) (hV : RV R) {c : Int} (hc : i32 c) : Oq n P x g mo cs rs R N 0 (f_X1_changes P x (z c)) (if 0 ≤ c ∧ c < R 0 then vChanges R c else -1) (b2 (¬ (0 ≤ c ∧ c < R 0))) := by
  unfold f_X1_changes
  rw [hx.cl, X_isCourse hx hM hV hc, xcI_rI]
  by_cases c0 : 0 ≤ c ∧ c < R 0
  · obtain ⟨m, rfl, hM'⟩ := hM.get (by omega)
    have hne := hx.ne hM'
    have hl := hV.len c0.1 c0.2
    rw [b2_t' c0, if_pos c0, nb c0, if_neg (by decide)]
    apply ok_oq
    unfold vChanges
    refine ok_lpn (fun d p => ∃ (i : Nat) (P1 : PH), p = (z c, z (sumS (fun i => b2 ((rBS R c i ≠ -2 ∧ rBS R c (i + 1) ≠ -2) ∧ rBS R c i ≠ rBS R c (i + 1))) i), z ((i : Int) + 1), P1) ∧ d = (rLen R c).toNat - i ∧ (i : Int) ≤ rLen R c ∧ MRep n P1 m cs rs R N ∧ QF m (0) P P1) ?_ FU _ _ ⟨0, P, rfl, rfl, by omega, hM', QF.rf hI⟩ (by simp only [FU]; omega)
    rintro kk d p ⟨i, P1, rfl, rfl, h4, h5, h6⟩ hk
    have hI1 := h6.iv
    have x1 := hx.qf hI hne h6
    have hst : ∀ (v0 : Int) (P2 : PH), v0 = sumS (fun i => b2 ((rBS R c i ≠ -2 ∧ rBS R c (i + 1) ≠ -2) ∧ rBS R c i ≠ rBS R c (i + 1))) (i + 1) → MRep n P2 m cs rs R N → QF m (0) P P2 → (i : Int) < rLen R c → OK (kk (z c, z v0, z ((i : Int) + 1 + 1), P2)) _ := fun v0 P2 ev0 t2 q2 hl => hk _ _ (by omega) ⟨i + 1, P2, (by rw [ev0]; rfl), rfl, by omega, t2, q2⟩
    obtain ⟨cl, rl, mm, hcm, hcz, hrz, hcg, hrg⟩ := h5.at
    simp (disch := omega) only [f_X1_changes_18F, f_X1_changes_91, f_X1_changes_92, z_add, z_sub, z_mul, z_neg, zlt, zle, zeq, zne, l0, l1, l2, l3, l4, l5, l6, l7, l8, l9, l10, l11, l16, l17, l20, l24, l32, l37, l47, l57, l60, l67, l77, l97, l99, l122, l48, l57, l100, l237, l397, l600, l900, l880, l9998, l9999, bnd, xcI_rI, xcV_rV, xcR_rR, zb0, zb1, nz0, nz1, nar_z0, nar_z1, nar_b2, ↓reduceIte, ↓xnul_s, ↓xnul_n, xcst_n, List.set_cons_zero, List.set_cons_succ, ↓x1.gm, ↓xcl1_s hcm, ↓xgR_s (k := 0) hcm rfl, ↓xgR_s (k := 1) hcm rfl, ↓xgI_s (k := 2) hcm rfl, ↓xgI_s (k := 3) hcm rfl, hcz, hrz]
    obtain ⟨y, hy, hyc⟩ := h5.crs c0.1 c0.2
    obtain ⟨s, pl, ps, k0, k1, k2⟩ := id hyc
    simp (disch := omega) only [z_add, z_sub, z_mul, z_neg, zlt, zle, zeq, zne, l0, l1, l2, l3, l4, l5, l6, l7, l8, l9, l10, l11, l16, l17, l20, l24, l32, l37, l47, l57, l60, l67, l77, l97, l99, l122, l48, l57, l100, l237, l397, l600, l900, l880, l9998, l9999, bnd, xcI_rI, xcV_rV, xcR_rR, zb0, zb1, nz0, nz1, nar_z0, nar_z1, nar_b2, ↓reduceIte, ↓xnul_s, ↓xnul_n, xcst_n, List.set_cons_zero, List.set_cons_succ, hcg c y c0.1 c0.2 hy, ↓xcst_s k1 (cs := [5]) rfl, hyc.size]
    refine ok_ite (fun c1 => ?_) fun c1 => ?_
    · have hi : i = (rLen R c).toNat := by omega
      subst hi
      exact (op_yes hx hI h5 h6 hne).ok
    obtain ⟨P3, e3, t3, q3⟩ := h5.leads hI1 hV c0.1 c0.2 (i := i) (by omega) (by omega)
    have x3 := x1.qf hI1 hne q3
    obtain ⟨P4, e4, t4, q4⟩ := t3.leads q3.iv hV c0.1 c0.2 (i := i + 1) (by omega) (by omega)
    have r3 := rBS_rg hV (c := c) (i := i)
    have r4 := rBS_rg hV (c := c) (i := i + 1)
    have hn := hV.nR
    have h7 := (h6.trans hI q3).trans hI q4
    simp (disch := omega) only [show (i : Int) + 1 - 1 = i by omega, ↓x1.gm, e3, ↓x3.gm, e4, z_add, z_sub, z_mul, z_neg, zlt, zle, zeq, zne, l0, l1, l2, l3, l4, l5, l6, l7, l8, l9, l10, l11, l16, l17, l20, l24, l32, l37, l47, l57, l60, l67, l77, l97, l99, l122, l48, l57, l100, l237, l397, l600, l900, l880, l9998, l9999, bnd, xcI_rI, xcV_rV, xcR_rR, zb0, zb1, nz0, nz1, nar_z0, nar_z1, nar_b2, ↓reduceIte, ↓xnul_s, ↓xnul_n, xcst_n, List.set_cons_zero, List.set_cons_succ]
    refine ok_ite (fun c2 => ?_) fun c2 => ?_
    · exact hst _ _ (by rw [sumS, b2, if_neg (by omega)]) t4 h7 (by omega)
    · refine ok_ite (fun c3 => ?_) fun c3 => ?_
      · exact hst _ _ (by rw [sumS, b2, if_neg (by omega)]) t4 h7 (by omega)
      · refine ok_ite (fun c4 => ?_) fun c4 => ?_
        · exact hst _ _ (by rw [sumS, b2, if_neg (by omega)]) t4 h7 (by omega)
        · exact hst _ _ (by rw [sumS, b2, if_pos (by omega)]) t4 h7 (by omega)
  · rw [b2_f' c0, if_pos (by decide), if_neg c0, nb' c0]
    exact op_no (w := 1) hx hI hM
end

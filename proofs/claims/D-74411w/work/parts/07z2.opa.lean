/-! QUERIES WITHOUT LOOPS -/
set_option maxRecDepth 100000
def vSplit (R : Nat → Int) (a i k : Int) : Int := if rSp R a i = -2 then -2 else if k = 0 then rSp R a i else if k = 1 then pSp R (rCrs R a) i (rSp R a i) else rSp R a i - rSp R (rBS R (rCrs R a) i) i
noncomputable def vLeg (R : Nat → Int) (a i k : Int) : Int := if rLg R a i = -2 then -2 else if k = 0 then rLg R a i else if k = 1 then pLg R (rCrs R a) i (rLg R a i) else if k = 2 then rLost R a i else rMk R a i
def vBest (R : Nat → Int) (c i k : Int) : Int := if k = 0 then rBL R c i else rBR R c i
theorem rBS_some {R : Nat → Int} (hV : RV R) {a i : Int} (ha : 0 ≤ a) (ha' : a < R 1) (h : rSp R a i ≠ -2) : 0 ≤ rBS R (rCrs R a) i ∧ rBS R (rCrs R a) i < R 1 ∧ rCrs R (rBS R (rCrs R a) i) = rCrs R a ∧ rSp R (rBS R (rCrs R a) i) i ≠ -2 := by
  have h1 := hV.nR
  have e : ((a.toNat : Nat) : Int) = a := by omega
  have h2 := (amin_le (vSp R (rCrs R a) i) (n := (R 1).toNat) (i := a.toNat) (by omega) (by unfold vSp; rw [e, if_pos rfl]; exact h)).1
  rcases rBS_rg hV (c := rCrs R a) (i := i) with h3 | h3
  · exact absurd h3 h2
  · exact h3
section
variable {n x : Nat} {P : PH} {g : GX} {mo : Option Nat} {cs rs : List Nat} {R : Nat → Int} {N : Nat → List Int32}
abbrev i32 (a : Int) : Prop := -2147483648 ≤ a ∧ a < 2147483648
theorem nb {p : Prop} [Decidable p] (h : p) : b2 (¬ p) = 0 := b2_f' fun e => e h
theorem nb' {p : Prop} [Decidable p] (h : ¬ p) : b2 (¬ p) = 1 := b2_t' h
theorem Qy.u {m k : Nat} {K : Option (xO × PH)} {v : Int} (h : Qy n m cs rs R N k P K v) (hI : Iv P) (hx : CX P x g (some m)) (hM : MRep n P m cs rs R N) : ∃ P', K = rI (z v) P' ∧ MRep n P' m cs rs R N ∧ QF m k P P' ∧ CX P' x g (some m) ∧ Iv P' := by
  obtain ⟨P', e, h1, h2⟩ := h
  exact ⟨P', e, h1, h2, hx.qf hI (hx.ne hM) h2, h2.iv⟩
theorem X_code (hx : CX P x g mo) (hI : Iv P) (hM : MO n P mo cs rs R N) (hV : RV R) {c i : Int} (hc : i32 c) (hi : i32 i) : Oq n P x g mo cs rs R N 0 (f_X1_code P x (z c) (z i)) (if (0 ≤ c ∧ c < R 0) ∧ 0 ≤ i ∧ i < rLen R c then rCode R c i else -1) (b2 (¬ ((0 ≤ c ∧ c < R 0) ∧ 0 ≤ i ∧ i < rLen R c))) := by
  unfold f_X1_code
  rw [hx.cl, X_isControl hx hM hV hc hi, xcI_rI]
  by_cases c1 : (0 ≤ c ∧ c < R 0) ∧ 0 ≤ i ∧ i < rLen R c
  · obtain ⟨m, rfl, hM'⟩ := hM.get (by omega)
    obtain ⟨cl, rl, mo, hcm, hcz, hrz, hcg, hrg⟩ := hM'.at
    obtain ⟨y, hy, hyc⟩ := hM'.crs c1.1.1 c1.1.2
    obtain ⟨s, pl, ps, q0, q1, q⟩ := id hyc
    have hl := hV.len c1.1.1 c1.1.2
    rw [b2_t' c1, if_pos c1, nb c1, if_neg (by decide), hx.gm, xnul_s, xgR_s hcm rfl, xnul_s, hcg c y c1.1.1 c1.1.2 hy, xcR_rR, xcst_s q1 (by decide), xnul_s, hyc.code c1.2.1 c1.2.2, xcI_rI]
    exact op_yes hx hI hM' (QF.rf hI) (hx.ne hM')
  · rw [b2_f' c1, if_pos (by decide), if_neg c1, nb' c1]
    exact op_no (w := 1) hx hI hM
theorem X_leads (hx : CX P x g mo) (hI : Iv P) (hM : MO n P mo cs rs R N) (hV : RV R) {c i : Int} (hc : i32 c) (hi : i32 i) : Oq n P x g mo cs rs R N 0 (f_X1_leads P x (z c) (z i)) (if (0 ≤ c ∧ c < R 0) ∧ 0 ≤ i ∧ i ≤ rLen R c then rBS R c i else -1) (b2 (¬ ((0 ≤ c ∧ c < R 0) ∧ 0 ≤ i ∧ i ≤ rLen R c))) := by
  unfold f_X1_leads
  rw [hx.cl, X_isPoint hx hM hV hc hi, xcI_rI]
  by_cases c1 : (0 ≤ c ∧ c < R 0) ∧ 0 ≤ i ∧ i ≤ rLen R c
  · obtain ⟨m, rfl, hM'⟩ := hM.get (by omega)
    obtain ⟨P1, e1, h1, q1, x1, I1⟩ := (hM'.leads hI hV c1.1.1 c1.1.2 c1.2.1 c1.2.2).u hI hx hM'
    rw [b2_t' c1, if_pos c1, nb c1, if_neg (by decide), hx.gm, xnul_s, e1, xcI_rI]
    exact op_yes hx hI h1 q1 (hx.ne hM')
  · rw [b2_f' c1, if_pos (by decide), if_neg c1, nb' c1]
    exact op_no (w := 1) hx hI hM
theorem X_clean (hx : CX P x g mo) (hI : Iv P) (hn : n ≤ P.2.1) (hM : MO n P mo cs rs R N) (hV : RV R) {a : Int} (ha : i32 a) : Oq n P x g mo cs rs R N 100 (f_X1_clean P x (z a)) (if 0 ≤ a ∧ a < R 1 then rCl R a else -1) (b2 (¬ (0 ≤ a ∧ a < R 1))) := by
  unfold f_X1_clean
  rw [hx.cl, X_isRunner hx hM hV ha, xcI_rI]
  by_cases c1 : 0 ≤ a ∧ a < R 1
  · obtain ⟨m, rfl, hM'⟩ := hM.get (by omega)
    obtain ⟨P1, e1, h1, q1, x1, I1⟩ := (hM'.clean hI hn hV c1.1 c1.2).u hI hx hM'
    rw [b2_t' c1, if_pos c1, nb c1, if_neg (by decide), hx.gm, xnul_s, e1, xcI_rI]
    exact op_yes hx hI h1 q1 (hx.ne hM')
  · rw [b2_f' c1, if_pos (by decide), if_neg c1, nb' c1]
    exact op_no (w := 1) hx hI hM
theorem X_best (hx : CX P x g mo) (hI : Iv P) (hM : MO n P mo cs rs R N) (hV : RV R) {c i k : Int} (hc : i32 c) (hi : i32 i) (hk : i32 k) : Oq n P x g mo cs rs R N 0 (f_X1_best P x (z c) (z i) (z k)) (if ((0 ≤ c ∧ c < R 0) ∧ 0 ≤ i ∧ i ≤ rLen R c) ∧ 0 ≤ k ∧ k ≤ 1 then vBest R c i k else -1) (b2 (¬ (((0 ≤ c ∧ c < R 0) ∧ 0 ≤ i ∧ i ≤ rLen R c) ∧ 0 ≤ k ∧ k ≤ 1))) := by
  unfold f_X1_best f_X1_best_18
  rw [hx.cl, X_isPoint hx hM hV hc hi, xcI_rI]
  by_cases c1 : (0 ≤ c ∧ c < R 0) ∧ 0 ≤ i ∧ i ≤ rLen R c
  · rw [b2_t' c1, if_neg (by decide), l1, show (0 : Int32) = z 0 from rfl, X_isIn_z hk (by omega) (by omega), xcI_rI]
    by_cases c2 : 0 ≤ k ∧ k ≤ 1
    · obtain ⟨m, rfl, hM'⟩ := hM.get (by omega)
      rw [b2_t' c2, if_pos (And.intro c1 c2), nb (And.intro c1 c2), if_neg (by decide), hx.gm]
      simp (disch := omega) only [zeq]
      unfold vBest
      by_cases c3 : k = 0
      · obtain ⟨P1, e1, h1, q1, x1, I1⟩ := (hM'.best hI hV c1.1.1 c1.1.2 c1.2.1 c1.2.2).u hI hx hM'
        rw [if_pos c3, if_pos c3, xnul_s, e1, xcI_rI]
        exact op_yes hx hI h1 q1 (hx.ne hM')
      · obtain ⟨P1, e1, h1, q1, x1, I1⟩ := (hM'.fastest hI hV c1.1.1 c1.1.2 c1.2.1 c1.2.2).u hI hx hM'
        rw [if_neg c3, if_neg c3, hx.gm, xnul_s, e1, xcI_rI]
        exact op_yes hx hI h1 q1 (hx.ne hM')
    · rw [b2_f' c2, if_pos (by decide), if_neg (fun h : _ ∧ _ => c2 h.2), nb' (fun h : _ ∧ _ => c2 h.2)]
      exact op_no (w := 1) hx hI hM
  · rw [b2_f' c1, if_pos (by decide), if_neg (fun h : _ ∧ _ => c1 h.1), nb' (fun h : _ ∧ _ => c1 h.1)]
    exact op_no (w := 1) hx hI hM
theorem X_split (hx : CX P x g mo) (hI : Iv P) (hM : MO n P mo cs rs R N) (hV : RV R) {a i k : Int} (ha : i32 a) (hi : i32 i) (hk : i32 k) : Oq n P x g mo cs rs R N 0 (f_X1_split P x (z a) (z i) (z k)) (if ((0 ≤ a ∧ a < R 1) ∧ 0 ≤ i ∧ i ≤ rLen R (rCrs R a)) ∧ 0 ≤ k ∧ k ≤ 2 then vSplit R a i k else -1) (b2 (¬ (((0 ≤ a ∧ a < R 1) ∧ 0 ≤ i ∧ i ≤ rLen R (rCrs R a)) ∧ 0 ≤ k ∧ k ≤ 2))) := by
  unfold f_X1_split f_X1_split_18
  rw [hx.cl, X_isRunnersPoint hx hM hV ha hi, xcI_rI]
  by_cases c1 : (0 ≤ a ∧ a < R 1) ∧ 0 ≤ i ∧ i ≤ rLen R (rCrs R a)
  · rw [b2_t' c1, if_neg (by decide), l2, show (0 : Int32) = z 0 from rfl, X_isIn_z hk (by omega) (by omega), xcI_rI]
    by_cases c2 : 0 ≤ k ∧ k ≤ 2
    · obtain ⟨m, rfl, hM'⟩ := hM.get (by omega)
      have hne := hx.ne hM'
      have hcr := hV.crs c1.1.1 c1.1.2
      have hsr := rSp_rg hV (i := i) c1.1.1 c1.1.2
      rw [b2_t' c2, if_pos (And.intro c1 c2), nb (And.intro c1 c2), if_neg (by decide), hx.gm, xnul_s]
      obtain ⟨P1, y1, e1, e1', h1, q1⟩ := hM'.msplit hI hV c1.1.1 c1.1.2 c1.2.1 c1.2.2
      have x1 := hx.qf hI hne q1
      rw [e1, xcR_rR, xnul_s, e1', xcI_rI, z_neg]
      simp (disch := omega) only [zeq]
      unfold vSplit
      by_cases c3 : rSp R a i = -2
      · rw [if_pos c3, if_pos c3]
        exact op_yes hx hI h1 q1 hne
      · rw [if_neg c3, if_neg c3]
        obtain ⟨cl, rl, mm, hcm, hcz, hrz, hcg, hrg⟩ := h1.at
        obtain ⟨y, hy, hyc⟩ := h1.run c1.1.1 c1.1.2
        obtain ⟨s, pl, ps, r0, r1, r2⟩ := id hyc
        obtain ⟨P2, e2, h2, q2, x2, I2⟩ := (h1.leads q1.iv hV hcr.1 hcr.2 c1.2.1 c1.2.2).u q1.iv x1 h1
        have q12 := q1.trans hI q2
        rw [x1.gm, x1.gm, xnul_s, xgR_s hcm rfl, xnul_s, hrg a y c1.1.1 c1.1.2 hy, xcR_rR, xcst_s r1 (by decide), xnul_s, xgI_s r1 rfl, xnul_s, e2, xcI_rI, x2.gm]
        by_cases c4 : k = 0
        · rw [if_pos c4, if_pos c4]
          exact op_yes hx hI h2 q12 hne
        · rw [if_neg c4, if_neg c4, l1]
          simp (disch := omega) only [zeq]
          by_cases c5 : k = 1
          · obtain ⟨P3, e3, h3, q3, x3, I3⟩ := (h2.placeS I2 hV c1.1.1 c1.1.2 c1.2.1 c1.2.2).u I2 x2 h2
            rw [if_pos c5, if_pos c5, xnul_s, e3, xcI_rI]
            exact op_yes hx hI h3 (q12.trans hI q3) hne
          · have hb := rBS_some hV c1.1.1 c1.1.2 c3
            obtain ⟨P3, y3, e3, e3', h3, q3⟩ := h2.msplit I2 hV hb.1 hb.2.1 c1.2.1 (by rw [hb.2.2.1]; exact c1.2.2)
            rw [if_neg c5, if_neg c5, x2.gm, xnul_s, e3, xcR_rR, xnul_s, e3', xcI_rI, z_sub]
            exact op_yes hx hI h3 (q12.trans hI q3) hne
    · rw [b2_f' c2, if_pos (by decide), if_neg (fun h : _ ∧ _ => c2 h.2), nb' (fun h : _ ∧ _ => c2 h.2)]
      exact op_no (w := 1) hx hI hM
  · rw [b2_f' c1, if_pos (by decide), if_neg (fun h : _ ∧ _ => c1 h.1), nb' (fun h : _ ∧ _ => c1 h.1)]
    exact op_no (w := 1) hx hI hM
theorem X_leg (hx : CX P x g mo) (hI : Iv P) (hn : n ≤ P.2.1) (hM : MO n P mo cs rs R N) (hV : RV R) {a i k : Int} (ha : i32 a) (hi : i32 i) (hk : i32 k) : Oq n P x g mo cs rs R N 100 (f_X1_leg P x (z a) (z i) (z k)) (if ((0 ≤ a ∧ a < R 1) ∧ 0 ≤ i ∧ i ≤ rLen R (rCrs R a)) ∧ 0 ≤ k ∧ k ≤ 3 then vLeg R a i k else -1) (b2 (¬ (((0 ≤ a ∧ a < R 1) ∧ 0 ≤ i ∧ i ≤ rLen R (rCrs R a)) ∧ 0 ≤ k ∧ k ≤ 3))) := by
  unfold f_X1_leg f_X1_leg_18
  rw [hx.cl, X_isRunnersPoint hx hM hV ha hi, xcI_rI]
  by_cases c1 : (0 ≤ a ∧ a < R 1) ∧ 0 ≤ i ∧ i ≤ rLen R (rCrs R a)
  · rw [b2_t' c1, if_neg (by decide), l3, show (0 : Int32) = z 0 from rfl, X_isIn_z hk (by omega) (by omega), xcI_rI]
    by_cases c2 : 0 ≤ k ∧ k ≤ 3
    · obtain ⟨m, rfl, hM'⟩ := hM.get (by omega)
      have hne := hx.ne hM'
      have hsr := rLg_rg hV (i := i) c1.1.1 c1.1.2 c1.2.1 c1.2.2
      rw [b2_t' c2, if_pos (And.intro c1 c2), nb (And.intro c1 c2), if_neg (by decide), hx.gm, xnul_s]
      obtain ⟨P1, y1, e1, e1', h1, q1⟩ := hM'.mleg hI hV c1.1.1 c1.1.2 c1.2.1 c1.2.2
      have x1 := hx.qf hI hne q1
      rw [e1, xcR_rR, xnul_s, e1', xcI_rI, show (-2 : Int32) = z (-2) from rfl, l1, l2]
      simp (disch := omega) only [zeq]
      unfold vLeg
      by_cases c3 : rLg R a i = -2
      · rw [if_pos c3, if_pos c3]
        exact (op_yes hx hI h1 q1 hne).mono (by omega)
      · rw [if_neg c3, if_neg c3]
        by_cases c4 : k = 0
        · rw [if_pos c4, if_pos c4]
          exact (op_yes hx hI h1 q1 hne).mono (by omega)
        · rw [if_neg c4, if_neg c4]
          by_cases c5 : k = 1
          · obtain ⟨P3, e3, h3, q3, x3, I3⟩ := (h1.placeL q1.iv hV c1.1.1 c1.1.2 c1.2.1 c1.2.2).u q1.iv x1 h1
            rw [if_pos c5, if_pos c5, x1.gm, xnul_s, e3, xcI_rI]
            exact (op_yes hx hI h3 (q1.trans hI q3) hne).mono (by omega)
          · rw [if_neg c5, if_neg c5]
            by_cases c6 : k = 2
            · obtain ⟨P3, e3, h3, q3, x3, I3⟩ := (h1.lost q1.iv hV c1.1.1 c1.1.2 c1.2.1 c1.2.2).u q1.iv x1 h1
              rw [if_pos c6, if_pos c6, x1.gm, xnul_s, e3, xcI_rI]
              exact (op_yes hx hI h3 (q1.trans hI q3) hne).mono (by omega)
            · obtain ⟨P2, po, e2, q2, h2, hpo⟩ := h1.paceO q1.iv (Nat.le_trans hn q1.1.next) hV c1.1.1 c1.1.2
              have x2 := x1.qf q1.iv hne q2
              obtain ⟨P3, e3, h3, q3, x3, I3⟩ := (h2.mistake q2.iv hV c1.1.1 c1.1.2 c1.2.1 c1.2.2 hpo).u q2.iv x2 h2
              rw [if_neg c6, if_neg c6, x1.gm, x1.gm, xnul_s, e2, xcR_rR, xnul_s, e3, xcI_rI]
              exact (op_yes hx hI h3 ((q1.trans hI q2).trans hI q3) hne).mono (by omega)
    · rw [b2_f' c2, if_pos (by decide), if_neg (fun h : _ ∧ _ => c2 h.2), nb' (fun h : _ ∧ _ => c2 h.2)]
      exact op_no (w := 1) hx hI hM
  · rw [b2_f' c1, if_pos (by decide), if_neg (fun h : _ ∧ _ => c1 h.1), nb' (fun h : _ ∧ _ => c1 h.1)]
    exact op_no (w := 1) hx hI hM
end

/-! .. THE TWIN's -/
set_option maxRecDepth 100000
/-- the twin answers v, its trouble is w -/
def To (s : TS) (K : Option (xO × TS)) (v w : Int) : Prop := ∃ s', K = rI (z v) s' ∧ TQ (tF s (z w)) s'
theorem tw_0 {s : TS} {K1 K2 : TS → Option (xO × TS)} : (xcI (T_unless_2 s 0) fun x4 s3 => xcI (T_isRefused s3 x4) fun x6 s5 => if x6 = 0 then K1 s5 else K2 s5) = K2 (tF s (z 1)) := rfl
theorem tw_1 {s : TS} {K1 K2 : TS → Option (xO × TS)} : (xcI (T_unless_2 s 1) fun x4 s3 => xcI (T_isRefused s3 x4) fun x6 s5 => if x6 = 0 then K1 s5 else K2 s5) = K1 (tF s (z 0)) := rfl
theorem To.n1 {s : TS} {K : Option (xO × TS)} (h : K = rI (-1) (tF s (z 1))) : To s K (-1) 1 := ⟨_, h, TQ.rf⟩
theorem To.m {s s' : TS} {v w : Int} (h : TM (tF s (z w)) s') : To s (rI (z v) s') v w := ⟨_, rfl, h.q⟩
theorem To.q {s s' : TS} {v w : Int} (h : TQ (tF s (z w)) s') : To s (rI (z v) s') v w := ⟨_, rfl, h⟩
section
variable {s : TS} {R : Nat → Int}
theorem Tw_code (hR : TRep s R) (hV : RV R) {c i : Int} (hc : i32 c) (hi : i32 i) : To s (T_code s (z c) (z i)) (if (0 ≤ c ∧ c < R 0) ∧ 0 ≤ i ∧ i < rLen R c then rCode R c i else -1) (b2 (¬ ((0 ≤ c ∧ c < R 0) ∧ 0 ≤ i ∧ i < rLen R c))) := by
  unfold T_code
  rw [T_isControl_z hR hV hc hi, xcI_rI]
  by_cases c1 : (0 ≤ c ∧ c < R 0) ∧ 0 ≤ i ∧ i < rLen R c
  · have hl := hV.len c1.1.1 c1.1.2
    have h0 := hV.nC
    rw [b2_t' c1, if_pos c1, nb c1]
    refine Eq.mpr (congrArg (fun K => To s K _ _) tw_1) ?_
    rw [codeOf_z (tF_rep hR) (by omega) (by omega) (by omega) (by omega), xcI_rI]
    exact To.m TM.rf
  · rw [b2_f' c1, if_neg c1, nb' c1]
    exact To.n1 rfl
theorem Tw_leads (hR : TRep s R) (hV : RV R) {c i : Int} (hc : i32 c) (hi : i32 i) : To s (T_leads s (z c) (z i)) (if (0 ≤ c ∧ c < R 0) ∧ 0 ≤ i ∧ i ≤ rLen R c then rBS R c i else -1) (b2 (¬ ((0 ≤ c ∧ c < R 0) ∧ 0 ≤ i ∧ i ≤ rLen R c))) := by
  unfold T_leads
  rw [T_isPoint_z hR hV hc hi, xcI_rI]
  by_cases c1 : (0 ≤ c ∧ c < R 0) ∧ 0 ≤ i ∧ i ≤ rLen R c
  · rw [b2_t' c1, if_pos c1, nb c1]
    refine Eq.mpr (congrArg (fun K => To s K _ _) tw_1) ?_
    obtain ⟨s1, e1, t1⟩ := lead_z (tF_rep (w := z 0) hR) hV c1.1.1 c1.1.2 c1.2.1 c1.2.2
    rw [show (0 : Int32) = z 0 from rfl, e1, xcI_rI]
    exact To.m t1
  · rw [b2_f' c1, if_neg c1, nb' c1]
    exact To.n1 rfl
theorem Tw_clean (hR : TRep s R) (hV : RV R) {a : Int} (ha : i32 a) : To s (T_clean s (z a)) (if 0 ≤ a ∧ a < R 1 then rCl R a else -1) (b2 (¬ (0 ≤ a ∧ a < R 1))) := by
  unfold T_clean
  have h1 := hV.nR
  rw [isR_z hR h1.1 h1.2 ha.1 ha.2, xcI_rI]
  by_cases c1 : 0 ≤ a ∧ a < R 1
  · rw [b2_t' c1, if_pos c1, nb c1]
    refine Eq.mpr (congrArg (fun K => To s K _ _) tw_1) ?_
    obtain ⟨s1, e1, t1⟩ := cleanOf_z (tF_rep (w := z 0) hR) hV c1.1 c1.2
    rw [e1, xcI_rI]
    exact To.q t1
  · rw [b2_f' c1, if_neg c1, nb' c1]
    exact To.n1 rfl
theorem Tw_best (hR : TRep s R) (hV : RV R) {c i k : Int} (hc : i32 c) (hi : i32 i) (hk : i32 k) : To s (T_best s (z c) (z i) (z k)) (if ((0 ≤ c ∧ c < R 0) ∧ 0 ≤ i ∧ i ≤ rLen R c) ∧ 0 ≤ k ∧ k ≤ 1 then vBest R c i k else -1) (b2 (¬ (((0 ≤ c ∧ c < R 0) ∧ 0 ≤ i ∧ i ≤ rLen R c) ∧ 0 ≤ k ∧ k ≤ 1))) := by
  unfold T_best
  rw [T_isPoint_z hR hV hc hi, xcI_rI]
  by_cases c1 : (0 ≤ c ∧ c < R 0) ∧ 0 ≤ i ∧ i ≤ rLen R c
  · rw [b2_t' c1, if_neg (by decide), l1, show (0 : Int32) = z 0 from rfl, T_in_z s (a := k) (b := 0) (c := 1) hk ⟨by decide, by decide⟩ ⟨by decide, by decide⟩, xcI_rI]
    by_cases c2 : 0 ≤ k ∧ k ≤ 1
    · rw [b2_t' c2, if_neg (by decide), if_pos (And.intro c1 c2), nb (And.intro c1 c2)]
      refine Eq.mpr (congrArg (fun K => To s K _ _) tw_1) ?_
      unfold vBest
      rw [show (0 : Int32) = z 0 from rfl, l1]
      simp (disch := omega) only [zeq]
      by_cases c3 : k = 0
      · obtain ⟨s1, e1, t1⟩ := bestLeg_z (tF_rep (w := z 0) hR) hV c1.1.1 c1.1.2 c1.2.1 c1.2.2
        rw [if_pos c3, if_pos c3, e1, xcI_rI]
        exact To.m t1
      · obtain ⟨s1, e1, t1⟩ := fast_z (tF_rep (w := z 0) hR) hV c1.1.1 c1.1.2 c1.2.1 c1.2.2
        rw [if_neg c3, if_neg c3, e1, xcI_rI]
        exact To.m t1
    · rw [b2_f' c2, if_pos (by decide), if_neg (fun h : _ ∧ _ => c2 h.2), nb' (fun h : _ ∧ _ => c2 h.2)]
      exact To.n1 rfl
  · rw [b2_f' c1, if_pos (by decide), if_neg (fun h : _ ∧ _ => c1 h.1), nb' (fun h : _ ∧ _ => c1 h.1)]
    exact To.n1 rfl
theorem Tw_split (hR : TRep s R) (hV : RV R) {a i k : Int} (ha : i32 a) (hi : i32 i) (hk : i32 k) : To s (T_split s (z a) (z i) (z k)) (if ((0 ≤ a ∧ a < R 1) ∧ 0 ≤ i ∧ i ≤ rLen R (rCrs R a)) ∧ 0 ≤ k ∧ k ≤ 2 then vSplit R a i k else -1) (b2 (¬ (((0 ≤ a ∧ a < R 1) ∧ 0 ≤ i ∧ i ≤ rLen R (rCrs R a)) ∧ 0 ≤ k ∧ k ≤ 2))) := by
  unfold T_split
  have hnr := hV.nR
  rw [T_isOwnPoint_z hR hV ha hi, xcI_rI]
  by_cases c1 : (0 ≤ a ∧ a < R 1) ∧ 0 ≤ i ∧ i ≤ rLen R (rCrs R a)
  · rw [b2_t' c1, if_neg (by decide), l2, show (0 : Int32) = z 0 from rfl, T_in_z s (a := k) (b := 0) (c := 2) hk ⟨by decide, by decide⟩ ⟨by decide, by decide⟩, xcI_rI]
    by_cases c2 : 0 ≤ k ∧ k ≤ 2
    · rw [b2_t' c2, if_neg (by decide), if_pos (And.intro c1 c2), nb (And.intro c1 c2)]
      refine Eq.mpr (congrArg (fun K => To s K _ _) tw_1) ?_
      have hcr := hV.crs c1.1.1 c1.1.2
      have hsr := rSp_rg hV (i := i) c1.1.1 c1.1.2
      obtain ⟨s1, e1, t1⟩ := sp_z (tF_rep (w := z 0) hR) hV c1.1.1 c1.1.2 (by omega) c1.2.2
      have R1 := t1.rep (tF_rep hR)
      rw [e1, xcI_rI]
      unfold vSplit
      rw [show (-2 : Int32) = z (-2) from rfl, show (0 : Int32) = z 0 from rfl, l1]
      simp (disch := omega) only [zeq]
      by_cases c3 : rSp R a i = -2
      · rw [if_pos c3, if_pos c3, ← c3]
        exact To.m t1
      · rw [if_neg c3, if_neg c3]
        by_cases c4 : k = 0
        · rw [if_pos c4, if_pos c4]
          exact To.m t1
        · rw [if_neg c4, if_neg c4]
          by_cases c5 : k = 1
          · obtain ⟨s2, e2, t2⟩ := placeSp_z R1 hV c1.1.1 c1.1.2 c1.2.1 c1.2.2
            rw [if_pos c5, if_pos c5, e2, xcI_rI]
            exact To.m (t1.trans t2)
          · have hb := rBS_some hV c1.1.1 c1.1.2 c3
            obtain ⟨s2, e2, t2⟩ := lead_z R1 hV hcr.1 hcr.2 c1.2.1 c1.2.2
            obtain ⟨s3, e3, t3⟩ := sp_z (t2.rep R1) hV hb.1 hb.2.1 (i := i) (by omega) (by rw [hb.2.2.1]; exact c1.2.2)
            rw [if_neg c5, if_neg c5]
            simp (disch := omega) only [z_add, z_sub, z_mul, z_neg, zlt, zle, zeq, zne, l0, l1, l2, l3, l4, l5, l6, l7, l8, l9, l10, l11, l16, l17, l20, l24, l32, l37, l47, l57, l60, l67, l77, l97, l99, l122, l48, l57, l100, l237, l397, l600, l900, l880, l9998, l9999, bnd, xcI_rI, xcV_rV, xcR_rR, zb0, zb1, nz0, nz1, nar_z0, nar_z1, nar_b2, ↓reduceIte, ald_crs R1, e2, e3]
            exact To.m (t1.trans (t2.trans t3))
    · rw [b2_f' c2, if_pos (by decide), if_neg (fun h : _ ∧ _ => c2 h.2), nb' (fun h : _ ∧ _ => c2 h.2)]
      exact To.n1 rfl
  · rw [b2_f' c1, if_pos (by decide), if_neg (fun h : _ ∧ _ => c1 h.1), nb' (fun h : _ ∧ _ => c1 h.1)]
    exact To.n1 rfl
theorem Tw_leg (hR : TRep s R) (hV : RV R) {a i k : Int} (ha : i32 a) (hi : i32 i) (hk : i32 k) : To s (T_leg s (z a) (z i) (z k)) (if ((0 ≤ a ∧ a < R 1) ∧ 0 ≤ i ∧ i ≤ rLen R (rCrs R a)) ∧ 0 ≤ k ∧ k ≤ 3 then vLeg R a i k else -1) (b2 (¬ (((0 ≤ a ∧ a < R 1) ∧ 0 ≤ i ∧ i ≤ rLen R (rCrs R a)) ∧ 0 ≤ k ∧ k ≤ 3))) := by
  unfold T_leg
  have hnr := hV.nR
  rw [T_isOwnPoint_z hR hV ha hi, xcI_rI]
  by_cases c1 : (0 ≤ a ∧ a < R 1) ∧ 0 ≤ i ∧ i ≤ rLen R (rCrs R a)
  · rw [b2_t' c1, if_neg (by decide), l3, show (0 : Int32) = z 0 from rfl, T_in_z s (a := k) (b := 0) (c := 3) hk ⟨by decide, by decide⟩ ⟨by decide, by decide⟩, xcI_rI]
    by_cases c2 : 0 ≤ k ∧ k ≤ 3
    · rw [b2_t' c2, if_neg (by decide), if_pos (And.intro c1 c2), nb (And.intro c1 c2)]
      refine Eq.mpr (congrArg (fun K => To s K _ _) tw_1) ?_
      have hcr := hV.crs c1.1.1 c1.1.2
      have hsr := rLg_rg hV (i := i) c1.1.1 c1.1.2 c1.2.1 c1.2.2
      obtain ⟨s1, e1, t1⟩ := lg_z (tF_rep (w := z 0) hR) hV c1.1.1 c1.1.2 c1.2.1 c1.2.2
      have R1 := t1.rep (tF_rep hR)
      rw [e1, xcI_rI]
      unfold vLeg
      rw [show (-2 : Int32) = z (-2) from rfl, show (0 : Int32) = z 0 from rfl, l1, l2]
      simp (disch := omega) only [zeq]
      by_cases c3 : rLg R a i = -2
      · rw [if_pos c3, if_pos c3, ← c3]
        exact To.m t1
      · rw [if_neg c3, if_neg c3]
        by_cases c4 : k = 0
        · rw [if_pos c4, if_pos c4]
          exact To.m t1
        · rw [if_neg c4, if_neg c4]
          by_cases c5 : k = 1
          · obtain ⟨s2, e2, t2⟩ := placeLg_z R1 hV c1.1.1 c1.1.2 c1.2.1 c1.2.2
            rw [if_pos c5, if_pos c5, e2, xcI_rI]
            exact To.m (t1.trans t2)
          · rw [if_neg c5, if_neg c5]
            by_cases c6 : k = 2
            · obtain ⟨s2, e2, t2⟩ := bestLeg_z R1 hV hcr.1 hcr.2 c1.2.1 c1.2.2
              rw [if_pos c6, if_pos c6, rLost, if_neg c3]
              simp (disch := omega) only [z_add, z_sub, z_mul, z_neg, zlt, zle, zeq, zne, l0, l1, l2, l3, l4, l5, l6, l7, l8, l9, l10, l11, l16, l17, l20, l24, l32, l37, l47, l57, l60, l67, l77, l97, l99, l122, l48, l57, l100, l237, l397, l600, l900, l880, l9998, l9999, bnd, xcI_rI, xcV_rV, xcR_rR, zb0, zb1, nz0, nz1, nar_z0, nar_z1, nar_b2, ↓reduceIte, ald_crs R1, e2]
              exact To.m (t1.trans t2)
            · obtain ⟨s2, e2, t2⟩ := mistakeOf_z R1 hV c1.1.1 c1.1.2 c1.2.1 c1.2.2
              rw [if_neg c6, if_neg c6, e2, xcI_rI]
              exact To.q (t1.q.trans t2)
    · rw [b2_f' c2, if_pos (by decide), if_neg (fun h : _ ∧ _ => c2 h.2), nb' (fun h : _ ∧ _ => c2 h.2)]
      exact To.n1 rfl
  · rw [b2_f' c1, if_pos (by decide), if_neg (fun h : _ ∧ _ => c1 h.1), nb' (fun h : _ ∧ _ => c1 h.1)]
    exact To.n1 rfl
end

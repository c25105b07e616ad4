/-! .. THE TWIN's -/
set_option maxRecDepth 100000
section
variable {s : TS} {R : Nat → Int}
theorem Tw_punch (hR : TRep s R) (hV : RV R) {a i k : Int} (ha : i32 a) (hi : i32 i) (hk : i32 k) : To s (T_punch s (z a) (z i) (z k)) (if ((0 ≤ a ∧ a < R 1) ∧ 0 ≤ i ∧ i < rNp R a) ∧ 0 ≤ k ∧ k ≤ 2 then vPunch R a i k else -1) (b2 (¬ (((0 ≤ a ∧ a < R 1) ∧ 0 ≤ i ∧ i < rNp R a) ∧ 0 ≤ k ∧ k ≤ 2))) := by
  unfold T_punch
  have hnr := hV.nR
  have hnc := hV.nC
  rw [T_isPunch_z hR hV ha hi, xcI_rI]
  by_cases c1 : (0 ≤ a ∧ a < R 1) ∧ 0 ≤ i ∧ i < rNp R a
  · rw [b2_t' c1, if_neg (by decide), l2, show (0 : Int32) = z 0 from rfl, T_in_z s (a := k) (b := 0) (c := 2) hk ⟨by decide, by decide⟩ ⟨by decide, by decide⟩, xcI_rI]
    by_cases c2 : 0 ≤ k ∧ k ≤ 2
    · rw [b2_t' c2, if_neg (by decide), if_pos (And.intro c1 c2), nb (And.intro c1 c2)]
      refine Eq.mpr (congrArg (fun K => To s K _ _) tw_1) ?_
      have hnp := hV.np c1.1.1 c1.1.2
      have hcr := hV.crs c1.1.1 c1.1.2
      have hl := hV.len hcr.1 hcr.2
      have R0 : TRep (tF s (z 0)) R := tF_rep hR
      unfold vPunch
      rw [show (0 : Int32) = z 0 from rfl, l2]
      simp (disch := omega) only [zeq, zle]
      by_cases c3 : k = 0
      · rw [if_neg (by omega), if_pos c3, if_pos c3, pCode_z R0 c1.1.1 (by omega) c1.2.1 (by omega), xcI_rI]
        exact To.m TM.rf
      · by_cases c4 : k = 1
        · rw [if_neg (by omega), if_neg c3, if_neg c3, if_pos c4, pTime_z R0 c1.1.1 (by omega) c1.2.1 (by omega), xcI_rI]
          exact To.m TM.rf
        · rw [if_pos (by omega), if_neg c3, if_neg c4]
          obtain ⟨s1, e1, t1, k1⟩ := missedBy_z R0 hV c1.1.1 c1.1.2
          have hR1 := t1.rep R0
          rw [e1, xcI_rI]
          apply ok_to
          obtain ⟨L, hL⟩ : ∃ L : Nat, rLen R (rCrs R a) = L := ⟨_, (Int.toNat_of_nonneg (by omega)).symm⟩
          rw [hL, Int.toNat_natCast]
          refine ok_lpn (fun d p => ∃ o : Nat, p = (z a, z i, z o, s1) ∧ d = L - o ∧ o ≤ L ∧ rTs R a i L 0 = rTs R a i (L - o) o) ?_ FU _ _ ⟨0, rfl, rfl, Nat.zero_le _, rfl⟩ (by simp only [FU]; omega)
          rintro kk d p ⟨o, rfl, rfl, h4, h5⟩ hk
          simp (disch := omega) only [T_punch_69F, z_add, z_sub, z_mul, z_neg, zlt, zle, zeq, zne, l0, l1, l2, l3, l4, l5, l6, l7, l8, l9, l10, l11, l16, l17, l20, l24, l32, l37, l47, l57, l60, l67, l77, l97, l99, l122, l48, l57, l100, l237, l397, l600, l900, l880, l9998, l9999, bnd, xcI_rI, xcV_rV, xcR_rR, zb0, zb1, nz0, nz1, nar_z0, nar_z1, nar_b2, ↓reduceIte, T_cell_z, ald19, ast19, ald20, ast20, ald21, ast21, ald22, ast22, ald25, ast25, ald26, ast26, (ald_nC hR1), (ald_nR hR1), (ald_gap hR1), (ald_slk hR1), (ald_len hR1), (ald_crs hR1), (ald_st hR1), (ald_fi hR1), (ald_np hR1), (codeOf_z hR1), (pCode_z hR1), (pTime_z hR1), (total_z hR1), (isC_z hR1), (isR_z hR1), hL]
          refine ok_ite (fun d1 => ?_) fun d1 => ?_
          · refine ok_rI.mpr ⟨?_, t1.q⟩
            rw [h5, show L - o = 0 by omega]
            rfl
          · have hg := k1 o (by omega)
            have hr := rTk_rg hV (c := rCrs R a) c1.1.1 c1.1.2 o
            obtain ⟨d, hd⟩ : ∃ d, L - o = d + 1 := ⟨L - o - 1, by omega⟩
            rw [hd, rTs] at h5
            simp (disch := omega) only [z_add, z_sub, z_mul, z_neg, zlt, zle, zeq, zne, l0, l1, l2, l3, l4, l5, l6, l7, l8, l9, l10, l11, l16, l17, l20, l24, l32, l37, l47, l57, l60, l67, l77, l97, l99, l122, l48, l57, l100, l237, l397, l600, l900, l880, l9998, l9999, bnd, xcI_rI, xcV_rV, xcR_rR, zb0, zb1, nz0, nz1, nar_z0, nar_z1, nar_b2, ↓reduceIte, T_cell_z, ald19, ast19, ald20, ast20, ald21, ast21, ald22, ast22, ald25, ast25, ald26, ast26, Int.toNat_natCast, hg]
            refine ok_ite (fun d2 => ?_) fun d2 => ?_
            · exact ok_rI.mpr ⟨by rw [h5, if_pos d2], t1.q⟩
            · refine hk _ _ ?_ ⟨o + 1, rfl, rfl, by omega, ?_⟩
              · omega
              · rw [h5, if_neg d2, show L - (o + 1) = d by omega]
    · rw [b2_f' c2, if_pos (by decide), if_neg (fun h : _ ∧ _ => c2 h.2), nb' (fun h : _ ∧ _ => c2 h.2)]
      exact To.n1 rfl
  · rw [b2_f' c1, if_pos (by decide), if_neg (fun h : _ ∧ _ => c1 h.1), nb' (fun h : _ ∧ _ => c1 h.1)]
    exact To.n1 rfl
theorem Tw_without (hR : TRep s R) (hV : RV R) {c i k : Int} (hc : i32 c) (hi : i32 i) (hk : i32 k) : To s (T_without s (z c) (z i) (z k)) (if ((0 ≤ c ∧ c < R 0) ∧ 0 ≤ i ∧ i ≤ rLen R c) ∧ 0 ≤ k ∧ k ≤ 1 then (if k = 0 then (vWo R c i (R 1).toNat).1 else (vWo R c i (R 1).toNat).2) else -1) (b2 (¬ (((0 ≤ c ∧ c < R 0) ∧ 0 ≤ i ∧ i ≤ rLen R c) ∧ 0 ≤ k ∧ k ≤ 1))) := by
  unfold T_without
  have hnr := hV.nR
  have hnc := hV.nC
  rw [T_isPoint_z hR hV hc hi, xcI_rI]
  by_cases c1 : (0 ≤ c ∧ c < R 0) ∧ 0 ≤ i ∧ i ≤ rLen R c
  · rw [b2_t' c1, if_neg (by decide), l1, show (0 : Int32) = z 0 from rfl, T_in_z s (a := k) (b := 0) (c := 1) hk ⟨by decide, by decide⟩ ⟨by decide, by decide⟩, xcI_rI]
    by_cases c2 : 0 ≤ k ∧ k ≤ 1
    · rw [b2_t' c2, if_neg (by decide), if_pos (And.intro c1 c2), nb (And.intro c1 c2)]
      refine Eq.mpr (congrArg (fun K => To s K _ _) tw_1) ?_
      apply ok_to
      generalize hj : i = j at *
      refine ok_lpn (fun d p => ∃ (i : Nat) (s1 : TS), p = (z c, z j, z k, z ((vWo R c j i).1), z ((vWo R c j i).2), z i, s1) ∧ d = (R 1).toNat - i ∧ (i : Int) ≤ R 1 ∧ TQ (tF s (z 0)) s1) ?_ FU _ _ ⟨0, tF s (z 0), rfl, rfl, by omega, TQ.rf⟩ (by simp only [FU]; omega)
      rintro kk d p ⟨i, s1, rfl, rfl, h4, h5⟩ hk
      have hR1 := h5.rep (tF_rep hR)
      have hst : ∀ (v0 v1 : Int) (s2 : TS), v0 = (vWo R c j (i + 1)).1 → v1 = (vWo R c j (i + 1)).2 → TQ (tF s (z 0)) s2 → (i : Int) < R 1 → OK (kk (z c, z j, z k, z v0, z v1, z ((i : Int) + 1), s2)) _ := fun v0 v1 s2 ev0 ev1 t2 hl => hk _ _ (by omega) ⟨i + 1, s2, (by rw [ev0, ev1]; rfl), rfl, by omega, t2⟩
      simp (disch := omega) only [T_without_46F, T_without_110, T_without_118, z_add, z_sub, z_mul, z_neg, zlt, zle, zeq, zne, l0, l1, l2, l3, l4, l5, l6, l7, l8, l9, l10, l11, l16, l17, l20, l24, l32, l37, l47, l57, l60, l67, l77, l97, l99, l122, l48, l57, l100, l237, l397, l600, l900, l880, l9998, l9999, bnd, xcI_rI, xcV_rV, xcR_rR, zb0, zb1, nz0, nz1, nar_z0, nar_z1, nar_b2, ↓reduceIte, T_cell_z, ald19, ast19, ald20, ast20, ald21, ast21, ald22, ast22, ald25, ast25, ald26, ast26, (ald_nC hR1), (ald_nR hR1), (ald_gap hR1), (ald_slk hR1), (ald_len hR1), (ald_crs hR1), (ald_st hR1), (ald_fi hR1), (ald_np hR1), (codeOf_z hR1), (pCode_z hR1), (pTime_z hR1), (total_z hR1), (isC_z hR1), (isR_z hR1)]
      refine ok_ite (fun c3 => ?_) fun c3 => ?_
      · have hi : i = (R 1).toNat := by omega
        subst hi
        by_cases c4 : k = 0
        · rw [if_pos c4, if_pos c4]
          exact ok_rI.mpr ⟨rfl, h5⟩
        · rw [if_neg c4, if_neg c4]
          exact ok_rI.mpr ⟨rfl, h5⟩
      · have hcr := hV.crs (a := i) (by omega) (by omega)
        have hw := vWo_rg hV (c := c) c1.2.1 c1.2.2 i h4
        simp (disch := omega) only [z_add, z_sub, z_mul, z_neg, zlt, zle, zeq, zne, l0, l1, l2, l3, l4, l5, l6, l7, l8, l9, l10, l11, l16, l17, l20, l24, l32, l37, l47, l57, l60, l67, l77, l97, l99, l122, l48, l57, l100, l237, l397, l600, l900, l880, l9998, l9999, bnd, xcI_rI, xcV_rV, xcR_rR, zb0, zb1, nz0, nz1, nar_z0, nar_z1, nar_b2, ↓reduceIte, T_cell_z, ald19, ast19, ald20, ast20, ald21, ast21, ald22, ast22, ald25, ast25, ald26, ast26]
        refine ok_ite (fun c4 => ?_) fun c4 => ?_
        · obtain ⟨s2, e2, t2⟩ := isValid_z hR1 hV (a := i) (by omega) (by omega)
          have hR2 := t2.rep hR1
          have hs := hV.st (a := i) (by omega) (by omega)
          have e3 := total_z hR2 (a := i) (by omega) (by omega)
          obtain ⟨s4, e4, t4⟩ := lg_z hR2 hV (a := i) (i := j) (by omega) (by omega) c1.2.1 (by rw [c4]; exact c1.2.2)
          have hl := rLg_rg hV (a := i) (i := j) (by omega) (by omega) c1.2.1 (by rw [c4]; exact c1.2.2)
          have h7 := h5.trans t2.q
          have h8 := h7.trans t4.q
          have ht : rFi R i - rSt R i = rTot R i := rfl
          simp (disch := omega) only [e2, e3, e4, z_add, z_sub, z_mul, z_neg, zlt, zle, zeq, zne, l0, l1, l2, l3, l4, l5, l6, l7, l8, l9, l10, l11, l16, l17, l20, l24, l32, l37, l47, l57, l60, l67, l77, l97, l99, l122, l48, l57, l100, l237, l397, l600, l900, l880, l9998, l9999, bnd, xcI_rI, xcV_rV, xcR_rR, zb0, zb1, nz0, nz1, nar_z0, nar_z1, nar_b2, ↓reduceIte, T_cell_z, ald19, ast19, ald20, ast20, ald21, ast21, ald22, ast22, ald25, ast25, ald26, ast26]
          rw [ht] at *
          refine ok_ite (fun c5 => ?_) fun c5 => ?_
          · have c5 : ¬ rVal R i := c5
            exact hst _ _ _ (by rw [vWo, if_neg (fun h => c5 h.1.2)]) (by rw [vWo, if_neg (fun h => c5 h.1.2)]) h7 (by omega)
          · have c5 : rVal R i := Decidable.not_not.mp c5
            refine ok_ite (fun c6 => ?_) fun c6 => ?_
            · have hv : vWo R c j (i + 1) = ((i : Int), rTot R i - rLg R i j) := by rw [vWo, if_pos ⟨⟨c4, c5⟩, Or.inl c6⟩]
              exact hst _ _ _ (by rw [hv]) (by rw [hv]) h8 (by omega)
            · refine ok_ite (fun c7 => ?_) fun c7 => ?_
              · have hv : vWo R c j (i + 1) = vWo R c j i := by rw [vWo, if_neg (fun h => h.2.elim c6 (by omega))]
                exact hst _ _ _ (by rw [hv]) (by rw [hv]) h8 (by omega)
              · have hv : vWo R c j (i + 1) = ((i : Int), rTot R i - rLg R i j) := by rw [vWo, if_pos ⟨⟨c4, c5⟩, Or.inr (by omega)⟩]
                exact hst _ _ _ (by rw [hv]) (by rw [hv]) h8 (by omega)
        · exact hst _ _ _ (by rw [vWo, if_neg (fun h => c4 h.1.1)]) (by rw [vWo, if_neg (fun h => c4 h.1.1)]) h5 (by omega)
    · rw [b2_f' c2, if_pos (by decide), if_neg (fun h : _ ∧ _ => c2 h.2), nb' (fun h : _ ∧ _ => c2 h.2)]
      exact To.n1 rfl
  · rw [b2_f' c1, if_pos (by decide), if_neg (fun h : _ ∧ _ => c1 h.1), nb' (fun h : _ ∧ _ => c1 h.1)]
    exact To.n1 rfl
end
def anyL (R : Nat → Int) (c i : Int) : Nat → Bool
  | 0 => false
  | o + 1 => anyL R c i o || decide (rCrs R o = c ∧ rLost R o i ≠ -2)
theorem anyL_0 {R : Nat → Int} {c i : Int} : ∀ n, anyL R c i n = false → (∀ o, o < n → rCrs R o = c → rLost R o i = -2) ∧ hSm R c i n = 0 := by
  intro n
  induction n with
  | zero => exact fun _ => ⟨fun o h => by omega, rfl⟩
  | succ n ih =>
    intro h
    simp only [anyL, Bool.or_eq_false_iff, decide_eq_false_iff_not, ne_eq, not_and, Decidable.not_not] at h
    obtain ⟨h1, h2⟩ := ih h.1
    refine ⟨fun o ho hc => ?_, ?_⟩
    · by_cases e : o = n
      · rw [e] at hc ⊢; exact h.2 hc
      · exact h1 o (by omega) hc
    · unfold hSm at h2 ⊢
      rw [sumS, h2]
      split
      · rename_i hc
        rw [h.2 hc]
        rfl
      · rfl
theorem anyL_1 {R : Nat → Int} {c i : Int} : ∀ n, anyL R c i n = true → ∃ o, o < n ∧ rCrs R o = c ∧ rLost R o i ≠ -2 := by
  intro n
  induction n with
  | zero => intro h; cases h
  | succ n ih =>
    intro h
    simp only [anyL, Bool.or_eq_true, decide_eq_true_eq] at h
    rcases h with h | h
    · obtain ⟨o, h1, h2⟩ := ih h
      exact ⟨o, by omega, h2⟩
    · exact ⟨n, by omega, h⟩
theorem rLost_ne {R : Nat → Int} {o : Nat} {i : Int} (ho : (o : Int) < R 1) (h : rLg R o i ≠ -2) : rLost R o i ≠ -2 := by
  unfold rLost
  rw [if_neg h]
  have hv : vLg R (rCrs R o) i o = rLg R o i := by unfold vLg; rw [if_pos rfl]
  have h1 := amin_le (vLg R (rCrs R o) i) (n := (R 1).toNat) (i := o) (by omega) (by rw [hv]; exact h)
  have h2 : rBL R (rCrs R o) i = vLg R (rCrs R o) i (amin (vLg R (rCrs R o) i) (R 1).toNat).toNat := by
    unfold rBL vmin
    rw [if_neg h1.1]
  rw [h2]
  omega
/-- someone has a leg: someone is fastest -/
theorem anyL_br {R : Nat → Int} {c i : Int} (h0 : 0 ≤ R 1) : (anyL R c i (R 1).toNat = true) ↔ rBR R c i ≠ -2 := by
  constructor
  · intro h
    obtain ⟨o, h1, h2, h3⟩ := anyL_1 _ h
    have hv : vLg R c i o = rLg R o i := by unfold vLg; rw [if_pos h2]
    refine (amin_le (vLg R c i) h1 ?_).1
    rw [hv]
    intro e
    exact h3 (by unfold rLost; rw [if_pos e])
  · intro h
    cases h1 : anyL R c i (R 1).toNat with
    | true => rfl
    | false =>
      have h2 := (anyL_0 _ h1).1
      have h3 := (amin_rg (vLg R c i) (R 1).toNat).resolve_left h
      have h4 := h3.2.2
      unfold vLg at h4
      rw [show (((amin (fun o => if rCrs R o = c then rLg R o i else -2) (R 1).toNat).toNat : Nat) : Int) = (amin (vLg R c i) (R 1).toNat).toNat from rfl] at h4
      split at h4
      · rename_i hc
        have h5 := h2 _ (by omega) hc
        exact absurd h5 (rLost_ne (by omega) h4)
      · exact absurd rfl h4
def lbv (R : Nat → Int) (c i : Int) (n : Nat) : Int := if anyL R c i n = true then hSm R c i n else -2
section
variable {s : TS} {R : Nat → Int}
theorem lostByAll_z (hR : TRep s R) (hV : RV R) {c i : Int} (hc : 0 ≤ c) (hc' : c < R 0) (hi : 0 ≤ i) (hi' : i ≤ rLen R c) : ∃ s', T_lostByAll s (z c) (z i) = rI (z (lbv R c i (R 1).toNat)) s' ∧ TM s s' := by
  have h1 := hV.nR
  have h0 := hV.nC
  apply ok_pu
  unfold T_lostByAll
  rw [show ((-2 : Int32), (0 : Int32), s) = (z (lbv R c i 0), z (0 : Nat), s) from rfl]
  generalize hj : i = j at *
  refine ok_lpn (fun d p => ∃ (i : Nat) (s1 : TS), p = (z c, z j, z (lbv R c j i), z i, s1) ∧ d = (R 1).toNat - i ∧ (i : Int) ≤ R 1 ∧ TM s s1) ?_ FU _ _ ⟨0, s, rfl, rfl, by omega, TM.rf⟩ (by simp only [FU]; omega)
  rintro kk d p ⟨i, s1, rfl, rfl, h4, h5⟩ hk
  have hR1 := h5.rep hR
  have hst : ∀ (v0 : Int) (s2 : TS), v0 = lbv R c j (i + 1) → TM s s2 → (i : Int) < R 1 → OK (kk (z c, z j, z v0, z ((i : Int) + 1), s2)) _ := fun v0 s2 ev0 t2 hl => hk _ _ (by omega) ⟨i + 1, s2, (by rw [ev0]; rfl), rfl, by omega, t2⟩
  simp (disch := omega) only [T_lostByAll_6F, T_lostByAll_43, T_lostByAll_71, z_add, z_sub, z_mul, z_neg, zlt, zle, zeq, zne, l0, l1, l2, l3, l4, l5, l6, l7, l8, l9, l10, l11, l16, l17, l20, l24, l32, l37, l47, l57, l60, l67, l77, l97, l99, l122, l48, l57, l100, l237, l397, l600, l900, l880, l9998, l9999, bnd, xcI_rI, xcV_rV, xcR_rR, zb0, zb1, nz0, nz1, nar_z0, nar_z1, nar_b2, ↓reduceIte, T_cell_z, ald19, ast19, ald20, ast20, ald21, ast21, ald22, ast22, ald25, ast25, ald26, ast26, (ald_nC hR1), (ald_nR hR1), (ald_gap hR1), (ald_slk hR1), (ald_len hR1), (ald_crs hR1), (ald_st hR1), (ald_fi hR1), (ald_np hR1), (codeOf_z hR1), (pCode_z hR1), (pTime_z hR1), (total_z hR1), (isC_z hR1), (isR_z hR1)]
  refine ok_ite (fun c1 => ?_) fun c1 => ?_
  · have hi : i = (R 1).toNat := by omega
    subst hi
    exact ok_rI.mpr ⟨rfl, h5⟩
  have hcr := hV.crs (a := i) (by omega) (by omega)
  have hsm := hSm_rg hV (c := c) (i := j) (n := i) hi hi' h4
  have hlb : lbv R c j i = -2 ∨ (0 ≤ lbv R c j i ∧ lbv R c j i ≤ 100000 ∧ lbv R c j i = hSm R c j i) := by
    unfold lbv
    split
    · omega
    · exact Or.inl rfl
  have hlb0 : lbv R c j i = -2 ↔ anyL R c j i = false := by
    unfold lbv
    split
    · rename_i h
      rw [h]
      exact ⟨fun e => by omega, fun e => by cases e⟩
    · rename_i h
      exact ⟨fun _ => by simpa using h, fun _ => rfl⟩
  simp (disch := omega) only [z_add, z_sub, z_mul, z_neg, zlt, zle, zeq, zne, l0, l1, l2, l3, l4, l5, l6, l7, l8, l9, l10, l11, l16, l17, l20, l24, l32, l37, l47, l57, l60, l67, l77, l97, l99, l122, l48, l57, l100, l237, l397, l600, l900, l880, l9998, l9999, bnd, xcI_rI, xcV_rV, xcR_rR, zb0, zb1, nz0, nz1, nar_z0, nar_z1, nar_b2, ↓reduceIte, T_cell_z, ald19, ast19, ald20, ast20, ald21, ast21, ald22, ast22, ald25, ast25, ald26, ast26]
  refine ok_ite (fun c2 => ?_) fun c2 => ?_
  · obtain ⟨s2, e2, t2⟩ := lostOn_z hR1 hV (a := i) (i := j) (by omega) (by omega) hi (by rw [c2]; exact hi')
    have hr := rLost_rg hV (a := i) (i := j) (by omega) (by omega) hi (by rw [c2]; exact hi')
    simp (disch := omega) only [e2, z_add, z_sub, z_mul, z_neg, zlt, zle, zeq, zne, l0, l1, l2, l3, l4, l5, l6, l7, l8, l9, l10, l11, l16, l17, l20, l24, l32, l37, l47, l57, l60, l67, l77, l97, l99, l122, l48, l57, l100, l237, l397, l600, l900, l880, l9998, l9999, bnd, xcI_rI, xcV_rV, xcR_rR, zb0, zb1, nz0, nz1, nar_z0, nar_z1, nar_b2, ↓reduceIte, T_cell_z, ald19, ast19, ald20, ast20, ald21, ast21, ald22, ast22, ald25, ast25, ald26, ast26]
    have hs1 : hSm R c j (i + 1) = hSm R c j i + max 0 (rLost R i j) := by unfold hSm; rw [sumS, if_pos c2]
    refine ok_ite (fun c3 => ?_) fun c3 => ?_
    · exact hst _ _ (by unfold lbv; rw [anyL, hs1, c3, show max (0 : Int) (-2) = 0 from rfl, Int.add_zero]; simp) (h5.trans t2) (by omega)
    · have ha : anyL R c j (i + 1) = true := by simp only [anyL, Bool.or_eq_true, decide_eq_true_eq]; exact Or.inr ⟨c2, c3⟩
      have hv : lbv R c j (i + 1) = hSm R c j i + rLost R i j := by unfold lbv; rw [if_pos ha, hs1, Int.max_eq_right (by omega)]
      refine ok_ite (fun c4 => ?_) fun c4 => ?_
      · have := (anyL_0 i (hlb0.mp c4)).2
        exact hst _ _ (by rw [hv]; omega) (h5.trans t2) (by omega)
      · exact hst _ _ (by rw [hv]; omega) (h5.trans t2) (by omega)
  · have hs1 : hSm R c j (i + 1) = hSm R c j i := by unfold hSm; rw [sumS, if_neg c2, Int.add_zero]
    have ha : anyL R c j (i + 1) = anyL R c j i := by simp only [anyL, c2, false_and, decide_false, Bool.or_false]
    exact hst _ _ (by unfold lbv; rw [ha, hs1]) h5 (by omega)
theorem Tw_hardest (hR : TRep s R) (hV : RV R) {c k : Int} (hc : i32 c) (hk : i32 k) : To s (T_hardest s (z c) (z k)) (if (0 ≤ c ∧ c < R 0) ∧ 0 ≤ k ∧ k ≤ 1 then (if k = 0 then (vHd R c (rLen R c + 1).toNat).1 else (vHd R c (rLen R c + 1).toNat).2) else -1) (b2 (¬ ((0 ≤ c ∧ c < R 0) ∧ 0 ≤ k ∧ k ≤ 1))) := by
  unfold T_hardest
  have hnr := hV.nR
  have hnc := hV.nC
  rw [isC_z hR hnc.1 hnc.2 hc.1 hc.2, xcI_rI]
  by_cases c1 : 0 ≤ c ∧ c < R 0
  · rw [b2_t' c1, if_neg (by decide), l1, show (0 : Int32) = z 0 from rfl, T_in_z s (a := k) (b := 0) (c := 1) hk ⟨by decide, by decide⟩ ⟨by decide, by decide⟩, xcI_rI]
    by_cases c2 : 0 ≤ k ∧ k ≤ 1
    · rw [b2_t' c2, if_neg (by decide), if_pos (And.intro c1 c2), nb (And.intro c1 c2)]
      refine Eq.mpr (congrArg (fun K => To s K _ _) tw_1) ?_
      have hl := hV.len c1.1 c1.2
      apply ok_to
      refine ok_lpn (fun d p => ∃ (i : Nat) (s1 : TS), p = (z c, z k, z ((vHd R c i).1), z ((vHd R c i).2), z i, s1) ∧ d = (rLen R c + 1).toNat - i ∧ (i : Int) ≤ rLen R c + 1 ∧ TQ (tF s (z 0)) s1) ?_ FU _ _ ⟨0, tF s (z 0), rfl, rfl, by omega, TQ.rf⟩ (by simp only [FU]; omega)
      rintro kk d p ⟨i, s1, rfl, rfl, h4, h5⟩ hk
      have hR1 := h5.rep (tF_rep hR)
      have hst : ∀ (v0 v1 : Int) (s2 : TS), v0 = (vHd R c (i + 1)).1 → v1 = (vHd R c (i + 1)).2 → TQ (tF s (z 0)) s2 → (i : Int) < rLen R c + 1 → OK (kk (z c, z k, z v0, z v1, z ((i : Int) + 1), s2)) _ := fun v0 v1 s2 ev0 ev1 t2 hl => hk _ _ (by omega) ⟨i + 1, s2, (by rw [ev0, ev1]; rfl), rfl, by omega, t2⟩
      simp (disch := omega) only [T_hardest_44F, T_hardest_86, T_hardest_93, z_add, z_sub, z_mul, z_neg, zlt, zle, zeq, zne, l0, l1, l2, l3, l4, l5, l6, l7, l8, l9, l10, l11, l16, l17, l20, l24, l32, l37, l47, l57, l60, l67, l77, l97, l99, l122, l48, l57, l100, l237, l397, l600, l900, l880, l9998, l9999, bnd, xcI_rI, xcV_rV, xcR_rR, zb0, zb1, nz0, nz1, nar_z0, nar_z1, nar_b2, ↓reduceIte, T_cell_z, ald19, ast19, ald20, ast20, ald21, ast21, ald22, ast22, ald25, ast25, ald26, ast26, (ald_nC hR1), (ald_nR hR1), (ald_gap hR1), (ald_slk hR1), (ald_len hR1), (ald_crs hR1), (ald_st hR1), (ald_fi hR1), (ald_np hR1), (codeOf_z hR1), (pCode_z hR1), (pTime_z hR1), (total_z hR1), (isC_z hR1), (isR_z hR1)]
      refine ok_ite (fun c3 => ?_) fun c3 => ?_
      · have hi : i = (rLen R c + 1).toNat := by omega
        subst hi
        by_cases c4 : k = 0
        · rw [if_pos c4, if_pos c4]
          exact ok_rI.mpr ⟨rfl, h5⟩
        · rw [if_neg c4, if_neg c4]
          exact ok_rI.mpr ⟨rfl, h5⟩
      · have hw := vHd_rg hV (c := c) i h4
        have hsm := hSm_rg hV (c := c) (i := i) (n := (R 1).toNat) (by omega) (by omega) (by omega)
        have hab := anyL_br (c := c) (i := i) hnr.1
        obtain ⟨s2, e2, t2⟩ := lostByAll_z hR1 hV c1.1 c1.2 (i := i) (by omega) (by omega)
        have h7 := h5.trans t2.q
        have hlb : (rBR R c i = -2 ∧ lbv R c i (R 1).toNat = -2) ∨ (rBR R c i ≠ -2 ∧ lbv R c i (R 1).toNat = hSm R c i (R 1).toNat) := by
          unfold lbv
          by_cases h : anyL R c i (R 1).toNat = true
          · rw [if_pos h]; exact Or.inr ⟨hab.mp h, rfl⟩
          · rw [if_neg h]; exact Or.inl ⟨Decidable.not_not.mp (fun e => h (hab.mpr e)), rfl⟩
        have hlr : -2 ≤ lbv R c i (R 1).toNat ∧ lbv R c i (R 1).toNat ≤ 100000 := by omega
        simp (disch := omega) only [e2, z_add, z_sub, z_mul, z_neg, zlt, zle, zeq, zne, l0, l1, l2, l3, l4, l5, l6, l7, l8, l9, l10, l11, l16, l17, l20, l24, l32, l37, l47, l57, l60, l67, l77, l97, l99, l122, l48, l57, l100, l237, l397, l600, l900, l880, l9998, l9999, bnd, xcI_rI, xcV_rV, xcR_rR, zb0, zb1, nz0, nz1, nar_z0, nar_z1, nar_b2, ↓reduceIte, T_cell_z, ald19, ast19, ald20, ast20, ald21, ast21, ald22, ast22, ald25, ast25, ald26, ast26]
        refine ok_ite (fun c4 => ?_) fun c4 => ?_
        · have hv : vHd R c (i + 1) = vHd R c i := by rw [vHd, if_neg (by omega)]
          exact hst _ _ _ (by rw [hv]) (by rw [hv]) h7 (by omega)
        · have hh := hlb.resolve_left (fun h => c4 h.2)
          refine ok_ite (fun c5 => ?_) fun c5 => ?_
          · have hv : vHd R c (i + 1) = ((i : Int), hSm R c i (R 1).toNat) := by rw [vHd, if_pos ⟨hh.1, by omega⟩]
            exact hst _ _ _ (by rw [hv]) (by rw [hv]; exact hh.2) h7 (by omega)
          · refine ok_ite (fun c6 => ?_) fun c6 => ?_
            · have hv : vHd R c (i + 1) = vHd R c i := by rw [vHd, if_neg (by omega)]
              exact hst _ _ _ (by rw [hv]) (by rw [hv]) h7 (by omega)
            · have hv : vHd R c (i + 1) = ((i : Int), hSm R c i (R 1).toNat) := by rw [vHd, if_pos ⟨hh.1, by omega⟩]
              exact hst _ _ _ (by rw [hv]) (by rw [hv]; exact hh.2) h7 (by omega)
    · rw [b2_f' c2, if_pos (by decide), if_neg (fun h : _ ∧ _ => c2 h.2), nb' (fun h : _ ∧ _ => c2 h.2)]
      exact To.n1 rfl
  · rw [b2_f' c1, if_pos (by decide), if_neg (fun h : _ ∧ _ => c1 h.1), nb' (fun h : _ ∧ _ => c1 h.1)]
    exact To.n1 rfl
end

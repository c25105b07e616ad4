/-! THE TWIN's QUERIES: leaders, least totals, places -/
set_option maxRecDepth 100000
/-- the least so far; 0 if none -/
def lst0 (v : Nat → Int) (n : Nat) : Int := if amin v n = -2 then 0 else v (amin v n).toNat
theorem lst0_rg {v : Nat → Int} {B : Int} {n : Nat} (h : ∀ i, i < n → v i = -2 ∨ (0 ≤ v i ∧ v i ≤ B)) (hB : 0 ≤ B) : -2 ≤ lst0 v n ∧ lst0 v n ≤ B := by
  unfold lst0
  have hr := amin_rg v n
  split
  · omega
  · have := h (amin v n).toNat (by omega)
    omega
theorem amin_n {v : Nat → Int} {i : Nat} (h : v i = -2) : amin v i = amin v (i + 1) ∧ lst0 v i = lst0 v (i + 1) := by
  have e : amin v (i + 1) = amin v i := by rw [amin, if_pos h]
  exact ⟨e.symm, by unfold lst0; rw [e]⟩
theorem amin_y {v : Nat → Int} {i : Nat} (h : v i ≠ -2) (h' : amin v i = -2 ∨ v i < lst0 v i) : (i : Int) = amin v (i + 1) ∧ v i = lst0 v (i + 1) := by
  have h2 : amin v i = -2 ∨ v i < v (amin v i).toNat := by
    by_cases hb : amin v i = -2
    · exact Or.inl hb
    · refine Or.inr ?_
      rcases h' with h' | h'
      · exact absurd h' hb
      · unfold lst0 at h'
        rwa [if_neg hb] at h'
  have e : amin v (i + 1) = i := by rw [amin, if_neg h, if_pos h2]
  refine ⟨e.symm, ?_⟩
  unfold lst0
  rw [e, if_neg (by omega), Int.toNat_natCast]
theorem amin_k {v : Nat → Int} {i : Nat} (h1 : amin v i ≠ -2) (h2 : ¬ v i < lst0 v i) : amin v i = amin v (i + 1) ∧ lst0 v i = lst0 v (i + 1) := by
  by_cases h : v i = -2
  · exact amin_n h
  have h3 : ¬ (amin v i = -2 ∨ v i < v (amin v i).toNat) := by
    unfold lst0 at h2
    rw [if_neg h1] at h2
    exact fun e => e.elim h1 h2
  have e : amin v (i + 1) = amin v i := by rw [amin, if_neg h, if_neg h3]
  exact ⟨e.symm, by unfold lst0; rw [e]⟩
theorem vmin_n {v : Nat → Int} {i : Nat} (h : v i = -2) : vmin v i = vmin v (i + 1) := by rw [vmin_s, if_pos h]
theorem vmin_y {v : Nat → Int} {i : Nat} (h : v i ≠ -2) (h' : vmin v i = -2 ∨ v i < vmin v i) : v i = vmin v (i + 1) := by rw [vmin_s, if_neg h, if_pos h']
theorem vmin_k {v : Nat → Int} {i : Nat} (h1 : vmin v i ≠ -2) (h2 : ¬ v i < vmin v i) : vmin v i = vmin v (i + 1) := by
  rw [vmin_s]
  split
  · rfl
  · rw [if_neg (fun e => e.elim h1 h2)]
/-- a runner's place on a leg, at a point -/
def pLg (R : Nat → Int) (c i own : Int) : Int := 1 + sumS (fun o => b2 (vLg R c i o ≠ -2 ∧ vLg R c i o < own)) (R 1).toNat
def pSp (R : Nat → Int) (c i own : Int) : Int := 1 + sumS (fun o => b2 (vSp R c i o ≠ -2 ∧ vSp R c i o < own)) (R 1).toNat
def rLost (R : Nat → Int) (a i : Int) : Int := if rLg R a i = -2 then -2 else rLg R a i - rBL R (rCrs R a) i
theorem rLost_rg {R : Nat → Int} (hV : RV R) {a i : Int} (ha : 0 ≤ a) (ha' : a < R 1) (hi : 0 ≤ i) (hi' : i ≤ rLen R (rCrs R a)) : rLost R a i = -2 ∨ (0 ≤ rLost R a i ∧ rLost R a i ≤ 9999) := by
  unfold rLost
  have h1 := rLg_rg hV ha ha' hi hi'
  split
  · exact Or.inl rfl
  · rename_i h
    have h2 := rBL_rg hV hi hi'
    have hv : vLg R (rCrs R a) i a.toNat = rLg R a i := by
      unfold vLg
      rw [show ((a.toNat : Nat) : Int) = a by omega, if_pos rfl]
    have := amin_le (vLg R (rCrs R a) i) (n := (R 1).toNat) (i := a.toNat) (by omega) (by rw [hv]; exact h)
    have e : rBL R (rCrs R a) i = vLg R (rCrs R a) i (amin (vLg R (rCrs R a) i) (R 1).toNat).toNat := by
      unfold rBL vmin
      rw [if_neg this.1]
    rw [hv, ← e] at this
    have h4 : rBL R (rCrs R a) i ≠ -2 := by
      rw [e]
      rcases amin_rg (vLg R (rCrs R a) i) (R 1).toNat with h5 | h5
      · exact absurd h5 this.1
      · exact h5.2.2
    omega
section
variable {R : Nat → Int} {s : TS}

theorem lead_z (hR : TRep s R) (hV : RV R) {c i : Int} (hc : 0 ≤ c) (hc' : c < R 0) (hi : 0 ≤ i) (hi' : i ≤ rLen R c) : ∃ s', T_bestRunner s (z c) (z i) (z 0) = rI (z (rBS R c i)) s' ∧ TM s s' := by
  have h1 := hV.nR
  have h0 := hV.nC
  apply ok_pu
  unfold T_bestRunner
  rw [show ((-2 : Int32), (0 : Int32), (0 : Int32), s) = (z (amin (vSp R c i) 0), z (lst0 (vSp R c i) 0), z (0 : Nat), s) from rfl]
  generalize hv : vSp R c i = v
  have hB : rBS R c i = amin v (R 1).toNat := by rw [← hv]; rfl
  rw [hB]
  generalize hj : i = j at *
  refine ok_lpn (fun d p => ∃ (i : Nat) (s1 : TS), p = (z c, z j, z 0, z (amin v i), z (lst0 v i), z i, s1) ∧ d = (R 1).toNat - i ∧ (i : Int) ≤ R 1 ∧ TM s s1) ?_ FU _ _ ⟨0, s, rfl, rfl, by omega, TM.rf⟩ (by simp only [FU]; omega)
  rintro kk d p ⟨i, s1, rfl, rfl, h4, h5⟩ hk
  have hR1 := h5.rep hR
  have hst : ∀ (v0 v1 : Int) (s2 : TS), v0 = amin v (i + 1) → v1 = lst0 v (i + 1) → TM s s2 → (i : Int) < R 1 → OK (kk (z c, z j, z 0, z v0, z v1, z ((i : Int) + 1), s2)) _ := fun v0 v1 s2 ev0 ev1 t2 hl => hk _ _ (by omega) ⟨i + 1, s2, (by rw [ev0, ev1]; rfl), rfl, by omega, t2⟩
  simp (disch := omega) only [T_bestRunner_10F, T_bestRunner_61, T_bestRunner_84, T_bestRunner_92, z_add, z_sub, z_mul, z_neg, zlt, zle, zeq, zne, l0, l1, l2, l3, l4, l5, l6, l7, l8, l9, l10, l11, l16, l17, l20, l24, l32, l37, l47, l57, l60, l67, l77, l97, l99, l122, l48, l57, l100, l237, l397, l600, l900, l880, l9998, l9999, bnd, xcI_rI, xcV_rV, xcR_rR, zb0, zb1, nz0, nz1, nar_z0, nar_z1, nar_b2, ↓reduceIte, T_cell_z, ald19, ast19, ald20, ast20, ald21, ast21, ald22, ast22, ald25, ast25, ald26, ast26, (ald_nC hR1), (ald_nR hR1), (ald_gap hR1), (ald_slk hR1), (ald_len hR1), (ald_crs hR1), (ald_st hR1), (ald_fi hR1), (ald_np hR1), (codeOf_z hR1), (pCode_z hR1), (pTime_z hR1), (total_z hR1), (isC_z hR1), (isR_z hR1)]
  refine ok_ite (fun c1 => ?_) fun c1 => ?_
  · have hi : i = (R 1).toNat := by omega
    subst hi
    exact ok_rI.mpr ⟨rfl, h5⟩
  have hcr := hV.crs (a := i) (by omega) (by omega)
  have hvr : ∀ o : Nat, o < i → v o = -2 ∨ (0 ≤ v o ∧ v o ≤ 9999) := fun o ho => by rw [← hv]; exact vSp_rg hV (by omega)
  have hl0 := lst0_rg hvr (by omega)
  have ha0 := amin_rg v i
  simp (disch := omega) only [z_add, z_sub, z_mul, z_neg, zlt, zle, zeq, zne, l0, l1, l2, l3, l4, l5, l6, l7, l8, l9, l10, l11, l16, l17, l20, l24, l32, l37, l47, l57, l60, l67, l77, l97, l99, l122, l48, l57, l100, l237, l397, l600, l900, l880, l9998, l9999, bnd, xcI_rI, xcV_rV, xcR_rR, zb0, zb1, nz0, nz1, nar_z0, nar_z1, nar_b2, ↓reduceIte, T_cell_z, ald19, ast19, ald20, ast20, ald21, ast21, ald22, ast22, ald25, ast25, ald26, ast26]
  refine ok_ite (fun c2 => ?_) fun c2 => ?_
  · obtain ⟨s2, e2, t2⟩ := sp_z hR1 hV (a := i) (i := j) (by omega) (by omega) (by omega) (by rw [c2]; exact hi')
    have hvi : v i = rSp R i j := by rw [← hv]; unfold vSp; rw [if_pos c2]
    have hr := rSp_rg hV (a := i) (i := j) (by omega) (by omega)
    simp (disch := omega) only [e2, z_add, z_sub, z_mul, z_neg, zlt, zle, zeq, zne, l0, l1, l2, l3, l4, l5, l6, l7, l8, l9, l10, l11, l16, l17, l20, l24, l32, l37, l47, l57, l60, l67, l77, l97, l99, l122, l48, l57, l100, l237, l397, l600, l900, l880, l9998, l9999, bnd, xcI_rI, xcV_rV, xcR_rR, zb0, zb1, nz0, nz1, nar_z0, nar_z1, nar_b2, ↓reduceIte, T_cell_z, ald19, ast19, ald20, ast20, ald21, ast21, ald22, ast22, ald25, ast25, ald26, ast26, show ¬ ((1 : Int) = 0) by decide]
    refine ok_ite (fun c3 => ?_) fun c3 => ?_
    · exact hst _ _ _ (by exact (amin_n (hvi.trans c3)).1) (by exact (amin_n (hvi.trans c3)).2) (h5.trans t2) (by omega)
    · refine ok_ite (fun c4 => ?_) fun c4 => ?_
      · exact hst _ _ _ (by exact (amin_y (by rw [hvi]; exact c3) (Or.inl c4)).1) (by rw [← hvi]; exact (amin_y (by rw [hvi]; exact c3) (Or.inl c4)).2) (h5.trans t2) (by omega)
      · refine ok_ite (fun c5 => ?_) fun c5 => ?_
        · exact hst _ _ _ (by exact (amin_k c4 (by omega)).1) (by exact (amin_k c4 (by omega)).2) (h5.trans t2) (by omega)
        · exact hst _ _ _ (by exact (amin_y (by rw [hvi]; exact c3) (Or.inr (by omega))).1) (by rw [← hvi]; exact (amin_y (by rw [hvi]; exact c3) (Or.inr (by omega))).2) (h5.trans t2) (by omega)
  · have hvi : v i = -2 := by rw [← hv]; unfold vSp; rw [if_neg c2]
    exact hst _ _ _ (by exact (amin_n hvi).1) (by exact (amin_n hvi).2) h5 (by omega)

theorem fast_z (hR : TRep s R) (hV : RV R) {c i : Int} (hc : 0 ≤ c) (hc' : c < R 0) (hi : 0 ≤ i) (hi' : i ≤ rLen R c) : ∃ s', T_bestRunner s (z c) (z i) (z 1) = rI (z (rBR R c i)) s' ∧ TM s s' := by
  have h1 := hV.nR
  have h0 := hV.nC
  apply ok_pu
  unfold T_bestRunner
  rw [show ((-2 : Int32), (0 : Int32), (0 : Int32), s) = (z (amin (vLg R c i) 0), z (lst0 (vLg R c i) 0), z (0 : Nat), s) from rfl]
  generalize hv : vLg R c i = v
  have hB : rBR R c i = amin v (R 1).toNat := by rw [← hv]; rfl
  rw [hB]
  generalize hj : i = j at *
  refine ok_lpn (fun d p => ∃ (i : Nat) (s1 : TS), p = (z c, z j, z 1, z (amin v i), z (lst0 v i), z i, s1) ∧ d = (R 1).toNat - i ∧ (i : Int) ≤ R 1 ∧ TM s s1) ?_ FU _ _ ⟨0, s, rfl, rfl, by omega, TM.rf⟩ (by simp only [FU]; omega)
  rintro kk d p ⟨i, s1, rfl, rfl, h4, h5⟩ hk
  have hR1 := h5.rep hR
  have hst : ∀ (v0 v1 : Int) (s2 : TS), v0 = amin v (i + 1) → v1 = lst0 v (i + 1) → TM s s2 → (i : Int) < R 1 → OK (kk (z c, z j, z 1, z v0, z v1, z ((i : Int) + 1), s2)) _ := fun v0 v1 s2 ev0 ev1 t2 hl => hk _ _ (by omega) ⟨i + 1, s2, (by rw [ev0, ev1]; rfl), rfl, by omega, t2⟩
  simp (disch := omega) only [T_bestRunner_10F, T_bestRunner_61, T_bestRunner_84, T_bestRunner_92, z_add, z_sub, z_mul, z_neg, zlt, zle, zeq, zne, l0, l1, l2, l3, l4, l5, l6, l7, l8, l9, l10, l11, l16, l17, l20, l24, l32, l37, l47, l57, l60, l67, l77, l97, l99, l122, l48, l57, l100, l237, l397, l600, l900, l880, l9998, l9999, bnd, xcI_rI, xcV_rV, xcR_rR, zb0, zb1, nz0, nz1, nar_z0, nar_z1, nar_b2, ↓reduceIte, T_cell_z, ald19, ast19, ald20, ast20, ald21, ast21, ald22, ast22, ald25, ast25, ald26, ast26, (ald_nC hR1), (ald_nR hR1), (ald_gap hR1), (ald_slk hR1), (ald_len hR1), (ald_crs hR1), (ald_st hR1), (ald_fi hR1), (ald_np hR1), (codeOf_z hR1), (pCode_z hR1), (pTime_z hR1), (total_z hR1), (isC_z hR1), (isR_z hR1)]
  refine ok_ite (fun c1 => ?_) fun c1 => ?_
  · have hi : i = (R 1).toNat := by omega
    subst hi
    exact ok_rI.mpr ⟨rfl, h5⟩
  have hcr := hV.crs (a := i) (by omega) (by omega)
  have hvr : ∀ o : Nat, o < i → v o = -2 ∨ (0 ≤ v o ∧ v o ≤ 9999) := fun o ho => by rw [← hv]; exact vLg_rg hV hi hi' (by omega)
  have hl0 := lst0_rg hvr (by omega)
  have ha0 := amin_rg v i
  simp (disch := omega) only [z_add, z_sub, z_mul, z_neg, zlt, zle, zeq, zne, l0, l1, l2, l3, l4, l5, l6, l7, l8, l9, l10, l11, l16, l17, l20, l24, l32, l37, l47, l57, l60, l67, l77, l97, l99, l122, l48, l57, l100, l237, l397, l600, l900, l880, l9998, l9999, bnd, xcI_rI, xcV_rV, xcR_rR, zb0, zb1, nz0, nz1, nar_z0, nar_z1, nar_b2, ↓reduceIte, T_cell_z, ald19, ast19, ald20, ast20, ald21, ast21, ald22, ast22, ald25, ast25, ald26, ast26]
  refine ok_ite (fun c2 => ?_) fun c2 => ?_
  · obtain ⟨s2, e2, t2⟩ := lg_z hR1 hV (a := i) (i := j) (by omega) (by omega) (by omega) (by rw [c2]; exact hi')
    have hvi : v i = rLg R i j := by rw [← hv]; unfold vLg; rw [if_pos c2]
    have hr := rLg_rg hV (a := i) (i := j) (by omega) (by omega) hi (by rw [c2]; exact hi')
    simp (disch := omega) only [e2, z_add, z_sub, z_mul, z_neg, zlt, zle, zeq, zne, l0, l1, l2, l3, l4, l5, l6, l7, l8, l9, l10, l11, l16, l17, l20, l24, l32, l37, l47, l57, l60, l67, l77, l97, l99, l122, l48, l57, l100, l237, l397, l600, l900, l880, l9998, l9999, bnd, xcI_rI, xcV_rV, xcR_rR, zb0, zb1, nz0, nz1, nar_z0, nar_z1, nar_b2, ↓reduceIte, T_cell_z, ald19, ast19, ald20, ast20, ald21, ast21, ald22, ast22, ald25, ast25, ald26, ast26, show ¬ ((1 : Int) = 0) by decide]
    refine ok_ite (fun c3 => ?_) fun c3 => ?_
    · exact hst _ _ _ (by exact (amin_n (hvi.trans c3)).1) (by exact (amin_n (hvi.trans c3)).2) (h5.trans t2) (by omega)
    · refine ok_ite (fun c4 => ?_) fun c4 => ?_
      · exact hst _ _ _ (by exact (amin_y (by rw [hvi]; exact c3) (Or.inl c4)).1) (by rw [← hvi]; exact (amin_y (by rw [hvi]; exact c3) (Or.inl c4)).2) (h5.trans t2) (by omega)
      · refine ok_ite (fun c5 => ?_) fun c5 => ?_
        · exact hst _ _ _ (by exact (amin_k c4 (by omega)).1) (by exact (amin_k c4 (by omega)).2) (h5.trans t2) (by omega)
        · exact hst _ _ _ (by exact (amin_y (by rw [hvi]; exact c3) (Or.inr (by omega))).1) (by rw [← hvi]; exact (amin_y (by rw [hvi]; exact c3) (Or.inr (by omega))).2) (h5.trans t2) (by omega)
  · have hvi : v i = -2 := by rw [← hv]; unfold vLg; rw [if_neg c2]
    exact hst _ _ _ (by exact (amin_n hvi).1) (by exact (amin_n hvi).2) h5 (by omega)

theorem bestLeg_z (hR : TRep s R) (hV : RV R) {c i : Int} (hc : 0 ≤ c) (hc' : c < R 0) (hi : 0 ≤ i) (hi' : i ≤ rLen R c) : ∃ s', T_bestLeg s (z c) (z i) = rI (z (rBL R c i)) s' ∧ TM s s' := by
  obtain ⟨s2, e2, t2⟩ := fast_z hR hV hc hc' hi hi'
  have hr := rBR_rg hV (c := c) (i := i)
  have h1 := hV.nR
  unfold T_bestLeg
  simp (disch := omega) only [e2, z_add, z_sub, z_mul, z_neg, zlt, zle, zeq, zne, l0, l1, l2, l3, l4, l5, l6, l7, l8, l9, l10, l11, l16, l17, l20, l24, l32, l37, l47, l57, l60, l67, l77, l97, l99, l122, l48, l57, l100, l237, l397, l600, l900, l880, l9998, l9999, bnd, xcI_rI, xcV_rV, xcR_rR, zb0, zb1, nz0, nz1, nar_z0, nar_z1, nar_b2, ↓reduceIte, T_cell_z, ald19, ast19, ald20, ast20, ald21, ast21, ald22, ast22, ald25, ast25, ald26, ast26]
  by_cases h : rBR R c i = -2
  · rw [if_pos h]
    exact ⟨s2, by rw [show rBL R c i = -2 by omega], t2⟩
  · rw [if_neg h]
    obtain ⟨s3, e3, t3⟩ := lg_z (t2.rep hR) hV (a := rBR R c i) (i := i) (by omega) (by omega) hi (by rw [show rCrs R (rBR R c i) = c by omega]; exact hi')
    rw [e3, xcI_rI]
    exact ⟨s3, by rw [show rLg R (rBR R c i) i = rBL R c i by omega], t2.trans t3⟩
theorem lostOn_z (hR : TRep s R) (hV : RV R) {a i : Int} (ha : 0 ≤ a) (ha' : a < R 1) (hi : 0 ≤ i) (hi' : i ≤ rLen R (rCrs R a)) : ∃ s', T_lostOn s (z a) (z i) = rI (z (rLost R a i)) s' ∧ TM s s' := by
  obtain ⟨s2, e2, t2⟩ := lg_z hR hV ha ha' hi hi'
  have hr := rLg_rg hV ha ha' hi hi'
  have hc := hV.crs ha ha'
  have h1 := hV.nR
  have hR2 := t2.rep hR
  obtain ⟨s3, e3, t3⟩ := bestLeg_z (t2.rep hR) hV hc.1 hc.2 hi hi'
  unfold T_lostOn rLost
  simp (disch := omega) only [e2, z_add, z_sub, z_mul, z_neg, zlt, zle, zeq, zne, l0, l1, l2, l3, l4, l5, l6, l7, l8, l9, l10, l11, l16, l17, l20, l24, l32, l37, l47, l57, l60, l67, l77, l97, l99, l122, l48, l57, l100, l237, l397, l600, l900, l880, l9998, l9999, bnd, xcI_rI, xcV_rV, xcR_rR, zb0, zb1, nz0, nz1, nar_z0, nar_z1, nar_b2, ↓reduceIte, T_cell_z, ald19, ast19, ald20, ast20, ald21, ast21, ald22, ast22, ald25, ast25, ald26, ast26, (ald_nC hR2), (ald_nR hR2), (ald_gap hR2), (ald_slk hR2), (ald_len hR2), (ald_crs hR2), (ald_st hR2), (ald_fi hR2), (ald_np hR2), (codeOf_z hR2), (pCode_z hR2), (pTime_z hR2), (total_z hR2), (isC_z hR2), (isR_z hR2), e3]
  split
  · exact ⟨s2, rfl, t2⟩
  · exact ⟨s3, rfl, t2.trans t3⟩
theorem idealOf_z (hR : TRep s R) (hV : RV R) {c : Int} (hc : 0 ≤ c) (hc' : c < R 0) : ∃ s', T_idealOf s (z c) = rI (z (idS (fun i => rBL R c i) (rLen R c + 1).toNat)) s' ∧ TM s s' := by
  have h1 := hV.nR
  have h0 := hV.nC
  have hl := hV.len hc hc'
  apply ok_pu
  unfold T_idealOf
  refine ok_lpn (fun d p => ∃ (i : Nat) (s1 : TS), p = (z c, z (idS (fun i => rBL R c i) i), z i, s1) ∧ d = (rLen R c + 1).toNat - i ∧ (i : Int) ≤ rLen R c + 1 ∧ TM s s1 ∧ idS (fun i => rBL R c i) i ≠ -2) ?_ FU _ _ ⟨0, s, rfl, rfl, by omega, TM.rf, (by show (0 : Int) ≠ -2; decide)⟩ (by simp only [FU]; omega)
  rintro kk d p ⟨i, s1, rfl, rfl, h4, h5, h6⟩ hk
  have hR1 := h5.rep hR
  simp (disch := omega) only [T_idealOf_4F, z_add, z_sub, z_mul, z_neg, zlt, zle, zeq, zne, l0, l1, l2, l3, l4, l5, l6, l7, l8, l9, l10, l11, l16, l17, l20, l24, l32, l37, l47, l57, l60, l67, l77, l97, l99, l122, l48, l57, l100, l237, l397, l600, l900, l880, l9998, l9999, bnd, xcI_rI, xcV_rV, xcR_rR, zb0, zb1, nz0, nz1, nar_z0, nar_z1, nar_b2, ↓reduceIte, T_cell_z, ald19, ast19, ald20, ast20, ald21, ast21, ald22, ast22, ald25, ast25, ald26, ast26, (ald_nC hR1), (ald_nR hR1), (ald_gap hR1), (ald_slk hR1), (ald_len hR1), (ald_crs hR1), (ald_st hR1), (ald_fi hR1), (ald_np hR1), (codeOf_z hR1), (pCode_z hR1), (pTime_z hR1), (total_z hR1), (isC_z hR1), (isR_z hR1)]
  refine ok_ite (fun c1 => ?_) fun c1 => ?_
  · have hi : i = (rLen R c + 1).toNat := by omega
    subst hi
    exact ok_rI.mpr ⟨rfl, h5⟩
  obtain ⟨s2, e2, t2⟩ := bestLeg_z hR1 hV hc hc' (i := i) (by omega) (by omega)
  have hr := rBL_rg hV (c := c) (i := i) (by omega) (by omega)
  simp (disch := omega) only [e2, z_add, z_sub, z_mul, z_neg, zlt, zle, zeq, zne, l0, l1, l2, l3, l4, l5, l6, l7, l8, l9, l10, l11, l16, l17, l20, l24, l32, l37, l47, l57, l60, l67, l77, l97, l99, l122, l48, l57, l100, l237, l397, l600, l900, l880, l9998, l9999, bnd, xcI_rI, xcV_rV, xcR_rR, zb0, zb1, nz0, nz1, nar_z0, nar_z1, nar_b2, ↓reduceIte, T_cell_z, ald19, ast19, ald20, ast20, ald21, ast21, ald22, ast22, ald25, ast25, ald26, ast26]
  refine ok_ite (fun c2 => ?_) fun c2 => ?_
  · refine ok_rI.mpr ⟨?_, h5.trans t2⟩
    have := idS_bad (f := fun i : Nat => rBL R c i) (i := i + 1) (by rw [idS]; exact if_pos (Or.inr c2)) ((rLen R c + 1).toNat - (i + 1))
    rw [show i + 1 + ((rLen R c + 1).toNat - (i + 1)) = (rLen R c + 1).toNat by omega] at this
    rw [this]
  · have e : idS (fun i => rBL R c i) (i + 1) = idS (fun i => rBL R c i) i + rBL R c i := by
      rw [idS]
      exact if_neg (fun h => h.elim h6 c2)
    have hb := idS_rg (f := fun i : Nat => rBL R c i) (B := 9999) (n := i) (fun q hq => rBL_rg hV (by omega) (by omega)) (by omega)
    exact hk _ _ (by omega) ⟨i + 1, s2, by rw [e]; rfl, rfl, by omega, h5.trans t2, by rw [e]; omega⟩
theorem leastTotal_z (hR : TRep s R) (hV : RV R) {c : Int} (hc : 0 ≤ c) (hc' : c < R 0) : ∃ s', T_leastTotal s (z c) = rI (z (vmin (vTot R c) (R 1).toNat)) s' ∧ TM s s' := by
  have h1 := hV.nR
  have h0 := hV.nC
  apply ok_pu
  unfold T_leastTotal
  rw [show ((-2 : Int32), (0 : Int32), s) = (z (vmin (vTot R c) 0), z (0 : Nat), s) from rfl]
  refine ok_lpn (fun d p => ∃ (i : Nat) (s1 : TS), p = (z c, z (vmin (vTot R c) i), z i, s1) ∧ d = (R 1).toNat - i ∧ (i : Int) ≤ R 1 ∧ TM s s1) ?_ FU _ _ ⟨0, s, rfl, rfl, by omega, TM.rf⟩ (by simp only [FU]; omega)
  rintro kk d p ⟨i, s1, rfl, rfl, h4, h5⟩ hk
  have hR1 := h5.rep hR
  have hst : ∀ (v0 : Int) (s2 : TS), v0 = vmin (vTot R c) (i + 1) → TM s s2 → (i : Int) < R 1 → OK (kk (z c, z v0, z ((i : Int) + 1), s2)) _ := fun v0 s2 ev0 t2 hl => hk _ _ (by omega) ⟨i + 1, s2, (by rw [ev0]; rfl), rfl, by omega, t2⟩
  simp (disch := omega) only [T_leastTotal_5F, T_leastTotal_51, T_leastTotal_60, T_leastTotal_61, z_add, z_sub, z_mul, z_neg, zlt, zle, zeq, zne, l0, l1, l2, l3, l4, l5, l6, l7, l8, l9, l10, l11, l16, l17, l20, l24, l32, l37, l47, l57, l60, l67, l77, l97, l99, l122, l48, l57, l100, l237, l397, l600, l900, l880, l9998, l9999, bnd, xcI_rI, xcV_rV, xcR_rR, zb0, zb1, nz0, nz1, nar_z0, nar_z1, nar_b2, ↓reduceIte, T_cell_z, ald19, ast19, ald20, ast20, ald21, ast21, ald22, ast22, ald25, ast25, ald26, ast26, (ald_nC hR1), (ald_nR hR1), (ald_gap hR1), (ald_slk hR1), (ald_len hR1), (ald_crs hR1), (ald_st hR1), (ald_fi hR1), (ald_np hR1), (codeOf_z hR1), (pCode_z hR1), (pTime_z hR1), (total_z hR1), (isC_z hR1), (isR_z hR1)]
  refine ok_ite (fun c1 => ?_) fun c1 => ?_
  · have hi : i = (R 1).toNat := by omega
    subst hi
    exact ok_rI.mpr ⟨rfl, h5⟩
  have hcr := hV.crs (a := i) (by omega) (by omega)
  have hst' := hV.st (a := i) (by omega) (by omega)
  have hvr := vmin_rg (v := vTot R c) (B := 9999) (n := i) (fun o ho => vTot_rg hV (by omega))
  obtain ⟨s2, e2, t2⟩ := isValid_z hR1 hV (a := i) (by omega) (by omega)
  have hR2 := t2.rep hR1
  simp (disch := omega) only [e2, z_add, z_sub, z_mul, z_neg, zlt, zle, zeq, zne, l0, l1, l2, l3, l4, l5, l6, l7, l8, l9, l10, l11, l16, l17, l20, l24, l32, l37, l47, l57, l60, l67, l77, l97, l99, l122, l48, l57, l100, l237, l397, l600, l900, l880, l9998, l9999, bnd, xcI_rI, xcV_rV, xcR_rR, zb0, zb1, nz0, nz1, nar_z0, nar_z1, nar_b2, ↓reduceIte, T_cell_z, ald19, ast19, ald20, ast20, ald21, ast21, ald22, ast22, ald25, ast25, ald26, ast26, (ald_nC hR2), (ald_nR hR2), (ald_gap hR2), (ald_slk hR2), (ald_len hR2), (ald_crs hR2), (ald_st hR2), (ald_fi hR2), (ald_np hR2), (codeOf_z hR2), (pCode_z hR2), (pTime_z hR2), (total_z hR2), (isC_z hR2), (isR_z hR2)]
  have hno : ¬ (rCrs R i = c ∧ rVal R i) → vTot R c i = -2 := fun h => if_neg h
  have hyes : (rCrs R i = c ∧ rVal R i) → vTot R c i = rFi R i - rSt R i := fun h => if_pos h
  refine ok_ite (fun c2 => ?_) fun c2 => ?_
  · refine ok_ite (fun c3 => ?_) fun c3 => ?_
    · exact hst _ _ (by exact vmin_n (hno (fun h => c3 h.2))) (h5.trans t2) (by omega)
    · have hv := hyes ⟨c2, Decidable.not_not.mp c3⟩
      refine ok_ite (fun c4 => ?_) fun c4 => ?_
      · exact hst _ _ (by rw [← hv]; exact vmin_y (by omega) (Or.inl c4)) (h5.trans t2) (by omega)
      · refine ok_ite (fun c5 => ?_) fun c5 => ?_
        · exact hst _ _ (by exact vmin_k c4 (by omega)) (h5.trans t2) (by omega)
        · exact hst _ _ (by rw [← hv]; exact vmin_y (by omega) (Or.inr (by omega))) (h5.trans t2) (by omega)
  · exact hst _ _ (by exact vmin_n (hno (fun h => c2 h.1))) h5 (by omega)
theorem placeOf_z (hR : TRep s R) (hV : RV R) {a : Int} (ha : 0 ≤ a) (ha' : a < R 1) : ∃ s', T_placeOf s (z a) = rI (z (1 + sumS (fun o => b2 ((rCrs R o = rCrs R a ∧ rVal R o) ∧ rTot R o < rTot R a)) (R 1).toNat)) s' ∧ TM s s' := by
  have h1 := hV.nR
  have h0 := hV.nC
  have hca := hV.crs ha ha'
  have hsa := hV.st ha ha'
  apply ok_pu
  unfold T_placeOf
  rw [show ((1 : Int32), (0 : Int32), s) = (z (1 + sumS (fun o => b2 ((rCrs R o = rCrs R a ∧ rVal R o) ∧ rTot R o < rTot R a)) 0), z (0 : Nat), s) from rfl]
  refine ok_lpn (fun d p => ∃ (i : Nat) (s1 : TS), p = (z a, z (1 + sumS (fun o => b2 ((rCrs R o = rCrs R a ∧ rVal R o) ∧ rTot R o < rTot R a)) i), z i, s1) ∧ d = (R 1).toNat - i ∧ (i : Int) ≤ R 1 ∧ TM s s1) ?_ FU _ _ ⟨0, s, rfl, rfl, by omega, TM.rf⟩ (by simp only [FU]; omega)
  rintro kk d p ⟨i, s1, rfl, rfl, h4, h5⟩ hk
  have hR1 := h5.rep hR
  have hst : ∀ (v0 : Int) (s2 : TS), v0 = 1 + sumS (fun o => b2 ((rCrs R o = rCrs R a ∧ rVal R o) ∧ rTot R o < rTot R a)) (i + 1) → TM s s2 → (i : Int) < R 1 → OK (kk (z a, z v0, z ((i : Int) + 1), s2)) _ := fun v0 s2 ev0 t2 hl => hk _ _ (by omega) ⟨i + 1, s2, (by rw [ev0]; rfl), rfl, by omega, t2⟩
  simp (disch := omega) only [T_placeOf_4F, T_placeOf_61, T_placeOf_62, z_add, z_sub, z_mul, z_neg, zlt, zle, zeq, zne, l0, l1, l2, l3, l4, l5, l6, l7, l8, l9, l10, l11, l16, l17, l20, l24, l32, l37, l47, l57, l60, l67, l77, l97, l99, l122, l48, l57, l100, l237, l397, l600, l900, l880, l9998, l9999, bnd, xcI_rI, xcV_rV, xcR_rR, zb0, zb1, nz0, nz1, nar_z0, nar_z1, nar_b2, ↓reduceIte, T_cell_z, ald19, ast19, ald20, ast20, ald21, ast21, ald22, ast22, ald25, ast25, ald26, ast26, (ald_nC hR1), (ald_nR hR1), (ald_gap hR1), (ald_slk hR1), (ald_len hR1), (ald_crs hR1), (ald_st hR1), (ald_fi hR1), (ald_np hR1), (codeOf_z hR1), (pCode_z hR1), (pTime_z hR1), (total_z hR1), (isC_z hR1), (isR_z hR1)]
  refine ok_ite (fun c1 => ?_) fun c1 => ?_
  · have hi : i = (R 1).toNat := by omega
    subst hi
    exact ok_rI.mpr ⟨rfl, h5⟩
  have hcr := hV.crs (a := i) (by omega) (by omega)
  have hst' := hV.st (a := i) (by omega) (by omega)
  obtain ⟨s2, e2, t2⟩ := isValid_z hR1 hV (a := i) (by omega) (by omega)
  have hR2 := t2.rep hR1
  simp (disch := omega) only [e2, z_add, z_sub, z_mul, z_neg, zlt, zle, zeq, zne, l0, l1, l2, l3, l4, l5, l6, l7, l8, l9, l10, l11, l16, l17, l20, l24, l32, l37, l47, l57, l60, l67, l77, l97, l99, l122, l48, l57, l100, l237, l397, l600, l900, l880, l9998, l9999, bnd, xcI_rI, xcV_rV, xcR_rR, zb0, zb1, nz0, nz1, nar_z0, nar_z1, nar_b2, ↓reduceIte, T_cell_z, ald19, ast19, ald20, ast20, ald21, ast21, ald22, ast22, ald25, ast25, ald26, ast26, (ald_nC hR2), (ald_nR hR2), (ald_gap hR2), (ald_slk hR2), (ald_len hR2), (ald_crs hR2), (ald_st hR2), (ald_fi hR2), (ald_np hR2), (codeOf_z hR2), (pCode_z hR2), (pTime_z hR2), (total_z hR2), (isC_z hR2), (isR_z hR2)]
  refine ok_ite (fun c2 => ?_) fun c2 => ?_
  · refine ok_ite (fun c3 => ?_) fun c3 => ?_
    · exact hst _ _ (by rw [sumS, b2_f (fun h => c3 h.1.2), Int.add_zero, Int.add_zero]) (h5.trans t2) (by omega)
    · refine ok_ite (fun c4 => ?_) fun c4 => ?_
      · exact hst _ _ (by rw [sumS, b2_f (fun h => by unfold rTot at h; omega), Int.add_zero, Int.add_zero]) (h5.trans t2) (by omega)
      · exact hst _ _ (by rw [sumS, b2_t ⟨⟨c2, Decidable.not_not.mp c3⟩, by unfold rTot; omega⟩, Int.add_assoc]) (h5.trans t2) (by omega)
  · exact hst _ _ (by rw [sumS, b2_f (fun h => c2 h.1.1), Int.add_zero, Int.add_zero]) h5 (by omega)
theorem punchesOfAll_z (hR : TRep s R) (hV : RV R) : ∃ s', T_punchesOfAll s = rI (z (sumS (fun o => rNp R o) (R 1).toNat)) s' ∧ TM s s' := by
  have h1 := hV.nR
  apply ok_pu
  unfold T_punchesOfAll
  refine ok_lpn (fun d p => ∃ (i : Nat) (s1 : TS), p = (z (sumS (fun o => rNp R o) i), z i, s1) ∧ d = (R 1).toNat - i ∧ (i : Int) ≤ R 1 ∧ TM s s1) ?_ FU _ _ ⟨0, s, rfl, rfl, by omega, TM.rf⟩ (by simp only [FU]; omega)
  rintro kk d p ⟨i, s1, rfl, rfl, h4, h5⟩ hk
  have hR1 := h5.rep hR
  have hst : ∀ (v0 : Int) (s2 : TS), v0 = sumS (fun o => rNp R o) (i + 1) → TM s s2 → (i : Int) < R 1 → OK (kk (z v0, z ((i : Int) + 1), s2)) _ := fun v0 s2 ev0 t2 hl => hk _ _ (by omega) ⟨i + 1, s2, (by rw [ev0]; rfl), rfl, by omega, t2⟩
  simp (disch := omega) only [T_punchesOfAll_4F, z_add, z_sub, z_mul, z_neg, zlt, zle, zeq, zne, l0, l1, l2, l3, l4, l5, l6, l7, l8, l9, l10, l11, l16, l17, l20, l24, l32, l37, l47, l57, l60, l67, l77, l97, l99, l122, l48, l57, l100, l237, l397, l600, l900, l880, l9998, l9999, bnd, xcI_rI, xcV_rV, xcR_rR, zb0, zb1, nz0, nz1, nar_z0, nar_z1, nar_b2, ↓reduceIte, T_cell_z, ald19, ast19, ald20, ast20, ald21, ast21, ald22, ast22, ald25, ast25, ald26, ast26, (ald_nC hR1), (ald_nR hR1), (ald_gap hR1), (ald_slk hR1), (ald_len hR1), (ald_crs hR1), (ald_st hR1), (ald_fi hR1), (ald_np hR1), (codeOf_z hR1), (pCode_z hR1), (pTime_z hR1), (total_z hR1), (isC_z hR1), (isR_z hR1)]
  refine ok_ite (fun c1 => ?_) fun c1 => ?_
  · have hi : i = (R 1).toNat := by omega
    subst hi
    exact ok_rI.mpr ⟨rfl, h5⟩
  exact hst _ _ (by rfl) h5 (by omega)

theorem placeSp_z (hR : TRep s R) (hV : RV R) {a i : Int} (ha : 0 ≤ a) (ha' : a < R 1) (hi : 0 ≤ i) (hi' : i ≤ rLen R (rCrs R a)) : ∃ s', T_placeAt s (z a) (z i) (z 0) = rI (z (pSp R (rCrs R a) i (rSp R a i))) s' ∧ TM s s' := by
  have h1 := hV.nR
  have h0 := hV.nC
  have hca := hV.crs ha ha'
  obtain ⟨s9, e9, t9⟩ := sp_z hR hV ha ha' (i := i) (by omega) hi'
  have ho := rSp_rg hV (a := a) (i := i) ha ha'
  generalize rSp R a i = own at *
  have hj := rfl (a := i)
  generalize hij : i = j at hi hi' e9 ⊢
  suffices hS : ∃ s', lp T_placeAt_27F FU (z a, z j, z 0, z own, z 1, z 0, s9) = rI (z (pSp R (rCrs R a) j own)) s' ∧ TM s9 s' by
    obtain ⟨s', e, t⟩ := hS
    refine ⟨s', ?_, t9.trans t⟩
    unfold T_placeAt T_placeAt_19
    simp (disch := omega) only [e9, z_add, z_sub, z_mul, z_neg, zlt, zle, zeq, zne, l0, l1, l2, l3, l4, l5, l6, l7, l8, l9, l10, l11, l16, l17, l20, l24, l32, l37, l47, l57, l60, l67, l77, l97, l99, l122, l48, l57, l100, l237, l397, l600, l900, l880, l9998, l9999, bnd, xcI_rI, xcV_rV, xcR_rR, zb0, zb1, nz0, nz1, nar_z0, nar_z1, nar_b2, ↓reduceIte, T_cell_z, ald19, ast19, ald20, ast20, ald21, ast21, ald22, ast22, ald25, ast25, ald26, ast26, show ¬ ((1 : Int) = 0) by decide, e]
  have hR9 := t9.rep hR
  clear e9 hR t9
  generalize s9 = s at *
  have hR := hR9
  apply ok_pu
  unfold pSp
  rw [show (z 1, z 0, s) = (z (1 + sumS (fun o => b2 (vSp R (rCrs R a) j o ≠ -2 ∧ vSp R (rCrs R a) j o < own)) 0), z (0 : Nat), s) from rfl]
  refine ok_lpn (fun d p => ∃ (i : Nat) (s1 : TS), p = (z a, z j, z 0, z own, z (1 + sumS (fun o => b2 (vSp R (rCrs R a) j o ≠ -2 ∧ vSp R (rCrs R a) j o < own)) i), z i, s1) ∧ d = (R 1).toNat - i ∧ (i : Int) ≤ R 1 ∧ TM s s1) ?_ FU _ _ ⟨0, s, rfl, rfl, by omega, TM.rf⟩ (by simp only [FU]; omega)
  rintro kk d p ⟨i, s1, rfl, rfl, h4, h5⟩ hk
  have hR1 := h5.rep hR
  have hst : ∀ (v0 : Int) (s2 : TS), v0 = 1 + sumS (fun o => b2 (vSp R (rCrs R a) j o ≠ -2 ∧ vSp R (rCrs R a) j o < own)) (i + 1) → TM s s2 → (i : Int) < R 1 → OK (kk (z a, z j, z 0, z own, z v0, z ((i : Int) + 1), s2)) _ := fun v0 s2 ev0 t2 hl => hk _ _ (by omega) ⟨i + 1, s2, (by rw [ev0]; rfl), rfl, by omega, t2⟩
  simp (disch := omega) only [T_placeAt_27F, T_placeAt_86, T_placeAt_108, T_placeAt_109, z_add, z_sub, z_mul, z_neg, zlt, zle, zeq, zne, l0, l1, l2, l3, l4, l5, l6, l7, l8, l9, l10, l11, l16, l17, l20, l24, l32, l37, l47, l57, l60, l67, l77, l97, l99, l122, l48, l57, l100, l237, l397, l600, l900, l880, l9998, l9999, bnd, xcI_rI, xcV_rV, xcR_rR, zb0, zb1, nz0, nz1, nar_z0, nar_z1, nar_b2, ↓reduceIte, T_cell_z, ald19, ast19, ald20, ast20, ald21, ast21, ald22, ast22, ald25, ast25, ald26, ast26, (ald_nC hR1), (ald_nR hR1), (ald_gap hR1), (ald_slk hR1), (ald_len hR1), (ald_crs hR1), (ald_st hR1), (ald_fi hR1), (ald_np hR1), (codeOf_z hR1), (pCode_z hR1), (pTime_z hR1), (total_z hR1), (isC_z hR1), (isR_z hR1)]
  refine ok_ite (fun c1 => ?_) fun c1 => ?_
  · have hi : i = (R 1).toNat := by omega
    subst hi
    exact ok_rI.mpr ⟨rfl, h5⟩
  have hcr := hV.crs (a := i) (by omega) (by omega)
  simp (disch := omega) only [z_add, z_sub, z_mul, z_neg, zlt, zle, zeq, zne, l0, l1, l2, l3, l4, l5, l6, l7, l8, l9, l10, l11, l16, l17, l20, l24, l32, l37, l47, l57, l60, l67, l77, l97, l99, l122, l48, l57, l100, l237, l397, l600, l900, l880, l9998, l9999, bnd, xcI_rI, xcV_rV, xcR_rR, zb0, zb1, nz0, nz1, nar_z0, nar_z1, nar_b2, ↓reduceIte, T_cell_z, ald19, ast19, ald20, ast20, ald21, ast21, ald22, ast22, ald25, ast25, ald26, ast26]
  refine ok_ite (fun c2 => ?_) fun c2 => ?_
  · obtain ⟨s2, e2, t2⟩ := sp_z hR1 hV (a := i) (i := j) (by omega) (by omega) (by omega) (by rw [c2]; exact hi')
    have hvi : vSp R (rCrs R a) j i = rSp R i j := by unfold vSp; rw [if_pos c2]
    have hr := rSp_rg hV (a := i) (i := j) (by omega) (by omega)
    simp (disch := omega) only [e2, z_add, z_sub, z_mul, z_neg, zlt, zle, zeq, zne, l0, l1, l2, l3, l4, l5, l6, l7, l8, l9, l10, l11, l16, l17, l20, l24, l32, l37, l47, l57, l60, l67, l77, l97, l99, l122, l48, l57, l100, l237, l397, l600, l900, l880, l9998, l9999, bnd, xcI_rI, xcV_rV, xcR_rR, zb0, zb1, nz0, nz1, nar_z0, nar_z1, nar_b2, ↓reduceIte, T_cell_z, ald19, ast19, ald20, ast20, ald21, ast21, ald22, ast22, ald25, ast25, ald26, ast26, show ¬ ((1 : Int) = 0) by decide]
    refine ok_ite (fun c3 => ?_) fun c3 => ?_
    · exact hst _ _ (by rw [sumS, b2_f (fun h => h.1 (hvi.trans c3)), Int.add_zero, Int.add_zero]) (h5.trans t2) (by omega)
    · refine ok_ite (fun c4 => ?_) fun c4 => ?_
      · exact hst _ _ (by rw [sumS, b2_f (fun h => by omega), Int.add_zero, Int.add_zero]) (h5.trans t2) (by omega)
      · exact hst _ _ (by rw [sumS, b2_t ⟨by rw [hvi]; exact c3, by omega⟩, Int.add_assoc]) (h5.trans t2) (by omega)
  · have hvi : vSp R (rCrs R a) j i = -2 := by unfold vSp; rw [if_neg c2]
    exact hst _ _ (by rw [sumS, b2_f (fun h => h.1 hvi), Int.add_zero, Int.add_zero]) h5 (by omega)

theorem placeLg_z (hR : TRep s R) (hV : RV R) {a i : Int} (ha : 0 ≤ a) (ha' : a < R 1) (hi : 0 ≤ i) (hi' : i ≤ rLen R (rCrs R a)) : ∃ s', T_placeAt s (z a) (z i) (z 1) = rI (z (pLg R (rCrs R a) i (rLg R a i))) s' ∧ TM s s' := by
  have h1 := hV.nR
  have h0 := hV.nC
  have hca := hV.crs ha ha'
  obtain ⟨s9, e9, t9⟩ := lg_z hR hV ha ha' (i := i) (by omega) hi'
  have ho := rLg_rg hV ha ha' hi hi'
  generalize rLg R a i = own at *
  have hj := rfl (a := i)
  generalize hij : i = j at hi hi' e9 ⊢
  suffices hS : ∃ s', lp T_placeAt_27F FU (z a, z j, z 1, z own, z 1, z 0, s9) = rI (z (pLg R (rCrs R a) j own)) s' ∧ TM s9 s' by
    obtain ⟨s', e, t⟩ := hS
    refine ⟨s', ?_, t9.trans t⟩
    unfold T_placeAt T_placeAt_19
    simp (disch := omega) only [e9, z_add, z_sub, z_mul, z_neg, zlt, zle, zeq, zne, l0, l1, l2, l3, l4, l5, l6, l7, l8, l9, l10, l11, l16, l17, l20, l24, l32, l37, l47, l57, l60, l67, l77, l97, l99, l122, l48, l57, l100, l237, l397, l600, l900, l880, l9998, l9999, bnd, xcI_rI, xcV_rV, xcR_rR, zb0, zb1, nz0, nz1, nar_z0, nar_z1, nar_b2, ↓reduceIte, T_cell_z, ald19, ast19, ald20, ast20, ald21, ast21, ald22, ast22, ald25, ast25, ald26, ast26, show ¬ ((1 : Int) = 0) by decide, e]
  have hR9 := t9.rep hR
  clear e9 hR t9
  generalize s9 = s at *
  have hR := hR9
  apply ok_pu
  unfold pLg
  rw [show (z 1, z 0, s) = (z (1 + sumS (fun o => b2 (vLg R (rCrs R a) j o ≠ -2 ∧ vLg R (rCrs R a) j o < own)) 0), z (0 : Nat), s) from rfl]
  refine ok_lpn (fun d p => ∃ (i : Nat) (s1 : TS), p = (z a, z j, z 1, z own, z (1 + sumS (fun o => b2 (vLg R (rCrs R a) j o ≠ -2 ∧ vLg R (rCrs R a) j o < own)) i), z i, s1) ∧ d = (R 1).toNat - i ∧ (i : Int) ≤ R 1 ∧ TM s s1) ?_ FU _ _ ⟨0, s, rfl, rfl, by omega, TM.rf⟩ (by simp only [FU]; omega)
  rintro kk d p ⟨i, s1, rfl, rfl, h4, h5⟩ hk
  have hR1 := h5.rep hR
  have hst : ∀ (v0 : Int) (s2 : TS), v0 = 1 + sumS (fun o => b2 (vLg R (rCrs R a) j o ≠ -2 ∧ vLg R (rCrs R a) j o < own)) (i + 1) → TM s s2 → (i : Int) < R 1 → OK (kk (z a, z j, z 1, z own, z v0, z ((i : Int) + 1), s2)) _ := fun v0 s2 ev0 t2 hl => hk _ _ (by omega) ⟨i + 1, s2, (by rw [ev0]; rfl), rfl, by omega, t2⟩
  simp (disch := omega) only [T_placeAt_27F, T_placeAt_86, T_placeAt_108, T_placeAt_109, z_add, z_sub, z_mul, z_neg, zlt, zle, zeq, zne, l0, l1, l2, l3, l4, l5, l6, l7, l8, l9, l10, l11, l16, l17, l20, l24, l32, l37, l47, l57, l60, l67, l77, l97, l99, l122, l48, l57, l100, l237, l397, l600, l900, l880, l9998, l9999, bnd, xcI_rI, xcV_rV, xcR_rR, zb0, zb1, nz0, nz1, nar_z0, nar_z1, nar_b2, ↓reduceIte, T_cell_z, ald19, ast19, ald20, ast20, ald21, ast21, ald22, ast22, ald25, ast25, ald26, ast26, (ald_nC hR1), (ald_nR hR1), (ald_gap hR1), (ald_slk hR1), (ald_len hR1), (ald_crs hR1), (ald_st hR1), (ald_fi hR1), (ald_np hR1), (codeOf_z hR1), (pCode_z hR1), (pTime_z hR1), (total_z hR1), (isC_z hR1), (isR_z hR1)]
  refine ok_ite (fun c1 => ?_) fun c1 => ?_
  · have hi : i = (R 1).toNat := by omega
    subst hi
    exact ok_rI.mpr ⟨rfl, h5⟩
  have hcr := hV.crs (a := i) (by omega) (by omega)
  simp (disch := omega) only [z_add, z_sub, z_mul, z_neg, zlt, zle, zeq, zne, l0, l1, l2, l3, l4, l5, l6, l7, l8, l9, l10, l11, l16, l17, l20, l24, l32, l37, l47, l57, l60, l67, l77, l97, l99, l122, l48, l57, l100, l237, l397, l600, l900, l880, l9998, l9999, bnd, xcI_rI, xcV_rV, xcR_rR, zb0, zb1, nz0, nz1, nar_z0, nar_z1, nar_b2, ↓reduceIte, T_cell_z, ald19, ast19, ald20, ast20, ald21, ast21, ald22, ast22, ald25, ast25, ald26, ast26]
  refine ok_ite (fun c2 => ?_) fun c2 => ?_
  · obtain ⟨s2, e2, t2⟩ := lg_z hR1 hV (a := i) (i := j) (by omega) (by omega) (by omega) (by rw [c2]; exact hi')
    have hvi : vLg R (rCrs R a) j i = rLg R i j := by unfold vLg; rw [if_pos c2]
    have hr := rLg_rg hV (a := i) (i := j) (by omega) (by omega) hi (by rw [c2]; exact hi')
    simp (disch := omega) only [e2, z_add, z_sub, z_mul, z_neg, zlt, zle, zeq, zne, l0, l1, l2, l3, l4, l5, l6, l7, l8, l9, l10, l11, l16, l17, l20, l24, l32, l37, l47, l57, l60, l67, l77, l97, l99, l122, l48, l57, l100, l237, l397, l600, l900, l880, l9998, l9999, bnd, xcI_rI, xcV_rV, xcR_rR, zb0, zb1, nz0, nz1, nar_z0, nar_z1, nar_b2, ↓reduceIte, T_cell_z, ald19, ast19, ald20, ast20, ald21, ast21, ald22, ast22, ald25, ast25, ald26, ast26, show ¬ ((1 : Int) = 0) by decide]
    refine ok_ite (fun c3 => ?_) fun c3 => ?_
    · exact hst _ _ (by rw [sumS, b2_f (fun h => h.1 (hvi.trans c3)), Int.add_zero, Int.add_zero]) (h5.trans t2) (by omega)
    · refine ok_ite (fun c4 => ?_) fun c4 => ?_
      · exact hst _ _ (by rw [sumS, b2_f (fun h => by omega), Int.add_zero, Int.add_zero]) (h5.trans t2) (by omega)
      · exact hst _ _ (by rw [sumS, b2_t ⟨by rw [hvi]; exact c3, by omega⟩, Int.add_assoc]) (h5.trans t2) (by omega)
  · have hvi : vLg R (rCrs R a) j i = -2 := by unfold vLg; rw [if_neg c2]
    exact hst _ _ (by rw [sumS, b2_f (fun h => h.1 hvi), Int.add_zero, Int.add_zero]) h5 (by omega)
end

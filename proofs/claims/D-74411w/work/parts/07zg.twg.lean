/-! OVER: the twin's -/
set_option maxRecDepth 100000
/-- the twin has a text -/
def HT (s : TS) (mo : Option Nat) : Prop := s.1 6 = z (b2 (mo ≠ none))
theorem tw_w {s : TS} {K1 K2 : TS → Option (xO × TS)} {w : Int} (h : -2147483648 ≤ w ∧ w < 2147483648) : (xcI (T_isRefused s (z w)) fun x6 s5 => if x6 = 0 then K1 s5 else K2 s5) = if w = 0 then K1 (tF s (z w)) else K2 (tF s (z w)) := by
  rw [T_ref_z h, xcI_rI]
  by_cases c : w = 0
  · rw [if_pos c, b2_f' (fun e => e c), if_pos (by decide)]
  · rw [if_neg c, b2_t' c, if_neg (by decide)]
theorem HT.if {s : TS} {mo : Option Nat} (h : HT s mo) {α : Type} {A B : α} : (if s.1 6 = 0 then A else B) = if mo = none then A else B := by
  rw [h]
  by_cases c : mo = none
  · rw [if_pos c, b2_f' (fun e => e c), if_pos (by decide)]
  · rw [if_neg c, b2_t' c, if_neg (by decide)]
section
variable {s : TS} {R : Nat → Int} {mo : Option Nat}
theorem Tw_over (hR : TRep s R) (hV : RV R) (hT : HT s mo) {f t k : Int} (hf : i32 f) (ht : i32 t) (hk : i32 k) : To s (T_over s (z f) (z t) (z k)) (if (mo ≠ none ∧ 0 ≤ k ∧ k ≤ 1) ∧ (1 ≤ f ∧ f ≤ 99) ∧ 1 ≤ t ∧ t ≤ 99 then (if k = 0 then (vOv R f t (R 1).toNat).1 else (vOv R f t (R 1).toNat).2) else -1) (if mo ≠ none ∧ 0 ≤ k ∧ k ≤ 1 then (if (1 ≤ f ∧ f ≤ 99) ∧ 1 ≤ t ∧ t ≤ 99 then 0 else 2) else 1) := by
  have hnr := hV.nR
  have hnc := hV.nC
  have e1 : T_over s (z f) (z t) (z k) = T_over_22 (z f) (z t) (z k) (z (b2 (mo ≠ none ∧ 0 ≤ k ∧ k ≤ 1))) s := by
    unfold T_over T_over_21
    rw [hT.if]
    by_cases c : mo = none
    · rw [if_pos c, b2_f' (p := mo ≠ none ∧ 0 ≤ k ∧ k ≤ 1) (fun h => h.1 c)]; rfl
    · rw [if_neg c, l1, show (0 : Int32) = z 0 from rfl, T_in_z s (a := k) (b := 0) (c := 1) hk ⟨by decide, by decide⟩ ⟨by decide, by decide⟩, xcI_rI]
      by_cases c1 : 0 ≤ k ∧ k ≤ 1
      · rw [b2_t' c1, if_neg (by decide), b2_t' (And.intro c c1)]
      · rw [b2_f' c1, if_pos rfl, b2_f' (p := mo ≠ none ∧ 0 ≤ k ∧ k ≤ 1) (fun h => c1 h.2)]
  have e2 : T_over_22 (z f) (z t) (z k) (z (b2 (mo ≠ none ∧ 0 ≤ k ∧ k ≤ 1))) s = T_over_47 (z f) (z t) (z k) (z (b2 (mo ≠ none ∧ 0 ≤ k ∧ k ≤ 1))) (z (b2 ((1 ≤ f ∧ f ≤ 99) ∧ 1 ≤ t ∧ t ≤ 99))) s := by
    unfold T_over_22 T_over_46
    rw [l1, l99, show (0 : Int32) = z 0 from rfl, T_in_z s (a := f) (b := 1) (c := 99) hf ⟨by decide, by decide⟩ ⟨by decide, by decide⟩, xcI_rI]
    by_cases c1 : 1 ≤ f ∧ f ≤ 99
    · rw [b2_t' c1, if_neg (by decide), T_in_z s (a := t) (b := 1) (c := 99) ht ⟨by decide, by decide⟩ ⟨by decide, by decide⟩, xcI_rI]
      by_cases c2 : 1 ≤ t ∧ t ≤ 99
      · rw [b2_t' c2, if_neg (by decide), b2_t' (And.intro c1 c2)]
      · rw [b2_f' c2, if_pos rfl, b2_f' (p := (1 ≤ f ∧ f ≤ 99) ∧ 1 ≤ t ∧ t ≤ 99) (fun h => c2 h.2)]
    · rw [b2_f' c1, if_pos rfl, b2_f' (p := (1 ≤ f ∧ f ≤ 99) ∧ 1 ≤ t ∧ t ≤ 99) (fun h => c1 h.1)]
  rw [e1, e2]
  unfold T_over_47
  rw [T_un_z, xcI_rI]
  by_cases c0 : mo ≠ none ∧ 0 ≤ k ∧ k ≤ 1
  · rw [if_pos c0]
    by_cases c1 : (1 ≤ f ∧ f ≤ 99) ∧ 1 ≤ t ∧ t ≤ 99
    · rw [if_pos c1, if_pos (And.intro c0 c1), tw_w (by omega), if_pos rfl]
      apply ok_to
      refine ok_lpn (fun d p => ∃ (i : Nat) (s1 : TS), p = (z f, z t, z k, z ((vOv R f t i).1), z ((vOv R f t i).2), z i, s1) ∧ d = (R 1).toNat - i ∧ (i : Int) ≤ R 1 ∧ TQ (tF s (z 0)) s1) ?_ FU _ _ ⟨0, tF s (z 0), rfl, rfl, by omega, TQ.rf⟩ (by simp only [FU]; omega)
      rintro kk d p ⟨i, s1, rfl, rfl, h4, h5⟩ hk
      have hR1 := h5.rep (tF_rep hR)
      have hst : ∀ (v0 v1 : Int) (s2 : TS), v0 = (vOv R f t (i + 1)).1 → v1 = (vOv R f t (i + 1)).2 → TQ (tF s (z 0)) s2 → (i : Int) < R 1 → OK (kk (z f, z t, z k, z v0, z v1, z ((i : Int) + 1), s2)) _ := fun v0 v1 s2 ev0 ev1 t2 hl => hk _ _ (by omega) ⟨i + 1, s2, (by rw [ev0, ev1]; rfl), rfl, by omega, t2⟩
      simp (disch := omega) only [T_over_69F, z_add, z_sub, z_mul, z_neg, zlt, zle, zeq, zne, l0, l1, l2, l3, l4, l5, l6, l7, l8, l9, l10, l11, l16, l17, l20, l24, l32, l37, l47, l57, l60, l67, l77, l97, l99, l122, l48, l57, l100, l237, l397, l600, l900, l880, l9998, l9999, bnd, xcI_rI, xcV_rV, xcR_rR, zb0, zb1, nz0, nz1, nar_z0, nar_z1, nar_b2, ↓reduceIte, T_cell_z, ald19, ast19, ald20, ast20, ald21, ast21, ald22, ast22, ald25, ast25, ald26, ast26, (ald_nC hR1), (ald_nR hR1), (ald_gap hR1), (ald_slk hR1), (ald_len hR1), (ald_crs hR1), (ald_st hR1), (ald_fi hR1), (ald_np hR1), (codeOf_z hR1), (pCode_z hR1), (pTime_z hR1), (total_z hR1), (isC_z hR1), (isR_z hR1)]
      refine ok_ite (fun c3 => ?_) fun c3 => ?_
      · have hi : i = (R 1).toNat := by omega
        subst hi
        by_cases c4 : k = 0
        · rw [if_pos c4, if_pos c4]
          exact ok_rI.mpr ⟨rfl, h5⟩
        · rw [if_neg c4, if_neg c4]
          exact ok_rI.mpr ⟨rfl, h5⟩
      · have hcr := hV.crs (a := i) (by omega) (by omega)
        have hl := hV.len hcr.1 hcr.2
        have hb := vOv_rg hV (f := f) (t := t) i h4
        have hO : vOv R f t (i + 1) = vOvI R f t i (vOv R f t i) (rLen R (rCrs R i) - 1).toNat := rfl
        have hb2 := fun q hq => vOvI_rg hV (f := f) (t := t) (a := i) (by omega) (by omega) hb q hq
        generalize vOv R f t i = b at *
        refine ok_lpn (fun d p => ∃ (o : Nat) (s2 : TS), p = (z f, z t, z k, z (vOvI R f t i b o).1, z (vOvI R f t i b o).2, z i, z (rCrs R i), z ((o : Int) + 1), s2) ∧ d = (rLen R (rCrs R i) - 1).toNat - o ∧ (o : Int) ≤ rLen R (rCrs R i) - 1 ∧ TQ (tF s (z 0)) s2) ?_ FU _ _ ⟨0, s1, rfl, rfl, by omega, h5⟩ (by simp only [FU]; omega)
        rintro kk2 d p ⟨o, s2, rfl, rfl, g4, g5⟩ hk2
        have hR2 := g5.rep (tF_rep hR)
        have hbo := hb2 o (by omega)
        simp (disch := omega) only [T_over_95F, T_over_146, T_over_148, T_over_171, T_over_179, z_add, z_sub, z_mul, z_neg, zlt, zle, zeq, zne, l0, l1, l2, l3, l4, l5, l6, l7, l8, l9, l10, l11, l16, l17, l20, l24, l32, l37, l47, l57, l60, l67, l77, l97, l99, l122, l48, l57, l100, l237, l397, l600, l900, l880, l9998, l9999, bnd, xcI_rI, xcV_rV, xcR_rR, zb0, zb1, nz0, nz1, nar_z0, nar_z1, nar_b2, ↓reduceIte, T_cell_z, ald19, ast19, ald20, ast20, ald21, ast21, ald22, ast22, ald25, ast25, ald26, ast26, (ald_nC hR2), (ald_nR hR2), (ald_gap hR2), (ald_slk hR2), (ald_len hR2), (ald_crs hR2), (ald_st hR2), (ald_fi hR2), (ald_np hR2), (codeOf_z hR2), (pCode_z hR2), (pTime_z hR2), (total_z hR2), (isC_z hR2), (isR_z hR2)]
        refine ok_ite (fun c4 => ?_) fun c4 => ?_
        · have ho : o = (rLen R (rCrs R i) - 1).toNat := by omega
          subst ho
          exact hst _ _ _ (by rw [hO]) (by rw [hO]) g5 (by omega)
        · have k1 := codeOf_z hR2 (c := rCrs R i) (i := o) (by omega) (by omega) (by omega) (by omega)
          have k2 := codeOf_z hR2 (c := rCrs R i) (i := (o : Int) + 1) (by omega) (by omega) (by omega) (by omega)
          have v1 := hV.code hcr.1 hcr.2 (i := o) (by omega) (by omega)
          have v2 := hV.code hcr.1 hcr.2 (i := (o : Int) + 1) (by omega) (by omega)
          have hst2 : ∀ (v u : Int) (s3 : TS), v = (vOvI R f t i b (o + 1)).1 → u = (vOvI R f t i b (o + 1)).2 → TQ (tF s (z 0)) s3 → OK (kk2 (z f, z t, z k, z v, z u, z i, z (rCrs R i), z ((o : Int) + 1 + 1), s3)) _ := fun v u s3 ev eu t3 => hk2 _ _ (by omega) ⟨o + 1, s3, (by rw [ev, eu]; rfl), rfl, by omega, t3⟩
          simp (disch := omega) only [show (o : Int) + 1 - 1 = o by omega, k1, k2, z_add, z_sub, z_mul, z_neg, zlt, zle, zeq, zne, l0, l1, l2, l3, l4, l5, l6, l7, l8, l9, l10, l11, l16, l17, l20, l24, l32, l37, l47, l57, l60, l67, l77, l97, l99, l122, l48, l57, l100, l237, l397, l600, l900, l880, l9998, l9999, bnd, xcI_rI, xcV_rV, xcR_rR, zb0, zb1, nz0, nz1, nar_z0, nar_z1, nar_b2, ↓reduceIte, T_cell_z, ald19, ast19, ald20, ast20, ald21, ast21, ald22, ast22, ald25, ast25, ald26, ast26]
          refine ok_ite (fun c5 => ?_) fun c5 => ?_
          · refine ok_ite (fun c6 => ?_) fun c6 => ?_
            · obtain ⟨s3, e3, t3⟩ := lg_z hR2 hV (a := i) (i := (o : Int) + 1) (by omega) (by omega) (by omega) (by omega)
              have hlr := rLg_rg hV (a := i) (i := (o : Int) + 1) (by omega) (by omega) (by omega) (by omega)
              simp (disch := omega) only [e3, z_add, z_sub, z_mul, z_neg, zlt, zle, zeq, zne, l0, l1, l2, l3, l4, l5, l6, l7, l8, l9, l10, l11, l16, l17, l20, l24, l32, l37, l47, l57, l60, l67, l77, l97, l99, l122, l48, l57, l100, l237, l397, l600, l900, l880, l9998, l9999, bnd, xcI_rI, xcV_rV, xcR_rR, zb0, zb1, nz0, nz1, nar_z0, nar_z1, nar_b2, ↓reduceIte, T_cell_z, ald19, ast19, ald20, ast20, ald21, ast21, ald22, ast22, ald25, ast25, ald26, ast26]
              have h8 := g5.trans t3.q
              refine ok_ite (fun c7 => ?_) fun c7 => ?_
              · have hv : vOvI R f t i b (o + 1) = vOvI R f t i b o := by rw [vOvI, if_neg (fun h => h.2.1 c7)]
                exact hst2 _ _ _ (by rw [hv]) (by rw [hv]) h8
              · refine ok_ite (fun c8 => ?_) fun c8 => ?_
                · have hv : vOvI R f t i b (o + 1) = (rLg R i ((o : Int) + 1), (i : Int)) := by rw [vOvI, if_pos ⟨⟨c5, c6⟩, c7, Or.inl c8⟩]
                  exact hst2 _ _ _ (by rw [hv]) (by rw [hv]) h8
                · refine ok_ite (fun c9 => ?_) fun c9 => ?_
                  · have hv : vOvI R f t i b (o + 1) = vOvI R f t i b o := by rw [vOvI, if_neg (fun h => h.2.2.elim c8 (by omega))]
                    exact hst2 _ _ _ (by rw [hv]) (by rw [hv]) h8
                  · have hv : vOvI R f t i b (o + 1) = (rLg R i ((o : Int) + 1), (i : Int)) := by rw [vOvI, if_pos ⟨⟨c5, c6⟩, c7, Or.inr (by omega)⟩]
                    exact hst2 _ _ _ (by rw [hv]) (by rw [hv]) h8
            · have hv : vOvI R f t i b (o + 1) = vOvI R f t i b o := by rw [vOvI, if_neg (fun h => c6 h.1.2)]
              exact hst2 _ _ _ (by rw [hv]) (by rw [hv]) g5
          · have hv : vOvI R f t i b (o + 1) = vOvI R f t i b o := by rw [vOvI, if_neg (fun h => c5 h.1.1)]
            exact hst2 _ _ _ (by rw [hv]) (by rw [hv]) g5
    · rw [if_neg c1, if_neg (fun h : _ ∧ _ => c1 h.2), tw_w (by omega), if_neg (by omega)]
      exact ⟨_, rfl, TQ.rf⟩
  · rw [if_neg c0, if_neg (fun h : _ ∧ _ => c0 h.1), tw_w (by omega), if_neg (by omega)]
    exact ⟨_, rfl, TQ.rf⟩
end

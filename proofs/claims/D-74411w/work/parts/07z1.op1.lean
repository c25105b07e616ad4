/-! GUARDS -/
set_option maxRecDepth 100000
section
variable {n x : Nat} {P : PH} {g : GX} {mo : Option Nat} {cs rs : List Nat} {R : Nat → Int} {N : Nat → List Int32}
theorem b2_an {p q : Prop} [Decidable p] [Decidable q] (hp : p) : b2 (p ∧ q) = b2 q := by
  unfold b2
  by_cases hq : q
  · rw [if_pos ⟨hp, hq⟩, if_pos hq]
  · rw [if_neg (fun h => hq h.2), if_neg hq]
theorem if_b2 {σ : Type} {p : Prop} [Decidable p] {dn : Decidable (¬ p)} {s : σ} : @ite _ (¬ p) dn (rI (z 0) s) (rI (z 1) s) = rI (z (b2 p)) s := by
  by_cases hp : p
  · rw [if_neg (fun h => h hp), b2, if_pos hp]
  · rw [if_pos hp, b2, if_neg hp]
theorem b2_c {p q : Prop} [Decidable p] [Decidable q] (h : p ↔ q) : b2 p = b2 q := by
  unfold b2
  by_cases hp : p
  · rw [if_pos hp, if_pos (h.mp hp)]
  · rw [if_neg hp, if_neg fun e => hp (h.mpr e)]
theorem X_isPoint (hx : CX P x g mo) (hM : MO n P mo cs rs R N) (hV : RV R) {c i : Int} (hc : -2147483648 ≤ c ∧ c < 2147483648) (hi : -2147483648 ≤ i ∧ i < 2147483648) : f_X1_isPoint P x (z c) (z i) = rI (z (b2 ((0 ≤ c ∧ c < R 0) ∧ 0 ≤ i ∧ i ≤ rLen R c))) P := by
  unfold f_X1_isPoint
  rw [hx.cl, X_isCourse hx hM hV hc, xcI_rI]
  by_cases c1 : 0 ≤ c ∧ c < R 0
  · obtain ⟨m, rfl, hM'⟩ := hM.get (by omega)
    obtain ⟨cl, rl, mo, hcm, hcz, hrz, hcg, hrg⟩ := hM'.at
    obtain ⟨y, hy, hyc⟩ := hM'.crs c1.1 c1.2
    have hl := hV.len c1.1 c1.2
    obtain ⟨s, pl, ps, q0, q1, q⟩ := id hyc
    rw [b2_t' c1, b2_an c1]
    simp (disch := omega) only [z_add, z_sub, z_mul, z_neg, zlt, zle, zeq, zne, l0, l1, l2, l3, l4, l5, l6, l7, l8, l9, l10, l11, l16, l17, l20, l24, l32, l37, l47, l57, l60, l67, l77, l97, l99, l122, l48, l57, l100, l237, l397, l600, l900, l880, l9998, l9999, bnd, xcI_rI, xcV_rV, xcR_rR, zb0, zb1, nz0, nz1, nar_z0, nar_z1, nar_b2, ↓reduceIte, ↓xnul_s, ↓xnul_n, xcst_n, List.set_cons_zero, List.set_cons_succ, hx.gm, ↓xcl1_s hcm, ↓xgR_s (k := 0) hcm rfl, ↓xgR_s (k := 1) hcm rfl, ↓xgI_s (k := 2) hcm rfl, ↓xgI_s (k := 3) hcm rfl, hcg c y c1.1 c1.2 hy, ↓xcst_s q1 (cs := [5]) rfl, hyc.size, X_isIn_z, show ¬ ((1 : Int) = 0) by decide, if_b2]
  · rw [b2_f' c1, b2_f' (fun h => c1 h.1), if_pos (by decide), if_pos nar_z0]
    rfl
theorem X_isControl (hx : CX P x g mo) (hM : MO n P mo cs rs R N) (hV : RV R) {c i : Int} (hc : -2147483648 ≤ c ∧ c < 2147483648) (hi : -2147483648 ≤ i ∧ i < 2147483648) : f_X1_isControl P x (z c) (z i) = rI (z (b2 ((0 ≤ c ∧ c < R 0) ∧ 0 ≤ i ∧ i < rLen R c))) P := by
  unfold f_X1_isControl
  rw [hx.cl, X_isCourse hx hM hV hc, xcI_rI]
  by_cases c1 : 0 ≤ c ∧ c < R 0
  · obtain ⟨m, rfl, hM'⟩ := hM.get (by omega)
    obtain ⟨cl, rl, mo, hcm, hcz, hrz, hcg, hrg⟩ := hM'.at
    obtain ⟨y, hy, hyc⟩ := hM'.crs c1.1 c1.2
    have hl := hV.len c1.1 c1.2
    obtain ⟨s, pl, ps, q0, q1, q⟩ := id hyc
    rw [b2_t' c1, b2_an c1]
    simp (disch := omega) only [z_add, z_sub, z_mul, z_neg, zlt, zle, zeq, zne, l0, l1, l2, l3, l4, l5, l6, l7, l8, l9, l10, l11, l16, l17, l20, l24, l32, l37, l47, l57, l60, l67, l77, l97, l99, l122, l48, l57, l100, l237, l397, l600, l900, l880, l9998, l9999, bnd, xcI_rI, xcV_rV, xcR_rR, zb0, zb1, nz0, nz1, nar_z0, nar_z1, nar_b2, ↓reduceIte, ↓xnul_s, ↓xnul_n, xcst_n, List.set_cons_zero, List.set_cons_succ, hx.gm, ↓xcl1_s hcm, ↓xgR_s (k := 0) hcm rfl, ↓xgR_s (k := 1) hcm rfl, ↓xgI_s (k := 2) hcm rfl, ↓xgI_s (k := 3) hcm rfl, hcg c y c1.1 c1.2 hy, ↓xcst_s q1 (cs := [5]) rfl, hyc.size, X_isIn_z, show ¬ ((1 : Int) = 0) by decide, if_b2, Int.le_sub_one_iff]
  · rw [b2_f' c1, b2_f' (fun h => c1 h.1), if_pos (by decide), if_pos nar_z0]
    rfl
theorem X_isRunnersPoint (hx : CX P x g mo) (hM : MO n P mo cs rs R N) (hV : RV R) {a i : Int} (ha : -2147483648 ≤ a ∧ a < 2147483648) (hi : -2147483648 ≤ i ∧ i < 2147483648) : f_X1_isRunnersPoint P x (z a) (z i) = rI (z (b2 ((0 ≤ a ∧ a < R 1) ∧ 0 ≤ i ∧ i ≤ rLen R (rCrs R a)))) P := by
  unfold f_X1_isRunnersPoint
  rw [hx.cl, X_isRunner hx hM hV ha, xcI_rI]
  by_cases c1 : 0 ≤ a ∧ a < R 1
  · obtain ⟨m, rfl, hM'⟩ := hM.get (by omega)
    obtain ⟨cl, rl, mo, hcm, hcz, hrz, hcg, hrg⟩ := hM'.at
    obtain ⟨y, hy, hyc⟩ := hM'.run c1.1 c1.2
    have hcr := hV.crs c1.1 c1.2
    have hnc := hV.nC
    obtain ⟨s, pl, ps, q0, q1, q⟩ := id hyc
    rw [b2_t' c1, b2_an c1]
    simp (disch := omega) only [z_add, z_sub, z_mul, z_neg, zlt, zle, zeq, zne, l0, l1, l2, l3, l4, l5, l6, l7, l8, l9, l10, l11, l16, l17, l20, l24, l32, l37, l47, l57, l60, l67, l77, l97, l99, l122, l48, l57, l100, l237, l397, l600, l900, l880, l9998, l9999, bnd, xcI_rI, xcV_rV, xcR_rR, zb0, zb1, nz0, nz1, nar_z0, nar_z1, nar_b2, ↓reduceIte, ↓xnul_s, ↓xnul_n, xcst_n, List.set_cons_zero, List.set_cons_succ, hx.gm, ↓xcl1_s hcm, ↓xgR_s (k := 0) hcm rfl, ↓xgR_s (k := 1) hcm rfl, ↓xgI_s (k := 2) hcm rfl, ↓xgI_s (k := 3) hcm rfl, hrg a y c1.1 c1.2 hy, ↓xcst_s q1 (cs := [6]) rfl, ↓xcl1_s q1, ↓xgR_s (k := 0) q1 rfl, ↓xgI_s (k := 1) q1 rfl, ↓xgI_s (k := 2) q1 rfl, ↓xgI_s (k := 3) q1 rfl, ↓xgR_s (k := 4) q1 rfl, X_isPoint hx hM hV (c := rCrs R a) (i := i) ⟨by omega, by omega⟩ hi, show ¬ ((1 : Int) = 0) by decide, if_b2]
    rw [b2_an hcr]
  · rw [b2_f' c1, b2_f' (fun h => c1 h.1), if_pos (by decide), if_pos nar_z0]
    rfl
theorem X_isPunch (hx : CX P x g mo) (hM : MO n P mo cs rs R N) (hV : RV R) {a i : Int} (ha : -2147483648 ≤ a ∧ a < 2147483648) (hi : -2147483648 ≤ i ∧ i < 2147483648) : f_X1_isPunch P x (z a) (z i) = rI (z (b2 ((0 ≤ a ∧ a < R 1) ∧ 0 ≤ i ∧ i < rNp R a))) P := by
  unfold f_X1_isPunch
  rw [hx.cl, X_isRunner hx hM hV ha, xcI_rI]
  by_cases c1 : 0 ≤ a ∧ a < R 1
  · obtain ⟨m, rfl, hM'⟩ := hM.get (by omega)
    obtain ⟨cl, rl, mo, hcm, hcz, hrz, hcg, hrg⟩ := hM'.at
    obtain ⟨y, hy, hyc⟩ := hM'.run c1.1 c1.2
    have hnp := hV.np c1.1 c1.2
    obtain ⟨s, pl, ps, q0, q1, q2, q3, q⟩ := id hyc
    have hz := q2.2.size
    rw [b2_t' c1, b2_an c1]
    simp (disch := omega) only [z_add, z_sub, z_mul, z_neg, zlt, zle, zeq, zne, l0, l1, l2, l3, l4, l5, l6, l7, l8, l9, l10, l11, l16, l17, l20, l24, l32, l37, l47, l57, l60, l67, l77, l97, l99, l122, l48, l57, l100, l237, l397, l600, l900, l880, l9998, l9999, bnd, xcI_rI, xcV_rV, xcR_rR, zb0, zb1, nz0, nz1, nar_z0, nar_z1, nar_b2, ↓reduceIte, ↓xnul_s, ↓xnul_n, xcst_n, List.set_cons_zero, List.set_cons_succ, hx.gm, ↓xcl1_s hcm, ↓xgR_s (k := 0) hcm rfl, ↓xgR_s (k := 1) hcm rfl, ↓xgI_s (k := 2) hcm rfl, ↓xgI_s (k := 3) hcm rfl, hrg a y c1.1 c1.2 hy, ↓xcst_s q1 (cs := [6]) rfl, ↓xcl1_s q1, ↓xgR_s (k := 0) q1 rfl, ↓xgI_s (k := 1) q1 rfl, ↓xgI_s (k := 2) q1 rfl, ↓xgI_s (k := 3) q1 rfl, ↓xgR_s (k := 4) q1 rfl, hz, q3, X_isIn_z, show ¬ ((1 : Int) = 0) by decide, if_b2, Int.le_sub_one_iff]
  · rw [b2_f' c1, b2_f' (fun h => c1 h.1), if_pos (by decide), if_pos nar_z0]
    rfl
/-- why two can't be asked for -/
def wn2 (R : Nat → Int) (a b : Int) : Int := if ¬ (0 ≤ a ∧ a < R 1) ∨ ¬ (0 ≤ b ∧ b < R 1) then 1 else if a = b ∨ rCrs R a ≠ rCrs R b then 5 else 0
theorem wn2_rg {R : Nat → Int} {a b : Int} : 0 ≤ wn2 R a b ∧ wn2 R a b ≤ 5 := by
  unfold wn2
  repeat' split
  all_goals omega
theorem wn2_0 {R : Nat → Int} {a b : Int} : wn2 R a b = 0 ↔ (0 ≤ a ∧ a < R 1) ∧ (0 ≤ b ∧ b < R 1) ∧ a ≠ b ∧ rCrs R a = rCrs R b := by
  unfold wn2
  repeat' split
  all_goals omega
theorem X_whyNot (hx : CX P x g mo) (hM : MO n P mo cs rs R N) (hV : RV R) {a b : Int} (ha : -2147483648 ≤ a ∧ a < 2147483648) (hb : -2147483648 ≤ b ∧ b < 2147483648) : f_X1_whyNot P x (z a) (z b) = rI (z (wn2 R a b)) P := by
  unfold f_X1_whyNot
  rw [hx.cl, X_isRunner hx hM hV ha, xcI_rI]
  by_cases c1 : 0 ≤ a ∧ a < R 1
  · rw [b2_t' c1, if_neg (by decide), X_isRunner hx hM hV hb, xcI_rI]
    by_cases c2 : 0 ≤ b ∧ b < R 1
    · obtain ⟨m, rfl, hM'⟩ := hM.get (by omega)
      obtain ⟨cl, rl, mo, hcm, hcz, hrz, hcg, hrg⟩ := hM'.at
      obtain ⟨y, hy, hyc⟩ := hM'.run c1.1 c1.2
      obtain ⟨y', hy', hyc'⟩ := hM'.run c2.1 c2.2
      have hcr := hV.crs c1.1 c1.2
      have hcr' := hV.crs c2.1 c2.2
      have hnc := hV.nC
      obtain ⟨s, pl, ps, q0, q1, q2⟩ := id hyc
      obtain ⟨s', pl', ps', q0', q1', q2'⟩ := id hyc'
      rw [b2_t' c2, if_neg (by decide)]
      simp (disch := omega) only [z_add, z_sub, z_mul, z_neg, zlt, zle, zeq, zne, l0, l1, l2, l3, l4, l5, l6, l7, l8, l9, l10, l11, l16, l17, l20, l24, l32, l37, l47, l57, l60, l67, l77, l97, l99, l122, l48, l57, l100, l237, l397, l600, l900, l880, l9998, l9999, bnd, xcI_rI, xcV_rV, xcR_rR, zb0, zb1, nz0, nz1, nar_z0, nar_z1, nar_b2, ↓reduceIte, ↓xnul_s, ↓xnul_n, xcst_n, List.set_cons_zero, List.set_cons_succ, hx.gm, ↓xcl1_s hcm, ↓xgR_s (k := 0) hcm rfl, ↓xgR_s (k := 1) hcm rfl, ↓xgI_s (k := 2) hcm rfl, ↓xgI_s (k := 3) hcm rfl, hrg a y c1.1 c1.2 hy, hrg b y' c2.1 c2.2 hy', ↓xcst_s q1 (cs := [6]) rfl, ↓xcl1_s q1, ↓xgR_s (k := 0) q1 rfl, ↓xgI_s (k := 1) q1 rfl, ↓xgI_s (k := 2) q1 rfl, ↓xgI_s (k := 3) q1 rfl, ↓xgR_s (k := 4) q1 rfl, ↓xcst_s q1' (cs := [6]) rfl, ↓xcl1_s q1', ↓xgR_s (k := 0) q1' rfl, ↓xgI_s (k := 1) q1' rfl, ↓xgI_s (k := 2) q1' rfl, ↓xgI_s (k := 3) q1' rfl, ↓xgR_s (k := 4) q1' rfl]
      have hw : wn2 R a b = if a = b ∨ rCrs R a ≠ rCrs R b then 5 else 0 := by unfold wn2; rw [if_neg (by omega)]
      rw [hw]
      by_cases c3 : a = b
      · rw [if_pos c3, if_pos (Or.inl c3)]
      · rw [if_neg c3]
        by_cases c4 : rCrs R a = rCrs R b
        · rw [if_pos c4, if_neg (by omega)]
        · rw [if_neg c4, if_pos (Or.inr c4)]
    · rw [b2_f' c2, if_pos (by decide)]
      unfold wn2
      rw [if_pos (Or.inr c2)]
      rfl
  · rw [b2_f' c1, if_pos (by decide)]
    unfold wn2
    rw [if_pos (Or.inl c1)]
    rfl
end
/-! .. the twin's -/
/-- after the twin's guard -/
def tF (s : TS) (w : Int32) : TS := tI (tI (tI s 0 0) 3 (-1)) 1 w
theorem tF_rep {s : TS} {R : Nat → Int} {w : Int32} (h : TRep s R) : TRep (tF s w) R := h
theorem T_ref_z {s : TS} {w : Int} (h : -2147483648 ≤ w ∧ w < 2147483648) : T_isRefused s (z w) = rI (z (b2 (w ≠ 0))) (tF s (z w)) := by
  rw [T_isRefused_eq]
  unfold b2 tF
  by_cases c : w = 0
  · subst c
    rfl
  · rw [if_neg (fun e : z w = 0 => c (z_inj h.1 h.2 (by omega) (by omega) (show z w = z 0 from e))), if_pos c]
    rfl
theorem T_un2_z {s : TS} {p : Prop} [Decidable p] : T_unless_2 s (z (b2 p)) = rI (z (b2 (¬ p))) s := by
  rw [T_unless_2_eq]
  by_cases c : p
  · rw [b2_t' c, b2_f' (fun h => h c)]; rfl
  · rw [b2_f' c, b2_t' c]; rfl
theorem T_un_z {s : TS} {p q : Prop} [Decidable p] [Decidable q] : T_unless s (z (b2 p)) (z (b2 q)) = rI (z (if p then if q then 0 else 2 else 1)) s := by
  rw [T_unless_eq]
  by_cases c : p
  · rw [b2_t' c, if_pos c]
    by_cases c' : q
    · rw [b2_t' c', if_pos c']; rfl
    · rw [b2_f' c', if_neg c']; rfl
  · rw [b2_f' c, if_neg c]; rfl
section
variable {s : TS} {R : Nat → Int}
theorem T_isPoint_z (h : TRep s R) (hV : RV R) {c i : Int} (hc : -2147483648 ≤ c ∧ c < 2147483648) (hi : -2147483648 ≤ i ∧ i < 2147483648) : T_isPoint s (z c) (z i) = rI (z (b2 ((0 ≤ c ∧ c < R 0) ∧ 0 ≤ i ∧ i ≤ rLen R c))) s := by
  have h0 := hV.nC
  unfold T_isPoint
  rw [isC_z h h0.1 h0.2 hc.1 hc.2, xcI_rI]
  by_cases c1 : 0 ≤ c ∧ c < R 0
  · have hl := hV.len c1.1 c1.2
    rw [b2_t' c1, b2_an c1]
    simp (disch := omega) only [z_add, z_sub, z_mul, z_neg, zlt, zle, zeq, zne, l0, l1, l2, l3, l4, l5, l6, l7, l8, l9, l10, l11, l16, l17, l20, l24, l32, l37, l47, l57, l60, l67, l77, l97, l99, l122, l48, l57, l100, l237, l397, l600, l900, l880, l9998, l9999, bnd, xcI_rI, xcV_rV, xcR_rR, zb0, zb1, nz0, nz1, nar_z0, nar_z1, nar_b2, ↓reduceIte, ald_len h, T_in_z s (a := i) (b := 0) (c := rLen R c) ⟨hi.1, hi.2⟩ ⟨by decide, by decide⟩ ⟨by omega, by omega⟩, show ¬ ((1 : Int) = 0) by decide, if_b2]
  · rw [b2_f' c1, b2_f' (fun h => c1 h.1), if_pos (by decide), if_pos nar_z0]
    rfl
theorem T_isControl_z (h : TRep s R) (hV : RV R) {c i : Int} (hc : -2147483648 ≤ c ∧ c < 2147483648) (hi : -2147483648 ≤ i ∧ i < 2147483648) : T_isControl s (z c) (z i) = rI (z (b2 ((0 ≤ c ∧ c < R 0) ∧ 0 ≤ i ∧ i < rLen R c))) s := by
  have h0 := hV.nC
  unfold T_isControl
  rw [isC_z h h0.1 h0.2 hc.1 hc.2, xcI_rI]
  by_cases c1 : 0 ≤ c ∧ c < R 0
  · have hl := hV.len c1.1 c1.2
    rw [b2_t' c1, b2_an c1]
    simp (disch := omega) only [z_add, z_sub, z_mul, z_neg, zlt, zle, zeq, zne, l0, l1, l2, l3, l4, l5, l6, l7, l8, l9, l10, l11, l16, l17, l20, l24, l32, l37, l47, l57, l60, l67, l77, l97, l99, l122, l48, l57, l100, l237, l397, l600, l900, l880, l9998, l9999, bnd, xcI_rI, xcV_rV, xcR_rR, zb0, zb1, nz0, nz1, nar_z0, nar_z1, nar_b2, ↓reduceIte, ald_len h, T_in_z s (a := i) (b := 0) (c := rLen R c - 1) ⟨hi.1, hi.2⟩ ⟨by decide, by decide⟩ ⟨by omega, by omega⟩, show ¬ ((1 : Int) = 0) by decide, if_b2, Int.le_sub_one_iff]
  · rw [b2_f' c1, b2_f' (fun h => c1 h.1), if_pos (by decide), if_pos nar_z0]
    rfl
theorem T_isOwnPoint_z (h : TRep s R) (hV : RV R) {a i : Int} (ha : -2147483648 ≤ a ∧ a < 2147483648) (hi : -2147483648 ≤ i ∧ i < 2147483648) : T_isOwnPoint s (z a) (z i) = rI (z (b2 ((0 ≤ a ∧ a < R 1) ∧ 0 ≤ i ∧ i ≤ rLen R (rCrs R a)))) s := by
  have h1 := hV.nR
  have h0 := hV.nC
  unfold T_isOwnPoint
  rw [isR_z h h1.1 h1.2 ha.1 ha.2, xcI_rI]
  by_cases c1 : 0 ≤ a ∧ a < R 1
  · have hcr := hV.crs c1.1 c1.2
    rw [b2_t' c1, b2_an c1]
    simp (disch := omega) only [z_add, z_sub, z_mul, z_neg, zlt, zle, zeq, zne, l0, l1, l2, l3, l4, l5, l6, l7, l8, l9, l10, l11, l16, l17, l20, l24, l32, l37, l47, l57, l60, l67, l77, l97, l99, l122, l48, l57, l100, l237, l397, l600, l900, l880, l9998, l9999, bnd, xcI_rI, xcV_rV, xcR_rR, zb0, zb1, nz0, nz1, nar_z0, nar_z1, nar_b2, ↓reduceIte, ald_crs h, T_isPoint_z h hV (c := rCrs R a) (i := i) ⟨by omega, by omega⟩ hi, show ¬ ((1 : Int) = 0) by decide, if_b2]
    rw [b2_an hcr]
  · rw [b2_f' c1, b2_f' (fun h => c1 h.1), if_pos (by decide), if_pos nar_z0]
    rfl
theorem T_isPunch_z (h : TRep s R) (hV : RV R) {a i : Int} (ha : -2147483648 ≤ a ∧ a < 2147483648) (hi : -2147483648 ≤ i ∧ i < 2147483648) : T_isPunch s (z a) (z i) = rI (z (b2 ((0 ≤ a ∧ a < R 1) ∧ 0 ≤ i ∧ i < rNp R a))) s := by
  have h1 := hV.nR
  unfold T_isPunch
  rw [isR_z h h1.1 h1.2 ha.1 ha.2, xcI_rI]
  by_cases c1 : 0 ≤ a ∧ a < R 1
  · have hl := hV.np c1.1 c1.2
    rw [b2_t' c1, b2_an c1]
    simp (disch := omega) only [z_add, z_sub, z_mul, z_neg, zlt, zle, zeq, zne, l0, l1, l2, l3, l4, l5, l6, l7, l8, l9, l10, l11, l16, l17, l20, l24, l32, l37, l47, l57, l60, l67, l77, l97, l99, l122, l48, l57, l100, l237, l397, l600, l900, l880, l9998, l9999, bnd, xcI_rI, xcV_rV, xcR_rR, zb0, zb1, nz0, nz1, nar_z0, nar_z1, nar_b2, ↓reduceIte, ald_np h, T_in_z s (a := i) (b := 0) (c := rNp R a - 1) ⟨hi.1, hi.2⟩ ⟨by decide, by decide⟩ ⟨by omega, by omega⟩, show ¬ ((1 : Int) = 0) by decide, if_b2, Int.le_sub_one_iff]
  · rw [b2_f' c1, b2_f' (fun h => c1 h.1), if_pos (by decide), if_pos nar_z0]
    rfl
theorem T_why2_z (h : TRep s R) (hV : RV R) {a b : Int} {p : Prop} [Decidable p] (ha : -2147483648 ≤ a ∧ a < 2147483648) (hb : -2147483648 ≤ b ∧ b < 2147483648) : T_whyNotTwo s (z a) (z b) (z (b2 p)) = rI (z (if p then wn2 R a b else 1)) s := by
  have h1 := hV.nR
  have h0 := hV.nC
  unfold T_whyNotTwo
  by_cases c0 : p
  · rw [b2_t' c0, if_neg (by decide), if_pos c0, isR_z h h1.1 h1.2 ha.1 ha.2, xcI_rI]
    by_cases c1 : 0 ≤ a ∧ a < R 1
    · rw [b2_t' c1, if_neg (by decide), isR_z h h1.1 h1.2 hb.1 hb.2, xcI_rI]
      by_cases c2 : 0 ≤ b ∧ b < R 1
      · have hcr := hV.crs c1.1 c1.2
        have hcr' := hV.crs c2.1 c2.2
        rw [b2_t' c2, if_neg (by decide)]
        simp (disch := omega) only [z_add, z_sub, z_mul, z_neg, zlt, zle, zeq, zne, l0, l1, l2, l3, l4, l5, l6, l7, l8, l9, l10, l11, l16, l17, l20, l24, l32, l37, l47, l57, l60, l67, l77, l97, l99, l122, l48, l57, l100, l237, l397, l600, l900, l880, l9998, l9999, bnd, xcI_rI, xcV_rV, xcR_rR, zb0, zb1, nz0, nz1, nar_z0, nar_z1, nar_b2, ↓reduceIte, ald_crs h]
        have hw : wn2 R a b = if a = b ∨ rCrs R a ≠ rCrs R b then 5 else 0 := by unfold wn2; rw [if_neg (by omega)]
        rw [hw]
        by_cases c3 : a = b
        · rw [if_pos c3, if_pos (Or.inl c3)]
        · rw [if_neg c3]
          by_cases c4 : rCrs R a = rCrs R b
          · rw [if_pos c4, if_neg (by omega)]
          · rw [if_neg c4, if_pos (Or.inr c4)]
      · rw [b2_f' c2, if_pos (by decide), wn2, if_pos (Or.inr c2)]
        rfl
    · rw [b2_f' c1, if_pos (by decide), wn2, if_pos (Or.inl c1)]
      rfl
  · rw [b2_f' c0, if_pos (by decide), if_neg c0]
    rfl
end

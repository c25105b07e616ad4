/-! THE TWIN's QUERIES: sums, leaders -/
set_option maxRecDepth 100000
theorem ok_pu {K : Option (xO × TS)} {V : Int} {W : TS → Prop} (h : OK K (fun v s' => v = some (.int (z V)) ∧ W s')) : ∃ s', K = rI (z V) s' ∧ W s' := by
  obtain ⟨v, s', e, rfl, h2⟩ := h
  exact ⟨s', e, h2⟩
theorem b2_rg (p : Prop) [Decidable p] : 0 ≤ b2 p ∧ b2 p ≤ 1 := by unfold b2; split <;> omega
theorem b2_t {p : Prop} [Decidable p] (h : p) : b2 p = 1 := if_pos h
theorem b2_f {p : Prop} [Decidable p] (h : ¬ p) : b2 p = 0 := if_neg h
theorem b2_z0 (p : Prop) [Decidable p] : (b2 p = 0) = ¬ p := by unfold b2; split <;> simp [*]
theorem b2_z1 (p : Prop) [Decidable p] : (b2 p = 1) = p := by unfold b2; split <;> simp [*]
/-- valid runners: none is missed -/
abbrev rVal (R : Nat → Int) (a : Int) : Prop := rMis R a (rCrs R a) = 0
theorem rMis_rg {R : Nat → Int} (hV : RV R) {a c : Int} (hc : 0 ≤ c) (hc' : c < R 0) : 0 ≤ rMis R a c ∧ rMis R a c ≤ rLen R c := by
  have := mis_rg (e := eqC R a c) (n := (rLen R c).toNat) (m := (rNp R a).toNat) (rLen R c).toNat
  have := hV.len hc hc'
  unfold rMis
  omega
/-- the least of all that have any; -2: none -/
def vmin (v : Nat → Int) (n : Nat) : Int := if amin v n = -2 then -2 else v (amin v n).toNat
theorem vmin_s (v : Nat → Int) (i : Nat) : vmin v (i + 1) = if v i = -2 then vmin v i else if vmin v i = -2 ∨ v i < vmin v i then v i else vmin v i := by
  unfold vmin
  rw [amin]
  have hr := amin_rg v i
  by_cases h1 : v i = -2
  · simp only [h1, ↓reduceIte]
  · simp only [h1, ↓reduceIte]
    have e0 : ¬ ((i : Int) = -2) := by omega
    by_cases h2 : amin v i = -2
    · simp only [h2, true_or, ↓reduceIte, e0, Int.toNat_natCast]
    · have h3 : ¬ v (amin v i).toNat = -2 := by omega
      simp only [h2, h3, false_or, ↓reduceIte]
      by_cases h4 : v i < v (amin v i).toNat
      · simp only [h4, ↓reduceIte, e0, Int.toNat_natCast]
      · simp only [h4, ↓reduceIte, h2]
theorem vmin_rg {v : Nat → Int} {B : Int} {n : Nat} (h : ∀ i, i < n → v i = -2 ∨ (0 ≤ v i ∧ v i ≤ B)) : vmin v n = -2 ∨ (0 ≤ vmin v n ∧ vmin v n ≤ B) := by
  unfold vmin
  have hr := amin_rg v n
  split
  · exact Or.inl rfl
  · exact h _ (by omega)
/-- sums of which no part lacks; -2: one does -/
def idS (f : Nat → Int) : Nat → Int
  | 0 => 0
  | i + 1 => if idS f i = -2 ∨ f i = -2 then -2 else idS f i + f i
theorem idS_bad {f : Nat → Int} {i : Nat} (h : idS f i = -2) : ∀ d, idS f (i + d) = -2 := by
  intro d
  induction d with
  | zero => exact h
  | succ d ih => show idS f (i + d + 1) = -2; rw [idS, if_pos (Or.inl ih)]
theorem idS_rg {f : Nat → Int} {B : Int} : ∀ {n : Nat}, (∀ i, i < n → f i = -2 ∨ (0 ≤ f i ∧ f i ≤ B)) → 0 ≤ B → idS f n = -2 ∨ (0 ≤ idS f n ∧ idS f n ≤ B * n) := by
  intro n
  induction n with
  | zero => exact fun _ _ => Or.inr ⟨Int.le_refl _, by simp [idS]⟩
  | succ n ih =>
    intro h hB
    have h1 := ih (fun i hi => h i (by omega)) hB
    have h2 := h n (by omega)
    have e : B * ((n + 1 : Nat) : Int) = B * n + B := by
      rw [Int.natCast_add, Int.mul_add]
      simp
    rw [e, idS]
    split
    · exact Or.inl rfl
    · omega
def rTot (R : Nat → Int) (a : Int) : Int := rFi R a - rSt R a
def vTot (R : Nat → Int) (c : Int) (o : Nat) : Int := if rCrs R o = c ∧ rVal R o then rTot R o else -2
def vLg (R : Nat → Int) (c i : Int) (o : Nat) : Int := if rCrs R o = c then rLg R o i else -2
def vSp (R : Nat → Int) (c i : Int) (o : Nat) : Int := if rCrs R o = c then rSp R o i else -2
/-- the fastest on a leg, the first at a point of a course; -2: none -/
def rBR (R : Nat → Int) (c i : Int) : Int := amin (vLg R c i) (R 1).toNat
def rBS (R : Nat → Int) (c i : Int) : Int := amin (vSp R c i) (R 1).toNat
def rBL (R : Nat → Int) (c i : Int) : Int := vmin (vLg R c i) (R 1).toNat
theorem vLg_rg {R : Nat → Int} (hV : RV R) {c i : Int} (hi : 0 ≤ i) (hi' : i ≤ rLen R c) {o : Nat} (ho : (o : Int) < R 1) : vLg R c i o = -2 ∨ (0 ≤ vLg R c i o ∧ vLg R c i o ≤ 9999) := by
  unfold vLg
  split
  · rename_i h
    exact rLg_rg hV (by omega) ho hi (by rw [h]; exact hi')
  · exact Or.inl rfl
theorem vSp_rg {R : Nat → Int} (hV : RV R) {c i : Int} {o : Nat} (ho : (o : Int) < R 1) : vSp R c i o = -2 ∨ (0 ≤ vSp R c i o ∧ vSp R c i o ≤ 9999) := by
  unfold vSp
  split
  · exact rSp_rg hV (by omega) ho
  · exact Or.inl rfl
theorem vTot_rg {R : Nat → Int} (hV : RV R) {c : Int} {o : Nat} (ho : (o : Int) < R 1) : vTot R c o = -2 ∨ (0 ≤ vTot R c o ∧ vTot R c o ≤ 9999) := by
  unfold vTot rTot
  have := hV.st (a := o) (by omega) ho
  split
  · omega
  · exact Or.inl rfl
theorem rBL_rg {R : Nat → Int} (hV : RV R) {c i : Int} (hi : 0 ≤ i) (hi' : i ≤ rLen R c) : rBL R c i = -2 ∨ (0 ≤ rBL R c i ∧ rBL R c i ≤ 9999) := by
  have h1 := hV.nR
  exact vmin_rg fun o ho => vLg_rg hV hi hi' (by omega)
theorem vLg_c {R : Nat → Int} {c i : Int} {o : Nat} (h : vLg R c i o ≠ -2) : rCrs R o = c ∧ vLg R c i o = rLg R o i := by
  unfold vLg at h ⊢
  by_cases hc : rCrs R o = c
  · exact ⟨hc, if_pos hc⟩
  · rw [if_neg hc] at h; exact absurd rfl h
theorem vSp_c {R : Nat → Int} {c i : Int} {o : Nat} (h : vSp R c i o ≠ -2) : rCrs R o = c ∧ vSp R c i o = rSp R o i := by
  unfold vSp at h ⊢
  by_cases hc : rCrs R o = c
  · exact ⟨hc, if_pos hc⟩
  · rw [if_neg hc] at h; exact absurd rfl h
theorem rBR_rg {R : Nat → Int} (hV : RV R) {c i : Int} : (rBR R c i = -2 ∧ rBL R c i = -2) ∨ (0 ≤ rBR R c i ∧ rBR R c i < R 1 ∧ rCrs R (rBR R c i) = c ∧ rLg R (rBR R c i) i = rBL R c i ∧ rBL R c i ≠ -2) := by
  have h1 := hV.nR
  unfold rBL vmin
  show (rBR R c i = -2 ∧ (if rBR R c i = -2 then -2 else vLg R c i (rBR R c i).toNat) = -2) ∨ _
  rcases amin_rg (vLg R c i) (R 1).toNat with hr | hr
  · have hr : rBR R c i = -2 := hr
    exact Or.inl ⟨hr, if_pos hr⟩
  · refine Or.inr ?_
    have hr : 0 ≤ rBR R c i ∧ rBR R c i < (R 1).toNat ∧ vLg R c i (rBR R c i).toNat ≠ -2 := hr
    have h2 := vLg_c hr.2.2
    rw [show (((rBR R c i).toNat : Nat) : Int) = rBR R c i by omega] at h2
    refine ⟨hr.1, by omega, h2.1, ?_⟩
    show rLg R (rBR R c i) i = (if rBR R c i = -2 then -2 else vLg R c i (rBR R c i).toNat) ∧ (if rBR R c i = -2 then -2 else vLg R c i (rBR R c i).toNat) ≠ -2
    rw [if_neg (by omega)]
    exact ⟨h2.2.symm, hr.2.2⟩
theorem rBS_rg {R : Nat → Int} (hV : RV R) {c i : Int} : rBS R c i = -2 ∨ (0 ≤ rBS R c i ∧ rBS R c i < R 1 ∧ rCrs R (rBS R c i) = c ∧ rSp R (rBS R c i) i ≠ -2) := by
  have h1 := hV.nR
  rcases amin_rg (vSp R c i) (R 1).toNat with hr | hr
  · exact Or.inl hr
  · refine Or.inr ?_
    have hr : 0 ≤ rBS R c i ∧ rBS R c i < (R 1).toNat ∧ vSp R c i (rBS R c i).toNat ≠ -2 := hr
    have h2 := vSp_c hr.2.2
    rw [h2.2] at hr
    rw [show (((rBS R c i).toNat : Nat) : Int) = rBS R c i by omega] at h2 hr
    exact ⟨hr.1, by omega, h2.1, hr.2.2⟩
section
variable {R : Nat → Int} {s : TS}
theorem runnersOf_z (hR : TRep s R) (hV : RV R) {c : Int} (hc : 0 ≤ c) (hc' : c < R 0) : ∃ s', T_runnersOf s (z c) = rI (z (sumS (fun i => b2 (rCrs R i = c)) (R 1).toNat)) s' ∧ TM s s' := by
  have h1 := hV.nR
  have h0 := hV.nC
  apply ok_pu
  unfold T_runnersOf
  refine ok_lpn (fun d p => ∃ (i : Nat) (s1 : TS), p = (z c, z (sumS (fun i => b2 (rCrs R i = c)) i), z i, s1) ∧ d = (R 1).toNat - i ∧ (i : Int) ≤ R 1 ∧ TM s s1) ?_ FU _ _ ⟨0, s, rfl, rfl, by omega, TM.rf⟩ (by simp only [FU]; omega)
  rintro kk d p ⟨i, s1, rfl, rfl, h4, h5⟩ hk
  have hR1 := h5.rep hR
  have hst : ∀ (v0 : Int) (s2 : TS), v0 = sumS (fun i => b2 (rCrs R i = c)) (i + 1) → TM s s2 → (i : Int) < R 1 → OK (kk (z c, z v0, z ((i : Int) + 1), s2)) _ := fun v0 s2 ev0 t2 hl => hk _ _ (by omega) ⟨i + 1, s2, (by rw [ev0]; rfl), rfl, by omega, t2⟩
  simp (disch := omega) only [T_runnersOf_4F, T_runnersOf_33, z_add, z_sub, z_mul, z_neg, zlt, zle, zeq, zne, l0, l1, l2, l3, l4, l5, l6, l7, l8, l9, l10, l11, l16, l17, l20, l24, l32, l37, l47, l57, l60, l67, l77, l97, l99, l122, l48, l57, l100, l237, l397, l600, l900, l880, l9998, l9999, bnd, xcI_rI, xcV_rV, xcR_rR, zb0, zb1, nz0, nz1, nar_z0, nar_z1, nar_b2, ↓reduceIte, T_cell_z, ald19, ast19, ald20, ast20, ald21, ast21, ald22, ast22, ald25, ast25, ald26, ast26, (ald_nC hR1), (ald_nR hR1), (ald_gap hR1), (ald_slk hR1), (ald_len hR1), (ald_crs hR1), (ald_st hR1), (ald_fi hR1), (ald_np hR1), (codeOf_z hR1), (pCode_z hR1), (pTime_z hR1), (total_z hR1), (isC_z hR1), (isR_z hR1)]
  by_cases c1 : R 1 ≤ i
  · simp only [c1, ↓reduceIte]
    have : i = (R 1).toNat := by omega
    subst this
    exact ok_rI.mpr ⟨rfl, h5⟩
  · have hcr := hV.crs (a := i) (by omega) (by omega)
    simp (disch := omega) only [c1, z_add, z_sub, z_mul, z_neg, zlt, zle, zeq, zne, l0, l1, l2, l3, l4, l5, l6, l7, l8, l9, l10, l11, l16, l17, l20, l24, l32, l37, l47, l57, l60, l67, l77, l97, l99, l122, l48, l57, l100, l237, l397, l600, l900, l880, l9998, l9999, bnd, xcI_rI, xcV_rV, xcR_rR, zb0, zb1, nz0, nz1, nar_z0, nar_z1, nar_b2, ↓reduceIte, T_cell_z, ald19, ast19, ald20, ast20, ald21, ast21, ald22, ast22, ald25, ast25, ald26, ast26]
    by_cases c2 : rCrs R i = c
    · simp only [c2, ↓reduceIte]
      refine hst _ _ ?_ h5 (by omega)
      rw [sumS, b2_t c2]
    · simp only [c2, ↓reduceIte]
      refine hst _ _ ?_ h5 (by omega)
      rw [sumS, b2_f c2]
theorem validOf_z (hR : TRep s R) (hV : RV R) {c : Int} (hc : -1 ≤ c) (hc' : c < R 0) : ∃ s', T_validOf s (z c) = rI (z (sumS (fun i => b2 ((c = -1 ∨ rCrs R i = c) ∧ rVal R i)) (R 1).toNat)) s' ∧ TM s s' := by
  have h1 := hV.nR
  have h0 := hV.nC
  apply ok_pu
  unfold T_validOf
  refine ok_lpn (fun d p => ∃ (i : Nat) (s1 : TS), p = (z c, z (sumS (fun i => b2 ((c = -1 ∨ rCrs R i = c) ∧ rVal R i)) i), z i, s1) ∧ d = (R 1).toNat - i ∧ (i : Int) ≤ R 1 ∧ TM s s1) ?_ FU _ _ ⟨0, s, rfl, rfl, by omega, TM.rf⟩ (by simp only [FU]; omega)
  rintro kk d p ⟨i, s1, rfl, rfl, h4, h5⟩ hk
  have hR1 := h5.rep hR
  have hst : ∀ (v0 : Int) (s2 : TS), v0 = sumS (fun i => b2 ((c = -1 ∨ rCrs R i = c) ∧ rVal R i)) (i + 1) → TM s s2 → (i : Int) < R 1 → OK (kk (z c, z v0, z ((i : Int) + 1), s2)) _ := fun v0 s2 ev0 t2 hl => hk _ _ (by omega) ⟨i + 1, s2, (by rw [ev0]; rfl), rfl, by omega, t2⟩
  simp (disch := omega) only [T_validOf_4F, T_validOf_33, T_validOf_45, T_validOf_46, z_add, z_sub, z_mul, z_neg, zlt, zle, zeq, zne, l0, l1, l2, l3, l4, l5, l6, l7, l8, l9, l10, l11, l16, l17, l20, l24, l32, l37, l47, l57, l60, l67, l77, l97, l99, l122, l48, l57, l100, l237, l397, l600, l900, l880, l9998, l9999, bnd, xcI_rI, xcV_rV, xcR_rR, zb0, zb1, nz0, nz1, nar_z0, nar_z1, nar_b2, ↓reduceIte, T_cell_z, ald19, ast19, ald20, ast20, ald21, ast21, ald22, ast22, ald25, ast25, ald26, ast26, (ald_nC hR1), (ald_nR hR1), (ald_gap hR1), (ald_slk hR1), (ald_len hR1), (ald_crs hR1), (ald_st hR1), (ald_fi hR1), (ald_np hR1), (codeOf_z hR1), (pCode_z hR1), (pTime_z hR1), (total_z hR1), (isC_z hR1), (isR_z hR1)]
  by_cases c1 : R 1 ≤ i
  · simp only [c1, ↓reduceIte]
    have : i = (R 1).toNat := by omega
    subst this
    exact ok_rI.mpr ⟨rfl, h5⟩
  · have hcr := hV.crs (a := i) (by omega) (by omega)
    obtain ⟨s2, e2, t2⟩ := isValid_z hR1 hV (a := i) (by omega) (by omega)
    simp (disch := omega) only [c1, e2, z_add, z_sub, z_mul, z_neg, zlt, zle, zeq, zne, l0, l1, l2, l3, l4, l5, l6, l7, l8, l9, l10, l11, l16, l17, l20, l24, l32, l37, l47, l57, l60, l67, l77, l97, l99, l122, l48, l57, l100, l237, l397, l600, l900, l880, l9998, l9999, bnd, xcI_rI, xcV_rV, xcR_rR, zb0, zb1, nz0, nz1, nar_z0, nar_z1, nar_b2, ↓reduceIte, T_cell_z, ald19, ast19, ald20, ast20, ald21, ast21, ald22, ast22, ald25, ast25, ald26, ast26]
    refine ok_ite (fun c2 => ?_) fun c2 => ok_ite (fun c4 => ?_) fun c4 => ?_
    · refine ok_ite (fun c3 => ?_) fun c3 => ?_
      · exact hst _ _ (by rw [sumS, b2_f (fun h => c3 h.2), Int.add_zero]) (h5.trans t2) (by omega)
      · exact hst _ _ (by rw [sumS, b2_t ⟨Or.inl c2, Decidable.not_not.mp c3⟩]) (h5.trans t2) (by omega)
    · refine ok_ite (fun c3 => ?_) fun c3 => ?_
      · exact hst _ _ (by rw [sumS, b2_f (fun h => c3 h.2), Int.add_zero]) (h5.trans t2) (by omega)
      · exact hst _ _ (by rw [sumS, b2_t ⟨Or.inr c4, Decidable.not_not.mp c3⟩]) (h5.trans t2) (by omega)
    · exact hst _ _ (by rw [sumS, b2_f (fun h => h.1.elim c2 c4), Int.add_zero]) h5 (by omega)
end

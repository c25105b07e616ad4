/-! TIMES, LEGS: what both compute; the twin's -/
set_option maxRecDepth 100000
def sumS (f : Nat → Int) : Nat → Int
  | 0 => 0
  | i + 1 => sumS f i + f i
theorem sumS_rg {f : Nat → Int} {B : Int} : ∀ {n : Nat}, (∀ i, i < n → 0 ≤ f i ∧ f i ≤ B) → 0 ≤ sumS f n ∧ sumS f n ≤ B * n := by
  intro n
  induction n with
  | zero => exact fun _ => ⟨Int.le_refl _, by simp [sumS]⟩
  | succ n ih =>
    intro h
    have h1 := ih fun i hi => h i (by omega)
    have h2 := h n (by omega)
    have e : B * ((n + 1 : Nat) : Int) = B * n + B := by
      rw [Int.natCast_add, Int.mul_add]
      simp
    rw [e]
    show 0 ≤ sumS f n + f n ∧ sumS f n + f n ≤ _
    omega
/-- the first of those that have the least; -2: none has any -/
def amin (v : Nat → Int) : Nat → Int
  | 0 => -2
  | i + 1 => if v i = -2 then amin v i else if amin v i = -2 ∨ v i < v (amin v i).toNat then i else amin v i
theorem amin_rg (v : Nat → Int) : ∀ n, amin v n = -2 ∨ (0 ≤ amin v n ∧ amin v n < n ∧ v (amin v n).toNat ≠ -2) := by
  intro n
  induction n with
  | zero => exact Or.inl rfl
  | succ n ih =>
    rw [amin]
    split
    · rcases ih with ih | ih
      · exact Or.inl ih
      · exact Or.inr ⟨ih.1, by omega, ih.2.2⟩
    · rename_i hv
      split
      · exact Or.inr ⟨by omega, by omega, by rw [Int.toNat_natCast]; exact hv⟩
      · rcases ih with ih | ih
        · exact Or.inl ih
        · exact Or.inr ⟨ih.1, by omega, ih.2.2⟩
theorem amin_le (v : Nat → Int) : ∀ {n i : Nat}, i < n → v i ≠ -2 → amin v n ≠ -2 ∧ v (amin v n).toNat ≤ v i := by
  intro n
  induction n with
  | zero => exact fun h => absurd h (Nat.not_lt_zero _)
  | succ n ih =>
    intro i hi hv
    rw [amin]
    by_cases h : i = n
    · subst h
      rw [if_neg hv]
      split
      · exact ⟨by omega, by rw [Int.toNat_natCast]; exact Int.le_refl _⟩
      · rename_i h1
        exact ⟨fun e => h1 (Or.inl e), by
          have : ¬ v i < v (amin v i).toNat := fun e => h1 (Or.inr e)
          omega⟩
    · have := ih (i := i) (by omega) hv
      split
      · exact this
      · split
        · rename_i h1 h2
          rcases h2 with h2 | h2
          · exact absurd h2 this.1
          · exact ⟨by omega, by rw [Int.toNat_natCast]; omega⟩
        · exact this
theorem amin_congr {v v' : Nat → Int} : ∀ {n : Nat}, (∀ i, i < n → v i = v' i) → amin v n = amin v' n := by
  intro n
  induction n with
  | zero => exact fun _ => rfl
  | succ n ih =>
    intro h
    have h1 := ih fun i hi => h i (by omega)
    rw [amin, amin, h1, h n (by omega)]
    rcases amin_rg v' n with h2 | h2
    · simp only [h2, true_or]
    · rw [h (amin v' n).toNat (by omega)]
/-- when runner a was at point i; -1: not -/
def rTm (R : Nat → Int) (a i : Int) : Int := if i < 0 then rSt R a else if i = rLen R (rCrs R a) then rFi R a else match rTk R a (rCrs R a) i.toNat with
  | none => -1
  | some k => rPt R a k
def rSp (R : Nat → Int) (a i : Int) : Int := if rTm R a i = -1 then -2 else rTm R a i - rSt R a
def rLg (R : Nat → Int) (a i : Int) : Int := if rTm R a (i - 1) = -1 then -2 else if rTm R a i = -1 then -2 else rTm R a i - rTm R a (i - 1)
theorem rTk_rg {R : Nat → Int} (hV : RV R) {a c : Int} (ha : 0 ≤ a) (ha' : a < R 1) (i : Nat) : -1 ≤ tv (rTk R a c i) ∧ tv (rTk R a c i) < rNp R a ∧ (rTk R a c i = none ↔ tv (rTk R a c i) = -1) := by
  have hp := hV.np ha ha'
  have := tkn_rg (e := eqC R a c) (n := (rLen R c).toNat) (m := (rNp R a).toNat) (i := i)
  unfold rTk
  exact ⟨this.1, by omega, this.2.2⟩
theorem rTm_tk {R : Nat → Int} {a i : Int} (h0 : 0 ≤ i) (h1 : i ≠ rLen R (rCrs R a)) : rTm R a i = if tv (rTk R a (rCrs R a) i.toNat) = -1 then -1 else rPt R a (tv (rTk R a (rCrs R a) i.toNat)) := by
  unfold rTm
  rw [if_neg (by omega), if_neg h1]
  cases h : rTk R a (rCrs R a) i.toNat with
  | none => simp [tv]
  | some k =>
    rw [if_neg (by simp only [tv]; omega)]
    rfl
theorem rTm_rg {R : Nat → Int} (hV : RV R) {a i : Int} (ha : 0 ≤ a) (ha' : a < R 1) : rTm R a i = -1 ∨ (0 ≤ rTm R a i ∧ rTm R a i ≤ 9999 ∧ rSt R a ≤ rTm R a i ∧ rTm R a i ≤ rFi R a) := by
  have hs := hV.st ha ha'
  by_cases h0 : i < 0
  · unfold rTm; rw [if_pos h0]; omega
  · by_cases h1 : i = rLen R (rCrs R a)
    · unfold rTm; rw [if_neg h0, if_pos h1]; omega
    · rw [rTm_tk (by omega) h1]
      have := rTk_rg hV (c := rCrs R a) ha ha' i.toNat
      split
      · exact Or.inl rfl
      · have := hV.pt ha ha' (k := tv (rTk R a (rCrs R a) i.toNat)) (by omega) (by omega)
        omega
theorem rPt_mono {R : Nat → Int} (hV : RV R) {a : Int} (ha : 0 ≤ a) (ha' : a < R 1) {k : Int} (h0 : 0 ≤ k) : ∀ d : Nat, k + d < rNp R a → rPt R a k ≤ rPt R a (k + d) := by
  intro d
  induction d with
  | zero => intro _; rw [show k + ((0 : Nat) : Int) = k by omega]; exact Int.le_refl _
  | succ d ih =>
    intro h
    have := ih (by omega)
    have := hV.srt ha ha' (k := k + d) (by omega) (by omega)
    rw [show k + ((d + 1 : Nat) : Int) = k + d + 1 by omega]
    omega
theorem frm_mono {e : Nat → Nat → Bool} {n m i j : Nat} (h : tkn e n m i = some j) : frm e n m (i + 1) = j + 1 := by
  have := frm_s e n m i
  rw [h] at this
  simp [tv] at this
  omega
theorem rLg_rg {R : Nat → Int} (hV : RV R) {a i : Int} (ha : 0 ≤ a) (ha' : a < R 1) (hi : 0 ≤ i) (hi' : i ≤ rLen R (rCrs R a)) : rLg R a i = -2 ∨ (0 ≤ rLg R a i ∧ rLg R a i ≤ 9999) := by
  have h1 := rTm_rg hV (i := i) ha ha'
  have h2 := rTm_rg hV (i := i - 1) ha ha'
  have hc := hV.crs ha ha'
  have hl := hV.len hc.1 hc.2
  unfold rLg
  by_cases c1 : rTm R a (i - 1) = -1
  · rw [if_pos c1]; exact Or.inl rfl
  rw [if_neg c1]
  by_cases c2 : rTm R a i = -1
  · rw [if_pos c2]; exact Or.inl rfl
  rw [if_neg c2]
  refine Or.inr ?_
  by_cases c3 : i = 0
  · have : rTm R a (i - 1) = rSt R a := by unfold rTm; rw [if_pos (by omega)]
    omega
  by_cases c4 : i = rLen R (rCrs R a)
  · have : rTm R a i = rFi R a := by unfold rTm; rw [if_neg (by omega), if_pos c4]
    omega
  have e1 := rTm_tk (R := R) (a := a) (i := i) hi c4
  have e2 := rTm_tk (R := R) (a := a) (i := i - 1) (by omega) (by omega)
  have r1 := rTk_rg hV (c := rCrs R a) ha ha' i.toNat
  have r2 := rTk_rg hV (c := rCrs R a) ha ha' (i - 1).toNat
  by_cases d1 : tv (rTk R a (rCrs R a) i.toNat) = -1
  · rw [if_pos d1] at e1; exact absurd e1 c2
  by_cases d2 : tv (rTk R a (rCrs R a) (i - 1).toNat) = -1
  · rw [if_pos d2] at e2; exact absurd e2 c1
  rw [if_neg d1] at e1
  rw [if_neg d2] at e2
  have hlt : tv (rTk R a (rCrs R a) (i - 1).toNat) < tv (rTk R a (rCrs R a) i.toNat) := by
    cases g1 : rTk R a (rCrs R a) i.toNat with
    | none => rw [g1] at d1; exact absurd rfl d1
    | some k1 =>
      cases g2 : rTk R a (rCrs R a) (i - 1).toNat with
      | none => rw [g2] at d2; exact absurd rfl d2
      | some k2 =>
        unfold rTk at g1 g2
        have f1 := frm_mono g2
        rw [show (i - 1).toNat + 1 = i.toNat by omega] at f1
        have := (tkf_lt g1).1
        simp only [tv]
        omega
  have := rPt_mono hV ha ha' (k := tv (rTk R a (rCrs R a) (i - 1).toNat)) (by omega) (tv (rTk R a (rCrs R a) i.toNat) - tv (rTk R a (rCrs R a) (i - 1).toNat)).toNat (by omega)
  rw [show tv (rTk R a (rCrs R a) (i - 1).toNat) + ((tv (rTk R a (rCrs R a) i.toNat) - tv (rTk R a (rCrs R a) (i - 1).toNat)).toNat : Int) = tv (rTk R a (rCrs R a) i.toNat) by omega] at this
  omega
theorem rSp_rg {R : Nat → Int} (hV : RV R) {a i : Int} (ha : 0 ≤ a) (ha' : a < R 1) : rSp R a i = -2 ∨ (0 ≤ rSp R a i ∧ rSp R a i ≤ 9999) := by
  have h1 := rTm_rg hV (i := i) ha ha'
  have hs := hV.st ha ha'
  unfold rSp
  split <;> omega
/-! the twin's -/
section
variable {R : Nat → Int} {s : TS}
theorem missedBy_z (hR : TRep s R) (hV : RV R) {a : Int} (ha : 0 ≤ a) (ha' : a < R 1) : ∃ s', T_missedBy s (z a) = rI (z (rMis R a (rCrs R a))) s' ∧ TM s s' ∧ ∀ i : Nat, (i : Int) < rLen R (rCrs R a) → s'.2 20 i = z (tv (rTk R a (rCrs R a) i)) := by
  have h1 := hV.nR
  have hc := hV.crs ha ha'
  obtain ⟨s', e, h⟩ := T_matches_z hR hV ha ha' hc.1 hc.2
  refine ⟨s', ?_, h⟩
  unfold T_missedBy
  simp (disch := omega) only [z_add, z_sub, z_mul, z_neg, zlt, zle, zeq, zne, l0, l1, l2, l3, l4, l5, l6, l7, l8, l9, l10, l11, l16, l17, l20, l24, l32, l37, l47, l57, l60, l67, l77, l97, l99, l122, l48, l57, l100, l237, l397, l600, l900, l880, l9998, l9999, bnd, xcI_rI, xcV_rV, xcR_rR, zb0, zb1, nz0, nz1, nar_z0, nar_z1, nar_b2, ↓reduceIte, T_cell_z, ald19, ast19, ald20, ast20, ald21, ast21, ald22, ast22, ald25, ast25, ald26, ast26, (ald_nC hR), (ald_nR hR), (ald_gap hR), (ald_slk hR), (ald_len hR), (ald_crs hR), (ald_st hR), (ald_fi hR), (ald_np hR), (codeOf_z hR), (pCode_z hR), (pTime_z hR), (total_z hR), (isC_z hR), (isR_z hR), e]
theorem isValid_z (hR : TRep s R) (hV : RV R) {a : Int} (ha : 0 ≤ a) (ha' : a < R 1) : ∃ s', T_isValid s (z a) = rI (z (b2 (rMis R a (rCrs R a) = 0))) s' ∧ TM s s' := by
  obtain ⟨s', e, h, _⟩ := missedBy_z hR hV ha ha'
  refine ⟨s', ?_, h⟩
  have := mis_rg (e := eqC R a (rCrs R a)) (n := (rLen R (rCrs R a)).toNat) (m := (rNp R a).toNat) (rLen R (rCrs R a)).toNat
  have h2 := hV.crs ha ha'
  have h3 := hV.len h2.1 h2.2
  have h4 : 0 ≤ rMis R a (rCrs R a) ∧ rMis R a (rCrs R a) ≤ 10 := by unfold rMis; omega
  unfold T_isValid
  simp (disch := omega) only [z_add, z_sub, z_mul, z_neg, zlt, zle, zeq, zne, l0, l1, l2, l3, l4, l5, l6, l7, l8, l9, l10, l11, l16, l17, l20, l24, l32, l37, l47, l57, l60, l67, l77, l97, l99, l122, l48, l57, l100, l237, l397, l600, l900, l880, l9998, l9999, bnd, xcI_rI, xcV_rV, xcR_rR, zb0, zb1, nz0, nz1, nar_z0, nar_z1, nar_b2, ↓reduceIte, T_cell_z, ald19, ast19, ald20, ast20, ald21, ast21, ald22, ast22, ald25, ast25, ald26, ast26, e]
  unfold b2
  split <;> rfl
theorem tm_z (hR : TRep s R) (hV : RV R) {a i : Int} (ha : 0 ≤ a) (ha' : a < R 1) (hi : -1 ≤ i) (hi' : i ≤ rLen R (rCrs R a)) : ∃ s', T_timeAt s (z a) (z i) = rI (z (rTm R a i)) s' ∧ TM s s' := by
  have h1 := hV.nR
  have h2 := hV.nC
  have hc := hV.crs ha ha'
  have hl := hV.len hc.1 hc.2
  unfold T_timeAt T_timeAt_26
  simp (disch := omega) only [z_add, z_sub, z_mul, z_neg, zlt, zle, zeq, zne, l0, l1, l2, l3, l4, l5, l6, l7, l8, l9, l10, l11, l16, l17, l20, l24, l32, l37, l47, l57, l60, l67, l77, l97, l99, l122, l48, l57, l100, l237, l397, l600, l900, l880, l9998, l9999, bnd, xcI_rI, xcV_rV, xcR_rR, zb0, zb1, nz0, nz1, nar_z0, nar_z1, nar_b2, ↓reduceIte, T_cell_z, ald19, ast19, ald20, ast20, ald21, ast21, ald22, ast22, ald25, ast25, ald26, ast26, (ald_nC hR), (ald_nR hR), (ald_gap hR), (ald_slk hR), (ald_len hR), (ald_crs hR), (ald_st hR), (ald_fi hR), (ald_np hR), (codeOf_z hR), (pCode_z hR), (pTime_z hR), (total_z hR), (isC_z hR), (isR_z hR)]
  by_cases c1 : i < 0
  · have : ¬ 0 ≤ i := by omega
    simp only [c1, this, ↓reduceIte, rTm]
    exact ⟨s, rfl, TM.rf⟩
  · simp only [c1, ↓reduceIte]
    by_cases c2 : i = rLen R (rCrs R a)
    · have : 0 ≤ i := by omega
      simp only [c2, ↓reduceIte, rTm, c1]
      rw [← c2, if_pos this, if_neg c1]
      exact ⟨s, rfl, TM.rf⟩
    · simp only [c2, ↓reduceIte]
      obtain ⟨s', e, h, ht⟩ := missedBy_z hR hV ha ha'
      have hR' := h.rep hR
      have hr := rTk_rg hV (c := rCrs R a) ha ha' i.toNat
      have hp := hV.np ha ha'
      simp (disch := omega) only [z_add, z_sub, z_mul, z_neg, zlt, zle, zeq, zne, l0, l1, l2, l3, l4, l5, l6, l7, l8, l9, l10, l11, l16, l17, l20, l24, l32, l37, l47, l57, l60, l67, l77, l97, l99, l122, l48, l57, l100, l237, l397, l600, l900, l880, l9998, l9999, bnd, xcI_rI, xcV_rV, xcR_rR, zb0, zb1, nz0, nz1, nar_z0, nar_z1, nar_b2, ↓reduceIte, T_cell_z, ald19, ast19, ald20, ast20, ald21, ast21, ald22, ast22, ald25, ast25, ald26, ast26, e, ht]
      rw [rTm_tk (by omega) c2]
      by_cases c3 : tv (rTk R a (rCrs R a) i.toNat) = -1
      · simp only [c3, ↓reduceIte]
        exact ⟨s', rfl, h⟩
      · simp only [c3, ↓reduceIte]
        simp (disch := omega) only [z_add, z_sub, z_mul, z_neg, zlt, zle, zeq, zne, l0, l1, l2, l3, l4, l5, l6, l7, l8, l9, l10, l11, l16, l17, l20, l24, l32, l37, l47, l57, l60, l67, l77, l97, l99, l122, l48, l57, l100, l237, l397, l600, l900, l880, l9998, l9999, bnd, xcI_rI, xcV_rV, xcR_rR, zb0, zb1, nz0, nz1, nar_z0, nar_z1, nar_b2, ↓reduceIte, T_cell_z, ald19, ast19, ald20, ast20, ald21, ast21, ald22, ast22, ald25, ast25, ald26, ast26, (ald_nC hR'), (ald_nR hR'), (ald_gap hR'), (ald_slk hR'), (ald_len hR'), (ald_crs hR'), (ald_st hR'), (ald_fi hR'), (ald_np hR'), (codeOf_z hR'), (pCode_z hR'), (pTime_z hR'), (total_z hR'), (isC_z hR'), (isR_z hR')]
        exact ⟨s', rfl, h⟩
theorem sp_z (hR : TRep s R) (hV : RV R) {a i : Int} (ha : 0 ≤ a) (ha' : a < R 1) (hi : -1 ≤ i) (hi' : i ≤ rLen R (rCrs R a)) : ∃ s', T_splitOf s (z a) (z i) = rI (z (rSp R a i)) s' ∧ TM s s' := by
  have h1 := hV.nR
  obtain ⟨s', e, h⟩ := tm_z hR hV ha ha' hi hi'
  have hR' := h.rep hR
  have hr := rTm_rg hV (i := i) ha ha'
  unfold T_splitOf rSp
  simp (disch := omega) only [z_add, z_sub, z_mul, z_neg, zlt, zle, zeq, zne, l0, l1, l2, l3, l4, l5, l6, l7, l8, l9, l10, l11, l16, l17, l20, l24, l32, l37, l47, l57, l60, l67, l77, l97, l99, l122, l48, l57, l100, l237, l397, l600, l900, l880, l9998, l9999, bnd, xcI_rI, xcV_rV, xcR_rR, zb0, zb1, nz0, nz1, nar_z0, nar_z1, nar_b2, ↓reduceIte, T_cell_z, ald19, ast19, ald20, ast20, ald21, ast21, ald22, ast22, ald25, ast25, ald26, ast26, e, (ald_nC hR'), (ald_nR hR'), (ald_gap hR'), (ald_slk hR'), (ald_len hR'), (ald_crs hR'), (ald_st hR'), (ald_fi hR'), (ald_np hR'), (codeOf_z hR'), (pCode_z hR'), (pTime_z hR'), (total_z hR'), (isC_z hR'), (isR_z hR')]
  split <;> exact ⟨s', rfl, h⟩
theorem lg_z (hR : TRep s R) (hV : RV R) {a i : Int} (ha : 0 ≤ a) (ha' : a < R 1) (hi : 0 ≤ i) (hi' : i ≤ rLen R (rCrs R a)) : ∃ s', T_legOf s (z a) (z i) = rI (z (rLg R a i)) s' ∧ TM s s' := by
  have h1 := hV.nR
  obtain ⟨s', e, h⟩ := tm_z hR hV ha ha' (i := i - 1) (by omega) (by omega)
  have hR' := h.rep hR
  obtain ⟨s2, e2, h2⟩ := tm_z hR' hV ha ha' (i := i) (by omega) (by omega)
  have hr := rTm_rg hV (i := i) ha ha'
  have hr2 := rTm_rg hV (i := i - 1) ha ha'
  unfold T_legOf rLg
  simp (disch := omega) only [z_add, z_sub, z_mul, z_neg, zlt, zle, zeq, zne, l0, l1, l2, l3, l4, l5, l6, l7, l8, l9, l10, l11, l16, l17, l20, l24, l32, l37, l47, l57, l60, l67, l77, l97, l99, l122, l48, l57, l100, l237, l397, l600, l900, l880, l9998, l9999, bnd, xcI_rI, xcV_rV, xcR_rR, zb0, zb1, nz0, nz1, nar_z0, nar_z1, nar_b2, ↓reduceIte, T_cell_z, ald19, ast19, ald20, ast20, ald21, ast21, ald22, ast22, ald25, ast25, ald26, ast26, e, e2]
  refine ⟨s2, ?_, h.trans h2⟩
  split
  · rfl
  · split <;> rfl
end

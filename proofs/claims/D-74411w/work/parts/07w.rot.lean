/-! ROTATIONS in the heap -/
set_option maxRecDepth 100000
section
variable {n0 m : Nat} {P : PH} {cmp : Value × Value} {root : Option Nat} {sz : Int32} {S : Nat → Prop} {kk vv L R Pa : Nat → Option Nat} {C : Nat → Int32}

theorem rotateLeft_z (h : TZ P m cmp root sz S kk vv L R Pa C) (hI : Iv P) {p c : Nat} (hp : S p) (hc : R p = some c) (hcS : S c) (hl : ∀ x, L c = some x → S x ∧ x ≠ p) (hq : ∀ q, Pa p = some q → S q ∧ q ≠ p ∧ q ≠ c) : ∃ P', f_J5_rotateLeft P m (some p) = rV P' ∧ TZ P' m cmp (rlT Pa root p c) sz S kk vv (rlL L Pa p c) (rlR L R Pa p c) (rlP L Pa p c) C ∧ TStep n0 m S P P' := by
  obtain ⟨P1, w1, t1, s1⟩ := h.wR (n0 := n0) hI hp (L c)
  -- the child's subtree
  have hsub : ∃ P2, (xnul (L c) (f_J5_rotateLeft_32 m (some p) (some c) P1) fun b7 => xgR P1 c 19 2 fun x28 => xnul x28 none fun b29 => xpF P1 b29 19 4 (.ref p) fun p30 => f_J5_rotateLeft_32 m (some p) (some c) p30) = f_J5_rotateLeft_32 m (some p) (some c) P2 ∧ TZ P2 m cmp root sz S kk vv L (updO R p (L c)) (match L c with | none => Pa | some x => updO Pa x (some p)) C ∧ TStep n0 m S P P2 := by
    cases hlc : L c with
    | none => 
      rw [hlc] at t1
      exact ⟨P1, rfl, t1, s1⟩
    | some x =>
      rw [hlc] at t1
      obtain ⟨P2, w2, t2, s2⟩ := t1.wPa (n0 := n0) s1.1.iv (hl x hlc).1 (some p)
      refine ⟨P2, ?_, t2, s1.trans s2⟩
      rw [xnul_s, t1.gL hcS, hlc, xnul_s]
      exact w2 _
  obtain ⟨P2, e2, t2, s2⟩ := hsub
  have hst : f_J5_rotateLeft P m (some p) = f_J5_rotateLeft_32 m (some p) (some c) P2 := by
    unfold f_J5_rotateLeft
    rw [h.cl, xnul_s, h.gR hp, hc, xnul_s, h.gL hcS, w1, t1.gL hcS]
    exact e2
  rw [hst]
  obtain ⟨Pb, hPb⟩ : ∃ f : Nat → Option Nat, f = (match L c with | none => Pa | some x => updO Pa x (some p)) := ⟨_, rfl⟩
  have hPbp : Pb p = Pa p := by
    rw [hPb]
    cases hlc : L c with
    | none => rfl
    | some x => exact if_neg (fun e => (hl x hlc).2 e.symm)
  rw [← hPb] at t2
  obtain ⟨P3, w3, t3, s3⟩ := t2.wPa (n0 := n0) s2.1.iv hcS (Pb p)
  have hcp : p ≠ c ∨ p = c := (Decidable.em (p = c)).symm
  have h85 : ∀ (P4 : PH) (rt : Option Nat) (Lf Rf : Nat → Option Nat), TZ P4 m cmp rt sz S kk vv Lf Rf (updO Pb c (Pb p)) C → TStep n0 m S P P4 → ∃ P', f_J5_rotateLeft_85 m (some p) (some c) P4 = rV P' ∧ TZ P' m cmp rt sz S kk vv (updO Lf c (some p)) Rf (updO (updO Pb c (Pb p)) p (some c)) C ∧ TStep n0 m S P P' := by
    intro P4 rt Lf Rf t4 s4
    obtain ⟨P5, w5, t5, s5⟩ := t4.wL (n0 := n0) s4.1.iv hcS (some p)
    obtain ⟨P6, w6, t6, s6⟩ := t5.wPa (n0 := n0) s5.1.iv hp (some c)
    refine ⟨P6, ?_, t6, s4.trans (s5.trans s6)⟩
    unfold f_J5_rotateLeft_85
    rw [xnul_s, w5, xnul_s, show Value.ref c = va_rf (some c) from rfl, w6]
  have hP3p : (updO Pb c (Pb p)) p = Pa p := by
    unfold updO
    split
    · exact hPbp
    · exact hPbp
  have hfin : updO (updO Pb c (Pb p)) p (some c) = rlP L Pa p c := by
    unfold rlP
    rw [hPbp, hPb]
    cases L c <;> rfl
  unfold f_J5_rotateLeft_32
  rw [xnul_s, t2.gPa hp, xnul_s, w3, t3.gPa hp, hP3p]
  cases hPa : Pa p with
  | none =>
    obtain ⟨P4, w4, t4, s4⟩ := t3.wT (n0 := n0) s3.1.iv (some c)
    obtain ⟨P', e', t', s'⟩ := h85 P4 (some c) _ _ t4 (s2.trans (s3.trans s4))
    refine ⟨P', ?_, ?_, s'⟩
    · rw [xnul_n, show Value.ref c = va_rf (some c) from rfl, w4]
      exact e'
    · rw [hfin] at t'
      unfold rlL rlR rlT
      rw [hPa]
      exact t'
  | some q =>
    have hqS := hq q hPa
    have hPa' : (updO Pb c (Pb p)) p = some q := hP3p.trans hPa
    by_cases hlq : L q = some p
    · obtain ⟨P4, w4, t4, s4⟩ := t3.wL (n0 := n0) s3.1.iv hqS.1 (some c)
      obtain ⟨P', e', t', s'⟩ := h85 P4 root _ _ t4 (s2.trans (s3.trans s4))
      refine ⟨P', ?_, ?_, s'⟩
      · rw [xnul_s, t3.gPa hp, hPa', xnul_s, t3.gL hqS.1, if_pos hlq, t3.gPa hp, hPa', xnul_s, show Value.ref c = va_rf (some c) from rfl, w4]
        exact e'
      · rw [hfin] at t'
        unfold rlL rlR rlT
        rw [hPa]
        simp only [hlq, ↓reduceIte]
        exact t'
    · obtain ⟨P4, w4, t4, s4⟩ := t3.wR (n0 := n0) s3.1.iv hqS.1 (some c)
      obtain ⟨P', e', t', s'⟩ := h85 P4 root _ _ t4 (s2.trans (s3.trans s4))
      refine ⟨P', ?_, ?_, s'⟩
      · rw [xnul_s, t3.gPa hp, hPa', xnul_s, t3.gL hqS.1, if_neg hlq, t3.gPa hp, hPa', xnul_s, show Value.ref c = va_rf (some c) from rfl, w4]
        exact e'
      · rw [hfin] at t'
        unfold rlL rlR rlT
        rw [hPa]
        simp only [hlq, ↓reduceIte]
        exact t'

theorem rotateRight_z (h : TZ P m cmp root sz S kk vv L R Pa C) (hI : Iv P) {p c : Nat} (hp : S p) (hc : L p = some c) (hcS : S c) (hl : ∀ x, R c = some x → S x ∧ x ≠ p) (hq : ∀ q, Pa p = some q → S q ∧ q ≠ p ∧ q ≠ c) : ∃ P', f_J5_rotateRight P m (some p) = rV P' ∧ TZ P' m cmp (rlT Pa root p c) sz S kk vv (rlR R L Pa p c) (rlL R Pa p c) (rlP R Pa p c) C ∧ TStep n0 m S P P' := by
  obtain ⟨P1, w1, t1, s1⟩ := h.wL (n0 := n0) hI hp (R c)
  -- the child's subtree
  have hsub : ∃ P2, (xnul (R c) (f_J5_rotateRight_32 m (some p) (some c) P1) fun b7 => xgR P1 c 19 3 fun x28 => xnul x28 none fun b29 => xpF P1 b29 19 4 (.ref p) fun p30 => f_J5_rotateRight_32 m (some p) (some c) p30) = f_J5_rotateRight_32 m (some p) (some c) P2 ∧ TZ P2 m cmp root sz S kk vv (updO L p (R c)) R (match R c with | none => Pa | some x => updO Pa x (some p)) C ∧ TStep n0 m S P P2 := by
    cases hlc : R c with
    | none => 
      rw [hlc] at t1
      exact ⟨P1, rfl, t1, s1⟩
    | some x =>
      rw [hlc] at t1
      obtain ⟨P2, w2, t2, s2⟩ := t1.wPa (n0 := n0) s1.1.iv (hl x hlc).1 (some p)
      refine ⟨P2, ?_, t2, s1.trans s2⟩
      rw [xnul_s, t1.gR hcS, hlc, xnul_s]
      exact w2 _
  obtain ⟨P2, e2, t2, s2⟩ := hsub
  have hst : f_J5_rotateRight P m (some p) = f_J5_rotateRight_32 m (some p) (some c) P2 := by
    unfold f_J5_rotateRight
    rw [h.cl, xnul_s, h.gL hp, hc, xnul_s, h.gR hcS, w1, t1.gR hcS]
    exact e2
  rw [hst]
  obtain ⟨Pb, hPb⟩ : ∃ f : Nat → Option Nat, f = (match R c with | none => Pa | some x => updO Pa x (some p)) := ⟨_, rfl⟩
  have hPbp : Pb p = Pa p := by
    rw [hPb]
    cases hlc : R c with
    | none => rfl
    | some x => exact if_neg (fun e => (hl x hlc).2 e.symm)
  rw [← hPb] at t2
  obtain ⟨P3, w3, t3, s3⟩ := t2.wPa (n0 := n0) s2.1.iv hcS (Pb p)
  have hcp : p ≠ c ∨ p = c := (Decidable.em (p = c)).symm
  have h85 : ∀ (P4 : PH) (rt : Option Nat) (Lf Rf : Nat → Option Nat), TZ P4 m cmp rt sz S kk vv Rf Lf (updO Pb c (Pb p)) C → TStep n0 m S P P4 → ∃ P', f_J5_rotateRight_85 m (some p) (some c) P4 = rV P' ∧ TZ P' m cmp rt sz S kk vv Rf (updO Lf c (some p)) (updO (updO Pb c (Pb p)) p (some c)) C ∧ TStep n0 m S P P' := by
    intro P4 rt Lf Rf t4 s4
    obtain ⟨P5, w5, t5, s5⟩ := t4.wR (n0 := n0) s4.1.iv hcS (some p)
    obtain ⟨P6, w6, t6, s6⟩ := t5.wPa (n0 := n0) s5.1.iv hp (some c)
    refine ⟨P6, ?_, t6, s4.trans (s5.trans s6)⟩
    unfold f_J5_rotateRight_85
    rw [xnul_s, w5, xnul_s, show Value.ref c = va_rf (some c) from rfl, w6]
  have hP3p : (updO Pb c (Pb p)) p = Pa p := by
    unfold updO
    split
    · exact hPbp
    · exact hPbp
  have hfin : updO (updO Pb c (Pb p)) p (some c) = rlP R Pa p c := by
    unfold rlP
    rw [hPbp, hPb]
    cases R c <;> rfl
  unfold f_J5_rotateRight_32
  rw [xnul_s, t2.gPa hp, xnul_s, w3, t3.gPa hp, hP3p]
  cases hPa : Pa p with
  | none =>
    obtain ⟨P4, w4, t4, s4⟩ := t3.wT (n0 := n0) s3.1.iv (some c)
    obtain ⟨P', e', t', s'⟩ := h85 P4 (some c) _ _ t4 (s2.trans (s3.trans s4))
    refine ⟨P', ?_, ?_, s'⟩
    · rw [xnul_n, show Value.ref c = va_rf (some c) from rfl, w4]
      exact e'
    · rw [hfin] at t'
      unfold rlL rlR rlT
      rw [hPa]
      exact t'
  | some q =>
    have hqS := hq q hPa
    have hPa' : (updO Pb c (Pb p)) p = some q := hP3p.trans hPa
    by_cases hlq : R q = some p
    · obtain ⟨P4, w4, t4, s4⟩ := t3.wR (n0 := n0) s3.1.iv hqS.1 (some c)
      obtain ⟨P', e', t', s'⟩ := h85 P4 root _ _ t4 (s2.trans (s3.trans s4))
      refine ⟨P', ?_, ?_, s'⟩
      · rw [xnul_s, t3.gPa hp, hPa', xnul_s, t3.gR hqS.1, if_pos hlq, t3.gPa hp, hPa', xnul_s, show Value.ref c = va_rf (some c) from rfl, w4]
        exact e'
      · rw [hfin] at t'
        unfold rlL rlR rlT
        rw [hPa]
        simp only [hlq, ↓reduceIte]
        exact t'
    · obtain ⟨P4, w4, t4, s4⟩ := t3.wL (n0 := n0) s3.1.iv hqS.1 (some c)
      obtain ⟨P', e', t', s'⟩ := h85 P4 root _ _ t4 (s2.trans (s3.trans s4))
      refine ⟨P', ?_, ?_, s'⟩
      · rw [xnul_s, t3.gPa hp, hPa', xnul_s, t3.gR hqS.1, if_neg hlq, t3.gPa hp, hPa', xnul_s, show Value.ref c = va_rf (some c) from rfl, w4]
        exact e'
      · rw [hfin] at t'
        unfold rlL rlR rlT
        rw [hPa]
        simp only [hlq, ↓reduceIte]
        exact t'
end

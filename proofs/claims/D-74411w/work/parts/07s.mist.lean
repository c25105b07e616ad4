/-! WHAT IS LOST BY MISTAKES: the component's -/
set_option maxRecDepth 100000
/-- a part of another best: to the nearest, of two as near the lesser -/
def due (x y b : Int) : Int := (2 * x * b + y - 1) / (2 * y)
theorem due_rg {x y b : Int} (hx : 0 ≤ x ∧ x ≤ 9999) (hy : 1 ≤ y ∧ y ≤ 9999) (hb : 0 ≤ b ∧ b ≤ 9999) : 0 ≤ due x y b ∧ due x y b ≤ 200000000 := by
  have h1 := mul_rg hx hb
  have e : 2 * x * b = 2 * (x * b) := Int.mul_assoc _ _ _
  unfold due
  rw [e]
  refine ⟨Int.ediv_nonneg (by omega) (by omega), ?_⟩
  refine Int.ediv_le_of_le_mul (by omega) ?_
  have : (200000000 : Int) * 2 ≤ 200000000 * (2 * y) := Int.mul_le_mul_of_nonneg_left (by omega) (by omega)
  omega
theorem i64 {a : Int} (h : -2147483648 ≤ a ∧ a < 2147483648) : (z a).toInt64 = Int64.ofInt a := by
  apply Int64.toInt_inj.mp
  rw [Int32.toInt_toInt64, zint h.1 h.2, lz_toInt (by omega) (by omega)]
theorem lz_inj {a b : Int} (ha : -1000000000000 ≤ a ∧ a ≤ 1000000000000) (hb : -1000000000000 ≤ b ∧ b ≤ 1000000000000) : (Int64.ofInt a = Int64.ofInt b) ↔ a = b := ⟨fun h => by rw [← lz_toInt ha.1 ha.2, ← lz_toInt hb.1 hb.2, h], fun h => by rw [h]⟩
theorem lz_div {a b : Int} (ha : 0 ≤ a ∧ a ≤ 1000000000000) (hb : 1 ≤ b ∧ b ≤ 1000000000000) : Int64.ofInt a / Int64.ofInt b = Int64.ofInt (a / b) := by
  have h0 : 0 ≤ a / b := Int.ediv_nonneg ha.1 (by omega)
  have h1 : a / b ≤ a := Int.ediv_le_self _ ha.1
  apply Int64.toInt_inj.mp
  rw [Int64.toInt_div, lz_toInt (by omega) (by omega), lz_toInt (by omega) (by omega), lz_toInt (by omega) (by omega), Int.tdiv_eq_ediv_of_nonneg ha.1]
  exact Int.bmod_eq_of_le (by have : (2 ^ 64 : Int) = 18446744073709551616 := rfl; omega) (by have : (2 ^ 64 : Int) = 18446744073709551616 := rfl; omega)
theorem of_z {P : PH} {p : Nat} {x y b : Int} (hp : P.1 p = some (true, oB 10 [.int (z x), .int (z y)])) (hx : 0 ≤ x ∧ x ≤ 9999) (hy : 1 ≤ y ∧ y ≤ 9999) (hb : 0 ≤ b ∧ b ≤ 9999) : f_X11_of P p (z b) = rI (z (due x y b)) P := by
  have h1 := mul_rg hx hb
  have hd := due_rg hx hy hb
  have e : 2 * x * b = 2 * (x * b) := Int.mul_assoc _ _ _
  have hl2 : (2 : Int64) = Int64.ofInt 2 := rfl
  have hl1 : (1 : Int64) = Int64.ofInt 1 := rfl
  have hl0 : (0 : Int64) = Int64.ofInt 0 := rfl
  have e1 : ((2 * (z x).toInt64 * (z b).toInt64 + (z y).toInt64 - 1) / (2 * (z y).toInt64)) = Int64.ofInt (due x y b) := by
    rw [i64 (a := x) ⟨by omega, by omega⟩, i64 (a := y) ⟨by omega, by omega⟩, i64 (a := b) ⟨by omega, by omega⟩, hl2, hl1, ← Int64.ofInt_mul, ← Int64.ofInt_mul, ← Int64.ofInt_add, ← Int64.ofInt_sub, ← Int64.ofInt_mul, lz_div (by rw [e]; omega) (by omega)]
    rfl
  have e2 : ¬ (2 * (z y).toInt64 = 0) := by
    rw [i64 (a := y) ⟨by omega, by omega⟩, hl2, ← Int64.ofInt_mul, hl0, lz_inj (by omega) (by omega)]
    omega
  have e3 : (Int64.ofInt (due x y b)).toInt32 = z (due x y b) := by
    apply Int32.toInt_inj.mp
    rw [Int64.toInt_toInt32, lz_toInt (by omega) (by omega), zint (by omega) (by omega)]
    exact Int.bmod_eq_of_le (by have : (2 ^ 32 : Int) = 4294967296 := rfl; omega) (by have : (2 ^ 32 : Int) = 4294967296 := rfl; omega)
  unfold f_X11_of
  rw [xcl1_s hp, xgI_s (k := 0) hp rfl, xgI_s (k := 1) hp rfl, xgI_s (k := 1) hp rfl, if_neg e2, e1, e3]
theorem frac_div {N M k : Int} (hM : 1 ≤ M) (hk : 1 ≤ k) : (k * N - 1) / (k * M) = (N - 1) / M := by
  have h1 := Int.emod_add_mul_ediv (N - 1) M
  have h2 := Int.emod_nonneg (N - 1) (b := M) (by omega)
  have h3 := Int.emod_lt_of_pos (N - 1) (b := M) (by omega)
  generalize (N - 1) / M = d at *
  generalize (N - 1) % M = r at *
  have hN : N = r + M * d + 1 := by omega
  have hkM : 1 ≤ k * M := by
    have := Int.mul_le_mul (a := 1) (b := 1) hk hM (by omega) (by omega)
    omega
  have e : k * N - 1 = (k * r + k - 1) + (k * M) * d := by
    rw [hN, Int.mul_add, Int.mul_add, Int.mul_one, ← Int.mul_assoc]
    omega
  rw [e, Int.add_mul_ediv_left _ _ (by omega)]
  have h4 : 0 ≤ k * r := Int.mul_nonneg (by omega) h2
  have h5 : k * (r + 1) ≤ k * M := Int.mul_le_mul_of_nonneg_left (by omega) (by omega)
  rw [Int.mul_add, Int.mul_one] at h5
  rw [Int.ediv_eq_zero_of_lt (by omega) (by omega)]
  omega
/-- equal fractions have equal parts -/
theorem due_eq {x y x' y' b : Int} (hy : 1 ≤ y) (hy' : 1 ≤ y') (h : x * y' = x' * y) : due x y b = due x' y' b := by
  unfold due
  have h1 := frac_div (N := 2 * x * b + y) (M := 2 * y) (k := y') (by omega) hy'
  have h2 := frac_div (N := 2 * x' * b + y') (M := 2 * y') (k := y) (by omega) hy
  have e1 : y' * (2 * x * b + y) = y * (2 * x' * b + y') := by
    have a1 : y' * (2 * x * b + y) = 2 * (x * y') * b + y * y' := by
      rw [Int.mul_add, Int.mul_comm y' y]
      congr 1
      rw [Int.mul_comm y' _, Int.mul_assoc, Int.mul_assoc, Int.mul_assoc, Int.mul_assoc, Int.mul_comm b y']
    have a2 : y * (2 * x' * b + y') = 2 * (x' * y) * b + y * y' := by
      rw [Int.mul_add]
      congr 1
      rw [Int.mul_comm y _, Int.mul_assoc, Int.mul_assoc, Int.mul_assoc, Int.mul_assoc, Int.mul_comm b y]
    rw [a1, a2, h]
  have e2 : y' * (2 * y) = y * (2 * y') := by
    rw [← Int.mul_assoc, Int.mul_comm y' 2, Int.mul_assoc, Int.mul_comm y' y, ← Int.mul_assoc, Int.mul_comm 2 y, Int.mul_assoc]
  rw [← h1, ← h2, e1, e2]
noncomputable def rPx (R : Nat → Int) (a : Int) : Int × Int := @dite (Int × Int) (∃ q : Int × Int, isPace R a q.1 q.2) (Classical.propDecidable _) (fun h => Classical.choose h) fun _ => (0, 1)
theorem rPx_of {R : Nat → Int} {a x y : Int} (h : isPace R a x y) : isPace R a (rPx R a).1 (rPx R a).2 := by
  have hq : ∃ q : Int × Int, isPace R a q.1 q.2 := ⟨(x, y), h⟩
  unfold rPx
  rw [dif_pos hq]
  exact Classical.choose_spec hq
theorem due_px {R : Nat → Int} {a x y : Int} (h : isPace R a x y) (b : Int) : due x y b = due (rPx R a).1 (rPx R a).2 b :=
  due_eq h.1.2.1 (rPx_of h).1.2.1 (h.uniq (rPx_of h))
/-- what is lost by a mistake on a leg; -2: no such leg -/
noncomputable def rMk (R : Nat → Int) (a i : Int) : Int := if rLg R a i = -2 ∨ rBL R (rCrs R a) i ≤ 0 then -2 else if rLg R a i - due (rPx R a).1 (rPx R a).2 (rBL R (rCrs R a) i) ≤ 0 ∨ rLg R a i - due (rPx R a).1 (rPx R a).2 (rBL R (rCrs R a) i) < R 3 then 0 else rLg R a i - due (rPx R a).1 (rPx R a).2 (rBL R (rCrs R a) i)
/-- a's pace at hand -/
def PO (P : PH) (R : Nat → Int) (a : Int) (po : Option Nat) : Prop := (po = none ∧ pAll R a pT = 0) ∨ ∃ p x y, po = some p ∧ P.1 p = some (true, oB 10 [.int (z x), .int (z y)]) ∧ isPace R a x y
theorem pcnt_0 {R : Nat → Int} {a : Int} : ∀ {n : Nat}, pcnt R a pT n = 0 → ∀ i, i < n → ¬ (rLg R a i ≠ -2 ∧ 0 < rBL R (rCrs R a) i) := by
  intro n
  induction n with
  | zero => exact fun _ i hi => absurd hi (Nat.not_lt_zero _)
  | succ n ih =>
    intro h i hi hc
    unfold pcnt at h
    by_cases e : i = n
    · subst e
      rw [if_pos ⟨hc, rfl⟩] at h
      omega
    · exact ih (by omega) i (by omega) hc
theorem rMk_rg {R : Nat → Int} (hV : RV R) {a i : Int} (ha : 0 ≤ a) (ha' : a < R 1) (hi : 0 ≤ i) (hi' : i ≤ rLen R (rCrs R a)) : rMk R a i = -2 ∨ (0 ≤ rMk R a i ∧ rMk R a i ≤ 9999) := by
  have h1 := rLg_rg hV ha ha' hi hi'
  have h2 := rBL_rg hV (c := rCrs R a) hi hi'
  unfold rMk
  by_cases c1 : rLg R a i = -2 ∨ rBL R (rCrs R a) i ≤ 0
  · rw [if_pos c1]; exact Or.inl rfl
  · rw [if_neg c1]
    refine Or.inr ?_
    have h3 : 0 ≤ due (rPx R a).1 (rPx R a).2 (rBL R (rCrs R a) i) := by
      unfold rPx
      split
      · rename_i h
        exact (due_rg (Classical.choose_spec h).1.1 (Classical.choose_spec h).1.2 (by omega)).1
      · exact (due_rg (by omega) (by omega) (by omega)).1
    split <;> omega
section
variable {n m : Nat} {cs rs : List Nat} {R : Nat → Int} {N : Nat → List Int32} {P : PH}
theorem PO.qf {P1 : PH} {k : Nat} {a : Int} {po : Option Nat} (hp : PO P R a po) (h : MRep n P m cs rs R N) (hI : Iv P) (hf : QF m k P P1) : PO P1 R a po := by
  rcases hp with hp | ⟨p, x, y, e, hc, hi⟩
  · exact Or.inl hp
  · exact Or.inr ⟨p, x, y, e, hf.1.ob (hI.lt hc) hc (h.ne hc (by decide)), hi⟩
theorem MRep.paceO (h : MRep n P m cs rs R N) (hI : Iv P) (hn : n ≤ P.2.1) (hV : RV R) {a : Int} (ha : 0 ≤ a) (ha' : a < R 1) : ∃ P' po, f_X4_pace P m (z a) = rR po P' ∧ QF m 100 P P' ∧ MRep n P' m cs rs R N ∧ PO P' R a po := by
  obtain ⟨P', q1, q2, q3⟩ := h.pace hI hn hV ha ha'
  rcases q3 with ⟨q3, e⟩ | ⟨p, x, y, e, q3, q4⟩
  · exact ⟨P', none, e, q1, q2, Or.inl ⟨rfl, q3⟩⟩
  · exact ⟨P', some p, e, q1, q2, Or.inr ⟨p, x, y, rfl, q3, q4⟩⟩
theorem MRep.mistake (h : MRep n P m cs rs R N) (hI : Iv P) (hV : RV R) {a i : Int} (ha : 0 ≤ a) (ha' : a < R 1) (hi : 0 ≤ i) (hi' : i ≤ rLen R (rCrs R a)) {po : Option Nat} (hp : PO P R a po) : Qy n m cs rs R N 0 P (f_X4_mistake P m (z a) (z i) po) (rMk R a i) := by
  have h0 := hV.nC
  have hs := hV.slk
  have hcr := hV.crs ha ha'
  have hlen := hV.len hcr.1 hcr.2
  have hr := rLg_rg hV ha ha' hi hi'
  have hb := rBL_rg hV (c := rCrs R a) hi hi'
  obtain ⟨cl, rl, mo, hcm, hcz, hrz, hcg, hrg⟩ := h.at
  obtain ⟨x, hx, hxr⟩ := h.run ha ha'
  obtain ⟨s, pl, ps, k0, k1, k2, k3, k4, k5⟩ := hxr
  obtain ⟨P2, e2, t2, q2⟩ := h.best hI hV hcr.1 hcr.2 hi hi'
  obtain ⟨P3, y3, e3, e3', t3, q3⟩ := t2.mleg q2.iv hV ha ha' hi hi'
  apply ok_qy
  simp (disch := omega) only [f_X4_mistake, z_add, z_sub, z_mul, z_neg, zlt, zle, zeq, zne, l0, l1, l2, l3, l4, l5, l6, l7, l8, l9, l10, l11, l16, l17, l20, l24, l32, l37, l47, l57, l60, l67, l77, l97, l99, l122, l48, l57, l100, l237, l397, l600, l900, l880, l9998, l9999, bnd, xcI_rI, xcV_rV, xcR_rR, zb0, zb1, nz0, nz1, nar_z0, nar_z1, nar_b2, ↓reduceIte, ↓xnul_s, ↓xnul_n, xcst_n, List.set_cons_zero, List.set_cons_succ, ↓xcl1_s hcm, ↓xgR_s (k := 0) hcm rfl, ↓xgR_s (k := 1) hcm rfl, ↓xgI_s (k := 2) hcm rfl, ↓xgI_s (k := 3) hcm rfl, hrg a x ha ha' hx, ↓xcst_s k1 (cs := [6]) rfl, ↓xcl1_s k1, ↓xgR_s (k := 0) k1 rfl, ↓xgI_s (k := 1) k1 rfl, ↓xgI_s (k := 2) k1 rfl, ↓xgI_s (k := 3) k1 rfl, ↓xgR_s (k := 4) k1 rfl, e2, e3, e3']
  have Q3 := q2.trans hI q3
  refine ok_ite (fun c1 => ?_) fun c1 => ?_
  · refine ok_rI.mpr ⟨?_, t3, Q3⟩
    unfold rMk
    rw [if_pos (Or.inl c1)]
  · refine ok_ite (fun c2 => ?_) fun c2 => ?_
    · obtain ⟨P4, y4, e4, e4', t4, q4⟩ := t3.mleg q3.iv hV ha ha' hi hi'
      have Q4 := Q3.trans hI q4
      have hp4 := hp.qf h hI Q4
      rcases hp4 with ⟨_, hp0⟩ | ⟨p, xx, yy, rfl, hpc, hip⟩
      · have := pcnt_0 hp0 i.toNat (by omega)
        rw [show ((i.toNat : Nat) : Int) = i by omega] at this
        exact absurd ⟨c1, c2⟩ this
      · have hof := of_z hpc hip.1.1 hip.1.2 (b := rBL R (rCrs R a) i) (by omega)
        have hd := due_rg hip.1.1 hip.1.2 (b := rBL R (rCrs R a) i) (by omega)
        obtain ⟨cl4, rl4, mo4, hcm4, -, -, -, -⟩ := t4.at
        simp (disch := omega) only [e4, e4', z_add, z_sub, z_mul, z_neg, zlt, zle, zeq, zne, l0, l1, l2, l3, l4, l5, l6, l7, l8, l9, l10, l11, l16, l17, l20, l24, l32, l37, l47, l57, l60, l67, l77, l97, l99, l122, l48, l57, l100, l237, l397, l600, l900, l880, l9998, l9999, bnd, xcI_rI, xcV_rV, xcR_rR, zb0, zb1, nz0, nz1, nar_z0, nar_z1, nar_b2, ↓reduceIte, ↓xnul_s, ↓xnul_n, xcst_n, List.set_cons_zero, List.set_cons_succ, hof, ↓xcl1_s hcm4, ↓xgR_s (k := 0) hcm4 rfl, ↓xgR_s (k := 1) hcm4 rfl, ↓xgI_s (k := 2) hcm4 rfl, ↓xgI_s (k := 3) hcm4 rfl]
        have hne : ¬ (rLg R a i = -2 ∨ rBL R (rCrs R a) i ≤ 0) := fun e => e.elim c1 (by omega)
        have hun : rMk R a i = if rLg R a i - due xx yy (rBL R (rCrs R a) i) ≤ 0 ∨ rLg R a i - due xx yy (rBL R (rCrs R a) i) < R 3 then 0 else rLg R a i - due xx yy (rBL R (rCrs R a) i) := by
          unfold rMk
          rw [if_neg hne, due_px hip]
        rw [hun]
        refine ok_ite (fun c3 => ?_) fun c3 => ?_
        · exact ok_rI.mpr ⟨by rw [if_pos (Or.inl c3)], t4, Q4⟩
        · refine ok_ite (fun c4 => ?_) fun c4 => ?_
          · exact ok_rI.mpr ⟨by rw [if_pos (Or.inr c4)], t4, Q4⟩
          · exact ok_rI.mpr ⟨by rw [if_neg (fun e => e.elim c3 c4)], t4, Q4⟩
    · refine ok_rI.mpr ⟨?_, t3, Q3⟩
      unfold rMk
      rw [if_pos (Or.inr (by omega))]
/-- what is left of a total without mistakes -/
noncomputable def rCl (R : Nat → Int) (a : Int) : Int := rTot R a - sumS (fun i => max 0 (rMk R a i)) (rLen R (rCrs R a) + 1).toNat
theorem MT.tlen {y x : Nat} {a c : Int} (h : MT P y x R a c) : ∃ ca tk mo g, P.1 y = some (true, oB 8 [.ref x, .ref ca, .ref tk, .ref mo]) ∧ P.1 tk = some (true, .inl (0, (rLen R c).toNat, .inl g)) := by
  obtain ⟨ca, tk, mo, g, h1, h2, h3⟩ := h
  exact ⟨ca, tk, mo, g, h1, h2⟩
theorem MRep.clean (h : MRep n P m cs rs R N) (hI : Iv P) (hn : n ≤ P.2.1) (hV : RV R) {a : Int} (ha : 0 ≤ a) (ha' : a < R 1) : Qy n m cs rs R N 100 P (f_X4_clean P m (z a)) (rCl R a) := by
  have h0 := hV.nC
  have hcr := hV.crs ha ha'
  have hlen := hV.len hcr.1 hcr.2
  have hst := hV.st ha ha'
  obtain ⟨cl, rl, mo, hcm, hcz, hrz, hcg, hrg⟩ := h.at
  obtain ⟨P1, po, e1, q1, t1, po1⟩ := h.paceO hI hn hV ha ha'
  obtain ⟨cl1, rl1, mo1, hcm1, hcz1, hrz1, hcg1, hrg1⟩ := t1.at
  obtain ⟨x, hx, hxr⟩ := t1.run ha ha'
  obtain ⟨s, pl, ps, k0, k1, k2, k3, k4, k5⟩ := hxr
  apply ok_qy
  unfold rCl
  simp (disch := omega) only [f_X4_clean, z_add, z_sub, z_mul, z_neg, zlt, zle, zeq, zne, l0, l1, l2, l3, l4, l5, l6, l7, l8, l9, l10, l11, l16, l17, l20, l24, l32, l37, l47, l57, l60, l67, l77, l97, l99, l122, l48, l57, l100, l237, l397, l600, l900, l880, l9998, l9999, bnd, xcI_rI, xcV_rV, xcR_rR, zb0, zb1, nz0, nz1, nar_z0, nar_z1, nar_b2, ↓reduceIte, ↓xnul_s, ↓xnul_n, xcst_n, List.set_cons_zero, List.set_cons_succ, ↓xcl1_s hcm, e1, ↓xcl1_s hcm1, ↓xgR_s (k := 0) hcm1 rfl, ↓xgR_s (k := 1) hcm1 rfl, ↓xgI_s (k := 2) hcm1 rfl, ↓xgI_s (k := 3) hcm1 rfl, hrg1 a x ha ha' hx, ↓xcst_s k1 (cs := [6]) rfl, f_X7_total, ↓xcl1_s k1, ↓xgR_s (k := 0) k1 rfl, ↓xgI_s (k := 1) k1 rfl, ↓xgI_s (k := 2) k1 rfl, ↓xgI_s (k := 3) k1 rfl, ↓xgR_s (k := 4) k1 rfl]
  clear hcm hcz hrz hcg hrg hcm1 hcz1 hrz1 hcg1 hrg1 k0 k1 k2 k3 k4 k5
  refine ok_lpn (fun d p => ∃ (i : Nat) (P2 : PH), p = (z a, po, z (rTot R a - sumS (fun i => max 0 (rMk R a i)) i), z i, P2) ∧ d = (rLen R (rCrs R a) + 1).toNat - i ∧ (i : Int) ≤ rLen R (rCrs R a) + 1 ∧ MRep n P2 m cs rs R N ∧ QF m 100 P P2 ∧ PO P2 R a po) ?_ FU _ _ ⟨0, P1, by show (_, _, z (rFi R a - rSt R a), _, _) = (_, _, z (rTot R a - 0), _, _); rw [Int.sub_zero]; rfl, rfl, by omega, t1, q1, po1⟩ (by simp only [FU]; omega)
  rintro kk d p ⟨i, P2, rfl, rfl, g1, g2, g3, g4⟩ hk
  obtain ⟨P3, y3, x3, e3, t3, u1, u2, q3⟩ := g2.match g3.iv hV ha ha'
  obtain ⟨ca, tk, mo3, gg, v1, v2⟩ := u2.tlen
  have hL : (((rLen R (rCrs R a)).toNat : Nat) : Int) = rLen R (rCrs R a) := by omega
  simp (disch := omega) only [f_X4_clean_26F, z_add, z_sub, z_mul, z_neg, zlt, zle, zeq, zne, l0, l1, l2, l3, l4, l5, l6, l7, l8, l9, l10, l11, l16, l17, l20, l24, l32, l37, l47, l57, l60, l67, l77, l97, l99, l122, l48, l57, l100, l237, l397, l600, l900, l880, l9998, l9999, bnd, xcI_rI, xcV_rV, xcR_rR, zb0, zb1, nz0, nz1, nar_z0, nar_z1, nar_b2, ↓reduceIte, ↓xnul_s, ↓xnul_n, xcst_n, List.set_cons_zero, List.set_cons_succ, e3, ↓xcl1_s v1, ↓xgR_s (k := 0) v1 rfl, ↓xgR_s (k := 1) v1 rfl, ↓xgR_s (k := 2) v1 rfl, ↓xgR_s (k := 3) v1 rfl, ↓xlen_s v2 (by decide), hL]
  refine ok_ite (fun c1 => ?_) fun c1 => ?_
  · have hi : i = (rLen R (rCrs R a) + 1).toNat := by omega
    subst hi
    exact ok_rI.mpr ⟨rfl, t3, g3.trans hI q3⟩
  · have po3 := g4.qf g2 g3.iv q3
    obtain ⟨P4, e4, t4, q4⟩ := t3.mistake q3.iv hV ha ha' (i := i) (by omega) (by omega) po3
    have po4 := po3.qf t3 q3.iv q4
    have hmk := rMk_rg hV ha ha' (i := i) (by omega) (by omega)
    have hmx : (if 0 < rMk R a i then rI (z (rMk R a i)) P4 else rI (z 0) P4) = rI (z (max 0 (rMk R a i))) P4 := by
      split
      · rw [Int.max_eq_right (by omega)]
      · rw [Int.max_eq_left (by omega)]
    simp (disch := omega) only [e4, z_add, z_sub, z_mul, z_neg, zlt, zle, zeq, zne, l0, l1, l2, l3, l4, l5, l6, l7, l8, l9, l10, l11, l16, l17, l20, l24, l32, l37, l47, l57, l60, l67, l77, l97, l99, l122, l48, l57, l100, l237, l397, l600, l900, l880, l9998, l9999, bnd, xcI_rI, xcV_rV, xcR_rR, zb0, zb1, nz0, nz1, nar_z0, nar_z1, nar_b2, ↓reduceIte, ↓xnul_s, ↓xnul_n, xcst_n, List.set_cons_zero, List.set_cons_succ, f_J8_max, hmx]
    refine hk _ _ (by omega) ⟨i + 1, P4, ?_, rfl, by omega, t4, g3.trans hI (q3.trans g3.iv q4), po4⟩
    rw [sumS, ← Int.sub_sub]
    rfl
end

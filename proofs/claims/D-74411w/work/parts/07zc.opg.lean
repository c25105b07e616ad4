/-! ALONE, CHASES -/
set_option maxRecDepth 100000
/-- the ones at a number's low end -/
def run1 : Nat → Nat → Nat
  | 0, _ => 0
  | f + 1, k => if k % 2 = 1 then run1 f (k / 2) + 1 else 0
/-- the longest row of ones: how long, from where -/
def ccS (k : Nat) : Nat → Nat × Int
  | 0 => (0, -2)
  | i + 1 => if (ccS k i).1 < run1 11 (k / 2 ^ i) then (run1 11 (k / 2 ^ i), i) else ccS k i
/-- .. by one pass: most, first, now -/
def ttS (k : Nat) : Nat → Nat × Int × Nat
  | 0 => (0, -2, 0)
  | i + 1 => if k / 2 ^ i % 2 = 1 then (if (ttS k i).1 < (ttS k i).2.2 + 1 then ((ttS k i).2.2 + 1, (i : Int) - ((ttS k i).2.2 + 1 : Nat) + 1, (ttS k i).2.2 + 1) else ((ttS k i).1, (ttS k i).2.1, (ttS k i).2.2 + 1)) else ((ttS k i).1, (ttS k i).2.1, 0)
theorem cc_tt : ∀ k, k < 2048 → (ccS k 11).1 = (ttS k 11).1 ∧ (ccS k 11).2 = (ttS k 11).2.1 ∧ (ccS k 11).1 ≤ 11 ∧ ((ccS k 11).1 = 0 ↔ (ccS k 11).2 = -2) ∧ ((ccS k 11).1 ≠ 0 → 0 ≤ (ccS k 11).2 ∧ k / 2 ^ (((ccS k 11).2 + (ccS k 11).1 - 1).toNat) % 2 = 1 ∧ (ccS k 11).2 + (ccS k 11).1 - 1 ≤ 10) := by
  have h : ∀ k : Fin 2048, (ccS k.val 11).1 = (ttS k.val 11).1 ∧ (ccS k.val 11).2 = (ttS k.val 11).2.1 ∧ (ccS k.val 11).1 ≤ 11 ∧ ((ccS k.val 11).1 = 0 ↔ (ccS k.val 11).2 = -2) ∧ ((ccS k.val 11).1 ≠ 0 → 0 ≤ (ccS k.val 11).2 ∧ k.val / 2 ^ (((ccS k.val 11).2 + (ccS k.val 11).1 - 1).toNat) % 2 = 1 ∧ (ccS k.val 11).2 + (ccS k.val 11).1 - 1 ≤ 10) := by decide +kernel
  exact fun k hk => h ⟨k, hk⟩
def ntz74 (v0 v1 : Int32) : Int32 := v1 + ((v0.toUInt32 >>> ((1 : Int32).toUInt32 &&& Int32.toUInt32 31)).toInt32)
def ntz62 (v0 v1 : Int32) : Int32 := if v0 ≤ 4 then ntz74 v0 v1 else ntz74 ((v0.toUInt32 >>> ((2 : Int32).toUInt32 &&& Int32.toUInt32 31)).toInt32) (v1 + 2)
def ntz49 (v0 v1 : Int32) : Int32 := if v0 ≤ 16 then ntz62 v0 v1 else ntz62 ((v0.toUInt32 >>> ((4 : Int32).toUInt32 &&& Int32.toUInt32 31)).toInt32) (v1 + 4)
def ntz34 (v0 v1 : Int32) : Int32 := if v0 ≤ 256 then ntz49 v0 v1 else ntz49 ((v0.toUInt32 >>> ((8 : Int32).toUInt32 &&& Int32.toUInt32 31)).toInt32) (v1 + 8)
theorem ntz62_z {P : PH} {a b : Int32} : f_J19_numberOfTrailingZeros_62 a b P = rI (ntz62 a b) P := by
  unfold f_J19_numberOfTrailingZeros_62 ntz62
  split <;> rfl
theorem ntz49_z {P : PH} {a b : Int32} : f_J19_numberOfTrailingZeros_49 a b P = rI (ntz49 a b) P := by
  unfold f_J19_numberOfTrailingZeros_49 ntz49
  split
  · exact ntz62_z
  · exact ntz62_z
theorem ntz34_z {P : PH} {a b : Int32} : f_J19_numberOfTrailingZeros_34 a b P = rI (ntz34 a b) P := by
  unfold f_J19_numberOfTrailingZeros_34 ntz34
  split
  · exact ntz49_z
  · exact ntz49_z
def ntzV (a x1 : Int32) : Int32 := if 0 < x1 then (if x1 ≤ 65536 then ntz34 x1 1 else ntz34 ((x1.toUInt32 >>> ((16 : Int32).toUInt32 &&& Int32.toUInt32 31)).toInt32) (1 + 16)) else x1 &&& 32
theorem ntzV_z {P : PH} {a : Int32} : f_J19_numberOfTrailingZeros P a = rI (ntzV a ((a ^^^ (-1)) &&& (a - 1))) P := by
  unfold f_J19_numberOfTrailingZeros ntzV bnd
  dsimp only
  split
  · split
    · exact ntz34_z
    · exact ntz34_z
  · rfl
theorem ntz_z {P : PH} {k : Nat} (hk : k < 2048) : f_J19_numberOfTrailingZeros P (z k ^^^ (-1)) = rI (z (run1 11 k)) P := by
  have h : ∀ q : Fin 2048, ntzV (z ((q.val : Nat) : Int) ^^^ (-1)) (((z ((q.val : Nat) : Int) ^^^ (-1)) ^^^ (-1)) &&& ((z ((q.val : Nat) : Int) ^^^ (-1)) - 1)) = z (run1 11 q.val) := by decide +kernel
  rw [ntzV_z]
  congr 1
  exact h ⟨k, hk⟩
/-- who leads at the end of a chase -/
def vChase (R : Nat → Int) (a b k : Int) : Int :=
  let c := ccS (orN (fun i => tgB R a b i) (rLen R (rCrs R a) + 1).toNat) 11
  if c.2 = -2 then -2 else if k = 0 then c.1 else if k = 1 then c.2 else if rTm R a (c.2 + c.1 - 1) < rTm R b (c.2 + c.1 - 1) ∨ (rTm R a (c.2 + c.1 - 1) = rTm R b (c.2 + c.1 - 1) ∧ a < b) then a else b
section
variable {n x : Nat} {P : PH} {g : GX} {mo : Option Nat} {cs rs : List Nat} {R : Nat → Int} {N : Nat → List Int32}
theorem setT_n {R : Nat → Int} (hV : RV R) {a b : Int} (ha : 0 ≤ a) (ha' : a < R 1) : setT R a b = z (orN (fun i => tgB R a b i) (rLen R (rCrs R a) + 1).toNat) ∧ orN (fun i => tgB R a b i) (rLen R (rCrs R a) + 1).toNat < 2 ^ (rLen R (rCrs R a) + 1).toNat ∧ orN (fun i => tgB R a b i) (rLen R (rCrs R a) + 1).toNat < 2048 := by
  have hcr := hV.crs ha ha'
  have hl := hV.len hcr.1 hcr.2
  have h1 := orN_lt (p := fun i : Nat => tgB R a b i) (n := (rLen R (rCrs R a) + 1).toNat)
  refine ⟨orB_nat (by omega), h1, ?_⟩
  have h2 : 2 ^ (rLen R (rCrs R a) + 1).toNat ≤ 2 ^ 11 := Nat.pow_le_pow_right (by omega) (by omega)
  omega
theorem tb_mod {k i : Nat} : (k / 2 ^ i % 2 = 1) ↔ k.testBit i = true := by
  rw [Nat.testBit_eq_decide_div_mod_eq]
  simp
/-- the end of a longest row is a point where two are together -/
theorem cc_last {R : Nat → Int} (hV : RV R) {a b : Int} (ha : 0 ≤ a) (ha' : a < R 1) {c : Nat × Int} (hc : c = ccS (orN (fun i => tgB R a b i) (rLen R (rCrs R a) + 1).toNat) 11) (h2 : c.2 ≠ -2) : (1 ≤ c.1 ∧ c.1 ≤ 11) ∧ 0 ≤ c.2 ∧ (0 ≤ c.2 + c.1 - 1 ∧ c.2 + c.1 - 1 ≤ rLen R (rCrs R a)) ∧ tgB R a b (c.2 + c.1 - 1) = true := by
  have hcr := hV.crs ha ha'
  have hl := hV.len hcr.1 hcr.2
  have h3 := cc_tt _ (setT_n (b := b) hV ha ha').2.2
  rw [← hc] at h3
  have h4 : c.1 ≠ 0 := fun e => h2 (h3.2.2.2.1.mp e)
  have h5 := h3.2.2.2.2 h4
  have h6 := tb_mod.mp h5.2.1
  rw [orN_bit] at h6
  simp only [Bool.and_eq_true, decide_eq_true_eq] at h6
  rw [show (((c.2 + c.1 - 1).toNat : Nat) : Int) = c.2 + c.1 - 1 by omega] at h6
  exact ⟨by omega, h5.1, by omega, h6.2⟩
theorem run1_le : ∀ f q, run1 f q ≤ f := by
  intro f
  induction f with
  | zero => exact fun _ => Nat.le_refl _
  | succ f ih =>
    intro q
    unfold run1
    split
    · have := ih (q / 2); omega
    · omega
theorem ccS_rg {k : Nat} : ∀ i, i ≤ 11 → (ccS k i).1 ≤ 11 ∧ -2 ≤ (ccS k i).2 ∧ (ccS k i).2 ≤ 11 := by
  have hr := run1_le
  intro i
  induction i with
  | zero => simp [ccS]
  | succ i ih =>
    intro hi
    have := ih (by omega)
    have := hr 11 (k / 2 ^ i)
    unfold ccS
    split
    · simp only; omega
    · omega
theorem X_chase (hx : CX P x g mo) (hI : Iv P) (hM : MO n P mo cs rs R N) (hV : RV R) {a b k : Int} (ha : i32 a) (hb : i32 b) (hk : i32 k) : Oq n P x g mo cs rs R N 0 (f_X1_chase P x (z a) (z b) (z k)) (if (0 ≤ k ∧ k ≤ 2) ∧ wn2 R a b = 0 then vChase R a b k else -1) (if 0 ≤ k ∧ k ≤ 2 then wn2 R a b else 1) := by
  unfold f_X1_chase
  have hw := wn2_rg (R := R) (a := a) (b := b)
  rw [hx.cl, l2, show (0 : Int32) = z 0 from rfl, X_isIn_z hk (by omega) (by omega), xcI_rI]
  by_cases ck : 0 ≤ k ∧ k ≤ 2
  · rw [b2_t' ck, if_neg (by decide), if_pos ck, X_whyNot hx hM hV ha hb, xcI_rI]
    by_cases c0 : wn2 R a b = 0
    · have c := wn2_0.mp c0
      obtain ⟨m, rfl, hM'⟩ := hM.get (by omega)
      have hne := hx.ne hM'
      have hcr := hV.crs c.1.1 c.1.2
      have hl := hV.len hcr.1 hcr.2
      obtain ⟨P1, e1, h5, q1, x1, I1⟩ := (X_togetherOf hx hI hM' hV c.1.1 c.1.2 c.2.1.1 c.2.1.2 c.2.2.2).u hI hx hM'
      have hs := setT_n (b := b) hV c.1.1 c.1.2
      have hcl := fun h2 => cc_last hV (b := b) c.1.1 c.1.2 rfl h2
      have h6 := q1
      rw [if_pos (And.intro ck c0), c0, if_pos (by decide), e1, xcI_rI, z_of, hs.1]
      apply ok_oq
      unfold vChase
      generalize orN (fun i => tgB R a b i) (rLen R (rCrs R a) + 1).toNat = K at *
      refine ok_lpn (fun d p => ∃ (i : Nat), p = (z a, z b, z k, z K, z ((ccS K i).1 : Nat), z (ccS K i).2, z i, P1) ∧ d = 11 - i ∧ i ≤ 11) ?_ FU _ _ ⟨0, rfl, rfl, by omega⟩ (by simp only [FU]; omega)
      rintro kk d p ⟨i, rfl, rfl, h4⟩ hk0
      have hcc := ccS_rg (k := K) i h4
      simp (disch := omega) only [f_X1_chase_53F, z_add, z_sub, z_mul, z_neg, zlt, zle, zeq, zne, l0, l1, l2, l3, l4, l5, l6, l7, l8, l9, l10, l11, l16, l17, l20, l24, l32, l37, l47, l57, l60, l67, l77, l97, l99, l122, l48, l57, l100, l237, l397, l600, l900, l880, l9998, l9999, bnd, xcI_rI, xcV_rV, xcR_rR, zb0, zb1, nz0, nz1, nar_z0, nar_z1, nar_b2, ↓reduceIte, ↓xnul_s, ↓xnul_n, xcst_n, List.set_cons_zero, List.set_cons_succ]
      refine ok_ite (fun c1 => ?_) fun c1 => ?_
      · have hi : i = 11 := by omega
        subst hi
        generalize ccS K 11 = cc at *
        refine ok_ite (fun c2 => ?_) fun c2 => ?_
        · rw [if_pos c2]
          exact (op_yes hx hI h5 h6 hne).ok
        · have hl2 := hcl c2
          have ht := hl2.2.2.2
          unfold tgB at ht
          simp only [decide_eq_true_eq] at ht
          have ra := rTm_rg hV (i := cc.2 + cc.1 - 1) c.1.1 c.1.2
          have rb := rTm_rg hV (i := cc.2 + cc.1 - 1) c.2.1.1 c.2.1.2
          obtain ⟨P3, y3, e3, e3', t3, q3⟩ := h5.mtime I1 hV c.1.1 c.1.2 (i := cc.2 + cc.1 - 1) (by omega) (by omega)
          have x3 := x1.qf I1 hne q3
          obtain ⟨P4, y4, e4, e4', t4, q4⟩ := t3.mtime q3.iv hV c.2.1.1 c.2.1.2 (i := cc.2 + cc.1 - 1) (by omega) (by rw [← c.2.2.2]; omega)
          have h8 := (h6.trans hI q3).trans hI q4
          have ca : cTm R a (cc.2 + cc.1 - 1) = rTm R a (cc.2 + cc.1 - 1) := by unfold cTm; rw [if_neg ht.1.1]
          have cb : cTm R b (cc.2 + cc.1 - 1) = rTm R b (cc.2 + cc.1 - 1) := by unfold cTm; rw [if_neg ht.1.2]
          rw [ca] at e3'
          rw [cb] at e4'
          rw [if_neg c2]
          simp (disch := omega) only [z_add, z_sub, z_mul, z_neg, zlt, zle, zeq, zne, l0, l1, l2, l3, l4, l5, l6, l7, l8, l9, l10, l11, l16, l17, l20, l24, l32, l37, l47, l57, l60, l67, l77, l97, l99, l122, l48, l57, l100, l237, l397, l600, l900, l880, l9998, l9999, bnd, xcI_rI, xcV_rV, xcR_rR, zb0, zb1, nz0, nz1, nar_z0, nar_z1, nar_b2, ↓reduceIte, ↓xnul_s, ↓xnul_n, xcst_n, List.set_cons_zero, List.set_cons_succ, ↓x1.gm, e3, e3', ↓x3.gm, e4, e4', f_X1_chase_188, f_X1_chase_183, f_X1_chase_187]
          refine ok_ite (fun c3 => ?_) fun c3 => ?_
          · rw [if_pos c3]
            exact (op_yes hx hI t4 h8 hne).ok
          · rw [if_neg c3]
            refine ok_ite (fun c4 => ?_) fun c4 => ?_
            · rw [if_pos c4]
              exact (op_yes hx hI t4 h8 hne).ok
            · rw [if_neg c4]
              refine ok_ite (fun c5 => ?_) fun c5 => ?_
              · rw [if_pos (by omega)]
                exact (op_yes hx hI t4 h8 hne).ok
              · refine ok_ite (fun c6 => ?_) fun c6 => ?_
                · refine ok_ite (fun c7 => ?_) fun c7 => ?_
                  · rw [if_neg (by omega)]
                    exact (op_yes hx hI t4 h8 hne).ok
                  · rw [if_pos (by omega)]
                    exact (op_yes hx hI t4 h8 hne).ok
                · rw [if_neg (by omega)]
                  exact (op_yes hx hI t4 h8 hne).ok
      · have hq : K / 2 ^ i ≤ K := Nat.div_le_self _ _
        have hsh := shr_z (k := K) (i := i) (by omega) (by omega)
        have hntz := ntz_z (P := P1) (k := K / 2 ^ i) (by omega)
        have hgo : ∀ (u : Nat) (v : Int), u = (ccS K (i + 1)).1 → v = (ccS K (i + 1)).2 → OK (kk (z a, z b, z k, z K, z (u : Int), z v, z ((i : Int) + 1), P1)) _ := fun u v hu hv => hk0 _ _ (by omega) ⟨i + 1, by rw [hu, hv]; rfl, rfl, by omega⟩
        have hrr := ccS_rg (k := K) (i + 1) (by omega)
        have l31' : (31 : Int32) = z 31 := rfl
        rw [show z K >>> (z i &&& 31) = z ((K / 2 ^ i : Nat) : Int) from hsh]
        rw [show (z ((K / 2 ^ i : Nat) : Int) ^^^ (z (-1))) = (z ((K / 2 ^ i : Nat) : Int) ^^^ (-1)) from rfl, hntz, xcI_rI]
        have hrn := run1_le 11 (K / 2 ^ i)
        simp (disch := omega) only [z_add, z_sub, z_mul, z_neg, zlt, zle, zeq, zne, l0, l1, l2, l3, l4, l5, l6, l7, l8, l9, l10, l11, l16, l17, l20, l24, l32, l37, l47, l57, l60, l67, l77, l97, l99, l122, l48, l57, l100, l237, l397, l600, l900, l880, l9998, l9999, bnd, xcI_rI, xcV_rV, xcR_rR, zb0, zb1, nz0, nz1, nar_z0, nar_z1, nar_b2, ↓reduceIte, ↓xnul_s, ↓xnul_n, xcst_n, List.set_cons_zero, List.set_cons_succ, f_X1_chase_90]
        refine ok_ite (fun c2 => ?_) fun c2 => ?_
        · have hv : ccS K (i + 1) = (run1 11 (K / 2 ^ i), (i : Int)) := by rw [ccS, if_pos (by omega)]
          exact hgo _ _ (by rw [hv]) (by rw [hv])
        · have hv : ccS K (i + 1) = ccS K i := by rw [ccS, if_neg (by omega)]
          exact hgo _ _ (by rw [hv]) (by rw [hv])
    · rw [if_neg (fun h : _ ∧ _ => c0 h.2)]
      simp (disch := omega) only [z_add, z_sub, z_mul, z_neg, zlt, zle, zeq, zne, l0, l1, l2, l3, l4, l5, l6, l7, l8, l9, l10, l11, l16, l17, l20, l24, l32, l37, l47, l57, l60, l67, l77, l97, l99, l122, l48, l57, l100, l237, l397, l600, l900, l880, l9998, l9999, bnd, xcI_rI, xcV_rV, xcR_rR, zb0, zb1, nz0, nz1, nar_z0, nar_z1, nar_b2, ↓reduceIte]
      rw [if_neg (by omega)]
      exact op_no hx hI hM
  · rw [b2_f' ck, if_pos (by decide), if_neg (fun h : _ ∧ _ => ck h.1), if_neg ck]
    exact op_no (w := 1) hx hI hM
theorem X_alone (hx : CX P x g mo) (hI : Iv P) (hM : MO n P mo cs rs R N) (hV : RV R) {a : Int} (ha : i32 a) : Oq n P x g mo cs rs R N 0 (f_X1_alone P x (z a)) (if 0 ≤ a ∧ a < R 1 then (setA R a).toInt else -1) (b2 (¬ (0 ≤ a ∧ a < R 1))) := by
  unfold f_X1_alone
  have hnr := hV.nR
  rw [hx.cl, X_isRunner hx hM hV ha, xcI_rI]
  by_cases c0 : 0 ≤ a ∧ a < R 1
  · obtain ⟨m, rfl, hM'⟩ := hM.get (by omega)
    have hne := hx.ne hM'
    have hcr := hV.crs c0.1 c0.2
    have hl := hV.len hcr.1 hcr.2
    have hL : (((rLen R (rCrs R a)).toNat : Nat) : Int) = rLen R (rCrs R a) := by omega
    rw [b2_t' c0, if_pos c0, nb c0, if_neg (by decide)]
    apply ok_oq
    unfold setA
    generalize hp : (fun i : Nat => decide (rTm R a i ≠ -1) && alB R a i (R 1).toNat) = pb
    refine ok_lpn (fun d p => ∃ (i : Nat) (P1 : PH), p = (z a, z ((orB pb i).toInt), z i, P1) ∧ d = (rLen R (rCrs R a) + 1).toNat - i ∧ (i : Int) ≤ rLen R (rCrs R a) + 1 ∧ MRep n P1 m cs rs R N ∧ QF m (0) P P1) ?_ FU _ _ ⟨0, P, rfl, rfl, by omega, hM', QF.rf hI⟩ (by simp only [FU]; omega)
    rintro kk d p ⟨i, P1, rfl, rfl, h4, h5, h6⟩ hk
    have hI1 := h6.iv
    have x1 := hx.qf hI hne h6
    have hst : ∀ (v0 : Int) (P2 : PH), v0 = (orB pb (i + 1)).toInt → MRep n P2 m cs rs R N → QF m (0) P P2 → (i : Int) < rLen R (rCrs R a) + 1 → OK (kk (z a, z v0, z ((i : Int) + 1), P2)) _ := fun v0 P2 ev0 t2 q2 hl => hk _ _ (by omega) ⟨i + 1, P2, (by rw [ev0]; rfl), rfl, by omega, t2, q2⟩
    obtain ⟨cl, rl, mm, hcm, hcz, hrz, hcg, hrg⟩ := h5.at
    simp (disch := omega) only [f_X1_alone_18F, f_X1_alone_125, f_X1_alone_123, z_add, z_sub, z_mul, z_neg, zlt, zle, zeq, zne, l0, l1, l2, l3, l4, l5, l6, l7, l8, l9, l10, l11, l16, l17, l20, l24, l32, l37, l47, l57, l60, l67, l77, l97, l99, l122, l48, l57, l100, l237, l397, l600, l900, l880, l9998, l9999, bnd, xcI_rI, xcV_rV, xcR_rR, zb0, zb1, nz0, nz1, nar_z0, nar_z1, nar_b2, ↓reduceIte, ↓xnul_s, ↓xnul_n, xcst_n, List.set_cons_zero, List.set_cons_succ, ↓x1.gm, ↓xcl1_s hcm, ↓xgR_s (k := 0) hcm rfl, ↓xgR_s (k := 1) hcm rfl, ↓xgI_s (k := 2) hcm rfl, ↓xgI_s (k := 3) hcm rfl, hcz, hrz]
    obtain ⟨P3, y3, x3, e3, h5, u1, u2, q3⟩ := h5.match hI1 hV c0.1 c0.2
    obtain ⟨ca, tk, mo3, gg, v1, v2⟩ := u2.tlen
    have h6 := h6.trans hI q3
    have x3 := hx.qf hI hne h6
    simp (disch := omega) only [e3, z_add, z_sub, z_mul, z_neg, zlt, zle, zeq, zne, l0, l1, l2, l3, l4, l5, l6, l7, l8, l9, l10, l11, l16, l17, l20, l24, l32, l37, l47, l57, l60, l67, l77, l97, l99, l122, l48, l57, l100, l237, l397, l600, l900, l880, l9998, l9999, bnd, xcI_rI, xcV_rV, xcR_rR, zb0, zb1, nz0, nz1, nar_z0, nar_z1, nar_b2, ↓reduceIte, ↓xnul_s, ↓xnul_n, xcst_n, List.set_cons_zero, List.set_cons_succ, ↓xcl1_s v1, ↓xgR_s (k := 0) v1 rfl, ↓xgR_s (k := 1) v1 rfl, ↓xgR_s (k := 2) v1 rfl, ↓xgR_s (k := 3) v1 rfl, ↓xlen_s v2 (by decide), hL, ↓x3.gm]
    refine ok_ite (fun c1 => ?_) fun c1 => ?_
    · have hi : i = (rLen R (rCrs R a) + 1).toNat := by omega
      subst hi
      exact (op_yes hx hI h5 h6 hne).ok
    have hpi : pb i = (decide (rTm R a i ≠ -1) && alB R a i (R 1).toNat) := by rw [← hp]
    have ra := rTm_rg hV (i := i) c0.1 c0.2
    have ca := cTm_rg hV (i := i) c0.1 c0.2
    obtain ⟨P4, y4, e4, e4', t4, q4⟩ := h5.mtime q3.iv hV c0.1 c0.2 (i := i) (by omega) (by omega)
    have h7 := h6.trans hI q4
    simp (disch := omega) only [e4, e4', z_add, z_sub, z_mul, z_neg, zlt, zle, zeq, zne, l0, l1, l2, l3, l4, l5, l6, l7, l8, l9, l10, l11, l16, l17, l20, l24, l32, l37, l47, l57, l60, l67, l77, l97, l99, l122, l48, l57, l100, l237, l397, l600, l900, l880, l9998, l9999, bnd, xcI_rI, xcV_rV, xcR_rR, zb0, zb1, nz0, nz1, nar_z0, nar_z1, nar_b2, ↓reduceIte, ↓xnul_s, ↓xnul_n, xcst_n, List.set_cons_zero, List.set_cons_succ]
    refine ok_ite (fun c2 => ?_) fun c2 => ?_
    · have hpf : ¬ pb i = true := by
        rw [hpi]
        have : rTm R a i = -1 := by
          unfold cTm at c2
          split at c2
          · assumption
          · omega
        simp [this]
      have hv : orB pb (i + 1) = orB pb i := by rw [orB, if_neg hpf, Int32.or_zero]
      exact hst _ _ (by rw [hv]) t4 h7 (by omega)
    · have htm : rTm R a i ≠ -1 := fun e => c2 (by unfold cTm; rw [if_pos e])
      refine ok_lpn (fun d q => ∃ (o : Nat) (P2 : PH), q = (z a, z (orB pb i).toInt, z i, z (b2 (alB R a i o = true)), z o, P2) ∧ d = (R 1).toNat - o ∧ (o : Int) ≤ R 1 ∧ MRep n P2 m cs rs R N ∧ QF m 0 P P2) ?_ FU _ _ ⟨0, P4, rfl, rfl, by omega, t4, h7⟩ (by simp only [FU]; omega)
      rintro kk2 d q ⟨o, P2, rfl, rfl, g4, g5, g6⟩ hk2
      have x2 := hx.qf hI hne g6
      obtain ⟨cl, rl, mm, hcm, hcz, hrz, hcg, hrg⟩ := g5.at
      simp (disch := omega) only [f_X1_alone_60F, f_X1_alone_104, f_X1_alone_123, f_X1_alone_125, z_add, z_sub, z_mul, z_neg, zlt, zle, zeq, zne, l0, l1, l2, l3, l4, l5, l6, l7, l8, l9, l10, l11, l16, l17, l20, l24, l32, l37, l47, l57, l60, l67, l77, l97, l99, l122, l48, l57, l100, l237, l397, l600, l900, l880, l9998, l9999, bnd, xcI_rI, xcV_rV, xcR_rR, zb0, zb1, nz0, nz1, nar_z0, nar_z1, nar_b2, ↓reduceIte, ↓xnul_s, ↓xnul_n, xcst_n, List.set_cons_zero, List.set_cons_succ, ↓x2.gm, ↓xcl1_s hcm, ↓xgR_s (k := 0) hcm rfl, ↓xgR_s (k := 1) hcm rfl, ↓xgI_s (k := 2) hcm rfl, ↓xgI_s (k := 3) hcm rfl, hrz]
      refine ok_ite (fun c4 => ?_) fun c4 => ?_
      · have ho : o = (R 1).toNat := by omega
        subst ho
        refine ok_ite (fun c5 => ?_) fun c5 => ?_
        · rw [orB_n (p := pb) (i := i) (by rw [hpi]; simp only [Bool.and_eq_true, not_and]; exact fun _ => c5)]
          exact hst _ _ (by rfl) g5 g6 (by omega)
        · rw [orB_y (p := pb) (i := i) (by rw [hpi]; simp only [Bool.and_eq_true, decide_eq_true_eq]; exact ⟨htm, Decidable.not_not.mp c5⟩)]
          exact hst _ _ (by rfl) g5 g6 (by omega)
      · have hst2 : ∀ (v : Int) (P3 : PH), v = b2 (alB R a i (o + 1) = true) → MRep n P3 m cs rs R N → QF m 0 P P3 → OK (kk2 (z a, z (orB pb i).toInt, z i, z v, z ((o : Int) + 1), P3)) _ := fun v P3 ev t3 q3 => hk2 _ _ (by omega) ⟨o + 1, P3, (by rw [ev]; rfl), rfl, by omega, t3, q3⟩
        have hwr := wn2_rg (R := R) (a := a) (b := o)
        simp (disch := omega) only [X_whyNot x2 (Or.inr ⟨m, rfl, g5⟩) hV (a := a) (b := o) ha ⟨by omega, by omega⟩, z_add, z_sub, z_mul, z_neg, zlt, zle, zeq, zne, l0, l1, l2, l3, l4, l5, l6, l7, l8, l9, l10, l11, l16, l17, l20, l24, l32, l37, l47, l57, l60, l67, l77, l97, l99, l122, l48, l57, l100, l237, l397, l600, l900, l880, l9998, l9999, bnd, xcI_rI, xcV_rV, xcR_rR, zb0, zb1, nz0, nz1, nar_z0, nar_z1, nar_b2, ↓reduceIte, ↓xnul_s, ↓xnul_n, xcst_n, List.set_cons_zero, List.set_cons_succ]
        refine ok_ite (fun c5 => ?_) fun c5 => ?_
        · have c := wn2_0.mp c5
          obtain ⟨P5, e5, t5, q5⟩ := g5.areT g6.iv hV c.1.1 c.1.2 c.2.1.1 c.2.1.2 c.2.2.2 (i := i) (by omega) (by omega)
          have h9 := g6.trans hI q5
          simp (disch := omega) only [↓x2.gm, z_add, z_sub, z_mul, z_neg, zlt, zle, zeq, zne, l0, l1, l2, l3, l4, l5, l6, l7, l8, l9, l10, l11, l16, l17, l20, l24, l32, l37, l47, l57, l60, l67, l77, l97, l99, l122, l48, l57, l100, l237, l397, l600, l900, l880, l9998, l9999, bnd, xcI_rI, xcV_rV, xcR_rR, zb0, zb1, nz0, nz1, nar_z0, nar_z1, nar_b2, ↓reduceIte, ↓xnul_s, ↓xnul_n, xcst_n, List.set_cons_zero, List.set_cons_succ, e5]
          refine ok_ite (fun c6 => ?_) fun c6 => ?_
          · have hv : alB R a i (o + 1) = alB R a i o := by
              simp only [alB, Bool.not_eq_true] at c6 ⊢
              rw [c6]
              simp
            exact hst2 _ _ (by rw [hv]) t5 h9
          · have hv : ¬ alB R a i (o + 1) = true := by
              have c6 := Decidable.not_not.mp c6
              simp only [alB]
              rw [c6]
              simp [c5]
            exact hst2 _ _ (by rw [b2_f' hv]) t5 h9
        · have hv : alB R a i (o + 1) = alB R a i o := by
            simp only [alB]
            simp [c5]
          exact hst2 _ _ (by rw [hv]) g5 g6
  · rw [b2_f' c0, if_pos (by decide), if_neg c0, nb' c0]
    exact op_no (w := 1) hx hI hM
end

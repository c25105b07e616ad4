/-! A MEET's MATCHES, kept -/
set_option maxRecDepth 100000
theorem MRep.run {n m : Nat} {P : PH} {cs rs : List Nat} {R : Nat → Int} {N : Nat → List Int32} (h : MRep n P m cs rs R N) {a : Int} (ha : 0 ≤ a) (ha' : a < R 1) : ∃ x, rs[a.toNat]? = some x ∧ RRep n P x R a (N (3 + a.toNat)) := by
  obtain ⟨cl, rl, mo, h0, h1, ⟨hc, hr, hl, hcs, hrs⟩, h3⟩ := h
  have hlt : a.toNat < rs.length := by omega
  refine ⟨rs[a.toNat], List.getElem?_eq_getElem hlt, ?_⟩
  have := hrs a.toNat _ (List.getElem?_eq_getElem hlt)
  rwa [show ((a.toNat : Nat) : Int) = a by omega] at this
theorem MRep.crs {n m : Nat} {P : PH} {cs rs : List Nat} {R : Nat → Int} {N : Nat → List Int32} (h : MRep n P m cs rs R N) {c : Int} (hc : 0 ≤ c) (hc' : c < R 0) : ∃ x, cs[c.toNat]? = some x ∧ CRep n P x R c (N c.toNat) := by
  obtain ⟨cl, rl, mo, h0, h1, ⟨hcl, hr, hl, hcs, hrs⟩, h3⟩ := h
  have hlt : c.toNat < cs.length := by omega
  refine ⟨cs[c.toNat], List.getElem?_eq_getElem hlt, ?_⟩
  have := hcs c.toNat _ (List.getElem?_eq_getElem hlt)
  rwa [show ((c.toNat : Nat) : Int) = c by omega] at this
/-- a meet's cells and how its lists are read -/
theorem MRep.at {n m : Nat} {P : PH} {cs rs : List Nat} {R : Nat → Int} {N : Nat → List Int32} (h : MRep n P m cs rs R N) : ∃ cl rl mo, P.1 m = some (true, oB 3 [.ref cl, .ref rl, .int (z (R 2)), .int (z (R 3)), va_rf mo]) ∧ f_J3_size P cl = rI (z (R 0)) P ∧ f_J3_size P rl = rI (z (R 1)) P ∧ (∀ (c : Int) (x : Nat), 0 ≤ c → c < R 0 → cs[c.toNat]? = some x → f_J3_get P cl (z c) = rR (some x) P) ∧ ∀ (a : Int) (x : Nat), 0 ≤ a → a < R 1 → rs[a.toNat]? = some x → f_J3_get P rl (z a) = rR (some x) P := by
  obtain ⟨cl, rl, mo, h0, h1, ⟨hc, hr, hl, hcs, hrs⟩, h3⟩ := h
  refine ⟨cl, rl, mo, h1, by rw [hc.2.size, hl.1], by rw [hr.2.size, hl.2], fun c x h0 h1 hx => ?_, fun c x h0 h1 hx => ?_⟩
  · obtain ⟨y, e1, e2⟩ := hc.2.get (i := c) h0 (by omega)
    rw [hx] at e1
    cases e1
    exact e2
  · obtain ⟨y, e1, e2⟩ := hr.2.get (i := c) h0 (by omega)
    rw [hx] at e1
    cases e1
    exact e2
theorem nn_upd {f : Nat → Option Nat} {i y : Nat} (hf : f i = none) : ∀ k, nn (updR f i (some y)) k + (if i < k then 1 else 0) = nn f k := by
  intro k
  induction k with
  | zero => rfl
  | succ k ih =>
    show nn (updR f i (some y)) k + (if updR f i (some y) k = none then 1 else 0) + (if i < k + 1 then 1 else 0) = nn f k + (if f k = none then 1 else 0)
    by_cases h : k = i
    · subst h
      have e : updR f k (some y) k = some y := if_pos rfl
      rw [e, hf, if_neg (by simp), if_pos rfl, if_pos (by omega)]
      rw [if_neg (by omega)] at ih
      omega
    · have e : updR f i (some y) k = f k := if_neg h
      rw [e]
      generalize (if f k = none then 1 else 0) = q
      by_cases h2 : i < k
      · rw [if_pos h2] at ih
        rw [if_pos (by omega)]
        omega
      · rw [if_neg h2] at ih
        rw [if_neg (by omega)]
        omega
theorem nn_none : ∀ k, nn (fun _ => none) k = k := by
  intro k
  induction k with
  | zero => rfl
  | succ k ih => unfold nn; rw [ih]; rfl
/-- the meet with its matches' array -/
def M5 (n : Nat) (P : PH) (m cl rl b : Nat) (f : Nat → Option Nat) (cs rs : List Nat) (R : Nat → Int) (N : Nat → List Int32) : Prop := m < n ∧ P.1 m = some (true, oB 3 [.ref cl, .ref rl, .int (z (R 2)), .int (z (R 3)), .ref b]) ∧ MB n P cl rl cs rs R N ∧ P.1 b = some (true, ar5 f) ∧ ∀ (a x y : Nat), rs[a]? = some x → f a = some y → MT P y x R a (rCrs R a)
theorem M5.rep {n m cl rl b : Nat} {P : PH} {f : Nat → Option Nat} {cs rs : List Nat} {R : Nat → Int} {N : Nat → List Int32} (h : M5 n P m cl rl b f cs rs R N) : MRep n P m cs rs R N := by
  obtain ⟨h0, h1, h2, h3, h4⟩ := h
  exact ⟨cl, rl, some b, h0, h1, h2, fun b' hb => by cases hb; exact ⟨f, h3, h4⟩⟩
theorem M5.crd {n m cl rl b : Nat} {P : PH} {f : Nat → Option Nat} {cs rs : List Nat} {R : Nat → Int} {N : Nat → List Int32} (h : M5 n P m cl rl b f cs rs R N) : cred P m = 300 * nn f 10 := by
  obtain ⟨h0, h1, h2, h3, h4⟩ := h
  unfold cred
  rw [h1]
  simp only [h3]
theorem M5.match16 {n m cl rl b : Nat} {P : PH} {f : Nat → Option Nat} {cs rs : List Nat} {R : Nat → Int} {N : Nat → List Int32} (h : M5 n P m cl rl b f cs rs R N) (hI : Iv P) (hV : RV R) {a : Int} (ha : 0 ≤ a) (ha' : a < R 1) : ∃ P' y x, f_X4_match_16 m (z a) P = rR (some y) P' ∧ MRep n P' m cs rs R N ∧ rs[a.toNat]? = some x ∧ MT P' y x R a (rCrs R a) ∧ QF m 0 P P' := by
  have hrep := h.rep
  have hcr := h.crd
  have h1R := hV.nR
  obtain ⟨x, hx, hxr⟩ := hrep.run ha ha'
  have hcc := hV.crs ha ha'
  have h0R := hV.nC
  obtain ⟨ca, hca, hcar⟩ := hrep.crs hcc.1 hcc.2
  obtain ⟨h0, h1, h2, h3, h4⟩ := id h
  have hat : ((a.toNat : Nat) : Int) = a := by omega
  cases hf : f a.toNat with
  | some y =>
    refine ⟨P, y, x, ?_, hrep, hx, ?_, QF.rf hI⟩
    · simp (disch := omega) only [f_X4_match_16, f_X4_match_79, z_add, z_sub, z_mul, z_neg, zlt, zle, zeq, zne, l0, l1, l2, l3, l4, l5, l6, l7, l8, l9, l10, l11, l16, l17, l20, l24, l32, l37, l47, l57, l60, l67, l77, l97, l99, l122, l48, l57, l100, l237, l397, l600, l900, l880, l9998, l9999, bnd, xcI_rI, xcV_rV, xcR_rR, zb0, zb1, nz0, nz1, nar_z0, nar_z1, nar_b2, ↓reduceIte, ↓xnul_s, ↓xnul_n, xcst_n, List.set_cons_zero, List.set_cons_succ, ↓xgR_s (k := 4) h1 rfl, ↓xaR_s h3, hf]
    · have := h4 a.toNat x y hx hf
      rwa [hat] at this
  | none =>
    obtain ⟨P1, e1, f1, t1, w1⟩ := MT.make hI hxr hcar hV ha ha' hcc.1 hcc.2
    have hm : P.1 m = some (true, oB 3 [.ref cl, .ref rl, .int (z (R 2)), .int (z (R 3)), .ref b]) := h1
    have fp : Fr P.2.1 W0 P (xpush P (oB 8 [.null, .null, .null, .null]) 4) := Fr.push hI rfl
    have hrep0 := hrep.fr hI fp okW_0
    obtain ⟨cl', rl', mo', k1, k2, k3, k4, k5⟩ := hrep0.at
    have k1' : (xpush P (oB 8 [.null, .null, .null, .null]) 4).1 m = some (true, oB 3 [.ref cl, .ref rl, .int (z (R 2)), .int (z (R 3)), .ref b]) := push_old hI h1
    rw [k1'] at k1
    have hcl : cl = cl' := by cases mo' <;> (cases k1; try rfl)
    have hrl : rl = rl' := by cases mo' <;> (cases k1; try rfl)
    subst hcl
    subst hrl
    have hx0 := hxr.fr hI fp okV_0
    have hca0 := hcar.fr hI fp okV_0
    obtain ⟨s, pl, ps, q0, q1, q2, q3, q4, q5⟩ := hx0
    obtain ⟨s', cl', is, r0, r1, r2, r3, r4, r5⟩ := hca0
    have g3 : P1.1 b = some (true, ar5 f) := f1.oa hI (hI.lt h3) h3 ⟨_, _, h1, rfl⟩ (fun h => h) (fun h => h)
    have g1 : P1.1 m = some (true, oB 3 [.ref cl, .ref rl, .int (z (R 2)), .int (z (R 3)), .ref b]) := f1.ob (hI.lt h1) h1 (fun h => h)
    obtain ⟨ca', tk, mo1, g, t2, t3, t4⟩ := id t1
    have hq : xmayq P1 5 (some P.2.1) = true := by
      unfold xmayq
      simp only [t2]
      rfl
    have f2 : Fr P.2.1 (fun q => q = m) P1 (xup P1 b (ar5 (updR f a.toNat (some P.2.1)))) := Fr.up f1.iv g3 rfl (fun b' hb => by cases hb) fun _ => Or.inr ⟨Or.inr rfl, m, rfl, _, _, g1, rfl⟩
    have hbm : m ≠ b := fun e => by rw [e, g3] at g1; cases g1
    have hby : P.2.1 ≠ b := fun e => by rw [← e, t2] at g3; cases g3
    have hbt : tk ≠ b := fun e => by rw [e, g3] at t3; cases t3
    have ok2 : Fr P1.2.1 (fun q => q = m) P1 (xup P1 b (ar5 (updR f a.toNat (some P.2.1)))) := Fr.up f1.iv g3 rfl (fun b' hb => by cases hb) fun _ => Or.inr ⟨Or.inr rfl, m, rfl, _, _, g1, rfl⟩
    have hMT : ∀ (a' x' y' : Nat), MT P1 y' x' R a' (rCrs R a') → MT (xup P1 b (ar5 (updR f a.toNat (some P.2.1)))) y' x' R a' (rCrs R a') := by
      intro a' x' y' ⟨ca2, tk2, mo2, g2, u1, u2, u3⟩
      exact ⟨ca2, tk2, mo2, g2, (up_ne (fun e => by rw [e, g3] at u1; cases u1)).trans u1, (up_ne (fun e => by rw [e, g3] at u2; cases u2)).trans u2, u3⟩
    have hMB : MB n (xup P1 b (ar5 (updR f a.toNat (some P.2.1)))) cl rl cs rs R N := by
      have hb1 := h2.fr hI f1 okV_0
      exact hb1.fr f1.iv ok2 (okV_1 g1 (by decide) (Or.inr (Or.inr (Or.inl rfl))))
    have h5 : M5 n (xup P1 b (ar5 (updR f a.toNat (some P.2.1)))) m cl rl b (updR f a.toNat (some P.2.1)) cs rs R N := by
      refine ⟨h0, (up_ne hbm).trans g1, hMB, up_at, fun a' x' y' hx' hy' => ?_⟩
      by_cases haa : a' = a.toNat
      · subst haa
        have : updR f a.toNat (some P.2.1) a.toNat = some P.2.1 := if_pos rfl
        rw [this] at hy'
        cases hy'
        rw [hx] at hx'
        cases hx'
        refine hMT a.toNat x P.2.1 ?_
        rw [hat]
        exact t1
      · have : updR f a.toNat (some P.2.1) a' = f a' := if_neg haa
        rw [this] at hy'
        exact hMT a' x' y' ((h4 a' x' y' hx' hy').fr (n := n) hI f1 okV_0)
    refine ⟨xup P1 b (ar5 (updR f a.toNat (some P.2.1))), P.2.1, x, ?_, h5.rep, hx, ?_, (f1.mono (fun a h => h.elim)).trans f2, ?_⟩
    · simp (disch := omega) only [f_X4_match_16, f_X4_match_79, z_add, z_sub, z_mul, z_neg, zlt, zle, zeq, zne, l0, l1, l2, l3, l4, l5, l6, l7, l8, l9, l10, l11, l16, l17, l20, l24, l32, l37, l47, l57, l60, l67, l77, l97, l99, l122, l48, l57, l100, l237, l397, l600, l900, l880, l9998, l9999, bnd, xcI_rI, xcV_rV, xcR_rR, zb0, zb1, nz0, nz1, nar_z0, nar_z1, nar_b2, ↓reduceIte, ↓xnul_s, ↓xnul_n, xcst_n, List.set_cons_zero, List.set_cons_succ, ↓xgR_s (k := 4) h1 rfl, ↓xaR_s h3, hf, ↓xnew_s, List.length_cons, List.length_nil, Nat.reduceAdd, ↓xgR_s (k := 1) k1' rfl, ↓xgR_s (k := 0) k1' rfl, k5 a x ha ha' hx, ↓xcst_s q1 (cs := [6]) rfl, ↓xcl1_s q1, ↓xgR_s (k := 0) q1 rfl, ↓xgI_s (k := 1) q1 rfl, ↓xgI_s (k := 2) q1 rfl, ↓xgI_s (k := 3) q1 rfl, ↓xgR_s (k := 4) q1 rfl, k4 _ ca hcc.1 hcc.2 hca, ↓xcst_s r1 (cs := [5]) rfl, e1, ↓xsR_s g3, hq, ↓xgR_s (k := 4) ((up_ne hbm).trans g1) rfl, ↓xaR_s up_at]
      exact congrArg (fun o => rR o _) (if_pos rfl)
    · have := hMT a.toNat x P.2.1 (by rw [hat]; exact t1)
      rwa [hat] at this
    · rw [h5.crd, hcr, wt_up]
      have := nn_upd (f := f) (i := a.toNat) (y := P.2.1) hf 10
      rw [if_pos (by omega)] at this
      omega

theorem MRep.match {n m : Nat} {P : PH} {cs rs : List Nat} {R : Nat → Int} {N : Nat → List Int32} (h : MRep n P m cs rs R N) (hI : Iv P) (hV : RV R) {a : Int} (ha : 0 ≤ a) (ha' : a < R 1) : ∃ P' y x, f_X4_match P m (z a) = rR (some y) P' ∧ MRep n P' m cs rs R N ∧ rs[a.toNat]? = some x ∧ MT P' y x R a (rCrs R a) ∧ QF m 0 P P' := by
  obtain ⟨cl, rl, mo, h0, h1, h2, h3⟩ := id h
  cases mo with
  | some b =>
    have h1 : P.1 m = some (true, oB 3 [.ref cl, .ref rl, .int (z (R 2)), .int (z (R 3)), .ref b]) := h1
    obtain ⟨f, h4, h5⟩ := h3 b rfl
    have h6 : M5 n P m cl rl b f cs rs R N := ⟨h0, h1, h2, h4, h5⟩
    obtain ⟨P', y, x, e, r⟩ := h6.match16 hI hV ha ha'
    refine ⟨P', y, x, ?_, r⟩
    simp (disch := omega) only [f_X4_match, z_add, z_sub, z_mul, z_neg, zlt, zle, zeq, zne, l0, l1, l2, l3, l4, l5, l6, l7, l8, l9, l10, l11, l16, l17, l20, l24, l32, l37, l47, l57, l60, l67, l77, l97, l99, l122, l48, l57, l100, l237, l397, l600, l900, l880, l9998, l9999, bnd, xcI_rI, xcV_rV, xcR_rR, zb0, zb1, nz0, nz1, nar_z0, nar_z1, nar_b2, ↓reduceIte, ↓xnul_s, ↓xnul_n, xcst_n, List.set_cons_zero, List.set_cons_succ, ↓xcl1_s h1, ↓xgR_s (k := 0) h1 rfl, ↓xgR_s (k := 1) h1 rfl, ↓xgI_s (k := 2) h1 rfl, ↓xgI_s (k := 3) h1 rfl, ↓xgR_s (k := 4) h1 rfl, e]
  | none =>
    have h1 : P.1 m = some (true, oB 3 [.ref cl, .ref rl, .int (z (R 2)), .int (z (R 3)), .null]) := h1
    have f1 : Fr P.2.1 W0 P (xpush P (ar5 fun _ => none) 10) := Fr.push hI rfl
    have g1 : (xpush P (ar5 fun _ => none) 10).1 m = some (true, oB 3 [.ref cl, .ref rl, .int (z (R 2)), .int (z (R 3)), .null]) := push_old hI h1
    have g2 : (xpush P (ar5 fun _ => none) 10).1 P.2.1 = some (true, ar5 fun _ => none) := push_at
    have w1 : wt (xpush P (ar5 fun _ => none) 10) = wt P + 1 + 10 := wt_push
    have n1 : (xpush P (ar5 fun _ => none) 10).2.1 = P.2.1 + 1 := rfl
    have no1 : ∀ o, ¬ oArr (xpush P (ar5 fun _ => none) 10) o P.2.1 := fun o ho => oArr_new hI rfl ho
    have hb1 := h2.fr hI f1 okV_0
    have e0 : ∀ {β : Type} (K : Nat → PH → Option β), xnaR P 5 (z 10) K = K P.2.1 (xpush P (ar5 fun _ => none) 10) := fun K => xnaR_s (n := 10) (by omega)
    generalize xpush P (ar5 fun _ => none) 10 = P1 at *
    have hmlt : m < P.2.1 := hI.lt h1
    have f2 : Fr P.2.1 (fun q => q = m) P1 (xup P1 m (oB 3 [.ref cl, .ref rl, .int (z (R 2)), .int (z (R 3)), .ref P.2.1])) := by
      refine Fr.upo f1.iv g1 rfl (fun b hb => Or.inr ?_) fun _ => rfl
      have : some P.2.1 = some b := hb
      cases this
      exact ⟨Nat.le_refl _, by omega, no1⟩
    have f2' : Fr P1.2.1 (fun q => q = m) P1 (xup P1 m (oB 3 [.ref cl, .ref rl, .int (z (R 2)), .int (z (R 3)), .ref P.2.1])) → True := fun _ => trivial
    have g3 : (xup P1 m (oB 3 [.ref cl, .ref rl, .int (z (R 2)), .int (z (R 3)), .ref P.2.1])).1 P.2.1 = some (true, ar5 fun _ => none) := (up_ne (by omega)).trans g2
    have hMB : MB n (xup P1 m (oB 3 [.ref cl, .ref rl, .int (z (R 2)), .int (z (R 3)), .ref P.2.1])) cl rl cs rs R N := h2.fr hI ((f1.mono (fun _ h => h.elim)).trans f2) (okV_1 h1 (by decide) (Or.inr (Or.inr (Or.inl rfl))))
    have h6 : M5 n (xup P1 m (oB 3 [.ref cl, .ref rl, .int (z (R 2)), .int (z (R 3)), .ref P.2.1])) m cl rl P.2.1 (fun _ => none) cs rs R N := ⟨h0, up_at, hMB, g3, fun a x y _ hy => by cases hy⟩
    have e1 : ∀ {β : Type} (K : PH → Option β), xpF P1 m 3 4 (.ref P.2.1) K = K (xup P1 m (oB 3 [.ref cl, .ref rl, .int (z (R 2)), .int (z (R 3)), .ref P.2.1])) := fun K => xpF_z g1 (by simp)
    have hQ : QF m 0 P (xup P1 m (oB 3 [.ref cl, .ref rl, .int (z (R 2)), .int (z (R 3)), .ref P.2.1])) := by
      refine ⟨(f1.mono (fun _ h => h.elim)).trans f2, ?_⟩
      rw [h6.crd, wt_up, nn_none]
      have : cred P m = 3020 := by unfold cred; rw [h1]
      omega
    generalize xup P1 m (oB 3 [.ref cl, .ref rl, .int (z (R 2)), .int (z (R 3)), .ref P.2.1]) = P2 at *
    obtain ⟨P', y, x, e, r1, r2, r3, r4⟩ := h6.match16 hQ.iv hV ha ha'
    refine ⟨P', y, x, ?_, r1, r2, r3, hQ.trans hI r4⟩
    simp (disch := omega) only [f_X4_match, z_add, z_sub, z_mul, z_neg, zlt, zle, zeq, zne, l0, l1, l2, l3, l4, l5, l6, l7, l8, l9, l10, l11, l16, l17, l20, l24, l32, l37, l47, l57, l60, l67, l77, l97, l99, l122, l48, l57, l100, l237, l397, l600, l900, l880, l9998, l9999, bnd, xcI_rI, xcV_rV, xcR_rR, zb0, zb1, nz0, nz1, nar_z0, nar_z1, nar_b2, ↓reduceIte, ↓xnul_s, ↓xnul_n, xcst_n, List.set_cons_zero, List.set_cons_succ, ↓xcl1_s h1, ↓xgR_s (k := 0) h1 rfl, ↓xgR_s (k := 1) h1 rfl, ↓xgI_s (k := 2) h1 rfl, ↓xgI_s (k := 3) h1 rfl, ↓xgR_n (k := 4) h1 rfl, e0, e1, e]

/-! INTEGERS' CACHE; WHO IS RANKED -/
set_option maxRecDepth 100000
theorem int_cache {P : PH} (hI : Iv P) : ∃ ce : Nat → Nat, (∀ j : Nat, j < 256 → P.1 (ce j) = some (false, oB 18 [.int (z ((j : Int) - 128))])) ∧ ∀ (P' : PH) (W : Nat → Prop), Fr P.2.1 W P P' → noAr P W → ∀ v : Int, -128 ≤ v → v ≤ 127 → f_J19_valueOf P' (z v) = rR (some (ce (v + 128).toNat)) P' := by
  obtain ⟨ca, f, h1, h2, h3⟩ := hI.2.2.2.1.2.1
  have h2 := fal_of h2
  refine ⟨fun j => (f j).getD 0, fun j hj => ?_, fun P' W hf hW v h4 h5 => ?_⟩
  · obtain ⟨ia, e1, e2⟩ := h3 j hj
    simp only [e1, Option.getD_some]
    exact fal_of e2
  · have hc : P'.1 ca = _ := hf.ar (hI.lt h2) h2 (by decide) (fun hw => hW ca hw _ _ _ _ h2)
    obtain ⟨ia, e1, e2⟩ := h3 (v + 128).toNat (by omega)
    unfold f_J19_valueOf xcon
    have d1 : ¬ z v < -128 := by rw [show (-128 : Int32) = z (-128) from rfl, zlt (by omega) (by omega) (by omega) (by omega)]; omega
    have d2 : ¬ 127 < z v := by rw [show (127 : Int32) = z 127 from rfl, zlt (by omega) (by omega) (by omega) (by omega)]; omega
    rw [if_neg d1, if_neg d2, hf.con, h1]
    simp only [xnul_s]
    rw [show (128 : Int32) = z 128 from rfl, z_add, xaR_s hc (by omega) (by omega) (by decide), e1]
    rfl
/-- any whole number as an Integer -/
theorem valueOf_z {P : PH} (hI : Iv P) {v : Int} (h1 : -100000 ≤ v) (h2 : v ≤ 100000) : ∃ P' a w, f_J19_valueOf P (z v) = rR (some a) P' ∧ P'.1 a = some (w, oB 18 [.int (z v)]) ∧ Fr P.2.1 W0 P P' ∧ wt P' ≤ wt P + 2 := by
  by_cases c : -128 ≤ v ∧ v ≤ 127
  · obtain ⟨ce, e1, e2⟩ := int_cache hI
    refine ⟨P, ce (v + 128).toNat, false, e2 P W0 (Fr.rf hI) noAr_0 v c.1 c.2, ?_, Fr.rf hI, by omega⟩
    rw [e1 _ (by omega), show (((v + 128).toNat : Nat) : Int) - 128 = v by omega]
  · refine ⟨xpush P (oB 18 [.int (z v)]) 1, P.2.1, true, ?_, push_at, Fr.push hI rfl, by rw [wt_push]; omega⟩
    have hk : f_J19_valueOf_23 (z v) P = rR (some P.2.1) (xpush P (oB 18 [.int (z v)]) 1) := by
      unfold f_J19_valueOf_23 f_J19_init f_J18_init
      rw [xnew_s, xcV_rV, xpF_z push_at (by simp), xcV_rV]
      rw [show ([Value.int 0] : List Value).length = 1 from rfl, up_push]
      rfl
    unfold f_J19_valueOf
    by_cases d : v < -128
    · rw [if_pos (by rw [show (-128 : Int32) = z (-128) from rfl, zlt (by omega) (by omega) (by omega) (by omega)]; exact d), hk]
    · rw [if_neg (by rw [show (-128 : Int32) = z (-128) from rfl, zlt (by omega) (by omega) (by omega) (by omega)]; exact d), if_pos (by rw [show (127 : Int32) = z 127 from rfl, zlt (by omega) (by omega) (by omega) (by omega)]; omega), hk]
theorem intValue_z {P : PH} {a : Nat} {w : Bool} {v : Int32} (h : P.1 a = some (w, oB 18 [.int v])) : f_J19_intValue P a = rI v P := by
  unfold f_J19_intValue
  rw [xcl1_s h, xgI_s h rfl]
def ibv (P : PH) (a : Nat) : Int := match P.1 a with
  | some (_, .inr (18, [.int v])) => v.toInt
  | _ => 0
theorem ibv_z {P : PH} {a : Nat} {w : Bool} {v : Int} (h : P.1 a = some (w, oB 18 [.int (z v)])) (h1 : -2147483648 ≤ v) (h2 : v < 2147483648) : ibv P a = v := by
  unfold ibv
  rw [h]
  exact zint h1 h2
/-- runners by totals -/
def tky (R : Nat → Int) (v : Int) : Int := rTot R v * 100 + v
/-- the list of a course's valid ones, in order -/
def RK (P : PH) (R : Nat → Int) (c : Int) (xs : List Nat) (V : Nat → Int) : Prop := (∀ x ∈ xs, (∃ w, P.1 x = some (w, oB 18 [.int (z (V x))])) ∧ (0 ≤ V x ∧ V x < R 1) ∧ rCrs R (V x) = c ∧ rVal R (V x)) ∧ srtL (fun x => tky R (V x)) xs ∧ ∀ p : Int → Bool, ((xs.countP fun x => p (V x) : Nat) : Int) = sumS (fun o => b2 ((rCrs R o = c ∧ rVal R o) ∧ p o = true)) (R 1).toNat
section
variable {n m x : Nat} {P : PH} {g : GX} {cs rs : List Nat} {R : Nat → Int} {N : Nat → List Int32}
theorem X10_cmp {q ea eb : Nat} {w1 w2 w3 : Bool} (hq : P.1 q = some (w1, oB 9 [.ref x])) (hx : CX P x g (some m)) (hM : MRep n P m cs rs R N) (hV : RV R) {a b : Int} (ha : 0 ≤ a) (ha' : a < R 1) (hb : 0 ≤ b) (hb' : b < R 1) (e1 : P.1 ea = some (w2, oB 18 [.int (z a)])) (e2 : P.1 eb = some (w3, oB 18 [.int (z b)])) : ∃ c, f_X10_compare P q (some ea) (some eb) = rI c P ∧ sgq c (tky R a) (tky R b) := by
  have hnr := hV.nR
  obtain ⟨cl, rl, mm, hcm, hcz, hrz, hcg, hrg⟩ := hM.at
  obtain ⟨y, hy, hyc⟩ := hM.run ha ha'
  obtain ⟨y', hy', hyc'⟩ := hM.run hb hb'
  obtain ⟨s, pl, ps, r0, r1, r2⟩ := id hyc
  obtain ⟨s', pl', ps', j0, j1, j2⟩ := id hyc'
  have s1 := hV.st ha ha'
  have s2 := hV.st hb hb'
  have t1 : rFi R a - rSt R a = rTot R a := rfl
  have t2 : rFi R b - rSt R b = rTot R b := rfl
  have hg0 : ∀ {α : Type} {K : Option Nat → Option α}, xgR P q 9 0 K = K (some x) := xgR_s hq rfl
  obtain ⟨c, hc, hs⟩ := cmpI_z (P := P) (x := rTot R a) (y := rTot R b) (by omega) (by omega) (by omega) (by omega)
  obtain ⟨c', hc', hs'⟩ := cmpI_z (P := P) (x := a) (y := b) (by omega) (by omega) (by omega) (by omega)
  have h0 : f_X10_compare P q (some ea) (some eb) = if c = 0 then rI c' P else rI c P := by
    rcases Decidable.em (c = 0) with c0 | c0
    · have c0' : (c = z 0) = True := eq_true c0
      rw [if_pos c0]
      simp (disch := omega) only [f_X10_compare, f_X10_compare_2, z_add, z_sub, z_mul, z_neg, zlt, zle, zeq, zne, l0, l1, l2, l3, l4, l5, l6, l7, l8, l9, l10, l11, l16, l17, l20, l24, l32, l37, l47, l57, l60, l67, l77, l97, l99, l122, l48, l57, l100, l237, l397, l600, l900, l880, l9998, l9999, bnd, xcI_rI, xcV_rV, xcR_rR, zb0, zb1, nz0, nz1, nar_z0, nar_z1, nar_b2, ↓reduceIte, ↓xnul_s, ↓xnul_n, xcst_n, List.set_cons_zero, List.set_cons_succ, ↓xcl1_s hq, ↓xcst_s e1 (cs := [18]) rfl, ↓xcst_s e2 (cs := [18]) rfl, ↓hg0, ↓hx.gm, ↓xcl1_s hcm, ↓xgR_s (k := 0) hcm rfl, ↓xgR_s (k := 1) hcm rfl, ↓xgI_s (k := 2) hcm rfl, ↓xgI_s (k := 3) hcm rfl, intValue_z e1, intValue_z e2, hrg a y ha ha' hy, hrg b y' hb hb' hy', ↓xcst_s r1 (cs := [6]) rfl, ↓xcst_s j1 (cs := [6]) rfl, f_X7_total, ↓xcl1_s r1, ↓xgR_s (k := 0) r1 rfl, ↓xgI_s (k := 1) r1 rfl, ↓xgI_s (k := 2) r1 rfl, ↓xgI_s (k := 3) r1 rfl, ↓xgR_s (k := 4) r1 rfl, ↓xcl1_s j1, ↓xgR_s (k := 0) j1 rfl, ↓xgI_s (k := 1) j1 rfl, ↓xgI_s (k := 2) j1 rfl, ↓xgI_s (k := 3) j1 rfl, ↓xgR_s (k := 4) j1 rfl, t1, t2, hc, hc', c0']
    · have c0' : (c = z 0) = False := eq_false c0
      rw [if_neg c0]
      simp (disch := omega) only [f_X10_compare, f_X10_compare_2, z_add, z_sub, z_mul, z_neg, zlt, zle, zeq, zne, l0, l1, l2, l3, l4, l5, l6, l7, l8, l9, l10, l11, l16, l17, l20, l24, l32, l37, l47, l57, l60, l67, l77, l97, l99, l122, l48, l57, l100, l237, l397, l600, l900, l880, l9998, l9999, bnd, xcI_rI, xcV_rV, xcR_rR, zb0, zb1, nz0, nz1, nar_z0, nar_z1, nar_b2, ↓reduceIte, ↓xnul_s, ↓xnul_n, xcst_n, List.set_cons_zero, List.set_cons_succ, ↓xcl1_s hq, ↓xcst_s e1 (cs := [18]) rfl, ↓xcst_s e2 (cs := [18]) rfl, ↓hg0, ↓hx.gm, ↓xcl1_s hcm, ↓xgR_s (k := 0) hcm rfl, ↓xgR_s (k := 1) hcm rfl, ↓xgI_s (k := 2) hcm rfl, ↓xgI_s (k := 3) hcm rfl, intValue_z e1, intValue_z e2, hrg a y ha ha' hy, hrg b y' hb hb' hy', ↓xcst_s r1 (cs := [6]) rfl, ↓xcst_s j1 (cs := [6]) rfl, f_X7_total, ↓xcl1_s r1, ↓xgR_s (k := 0) r1 rfl, ↓xgI_s (k := 1) r1 rfl, ↓xgI_s (k := 2) r1 rfl, ↓xgI_s (k := 3) r1 rfl, ↓xgR_s (k := 4) r1 rfl, ↓xcl1_s j1, ↓xgR_s (k := 0) j1 rfl, ↓xgI_s (k := 1) j1 rfl, ↓xgI_s (k := 2) j1 rfl, ↓xgI_s (k := 3) j1 rfl, ↓xgR_s (k := 4) j1 rfl, t1, t2, hc, hc', c0']
  unfold tky
  by_cases c0 : c = 0
  · rw [if_pos c0] at h0
    refine ⟨c', h0, ?_⟩
    obtain ⟨i, k1, k2, k3, k4⟩ := hs
    obtain ⟨i', k1', k2', k3', k4'⟩ := hs'
    have hi : i = 0 := by
      rw [c0, show (0 : Int32) = z 0 from rfl] at k1
      exact (z_inj (by omega) (by omega) k2.1 k2.2 k1).symm
    refine ⟨i', k1', k2', ?_, ?_⟩
    · rw [k3']; omega
    · rw [k4']; omega
  · rw [if_neg c0] at h0
    refine ⟨c, h0, ?_⟩
    obtain ⟨i, k1, k2, k3, k4⟩ := hs
    have hi : i ≠ 0 := fun e => c0 (by rw [k1, e]; rfl)
    refine ⟨i, k1, k2, ?_, ?_⟩
    · rw [k3]; omega
    · rw [k4]; omega
theorem X_rankedOn (hx : CX P x g (some m)) (hI : Iv P) (hn : n ≤ P.2.1) (hM' : MRep n P m cs rs R N) (hV : RV R) {c : Int} (hc : 0 ≤ c) (hc' : c < R 0) : ∃ P' l xs V, f_X1_rankedOn P x (z c) = rR (some l) P' ∧ PLs P' l xs ∧ P.2.1 ≤ l ∧ RK P' R c xs V ∧ MRep n P' m cs rs R N ∧ QF m 300 P P' ∧ xs.length ≤ 10 := by
  have hnr := hV.nR
  have hnc := hV.nC
  have hne := hx.ne hM'
  obtain ⟨ce, hce, hvo⟩ := int_cache hI
  suffices hh : OK (f_X1_rankedOn P x (z c)) (fun v P' => ∃ (l : Nat) (xs : List Nat) (V : Nat → Int), v = some (va_rf (some l)) ∧ PLs P' l xs ∧ P.2.1 ≤ l ∧ RK P' R c xs V ∧ MRep n P' m cs rs R N ∧ QF m 300 P P' ∧ xs.length ≤ 10) by
    obtain ⟨v, P', e, l, xs, V, rfl, h⟩ := hh
    exact ⟨P', l, xs, V, e, h⟩
  obtain ⟨Q, e1, ⟨mc0, b0, hl0⟩, f1, w1⟩ := PLs.new hI (k := 4) (by omega)
  have h1 : MRep n Q m cs rs R N := hM'.fr hI f1 okW_0
  have q1 : QF m 9 P Q := QF.of hM' hI f1 okW_0 (fun _ h => h.elim) (by omega)
  unfold f_X1_rankedOn
  rw [hx.cl, show ([.int 0, .null, .int 0] : List Value) = [.int (z 0), .null, .int (z 0)] from rfl, xnew_s]
  rw [show (4 : Int32) = z ((4 : Nat) : Int) from rfl, show ([.int (z 0), .null, .int (z 0)] : List Value).length = 3 from rfl, e1, xcV_rV]
  generalize hl : P.2.1 = l at *
  refine ok_lpn (fun d p => ∃ (i : Nat) (P1 : PH) (xs : List Nat), p = (z c, l, z i, P1) ∧ d = (R 1).toNat - i ∧ (i : Int) ≤ R 1 ∧ MRep n P1 m cs rs R N ∧ QF m (9 + 25 * i) P P1 ∧ PLs P1 l xs ∧ xs.length ≤ i ∧ (∀ y ∈ xs, ∃ o : Nat, o < i ∧ y = ce (o + 128) ∧ rCrs R o = c ∧ rVal R o) ∧ ∀ p : Int → Bool, ((xs.countP fun y => p (ibv P y) : Nat) : Int) = sumS (fun o => b2 ((rCrs R o = c ∧ rVal R o) ∧ p o = true)) i) ?_ FU _ _ ⟨0, Q, [], rfl, rfl, by omega, h1, q1, ⟨mc0, b0, _, _, hl0⟩, Nat.le_refl _, fun _ h => (List.not_mem_nil h).elim, fun _ => rfl⟩ (by simp only [FU]; omega)
  rintro kk d p ⟨i, P1, xs, rfl, rfl, g1, g2, g3, g4, g5, g6, g7⟩ hk
  have hI1 := g3.iv
  have x1 := hx.qf hI hne g3
  have hcel : ∀ j : Nat, j < 256 → P1.1 (ce j) = some (false, oB 18 [.int (z ((j : Int) - 128))]) := fun j hj => g3.1.ob (hI.lt (hce j hj)) (hce j hj) (hM'.ne (hce j hj) (by decide))
  have hibv : ∀ o : Nat, o < 128 → ibv P (ce (o + 128)) = o := fun o ho => by
    have := hce (o + 128) (by omega)
    rw [show ((o + 128 : Nat) : Int) - 128 = o by omega] at this
    exact ibv_z this (by omega) (by omega)
  obtain ⟨cl, rl, mm, hcm, hcz, hrz, hcg, hrg⟩ := g2.at
  simp (disch := omega) only [f_X1_rankedOn_11F, f_X1_rankedOn_61, z_add, z_sub, z_mul, z_neg, zlt, zle, zeq, zne, l0, l1, l2, l3, l4, l5, l6, l7, l8, l9, l10, l11, l16, l17, l20, l24, l32, l37, l47, l57, l60, l67, l77, l97, l99, l122, l48, l57, l100, l237, l397, l600, l900, l880, l9998, l9999, bnd, xcI_rI, xcV_rV, xcR_rR, zb0, zb1, nz0, nz1, nar_z0, nar_z1, nar_b2, ↓reduceIte, ↓xnul_s, ↓xnul_n, xcst_n, List.set_cons_zero, List.set_cons_succ, ↓x1.gm, ↓xcl1_s hcm, ↓xgR_s (k := 0) hcm rfl, ↓xgR_s (k := 1) hcm rfl, ↓xgI_s (k := 2) hcm rfl, ↓xgI_s (k := 3) hcm rfl, hrz]
  obtain ⟨mc1, b1, hcl1⟩ := g4.cell
  have okl : okW n P1 m (fun y => y = l) := okW_1 hcl1 (g2.ne hcl1 (by decide)) (by decide) (Or.inl (by omega))
  refine ok_ite (fun c1 => ?_) fun c1 => ?_
  · have hi : i = (R 1).toNat := by omega
    -- the comparator
    have f2 : Fr P1.2.1 W0 P1 (xpush P1 (oB 9 [.ref x]) 1) := Fr.push hI1 rfl
    have e2 : f_X10_init (xpush P1 (oB 9 [.null]) 1) P1.2.1 (some x) = rV (xpush P1 (oB 9 [.ref x]) 1) := by
      unfold f_X10_init
      rw [xpF_z push_at (by simp), up_push]
      rfl
    rw [xnew_s, show ([Value.null] : List Value).length = 1 from rfl, e2, xcV_rV]
    have hI2 := f2.iv
    have hM2 : MRep n _ m cs rs R N := g2.fr hI1 f2 okW_0
    have q2 : QF m (9 + 25 * i + 2) P _ := QF.callee hI g3 g2 f2 okW_0 (fun _ h => h.elim) (k' := 2) (by rw [wt_push]; omega)
    have x2 : CX (xpush P1 (oB 9 [.ref x]) 1) x g (some m) := x1.fr hI1 f2 (fun h => h)
    have p2 : PLs (xpush P1 (oB 9 [.ref x]) 1) l xs := g4.fr hI1 f2 (fun h => h) noAr_0
    have hq : (xpush P1 (oB 9 [.ref x]) 1).1 P1.2.1 = some (true, oB 9 [.ref x]) := push_at
    have hcel2 : ∀ j : Nat, j < 256 → (xpush P1 (oB 9 [.ref x]) 1).1 (ce j) = some (false, oB 18 [.int (z ((j : Int) - 128))]) := fun j hj => push_old hI1 (hcel j hj)
    have hll : l ≠ P1.2.1 := fun e => by have := hI1.lt hcl1; omega
    generalize xpush P1 (oB 9 [.ref x]) 1 = P2 at *
    generalize P1.2.1 = q at *
    obtain ⟨mc, b, m0, f, L⟩ := p2
    have hS : SC P2 b m0 q (fun y => tky R (ibv P y)) (fun y => ∃ o : Nat, (o : Int) < R 1 ∧ y = ce (o + 128)) := by
      have hF : ∀ g : Nat → Option Nat, Fr P2.2.1 (fun y => y = l) P2 (SG P2 b m0 g) := fun g => Fr.upa hI2 L.2.1 fun _ => ⟨l, rfl, L.own⟩
      have hcq : ∀ g : Nat → Option Nat, (SG P2 b m0 g).1 q = some (true, oB 9 [.ref x]) := fun g => (hF g).ob (hI2.lt hq) hq (fun e => hll e.symm)
      have hce' : ∀ (g : Nat → Option Nat) (o : Nat), o < 128 → (SG P2 b m0 g).1 (ce (o + 128)) = some (false, oB 18 [.int (z (o : Int))]) := fun g o ho => by
        have h3 := hcel2 (o + 128) (by omega)
        rw [show ((o + 128 : Nat) : Int) - 128 = o by omega] at h3
        exact (hF g).ob (hI2.lt h3) h3 fun e => by rw [e, L.1] at h3; cases h3
      refine ⟨fun g => ⟨_, _, hcq g⟩, fun g y hy => ?_, fun g y y' hy hy' => ?_⟩
      · obtain ⟨o, ho, rfl⟩ := hy
        exact ⟨_, _, _, hce' g o (by omega), by decide⟩
      · obtain ⟨o, ho, rfl⟩ := hy
        obtain ⟨o', ho', rfl⟩ := hy'
        have hM3 : MRep n (SG P2 b m0 g) m cs rs R N := hM2.fr hI2 (hF g) (okW_1 L.1 (hM2.ne L.1 (by decide)) (by decide) (Or.inl (by omega)))
        have x3 : CX (SG P2 b m0 g) x _ (some m) := x2.fr hI2 (hF g) (fun e => by have h4 := x2; unfold CX at h4; rw [e, L.1] at h4; cases h4)
        simp only [hibv o (by omega), hibv o' (by omega)]
        exact X10_cmp (hcq g) x3 hM3 hV (by omega) ho (by omega) ho' (hce' g o (by omega)) (hce' g o' (by omega))
    obtain ⟨P3, xs', e3, p3, s3, c3, f3, w3⟩ := PLs.sort hI2 L hS (fun y hy => by
      obtain ⟨o, h1, h2, -⟩ := g6 y hy
      exact ⟨o, by omega, h2⟩) (by omega)
    rw [e3, xcV_rV]
    have okl2 : okW n P2 m (fun y => y = l) := okW_1 L.1 (hM2.ne L.1 (by decide)) (by decide) (Or.inl (by omega))
    have q3 : QF m (9 + 25 * i + 2 + 0) P P3 := QF.callee hI q2 hM2 f3 okl2 (fun a ha => by have : a = l := ha; omega) (by omega)
    refine ok_rR.mpr ⟨l, xs', ibv P, rfl, p3, Nat.le_of_eq rfl, ⟨fun y hy => ?_, s3, fun p => ?_⟩, hM2.fr hI2 f3 okl2, q3.mono (by omega), ?_⟩
    · have hy' : y ∈ xs := by
        have h1 := c3 (fun a => a == y)
        have h2 : 0 < xs'.countP (fun a => a == y) := List.countP_pos_iff.mpr ⟨y, hy, by simp⟩
        rw [h1] at h2
        obtain ⟨a, ha, ha'⟩ := List.countP_pos_iff.mp h2
        have : a = y := by simpa using ha'
        rw [← this]; exact ha
      obtain ⟨o, k1, rfl, k2, k3⟩ := g6 y hy'
      rw [hibv o (by omega)]
      have h3 := hcel2 (o + 128) (by omega)
      rw [show ((o + 128 : Nat) : Int) - 128 = o by omega] at h3
      exact ⟨⟨_, f3.ob (hI2.lt h3) h3 fun e => by rw [e, L.1] at h3; cases h3⟩, by omega, k2, k3⟩
    · rw [c3, g7 p, hi]
    · have h1 := c3 (fun _ => true)
      simp only [List.countP_true] at h1
      omega
  · have hcr := hV.crs (a := i) (by omega) (by omega)
    have hio := g2.isOf hV (a := i) (c := c) (by omega) (by omega) (by omega) (by omega)
    simp (disch := omega) only [hio, z_add, z_sub, z_mul, z_neg, zlt, zle, zeq, zne, l0, l1, l2, l3, l4, l5, l6, l7, l8, l9, l10, l11, l16, l17, l20, l24, l32, l37, l47, l57, l60, l67, l77, l97, l99, l122, l48, l57, l100, l237, l397, l600, l900, l880, l9998, l9999, bnd, xcI_rI, xcV_rV, xcR_rR, zb0, zb1, nz0, nz1, nar_z0, nar_z1, nar_b2, ↓reduceIte, ↓xnul_s, ↓xnul_n, xcst_n, List.set_cons_zero, List.set_cons_succ, ↓x1.gm]
    have hlst : ∀ y ∈ xs, ∃ o : Nat, o < i + 1 ∧ y = ce (o + 128) ∧ rCrs R o = c ∧ rVal R o := fun y hy => by
      obtain ⟨o, k1, k2⟩ := g6 y hy
      exact ⟨o, by omega, k2⟩
    refine ok_ite (fun c2 => ?_) fun c2 => ?_
    · refine hk _ _ (by omega) ⟨i + 1, P1, xs, rfl, rfl, by omega, g2, g3.mono (by omega), g4, by omega, hlst, fun p => ?_⟩
      rw [g7 p, sumS, b2_f' (fun h => c2 h.1.1), Int.add_zero]
    · have c2 : rCrs R i = c := Decidable.not_not.mp c2
      obtain ⟨P2, e2, t2, q2, x2, I2⟩ := (g2.isValid hI1 hV (a := i) (by omega) (by omega)).u hI1 x1 g2
      have p2 : PLs P2 l xs := g4.fr hI1 q2.1 (g2.ne hcl1 (by decide)) g2.noAr
      have h7 := g3.trans hI q2
      simp (disch := omega) only [e2, z_add, z_sub, z_mul, z_neg, zlt, zle, zeq, zne, l0, l1, l2, l3, l4, l5, l6, l7, l8, l9, l10, l11, l16, l17, l20, l24, l32, l37, l47, l57, l60, l67, l77, l97, l99, l122, l48, l57, l100, l237, l397, l600, l900, l880, l9998, l9999, bnd, xcI_rI, xcV_rV, xcR_rR, zb0, zb1, nz0, nz1, nar_z0, nar_z1, nar_b2, ↓reduceIte, ↓xnul_s, ↓xnul_n, xcst_n, List.set_cons_zero, List.set_cons_succ]
      refine ok_ite (fun c3 => ?_) fun c3 => ?_
      · refine hk _ _ (by omega) ⟨i + 1, P2, xs, rfl, rfl, by omega, t2, h7.mono (by omega), p2, by omega, hlst, fun p => ?_⟩
        rw [g7 p, sumS, b2_f' (fun h => c3 h.1.2), Int.add_zero]
      · have c3 : rVal R i := Decidable.not_not.mp c3
        have e4 := hvo P2 _ (hl ▸ h7.1) hM'.noAr (i : Int) (by omega) (by omega)
        rw [show ((i : Int) + 128).toNat = i + 128 by omega] at e4
        rw [e4]
        simp only [xcR_rR]
        have hcell : P2.1 (ce (i + 128)) = some (false, oB 18 [.int (z (((i + 128 : Nat) : Int) - 128))]) := h7.1.ob (by rw [← hl] at *; exact hI.lt (hce (i + 128) (by omega))) (hce (i + 128) (by omega)) (hM'.ne (hce (i + 128) (by omega)) (by decide))
        obtain ⟨P4, e5, p4, f4, w4⟩ := p2.add I2 (x := ce (i + 128)) ⟨_, _, _, hcell, by decide⟩ (by omega)
        obtain ⟨mc2, b2', hcl2⟩ := p2.cell
        have okl2 : okW n P2 m (fun y => y = l) := okW_1 hcl2 (t2.ne hcl2 (by decide)) (by decide) (Or.inl (by omega))
        rw [e5]
        simp only [xcI_rI]
        refine hk _ _ (by omega) ⟨i + 1, P4, xs ++ [ce (i + 128)], rfl, rfl, by omega, t2.fr I2 f4 okl2, (QF.callee hI h7 t2 f4 okl2 (fun a ha => by have : a = l := ha; omega) w4).mono (by omega), p4, by simp; omega, fun y hy => ?_, fun p => ?_⟩
        · rcases List.mem_append.mp hy with hy | hy
          · exact hlst y hy
          · rw [List.mem_singleton] at hy
            exact ⟨i, by omega, hy, c2, c3⟩
        · rw [List.countP_append, Int.natCast_add, g7 p, sumS]
          congr 1
          rw [List.countP_singleton, hibv i (by omega)]
          by_cases hp : p i = true
          · rw [if_pos hp, b2_t' ⟨⟨c2, c3⟩, hp⟩]; rfl
          · rw [if_neg hp, b2_f' (fun h => hp h.2)]; rfl
end

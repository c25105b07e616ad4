/-! RANKS: the component's -/
set_option maxRecDepth 100000
section
variable {n x : Nat} {P : PH} {g : GX} {mo : Option Nat} {cs rs : List Nat} {R : Nat → Int} {N : Nat → List Int32} {m : Nat}
theorem RK.get {c : Int} {xs : List Nat} {V : Nat → Int} {l : Nat} (h : RK P R c xs V) (hp : PLs P l xs) {i : Int} (h0 : 0 ≤ i) (h1 : i < xs.length) : ∃ y w, xs[i.toNat]? = some y ∧ f_J3_get P l (z i) = rR (some y) P ∧ P.1 y = some (w, oB 18 [.int (z (V y))]) ∧ (0 ≤ V y ∧ V y < R 1) ∧ rCrs R (V y) = c ∧ rVal R (V y) := by
  obtain ⟨y, hy, hg⟩ := hp.get h0 h1
  obtain ⟨⟨w, k1⟩, k2⟩ := h.1 y (List.mem_of_getElem? hy)
  exact ⟨y, w, hy, hg, k1, k2⟩
theorem X_leastTotal (hx : CX P x g (some m)) (hI : Iv P) (hn : n ≤ P.2.1) (hM : MRep n P m cs rs R N) (hV : RV R) {c : Int} (hc : 0 ≤ c) (hc' : c < R 0) : Qy n m cs rs R N 300 P (f_X1_leastTotal P x (z c)) (vmin (vTot R c) (R 1).toNat) := by
  have hne := hx.ne hM
  have hnr := hV.nR
  obtain ⟨P1, l, xs, V, e1, p1, hl, rk, t1, q1, -⟩ := X_rankedOn hx hI hn hM hV hc hc'
  have x1 := hx.qf hI hne q1
  obtain ⟨cl, rl, mm, hcm, hcz, hrz, hcg, hrg⟩ := t1.at
  unfold f_X1_leastTotal
  rw [hx.cl, e1, xcR_rR, xnul_s, p1.isEmpty, xcI_rI]
  by_cases c1 : xs = []
  · rw [b2_t' c1, if_neg (by decide), (rk.least hV).1 c1]
    exact ⟨P1, rfl, t1, q1⟩
  · have hlen : 0 < xs.length := List.length_pos_iff.mpr c1
    obtain ⟨y, w, hy, hg, k1, k2, k3⟩ := rk.get p1 (i := 0) (by omega) (by omega)
    obtain ⟨u, hu, hur⟩ := t1.run k2.1 k2.2
    obtain ⟨s, pl, ps, r0, r1, r2⟩ := id hur
    rw [b2_f' c1, if_pos (by decide), x1.gm, xnul_s, xgR_s hcm rfl, show (0 : Int32) = z 0 from rfl, hg, xcR_rR, xcst_s k1 (by decide), xnul_s, intValue_z k1, xcI_rI, xnul_s, hrg _ u k2.1 k2.2 hu, xcR_rR, xcst_s r1 (by decide), xnul_s]
    unfold f_X7_total
    rw [xcl1_s r1, xgI_s (k := 3) r1 rfl, xgI_s (k := 2) r1 rfl, z_sub, xcI_rI]
    refine ⟨P1, ?_, t1, q1⟩
    rw [(rk.least hV).2 y hy]
    rfl
theorem IT.qf {it l i k : Nat} {xs : List Nat} {P' : PH} (h : IT P it l i xs) (hM : MRep n P m cs rs R N) (hI : Iv P) (hq : QF m k P P') : IT P' it l i xs := by
  obtain ⟨w, fs, hc⟩ := h.cell
  obtain ⟨mc, b, hl⟩ := h.ls.cell
  exact h.fr hI hq.1 (hM.ne hc (by decide)) (hM.ne hl (by decide)) hM.noAr
theorem RK.fr {c : Int} {xs : List Nat} {V : Nat → Int} {P' : PH} {W : Nat → Prop} (h : RK P R c xs V) (hI : Iv P) (hf : Fr P.2.1 W P P') (hW : ∀ a w fs, P.1 a = some (w, oB 18 fs) → ¬ W a) : RK P' R c xs V :=
  ⟨fun y hy => by
    obtain ⟨⟨w, k1⟩, k2⟩ := h.1 y hy
    exact ⟨⟨w, hf.ob (hI.lt k1) k1 (hW y w _ k1)⟩, k2⟩, h.2⟩
theorem RK.qf {c : Int} {xs : List Nat} {V : Nat → Int} {P' : PH} {k : Nat} (h : RK P R c xs V) (hM : MRep n P m cs rs R N) (hI : Iv P) (hq : QF m k P P') : RK P' R c xs V :=
  h.fr hI hq.1 fun a w fs ha => hM.ne ha (by decide)
/-- how many of the first of a list are so -/
def ctk (xs : List Nat) (V : Nat → Int) (p : Int → Bool) (i : Nat) : Int := (((xs.take i).countP fun y => p (V y) : Nat) : Int)
theorem ctk_s {xs : List Nat} {V : Nat → Int} {p : Int → Bool} {i y : Nat} (hy : xs[i]? = some y) : ctk xs V p (i + 1) = ctk xs V p i + (if p (V y) = true then 1 else 0) := by
  obtain ⟨hi, e⟩ := List.getElem?_eq_some_iff.mp hy
  unfold ctk
  rw [countP_take hi, e]
  split <;> simp
theorem ctk_all {c : Int} {xs : List Nat} {V : Nat → Int} {p : Int → Bool} (h : RK P R c xs V) : ctk xs V p xs.length = sumS (fun o => b2 ((rCrs R o = c ∧ rVal R o) ∧ p o = true)) (R 1).toNat := by
  unfold ctk
  rw [List.take_length]
  exact h.2.2 p
theorem ctk_rg {xs : List Nat} {V : Nat → Int} {p : Int → Bool} {i : Nat} : 0 ≤ ctk xs V p i ∧ ctk xs V p i ≤ i := by
  unfold ctk
  have h1 : (xs.take i).countP (fun y => p (V y)) ≤ (xs.take i).length := List.countP_le_length
  have h2 : (xs.take i).length ≤ i := by rw [List.length_take]; omega
  omega
/-- the next of a list that a meet's queries run over -/
theorem IT.step {it l i k : Nat} {c : Int} {xs : List Nat} {V : Nat → Int} {P1 : PH} (hI : Iv P) (hn : n ≤ P.2.1) (hq : QF m k P P1) (hM : MRep n P1 m cs rs R N) (h : IT P1 it l i xs) (rk : RK P1 R c xs V) (hx : CX P1 x g (some m)) (hit : P.2.1 ≤ it) (hi : i < xs.length) : ∃ P2 y w, xs[i]? = some y ∧ f_J26_next P1 it = rR (some y) P2 ∧ P2.1 y = some (w, oB 18 [.int (z (V y))]) ∧ ((0 ≤ V y ∧ V y < R 1) ∧ rCrs R (V y) = c ∧ rVal R (V y)) ∧ IT P2 it l (i + 1) xs ∧ QF m k P P2 ∧ MRep n P2 m cs rs R N ∧ RK P2 R c xs V ∧ CX P2 x g (some m) := by
  obtain ⟨P2, e, i2, f2, w2⟩ := h.nxt hq.iv hi
  obtain ⟨wc, fs, hc⟩ := h.cell
  have ok := okW_1 (m := m) (n := n) hc (hM.ne hc (by decide)) (by decide) (Or.inl (by omega))
  have rk2 := rk.fr hq.iv f2 fun a w fs ha e => by rw [show a = it from e, hc] at ha; cases ha
  obtain ⟨⟨w, k1⟩, k2⟩ := rk2.1 xs[i] (List.getElem_mem hi)
  refine ⟨P2, xs[i], w, List.getElem?_eq_getElem hi, e, k1, k2, i2, ?_, hM.fr hq.iv f2 ok, rk2, hx.fr hq.iv f2 fun e => ?_⟩
  · exact QF.callee hI hq hM f2 ok (fun a ha => by rw [show a = it from ha]; exact hit) (k' := 0) (by omega)
  · have h4 := hx
    unfold CX at h4
    rw [e, hc] at h4
    cases h4
theorem X_placeOf (hx : CX P x g (some m)) (hI : Iv P) (hn : n ≤ P.2.1) (hM : MRep n P m cs rs R N) (hV : RV R) {a : Int} (ha : 0 ≤ a) (ha' : a < R 1) : Qy n m cs rs R N 400 P (f_X1_placeOf P x (z a)) (1 + sumS (fun o => b2 ((rCrs R o = rCrs R a ∧ rVal R o) ∧ rTot R o < rTot R a)) (R 1).toNat) := by
  have hne := hx.ne hM
  have hnr := hV.nR
  have hca := hV.crs ha ha'
  have hsa := hV.st ha ha'
  obtain ⟨cl, rl, mm, hcm, hcz, hrz, hcg, hrg⟩ := hM.at
  obtain ⟨u, hu, hur⟩ := hM.run ha ha'
  obtain ⟨s, pl, ps, r0, r1, r2⟩ := id hur
  obtain ⟨P1, l, xs, V, e1, p1, hl, rk, t1, q1, hlen⟩ := X_rankedOn hx hI hn hM hV hca.1 hca.2
  have x1 := hx.qf hI hne q1
  obtain ⟨P2, e2, i2, f2, w2⟩ := p1.iterator q1.iv
  have q2 : QF m (300 + 5) P P2 := QF.callee hI q1 t1 f2 okW_0 (fun _ h => h.elim) (by omega)
  have t2 := t1.fr q1.iv f2 okW_0
  have rk2 := rk.fr q1.iv f2 fun _ _ _ _ h => h
  have x2 := x1.fr q1.iv f2 fun h => h
  have hit : P.2.1 ≤ P1.2.1 := q1.1.next
  apply ok_qy
  unfold f_X1_placeOf
  rw [hx.cl, hx.gm, xnul_s, xgR_s hcm rfl, xnul_s, hrg a u ha ha' hu, xcR_rR, xcst_s r1 (by decide), xnul_s, xgI_s r1 rfl, e1, xcR_rR, xnul_s, e2, xcR_rR]
  clear hcm hcz hrz hcg hrg r0 r1 r2 hu hur e1 e2
  generalize P1.2.1 = it at *
  have hend := ctk_all (p := fun v => decide (rTot R v < rTot R a)) rk2
  refine ok_lpn (fun d p => ∃ (i : Nat) (P3 : PH), p = (z a, z (1 + ctk xs V (fun v => decide (rTot R v < rTot R a)) i), some it, P3) ∧ d = xs.length - i ∧ i ≤ xs.length ∧ IT P3 it l i xs ∧ QF m (300 + 5) P P3 ∧ MRep n P3 m cs rs R N ∧ RK P3 R (rCrs R a) xs V ∧ CX P3 x g (some m)) ?_ FU _ _ ⟨0, P2, by unfold ctk; simp; rfl, rfl, by omega, i2, q2, t2, rk2, x2⟩ (by simp only [FU]; omega)
  rintro kk d p ⟨i, P3, rfl, rfl, g1, g2, g3, g4, g5, g6⟩ hk
  obtain ⟨wc, fs, hc⟩ := g2.cell
  unfold f_X1_placeOf_31F
  simp only [xnul_s, xsw_s hc, ↓reduceIte, g2.hasNext g1, xcI_rI]
  by_cases c1 : i = xs.length
  · rw [b2_f' (fun e => e c1), if_pos (by decide)]
    refine ok_rI.mpr ⟨?_, g4, g3.mono (by omega)⟩
    rw [c1, hend]
    congr 3
    refine congrArg _ (sumS_congr fun o _ => b2_c ⟨fun e => ⟨e.1, of_decide_eq_true e.2⟩, fun e => ⟨e.1, decide_eq_true e.2⟩⟩)
  · rw [b2_t' c1, if_neg (by decide)]
    obtain ⟨P4, y, w, hy, e4, k1, k2, i4, q4, t4, rk4, x4⟩ := IT.step hI hn g3 g4 g2 g5 g6 hit (by omega)
    obtain ⟨cl, rl, mm, hcm, hcz, hrz, hcg, hrg⟩ := t4.at
    obtain ⟨u, hu, hur⟩ := t4.run ha ha'
    obtain ⟨s, pl, ps, r0, r1, r2⟩ := id hur
    obtain ⟨u', hu', hur'⟩ := t4.run k2.1.1 k2.1.2
    obtain ⟨s', pl', ps', j0, j1, j2⟩ := id hur'
    have hsy := hV.st k2.1.1 k2.1.2
    have h1 : rFi R a - rSt R a = rTot R a := rfl
    have h2 : rFi R (V y) - rSt R (V y) = rTot R (V y) := rfl
    have hb := ctk_rg (xs := xs) (V := V) (p := fun v => decide (rTot R v < rTot R a)) (i := i)
    have hst : ∀ v, v = 1 + ctk xs V (fun v => decide (rTot R v < rTot R a)) (i + 1) → OK (kk (z a, z v, some it, P4)) _ := fun v hv => hk (xs.length - (i + 1)) _ (by omega) ⟨i + 1, P4, by rw [hv], rfl, by omega, i4, q4, t4, rk4, x4⟩
    rw [e4]
    simp (disch := omega) only [z_add, z_sub, z_mul, z_neg, zlt, zle, zeq, zne, l0, l1, l2, l3, l4, l5, l6, l7, l8, l9, l10, l11, l16, l17, l20, l24, l32, l37, l47, l57, l60, l67, l77, l97, l99, l122, l48, l57, l100, l237, l397, l600, l900, l880, l9998, l9999, bnd, xcI_rI, xcV_rV, xcR_rR, zb0, zb1, nz0, nz1, nar_z0, nar_z1, nar_b2, ↓reduceIte, ↓xnul_s, ↓xnul_n, xcst_n, List.set_cons_zero, List.set_cons_succ, ↓xcst_s k1 (cs := [18]) rfl, intValue_z k1, ↓x4.gm, ↓xcl1_s hcm, ↓xgR_s (k := 0) hcm rfl, ↓xgR_s (k := 1) hcm rfl, ↓xgI_s (k := 2) hcm rfl, ↓xgI_s (k := 3) hcm rfl, hrg a u ha ha' hu, hrg _ u' k2.1.1 k2.1.2 hu', ↓xcst_s r1 (cs := [6]) rfl, ↓xcst_s j1 (cs := [6]) rfl, f_X7_total, ↓xcl1_s r1, ↓xgR_s (k := 0) r1 rfl, ↓xgI_s (k := 1) r1 rfl, ↓xgI_s (k := 2) r1 rfl, ↓xgI_s (k := 3) r1 rfl, ↓xgR_s (k := 4) r1 rfl, ↓xcl1_s j1, ↓xgR_s (k := 0) j1 rfl, ↓xgI_s (k := 1) j1 rfl, ↓xgI_s (k := 2) j1 rfl, ↓xgI_s (k := 3) j1 rfl, ↓xgR_s (k := 4) j1 rfl, h1, h2, f_X1_placeOf_102]
    refine ok_ite (fun c2 => ?_) fun c2 => ?_
    · refine hst _ ?_
      rw [ctk_s hy, if_neg (by simpa using c2)]
      omega
    · refine hst _ ?_
      rw [ctk_s hy, if_pos (by simpa using c2)]
      omega
theorem X_ranked (hx : CX P x g mo) (hI : Iv P) (hn : n ≤ P.2.1) (hM : MO n P mo cs rs R N) (hV : RV R) {c i : Int} (hc : i32 c) (hi : i32 i) : Oq n P x g mo cs rs R N 300 (f_X1_ranked P x (z c) (z i)) (if (0 ≤ c ∧ c < R 0) ∧ 0 ≤ i then vRank R c i else -1) (b2 (¬ ((0 ≤ c ∧ c < R 0) ∧ 0 ≤ i))) := by
  unfold f_X1_ranked f_X1_ranked_12 f_X1_ranked_53
  rw [hx.cl, X_isCourse hx hM hV hc, xcI_rI]
  by_cases c1 : 0 ≤ c ∧ c < R 0
  · rw [b2_t' c1, if_neg (by decide)]
    by_cases c2 : 0 ≤ i
    · obtain ⟨m, rfl, hM'⟩ := hM.get (by omega)
      have hne := hx.ne hM'
      have d2 : (0 : Int32) ≤ z i := by
        rw [show (0 : Int32) = z 0 from rfl, zle (by omega) (by omega) (by omega) (by omega)]; exact c2
      rw [if_pos d2, if_pos (And.intro c1 c2), nb (And.intro c1 c2)]
      obtain ⟨P1, l, xs, V, e1, p1, hl, rk, t1, q1, hlen⟩ := X_rankedOn hx hI hn hM' hV c1.1 c1.2
      rw [e1, xcR_rR, xnul_s, p1.size, xcI_rI]
      have hrk := rk.rank hV (i := i.toNat)
      rw [show ((i.toNat : Nat) : Int) = i by omega] at hrk
      by_cases c3 : (xs.length : Int) ≤ i
      · have d3 : z (xs.length : Int) ≤ z i := by rw [zle (by omega) (by omega) (by omega) (by omega)]; exact c3
        rw [if_pos d3, hrk.2 (by omega)]
        exact op_yes (v := -2) hx hI t1 q1 hne
      · have d3 : ¬ z (xs.length : Int) ≤ z i := by rw [zle (by omega) (by omega) (by omega) (by omega)]; exact c3
        obtain ⟨y, w, hy, hg, k1, k2, k3⟩ := rk.get p1 (i := i) (by omega) (by omega)
        rw [if_neg d3, hg, xcR_rR, xcst_s k1 (by decide), xnul_s, intValue_z k1, xcI_rI, hrk.1 y hy]
        exact op_yes hx hI t1 q1 hne
    · have d2 : ¬ (0 : Int32) ≤ z i := by
        rw [show (0 : Int32) = z 0 from rfl, zle (by omega) (by omega) (by omega) (by omega)]; exact c2
      rw [if_neg d2, if_neg (fun h : _ ∧ _ => c2 h.2), nb' (fun h : _ ∧ _ => c2 h.2)]
      exact op_no (w := 1) hx hI hM
  · rw [b2_f' c1, if_pos (by decide), if_neg (fun h : _ ∧ _ => c1 h.1), nb' (fun h : _ ∧ _ => c1 h.1)]
    exact op_no (w := 1) hx hI hM
end

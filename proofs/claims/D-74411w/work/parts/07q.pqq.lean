/-! A QUEUE: what it holds, counted -/
set_option maxRecDepth 100000
def QQ (P : PH) (q n : Nat) (C : (Int → Int → Bool) → Nat) : Prop := ∃ (U V : Nat → Int) (t : Nat → Nat) (f : Nat → Option Nat) (b : Nat) (mc : Int32), P.1 q = some (true, oB 22 [.ref b, .int (z n), .null, .int mc]) ∧ QA P U V b 16 f t n n ∧ HP (fle U (V1 V)) t n ∧ ∀ pr, cnt (fun a => pr (U a) (V a)) t n = C pr
theorem QQ.cell {P : PH} {q n : Nat} {C : (Int → Int → Bool) → Nat} (h : QQ P q n C) : ∃ fs, P.1 q = some (true, oB 22 fs) := by
  obtain ⟨U, V, t, f, b, mc, h1, -⟩ := h
  exact ⟨_, h1⟩
theorem QQ.fr {P P' : PH} {q n : Nat} {C : (Int → Int → Bool) → Nat} {W : Nat → Prop} (h : QQ P q n C) (hI : Iv P) (hf : Fr P.2.1 W P P') (hW : ¬ W q) (hW' : noAr P W) (hp : ∀ a w fs, P.1 a = some (w, oB 10 fs) → ¬ W a) : QQ P' q n C := by
  obtain ⟨U, V, t, f, b, mc, h1, ⟨h2, h3, h4, h5, h6⟩, h7, h8⟩ := h
  exact ⟨U, V, t, f, b, mc, hf.ob (hI.lt h1) h1 hW, ⟨hf.oa hI (hI.lt h2) h2 ⟨_, _, h1, rfl⟩ (fun e => hW' _ e _ _ _ _ h2) hW, h3, h4, fun i hi => ⟨hf.ob (hI.lt (h5 i hi).1) (h5 i hi).1 (hp _ _ _ (h5 i hi).1), (h5 i hi).2⟩, h6⟩, h7, h8⟩
theorem QQ.size {P : PH} {q n : Nat} {C : (Int → Int → Bool) → Nat} (h : QQ P q n C) : f_J32_size P q = rI (z n) P := by
  obtain ⟨U, V, t, f, b, mc, h1, -⟩ := h
  simp (disch := omega) only [f_J32_size, z_add, z_sub, z_mul, z_neg, zlt, zle, zeq, zne, l0, l1, l2, l3, l4, l5, l6, l7, l8, l9, l10, l11, l16, l17, l20, l24, l32, l37, l47, l57, l60, l67, l77, l97, l99, l122, l48, l57, l100, l237, l397, l600, l900, l880, l9998, l9999, bnd, xcI_rI, xcV_rV, xcR_rR, zb0, zb1, nz0, nz1, nar_z0, nar_z1, nar_b2, ↓reduceIte, ↓xnul_s, ↓xnul_n, xcst_n, List.set_cons_zero, List.set_cons_succ, ↓xcl1_s h1, ↓xgR_s (k := 0) h1 rfl, ↓xgI_s (k := 1) h1 rfl, ↓xgI_s (k := 3) h1 rfl]
theorem QQ.new {P : PH} (hI : Iv P) : ∃ P', f_J32_init (xpush P (oB 22 [.null, .int (z 0), .null, .int (z 0)]) 4) P.2.1 (z 16) = rV P' ∧ QQ P' P.2.1 0 (fun _ => 0) ∧ Fr P.2.1 W0 P P' ∧ wt P' = wt P + 22 := by
  have f1 : Fr P.2.1 W0 P (xpush P (oB 22 [.null, .int (z 0), .null, .int (z 0)]) 4) := Fr.push hI rfl
  have g1 : (xpush P (oB 22 [.null, .int (z 0), .null, .int (z 0)]) 4).1 P.2.1 = some (true, oB 22 [.null, .int (z 0), .null, .int (z 0)]) := push_at
  have e1 : (xpush P (oB 22 [.null, .int (z 0), .null, .int (z 0)]) 4).2.1 = P.2.1 + 1 := rfl
  have w1 : wt (xpush P (oB 22 [.null, .int (z 0), .null, .int (z 0)]) 4) = wt P + 1 + 4 := wt_push
  generalize xpush P (oB 22 [.null, .int (z 0), .null, .int (z 0)]) 4 = P1 at *
  have f2 : Fr P.2.1 W0 P1 (xpush P1 (ar4 16 (fun _ => none)) 16) := Fr.push f1.iv rfl
  have g2 : (xpush P1 (ar4 16 (fun _ => none)) 16).1 P.2.1 = some (true, oB 22 [.null, .int (z 0), .null, .int (z 0)]) := push_old f1.iv g1
  have g3 : (xpush P1 (ar4 16 (fun _ => none)) 16).1 P1.2.1 = some (true, ar4 16 (fun _ => none)) := push_at
  have w2 : wt (xpush P1 (ar4 16 (fun _ => none)) 16) = wt P1 + 1 + 16 := wt_push
  have n2 : (xpush P1 (ar4 16 (fun _ => none)) 16).2.1 = P1.2.1 + 1 := rfl
  have no2 : ∀ o, ¬ oArr (xpush P1 (ar4 16 (fun _ => none)) 16) o P1.2.1 := fun o ho => oArr_new f1.iv rfl ho
  have r2 : ∀ {β : Type} (K : Nat → PH → Option β), xnaR P1 4 (z 16) K = K P1.2.1 (xpush P1 (ar4 16 (fun _ => none)) 16) := fun K => xnaR_s (n := 16) (by omega)
  generalize xpush P1 (ar4 16 (fun _ => none)) 16 = P2 at *
  have f3 : Fr P.2.1 W0 P2 (xup P2 P.2.1 (oB 22 [.ref P1.2.1, .int (z 0), .null, .int (z 0)])) := Fr.upo f2.iv g2 rfl (fun b hb => by
    have : some P1.2.1 = some b := hb
    cases this
    exact Or.inr ⟨by omega, by omega, no2⟩) fun h => absurd h (Nat.lt_irrefl _)
  have g4 : (xup P2 P.2.1 (oB 22 [.ref P1.2.1, .int (z 0), .null, .int (z 0)])).1 P.2.1 = some (true, oB 22 [.ref P1.2.1, .int (z 0), .null, .int (z 0)]) := up_at
  have f4 : Fr P.2.1 W0 _ (xup (xup P2 P.2.1 (oB 22 [.ref P1.2.1, .int (z 0), .null, .int (z 0)])) P.2.1 (oB 22 [.ref P1.2.1, .int (z 0), .null, .int (z 0)])) := Fr.upo f3.iv g4 rfl (fun b hb => Or.inl hb) fun h => absurd h (Nat.lt_irrefl _)
  refine ⟨_, ?_, ⟨fun _ => 0, fun _ => 1, fun _ => 0, fun _ => none, P1.2.1, z 0, up_at, ⟨(up_ne (by omega)).trans ((up_ne (by omega)).trans g3), ⟨by omega, by omega⟩, fun i hi => absurd hi (by omega), fun i hi => absurd hi (by omega), fun _ _ _ => rfl⟩, fun i h1 h2 => absurd h2 (by omega), fun _ => rfl⟩, f1.trans (f2.trans (f3.trans f4)), by rw [wt_up, wt_up]; omega⟩
  simp (disch := omega) only [f_J32_init, f_J32_init_2, f_J31_init, f_J0_init, z_add, z_sub, z_mul, z_neg, zlt, zle, zeq, zne, l0, l1, l2, l3, l4, l5, l6, l7, l8, l9, l10, l11, l16, l17, l20, l24, l32, l37, l47, l57, l60, l67, l77, l97, l99, l122, l48, l57, l100, l237, l397, l600, l900, l880, l9998, l9999, bnd, xcI_rI, xcV_rV, xcR_rR, zb0, zb1, nz0, nz1, nar_z0, nar_z1, nar_b2, ↓reduceIte, ↓xnul_s, ↓xnul_n, xcst_n, List.set_cons_zero, List.set_cons_succ, r2, xpF_z (k := 0) g2 (by simp), xpF_z (k := 2) g4 (by simp), va_rf, show (1 : Int) ≤ 16 by decide]
  rfl
theorem QQ.add {P : PH} (hI : Iv P) {q n a : Nat} {C : (Int → Int → Bool) → Nat} (h : QQ P q n C) (hn : n < 16) {u v : Int} (ha : P.1 a = some (true, oB 10 [.int (z u), .int (z v)])) (hu : 0 ≤ u ∧ u ≤ 9999) (hv : 1 ≤ v ∧ v ≤ 9999) : ∃ P', f_J32_add P q (some a) = rI (z 1) P' ∧ QQ P' q (n + 1) (fun pr => C pr + if pr u v = true then 1 else 0) ∧ Fr P.2.1 (fun x => x = q) P P' ∧ wt P' = wt P := by
  obtain ⟨U, V, t, f, b, mc, h1, ⟨h2, h3, h4, h5, h6⟩, h7, h8⟩ := h
  have hta : ∀ i, i < n → t i = a → U (t i) = u ∧ V (t i) = v := fun i hi e => by
    have h9 := h5 i hi
    have h10 := h9.1
    have e2 := e
    rw [e, ha] at h10
    have e3 : z u = z (U a) ∧ z v = z (V a) := by
      simp only [Option.some.injEq, Prod.mk.injEq, Sum.inr.injEq, List.cons.injEq, Value.int.injEq, and_true, true_and] at h10
      exact h10
    have e4 := (z_eq (a := u) (b := U a) ⟨by omega, by omega⟩ (by have := h9.2.1; rw [e2] at this; exact ⟨by omega, by omega⟩)).mp e3.1
    have e5 := (z_eq (a := v) (b := V a) ⟨by omega, by omega⟩ (by have := h9.2.2; rw [e2] at this; exact ⟨by omega, by omega⟩)).mp e3.2
    rw [e]
    exact ⟨e4.symm, e5.symm⟩
  obtain ⟨U', hU'⟩ : ∃ U' : Nat → Int, U' = fun x => if x = a then u else U x := ⟨_, rfl⟩
  obtain ⟨V', hV'⟩ : ∃ V' : Nat → Int, V' = fun x => if x = a then v else V x := ⟨_, rfl⟩
  have eU : ∀ i, i < n → U' (t i) = U (t i) := fun i hi => by
    rw [hU']
    by_cases e : t i = a
    · exact (if_pos e).trans (hta i hi e).1.symm
    · exact if_neg e
  have eV : ∀ i, i < n → V' (t i) = V (t i) := fun i hi => by
    rw [hV']
    by_cases e : t i = a
    · exact (if_pos e).trans (hta i hi e).2.symm
    · exact if_neg e
  have eUa : U' a = u := by rw [hU']; exact if_pos rfl
  have eVa : V' a = v := by rw [hV']; exact if_pos rfl
  have tn : updN t n a n = a := if_pos rfl
  have ti : ∀ i, i ≠ n → updN t n a i = t i := fun i hi => if_neg hi
  have hqb : q ≠ b := fun e => by rw [e, h2] at h1; cases h1
  have hqa : a ≠ q := fun e => by rw [e, h1] at ha; cases ha
  have f1 : Fr P.2.1 (fun x => x = q) P (xup P q (oB 22 [.ref b, .int (z n), .null, .int (mc + z 1)])) := Fr.upo hI h1 rfl (fun b hb => Or.inl hb) fun _ => rfl
  have g1 : (xup P q (oB 22 [.ref b, .int (z n), .null, .int (mc + z 1)])).1 q = some (true, oB 22 [.ref b, .int (z n), .null, .int (mc + z 1)]) := up_at
  have g2 : (xup P q (oB 22 [.ref b, .int (z n), .null, .int (mc + z 1)])).1 b = some (true, ar4 16 f) := (up_ne hqb.symm).trans h2
  have w1 : wt (xup P q (oB 22 [.ref b, .int (z n), .null, .int (mc + z 1)])) = wt P := rfl
  have hPA : ∀ i, i < n + 1 → PA (xup P q (oB 22 [.ref b, .int (z n), .null, .int (mc + z 1)])) U' V' (updN t n a i) := by
    intro i hi
    by_cases e : i = n
    · rw [e, tn]
      unfold PA
      rw [eUa, eVa]
      exact ⟨(up_ne hqa).trans ha, hu, hv⟩
    · rw [ti i e]
      have h9 := h5 i (by omega)
      unfold PA
      rw [eU i (by omega), eV i (by omega)]
      exact ⟨(up_ne (fun e => by have := h9.1; rw [e, h1] at this; cases this)).trans h9.1, h9.2⟩
  have hst : f_J32_add P q (some a) = xcI (f_J32_offer_43 q (some a) (z n) (xup P q (oB 22 [.ref b, .int (z n), .null, .int (mc + z 1)]))) fun x2 p1 => if vp_nar .boolean x2 = x2 then rI x2 p1 else none := by
    have c1 : (n : Int) < 16 := by omega
    simp (disch := omega) only [f_J32_add, f_J32_offer, z_add, z_sub, z_mul, z_neg, zlt, zle, zeq, zne, l0, l1, l2, l3, l4, l5, l6, l7, l8, l9, l10, l11, l16, l17, l20, l24, l32, l37, l47, l57, l60, l67, l77, l97, l99, l122, l48, l57, l100, l237, l397, l600, l900, l880, l9998, l9999, bnd, xcI_rI, xcV_rV, xcR_rR, zb0, zb1, nz0, nz1, nar_z0, nar_z1, nar_b2, ↓reduceIte, ↓xnul_s, ↓xnul_n, xcst_n, List.set_cons_zero, List.set_cons_succ, ↓xcl1_s h1, ↓xgR_s (k := 0) h1 rfl, ↓xgI_s (k := 1) h1 rfl, ↓xgI_s (k := 3) h1 rfl, xpF_z (k := 3) h1 (by simp), ↓xcl1_s g1, ↓xgR_s (k := 0) g1 rfl, ↓xgI_s (k := 1) g1 rfl, ↓xgI_s (k := 3) g1 rfl, ↓xlen_s g2 (by decide), c1]
    rw [if_pos (show (n : Int) < ((16 : Nat) : Int) by omega)]
  have hHP : HP (fle U' (V1 V')) t n := by
    intro i i1 i2
    have := h7 i i1 i2
    have hp : par i < n := by unfold par; omega
    unfold fle V1 at *
    rw [eU _ hp, eU _ i2, eV _ hp, eV _ i2]
    exact this
  have hQJ : QJ P.2.1 P (xup P q (oB 22 [.ref b, .int (z n), .null, .int (mc + z 1)])) U' V' q b 16 (z n) (mc + z 1) f (updN t n a) (n + 1) n := ⟨f1, w1, g1, g2, ⟨by omega, by omega⟩, fun i hi hin => by rw [ti i hin]; exact h4 i (by omega) (by omega), hPA, fun i hi hi' => h6 i (by omega) hi'⟩
  rw [hst]
  generalize xup P q (oB 22 [.ref b, .int (z n), .null, .int (mc + z 1)]) = P1 at *
  obtain ⟨P2, f2, t2, e2, q1, q2, q3⟩ := siftUp_z hQJ tn hHP.push
  obtain ⟨r1, r2, r3, r4, r5, r6, r7, r8⟩ := q1
  have f4 : Fr P.2.1 (fun x => x = q) P2 (xup P2 q (oB 22 [.ref b, .int (z ((n + 1 : Nat))), .null, .int (mc + z 1)])) := Fr.upo r1.iv r3 rfl (fun b hb => Or.inl hb) fun _ => rfl
  refine ⟨_, ?_, ⟨U', V', t2, f2, b, mc + z 1, up_at, ⟨(up_ne hqb.symm).trans r4, r5, r6, fun i hi => ?_, r8⟩, q2, fun pr => ?_⟩, r1.trans f4, r2⟩
  · simp (disch := omega) only [f_J32_offer_43, f_J32_siftUp, z_add, z_sub, z_mul, z_neg, zlt, zle, zeq, zne, l0, l1, l2, l3, l4, l5, l6, l7, l8, l9, l10, l11, l16, l17, l20, l24, l32, l37, l47, l57, l60, l67, l77, l97, l99, l122, l48, l57, l100, l237, l397, l600, l900, l880, l9998, l9999, bnd, xcI_rI, xcV_rV, xcR_rR, zb0, zb1, nz0, nz1, nar_z0, nar_z1, nar_b2, ↓reduceIte, ↓xnul_s, ↓xnul_n, xcst_n, List.set_cons_zero, List.set_cons_succ, ↓xcl1_s g1, ↓xgR_s (k := 0) g1 rfl, ↓xgI_s (k := 1) g1 rfl, ↓xgI_s (k := 3) g1 rfl, ↓xgR_n (k := 2) g1 rfl, e2, xpF_z (k := 1) r3 (by simp)]
    rfl
  · have h9 := r7 i hi
    exact ⟨(up_ne (fun e => by have := h9.1; rw [e, r3] at this; cases this)).trans h9.1, h9.2⟩
  · rw [q3]
    show cnt _ (updN t n a) n + (if pr (U' (updN t n a n)) (V' (updN t n a n)) = true then 1 else 0) = C pr + if pr u v = true then 1 else 0
    rw [tn, eUa, eVa, cnt_congr (t' := t) (fun i hi => ti i (by omega)), ← h8 pr]
    congr 1
    have : ∀ k, k ≤ n → cnt (fun a => pr (U' a) (V' a)) t k = cnt (fun a => pr (U a) (V a)) t k := by
      intro k
      induction k with
      | zero => exact fun _ => rfl
      | succ k ih => intro hk; unfold cnt; rw [ih (by omega)]; simp only [eU k (by omega), eV k (by omega)]
    exact this n (Nat.le_refl _)

theorem QQ.poll0 {P : PH} {q : Nat} {C : (Int → Int → Bool) → Nat} (h : QQ P q 0 C) : f_J32_poll P q = rR none P := by
  obtain ⟨U, V, t, f, b, mc, h1, ⟨h2, h3, h4, h5, h6⟩, h7, h8⟩ := h
  have e := h6 0 (by omega) (by omega)
  have h2' : P.1 b = some (true, .inl (4, 16, .inr (.inr (.inr (.inr f))))) := h2
  simp (disch := omega) only [f_J32_poll, z_add, z_sub, z_mul, z_neg, zlt, zle, zeq, zne, l0, l1, l2, l3, l4, l5, l6, l7, l8, l9, l10, l11, l16, l17, l20, l24, l32, l37, l47, l57, l60, l67, l77, l97, l99, l122, l48, l57, l100, l237, l397, l600, l900, l880, l9998, l9999, bnd, xcI_rI, xcV_rV, xcR_rR, zb0, zb1, nz0, nz1, nar_z0, nar_z1, nar_b2, ↓reduceIte, ↓xnul_s, ↓xnul_n, xcst_n, List.set_cons_zero, List.set_cons_succ, ↓xcl1_s h1, ↓xgR_s (k := 0) h1 rfl, ↓xgI_s (k := 1) h1 rfl, ↓xgI_s (k := 3) h1 rfl, ↓xaR_s h2', Int.toNat_zero, e]
theorem QQ.poll {P : PH} (hI : Iv P) {q n : Nat} {C : (Int → Int → Bool) → Nat} (h : QQ P q (n + 1) C) : ∃ P' a u v C', f_J32_poll P q = rR (some a) P' ∧ P'.1 a = some (true, oB 10 [.int (z u), .int (z v)]) ∧ ((0 ≤ u ∧ u ≤ 9999) ∧ 1 ≤ v ∧ v ≤ 9999) ∧ QQ P' q n C' ∧ (∀ pr, C' pr + (if pr u v = true then 1 else 0) = C pr) ∧ (∀ pr, (∀ u' v', 1 ≤ v' → pr u' v' = true → u' * v < u * v') → C pr = 0) ∧ Fr P.2.1 (fun x => x = q) P P' ∧ wt P' = wt P := by
  obtain ⟨U, V, t, f, b, mc, h1, ⟨h2, h3, h4, h5, h6⟩, h7, h8⟩ := h
  have hqb : q ≠ b := fun e => by rw [e, h2] at h1; cases h1
  have h2' : P.1 b = some (true, .inl (4, 16, .inr (.inr (.inr (.inr f))))) := h2
  have e0 := h4 0 (by omega) (by omega)
  have en := h4 n (by omega) (by omega)
  have p0 := h5 0 (by omega)
  have pn := h5 n (by omega)
  have f1 : Fr P.2.1 (fun x => x = q) P (xup P q (oB 22 [.ref b, .int (z ((n + 1 : Nat))), .null, .int (mc + z 1)])) := Fr.upo hI h1 rfl (fun b hb => Or.inl hb) fun _ => rfl
  have g1 : (xup P q (oB 22 [.ref b, .int (z ((n + 1 : Nat))), .null, .int (mc + z 1)])).1 q = some (true, oB 22 [.ref b, .int (z ((n + 1 : Nat))), .null, .int (mc + z 1)]) := up_at
  have g2 : (xup P q (oB 22 [.ref b, .int (z ((n + 1 : Nat))), .null, .int (mc + z 1)])).1 b = some (true, ar4 16 f) := (up_ne hqb.symm).trans h2
  have w1 : wt (xup P q (oB 22 [.ref b, .int (z ((n + 1 : Nat))), .null, .int (mc + z 1)])) = wt P := rfl
  have k1 : ∀ i, i < n + 1 → PA (xup P q (oB 22 [.ref b, .int (z ((n + 1 : Nat))), .null, .int (mc + z 1)])) U V (t i) := fun i hi => ⟨(up_ne (fun e => by have := (h5 i hi).1; rw [e, h1] at this; cases this)).trans (h5 i hi).1, (h5 i hi).2⟩
  have r1 : ∀ {β : Type} (K : PH → Option β), xpF P q 22 3 (.int (mc + z 1)) K = K (xup P q (oB 22 [.ref b, .int (z ((n + 1 : Nat))), .null, .int (mc + z 1)])) := fun K => xpF_z h1 (by simp)
  generalize xup P q (oB 22 [.ref b, .int (z ((n + 1 : Nat))), .null, .int (mc + z 1)]) = P1 at *
  have f2 : Fr P.2.1 (fun x => x = q) P1 (xup P1 q (oB 22 [.ref b, .int (z n), .null, .int (mc + z 1)])) := Fr.upo f1.iv g1 rfl (fun b hb => Or.inl hb) fun _ => rfl
  have g3 : (xup P1 q (oB 22 [.ref b, .int (z n), .null, .int (mc + z 1)])).1 q = some (true, oB 22 [.ref b, .int (z n), .null, .int (mc + z 1)]) := up_at
  have g4 : (xup P1 q (oB 22 [.ref b, .int (z n), .null, .int (mc + z 1)])).1 b = some (true, ar4 16 f) := (up_ne hqb.symm).trans g2
  have w2 : wt (xup P1 q (oB 22 [.ref b, .int (z n), .null, .int (mc + z 1)])) = wt P1 := rfl
  have k2 : ∀ i, i < n + 1 → PA (xup P1 q (oB 22 [.ref b, .int (z n), .null, .int (mc + z 1)])) U V (t i) := fun i hi => ⟨(up_ne (fun e => by have := (k1 i hi).1; rw [e, g1] at this; cases this)).trans (k1 i hi).1, (k1 i hi).2⟩
  have r2 : ∀ {β : Type} (K : PH → Option β), xpF P1 q 22 1 (.int (z n)) K = K (xup P1 q (oB 22 [.ref b, .int (z n), .null, .int (mc + z 1)])) := fun K => xpF_z g1 (by simp)
  generalize xup P1 q (oB 22 [.ref b, .int (z n), .null, .int (mc + z 1)]) = P2 at *
  have f3 : Fr P.2.1 (fun x => x = q) P2 (xup P2 b (ar4 16 (updR f n none))) := Fr.upa f2.iv g4 fun _ => ⟨q, rfl, _, _, g3, rfl⟩
  have g5 : (xup P2 b (ar4 16 (updR f n none))).1 q = some (true, oB 22 [.ref b, .int (z n), .null, .int (mc + z 1)]) := (up_ne hqb).trans g3
  have g6 : (xup P2 b (ar4 16 (updR f n none))).1 b = some (true, ar4 16 (updR f n none)) := up_at
  have w3 : wt (xup P2 b (ar4 16 (updR f n none))) = wt P2 := rfl
  have k3 : ∀ i, i < n + 1 → PA (xup P2 b (ar4 16 (updR f n none))) U V (t i) := fun i hi => (k2 i hi).up g4
  have r3 : ∀ {β : Type} (K : PH → Option β), xsR P2 b 4 (z n) none K = K (xup P2 b (ar4 16 (updR f n none))) := fun K => xsR_z g4 (by omega) (by omega) rfl
  have F3 := f1.trans (f2.trans f3)
  have hmin : ∀ pr : Int → Int → Bool, (∀ u' v', 1 ≤ v' → pr u' v' = true → u' * V (t 0) < U (t 0) * v') → C pr = 0 := by
    intro pr hpr
    rw [← h8 pr]
    have hm := HP.min (fle1_tr U V) (fun a b => fle_tot a b) h7
    have : ∀ k, k ≤ n + 1 → cnt (fun a => pr (U a) (V a)) t k = 0 := by
      intro k
      induction k with
      | zero => exact fun _ => rfl
      | succ k ih =>
        intro hk
        unfold cnt
        rw [ih (by omega)]
        have h9 := hm k (by omega)
        have h10 := (fle1_eq p0 (h5 k (by omega))).mp h9
        unfold fle at h10
        rw [if_neg]
        intro hc
        have := hpr _ _ (h5 k (by omega)).2.2.1 hc
        omega
    exact this (n + 1) (Nat.le_refl _)
  have hcnt : ∀ pr : Int → Int → Bool, cnt (fun a => pr (U a) (V a)) (updN t 0 (t n)) n + (if pr (U (t 0)) (V (t 0)) = true then 1 else 0) = C pr := by
    intro pr
    rw [← h8 pr]
    show _ = cnt (fun a => pr (U a) (V a)) t n + (if pr (U (t n)) (V (t n)) = true then 1 else 0)
    by_cases hn : n = 0
    · subst hn; rfl
    · exact cnt_upd (p := fun a => pr (U a) (V a)) (by omega)
  have hz : z ((n + 1 : Nat) : Int) - z 1 = z n := by rw [z_sub]; congr 1; omega
  have g4' : P2.1 b = some (true, .inl (4, 16, .inr (.inr (.inr (.inr f))))) := g4
  have hst : f_J32_poll P q = if (n : Int) ≤ 0 then rR (some (t 0)) (xup P2 b (ar4 16 (updR f n none))) else xcV (f_J32_siftDownComparable (xup P2 b (ar4 16 (updR f n none))) (z 0) (some (t n)) (some b) (z n)) fun p14 => rR (some (t 0)) p14 := by
    unfold f_J32_poll
    rw [xcl1_s h1, xgR_s (k := 0) h1 rfl, xnul_s, show (0 : Int32) = z 0 from rfl, xaR_s h2' (by omega) (by omega) (by omega), Int.toNat_zero, e0, xnul_s, xgI_s (k := 3) h1 rfl, show mc + 1 = mc + z 1 from rfl, r1, xgI_s (k := 1) g1 rfl]
    rw [show z ((n + 1 : Nat) : Int) - 1 = z n from hz]
    unfold bnd
    dsimp only
    rw [r2, xaR_s g4' (by omega) (by omega) (by omega), Int.toNat_natCast, en, r3, xgR_n (k := 2) g5 rfl, xnul_n]
    simp (disch := omega) only [zle]
  rw [hst]
  by_cases hn : n = 0
  · subst hn
    refine ⟨_, t 0, U (t 0), V (t 0), fun _ => 0, if_pos (by omega), (k3 0 (by omega)).1, (k3 0 (by omega)).2, ⟨U, V, t, _, b, mc + z 1, g5, ⟨g6, ⟨by omega, by omega⟩, fun i hi => absurd hi (by omega), fun i hi => absurd hi (by omega), fun i _ hi => ?_⟩, fun i h1 h2 => absurd h2 (by omega), fun _ => rfl⟩, fun pr => hcnt pr, hmin, F3, by omega⟩
    unfold updR
    by_cases e : i = 0
    · rw [if_pos e]
    · rw [if_neg e]; exact h6 i (by omega) hi
  · rw [if_neg (by omega)]
    have hQJ : QJ P.2.1 P (xup P2 b (ar4 16 (updR f n none))) U V q b 16 (z n) (mc + z 1) (updR f n none) (updN t 0 (t n)) n 0 := ⟨F3, by omega, g5, g6, ⟨by omega, by omega⟩, fun i hi hi0 => by
        unfold updR updN
        rw [if_neg (by omega), if_neg hi0]
        exact h4 i (by omega) (by omega), fun i hi => by
        unfold updN
        split
        · exact k3 n (by omega)
        · exact k3 i (by omega), fun i hi hi' => by
        unfold updR
        by_cases e : i = n
        · rw [if_pos e]
        · rw [if_neg e]; exact h6 i (by omega) hi'⟩
    obtain ⟨P', f', t', s1, s2, s3, s4⟩ := siftDown_z (by omega) hQJ (show updN t 0 (t n) 0 = t n from if_pos rfl) h7.pop
    obtain ⟨u1, u2, u3, u4⟩ := s2
    refine ⟨P', t 0, U (t 0), V (t 0), fun pr => cnt (fun a => pr (U a) (V a)) t' n, by rw [s1]; rfl, ?_, (k3 0 (by omega)).2, ⟨U, V, t', f', b, mc + z 1, u3, u4, s3, fun _ => rfl⟩, fun pr => (by show cnt (fun a => pr (U a) (V a)) t' n + _ = _; rw [s4]; exact hcnt pr), hmin, u1, u2⟩
    exact u1.ob (hI.lt p0.1) p0.1 (fun e => by have := p0.1; rw [e, h1] at this; cases this)

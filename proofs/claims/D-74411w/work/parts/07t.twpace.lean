/-! PACES: the twin's -/
set_option maxRecDepth 100000
/-- only what a query may scribble on changed -/
def TQ (s s' : TS) : Prop := (∀ k, k ≠ 23 → k ≠ 24 → k ≠ 27 → k ≠ 28 → k ≠ 29 → s'.1 k = s.1 k) ∧ ∀ j, j ≠ 19 → j ≠ 20 → j ≠ 21 → j ≠ 22 → j ≠ 25 → j ≠ 26 → s'.2 j = s.2 j
theorem TQ.rf {s : TS} : TQ s s := ⟨fun _ _ _ _ _ _ => rfl, fun _ _ _ _ _ _ _ => rfl⟩
theorem TQ.trans {s t u : TS} (h : TQ s t) (h' : TQ t u) : TQ s u := ⟨fun k a b c d e => (h'.1 k a b c d e).trans (h.1 k a b c d e), fun j a b c d e f => (h'.2 j a b c d e f).trans (h.2 j a b c d e f)⟩
theorem TM.q {s t : TS} (h : TM s t) : TQ s t := ⟨fun k _ _ _ _ _ => by rw [h.1], fun j a b _ _ _ _ => h.2 j a b⟩
theorem TQ.rep {s t : TS} {R : Nat → Int} (h : TQ s t) (hr : TRep s R) : TRep t R := fun k hk => by rw [h.2 7 (by decide) (by decide) (by decide) (by decide) (by decide) (by decide)]; exact hr k hk
theorem TQ.a21 {s : TS} {i : Nat} {x : Int32} : TQ s (tA s 21 i x) := ⟨fun _ _ _ _ _ _ => rfl, fun _ _ _ a _ _ _ => tA_oj a⟩
theorem TQ.a22 {s : TS} {i : Nat} {x : Int32} : TQ s (tA s 22 i x) := ⟨fun _ _ _ _ _ _ => rfl, fun _ _ _ _ a _ _ => tA_oj a⟩
theorem TQ.a25 {s : TS} {i : Nat} {x : Int32} : TQ s (tA s 25 i x) := ⟨fun _ _ _ _ _ _ => rfl, fun _ _ _ _ _ a _ => tA_oj a⟩
theorem TQ.a26 {s : TS} {i : Nat} {x : Int32} : TQ s (tA s 26 i x) := ⟨fun _ _ _ _ _ _ => rfl, fun _ _ _ _ _ _ a => tA_oj a⟩
theorem TQ.fi {s : TS} {k : Nat} {x : Int32} (hk : k = 23 ∨ k = 24 ∨ k = 27 ∨ k = 28 ∨ k = 29) : TQ s (tI s k x) := ⟨fun q a b c d e => if_neg (by omega), fun _ _ _ _ _ _ _ => rfl⟩
/-! rows of fractions -/
def cntI (pr : Int → Int → Bool) (f : Nat → Int × Int) : Nat → Nat
  | 0 => 0
  | i + 1 => cntI pr f i + (if pr (f i).1 (f i).2 = true then 1 else 0)
def insF (f : Nat → Int × Int) (k : Nat) (x : Int × Int) : Nat → Int × Int := fun q => if q < k then f q else if q = k then x else f (q - 1)
theorem cntI_congr {pr : Int → Int → Bool} {f g : Nat → Int × Int} : ∀ {n}, (∀ i, i < n → f i = g i) → cntI pr f n = cntI pr g n := by
  intro n
  induction n with
  | zero => exact fun _ => rfl
  | succ n ih => intro h; unfold cntI; rw [ih fun i hi => h i (by omega), h n (by omega)]
theorem cntI_ins {pr : Int → Int → Bool} {f : Nat → Int × Int} {k : Nat} {x : Int × Int} : ∀ {n}, k ≤ n → cntI pr (insF f k x) (n + 1) = cntI pr f n + (if pr x.1 x.2 = true then 1 else 0) := by
  intro n
  induction n with
  | zero =>
    intro h
    have : k = 0 := by omega
    subst this
    rfl
  | succ n ih =>
    intro h
    by_cases e : k = n + 1
    · subst e
      show cntI pr (insF f (n + 1) x) (n + 1) + (if pr (insF f (n + 1) x (n + 1)).1 (insF f (n + 1) x (n + 1)).2 = true then 1 else 0) = _
      have e2 : insF f (n + 1) x (n + 1) = x := by unfold insF; rw [if_neg (by omega), if_pos rfl]
      rw [e2, cntI_congr (f := insF f (n + 1) x) (g := f) (n := n + 1) fun i hi => if_pos hi]
    · show cntI pr (insF f k x) (n + 1) + (if pr (insF f k x (n + 1)).1 (insF f k x (n + 1)).2 = true then 1 else 0) = cntI pr f n + (if pr (f n).1 (f n).2 = true then 1 else 0) + _
      have e2 : insF f k x (n + 1) = f n := by unfold insF; rw [if_neg (by omega), if_neg (by omega)]; rfl
      rw [ih (by omega), e2]
      omega
def srtF (f : Nat → Int × Int) (n : Nat) : Prop := ∀ i j, i ≤ j → j < n → (f i).1 * (f j).2 ≤ (f j).1 * (f i).2
theorem srtF_ins {f : Nat → Int × Int} {k n : Nat} {x : Int × Int} (hs : srtF f n) (hk : k ≤ n) (h1 : ∀ i, i < k → (f i).1 * x.2 ≤ x.1 * (f i).2) (h2 : ∀ i, k ≤ i → i < n → x.1 * (f i).2 ≤ (f i).1 * x.2) : srtF (insF f k x) (n + 1) := by
  intro i j hij hj
  unfold insF
  by_cases a : i < k
  · rw [if_pos a]
    by_cases b : j < k
    · rw [if_pos b]; exact hs i j hij (by omega)
    · rw [if_neg b]
      by_cases c : j = k
      · rw [if_pos c]; exact h1 i a
      · rw [if_neg c]; exact hs i (j - 1) (by omega) (by omega)
  · rw [if_neg a]
    have b : ¬ j < k := by omega
    rw [if_neg b]
    by_cases c : i = k
    · rw [if_pos c]
      by_cases d : j = k
      · rw [if_pos d]; exact Int.le_refl _
      · rw [if_neg d]; exact h2 (j - 1) (by omega) (by omega)
    · rw [if_neg c, if_neg (by omega)]
      exact hs (i - 1) (j - 1) (by omega) (by omega)
theorem cntI_up_n {pr : Int → Int → Bool} {f : Nat → Int × Int} {m n : Nat} (_ : srtF f n) (h : ∀ i, m ≤ i → i < n → ¬ pr (f i).1 (f i).2 = true) : cntI pr f n ≤ m := by
  have h0 : ∀ k, k ≤ n → cntI pr f k ≤ m ∨ k ≤ m := by
    intro k
    induction k with
    | zero => exact fun _ => Or.inr (Nat.zero_le _)
    | succ k ih =>
      intro hk
      by_cases e : k + 1 ≤ m
      · exact Or.inr e
      · refine Or.inl ?_
        unfold cntI
        rw [if_neg (h k (by omega) (by omega))]
        rcases ih (by omega) with h1 | h1
        · exact h1
        · have : cntI pr f k ≤ k := by
            have hh : ∀ q, cntI pr f q ≤ q := by
              intro q
              induction q with
              | zero => exact Nat.le_refl _
              | succ q ih => unfold cntI; split <;> omega
            exact hh k
          omega
  rcases h0 n (Nat.le_refl _) with h1 | h1
  · exact h1
  · have hh : ∀ q, cntI pr f q ≤ q := by
      intro q
      induction q with
      | zero => exact Nat.le_refl _
      | succ q ih => unfold cntI; split <;> omega
    exact Nat.le_trans (hh n) h1
theorem cntI_lo {pr : Int → Int → Bool} {f : Nat → Int × Int} {m : Nat} (h : ∀ i, i < m → pr (f i).1 (f i).2 = true) : ∀ n, m ≤ n → m ≤ cntI pr f n := by
  have h0 : ∀ n, n ≤ m → cntI pr f n = n := by
    intro n
    induction n with
    | zero => exact fun _ => rfl
    | succ n ih => intro hn; unfold cntI; rw [ih (by omega), if_pos (h n (by omega))]
  intro n
  induction n with
  | zero => intro hn; omega
  | succ n ih =>
    intro hn
    by_cases e : m = n + 1
    · rw [h0 (n + 1) (by omega)]; omega
    · unfold cntI
      have := ih (by omega)
      omega
/-- the twin's two rows hold f -/
def PF (s : TS) (f : Nat → Int × Int) (n : Nat) : Prop := ∀ q, q < n → (s.2 21 q = z (f q).1 ∧ s.2 22 q = z (f q).2) ∧ (0 ≤ (f q).1 ∧ (f q).1 ≤ 9999) ∧ 1 ≤ (f q).2 ∧ (f q).2 ≤ 9999
/-- .. with a gap at k -/
def PG (s : TS) (f : Nat → Int × Int) (n k : Nat) : Prop := (∀ q, q < k → s.2 21 q = z (f q).1 ∧ s.2 22 q = z (f q).2) ∧ ∀ q, k < q → q ≤ n → s.2 21 q = z (f (q - 1)).1 ∧ s.2 22 q = z (f (q - 1)).2
theorem T_ins {k15 : Int32 × Int32 × Int32 × Int32 × TS → Option (xO × TS)} {Q : Option Value → TS → Prop} {s : TS} {a c i : Int} {f : Nat → Int × Int} {n : Nat} {x y : Int} (hn : n < 11) (hx : 0 ≤ x ∧ x ≤ 9999) (hy : 1 ≤ y ∧ y ≤ 9999) (hF : PF s f n) (hs : srtF f n) (h : ∀ s' k, k ≤ n → TQ s s' → PF s' (insF f k (x, y)) (n + 1) → srtF (insF f k (x, y)) (n + 1) → OK (k15 (z a, z c, z ((n + 1 : Nat)), z (i + 1), s')) Q) : OK (lp (T_paces_65F k15) FU (z a, z c, z n, z i, z x, z y, z n, s)) Q := by
  have hfr : ∀ q, q < n → (0 ≤ (f q).1 ∧ (f q).1 ≤ 9999) ∧ 1 ≤ (f q).2 ∧ (f q).2 ≤ 9999 := fun q hq => (hF q hq).2
  refine ok_lpn (fun d p => ∃ (k : Nat) (s1 : TS), p = (z a, z c, z n, z i, z x, z y, z k, s1) ∧ d = k ∧ k ≤ n ∧ TQ s s1 ∧ PG s1 f n k ∧ ∀ q, k ≤ q → q < n → x * (f q).2 ≤ (f q).1 * y) ?_ FU _ _ ⟨n, s, rfl, rfl, Nat.le_refl _, TQ.rf, ⟨fun q hq => (hF q hq).1, fun q h1 h2 => absurd h1 (by omega)⟩, fun q h1 h2 => absurd h2 (by omega)⟩ (by simp only [FU]; omega)
  rintro kk d p ⟨k, s1, rfl, rfl, h1, h2, h3, h4⟩ hk
  have hend : (∀ q, q < d → (f q).1 * y ≤ x * (f q).2) → OK (T_paces_135 k15 (z a) (z c) (z n) (z i) (z x) (z y) (z d) s1) Q := by
    intro hlow
    simp (disch := omega) only [T_paces_135, T_paces_156, z_add, z_sub, z_mul, z_neg, zlt, zle, zeq, zne, l0, l1, l2, l3, l4, l5, l6, l7, l8, l9, l10, l11, l16, l17, l20, l24, l32, l37, l47, l57, l60, l67, l77, l97, l99, l122, l48, l57, l100, l237, l397, l600, l900, l880, l9998, l9999, bnd, xcI_rI, xcV_rV, xcR_rR, zb0, zb1, nz0, nz1, nar_z0, nar_z1, nar_b2, ↓reduceIte, T_cell_z, ald19, ast19, ald20, ast20, ald21, ast21, ald22, ast22, ald25, ast25, ald26, ast26, Int.toNat_natCast]
    refine h _ d h1 (h2.trans (TQ.a21.trans TQ.a22)) ?_ (srtF_ins hs h1 hlow h4)
    intro q hq
    have e22 : (tA (tA s1 21 d (z x)) 22 d (z y)).2 21 q = (tA s1 21 d (z x)).2 21 q := congrFun (tA_oj (by decide)) q
    have e22' : q ≠ d → (tA (tA s1 21 d (z x)) 22 d (z y)).2 22 q = s1.2 22 q := fun e => (tA_oi e).trans (congrFun (tA_oj (by decide)) q)
    rw [e22]
    unfold insF
    by_cases e1 : q < d
    · rw [if_pos e1, tA_oi (by omega), e22' (by omega)]
      exact ⟨h3.1 q e1, hfr q (by omega)⟩
    · rw [if_neg e1]
      by_cases e2 : q = d
      · subst e2
        rw [if_pos rfl, tA_self, tA_self]
        exact ⟨⟨rfl, rfl⟩, hx, hy⟩
      · rw [if_neg e2, tA_oi e2, e22' e2]
        exact ⟨h3.2 q (by omega) (by omega), hfr (q - 1) (by omega)⟩
  simp (disch := omega) only [T_paces_65F, z_add, z_sub, z_mul, z_neg, zlt, zle, zeq, zne, l0, l1, l2, l3, l4, l5, l6, l7, l8, l9, l10, l11, l16, l17, l20, l24, l32, l37, l47, l57, l60, l67, l77, l97, l99, l122, l48, l57, l100, l237, l397, l600, l900, l880, l9998, l9999, bnd, xcI_rI, xcV_rV, xcR_rR, zb0, zb1, nz0, nz1, nar_z0, nar_z1, nar_b2, ↓reduceIte, T_cell_z, ald19, ast19, ald20, ast20, ald21, ast21, ald22, ast22, ald25, ast25, ald26, ast26]
  refine ok_ite (fun c1 => ?_) fun c1 => ?_
  · exact hend fun q hq => absurd hq (by omega)
  · have e1 : ((d : Int) - 1).toNat = d - 1 := by omega
    have g1 := h3.1 (d - 1) (by omega)
    have r1 := hfr (d - 1) (by omega)
    have m1 := mul_rg (a := (f (d - 1)).1) (b := y) r1.1 ⟨by omega, by omega⟩
    have m2 := mul_rg (a := x) (b := (f (d - 1)).2) hx ⟨by omega, by omega⟩
    simp (disch := omega) only [e1, g1.1, g1.2, z_add, z_sub, z_mul, z_neg, zlt, zle, zeq, zne, l0, l1, l2, l3, l4, l5, l6, l7, l8, l9, l10, l11, l16, l17, l20, l24, l32, l37, l47, l57, l60, l67, l77, l97, l99, l122, l48, l57, l100, l237, l397, l600, l900, l880, l9998, l9999, bnd, xcI_rI, xcV_rV, xcR_rR, zb0, zb1, nz0, nz1, nar_z0, nar_z1, nar_b2, ↓reduceIte, T_cell_z, ald19, ast19, ald20, ast20, ald21, ast21, ald22, ast22, ald25, ast25, ald26, ast26]
    refine ok_ite (fun c2 => ?_) fun c2 => ?_
    · refine hend fun q hq => ?_
      have := hs q (d - 1) (by omega) (by omega)
      -- f q ≤ f (d-1) ≤ x
      have r2 := hfr q (by omega)
      have a1 : (f q).1 * (f (d - 1)).2 * y ≤ (f (d - 1)).1 * (f q).2 * y := Int.mul_le_mul_of_nonneg_right this (by omega)
      have a2 : (f (d - 1)).1 * y * (f q).2 ≤ x * (f (d - 1)).2 * (f q).2 := Int.mul_le_mul_of_nonneg_right c2 (by omega)
      have a3 : (f (d - 1)).1 * (f q).2 * y = (f (d - 1)).1 * y * (f q).2 := by rw [Int.mul_assoc, Int.mul_comm (f q).2, ← Int.mul_assoc]
      have a4 : (f q).1 * (f (d - 1)).2 * y = (f q).1 * y * (f (d - 1)).2 := by rw [Int.mul_assoc, Int.mul_comm (f (d - 1)).2, ← Int.mul_assoc]
      have a5 : x * (f (d - 1)).2 * (f q).2 = x * (f q).2 * (f (d - 1)).2 := by rw [Int.mul_assoc, Int.mul_comm (f (d - 1)).2, ← Int.mul_assoc]
      exact Int.le_of_mul_le_mul_right (show (f q).1 * y * (f (d - 1)).2 ≤ x * (f q).2 * (f (d - 1)).2 by omega) (by omega)
    · have e3 : (tA s1 21 d (z (f (d - 1)).1)).2 22 (d - 1) = z (f (d - 1)).2 := (congrFun (tA_oj (by decide)) _).trans g1.2
      simp (disch := omega) only [z_add, z_sub, z_mul, z_neg, zlt, zle, zeq, zne, l0, l1, l2, l3, l4, l5, l6, l7, l8, l9, l10, l11, l16, l17, l20, l24, l32, l37, l47, l57, l60, l67, l77, l97, l99, l122, l48, l57, l100, l237, l397, l600, l900, l880, l9998, l9999, bnd, xcI_rI, xcV_rV, xcR_rR, zb0, zb1, nz0, nz1, nar_z0, nar_z1, nar_b2, ↓reduceIte, T_cell_z, ald19, ast19, ald20, ast20, ald21, ast21, ald22, ast22, ald25, ast25, ald26, ast26, e1, e3, Int.toNat_natCast]
      refine hk (d - 1) _ (by omega) ⟨d - 1, _, by rw [show ((d : Int) + -1) = ((d - 1 : Nat) : Int) by omega], rfl, by omega, h2.trans (TQ.a21.trans TQ.a22), ?_, ?_⟩
      · refine ⟨fun q hq => ?_, fun q q1 q2 => ?_⟩
        · have := h3.1 q (by omega)
          exact ⟨(congrFun (tA_oj (by decide)) q).trans ((tA_oi (by omega)).trans this.1), (tA_oi (by omega)).trans ((congrFun (tA_oj (by decide)) q).trans this.2)⟩
        · by_cases e : q = d
          · subst e
            exact ⟨(congrFun (tA_oj (by decide)) _).trans tA_self, tA_self⟩
          · have := h3.2 q (by omega) q2
            exact ⟨(congrFun (tA_oj (by decide)) q).trans ((tA_oi e).trans this.1), (tA_oi e).trans ((congrFun (tA_oj (by decide)) q).trans this.2)⟩
      · intro q q1 q2
        by_cases e : q = d - 1
        · rw [e]; omega
        · exact h4 q (by omega) q2

theorem T_paces_z {R : Nat → Int} {s : TS} (hR : TRep s R) (hV : RV R) {a : Int} (ha : 0 ≤ a) (ha' : a < R 1) : ∃ s', T_paces s (z a) = rI (z (b2 (1 ≤ pAll R a pT))) s' ∧ TQ s s' ∧ (1 ≤ pAll R a pT → ∃ x y, isPace R a x y ∧ s'.1 23 = z x ∧ s'.1 24 = z y) := by
  have h1 := hV.nR
  have h0 := hV.nC
  have hcr := hV.crs ha ha'
  have hl := hV.len hcr.1 hcr.2
  apply ok_pu
  unfold T_paces
  simp (disch := omega) only [z_add, z_sub, z_mul, z_neg, zlt, zle, zeq, zne, l0, l1, l2, l3, l4, l5, l6, l7, l8, l9, l10, l11, l16, l17, l20, l24, l32, l37, l47, l57, l60, l67, l77, l97, l99, l122, l48, l57, l100, l237, l397, l600, l900, l880, l9998, l9999, bnd, xcI_rI, xcV_rV, xcR_rR, zb0, zb1, nz0, nz1, nar_z0, nar_z1, nar_b2, ↓reduceIte, T_cell_z, ald19, ast19, ald20, ast20, ald21, ast21, ald22, ast22, ald25, ast25, ald26, ast26, (ald_nC hR), (ald_nR hR), (ald_gap hR), (ald_slk hR), (ald_len hR), (ald_crs hR), (ald_st hR), (ald_fi hR), (ald_np hR), (codeOf_z hR), (pCode_z hR), (pTime_z hR), (total_z hR), (isC_z hR), (isR_z hR)]
  refine ok_lpn (fun d p => ∃ (i : Nat) (s1 : TS) (f : Nat → Int × Int), p = (z a, z (rCrs R a), z ((pcnt R a pT i : Nat)), z i, s1) ∧ d = (rLen R (rCrs R a) + 1).toNat - i ∧ (i : Int) ≤ rLen R (rCrs R a) + 1 ∧ TQ s s1 ∧ PF s1 f (pcnt R a pT i) ∧ srtF f (pcnt R a pT i) ∧ ∀ pr, cntI pr f (pcnt R a pT i) = pcnt R a pr i) ?_ FU _ _ ⟨0, s, fun _ => (0, 1), rfl, rfl, by omega, TQ.rf, fun q hq => absurd hq (by show ¬ q < 0; omega), fun i j _ hj => absurd hj (by show ¬ j < 0; omega), fun _ => rfl⟩ (by simp only [FU]; omega)
  rintro kk d p ⟨i, s1, f, rfl, rfl, g1, g2, g3, g4, g5⟩ hk
  have hR1 := g2.rep hR
  have hb := pcnt_bound (R := R) (a := a) (p := pT) i
  simp (disch := omega) only [T_paces_15F, T_paces_55, T_paces_156, z_add, z_sub, z_mul, z_neg, zlt, zle, zeq, zne, l0, l1, l2, l3, l4, l5, l6, l7, l8, l9, l10, l11, l16, l17, l20, l24, l32, l37, l47, l57, l60, l67, l77, l97, l99, l122, l48, l57, l100, l237, l397, l600, l900, l880, l9998, l9999, bnd, xcI_rI, xcV_rV, xcR_rR, zb0, zb1, nz0, nz1, nar_z0, nar_z1, nar_b2, ↓reduceIte, T_cell_z, ald19, ast19, ald20, ast20, ald21, ast21, ald22, ast22, ald25, ast25, ald26, ast26, (ald_nC hR1), (ald_nR hR1), (ald_gap hR1), (ald_slk hR1), (ald_len hR1), (ald_crs hR1), (ald_st hR1), (ald_fi hR1), (ald_np hR1), (codeOf_z hR1), (pCode_z hR1), (pTime_z hR1), (total_z hR1), (isC_z hR1), (isR_z hR1)]
  refine ok_ite (fun c1 => ?_) fun c1 => ?_
  · have hi : i = (rLen R (rCrs R a) + 1).toNat := by omega
    subst hi
    have hN : pcnt R a pT (rLen R (rCrs R a) + 1).toNat = pAll R a pT := rfl
    have hpr : ∀ pr, cntI pr f (pAll R a pT) = pAll R a pr := fun pr => g5 pr
    rw [hN] at g3 g4 hb ⊢
    by_cases c2 : pAll R a pT = 0
    · refine ok_pos (by omega) ?_
      refine ok_rI.mpr ⟨by rw [b2_f (by omega)], g2, fun h => by omega⟩
    · refine ok_neg (by omega) ?_
      have hdv : (z ((pAll R a pT : Nat) : Int) - z 1) / z 2 = z (((pAll R a pT - 1) / 2 : Nat)) := by
        have : ∀ q : Fin 17, 1 ≤ q.1 → (z ((q.1 : Nat) : Int) - z 1) / z 2 = z (((q.1 - 1) / 2 : Nat)) := by decide +kernel
        exact this ⟨pAll R a pT, by omega⟩ (show 1 ≤ pAll R a pT by omega)
      rw [z_sub] at hdv
      have gm := g3 ((pAll R a pT - 1) / 2) (by omega)
      refine ok_neg (by decide) ?_
      rw [hdv]
      have e4 : (tI s1 23 (z (f ((pAll R a pT - 1) / 2)).1)).2 22 ((pAll R a pT - 1) / 2) = z (f ((pAll R a pT - 1) / 2)).2 := gm.1.2
      simp (disch := omega) only [z_add, z_sub, z_mul, z_neg, zlt, zle, zeq, zne, l0, l1, l2, l3, l4, l5, l6, l7, l8, l9, l10, l11, l16, l17, l20, l24, l32, l37, l47, l57, l60, l67, l77, l97, l99, l122, l48, l57, l100, l237, l397, l600, l900, l880, l9998, l9999, bnd, xcI_rI, xcV_rV, xcR_rR, zb0, zb1, nz0, nz1, nar_z0, nar_z1, nar_b2, ↓reduceIte, T_cell_z, ald19, ast19, ald20, ast20, ald21, ast21, ald22, ast22, ald25, ast25, ald26, ast26, Int.toNat_natCast, gm.1.1, e4]
      refine ok_neg (by decide) ?_
      refine ok_rI.mpr ⟨by rw [b2_t (by omega)], g2.trans ((TQ.fi (Or.inl rfl)).trans (TQ.fi (Or.inr (Or.inl rfl)))), fun _ => ⟨(f ((pAll R a pT - 1) / 2)).1, (f ((pAll R a pT - 1) / 2)).2, ⟨gm.2, by omega, ?_, ?_⟩, ?_, ?_⟩⟩
      · rw [← hpr]
        exact cntI_up_n g4 (fun i h1 h2 hp => by
          have := g4 ((pAll R a pT - 1) / 2) i h1 h2
          have := of_decide_eq_true hp
          omega)
      · rw [← hpr (pLe (f ((pAll R a pT - 1) / 2)).1 (f ((pAll R a pT - 1) / 2)).2)]
        exact cntI_lo (pr := pLe (f ((pAll R a pT - 1) / 2)).1 (f ((pAll R a pT - 1) / 2)).2) (f := f) (m := (pAll R a pT - 1) / 2 + 1) (fun i hi => decide_eq_true (g4 i ((pAll R a pT - 1) / 2) (by omega) (by omega))) (pAll R a pT) (by omega)
      · unfold tI; rfl
      · unfold tI; rfl
  · obtain ⟨s2, e2, t2⟩ := lg_z hR1 hV ha ha' (i := i) (by omega) (by omega)
    have hR2 := t2.rep hR1
    have hr := rLg_rg hV ha ha' (i := i) (by omega) (by omega)
    have hrb := rBL_rg hV (c := rCrs R a) (i := i) (by omega) (by omega)
    obtain ⟨s3, e3, t3⟩ := bestLeg_z hR2 hV hcr.1 hcr.2 (i := i) (by omega) (by omega)
    have hPF : ∀ s', TM s1 s' → PF s' f (pcnt R a pT i) := fun s' ht q hq => by
      rw [ht.2 21 (by decide) (by decide), ht.2 22 (by decide) (by decide)]
      exact g3 q hq
    have hskip : ¬ (rLg R a i ≠ -2 ∧ 0 < rBL R (rCrs R a) i) → ∀ pr, pcnt R a pr (i + 1) = pcnt R a pr i := fun hn pr => by
      rw [pcnt, if_neg (fun e => hn e.1), Nat.add_zero]
    have hst0 : ¬ (rLg R a i ≠ -2 ∧ 0 < rBL R (rCrs R a) i) → ∀ s', TM s1 s' → OK (kk (z a, z (rCrs R a), z ((pcnt R a pT i : Nat)), z ((i : Int) + 1), s')) _ := fun hn s' ht => hk _ _ (by omega) ⟨i + 1, s', f, by rw [hskip hn pT]; rfl, rfl, by omega, g2.trans ht.q, by rw [hskip hn pT]; exact hPF s' ht, by rw [hskip hn pT]; exact g4, fun pr => by rw [hskip hn pT, hskip hn pr]; exact g5 pr⟩
    simp (disch := omega) only [e2, z_add, z_sub, z_mul, z_neg, zlt, zle, zeq, zne, l0, l1, l2, l3, l4, l5, l6, l7, l8, l9, l10, l11, l16, l17, l20, l24, l32, l37, l47, l57, l60, l67, l77, l97, l99, l122, l48, l57, l100, l237, l397, l600, l900, l880, l9998, l9999, bnd, xcI_rI, xcV_rV, xcR_rR, zb0, zb1, nz0, nz1, nar_z0, nar_z1, nar_b2, ↓reduceIte, T_cell_z, ald19, ast19, ald20, ast20, ald21, ast21, ald22, ast22, ald25, ast25, ald26, ast26]
    refine ok_ite (fun c2 => ?_) fun c2 => ?_
    · exact hst0 (fun e => e.1 c2) s2 t2
    · simp (disch := omega) only [e3, z_add, z_sub, z_mul, z_neg, zlt, zle, zeq, zne, l0, l1, l2, l3, l4, l5, l6, l7, l8, l9, l10, l11, l16, l17, l20, l24, l32, l37, l47, l57, l60, l67, l77, l97, l99, l122, l48, l57, l100, l237, l397, l600, l900, l880, l9998, l9999, bnd, xcI_rI, xcV_rV, xcR_rR, zb0, zb1, nz0, nz1, nar_z0, nar_z1, nar_b2, ↓reduceIte, T_cell_z, ald19, ast19, ald20, ast20, ald21, ast21, ald22, ast22, ald25, ast25, ald26, ast26]
      refine ok_ite (fun c3 => ?_) fun c3 => ?_
      · exact hst0 (fun e => by omega) s3 (t2.trans t3)
      · have hpc : ∀ pr, pcnt R a pr (i + 1) = pcnt R a pr i + (if pr (rLg R a i) (rBL R (rCrs R a) i) = true then 1 else 0) := by
          intro pr
          rw [pcnt]
          congr 1
          by_cases e : pr (rLg R a i) (rBL R (rCrs R a) i) = true
          · rw [if_pos ⟨⟨c2, by omega⟩, e⟩, if_pos e]
          · rw [if_neg (fun h => e h.2), if_neg e]
        have hpT : pcnt R a pT (i + 1) = pcnt R a pT i + 1 := hpc pT
        refine T_ins (by omega) (by omega) (by omega) (hPF s3 (t2.trans t3)) g4 fun s' k k1 k2 k3 k4 => hk _ _ (by omega) ⟨i + 1, s', _, by rw [hpT]; rfl, rfl, by omega, g2.trans ((t2.trans t3).q.trans k2), by rw [hpT]; exact k3, by rw [hpT]; exact k4, fun pr => ?_⟩
        rw [hpT, cntI_ins k1, g5, hpc]

theorem dueBy_z {s : TS} {x y b : Int} (h1 : s.1 23 = z x) (h2 : s.1 24 = z y) (hx : 0 ≤ x ∧ x ≤ 9999) (hy : 1 ≤ y ∧ y ≤ 9999) (hb : 0 ≤ b ∧ b ≤ 9999) : T_dueBy s (z b) = rI (z (due x y b)) s := by
  have m1 := mul_rg hx hb
  have zdiv : ∀ {p q : Int}, 0 ≤ p → p < 2147483648 → 1 ≤ q → q < 2147483648 → z p / z q = z (p / q) := by
    intro p q p0 p1 q0 q1
    have d0 : 0 ≤ p / q := Int.ediv_nonneg p0 (by omega)
    have d1 : p / q ≤ p := Int.ediv_le_self _ p0
    apply Int32.toInt_inj.mp
    rw [Int32.toInt_div, zint (by omega) (by omega), zint (by omega) (by omega), zint (by omega) (by omega), Int.tdiv_eq_ediv_of_nonneg p0]
    exact Int.bmod_eq_of_le (by have : (2 ^ 32 : Int) = 4294967296 := rfl; omega) (by have : (2 ^ 32 : Int) = 4294967296 := rfl; omega)
  have d0 : 0 ≤ x * b / y := Int.ediv_nonneg m1.1 (by omega)
  have d1 : x * b / y ≤ x * b := Int.ediv_le_self _ m1.1
  have e1 := Int.emod_add_mul_ediv (x * b) y
  have e2 := Int.emod_nonneg (x * b) (b := y) (by omega)
  have e3 := Int.emod_lt_of_pos (x * b) (b := y) (by omega)
  have e4 : x * b - x * b / y * y = x * b % y := by rw [Int.mul_comm (x * b / y) y]; omega
  have hy0 : ¬ y = 0 := by omega
  have hdue : due x y b = if 2 * (x * b % y) ≤ y then x * b / y else x * b / y + 1 := by
    unfold due
    have e5 : 2 * x * b + y - 1 = (2 * (x * b % y) + y - 1) + (2 * y) * (x * b / y) := by
      rw [Int.mul_assoc 2 x b, Int.mul_assoc 2 y]
      omega
    rw [e5, Int.add_mul_ediv_left _ _ (by omega)]
    split
    · rw [Int.ediv_eq_zero_of_lt (by omega) (by omega)]; omega
    · have : (2 * (x * b % y) + y - 1) / (2 * y) = 1 := by
        have e6 : 2 * (x * b % y) + y - 1 = (2 * (x * b % y) - y - 1) + (2 * y) * 1 := by omega
        rw [e6, Int.add_mul_ediv_left _ _ (by omega), Int.ediv_eq_zero_of_lt (by omega) (by omega)]
        omega
      rw [this]; omega
  rw [hdue]
  simp (disch := omega) only [T_dueBy, h1, h2, z_add, z_sub, z_mul, z_neg, zlt, zle, zeq, zne, l0, l1, l2, l3, l4, l5, l6, l7, l8, l9, l10, l11, l16, l17, l20, l24, l32, l37, l47, l57, l60, l67, l77, l97, l99, l122, l48, l57, l100, l237, l397, l600, l900, l880, l9998, l9999, bnd, xcI_rI, xcV_rV, xcR_rR, zb0, zb1, nz0, nz1, nar_z0, nar_z1, nar_b2, ↓reduceIte, zdiv, hy0, e4]
  split <;> rfl
theorem mistakeOf_z {R : Nat → Int} {s : TS} (hR : TRep s R) (hV : RV R) {a i : Int} (ha : 0 ≤ a) (ha' : a < R 1) (hi : 0 ≤ i) (hi' : i ≤ rLen R (rCrs R a)) : ∃ s', T_mistakeOf s (z a) (z i) = rI (z (rMk R a i)) s' ∧ TQ s s' := by
  have h1 := hV.nR
  have h0 := hV.nC
  have hs := hV.slk
  have hcr := hV.crs ha ha'
  have hl := hV.len hcr.1 hcr.2
  have hr := rLg_rg hV ha ha' hi hi'
  have hrb := rBL_rg hV (c := rCrs R a) hi hi'
  obtain ⟨s2, e2, t2⟩ := lg_z hR hV ha ha' hi hi'
  have hR2 := t2.rep hR
  obtain ⟨s3, e3, t3⟩ := bestLeg_z hR2 hV hcr.1 hcr.2 hi hi'
  have hR3 := t3.rep hR2
  obtain ⟨s4, e4, t4, hp4⟩ := T_paces_z hR3 hV ha ha'
  apply ok_pu
  simp (disch := omega) only [T_mistakeOf, T_mistakeOf_31, z_add, z_sub, z_mul, z_neg, zlt, zle, zeq, zne, l0, l1, l2, l3, l4, l5, l6, l7, l8, l9, l10, l11, l16, l17, l20, l24, l32, l37, l47, l57, l60, l67, l77, l97, l99, l122, l48, l57, l100, l237, l397, l600, l900, l880, l9998, l9999, bnd, xcI_rI, xcV_rV, xcR_rR, zb0, zb1, nz0, nz1, nar_z0, nar_z1, nar_b2, ↓reduceIte, T_cell_z, ald19, ast19, ald20, ast20, ald21, ast21, ald22, ast22, ald25, ast25, ald26, ast26, e2]
  refine ok_ite (fun c1 => ?_) fun c1 => ?_
  · refine ok_pos (by decide) ?_
    exact ok_rI.mpr ⟨by unfold rMk; rw [if_pos (Or.inl c1)], t2.q⟩
  · simp (disch := omega) only [z_add, z_sub, z_mul, z_neg, zlt, zle, zeq, zne, l0, l1, l2, l3, l4, l5, l6, l7, l8, l9, l10, l11, l16, l17, l20, l24, l32, l37, l47, l57, l60, l67, l77, l97, l99, l122, l48, l57, l100, l237, l397, l600, l900, l880, l9998, l9999, bnd, xcI_rI, xcV_rV, xcR_rR, zb0, zb1, nz0, nz1, nar_z0, nar_z1, nar_b2, ↓reduceIte, T_cell_z, ald19, ast19, ald20, ast20, ald21, ast21, ald22, ast22, ald25, ast25, ald26, ast26, (ald_nC hR2), (ald_nR hR2), (ald_gap hR2), (ald_slk hR2), (ald_len hR2), (ald_crs hR2), (ald_st hR2), (ald_fi hR2), (ald_np hR2), (codeOf_z hR2), (pCode_z hR2), (pTime_z hR2), (total_z hR2), (isC_z hR2), (isR_z hR2), e3]
    refine ok_ite (fun c2 => ?_) fun c2 => ?_
    · exact ok_rI.mpr ⟨by unfold rMk; rw [if_pos (Or.inr c2)], (t2.trans t3).q⟩
    · have hN : 1 ≤ pAll R a pT := by
        by_cases hN : 1 ≤ pAll R a pT
        · exact hN
        · have := pcnt_0 (R := R) (a := a) (n := (rLen R (rCrs R a) + 1).toNat) (by unfold pAll at hN; omega) i.toNat (by omega)
          rw [show ((i.toNat : Nat) : Int) = i by omega] at this
          exact absurd ⟨c1, by omega⟩ this
      obtain ⟨x, y, hxy, f1, f2⟩ := hp4 hN
      have hR4 := t4.rep hR3
      have hd := due_rg hxy.1.1 hxy.1.2 (b := rBL R (rCrs R a) i) (by omega)
      have e5 := dueBy_z f1 f2 hxy.1.1 hxy.1.2 (b := rBL R (rCrs R a) i) (by omega)
      simp (disch := omega) only [e4, z_add, z_sub, z_mul, z_neg, zlt, zle, zeq, zne, l0, l1, l2, l3, l4, l5, l6, l7, l8, l9, l10, l11, l16, l17, l20, l24, l32, l37, l47, l57, l60, l67, l77, l97, l99, l122, l48, l57, l100, l237, l397, l600, l900, l880, l9998, l9999, bnd, xcI_rI, xcV_rV, xcR_rR, zb0, zb1, nz0, nz1, nar_z0, nar_z1, nar_b2, ↓reduceIte, T_cell_z, ald19, ast19, ald20, ast20, ald21, ast21, ald22, ast22, ald25, ast25, ald26, ast26]
      refine ok_neg (fun h => h hN) ?_
      simp (disch := omega) only [e5, z_add, z_sub, z_mul, z_neg, zlt, zle, zeq, zne, l0, l1, l2, l3, l4, l5, l6, l7, l8, l9, l10, l11, l16, l17, l20, l24, l32, l37, l47, l57, l60, l67, l77, l97, l99, l122, l48, l57, l100, l237, l397, l600, l900, l880, l9998, l9999, bnd, xcI_rI, xcV_rV, xcR_rR, zb0, zb1, nz0, nz1, nar_z0, nar_z1, nar_b2, ↓reduceIte, T_cell_z, ald19, ast19, ald20, ast20, ald21, ast21, ald22, ast22, ald25, ast25, ald26, ast26, (ald_nC hR4), (ald_nR hR4), (ald_gap hR4), (ald_slk hR4), (ald_len hR4), (ald_crs hR4), (ald_st hR4), (ald_fi hR4), (ald_np hR4), (codeOf_z hR4), (pCode_z hR4), (pTime_z hR4), (total_z hR4), (isC_z hR4), (isR_z hR4)]
      have hT := (t2.trans t3).q.trans t4
      have hne : ¬ (rLg R a i = -2 ∨ rBL R (rCrs R a) i ≤ 0) := fun e => e.elim c1 (by omega)
      have hun : rMk R a i = if rLg R a i - due x y (rBL R (rCrs R a) i) ≤ 0 ∨ rLg R a i - due x y (rBL R (rCrs R a) i) < R 3 then 0 else rLg R a i - due x y (rBL R (rCrs R a) i) := by
        unfold rMk
        rw [if_neg hne, due_px hxy]
      rw [hun]
      refine ok_ite (fun c3 => ?_) fun c3 => ?_
      · exact ok_rI.mpr ⟨by rw [if_pos (Or.inl c3)], hT⟩
      · refine ok_ite (fun c4 => ?_) fun c4 => ?_
        · exact ok_rI.mpr ⟨by rw [if_pos (Or.inr c4)], hT⟩
        · exact ok_rI.mpr ⟨by rw [if_neg (fun e => e.elim c3 c4)], hT⟩
theorem cleanOf_z {R : Nat → Int} {s : TS} (hR : TRep s R) (hV : RV R) {a : Int} (ha : 0 ≤ a) (ha' : a < R 1) : ∃ s', T_cleanOf s (z a) = rI (z (rCl R a)) s' ∧ TQ s s' := by
  have h1 := hV.nR
  have h0 := hV.nC
  have hcr := hV.crs ha ha'
  have hl := hV.len hcr.1 hcr.2
  apply ok_pu
  unfold rCl
  simp (disch := omega) only [T_cleanOf, z_add, z_sub, z_mul, z_neg, zlt, zle, zeq, zne, l0, l1, l2, l3, l4, l5, l6, l7, l8, l9, l10, l11, l16, l17, l20, l24, l32, l37, l47, l57, l60, l67, l77, l97, l99, l122, l48, l57, l100, l237, l397, l600, l900, l880, l9998, l9999, bnd, xcI_rI, xcV_rV, xcR_rR, zb0, zb1, nz0, nz1, nar_z0, nar_z1, nar_b2, ↓reduceIte, T_cell_z, ald19, ast19, ald20, ast20, ald21, ast21, ald22, ast22, ald25, ast25, ald26, ast26, (ald_nC hR), (ald_nR hR), (ald_gap hR), (ald_slk hR), (ald_len hR), (ald_crs hR), (ald_st hR), (ald_fi hR), (ald_np hR), (codeOf_z hR), (pCode_z hR), (pTime_z hR), (total_z hR), (isC_z hR), (isR_z hR)]
  refine ok_lpn (fun d p => ∃ (i : Nat) (s1 : TS), p = (z a, z (rTot R a - sumS (fun i => max 0 (rMk R a i)) i), z i, s1) ∧ d = (rLen R (rCrs R a) + 1).toNat - i ∧ (i : Int) ≤ rLen R (rCrs R a) + 1 ∧ TQ s s1) ?_ FU _ _ ⟨0, s, (by show (_, z (rFi R a - rSt R a), _, _) = (_, z (rTot R a - 0), _, _); rw [Int.sub_zero]; rfl), rfl, by omega, TQ.rf⟩ (by simp only [FU]; omega)
  rintro kk d p ⟨i, s1, rfl, rfl, g1, g2⟩ hk
  have hR1 := g2.rep hR
  simp (disch := omega) only [T_cleanOf_8F, T_cleanOf_48, z_add, z_sub, z_mul, z_neg, zlt, zle, zeq, zne, l0, l1, l2, l3, l4, l5, l6, l7, l8, l9, l10, l11, l16, l17, l20, l24, l32, l37, l47, l57, l60, l67, l77, l97, l99, l122, l48, l57, l100, l237, l397, l600, l900, l880, l9998, l9999, bnd, xcI_rI, xcV_rV, xcR_rR, zb0, zb1, nz0, nz1, nar_z0, nar_z1, nar_b2, ↓reduceIte, T_cell_z, ald19, ast19, ald20, ast20, ald21, ast21, ald22, ast22, ald25, ast25, ald26, ast26, (ald_nC hR1), (ald_nR hR1), (ald_gap hR1), (ald_slk hR1), (ald_len hR1), (ald_crs hR1), (ald_st hR1), (ald_fi hR1), (ald_np hR1), (codeOf_z hR1), (pCode_z hR1), (pTime_z hR1), (total_z hR1), (isC_z hR1), (isR_z hR1)]
  refine ok_ite (fun c1 => ?_) fun c1 => ?_
  · have hi : i = (rLen R (rCrs R a) + 1).toNat := by omega
    subst hi
    exact ok_rI.mpr ⟨rfl, g2⟩
  · obtain ⟨s2, e2, t2⟩ := mistakeOf_z hR1 hV ha ha' (i := i) (by omega) (by omega)
    have hmk := rMk_rg hV ha ha' (i := i) (by omega) (by omega)
    simp (disch := omega) only [e2, z_add, z_sub, z_mul, z_neg, zlt, zle, zeq, zne, l0, l1, l2, l3, l4, l5, l6, l7, l8, l9, l10, l11, l16, l17, l20, l24, l32, l37, l47, l57, l60, l67, l77, l97, l99, l122, l48, l57, l100, l237, l397, l600, l900, l880, l9998, l9999, bnd, xcI_rI, xcV_rV, xcR_rR, zb0, zb1, nz0, nz1, nar_z0, nar_z1, nar_b2, ↓reduceIte, T_cell_z, ald19, ast19, ald20, ast20, ald21, ast21, ald22, ast22, ald25, ast25, ald26, ast26]
    refine ok_ite (fun c2 => ?_) fun c2 => ?_
    · refine hk _ _ (by omega) ⟨i + 1, s2, ?_, rfl, by omega, g2.trans t2⟩
      rw [sumS, Int.max_eq_left c2, Int.add_zero, Int.sub_zero]
      rfl
    · refine hk _ _ (by omega) ⟨i + 1, s2, ?_, rfl, by omega, g2.trans t2⟩
      rw [sumS, Int.max_eq_right (by omega), ← Int.sub_sub]
      rfl

/-! THE COMPONENT's OBJECT: small methods -/
set_option maxRecDepth 100000
/-- trouble, where, tape, taped, fault, past -/
abbrev GX : Type := Int32 × Int32 × Nat × Int32 × Int32 × Nat
def CX (P : PH) (x : Nat) (g : GX) (mo : Option Nat) : Prop := P.1 x = some (true, oB 0 [.int g.1, .int g.2.1, .ref g.2.2.1, .int g.2.2.2.1, .int g.2.2.2.2.1, va_rf mo, .ref g.2.2.2.2.2])
def gx (g : GX) (w : Int32) : GX := (w, -1, g.2.2)
/-- a meet, if there is one -/
def MO (n : Nat) (P : PH) (mo : Option Nat) (cs rs : List Nat) (R : Nat → Int) (N : Nat → List Int32) : Prop := (mo = none ∧ R 0 = 0 ∧ R 1 = 0) ∨ ∃ m, mo = some m ∧ MRep n P m cs rs R N
def credO (P : PH) (mo : Option Nat) : Nat := match mo with
  | none => 0
  | some m => cred P m
/-- what a query of the component does -/
def QO (mo : Option Nat) (x k : Nat) (P P' : PH) : Prop := Fr P.2.1 (fun q => some q = mo ∨ q = x) P P' ∧ wt P' + credO P' mo ≤ wt P + credO P mo + k
theorem CX.fr {P P' : PH} {x : Nat} {g : GX} {mo : Option Nat} {W : Nat → Prop} (h : CX P x g mo) (hI : Iv P) (hf : Fr P.2.1 W P P') (hw : ¬ W x) : CX P' x g mo := hf.ob (hI.lt h) h hw
theorem CX.ne {n m x : Nat} {P : PH} {g : GX} {mo : Option Nat} {cs rs : List Nat} {R : Nat → Int} {N : Nat → List Int32} (hx : CX P x g mo) (h : MRep n P m cs rs R N) : x ≠ m := h.ne hx (by decide)
/-- after a query of the meet -/
theorem CX.qf {m x k : Nat} {P P' : PH} {g : GX} {mo : Option Nat} (hx : CX P x g mo) (hI : Iv P) (hne : x ≠ m) (hq : QF m k P P') : CX P' x g mo := hx.fr hI hq.1 hne
/-- the answer of a query -/
def Oq (n : Nat) (P : PH) (x : Nat) (g : GX) (mo : Option Nat) (cs rs : List Nat) (R : Nat → Int) (N : Nat → List Int32) (k : Nat) (K : Option (xO × PH)) (v w : Int) : Prop := ∃ P', K = rI (z v) P' ∧ CX P' x (gx g (z w)) mo ∧ MO n P' mo cs rs R N ∧ QO mo x k P P'
theorem ok_oq {n : Nat} {P : PH} {x : Nat} {g : GX} {mo : Option Nat} {cs rs : List Nat} {R : Nat → Int} {N : Nat → List Int32} {k : Nat} {K : Option (xO × PH)} {v w : Int} (h : OK K (fun o P' => o = some (.int (z v)) ∧ CX P' x (gx g (z w)) mo ∧ MO n P' mo cs rs R N ∧ QO mo x k P P')) : Oq n P x g mo cs rs R N k K v w := by
  obtain ⟨o, P', e, rfl, h1⟩ := h
  exact ⟨P', e, h1⟩
section
variable {n x : Nat} {P : PH} {g : GX} {mo : Option Nat} {cs rs : List Nat} {R : Nat → Int} {N : Nat → List Int32}
theorem X_isIn_z {P : PH} {a b c : Int} (ha : -2147483648 ≤ a ∧ a < 2147483648) (hb : -2147483648 ≤ b ∧ b < 2147483648) (hc : -2147483648 ≤ c ∧ c < 2147483648) : f_X1_isIn P (z a) (z b) (z c) = rI (z (b2 (b ≤ a ∧ a ≤ c))) P := by
  unfold f_X1_isIn
  simp only [nar_z0, nar_z1, ↓reduceIte]
  simp (disch := omega) only [zlt]
  by_cases h1 : a < b
  · rw [if_pos h1, b2, if_neg (by omega)]; rfl
  · rw [if_neg h1]
    by_cases h2 : c < a
    · rw [if_pos h2, b2, if_neg (by omega)]; rfl
    · rw [if_neg h2, b2, if_pos (by omega)]; rfl
theorem xup_cx {w w' : Int32} (hx : CX P x g mo) : CX (xup P x (oB 0 [.int w, .int w', .ref g.2.2.1, .int g.2.2.2.1, .int g.2.2.2.2.1, va_rf mo, .ref g.2.2.2.2.2])) x (w, w', g.2.2) mo := up_at
theorem Fr.cx {w w' : Int32} {n0 : Nat} {W : Nat → Prop} (hx : CX P x g mo) (hI : Iv P) (hW : W x) : Fr n0 W P (xup P x (oB 0 [.int w, .int w', .ref g.2.2.1, .int g.2.2.2.1, .int g.2.2.2.2.1, va_rf mo, .ref g.2.2.2.2.2])) :=
  Fr.upo hI hx rfl (fun b hb => by cases hb) fun _ => hW
theorem set_cx {v w : Int32} (hx : CX P x g mo) : f_X1_fine P x v = rI v (xup (xup P x (oB 0 [.int 0, .int g.2.1, .ref g.2.2.1, .int g.2.2.2.1, .int g.2.2.2.2.1, va_rf mo, .ref g.2.2.2.2.2])) x (oB 0 [.int 0, .int (-1), .ref g.2.2.1, .int g.2.2.2.1, .int g.2.2.2.2.1, va_rf mo, .ref g.2.2.2.2.2])) ∧ f_X1_refused P x w = rI (-1) (xup (xup P x (oB 0 [.int w, .int g.2.1, .ref g.2.2.1, .int g.2.2.2.1, .int g.2.2.2.2.1, va_rf mo, .ref g.2.2.2.2.2])) x (oB 0 [.int w, .int (-1), .ref g.2.2.1, .int g.2.2.2.1, .int g.2.2.2.2.1, va_rf mo, .ref g.2.2.2.2.2])) := by
  have hx : P.1 x = some (true, oB 0 [.int g.1, .int g.2.1, .ref g.2.2.1, .int g.2.2.2.1, .int g.2.2.2.2.1, va_rf mo, .ref g.2.2.2.2.2]) := hx
  unfold f_X1_fine f_X1_refused
  constructor
  · rw [xcl1_s hx, xpF_z hx (by simp), xpF_z up_at (by simp)]
    rfl
  · rw [xcl1_s hx, xpF_z hx (by simp), xpF_z up_at (by simp)]
    rfl
/-- the end of a query -/
theorem op_end {P P1 : PH} {k : Nat} {v w : Int} {K : Option (xO × PH)} (hx : CX P1 x g mo) (hI : Iv P) (hM : MO n P1 mo cs rs R N) (hq : QO mo x k P P1) (hK : (w = 0 ∧ K = f_X1_fine P1 x (z v)) ∨ (v = -1 ∧ K = f_X1_refused P1 x (z w))) : Oq n P x g mo cs rs R N k K v w := by
  have hI1 := hq.1.iv
  have key : ∃ P', K = rI (z v) P' ∧ CX P' x (gx g (z w)) mo ∧ Fr P1.2.1 (fun q => q = x) P1 P' ∧ wt P' = wt P1 := by
    rcases hK with ⟨rfl, rfl⟩ | ⟨rfl, rfl⟩
    · have f1 : Fr P1.2.1 (fun q => q = x) P1 _ := Fr.cx (w := 0) (w' := g.2.1) hx hI1 rfl
      exact ⟨_, (set_cx (w := 0) hx).1, up_at, f1.trans (Fr.cx (g := ((0 : Int32), g.2.1, g.2.2)) (w := 0) (w' := -1) (xup_cx hx) f1.iv rfl), rfl⟩
    · have f1 : Fr P1.2.1 (fun q => q = x) P1 _ := Fr.cx (w := z w) (w' := g.2.1) hx hI1 rfl
      exact ⟨_, (set_cx (v := 0) hx).2, up_at, f1.trans (Fr.cx (g := (z w, g.2.1, g.2.2)) (w := z w) (w' := -1) (xup_cx hx) f1.iv rfl), rfl⟩
  obtain ⟨P', e, hx', hf, hw⟩ := key
  have hf' : Fr P.2.1 (fun q => some q = mo ∨ q = x) P P' := Fr.call hI hq.1 hf fun a ha => Or.inl (Or.inr ha)
  refine ⟨P', e, hx', ?_, hf', ?_⟩
  · rcases hM with h | ⟨m, rfl, h⟩
    · exact Or.inl h
    · exact Or.inr ⟨m, rfl, h.fr hI1 hf (okW_1 hx (hx.ne h) (by decide) (Or.inr (Or.inl rfl)))⟩
  · have h2 := hq.2
    rcases hM with ⟨rfl, h⟩ | ⟨m, rfl, h⟩
    · simp only [credO] at *
      omega
    · have h3 := cred_fr h hI1 hf (okW_1 hx (hx.ne h) (by decide) (Or.inr (Or.inl rfl)))
      unfold credO at *
      simp only at *
      omega
theorem QO.rf (hI : Iv P) : QO mo x 0 P P := ⟨Fr.rf hI, Nat.le_refl _⟩
theorem QF.o {m k : Nat} {P' : PH} (h : QF m k P P') : QO (some m) x k P P' := ⟨h.1.mono fun a ha => Or.inl (congrArg some ha), h.2⟩
/-- refused at once -/
theorem op_no {w : Int} {k : Nat} (hx : CX P x g mo) (hI : Iv P) (hM : MO n P mo cs rs R N) : Oq n P x g mo cs rs R N k (xcI (f_X1_refused P x (z w)) fun a b => rI a b) (-1) w := by
  obtain ⟨P', e, h1, h2, h3⟩ := op_end hx hI hM (QO.rf hI) (Or.inr ⟨rfl, rfl⟩) (w := w)
  exact ⟨P', by rw [e, xcI_rI], h1, h2, h3.1, by have := h3.2; omega⟩
/-- .. answered after a query of the meet -/
theorem op_yes {m k : Nat} {v : Int} {P1 : PH} (hx : CX P x g (some m)) (hI : Iv P) (hM : MRep n P1 m cs rs R N) (hq : QF m k P P1) (hne : x ≠ m) : Oq n P x g (some m) cs rs R N k (xcI (f_X1_fine P1 x (z v)) fun a b => rI a b) v 0 := by
  obtain ⟨P', e, h1⟩ := op_end (v := v) (w := 0) (hx.qf hI hne hq) hI (Or.inr ⟨m, rfl, hM⟩) hq.o (Or.inl ⟨rfl, rfl⟩)
  exact ⟨P', by rw [e, xcI_rI], h1⟩
theorem op_rf {m k : Nat} {w : Int} {P1 : PH} (hx : CX P x g (some m)) (hI : Iv P) (hM : MRep n P1 m cs rs R N) (hq : QF m k P P1) (hne : x ≠ m) : Oq n P x g (some m) cs rs R N k (xcI (f_X1_refused P1 x (z w)) fun a b => rI a b) (-1) w := by
  obtain ⟨P', e, h1⟩ := op_end (w := w) (hx.qf hI hne hq) hI (Or.inr ⟨m, rfl, hM⟩) hq.o (Or.inr ⟨rfl, rfl⟩)
  exact ⟨P', by rw [e, xcI_rI], h1⟩
/-- an OK of the end -/
theorem Oq.ok {k : Nat} {K : Option (xO × PH)} {v w : Int} (h : Oq n P x g mo cs rs R N k K v w) : OK K (fun o P' => o = some (.int (z v)) ∧ CX P' x (gx g (z w)) mo ∧ MO n P' mo cs rs R N ∧ QO mo x k P P') := by
  obtain ⟨P', e, h1⟩ := h
  exact ⟨_, P', e, rfl, h1⟩
theorem Oq.mono {k k' : Nat} {K : Option (xO × PH)} {v w : Int} (h : Oq n P x g mo cs rs R N k K v w) (hk : k ≤ k') : Oq n P x g mo cs rs R N k' K v w := by
  obtain ⟨P', e, h1, h2, h3⟩ := h
  exact ⟨P', e, h1, h2, h3.1, by have := h3.2; omega⟩
theorem CX.cl (hx : CX P x g mo) {α : Type} {K : Option α} : xcl1 P x 0 K = K := xcl1_s hx
theorem CX.gm (hx : CX P x g mo) {α : Type} {K : Option Nat → Option α} : xgR P x 0 5 K = K mo := xgR_v (k := 5) hx rfl
theorem X_isCourse (hx : CX P x g mo) (hM : MO n P mo cs rs R N) (hV : RV R) {a : Int} (ha : -2147483648 ≤ a ∧ a < 2147483648) : f_X1_isCourse P x (z a) = rI (z (b2 (0 ≤ a ∧ a < R 0))) P := by
  have h0 := hV.nC
  unfold f_X1_isCourse
  rw [hx.cl, hx.gm]
  rcases hM with ⟨rfl, h1, h2⟩ | ⟨m, rfl, hM⟩
  · rw [xnul_n, if_pos nar_z0, b2, if_neg (by omega)]; rfl
  · obtain ⟨cl, rl, mo, hcm, hcz, hrz, hcg, hrg⟩ := hM.at
    rw [xnul_s, hx.gm]
    simp (disch := omega) only [z_add, z_sub, z_mul, z_neg, zlt, zle, zeq, zne, l0, l1, l2, l3, l4, l5, l6, l7, l8, l9, l10, l11, l16, l17, l20, l24, l32, l37, l47, l57, l60, l67, l77, l97, l99, l122, l48, l57, l100, l237, l397, l600, l900, l880, l9998, l9999, bnd, xcI_rI, xcV_rV, xcR_rR, zb0, zb1, nz0, nz1, nar_z0, nar_z1, nar_b2, ↓reduceIte, ↓xnul_s, ↓xnul_n, xcst_n, List.set_cons_zero, List.set_cons_succ, ↓xcl1_s hcm, ↓xgR_s (k := 0) hcm rfl, ↓xgR_s (k := 1) hcm rfl, ↓xgI_s (k := 2) hcm rfl, ↓xgI_s (k := 3) hcm rfl, hcz, X_isIn_z]
    by_cases c : 0 ≤ a ∧ a ≤ R 0 - 1
    · rw [if_neg (fun h => h c), b2, if_pos (by omega)]
    · rw [if_pos c, b2, if_neg (by omega)]
theorem X_isRunner (hx : CX P x g mo) (hM : MO n P mo cs rs R N) (hV : RV R) {a : Int} (ha : -2147483648 ≤ a ∧ a < 2147483648) : f_X1_isRunner P x (z a) = rI (z (b2 (0 ≤ a ∧ a < R 1))) P := by
  have h0 := hV.nR
  unfold f_X1_isRunner
  rw [hx.cl, hx.gm]
  rcases hM with ⟨rfl, h1, h2⟩ | ⟨m, rfl, hM⟩
  · rw [xnul_n, if_pos nar_z0, b2, if_neg (by omega)]; rfl
  · obtain ⟨cl, rl, mo, hcm, hcz, hrz, hcg, hrg⟩ := hM.at
    rw [xnul_s, hx.gm]
    simp (disch := omega) only [z_add, z_sub, z_mul, z_neg, zlt, zle, zeq, zne, l0, l1, l2, l3, l4, l5, l6, l7, l8, l9, l10, l11, l16, l17, l20, l24, l32, l37, l47, l57, l60, l67, l77, l97, l99, l122, l48, l57, l100, l237, l397, l600, l900, l880, l9998, l9999, bnd, xcI_rI, xcV_rV, xcR_rR, zb0, zb1, nz0, nz1, nar_z0, nar_z1, nar_b2, ↓reduceIte, ↓xnul_s, ↓xnul_n, xcst_n, List.set_cons_zero, List.set_cons_succ, ↓xcl1_s hcm, ↓xgR_s (k := 0) hcm rfl, ↓xgR_s (k := 1) hcm rfl, ↓xgI_s (k := 2) hcm rfl, ↓xgI_s (k := 3) hcm rfl, hrz, X_isIn_z]
    by_cases c : 0 ≤ a ∧ a ≤ R 1 - 1
    · rw [if_neg (fun h => h c), b2, if_pos (by omega)]
    · rw [if_pos c, b2, if_neg (by omega)]
/-- there is a meet where there is a course or a runner -/
theorem MO.get (hM : MO n P mo cs rs R N) (h : 0 < R 0 ∨ 0 < R 1) : ∃ m, mo = some m ∧ MRep n P m cs rs R N := by
  rcases hM with ⟨rfl, h1, h2⟩ | h1
  · omega
  · exact h1
end

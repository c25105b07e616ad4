/-! A MEET IN THE HEAP -/
set_option maxRecDepth 100000
/-- nothing of W touches what lies in a meet whose parts lie ahead of n -/
def okV (n : Nat) (P : PH) (W : Nat → Prop) : Prop := ∀ a, W a → (∀ w x, P.1 a ≠ some (w, .inl x)) ∧ (∀ w fs, P.1 a ≠ some (w, oB 8 fs)) ∧ (n ≤ a ∨ ∀ w c fs, P.1 a = some (w, oB c fs) → c = 0 ∨ c = 3 ∨ c = 13)
/-- .. nor the meet m itself -/
def okW (n : Nat) (P : PH) (m : Nat) (W : Nat → Prop) : Prop := okV n P W ∧ ¬ W m
theorem okV.na {n : Nat} {P : PH} {W : Nat → Prop} (h : okV n P W) : noAr P W := fun b hb w t k f e => (h b hb).1 w _ e
theorem okV.ob {n : Nat} {P : PH} {W : Nat → Prop} (h : okV n P W) {a c : Nat} {w : Bool} {fs : List Value} (hc : P.1 a = some (w, oB c fs)) (hn : a < n) (h' : ¬ (c = 0 ∨ c = 3 ∨ c = 13)) : ¬ W a := fun hw => (h a hw).2.2.elim (fun h => by omega) fun h => h' (h w c fs hc)
theorem okV.o8 {n : Nat} {P : PH} {W : Nat → Prop} (h : okV n P W) {a : Nat} {w : Bool} {fs : List Value} (hc : P.1 a = some (w, oB 8 fs)) : ¬ W a := fun hw => (h a hw).2.1 w fs hc
theorem okV.ar {n : Nat} {P : PH} {W : Nat → Prop} (h : okV n P W) {a : Nat} {w : Bool} {x : _} (hc : P.1 a = some (w, .inl x)) : ¬ W a := fun hw => (h a hw).1 w x hc
theorem okV_0 {n : Nat} {P : PH} : okV n P W0 := fun _ h => h.elim
theorem okW_0 {n m : Nat} {P : PH} : okW n P m W0 := ⟨okV_0, fun h => h⟩
theorem okV_1 {n x c : Nat} {P : PH} {w : Bool} {fs : List Value} (hc : P.1 x = some (w, oB c fs)) (h2 : c ≠ 8) (h3 : n ≤ x ∨ (c = 0 ∨ c = 3 ∨ c = 13)) : okV n P (fun q => q = x) := fun a ha => by
  subst ha
  refine ⟨fun w x e => ?_, fun w fs e => ?_, h3.imp id fun h w' c' fs' e => ?_⟩
  · rw [hc] at e; cases e
  · rw [hc] at e; cases e; exact h2 rfl
  · rw [hc] at e; cases e; exact h
theorem okW_1 {n m x c : Nat} {P : PH} {w : Bool} {fs : List Value} (hc : P.1 x = some (w, oB c fs)) (h1 : x ≠ m) (h2 : c ≠ 8) (h3 : n ≤ x ∨ (c = 0 ∨ c = 3 ∨ c = 13)) : okW n P m (fun q => q = x) := ⟨okV_1 hc h2 h3, fun e => h1 e.symm⟩
def IB (P : PH) (x : Nat) (v : Int) : Prop := ∃ w, P.1 x = some (w, oB 18 [.int (z v)])
/-- a text -/
def STR (n : Nat) (P : PH) (s : Nat) (l : List Int32) : Prop := ∃ b fs f, s < n ∧ P.1 s = some (true, oB 16 (.ref b :: .int (z 0) :: fs)) ∧ P.1 b = some (true, .inl (2, l.length, .inl f)) ∧ ∀ i (h : i < l.length), f i = l[i]
def CRep (n : Nat) (P : PH) (x : Nat) (R : Nat → Int) (c : Int) (nm : List Int32) : Prop := ∃ s cl is, x < n ∧ P.1 x = some (true, oB 5 [.ref s, .ref cl]) ∧ (cl < n ∧ PLs P cl is) ∧ (is.length : Int) = rLen R c ∧ (∀ (i y : Nat), is[i]? = some y → y < n ∧ IB P y (rCode R c i)) ∧ STR n P s nm
def RRep (n : Nat) (P : PH) (x : Nat) (R : Nat → Int) (a : Int) (nm : List Int32) : Prop := ∃ s pl ps, x < n ∧ P.1 x = some (true, oB 6 [.ref s, .int (z (rCrs R a)), .int (z (rSt R a)), .int (z (rFi R a)), .ref pl]) ∧ (pl < n ∧ PLs P pl ps) ∧ (ps.length : Int) = rNp R a ∧ (∀ (k y : Nat), ps[k]? = some y → y < n ∧ P.1 y = some (true, oB 7 [.int (z (rPc R a k)), .int (z (rPt R a k))])) ∧ STR n P s nm
/-- a match that is kept -/
def MT (P : PH) (y x : Nat) (R : Nat → Int) (a c : Int) : Prop := ∃ ca tk mo g, P.1 y = some (true, oB 8 [.ref x, .ref ca, .ref tk, .ref mo]) ∧ P.1 tk = some (true, .inl (0, (rLen R c).toNat, .inl g)) ∧ ∀ i : Nat, (i : Int) < rLen R c → g i = z (tv (rTk R a c i))
abbrev ar5 (f : Nat → Option Nat) : PC := .inl (5, 10, .inr (.inr (.inr (.inr f))))
/-- .. all of them -/
def MC (P : PH) (mo : Option Nat) (rs : List Nat) (R : Nat → Int) : Prop := ∀ b, mo = some b → ∃ f, P.1 b = some (true, ar5 f) ∧ ∀ a x y, rs[a]? = some x → f a = some y → MT P y x R a (rCrs R a)
def MB (n : Nat) (P : PH) (cl rl : Nat) (cs rs : List Nat) (R : Nat → Int) (N : Nat → List Int32) : Prop := (cl < n ∧ PLs P cl cs) ∧ (rl < n ∧ PLs P rl rs) ∧ ((cs.length : Int) = R 0 ∧ (rs.length : Int) = R 1) ∧ (∀ c x : Nat, cs[c]? = some x → CRep n P x R c (N c)) ∧ ∀ a x : Nat, rs[a]? = some x → RRep n P x R a (N (3 + a))
def MRep (n : Nat) (P : PH) (m : Nat) (cs rs : List Nat) (R : Nat → Int) (N : Nat → List Int32) : Prop := ∃ cl rl mo, m < n ∧ P.1 m = some (true, oB 3 [.ref cl, .ref rl, .int (z (R 2)), .int (z (R 3)), va_rf mo]) ∧ MB n P cl rl cs rs R N ∧ MC P mo rs R
section
variable {n m : Nat} {P P' : PH} {W : Nat → Prop}
theorem IB.fr {x : Nat} {v : Int} (h : IB P x v) (hI : Iv P) (hf : Fr P.2.1 W P P') (hw : okV n P W) (hn : x < n) : IB P' x v := by
  obtain ⟨w, h⟩ := h
  exact ⟨w, hf.ob (hI.lt h) h (hw.ob h hn (by decide))⟩
theorem STR.fr {s : Nat} {l : List Int32} (h : STR n P s l) (hI : Iv P) (hf : Fr P.2.1 W P P') (hw : okV n P W) : STR n P' s l := by
  obtain ⟨b, fs, f, h0, h1, h2, h3⟩ := h
  exact ⟨b, fs, f, h0, hf.ob (hI.lt h1) h1 (hw.ob h1 h0 (by decide)), hf.ar (hI.lt h2) h2 (by decide) (hw.ar h2), h3⟩
theorem PLs.fw {a : Nat} {xs : List Nat} (h : PLs P a xs) (hI : Iv P) (hf : Fr P.2.1 W P P') (hw : okV n P W) (hn : a < n) : PLs P' a xs := by
  obtain ⟨mc, b, h1⟩ := h.cell
  exact h.fr hI hf (hw.ob h1 hn (by decide)) hw.na
theorem CRep.fr {x : Nat} {R : Nat → Int} {c : Int} {nm : List Int32} (h : CRep n P x R c nm) (hI : Iv P) (hf : Fr P.2.1 W P P') (hw : okV n P W) : CRep n P' x R c nm := by
  obtain ⟨s, cl, is, h0, h1, h2, h3, h4, h5⟩ := h
  exact ⟨s, cl, is, h0, hf.ob (hI.lt h1) h1 (hw.ob h1 h0 (by decide)), ⟨h2.1, h2.2.fw hI hf hw h2.1⟩, h3, fun i y hy => ⟨(h4 i y hy).1, (h4 i y hy).2.fr hI hf hw (h4 i y hy).1⟩, h5.fr hI hf hw⟩
theorem RRep.fr {x : Nat} {R : Nat → Int} {a : Int} {nm : List Int32} (h : RRep n P x R a nm) (hI : Iv P) (hf : Fr P.2.1 W P P') (hw : okV n P W) : RRep n P' x R a nm := by
  obtain ⟨s, pl, ps, h0, h1, h2, h3, h4, h5⟩ := h
  exact ⟨s, pl, ps, h0, hf.ob (hI.lt h1) h1 (hw.ob h1 h0 (by decide)), ⟨h2.1, h2.2.fw hI hf hw h2.1⟩, h3, fun k y hy => ⟨(h4 k y hy).1, hf.ob (hI.lt (h4 k y hy).2) (h4 k y hy).2 (hw.ob (h4 k y hy).2 (h4 k y hy).1 (by decide))⟩, h5.fr hI hf hw⟩
theorem MT.fr {y x : Nat} {R : Nat → Int} {a c : Int} (h : MT P y x R a c) (hI : Iv P) (hf : Fr P.2.1 W P P') (hw : okV n P W) : MT P' y x R a c := by
  obtain ⟨ca, tk, mo, g, h1, h2, h3⟩ := h
  exact ⟨ca, tk, mo, g, hf.ob (hI.lt h1) h1 (hw.o8 h1), hf.ar (hI.lt h2) h2 (by decide) (hw.ar h2), h3⟩
theorem MB.fr {cl rl : Nat} {cs rs : List Nat} {R : Nat → Int} {N : Nat → List Int32} (h : MB n P cl rl cs rs R N) (hI : Iv P) (hf : Fr P.2.1 W P P') (hw : okV n P W) : MB n P' cl rl cs rs R N := by
  obtain ⟨h1, h2, h3, h4, h5⟩ := h
  exact ⟨⟨h1.1, h1.2.fw hI hf hw h1.1⟩, ⟨h2.1, h2.2.fw hI hf hw h2.1⟩, h3, fun c x hx => (h4 c x hx).fr hI hf hw, fun c x hx => (h5 c x hx).fr hI hf hw⟩
theorem MRep.fr {cs rs : List Nat} {R : Nat → Int} {N : Nat → List Int32} (h : MRep n P m cs rs R N) (hI : Iv P) (hf : Fr P.2.1 W P P') (hw : okW n P m W) : MRep n P' m cs rs R N := by
  obtain ⟨cl, rl, mo, h0, h1, h2, h3⟩ := h
  have hm : ¬ W m := hw.2
  refine ⟨cl, rl, mo, h0, hf.ob (hI.lt h1) h1 hm, h2.fr hI hf hw.1, fun b hb => ?_⟩
  obtain ⟨f, h4, h5⟩ := h3 b hb
  refine ⟨f, hf.oa hI (hI.lt h4) h4 ⟨_, _, h1, ?_⟩ (hw.1.ar h4) hm, fun a x y hx hy => (h5 a x y hx hy).fr hI hf hw.1⟩
  rw [hb]
  rfl
end
/-- what the matches that aren't yet made will cost -/
def nn (f : Nat → Option Nat) : Nat → Nat
  | 0 => 0
  | k + 1 => nn f k + (if f k = none then 1 else 0)
def cred (P : PH) (m : Nat) : Nat := match P.1 m with
  | some (_, .inr (_, [_, _, _, _, .ref b])) => match P.1 b with
    | some (_, .inl (_, _, .inr (.inr (.inr (.inr f))))) => 300 * nn f 10
    | _ => 3020
  | _ => 3020
/-- what a query on m does, and what it costs -/
def QF (m k : Nat) (P P' : PH) : Prop := Fr P.2.1 (fun q => q = m) P P' ∧ wt P' + cred P' m ≤ wt P + cred P m + k
theorem QF.rf {m : Nat} {P : PH} (h : Iv P) : QF m 0 P P := ⟨Fr.rf h, Nat.le_refl _⟩
theorem QF.trans {m k k' : Nat} {P P1 P2 : PH} (hI : Iv P) (h : QF m k P P1) (h' : QF m k' P1 P2) : QF m (k + k') P P2 := ⟨Fr.call hI h.1 h'.1 fun a ha => Or.inl ha, by have := h.2; have := h'.2; omega⟩
theorem QF.mono {m k k' : Nat} {P P' : PH} (h : QF m k P P') (hk : k ≤ k') : QF m k' P P' := ⟨h.1, by have := h.2; omega⟩
theorem QF.iv {m k : Nat} {P P' : PH} (h : QF m k P P') : Iv P' := h.1.iv
theorem cred_fr {n m : Nat} {P P' : PH} {W : Nat → Prop} {cs rs : List Nat} {R : Nat → Int} {N : Nat → List Int32} (h : MRep n P m cs rs R N) (hI : Iv P) (hf : Fr P.2.1 W P P') (hw : okW n P m W) : cred P' m = cred P m := by
  obtain ⟨cl, rl, mo, h0, h1, h2, h3⟩ := h
  have hm : ¬ W m := hw.2
  have h1' := hf.ob (hI.lt h1) h1 hm
  unfold cred
  rw [h1, h1']
  cases mo with
  | none => rfl
  | some b =>
    obtain ⟨f, h4, h5⟩ := h3 b rfl
    have h4' := hf.oa hI (hI.lt h4) h4 ⟨_, _, h1, rfl⟩ (hw.1.ar h4) hm
    simp only [va_rf, h4, h4']
theorem QF.of {n m k : Nat} {P P' : PH} {W : Nat → Prop} {cs rs : List Nat} {R : Nat → Int} {N : Nat → List Int32} (h : MRep n P m cs rs R N) (hI : Iv P) (hf : Fr P.2.1 W P P') (hw : okW n P m W) (hW : ∀ a, W a → P.2.1 ≤ a) (hk : wt P' ≤ wt P + k) : QF m k P P' :=
  ⟨hf.low (Nat.le_refl _) (fun a ha => Or.inr (hW a ha)) hI (fun o b ho hb => by have := (oArr_lt hI hb).1; omega), by rw [cred_fr h hI hf hw]; omega⟩

/-! ARRAY LISTS -/
set_option maxRecDepth 100000
theorem z_nat (n : Nat) : Int32.ofNat n = z n := by
  unfold z
  exact (Int32.ofInt_eq_ofNat).symm
abbrev ar4 (n : Nat) (f : Nat → Option Nat) : PC := .inl (4, n, .inr (.inr (.inr (.inr f))))
abbrev oB (c : Nat) (fs : List Value) : PC := .inr (c, fs)
/-! steps, by what a cell is -/
section
variable {α : Type} {P : PH} {w : Bool} {a c k t n : Nat} {fs : List Value}
theorem xgI_s {K : Int32 → Option α} {x : Int32} (h : P.1 a = some (w, oB c fs)) (hk : fs[k]? = some (.int x)) : xgI P a c k K = K x := by unfold xgI; rw [h]; simp only [↓reduceIte, hk]
theorem xgR_s {K : Option Nat → Option α} {b : Nat} (h : P.1 a = some (w, oB c fs)) (hk : fs[k]? = some (.ref b)) : xgR P a c k K = K (some b) := by unfold xgR; rw [h]; simp only [↓reduceIte, hk]
theorem xgR_n {K : Option Nat → Option α} (h : P.1 a = some (w, oB c fs)) (hk : fs[k]? = some .null) : xgR P a c k K = K none := by unfold xgR; rw [h]; simp only [↓reduceIte, hk]
theorem xgR_v {K : Option Nat → Option α} {x : Option Nat} (h : P.1 a = some (w, oB c fs)) (hk : fs[k]? = some (va_rf x)) : xgR P a c k K = K x := by unfold xgR; rw [h]; cases x <;> simp only [↓reduceIte, hk, va_rf]
theorem xcl1_s {K : Option α} (h : P.1 a = some (w, oB c fs)) : xcl1 P a c K = K := by unfold xcl1 xco; rw [h]; exact if_pos rfl
theorem xsw_s {K : Nat → Option α} (h : P.1 a = some (w, oB c fs)) : xsw P a K = K c := by unfold xsw xco; rw [h]
theorem xcst_s {cs : List Nat} {K : Option α} (h : P.1 a = some (w, oB c fs)) (hc : cs.contains c = true) : xcst P (some a) cs K = K := by unfold xcst; simp only [h, hc, ↓reduceIte]
theorem xcst_n {cs : List Nat} {K : Option α} : xcst P none cs K = K := rfl
theorem xins_s {cs : List Nat} {K : Int32 → Option α} (h : P.1 a = some (w, oB c fs)) (hc : cs.contains c = true) : xins P (some a) cs K = K 1 := by unfold xins; simp only [h, hc, ↓reduceIte]
theorem xnul_s {K1 : α} {K2 : Nat → α} : xnul (some a) K1 K2 = K2 a := rfl
theorem xnul_n {K1 : α} {K2 : Nat → α} : xnul none K1 K2 = K1 := rfl
theorem xlen_s {K : Int32 → Option α} {x : _} (h : P.1 a = some (w, .inl (t, n, x))) (ht : t < 8) : xlen P a K = K (z n) := by unfold xlen; rw [h]; simp only [ht, ↓reduceIte, z_nat]
theorem xaR_s {K : Option Nat → Option α} {f : Nat → Option Nat} {i : Int} (h : P.1 a = some (w, .inl (t, n, .inr (.inr (.inr (.inr f)))))) (h0 : 0 ≤ i) (h1 : i < n) (hn : n ≤ 100000) : xaR P a t (z i) K = K (f i.toNat) := by
  have c1 : ¬ i < 0 := by omega
  have c2 : ¬ n ≤ i.toNat := by omega
  unfold xaR
  rw [h]
  simp (disch := omega) only [z_add, z_sub, z_mul, z_neg, zlt, zle, zeq, zne, l0, l1, l2, l3, l4, l5, l6, l7, l8, l9, l10, l11, l16, l17, l20, l24, l32, l37, l47, l57, l60, l67, l77, l97, l99, l122, l48, l57, l100, l237, l397, l600, l900, l880, l9998, l9999, bnd, xcI_rI, xcV_rV, xcR_rR, zb0, zb1, nz0, nz1, nar_z0, nar_z1, nar_b2, ↓reduceIte, zix, c1, c2, or_self, not_false_eq_true, and_self, ↓reduceIte]
theorem xaI_s {K : Int32 → Option α} {f : Nat → Int32} {i : Int} (h : P.1 a = some (w, .inl (t, n, .inl f))) (h0 : 0 ≤ i) (h1 : i < n) (hn : n ≤ 100000) : xaI P a t (z i) K = K (f i.toNat) := by
  have c1 : ¬ i < 0 := by omega
  have c2 : ¬ n ≤ i.toNat := by omega
  unfold xaI
  rw [h]
  simp (disch := omega) only [z_add, z_sub, z_mul, z_neg, zlt, zle, zeq, zne, l0, l1, l2, l3, l4, l5, l6, l7, l8, l9, l10, l11, l16, l17, l20, l24, l32, l37, l47, l57, l60, l67, l77, l97, l99, l122, l48, l57, l100, l237, l397, l600, l900, l880, l9998, l9999, bnd, xcI_rI, xcV_rV, xcR_rR, zb0, zb1, nz0, nz1, nar_z0, nar_z1, nar_b2, ↓reduceIte, zix, c1, c2, or_self, not_false_eq_true, and_self, ↓reduceIte]
theorem xsI_s {K : PH → Option α} {f : Nat → Int32} {i : Int} {x : Int32} (h : P.1 a = some (true, .inl (t, n, .inl f))) (h0 : 0 ≤ i) (h1 : i < n) (hn : n ≤ 100000) : xsI P a t (z i) x K = K (xup P a (.inl (t, n, .inl (upd f i.toNat x)))) := by
  have c1 : ¬ i < 0 := by omega
  have c2 : ¬ n ≤ i.toNat := by omega
  unfold xsI
  rw [h]
  simp (disch := omega) only [z_add, z_sub, z_mul, z_neg, zlt, zle, zeq, zne, l0, l1, l2, l3, l4, l5, l6, l7, l8, l9, l10, l11, l16, l17, l20, l24, l32, l37, l47, l57, l60, l67, l77, l97, l99, l122, l48, l57, l100, l237, l397, l600, l900, l880, l9998, l9999, bnd, xcI_rI, xcV_rV, xcR_rR, zb0, zb1, nz0, nz1, nar_z0, nar_z1, nar_b2, ↓reduceIte, zix, c1, c2, or_self, not_false_eq_true, and_self, ↓reduceIte]
theorem xnew_s {K : Nat → PH → Option α} : xnew P c fs K = K P.2.1 (xpush P (oB c fs) fs.length) := rfl
theorem xnaI_s {K : Nat → PH → Option α} (hn : n ≤ 1000000) : xnaI P t (z n) K = K P.2.1 (xpush P (.inl (t, n, .inl (fun _ => 0))) n) := by
  have c : ¬ ((n : Int) < 0) := by omega
  unfold xnaI
  simp (disch := omega) only [z_add, z_sub, z_mul, z_neg, zlt, zle, zeq, zne, l0, l1, l2, l3, l4, l5, l6, l7, l8, l9, l10, l11, l16, l17, l20, l24, l32, l37, l47, l57, l60, l67, l77, l97, l99, l122, l48, l57, l100, l237, l397, l600, l900, l880, l9998, l9999, bnd, xcI_rI, xcV_rV, xcR_rR, zb0, zb1, nz0, nz1, nar_z0, nar_z1, nar_b2, ↓reduceIte, zix, Int.toNat_natCast, c, hn, not_false_eq_true, and_self, ↓reduceIte]
theorem xnaR_s {K : Nat → PH → Option α} (hn : n ≤ 1000000) : xnaR P t (z n) K = K P.2.1 (xpush P (.inl (t, n, .inr (.inr (.inr (.inr (fun _ => none)))))) n) := by
  have c : ¬ ((n : Int) < 0) := by omega
  unfold xnaR
  simp (disch := omega) only [z_add, z_sub, z_mul, z_neg, zlt, zle, zeq, zne, l0, l1, l2, l3, l4, l5, l6, l7, l8, l9, l10, l11, l16, l17, l20, l24, l32, l37, l47, l57, l60, l67, l77, l97, l99, l122, l48, l57, l100, l237, l397, l600, l900, l880, l9998, l9999, bnd, xcI_rI, xcV_rV, xcR_rR, zb0, zb1, nz0, nz1, nar_z0, nar_z1, nar_b2, ↓reduceIte, zix, Int.toNat_natCast, c, hn, not_false_eq_true, and_self, ↓reduceIte]
theorem xsR_s {K : PH → Option α} {f : Nat → Option Nat} {i : Int} {x : Option Nat} (h : P.1 a = some (true, .inl (t, n, .inr (.inr (.inr (.inr f)))))) (h0 : 0 ≤ i) (h1 : i < n) (hn : n ≤ 100000) (hq : xmayq P t x = true) : xsR P a t (z i) x K = K (xup P a (.inl (t, n, .inr (.inr (.inr (.inr (updR f i.toNat x))))))) := by
  have c1 : ¬ i < 0 := by omega
  have c2 : ¬ n ≤ i.toNat := by omega
  unfold xsR
  rw [h]
  simp (disch := omega) only [z_add, z_sub, z_mul, z_neg, zlt, zle, zeq, zne, l0, l1, l2, l3, l4, l5, l6, l7, l8, l9, l10, l11, l16, l17, l20, l24, l32, l37, l47, l57, l60, l67, l77, l97, l99, l122, l48, l57, l100, l237, l397, l600, l900, l880, l9998, l9999, bnd, xcI_rI, xcV_rV, xcR_rR, zb0, zb1, nz0, nz1, nar_z0, nar_z1, nar_b2, ↓reduceIte, zix, c1, c2, or_self, not_false_eq_true, hq, and_self, ↓reduceIte]
end
/-- an object that may lie in a list -/
def elO (P : PH) (x : Nat) : Prop := ∃ w c fs, P.1 x = some (w, .inr (c, fs)) ∧ xmay 4 c = true
theorem elO.q {P : PH} {x : Nat} (h : elO P x) : xmayq P 4 (some x) = true := by
  obtain ⟨w, c, fs, h1, h2⟩ := h
  simp only [xmayq, h1, h2]
theorem elO.fr {n : Nat} {W : Nat → Prop} {P P' : PH} {x : Nat} (h : elO P x) (hf : Fr n W P P') : elO P' x := by
  obtain ⟨w, c, fs, h1, h2⟩ := h
  obtain ⟨fs', h3⟩ := hf.cls h1
  exact ⟨w, c, fs', h3, h2⟩
/-- a list's cells -/
def LX (P : PH) (a : Nat) (mc : Int32) (b n : Nat) (f : Nat → Option Nat) (xs : List Nat) : Prop := P.1 a = some (true, oB 14 [.int mc, .ref b, .int (z xs.length)]) ∧ P.1 b = some (true, ar4 n f) ∧ (xs.length ≤ n ∧ 0 < n ∧ n ≤ 5000) ∧ (∀ i (h : i < xs.length), f i = some xs[i]) ∧ ∀ x ∈ xs, elO P x
def PLs (P : PH) (a : Nat) (xs : List Nat) : Prop := ∃ mc b n f, LX P a mc b n f xs
theorem LX.own {P : PH} {a : Nat} {mc : Int32} {b n : Nat} {f : Nat → Option Nat} {xs : List Nat} (h : LX P a mc b n f xs) : oArr P a b := ⟨_, _, h.1, rfl⟩
theorem LX.ne {P : PH} {a : Nat} {mc : Int32} {b n : Nat} {f : Nat → Option Nat} {xs : List Nat} (h : LX P a mc b n f xs) : a ≠ b := fun e => by
  have h1 := h.1
  rw [e, h.2.1] at h1
  cases h1
/-- no arrays are written but those that the written own -/
def noAr (P : PH) (W : Nat → Prop) : Prop := ∀ b, W b → ∀ w t n f, P.1 b ≠ some (w, .inl (t, n, f))
theorem noAr_eq {P : PH} {m c : Nat} {w : Bool} {fs : List Value} (h : P.1 m = some (w, .inr (c, fs))) : noAr P (fun a => a = m) := fun b hb w t n f e => by
  rw [hb, h] at e
  cases e
theorem noAr_0 {P : PH} : noAr P W0 := fun _ h => h.elim
theorem LX.fr {k : Nat} {W : Nat → Prop} {P P' : PH} {a : Nat} {mc : Int32} {b n : Nat} {f : Nat → Option Nat} {xs : List Nat} (h : LX P a mc b n f xs) (hI : Iv P) (hf : Fr k W P P') (ha : a < k) (hb : b < k) (hW : ¬ W a) (hW' : noAr P W) : LX P' a mc b n f xs :=
  ⟨hf.ob ha h.1 hW, hf.oa hI hb h.2.1 h.own (fun e => hW' _ e _ _ _ _ h.2.1) hW, h.2.2.1, h.2.2.2.1, fun x hx => (h.2.2.2.2 x hx).fr hf⟩
theorem PLs.fr {W : Nat → Prop} {P P' : PH} {a : Nat} {xs : List Nat} (h : PLs P a xs) (hI : Iv P) (hf : Fr P.2.1 W P P') (hW : ¬ W a) (hW' : noAr P W) : PLs P' a xs := by
  obtain ⟨mc, b, n, f, h⟩ := h
  exact ⟨mc, b, n, f, h.fr hI hf (hI.lt h.1) (hI.lt h.2.1) hW hW'⟩
theorem PLs.cell {P : PH} {a : Nat} {xs : List Nat} (h : PLs P a xs) : ∃ mc b, P.1 a = some (true, oB 14 [.int mc, .ref b, .int (z xs.length)]) := by
  obtain ⟨mc, b, n, f, h⟩ := h
  exact ⟨mc, b, h.1⟩
theorem PLs.len {P : PH} {a : Nat} {xs : List Nat} (h : PLs P a xs) : xs.length ≤ 5000 := by
  obtain ⟨mc, b, n, f, h⟩ := h
  have := h.2.2.1
  omega
theorem PLs.mem {P : PH} {a : Nat} {xs : List Nat} (h : PLs P a xs) : ∀ x ∈ xs, elO P x := by
  obtain ⟨mc, b, n, f, h⟩ := h
  exact h.2.2.2.2
theorem PLs.size {P : PH} {a : Nat} {xs : List Nat} (h : PLs P a xs) : f_J3_size P a = rI (z xs.length) P := by
  obtain ⟨mc, b, h⟩ := h.cell
  simp only [f_J3_size, z_add, z_sub, z_mul, z_neg, zlt, zle, zeq, zne, l0, l1, l2, l3, l4, l5, l6, l7, l8, l9, l10, l11, l16, l17, l20, l24, l32, l37, l47, l57, l60, l67, l77, l97, l99, l122, l48, l57, l100, l237, l397, l600, l900, l880, l9998, l9999, bnd, xcI_rI, xcV_rV, xcR_rR, zb0, zb1, nz0, nz1, nar_z0, nar_z1, nar_b2, ↓reduceIte, xgI, xgR, xlen, xaI, xaR, xaL, xnul, xcst, xco, xcl1, xins, xsw, xcon, List.getElem?_cons_zero, List.getElem?_cons_succ, List.set_cons_zero, List.set_cons_succ, List.length_cons, List.length_nil, zix, Nat.reduceLT, Nat.reduceAdd, Nat.lt_irrefl, false_or, or_false, and_true, true_and, not_false_eq_true, not_true_eq_false, Int.toNat_natCast, Int.zero_add, Int.add_zero, h]
theorem PLs.isEmpty {P : PH} {a : Nat} {xs : List Nat} (h : PLs P a xs) : f_J3_isEmpty P a = rI (z (b2 (xs = []))) P := by
  have hl := h.len
  obtain ⟨mc, b, h⟩ := h.cell
  simp (disch := omega) only [f_J3_isEmpty, z_add, z_sub, z_mul, z_neg, zlt, zle, zeq, zne, l0, l1, l2, l3, l4, l5, l6, l7, l8, l9, l10, l11, l16, l17, l20, l24, l32, l37, l47, l57, l60, l67, l77, l97, l99, l122, l48, l57, l100, l237, l397, l600, l900, l880, l9998, l9999, bnd, xcI_rI, xcV_rV, xcR_rR, zb0, zb1, nz0, nz1, nar_z0, nar_z1, nar_b2, ↓reduceIte, xgI, xgR, xlen, xaI, xaR, xaL, xnul, xcst, xco, xcl1, xins, xsw, xcon, List.getElem?_cons_zero, List.getElem?_cons_succ, List.set_cons_zero, List.set_cons_succ, List.length_cons, List.length_nil, zix, Nat.reduceLT, Nat.reduceAdd, Nat.lt_irrefl, false_or, or_false, and_true, true_and, not_false_eq_true, not_true_eq_false, Int.toNat_natCast, Int.zero_add, Int.add_zero, h]
  by_cases hx : xs = []
  · subst hx
    rfl
  · have : ¬ ((xs.length : Int) = 0) := by
      intro e
      exact hx (List.length_eq_zero_iff.mp (by omega))
    rw [if_neg this, b2, if_neg hx]
theorem checkIndex_z {P : PH} {i n : Int} (h0 : 0 ≤ i) (h1 : i < n) (h2 : n ≤ 5000) : f_J20_checkIndex P (z i) (z n) = rI (z i) P := by
  simp (disch := omega) only [f_J20_checkIndex, f_J10_checkIndex, z_add, z_sub, z_mul, z_neg, zlt, zle, zeq, zne, l0, l1, l2, l3, l4, l5, l6, l7, l8, l9, l10, l11, l16, l17, l20, l24, l32, l37, l47, l57, l60, l67, l77, l97, l99, l122, l48, l57, l100, l237, l397, l600, l900, l880, l9998, l9999, bnd, xcI_rI, xcV_rV, xcR_rR, zb0, zb1, nz0, nz1, nar_z0, nar_z1, nar_b2, ↓reduceIte]
  rw [if_neg (by omega), if_pos h1]
  rfl
theorem PLs.get {P : PH} {a : Nat} {xs : List Nat} (h : PLs P a xs) {i : Int} (h0 : 0 ≤ i) (h1 : i < xs.length) : ∃ x, xs[i.toNat]? = some x ∧ f_J3_get P a (z i) = rR (some x) P := by
  have hl := h.len
  obtain ⟨mc, b, n, f, h⟩ := h
  have hi : i.toNat < xs.length := by omega
  refine ⟨xs[i.toNat], List.getElem?_eq_getElem hi, ?_⟩
  have e := h.2.2.2.1 i.toNat hi
  have hn := h.2.2.1
  have c1 : ¬ i < 0 := by omega
  have c2 : ¬ n ≤ i.toNat := by omega
  simp (disch := omega) only [f_J3_get, f_J3_elementData, checkIndex_z, z_add, z_sub, z_mul, z_neg, zlt, zle, zeq, zne, l0, l1, l2, l3, l4, l5, l6, l7, l8, l9, l10, l11, l16, l17, l20, l24, l32, l37, l47, l57, l60, l67, l77, l97, l99, l122, l48, l57, l100, l237, l397, l600, l900, l880, l9998, l9999, bnd, xcI_rI, xcV_rV, xcR_rR, zb0, zb1, nz0, nz1, nar_z0, nar_z1, nar_b2, ↓reduceIte, xgI, xgR, xlen, xaI, xaR, xaL, xnul, xcst, xco, xcl1, xins, xsw, xcon, List.getElem?_cons_zero, List.getElem?_cons_succ, List.set_cons_zero, List.set_cons_succ, List.length_cons, List.length_nil, zix, Nat.reduceLT, Nat.reduceAdd, Nat.lt_irrefl, false_or, or_false, and_true, true_and, not_false_eq_true, not_true_eq_false, Int.toNat_natCast, Int.zero_add, Int.add_zero, h.1, h.2.1, e, c1, c2]
theorem shr1 {n : Int} (h0 : 0 ≤ n) (h1 : n < 2147483648) : z n >>> (z 1 &&& 31) = z (n / 2) := by
  apply Int32.toInt_inj.mp
  have e : (z n >>> (z 1 &&& 31)).toInt = n / 2 := by
    rw [← Int32.toInt_toBitVec, Int32.toBitVec_shiftRight]
    have : (z 1 &&& 31 : Int32).toBitVec = 1#32 := by decide
    rw [this]
    show (BitVec.sshiftRight (z n).toBitVec 1).toInt = _
    rw [BitVec.toInt_sshiftRight, Int32.toInt_toBitVec, zint (by omega) h1, Int.shiftRight_eq_div_pow]
    rfl
  rw [e, zint (by omega) (by omega)]
theorem up_push {P : PH} {c c' : PC} {m : Nat} : xup (xpush P c m) P.2.1 c' = xpush P c' m := by
  unfold xup xpush
  simp only [Prod.mk.injEq, and_true]
  funext b
  split <;> rfl
theorem xmayq_push {P : PH} (hI : Iv P) {c : PC} {m t : Nat} {x : Option Nat} (h : xmayq P t x = true) : xmayq (xpush P c m) t x = true := by
  cases x with
  | none => rfl
  | some a =>
    unfold xmayq at h ⊢
    simp only at h ⊢
    cases e : P.1 a with
    | none => rw [e] at h; cases h
    | some y => rw [push_old hI e]; rw [e] at h; exact h
theorem xmayq_up {P : PH} {c x : PC} {t a : Nat} {y : Option Nat} (hx : P.1 a = some (true, x)) (hs : shp c = shp x) (h : xmayq P t y = true) : xmayq (xup P a c) t y = true := by
  cases y with
  | none => rfl
  | some b =>
    unfold xmayq at h ⊢
    simp only at h ⊢
    by_cases e : b = a
    · subst e
      rw [up_at]
      rw [hx] at h
      cases x with
      | inl x => cases h
      | inr x =>
        cases c with
        | inl c => cases hs
        | inr c =>
          have : c.1 = x.1 := by
            have := hs
            simp only [shp, Sum.inr.injEq, Prod.mk.injEq] at this
            exact this.1
          simp only [this]
          exact h
    · rw [up_ne e]; exact h
theorem copyOf4 {P : PH} (hI : Iv P) {b n m : Nat} {f : Nat → Option Nat} (hb : P.1 b = some (true, ar4 n f)) (hm : m ≤ 5000) (hn : n ≤ 5000) (hq : ∀ i, i < min n m → xmayq P 4 (f i) = true) : ∃ g, f_J17_copyOf_2 P (some b) (z m) = rR (some P.2.1) (xpush P (ar4 m g) m) ∧ ∀ i, i < min n m → g i = f i := by
  obtain ⟨mi, hmi⟩ := hI.2.2.2.1.1
  refine ⟨va_cpy f (fun _ => none) 0 0 (min n m), ?_, fun i hi => by unfold va_cpy; rw [if_pos ⟨Nat.zero_le _, by omega⟩]; simp⟩
  have h1 : ¬ ((m : Int) < 0) := by omega
  have h2 : m ≤ 1000000 := by omega
  have hall : (List.range (min n m)).all (fun i => xmayq (xpush P (ar4 m fun _ => none) m) 4 (f (0 + i))) = true := by
    rw [List.all_eq_true]
    intro i hi
    rw [List.mem_range] at hi
    rw [Nat.zero_add]
    exact xmayq_push hI (hq i hi)
  have hp : (xpush P (ar4 m fun _ => none) m).1 b = some (true, ar4 n f) := push_old hI hb
  have e1 : (if (m : Int) < n then rI (z m) (xpush P (ar4 m fun _ => none) m) else rI (z n) (xpush P (ar4 m fun _ => none) m)) = rI (z (min n m : Nat)) (xpush P (ar4 m fun _ => none) m) := by
    split
    · rw [Nat.min_eq_right (by omega)]
    · rw [Nat.min_eq_left (by omega)]
  have h3 : (((min n m : Nat) : Int)) = ((min n m : Nat) : Int) := rfl
  have h5 : 0 + min n m ≤ n := by omega
  have h6 : 0 + min n m ≤ m := by omega
  have h7 : ¬ (((min n m : Nat) : Int) < 0) := by omega
  simp (disch := omega) only [f_J17_copyOf_2, f_J17_copyOf_3, f_J17_copyOf_3_24, f_J8_min, xgc, xmir, xnaR, z_add, z_sub, z_mul, z_neg, zlt, zle, zeq, zne, l0, l1, l2, l3, l4, l5, l6, l7, l8, l9, l10, l11, l16, l17, l20, l24, l32, l37, l47, l57, l60, l67, l77, l97, l99, l122, l48, l57, l100, l237, l397, l600, l900, l880, l9998, l9999, bnd, xcI_rI, xcV_rV, xcR_rR, zb0, zb1, nz0, nz1, nar_z0, nar_z1, nar_b2, ↓reduceIte, xgI, xgR, xlen, xaI, xaR, xaL, xnul, xcst, xco, xcl1, xins, xsw, xcon, List.getElem?_cons_zero, List.getElem?_cons_succ, List.set_cons_zero, List.set_cons_succ, List.length_cons, List.length_nil, zix, Nat.reduceLT, Nat.reduceAdd, Nat.lt_irrefl, false_or, or_false, and_true, true_and, not_false_eq_true, not_true_eq_false, Int.toNat_natCast, Int.zero_add, Int.add_zero, hb, hmi, h1, h2, and_self, ↓reduceIte, hp, z_nat, e1]
  generalize min n m = q at *
  unfold xcpR
  rw [hp, push_at]
  simp (disch := omega) only [z_add, z_sub, z_mul, z_neg, zlt, zle, zeq, zne, l0, l1, l2, l3, l4, l5, l6, l7, l8, l9, l10, l11, l16, l17, l20, l24, l32, l37, l47, l57, l60, l67, l77, l97, l99, l122, l48, l57, l100, l237, l397, l600, l900, l880, l9998, l9999, bnd, xcI_rI, xcV_rV, xcR_rR, zb0, zb1, nz0, nz1, nar_z0, nar_z1, nar_b2, ↓reduceIte, zix, Int.toNat_natCast, Int.toNat_zero, h7, h5, h6, hall, Int.lt_irrefl, not_false_eq_true, and_self, ↓reduceIte]
  rw [up_push]

theorem newLength_z {P : PH} {o g p : Int} (h0 : 0 ≤ o) (h1 : 0 < g) (h2 : 0 ≤ p) (h3 : o ≤ 100000) (h4 : g ≤ 100000) (h5 : p ≤ 100000) : f_J16_newLength P (z o) (z g) (z p) = rI (z (o + max g p)) P := by
  have e : (if g < p then rI (z p) P else rI (z g) P) = rI (z (max g p)) P := by
    split
    · rw [Int.max_eq_right (by omega)]
    · rw [Int.max_eq_left (by omega)]
  have c1 : ¬ o + max g p ≤ 0 := by omega
  have c2 : ¬ 2147483639 < o + max g p := by omega
  simp (disch := omega) only [f_J16_newLength, f_J8_max, z_add, z_sub, z_mul, z_neg, zlt, zle, zeq, zne, l0, l1, l2, l3, l4, l5, l6, l7, l8, l9, l10, l11, l16, l17, l20, l24, l32, l37, l47, l57, l60, l67, l77, l97, l99, l122, l48, l57, l100, l237, l397, l600, l900, l880, l9998, l9999, bnd, xcI_rI, xcV_rV, xcR_rR, zb0, zb1, nz0, nz1, nar_z0, nar_z1, nar_b2, ↓reduceIte, e, show (2147483639 : Int32) = z 2147483639 from rfl, c1, c2]
/-- the list's array grows -/
theorem grow2_z {P : PH} (hI : Iv P) {a b n : Nat} {mc sz : Int32} {f : Nat → Option Nat} (h1 : P.1 a = some (true, oB 14 [.int mc, .ref b, .int sz])) (h2 : P.1 b = some (true, ar4 n f)) (hn : 0 < n ∧ n ≤ 2000) {m : Int} (hm : n < m ∧ m ≤ 2000) (hq : ∀ i, i < n → xmayq P 4 (f i) = true) : ∃ (g : Nat → Option Nat) (n' : Nat), f_J3_grow_2 P a (z m) = rR (some P.2.1) (xup (xpush P (ar4 n' g) n') a (oB 14 [.int mc, .ref P.2.1, .int sz])) ∧ (∀ i, i < n → g i = f i) ∧ m ≤ n' ∧ n' ≤ n + max (m - n) (n / 2) := by
  have hx : (0 : Int) ≤ n + max (m - n) ((n : Int) / 2) := by omega
  obtain ⟨n', hn'⟩ : ∃ n' : Nat, (n : Int) + max (m - n) ((n : Int) / 2) = n' := ⟨_, (Int.toNat_of_nonneg hx).symm⟩
  have hmin : min n n' = n := Nat.min_eq_left (by omega)
  obtain ⟨g, e, hg⟩ := copyOf4 (m := n') hI h2 (by omega) (by omega) (fun i hi => hq i (by omega))
  refine ⟨g, n', ?_, fun i hi => hg i (by omega), by omega, by omega⟩
  have c1 : (0 : Int) < n := by omega
  have h3 : (xpush P (ar4 n' g) n').1 a = some (true, oB 14 [.int mc, .ref b, .int sz]) := push_old hI h1
  simp (disch := omega) only [f_J3_grow_2, f_J3_grow_2_20, z_add, z_sub, z_mul, z_neg, zlt, zle, zeq, zne, l0, l1, l2, l3, l4, l5, l6, l7, l8, l9, l10, l11, l16, l17, l20, l24, l32, l37, l47, l57, l60, l67, l77, l97, l99, l122, l48, l57, l100, l237, l397, l600, l900, l880, l9998, l9999, bnd, xcI_rI, xcV_rV, xcR_rR, zb0, zb1, nz0, nz1, nar_z0, nar_z1, nar_b2, ↓reduceIte, xgI, xgR, xlen, xaI, xaR, xaL, xnul, xcst, xco, xcl1, xins, xsw, xcon, List.getElem?_cons_zero, List.getElem?_cons_succ, List.set_cons_zero, List.set_cons_succ, List.length_cons, List.length_nil, zix, Nat.reduceLT, Nat.reduceAdd, Nat.lt_irrefl, false_or, or_false, and_true, true_and, not_false_eq_true, not_true_eq_false, Int.toNat_natCast, Int.zero_add, Int.add_zero, h1, h2, z_nat, c1, shr1, newLength_z, hn', e, h3, xpF, va_rf, and_self]
theorem elO.up {P : PH} {a x : Nat} {c y : PC} (h : elO P x) (hx : P.1 a = some (true, y)) (hs : shp c = shp y) : elO (xup P a c) x := by
  obtain ⟨w, cc, fs, h1, h2⟩ := h
  by_cases e : x = a
  · subst e
    rw [hx] at h1
    cases h1
    cases c with
    | inl c => cases hs
    | inr c =>
      obtain ⟨c1, c2⟩ := c
      simp only [shp, Sum.inr.injEq, Prod.mk.injEq] at hs
      refine ⟨true, cc, c2, ?_, h2⟩
      rw [up_at, hs.1]
  · exact ⟨w, cc, fs, by rw [up_ne e]; exact h1, h2⟩
theorem elO.push {P : PH} (hI : Iv P) {x m : Nat} {c : PC} (h : elO P x) : elO (xpush P c m) x := by
  obtain ⟨w, cc, fs, h1, h2⟩ := h
  exact ⟨w, cc, fs, push_old hI h1, h2⟩

theorem xsR_z {α : Type} {P : PH} {b n : Nat} {f : Nat → Option Nat} {i : Nat} {x : Option Nat} {K : PH → Option α} (h : P.1 b = some (true, ar4 n f)) (hi : i < n) (hn : n ≤ 100000) (hq : xmayq P 4 x = true) : xsR P b 4 (z i) x K = K (xup P b (ar4 n (updR f i x))) := by
  have c1 : ¬ ((i : Int) < 0) := by omega
  have c2 : ¬ n ≤ i := by omega
  unfold xsR
  rw [h]
  simp (disch := omega) only [z_add, z_sub, z_mul, z_neg, zlt, zle, zeq, zne, l0, l1, l2, l3, l4, l5, l6, l7, l8, l9, l10, l11, l16, l17, l20, l24, l32, l37, l47, l57, l60, l67, l77, l97, l99, l122, l48, l57, l100, l237, l397, l600, l900, l880, l9998, l9999, bnd, xcI_rI, xcV_rV, xcR_rR, zb0, zb1, nz0, nz1, nar_z0, nar_z1, nar_b2, ↓reduceIte, zix, Int.toNat_natCast, c1, c2, or_self, not_false_eq_true, hq, and_self, ↓reduceIte]
/-- writing an owner's cell again: its array stays or is a free new one -/
theorem Fr.upo {n : Nat} {W : Nat → Prop} {P : PH} (hI : Iv P) {a c : Nat} {fs fs' : List Value} (hx : P.1 a = some (true, oB c fs)) (hl : fs'.length = fs.length) (ho : ∀ b, ownA (oB c fs') = some b → ownA (oB c fs) = some b ∨ (n ≤ b ∧ b < P.2.1 ∧ ∀ o, ¬ oArr P o b)) (hW : a < n → W a) : Fr n W P (xup P a (oB c fs')) :=
  Fr.up hI hx (by simp only [shp, hl]) ho fun h => Or.inl (hW h)
theorem Fr.upa {n : Nat} {W : Nat → Prop} {P : PH} (hI : Iv P) {a m : Nat} {f g : Nat → Option Nat} (hx : P.1 a = some (true, ar4 m f)) (hW : a < n → ∃ o, W o ∧ oArr P o a) : Fr n W P (xup P a (ar4 m g)) :=
  Fr.up hI hx rfl (fun b h => by cases h) fun h => Or.inr ⟨Or.inl rfl, hW h⟩
theorem PLs.add {P : PH} (hI : Iv P) {a x : Nat} {xs : List Nat} (h : PLs P a xs) (hx : elO P x) (hl : xs.length ≤ 1000) : ∃ P', f_J3_add P a (some x) = rI (z 1) P' ∧ PLs P' a (xs ++ [x]) ∧ Fr P.2.1 (fun q => q = a) P P' ∧ wt P' ≤ wt P + (2 * xs.length + 3) := by
  obtain ⟨mc, b, n, f, h⟩ := h
  have hab := h.ne
  obtain ⟨h1, h2, h3, h4, h5⟩ := id h
  have h6 : ownA (oB 14 [.int (mc + z 1), .ref b, .int (z xs.length)]) = some b := rfl
  -- modCount
  have f1 : Fr P.2.1 (fun q => q = a) P (xup P a (oB 14 [.int (mc + z 1), .ref b, .int (z xs.length)])) := Fr.upo hI h1 rfl (fun b' hb => Or.inl hb) fun _ => rfl
  have g1 : (xup P a (oB 14 [.int (mc + z 1), .ref b, .int (z xs.length)])).1 a = some (true, oB 14 [.int (mc + z 1), .ref b, .int (z xs.length)]) := up_at
  have g2 : (xup P a (oB 14 [.int (mc + z 1), .ref b, .int (z xs.length)])).1 b = some (true, ar4 n f) := (up_ne hab.symm).trans h2
  have hw2 : wt (xup P a (oB 14 [.int (mc + z 1), .ref b, .int (z xs.length)])) = wt P := rfl
  have hx2 : elO (xup P a (oB 14 [.int (mc + z 1), .ref b, .int (z xs.length)])) x := hx.up h1 rfl
  have hm2 : ∀ y ∈ xs, elO (xup P a (oB 14 [.int (mc + z 1), .ref b, .int (z xs.length)])) y := fun y hy => (h5 y hy).up h1 rfl
  have hn2 : P.2.1 = (xup P a (oB 14 [.int (mc + z 1), .ref b, .int (z xs.length)])).2.1 := rfl
  have hstep : f_J3_add P a (some x) = xcV (f_J3_add_2 (xup P a (oB 14 [.int (mc + z 1), .ref b, .int (z xs.length)])) a (some x) (some b) (z xs.length)) (fun p5 => if vp_nar .boolean 1 = 1 then rI 1 p5 else none) := by
    simp (disch := omega) only [f_J3_add, z_add, z_sub, z_mul, z_neg, zlt, zle, zeq, zne, l0, l1, l2, l3, l4, l5, l6, l7, l8, l9, l10, l11, l16, l17, l20, l24, l32, l37, l47, l57, l60, l67, l77, l97, l99, l122, l48, l57, l100, l237, l397, l600, l900, l880, l9998, l9999, bnd, xcI_rI, xcV_rV, xcR_rR, zb0, zb1, nz0, nz1, nar_z0, nar_z1, nar_b2, ↓reduceIte, xgI, xgR, xlen, xaI, xaR, xaL, xnul, xcst, xco, xcl1, xins, xsw, xcon, List.getElem?_cons_zero, List.getElem?_cons_succ, List.set_cons_zero, List.set_cons_succ, List.length_cons, List.length_nil, zix, Nat.reduceLT, Nat.reduceAdd, Nat.lt_irrefl, false_or, or_false, and_true, true_and, not_false_eq_true, not_true_eq_false, Int.toNat_natCast, Int.zero_add, Int.add_zero, h1, xpF, and_self, up_at]
  rw [hstep]
  have hIv := f1.iv
  have hb0 : b < P.2.1 := hI.lt h2
  have hlast : ∀ (P3 : PH) (b3 n3 : Nat) (g : Nat → Option Nat), Iv P3 → P3.1 a = some (true, oB 14 [.int (mc + z 1), .ref b3, .int (z xs.length)]) → P3.1 b3 = some (true, ar4 n3 g) → xs.length < n3 → n3 ≤ 5000 → (∀ i (hi : i < xs.length), g i = some xs[i]) → (∀ y ∈ xs, elO P3 y) → elO P3 x → ∃ P', f_J3_add_2_11 a (some x) (some b3) (z xs.length) P3 = rV P' ∧ PLs P' a (xs ++ [x]) ∧ Fr P.2.1 (fun q => q = a) P3 P' ∧ wt P' = wt P3 := by
    intro P3 b3 n3 g k1 k2 k3 k4 k5 k6 k7 k8
    have hne : a ≠ b3 := fun e => by rw [← e, k2] at k3; cases k3
    have m1 : (xup P3 b3 (ar4 n3 (updR g xs.length (some x)))).1 a = some (true, oB 14 [.int (mc + z 1), .ref b3, .int (z xs.length)]) := (up_ne hne).trans k2
    have m2 : Fr P.2.1 (fun q => q = a) P3 (xup P3 b3 (ar4 n3 (updR g xs.length (some x)))) := Fr.upa k1 k3 fun _ => ⟨a, rfl, ⟨_, _, k2, rfl⟩⟩
    refine ⟨xup (xup P3 b3 (ar4 n3 (updR g xs.length (some x)))) a (oB 14 [.int (mc + z 1), .ref b3, .int (z ((xs ++ [x]).length : Nat))]), ?_, ⟨mc + z 1, b3, n3, updR g xs.length (some x), up_at, ?_, ⟨by simp; omega, by omega, k5⟩, ?_, ?_⟩, m2.trans (Fr.upo m2.iv m1 rfl (fun b' hb => Or.inl hb) fun _ => rfl), rfl⟩
    · simp (disch := omega) only [f_J3_add_2_11, z_add, z_sub, z_mul, z_neg, zlt, zle, zeq, zne, l0, l1, l2, l3, l4, l5, l6, l7, l8, l9, l10, l11, l16, l17, l20, l24, l32, l37, l47, l57, l60, l67, l77, l97, l99, l122, l48, l57, l100, l237, l397, l600, l900, l880, l9998, l9999, bnd, xcI_rI, xcV_rV, xcR_rR, zb0, zb1, nz0, nz1, nar_z0, nar_z1, nar_b2, ↓reduceIte, xgI, xgR, xlen, xaI, xaR, xaL, xnul, xcst, xco, xcl1, xins, xsw, xcon, List.getElem?_cons_zero, List.getElem?_cons_succ, List.set_cons_zero, List.set_cons_succ, List.length_cons, List.length_nil, zix, Nat.reduceLT, Nat.reduceAdd, Nat.lt_irrefl, false_or, or_false, and_true, true_and, not_false_eq_true, not_true_eq_false, Int.toNat_natCast, Int.zero_add, Int.add_zero, xsR_z k3 k4 (by omega) k8.q, m1, xpF, and_self, List.length_append, Int.natCast_add]
      rfl
    · rw [up_ne hne.symm, up_at]
    · intro i hi
      unfold updR
      rw [List.length_append] at hi
      by_cases hil : i = xs.length
      · subst hil; simp
      · have : i < xs.length := by simp at hi; omega
        rw [if_neg hil, k6 i this, List.getElem_append_left this]
    · intro y hy
      refine elO.up (elO.up ?_ k3 rfl) m1 rfl
      rcases List.mem_append.mp hy with hy | hy
      · exact k7 y hy
      · rw [List.mem_singleton.mp hy]; exact k8
  generalize xup P a (oB 14 [.int (mc + z 1), .ref b, .int (z xs.length)]) = P2 at *
  by_cases c1 : (xs.length : Int) = n
  · have hq : ∀ i, i < n → xmayq P2 4 (f i) = true := by
      intro i hi
      have hi' : i < xs.length := by omega
      rw [h4 i hi']
      exact (hm2 _ (List.getElem_mem hi')).q
    obtain ⟨g, n', e, hg, hn1, hn3⟩ := grow2_z hIv g1 g2 ⟨by omega, by omega⟩ (m := (xs.length : Int) + 1) ⟨by omega, by omega⟩ hq
    have f2 : Fr P.2.1 (fun q => q = a) P2 (xpush P2 (ar4 n' g) n') := Fr.push hIv rfl
    have q1 : (xpush P2 (ar4 n' g) n').1 a = some (true, oB 14 [.int (mc + z 1), .ref b, .int (z xs.length)]) := push_old hIv g1
    have f3 : Fr P.2.1 (fun q => q = a) (xpush P2 (ar4 n' g) n') (xup (xpush P2 (ar4 n' g) n') a (oB 14 [.int (mc + z 1), .ref P2.2.1, .int (z xs.length)])) := by
      refine Fr.upo f2.iv q1 rfl (fun b' hb => Or.inr ?_) fun _ => rfl
      have hb : P2.2.1 = b' := by
        have : some P2.2.1 = some b' := hb
        exact Option.some.inj this
      subst hb
      refine ⟨by omega, by show P2.2.1 < P2.2.1 + 1; omega, fun o ho => ?_⟩
      rw [oArr_push] at ho
      rcases ho with ⟨_, ho⟩ | ⟨_, ho⟩
      · cases ho
      · have := (oArr_lt hIv ho).2
        omega
    have hne : P2.2.1 ≠ a := fun e => by have := hIv.lt g1; omega
    obtain ⟨P', e2, l2, f4, w2⟩ := hlast _ P2.2.1 n' g f3.iv up_at ((up_ne hne).trans push_at) (by omega) (by omega) (fun i hi => by rw [hg i (by omega)]; exact h4 i hi) (fun y hy => ((hm2 y hy).push hIv).up q1 rfl) ((hx2.push hIv).up q1 rfl)
    refine ⟨P', ?_, l2, f1.trans (f2.trans (f3.trans f4)), ?_⟩
    · simp (disch := omega) only [f_J3_add_2, f_J3_grow, z_add, z_sub, z_mul, z_neg, zlt, zle, zeq, zne, l0, l1, l2, l3, l4, l5, l6, l7, l8, l9, l10, l11, l16, l17, l20, l24, l32, l37, l47, l57, l60, l67, l77, l97, l99, l122, l48, l57, l100, l237, l397, l600, l900, l880, l9998, l9999, bnd, xcI_rI, xcV_rV, xcR_rR, zb0, zb1, nz0, nz1, nar_z0, nar_z1, nar_b2, ↓reduceIte, xgI, xgR, xlen, xaI, xaR, xaL, xnul, xcst, xco, xcl1, xins, xsw, xcon, List.getElem?_cons_zero, List.getElem?_cons_succ, List.set_cons_zero, List.set_cons_succ, List.length_cons, List.length_nil, zix, Nat.reduceLT, Nat.reduceAdd, Nat.lt_irrefl, false_or, or_false, and_true, true_and, not_false_eq_true, not_true_eq_false, Int.toNat_natCast, Int.zero_add, Int.add_zero, g1, g2, z_nat, if_pos c1, e, e2]
    · rw [w2, wt_up, wt_push, hw2]
      omega
  · obtain ⟨P', e2, l2, f4, w2⟩ := hlast P2 b n f hIv g1 g2 (by omega) (by omega) h4 hm2 hx2
    refine ⟨P', ?_, l2, f1.trans f4, by omega⟩
    simp (disch := omega) only [f_J3_add_2, z_add, z_sub, z_mul, z_neg, zlt, zle, zeq, zne, l0, l1, l2, l3, l4, l5, l6, l7, l8, l9, l10, l11, l16, l17, l20, l24, l32, l37, l47, l57, l60, l67, l77, l97, l99, l122, l48, l57, l100, l237, l397, l600, l900, l880, l9998, l9999, bnd, xcI_rI, xcV_rV, xcR_rR, zb0, zb1, nz0, nz1, nar_z0, nar_z1, nar_b2, ↓reduceIte, xgI, xgR, xlen, xaI, xaR, xaL, xnul, xcst, xco, xcl1, xins, xsw, xcon, List.getElem?_cons_zero, List.getElem?_cons_succ, List.set_cons_zero, List.set_cons_succ, List.length_cons, List.length_nil, zix, Nat.reduceLT, Nat.reduceAdd, Nat.lt_irrefl, false_or, or_false, and_true, true_and, not_false_eq_true, not_true_eq_false, Int.toNat_natCast, Int.zero_add, Int.add_zero, g1, g2, z_nat, if_neg c1, e2]

/-- a fresh array becomes a fresh owner's -/
theorem oArr_new {P : PH} (hI : Iv P) {o m : Nat} {c : PC} (hc : ownA c = none) : ¬ oArr (xpush P c m) o P.2.1 := fun h => by
  rw [oArr_push] at h
  rcases h with ⟨_, h⟩ | ⟨_, h⟩
  · rw [hc] at h; cases h
  · have := (oArr_lt hI h).2
    omega
theorem xpF_z {α : Type} {P : PH} {a c k : Nat} {fs : List Value} {v : Value} {K : PH → Option α} (h : P.1 a = some (true, oB c fs)) (hk : k < fs.length) : xpF P a c k v K = K (xup P a (oB c (fs.set k v))) := by
  unfold xpF
  rw [h]
  exact if_pos ⟨rfl, hk⟩
theorem xnaR_z {α : Type} {P : PH} {n : Nat} {K : Nat → PH → Option α} (hn : n ≤ 1000000) : xnaR P 4 (z n) K = K P.2.1 (xpush P (ar4 n fun _ => none) n) := by
  have c : ¬ ((n : Int) < 0) := by omega
  unfold xnaR
  simp (disch := omega) only [z_add, z_sub, z_mul, z_neg, zlt, zle, zeq, zne, l0, l1, l2, l3, l4, l5, l6, l7, l8, l9, l10, l11, l16, l17, l20, l24, l32, l37, l47, l57, l60, l67, l77, l97, l99, l122, l48, l57, l100, l237, l397, l600, l900, l880, l9998, l9999, bnd, xcI_rI, xcV_rV, xcR_rR, zb0, zb1, nz0, nz1, nar_z0, nar_z1, nar_b2, ↓reduceIte, zix, Int.toNat_natCast, c, hn, not_false_eq_true, and_self, ↓reduceIte]
theorem PLs.new {P : PH} (hI : Iv P) {k : Nat} (hk : 0 < k ∧ k ≤ 1000) : ∃ P', f_J3_init (xpush P (oB 14 [.int (z 0), .null, .int (z 0)]) 3) P.2.1 (z k) = rV P' ∧ (∃ mc b, LX P' P.2.1 mc b k (fun _ => none) []) ∧ Fr P.2.1 W0 P P' ∧ wt P' = wt P + (k + 5) := by
  have c1 : ¬ (k : Int) ≤ 0 := by omega
  have f1 : Fr P.2.1 W0 P (xpush P (oB 14 [.int (z 0), .null, .int (z 0)]) 3) := Fr.push hI rfl
  have g1 : (xpush P (oB 14 [.int (z 0), .null, .int (z 0)]) 3).1 P.2.1 = some (true, oB 14 [.int (z 0), .null, .int (z 0)]) := push_at
  have e1 : (xpush P (oB 14 [.int (z 0), .null, .int (z 0)]) 3).2.1 = P.2.1 + 1 := rfl
  have w1 : wt (xpush P (oB 14 [.int (z 0), .null, .int (z 0)]) 3) = wt P + 1 + 3 := wt_push
  have u1 : xup (xpush P (oB 14 [.int (z 0), .null, .int (z 0)]) 3) P.2.1 (oB 14 [.int (z 0), .null, .int (z 0)]) = xpush P (oB 14 [.int (z 0), .null, .int (z 0)]) 3 := up_push
  generalize xpush P (oB 14 [.int (z 0), .null, .int (z 0)]) 3 = P1 at *
  have f3 : Fr P.2.1 W0 P1 (xpush P1 (ar4 k (fun _ => none)) k) := Fr.push f1.iv rfl
  have g3 : (xpush P1 (ar4 k (fun _ => none)) k).1 P.2.1 = some (true, oB 14 [.int (z 0), .null, .int (z 0)]) := push_old f1.iv g1
  refine ⟨xup (xpush P1 (ar4 k (fun _ => none)) k) P.2.1 (oB 14 [.int (z 0), .ref P1.2.1, .int (z 0)]), ?_, ⟨z 0, P1.2.1, up_at, (up_ne (by omega)).trans push_at, ⟨Nat.zero_le _, hk.1, by omega⟩, fun i hi => absurd hi (by simp), fun x hx => by cases hx⟩, f1.trans (f3.trans (Fr.upo f3.iv g3 rfl (fun b hb => ?_) fun h => absurd h (Nat.lt_irrefl _))), ?_⟩
  · simp (disch := omega) only [f_J3_init, f_J2_init, f_J0_init, z_add, z_sub, z_mul, z_neg, zlt, zle, zeq, zne, l0, l1, l2, l3, l4, l5, l6, l7, l8, l9, l10, l11, l16, l17, l20, l24, l32, l37, l47, l57, l60, l67, l77, l97, l99, l122, l48, l57, l100, l237, l397, l600, l900, l880, l9998, l9999, bnd, xcI_rI, xcV_rV, xcR_rR, zb0, zb1, nz0, nz1, nar_z0, nar_z1, nar_b2, ↓reduceIte, xpF_z (k := 0) g1 (by simp), xpF_z (k := 1) g3 (by simp), List.set_cons_zero, List.set_cons_succ, u1, c1, xnaR_z]
  · have hb : P1.2.1 = b := by
      have : some P1.2.1 = some b := hb
      exact Option.some.inj this
    subst hb
    exact Or.inr ⟨by omega, by show P1.2.1 < P1.2.1 + 1; omega, fun o ho => oArr_new f1.iv rfl ho⟩
  · rw [wt_up, wt_push, w1]
    omega
theorem xcpR_z {α : Type} {P : PH} {a b m m' sp dp n : Nat} {f g : Nat → Option Nat} {K : PH → Option α} (ha : P.1 a = some (true, ar4 m f)) (hb : P.1 b = some (true, ar4 m' g)) (h1 : sp + n ≤ m) (h2 : dp + n ≤ m') (hm : m ≤ 100000) (hm' : m' ≤ 100000) (hq : ∀ i, i < n → xmayq P 4 (f (sp + i)) = true) : xcpR P a b (z sp) (z dp) (z n) K = K (xup P b (ar4 m' (va_cpy f g sp dp n))) := by
  have hall : (List.range n).all (fun i => xmayq P 4 (f (sp + i))) = true := by
    rw [List.all_eq_true]
    intro i hi
    exact hq i (List.mem_range.mp hi)
  have c1 : ¬ ((sp : Int) < 0) := by omega
  have c2 : ¬ ((dp : Int) < 0) := by omega
  have c3 : ¬ ((n : Int) < 0) := by omega
  unfold xcpR
  rw [ha, hb]
  simp (disch := omega) only [z_add, z_sub, z_mul, z_neg, zlt, zle, zeq, zne, l0, l1, l2, l3, l4, l5, l6, l7, l8, l9, l10, l11, l16, l17, l20, l24, l32, l37, l47, l57, l60, l67, l77, l97, l99, l122, l48, l57, l100, l237, l397, l600, l900, l880, l9998, l9999, bnd, xcI_rI, xcV_rV, xcR_rR, zb0, zb1, nz0, nz1, nar_z0, nar_z1, nar_b2, ↓reduceIte, zix, Int.toNat_natCast, c1, c2, c3, h1, h2, hall, not_false_eq_true, and_self, ↓reduceIte]
theorem PLs.set {P : PH} (hI : Iv P) {a x : Nat} {xs : List Nat} (h : PLs P a xs) (hx : elO P x) {i : Nat} (hi : i < xs.length) : ∃ P', f_J3_set P a (z i) (some x) = rR (some xs[i]) P' ∧ PLs P' a (xs.set i x) ∧ Fr P.2.1 (fun q => q = a) P P' ∧ wt P' = wt P := by
  obtain ⟨mc, b, n, f, h⟩ := h
  have hab := h.ne
  obtain ⟨h1, h2, h3, h4, h5⟩ := id h
  have e := h4 i hi
  have c1 : ¬ (i : Int) < 0 := by omega
  have c2 : ¬ n ≤ i := by omega
  have m2 : Fr P.2.1 (fun q => q = a) P (xup P b (ar4 n (updR f i (some x)))) := Fr.upa hI h2 fun _ => ⟨a, rfl, h.own⟩
  refine ⟨xup P b (ar4 n (updR f i (some x))), ?_, ⟨mc, b, n, updR f i (some x), ?_, up_at, by simpa using h3, ?_, ?_⟩, m2, rfl⟩
  · simp (disch := omega) only [f_J3_set, f_J3_elementData, checkIndex_z, z_add, z_sub, z_mul, z_neg, zlt, zle, zeq, zne, l0, l1, l2, l3, l4, l5, l6, l7, l8, l9, l10, l11, l16, l17, l20, l24, l32, l37, l47, l57, l60, l67, l77, l97, l99, l122, l48, l57, l100, l237, l397, l600, l900, l880, l9998, l9999, bnd, xcI_rI, xcV_rV, xcR_rR, zb0, zb1, nz0, nz1, nar_z0, nar_z1, nar_b2, ↓reduceIte, xgI, xgR, xlen, xaI, xaR, xaL, xnul, xcst, xco, xcl1, xins, xsw, xcon, List.getElem?_cons_zero, List.getElem?_cons_succ, List.set_cons_zero, List.set_cons_succ, List.length_cons, List.length_nil, zix, Nat.reduceLT, Nat.reduceAdd, Nat.lt_irrefl, false_or, or_false, and_true, true_and, not_false_eq_true, not_true_eq_false, Int.toNat_natCast, Int.zero_add, Int.add_zero, h1, h2, e, c1, c2, xsR_z h2 (show i < n by omega) (by omega) hx.q]
  · rw [up_ne hab, h1]; simp
  · intro j hj
    unfold updR
    rw [List.length_set] at hj
    by_cases hji : j = i
    · subst hji; simp
    · rw [if_neg hji, h4 j hj, List.getElem_set_ne (by omega)]
  · intro y hy
    refine elO.up ?_ h2 rfl
    rcases List.mem_or_eq_of_mem_set hy with hy | hy
    · exact h5 y hy
    · rw [hy]; exact hx
theorem PLs.remove {P : PH} (hI : Iv P) {a : Nat} {xs : List Nat} (h : PLs P a xs) {i : Nat} (hi : i < xs.length) : ∃ P', f_J3_remove P a (z i) = rR (some xs[i]) P' ∧ PLs P' a (xs.eraseIdx i) ∧ Fr P.2.1 (fun q => q = a) P P' ∧ wt P' = wt P := by
  obtain ⟨mc, b, n, f, h⟩ := h
  have hab := h.ne
  obtain ⟨h1, h2, h3, h4, h5⟩ := id h
  have e := h4 i hi
  have c1 : ¬ (i : Int) < 0 := by omega
  have c2 : ¬ n ≤ i := by omega
  have f1 : Fr P.2.1 (fun q => q = a) P (xup P a (oB 14 [.int (mc + z 1), .ref b, .int (z xs.length)])) := Fr.upo hI h1 rfl (fun b' hb => Or.inl hb) fun _ => rfl
  have hfr : ∀ (P3 : PH) (g : Nat → Option Nat), Iv P3 → P3.1 a = some (true, oB 14 [.int (mc + z 1), .ref b, .int (z xs.length)]) → P3.1 b = some (true, ar4 n g) → (∀ j (hj : j < (xs.eraseIdx i).length), g j = some (xs.eraseIdx i)[j]) → (∀ y ∈ xs, elO P3 y) → ∃ P', f_J3_fastRemove_34 a (some b) (z (xs.length - 1 : Nat)) P3 = rV P' ∧ PLs P' a (xs.eraseIdx i) ∧ Fr P.2.1 (fun q => q = a) P3 P' ∧ wt P' = wt P3 := by
    intro P3 g k1 k2 k3 k4 k5
    have hlen : (xs.eraseIdx i).length = xs.length - 1 := List.length_eraseIdx_of_lt hi
    have m1 : Fr P.2.1 (fun q => q = a) P3 (xup P3 a (oB 14 [.int (mc + z 1), .ref b, .int (z (xs.length - 1 : Nat))])) := Fr.upo k1 k2 rfl (fun b' hb => Or.inl hb) fun _ => rfl
    have q1 : (xup P3 a (oB 14 [.int (mc + z 1), .ref b, .int (z (xs.length - 1 : Nat))])).1 b = some (true, ar4 n g) := (up_ne hab.symm).trans k3
    have m2 : Fr P.2.1 (fun q => q = a) (xup P3 a (oB 14 [.int (mc + z 1), .ref b, .int (z (xs.length - 1 : Nat))])) (xup (xup P3 a (oB 14 [.int (mc + z 1), .ref b, .int (z (xs.length - 1 : Nat))])) b (ar4 n (updR g (xs.length - 1) none))) := Fr.upa m1.iv q1 fun _ => ⟨a, rfl, ⟨_, _, up_at, rfl⟩⟩
    refine ⟨_, ?_, ⟨mc + z 1, b, n, updR g (xs.length - 1) none, (up_ne hab).trans (up_at.trans (by rw [hlen])), up_at, by omega, ?_, ?_⟩, m1.trans m2, rfl⟩
    · simp (disch := omega) only [f_J3_fastRemove_34, xnul, xpF_z (k := 2) k2 (by simp), List.set_cons_zero, List.set_cons_succ, xsR_z q1 (show xs.length - 1 < n by omega) (by omega) (x := none) rfl]
    · intro j hj
      unfold updR
      rw [if_neg (by omega)]
      exact k4 j hj
    · intro y hy
      exact elO.up (elO.up (k5 y (List.mem_of_mem_eraseIdx hy)) k2 rfl) q1 rfl
  have g1 : (xup P a (oB 14 [.int (mc + z 1), .ref b, .int (z xs.length)])).1 a = some (true, oB 14 [.int (mc + z 1), .ref b, .int (z xs.length)]) := up_at
  have g2 : (xup P a (oB 14 [.int (mc + z 1), .ref b, .int (z xs.length)])).1 b = some (true, ar4 n f) := (up_ne hab.symm).trans h2
  have hm2 : ∀ y ∈ xs, elO (xup P a (oB 14 [.int (mc + z 1), .ref b, .int (z xs.length)])) y := fun y hy => (h5 y hy).up h1 rfl
  have w2 : wt (xup P a (oB 14 [.int (mc + z 1), .ref b, .int (z xs.length)])) = wt P := rfl
  have hx : ((xs.length : Int) - 1) = ((xs.length - 1 : Nat) : Int) := by omega
  have hstep : f_J3_remove P a (z i) = xcV (if ((xs.length - 1 : Nat) : Int) ≤ i then f_J3_fastRemove_34 a (some b) (z (xs.length - 1 : Nat)) (xup P a (oB 14 [.int (mc + z 1), .ref b, .int (z xs.length)])) else xcpR (xup P a (oB 14 [.int (mc + z 1), .ref b, .int (z xs.length)])) b b (z ((i : Int) + 1)) (z i) (z ((xs.length - 1 : Nat) - (i : Int))) fun p9 => f_J3_fastRemove_34 a (some b) (z (xs.length - 1 : Nat)) p9) (fun p7 => rR (some xs[i]) p7) := by
    simp (disch := omega) only [f_J3_remove, f_J3_fastRemove, checkIndex_z, z_add, z_sub, z_mul, z_neg, zlt, zle, zeq, zne, l0, l1, l2, l3, l4, l5, l6, l7, l8, l9, l10, l11, l16, l17, l20, l24, l32, l37, l47, l57, l60, l67, l77, l97, l99, l122, l48, l57, l100, l237, l397, l600, l900, l880, l9998, l9999, bnd, xcI_rI, xcV_rV, xcR_rR, zb0, zb1, nz0, nz1, nar_z0, nar_z1, nar_b2, ↓reduceIte, xgI, xgR, xlen, xaI, xaR, xaL, xnul, xcst, xco, xcl1, xins, xsw, xcon, List.getElem?_cons_zero, List.getElem?_cons_succ, List.set_cons_zero, List.set_cons_succ, List.length_cons, List.length_nil, zix, Nat.reduceLT, Nat.reduceAdd, Nat.lt_irrefl, false_or, or_false, and_true, true_and, not_false_eq_true, not_true_eq_false, Int.toNat_natCast, Int.zero_add, Int.add_zero, h1, h2, e, c1, c2, xpF_z (k := 0) h1 (by simp), g1, hx]
  rw [hstep]
  generalize xup P a (oB 14 [.int (mc + z 1), .ref b, .int (z xs.length)]) = P2 at *
  by_cases c3 : ((xs.length - 1 : Nat) : Int) ≤ i
  · rw [if_pos c3]
    obtain ⟨P', e2, l2, f2, w3⟩ := hfr P2 f f1.iv g1 g2 (fun j hj => by
      rw [List.length_eraseIdx_of_lt hi] at hj
      rw [h4 j (by omega), List.getElem_eraseIdx_of_lt _ (by omega)]) hm2
    exact ⟨P', by rw [e2]; rfl, l2, f1.trans f2, by omega⟩
  · rw [if_neg c3]
    have m1 : Fr P.2.1 (fun q => q = a) P2 (xup P2 b (ar4 n (va_cpy f f (i + 1) i (xs.length - 1 - i)))) := Fr.upa f1.iv g2 fun _ => ⟨a, rfl, ⟨_, _, g1, rfl⟩⟩
    obtain ⟨P', e2, l2, f2, w3⟩ := hfr (xup P2 b (ar4 n (va_cpy f f (i + 1) i (xs.length - 1 - i)))) (va_cpy f f (i + 1) i (xs.length - 1 - i)) m1.iv ((up_ne hab).trans g1) up_at (fun j hj => by
      rw [List.length_eraseIdx_of_lt hi] at hj
      unfold va_cpy
      by_cases hji : j < i
      · rw [if_neg (by omega), h4 j (by omega), List.getElem_eraseIdx_of_lt _ hji]
      · rw [if_pos (by omega), show i + 1 + (j - i) = j + 1 by omega, h4 (j + 1) (by omega), List.getElem_eraseIdx_of_ge _ (by omega)]) (fun y hy => (hm2 y hy).up g2 rfl)
    refine ⟨P', ?_, l2, f1.trans (m1.trans f2), by rw [w3, wt_up]; exact w2⟩
    rw [show ((i : Int) + 1) = ((i + 1 : Nat) : Int) by omega, show (((xs.length - 1 : Nat) : Int) - (i : Int)) = ((xs.length - 1 - i : Nat) : Int) by omega, xcpR_z g2 g2 (by omega) (by omega) (by omega) (by omega) (fun j hj => by
      rw [h4 (i + 1 + j) (by omega)]
      exact (hm2 _ (List.getElem_mem _)).q), e2]
    rfl
/-- the array of a list that has grown -/
theorem LX.grown {P0 P2 : PH} {W : Nat → Prop} {a b n n' : Nat} {mc sz : Int32} {g : Nat → Option Nat} (hI0 : Iv P0) (f1 : Fr P0.2.1 W P0 P2) (hWa : W a) (g1 : P2.1 a = some (true, oB 14 [.int mc, .ref b, .int sz])) : Fr P0.2.1 W P2 (xup (xpush P2 (ar4 n' g) n') a (oB 14 [.int mc, .ref P2.2.1, .int sz])) := by
  have f2 : Fr P0.2.1 W P2 (xpush P2 (ar4 n' g) n') := Fr.push f1.iv rfl
  have q1 : (xpush P2 (ar4 n' g) n').1 a = some (true, oB 14 [.int mc, .ref b, .int sz]) := push_old f1.iv g1
  refine f2.trans (Fr.upo f2.iv q1 rfl (fun b' hb => Or.inr ?_) fun _ => hWa)
  have hb : P2.2.1 = b' := by
    have : some P2.2.1 = some b' := hb
    exact Option.some.inj this
  subst hb
  refine ⟨f1.next, by show P2.2.1 < P2.2.1 + 1; omega, fun o ho => oArr_new f1.iv rfl ho⟩
theorem PLs.insert {P : PH} (hI : Iv P) {a x : Nat} {xs : List Nat} (h : PLs P a xs) (hx : elO P x) (hl : xs.length ≤ 1000) {i : Nat} (hi : i ≤ xs.length) : ∃ P', f_J3_add_3 P a (z i) (some x) = rV P' ∧ PLs P' a (xs.take i ++ x :: xs.drop i) ∧ Fr P.2.1 (fun q => q = a) P P' ∧ wt P' ≤ wt P + (2 * xs.length + 3) := by
  obtain ⟨mc, b, n, f, h⟩ := h
  have hab := h.ne
  obtain ⟨h1, h2, h3, h4, h5⟩ := id h
  have c1 : ¬ (xs.length : Int) < i := by omega
  have c2 : (0 : Int) ≤ i := by omega
  have f1 : Fr P.2.1 (fun q => q = a) P (xup P a (oB 14 [.int (mc + z 1), .ref b, .int (z xs.length)])) := Fr.upo hI h1 rfl (fun b' hb => Or.inl hb) fun _ => rfl
  have g1 : (xup P a (oB 14 [.int (mc + z 1), .ref b, .int (z xs.length)])).1 a = some (true, oB 14 [.int (mc + z 1), .ref b, .int (z xs.length)]) := up_at
  have g2 : (xup P a (oB 14 [.int (mc + z 1), .ref b, .int (z xs.length)])).1 b = some (true, ar4 n f) := (up_ne hab.symm).trans h2
  have hw2 : wt (xup P a (oB 14 [.int (mc + z 1), .ref b, .int (z xs.length)])) = wt P := rfl
  have hx2 : elO (xup P a (oB 14 [.int (mc + z 1), .ref b, .int (z xs.length)])) x := hx.up h1 rfl
  have hm2 : ∀ y ∈ xs, elO (xup P a (oB 14 [.int (mc + z 1), .ref b, .int (z xs.length)])) y := fun y hy => (h5 y hy).up h1 rfl
  have hn2 : P.2.1 = (xup P a (oB 14 [.int (mc + z 1), .ref b, .int (z xs.length)])).2.1 := rfl
  have hstep : f_J3_add_3 P a (z i) (some x) = if (xs.length : Int) = n then xcR (f_J3_grow_2 (xup P a (oB 14 [.int (mc + z 1), .ref b, .int (z xs.length)])) a (z ((xs.length : Int) + 1))) (fun x13 p12 => f_J3_add_3_38 a (z i) (some x) (z xs.length) x13 p12) else f_J3_add_3_38 a (z i) (some x) (z xs.length) (some b) (xup P a (oB 14 [.int (mc + z 1), .ref b, .int (z xs.length)])) := by
    simp (disch := omega) only [f_J3_add_3, f_J3_rangeCheckForAdd, z_add, z_sub, z_mul, z_neg, zlt, zle, zeq, zne, l0, l1, l2, l3, l4, l5, l6, l7, l8, l9, l10, l11, l16, l17, l20, l24, l32, l37, l47, l57, l60, l67, l77, l97, l99, l122, l48, l57, l100, l237, l397, l600, l900, l880, l9998, l9999, bnd, xcI_rI, xcV_rV, xcR_rR, zb0, zb1, nz0, nz1, nar_z0, nar_z1, nar_b2, ↓reduceIte, xgI, xgR, xlen, xaI, xaR, xaL, xnul, xcst, xco, xcl1, xins, xsw, xcon, List.getElem?_cons_zero, List.getElem?_cons_succ, List.set_cons_zero, List.set_cons_succ, List.length_cons, List.length_nil, zix, Nat.reduceLT, Nat.reduceAdd, Nat.lt_irrefl, false_or, or_false, and_true, true_and, not_false_eq_true, not_true_eq_false, Int.toNat_natCast, Int.zero_add, Int.add_zero, h1, h2, c1, c2, xpF_z (k := 0) h1 (by simp), g1, g2, z_nat, f_J3_grow]
    split
    · cases f_J3_grow_2 (xup P a (oB 14 [.int (mc + z 1), .ref b, .int (z xs.length)])) a (z ((xs.length : Int) + 1)) with
      | none => rfl
      | some y =>
        obtain ⟨o, s⟩ := y
        rcases o with q | (_ | (_ | _ | _ | _ | _ | _ | _)) <;> rfl
    · rfl
  rw [hstep]
  have hIv := f1.iv
  have hb0 : b < P.2.1 := hI.lt h2
  have hlast : ∀ (P3 : PH) (b3 n3 : Nat) (g : Nat → Option Nat), Iv P3 → P3.1 a = some (true, oB 14 [.int (mc + z 1), .ref b3, .int (z xs.length)]) → P3.1 b3 = some (true, ar4 n3 g) → xs.length < n3 → n3 ≤ 5000 → (∀ j (hj : j < xs.length), g j = some xs[j]) → (∀ y ∈ xs, elO P3 y) → elO P3 x → ∃ P', f_J3_add_3_38 a (z i) (some x) (z xs.length) (some b3) P3 = rV P' ∧ PLs P' a (xs.take i ++ x :: xs.drop i) ∧ Fr P.2.1 (fun q => q = a) P3 P' ∧ wt P' = wt P3 := by
    intro P3 b3 n3 g k1 k2 k3 k4 k5 k6 k7 k8
    have hne : a ≠ b3 := fun e => by rw [← e, k2] at k3; cases k3
    have hlen : (xs.take i ++ x :: xs.drop i).length = xs.length + 1 := by simp; omega
    have k9 : ∀ j, j < xs.length - i → xmayq P3 4 (g (i + j)) = true := fun j hj => by
      rw [k6 (i + j) (by omega)]
      exact (k7 _ (List.getElem_mem _)).q
    have m0 : (xup P3 b3 (ar4 n3 (va_cpy g g i (i + 1) (xs.length - i)))).1 a = some (true, oB 14 [.int (mc + z 1), .ref b3, .int (z xs.length)]) := (up_ne hne).trans k2
    have m2 : Fr P.2.1 (fun q => q = a) P3 (xup P3 b3 (ar4 n3 (va_cpy g g i (i + 1) (xs.length - i)))) := Fr.upa k1 k3 fun _ => ⟨a, rfl, ⟨_, _, k2, rfl⟩⟩
    have m3 : (xup P3 b3 (ar4 n3 (va_cpy g g i (i + 1) (xs.length - i)))).1 b3 = some (true, ar4 n3 (va_cpy g g i (i + 1) (xs.length - i))) := up_at
    have m4 : elO (xup P3 b3 (ar4 n3 (va_cpy g g i (i + 1) (xs.length - i)))) x := k8.up k3 rfl
    have m5 : ∀ y ∈ xs, elO (xup P3 b3 (ar4 n3 (va_cpy g g i (i + 1) (xs.length - i)))) y := fun y hy => (k7 y hy).up k3 rfl
    have hst : f_J3_add_3_38 a (z i) (some x) (z xs.length) (some b3) P3 = xsR (xup P3 b3 (ar4 n3 (va_cpy g g i (i + 1) (xs.length - i)))) b3 4 (z i) (some x) fun p10 => xpF p10 a 14 2 (.int (z xs.length + 1)) fun p11 => rV p11 := by
      simp (disch := omega) only [f_J3_add_3_38, xnul, l1, z_add, z_sub]
      rw [show ((i : Int) + 1) = ((i + 1 : Nat) : Int) by omega, show ((xs.length : Int) - (i : Int)) = ((xs.length - i : Nat) : Int) by omega, xcpR_z k3 k3 (by omega) (by omega) (by omega) (by omega) k9]
    rw [hst]
    have w3 : wt (xup P3 b3 (ar4 n3 (va_cpy g g i (i + 1) (xs.length - i)))) = wt P3 := rfl
    generalize xup P3 b3 (ar4 n3 (va_cpy g g i (i + 1) (xs.length - i))) = P4 at *
    have m6 : Fr P.2.1 (fun q => q = a) P4 (xup P4 b3 (ar4 n3 (updR (va_cpy g g i (i + 1) (xs.length - i)) i (some x)))) := Fr.upa m2.iv m3 fun _ => ⟨a, rfl, ⟨_, _, m0, rfl⟩⟩
    have m7 : (xup P4 b3 (ar4 n3 (updR (va_cpy g g i (i + 1) (xs.length - i)) i (some x)))).1 a = some (true, oB 14 [.int (mc + z 1), .ref b3, .int (z xs.length)]) := (up_ne hne).trans m0
    refine ⟨xup (xup P4 b3 (ar4 n3 (updR (va_cpy g g i (i + 1) (xs.length - i)) i (some x)))) a (oB 14 [.int (mc + z 1), .ref b3, .int (z xs.length + 1)]), ?_, ⟨mc + z 1, b3, n3, updR (va_cpy g g i (i + 1) (xs.length - i)) i (some x), up_at.trans ?_, ?_, ⟨by omega, by omega, k5⟩, ?_, ?_⟩, m2.trans (m6.trans (Fr.upo m6.iv m7 rfl (fun b' hb => Or.inl hb) fun _ => rfl)), w3⟩
    · rw [xsR_z m3 (by omega) (by omega) m4.q]
      simp (disch := omega) only [xpF_z (k := 2) m7 (by simp), List.set_cons_zero, List.set_cons_succ]
    · rw [hlen, show z xs.length + 1 = z ((xs.length + 1 : Nat) : Int) from z_add xs.length 1]
    · rw [up_ne hne.symm, up_at]
    · intro j hj
      rw [hlen] at hj
      unfold updR va_cpy
      by_cases hji : j = i
      · subst hji
        rw [if_pos rfl]
        simp [List.getElem_append_right, Nat.min_eq_left hi]
      · rw [if_neg hji]
        by_cases hlt : j < i
        · rw [if_neg (by omega), k6 j (by omega), List.getElem_append_left (by simp; omega), List.getElem_take]
        · rw [if_pos (by omega), show i + (j - (i + 1)) = j - 1 by omega, k6 (j - 1) (by omega)]
          rw [List.getElem_append_right (by simp; omega)]
          simp only [List.length_take, Nat.min_eq_left hi]
          rw [List.getElem_cons, dif_neg (by omega), List.getElem_drop]
          congr 2
          omega
    · intro y hy
      refine elO.up (elO.up ?_ m3 rfl) m7 rfl
      rcases List.mem_append.mp hy with hy | hy
      · exact m5 y (List.mem_of_mem_take hy)
      · rcases List.mem_cons.mp hy with hy | hy
        · rw [hy]; exact m4
        · exact m5 y (List.mem_of_mem_drop hy)
  have hf1 := f1
  generalize xup P a (oB 14 [.int (mc + z 1), .ref b, .int (z xs.length)]) = P2 at *
  by_cases c1 : (xs.length : Int) = n
  · have hq : ∀ i, i < n → xmayq P2 4 (f i) = true := by
      intro i hi
      have hi' : i < xs.length := by omega
      rw [h4 i hi']
      exact (hm2 _ (List.getElem_mem hi')).q
    obtain ⟨g, n', e, hg, hn1, hn3⟩ := grow2_z hIv g1 g2 ⟨by omega, by omega⟩ (m := (xs.length : Int) + 1) ⟨by omega, by omega⟩ hq
    have f3 := LX.grown (n := n) (n' := n') (g := g) hI f1 (by rfl : (fun q => q = a) a) g1
    have q1 : (xpush P2 (ar4 n' g) n').1 a = some (true, oB 14 [.int (mc + z 1), .ref b, .int (z xs.length)]) := push_old hIv g1
    have hne : P2.2.1 ≠ a := fun e => by have := hIv.lt g1; omega
    obtain ⟨P', e2, l2, f4, w2⟩ := hlast _ P2.2.1 n' g f3.iv up_at ((up_ne hne).trans push_at) (by omega) (by omega) (fun i hi => by rw [hg i (by omega)]; exact h4 i hi) (fun y hy => ((hm2 y hy).push hIv).up q1 rfl) ((hx2.push hIv).up q1 rfl)
    refine ⟨P', ?_, l2, f1.trans (f3.trans f4), ?_⟩
    · rw [if_pos c1, e, xcR_rR]
      exact e2
    · rw [w2, wt_up, wt_push, hw2]
      omega
  · obtain ⟨P', e2, l2, f4, w2⟩ := hlast P2 b n f hIv g1 g2 (by omega) (by omega) h4 hm2 hx2
    exact ⟨P', by rw [if_neg c1]; exact e2, l2, f1.trans f4, by omega⟩

theorem PLs.toArray {P : PH} (hI : Iv P) {a : Nat} {xs : List Nat} (h : PLs P a xs) : ∃ g, f_J3_toArray P a = rR (some P.2.1) (xpush P (ar4 xs.length g) xs.length) ∧ ∀ i (hi : i < xs.length), g i = some xs[i] := by
  obtain ⟨mc, b, n, f, h1, h2, h3, h4, h5⟩ := h
  obtain ⟨g, e, hg⟩ := copyOf4 (m := xs.length) hI h2 (by omega) (by omega) (fun i hi => by
    rw [h4 i (by omega)]
    exact (h5 _ (List.getElem_mem _)).q)
  refine ⟨g, ?_, fun i hi => by rw [hg i (by omega)]; exact h4 i hi⟩
  simp (disch := omega) only [f_J3_toArray, z_add, z_sub, z_mul, z_neg, zlt, zle, zeq, zne, l0, l1, l2, l3, l4, l5, l6, l7, l8, l9, l10, l11, l16, l17, l20, l24, l32, l37, l47, l57, l60, l67, l77, l97, l99, l122, l48, l57, l100, l237, l397, l600, l900, l880, l9998, l9999, bnd, xcI_rI, xcV_rV, xcR_rR, zb0, zb1, nz0, nz1, nar_z0, nar_z1, nar_b2, ↓reduceIte, xgI, xgR, xlen, xaI, xaR, xaL, xnul, xcst, xco, xcl1, xins, xsw, xcon, List.getElem?_cons_zero, List.getElem?_cons_succ, List.set_cons_zero, List.set_cons_succ, List.length_cons, List.length_nil, zix, Nat.reduceLT, Nat.reduceAdd, Nat.lt_irrefl, false_or, or_false, and_true, true_and, not_false_eq_true, not_true_eq_false, Int.toNat_natCast, Int.zero_add, Int.add_zero, h1, e]
theorem xcpR_zz {α : Type} {P : PH} {a b m m' dp n : Nat} {f g : Nat → Option Nat} {K : PH → Option α} (ha : P.1 a = some (true, ar4 m f)) (hb : P.1 b = some (true, ar4 m' g)) (h1 : n ≤ m) (h2 : dp + n ≤ m') (hm : m ≤ 100000) (hm' : m' ≤ 100000) (hq : ∀ i, i < n → xmayq P 4 (f i) = true) : xcpR P a b (z 0) (z dp) (z n) K = K (xup P b (ar4 m' (va_cpy f g 0 dp n))) :=
  xcpR_z (sp := 0) ha hb (by omega) h2 hm hm' fun i hi => by rw [Nat.zero_add]; exact hq i hi
theorem LX.addAll {P : PH} (hI : Iv P) {a s b n : Nat} {mc : Int32} {ys : List Nat} (h : LX P a mc b n (fun _ => none) []) (hs : PLs P s ys) (hl' : ys.length ≤ 500) (hn : n ≤ 500) : ∃ P', f_J3_addAll P a (some s) = rI (z (b2 (ys ≠ []))) P' ∧ PLs P' a ys ∧ Fr P.2.1 (fun q => q = a) P P' ∧ wt P' ≤ wt P + (3 * ys.length + 2 * n + 3) := by
  obtain ⟨xs, hxs⟩ : ∃ xs : List Nat, xs = [] := ⟨[], rfl⟩
  obtain ⟨f, hf⟩ : ∃ f : Nat → Option Nat, f = fun _ => none := ⟨_, rfl⟩
  rw [← hxs, ← hf] at h
  rw [show ys = xs ++ ys by rw [hxs]; rfl]
  have hl : xs.length = 0 := by rw [hxs]; rfl
  suffices hS : ∃ P', f_J3_addAll P a (some s) = rI (z (b2 (ys ≠ []))) P' ∧ PLs P' a (xs ++ ys) ∧ Fr P.2.1 (fun q => q = a) P P' ∧ wt P' ≤ wt P + (3 * ys.length + 2 * n + 3) by
    simpa [hxs] using hS
  obtain ⟨ga, ea, hga⟩ := hs.toArray hI
  have hys := hs.mem
  have hab := h.ne
  obtain ⟨h1, h2, h3, h4, h5⟩ := id h
  have f0 : Fr P.2.1 (fun q => q = a) P (xpush P (ar4 ys.length ga) ys.length) := Fr.push hI rfl
  have a1 : (xpush P (ar4 ys.length ga) ys.length).1 a = some (true, oB 14 [.int mc, .ref b, .int (z xs.length)]) := push_old hI h1
  have a2 : (xpush P (ar4 ys.length ga) ys.length).1 b = some (true, ar4 n f) := push_old hI h2
  have a3 : (xpush P (ar4 ys.length ga) ys.length).1 P.2.1 = some (true, ar4 ys.length ga) := push_at
  have a4 : ∀ y ∈ xs, elO (xpush P (ar4 ys.length ga) ys.length) y := fun y hy => (h5 y hy).push hI
  have a5 : ∀ y ∈ ys, elO (xpush P (ar4 ys.length ga) ys.length) y := fun y hy => (hys y hy).push hI
  have w0 : wt (xpush P (ar4 ys.length ga) ys.length) = wt P + 1 + ys.length := wt_push
  have hna : P.2.1 ≠ a := fun e => by have := hI.lt h1; omega
  have hnb : P.2.1 ≠ b := fun e => by have := hI.lt h2; omega
  have f1 : Fr P.2.1 (fun q => q = a) (xpush P (ar4 ys.length ga) ys.length) (xup (xpush P (ar4 ys.length ga) ys.length) a (oB 14 [.int (mc + z 1), .ref b, .int (z xs.length)])) := Fr.upo f0.iv a1 rfl (fun b' hb => Or.inl hb) fun _ => rfl
  have g1 : (xup (xpush P (ar4 ys.length ga) ys.length) a (oB 14 [.int (mc + z 1), .ref b, .int (z xs.length)])).1 a = some (true, oB 14 [.int (mc + z 1), .ref b, .int (z xs.length)]) := up_at
  have g2 : (xup (xpush P (ar4 ys.length ga) ys.length) a (oB 14 [.int (mc + z 1), .ref b, .int (z xs.length)])).1 b = some (true, ar4 n f) := (up_ne hab.symm).trans a2
  have g3 : (xup (xpush P (ar4 ys.length ga) ys.length) a (oB 14 [.int (mc + z 1), .ref b, .int (z xs.length)])).1 P.2.1 = some (true, ar4 ys.length ga) := (up_ne hna).trans a3
  have g4 : ∀ y ∈ xs, elO (xup (xpush P (ar4 ys.length ga) ys.length) a (oB 14 [.int (mc + z 1), .ref b, .int (z xs.length)])) y := fun y hy => (a4 y hy).up a1 rfl
  have g5 : ∀ y ∈ ys, elO (xup (xpush P (ar4 ys.length ga) ys.length) a (oB 14 [.int (mc + z 1), .ref b, .int (z xs.length)])) y := fun y hy => (a5 y hy).up a1 rfl
  have w1 : wt (xup (xpush P (ar4 ys.length ga) ys.length) a (oB 14 [.int (mc + z 1), .ref b, .int (z xs.length)])) = wt P + 1 + ys.length := w0
  have hstep : f_J3_addAll P a (some s) = if (ys.length : Int) = 0 then rI (z 0) (xup (xpush P (ar4 ys.length ga) ys.length) a (oB 14 [.int (mc + z 1), .ref b, .int (z xs.length)])) else if (ys.length : Int) ≤ n - xs.length then f_J3_addAll_56 a (some P.2.1) (z ys.length) (some b) (z xs.length) (xup (xpush P (ar4 ys.length ga) ys.length) a (oB 14 [.int (mc + z 1), .ref b, .int (z xs.length)])) else xcR (f_J3_grow_2 (xup (xpush P (ar4 ys.length ga) ys.length) a (oB 14 [.int (mc + z 1), .ref b, .int (z xs.length)])) a (z ((xs.length : Int) + ys.length))) fun x17 p16 => f_J3_addAll_56 a (some P.2.1) (z ys.length) x17 (z xs.length) p16 := by
    simp (disch := omega) only [f_J3_addAll, z_add, z_sub, z_mul, z_neg, zlt, zle, zeq, zne, l0, l1, l2, l3, l4, l5, l6, l7, l8, l9, l10, l11, l16, l17, l20, l24, l32, l37, l47, l57, l60, l67, l77, l97, l99, l122, l48, l57, l100, l237, l397, l600, l900, l880, l9998, l9999, bnd, xcI_rI, xcV_rV, xcR_rR, zb0, zb1, nz0, nz1, nar_z0, nar_z1, nar_b2, ↓reduceIte, xgI, xgR, xlen, xaI, xaR, xaL, xnul, xcst, xco, xcl1, xins, xsw, xcon, List.getElem?_cons_zero, List.getElem?_cons_succ, List.set_cons_zero, List.set_cons_succ, List.length_cons, List.length_nil, zix, Nat.reduceLT, Nat.reduceAdd, Nat.lt_irrefl, false_or, or_false, and_true, true_and, not_false_eq_true, not_true_eq_false, Int.toNat_natCast, Int.zero_add, Int.add_zero, h1, ea, a1, xpF_z (k := 0) a1 (by simp), g1, g2, g3, z_nat]
  rw [hstep]
  have hF := f0.trans f1
  clear f0 f1 a1 a2 a3 a4 a5 w0 hstep ea
  generalize xup (xpush P (ar4 ys.length ga) ys.length) a (oB 14 [.int (mc + z 1), .ref b, .int (z xs.length)]) = P2 at *
  have hlast : ∀ (P3 : PH) (b3 n3 : Nat) (g : Nat → Option Nat), Iv P3 → P3.1 a = some (true, oB 14 [.int (mc + z 1), .ref b3, .int (z xs.length)]) → P3.1 b3 = some (true, ar4 n3 g) → P3.1 P.2.1 = some (true, ar4 ys.length ga) → xs.length + ys.length ≤ n3 → 0 < n3 → n3 ≤ 5000 → (∀ j (hj : j < xs.length), g j = some xs[j]) → (∀ y ∈ xs, elO P3 y) → (∀ y ∈ ys, elO P3 y) → ∃ P', f_J3_addAll_56 a (some P.2.1) (z ys.length) (some b3) (z xs.length) P3 = rI (z 1) P' ∧ PLs P' a (xs ++ ys) ∧ Fr P.2.1 (fun q => q = a) P3 P' ∧ wt P' = wt P3 := by
    intro P3 b3 n3 g k1 k2 k3 k3' k4 k4' k5 k6 k7 k8
    have hne : a ≠ b3 := fun e => by rw [← e, k2] at k3; cases k3
    have m0 : (xup P3 b3 (ar4 n3 (va_cpy ga g 0 xs.length ys.length))).1 a = some (true, oB 14 [.int (mc + z 1), .ref b3, .int (z xs.length)]) := (up_ne hne).trans k2
    have m2 : Fr P.2.1 (fun q => q = a) P3 (xup P3 b3 (ar4 n3 (va_cpy ga g 0 xs.length ys.length))) := Fr.upa k1 k3 fun _ => ⟨a, rfl, ⟨_, _, k2, rfl⟩⟩
    refine ⟨xup (xup P3 b3 (ar4 n3 (va_cpy ga g 0 xs.length ys.length))) a (oB 14 [.int (mc + z 1), .ref b3, .int (z ((xs ++ ys).length : Nat))]), ?_, ⟨mc + z 1, b3, n3, va_cpy ga g 0 xs.length ys.length, up_at, (up_ne hne.symm).trans up_at, ⟨by rw [List.length_append]; omega, k4', k5⟩, ?_, ?_⟩, m2.trans (Fr.upo m2.iv m0 rfl (fun b' hb => Or.inl hb) fun _ => rfl), rfl⟩
    · simp (disch := omega) only [f_J3_addAll_56, xnul, z_add, z_sub, z_mul, z_neg, zlt, zle, zeq, zne, l0, l1, l2, l3, l4, l5, l6, l7, l8, l9, l10, l11, l16, l17, l20, l24, l32, l37, l47, l57, l60, l67, l77, l97, l99, l122, l48, l57, l100, l237, l397, l600, l900, l880, l9998, l9999, bnd, xcI_rI, xcV_rV, xcR_rR, zb0, zb1, nz0, nz1, nar_z0, nar_z1, nar_b2, ↓reduceIte, xcpR_zz k3' k3 (Nat.le_refl _) k4 (by omega) (by omega) (fun j hj => by
        rw [hga j (by omega)]
        exact (k8 _ (List.getElem_mem _)).q), xpF_z (k := 2) m0 (by simp), List.set_cons_zero, List.set_cons_succ, List.length_append, Int.natCast_add]
    · intro j hj
      rw [List.length_append] at hj
      unfold va_cpy
      by_cases hlt : j < xs.length
      · rw [if_neg (by omega), k6 j hlt, List.getElem_append_left hlt]
      · rw [if_pos (by omega), hga (0 + (j - xs.length)) (by omega), List.getElem_append_right (by omega)]
        simp
    · intro y hy
      refine elO.up (elO.up ?_ k3 rfl) m0 rfl
      rcases List.mem_append.mp hy with hy | hy
      · exact k7 y hy
      · exact k8 y hy
  by_cases c1 : (ys.length : Int) = 0
  · have : ys = [] := List.length_eq_zero_iff.mp (by omega)
    subst this
    rw [if_pos c1, List.append_nil, b2_f' (by simp)]
    exact ⟨P2, rfl, ⟨mc + z 1, b, n, f, g1, g2, h3, h4, g4⟩, hF, by omega⟩
  · have hyn : ys ≠ [] := fun e => c1 (by rw [e]; rfl)
    rw [if_neg c1, b2_t' hyn]
    by_cases c2 : (ys.length : Int) ≤ n - xs.length
    · rw [if_pos c2]
      obtain ⟨P', e2, l2, f4, w2⟩ := hlast P2 b n f hF.iv g1 g2 g3 (by omega) h3.2.1 h3.2.2 h4 g4 g5
      exact ⟨P', e2, l2, hF.trans f4, by omega⟩
    · rw [if_neg c2]
      have hq : ∀ i, i < n → xmayq P2 4 (f i) = true := fun i _ => by rw [hf]; rfl
      obtain ⟨g, n', e, hg, hn1, hn3⟩ := grow2_z hF.iv g1 g2 ⟨by omega, by omega⟩ (m := (xs.length : Int) + ys.length) ⟨by omega, by omega⟩ hq
      have f3 := LX.grown (n := n) (n' := n') (g := g) hI hF (by rfl : (fun q => q = a) a) g1
      have q1 : (xpush P2 (ar4 n' g) n').1 a = some (true, oB 14 [.int (mc + z 1), .ref b, .int (z xs.length)]) := push_old hF.iv g1
      have hne : P2.2.1 ≠ a := fun e => by have := hF.iv.lt g1; omega
      obtain ⟨P', e2, l2, f4, w2⟩ := hlast _ P2.2.1 n' g f3.iv up_at ((up_ne hne).trans push_at) ((up_ne hna).trans (push_old hF.iv g3)) (by omega) (by omega) (by omega) (fun i hi => by omega) (fun y hy => ((g4 y hy).push hF.iv).up q1 rfl) (fun y hy => ((g5 y hy).push hF.iv).up q1 rfl)
      refine ⟨P', ?_, l2, hF.trans (f3.trans f4), ?_⟩
      · rw [e, xcR_rR]
        exact e2
      · rw [w2, wt_up, wt_push, w1]
        omega
/-- an iterator ahead of a list's i-th -/
def IT (P : PH) (it l i : Nat) (xs : List Nat) : Prop := ∃ mc b n f lr, P.1 it = some (true, oB 20 [.int (z i), .int lr, .int mc, .ref l]) ∧ LX P l mc b n f xs
theorem IT.fr {W : Nat → Prop} {P P' : PH} {it l i : Nat} {xs : List Nat} (h : IT P it l i xs) (hI : Iv P) (hf : Fr P.2.1 W P P') (hW : ¬ W it) (hW2 : ¬ W l) (hW' : noAr P W) : IT P' it l i xs := by
  obtain ⟨mc, b, n, f, lr, h1, h2⟩ := h
  exact ⟨mc, b, n, f, lr, hf.ob (hI.lt h1) h1 hW, h2.fr hI hf (hI.lt h2.1) (hI.lt h2.2.1) hW2 hW'⟩
theorem IT.ls {P : PH} {it l i : Nat} {xs : List Nat} (h : IT P it l i xs) : PLs P l xs := by
  obtain ⟨mc, b, n, f, lr, h1, h2⟩ := h
  exact ⟨mc, b, n, f, h2⟩
theorem IT.cell {P : PH} {it l i : Nat} {xs : List Nat} (h : IT P it l i xs) : ∃ w fs, P.1 it = some (w, oB 20 fs) := by
  obtain ⟨mc, b, n, f, lr, h1, h2⟩ := h
  exact ⟨_, _, h1⟩
theorem PLs.iterator {P : PH} (hI : Iv P) {l : Nat} {xs : List Nat} (h : PLs P l xs) : ∃ P', f_J3_iterator P l = rR (some P.2.1) P' ∧ IT P' P.2.1 l 0 xs ∧ Fr P.2.1 W0 P P' ∧ wt P' = wt P + 5 := by
  obtain ⟨mc, b, n, f, h⟩ := h
  have h1 := h.1
  have f1 : Fr P.2.1 W0 P (xpush P (oB 20 [.int (z 0), .int (z 0), .int (z 0), .null]) 4) := Fr.push hI rfl
  have g1 : (xpush P (oB 20 [.int (z 0), .int (z 0), .int (z 0), .null]) 4).1 P.2.1 = some (true, oB 20 [.int (z 0), .int (z 0), .int (z 0), .null]) := push_at
  have g2 : (xpush P (oB 20 [.int (z 0), .int (z 0), .int (z 0), .null]) 4).1 l = some (true, oB 14 [.int mc, .ref b, .int (z xs.length)]) := push_old hI h1
  have w1 : wt (xpush P (oB 20 [.int (z 0), .int (z 0), .int (z 0), .null]) 4) = wt P + 1 + 4 := wt_push
  have hnx : (xpush P (oB 20 [.int (z 0), .int (z 0), .int (z 0), .null]) 4).2.1 = P.2.1 + 1 := rfl
  have hl : l < P.2.1 := hI.lt h1
  have hb : b < P.2.1 := hI.lt h.2.1
  have hst : f_J3_iterator P l = xcV (f_J26_init (xpush P (oB 20 [.int (z 0), .int (z 0), .int (z 0), .null]) 4) P.2.1 (some l)) fun p3 => rR (some P.2.1) p3 := by
    simp (disch := omega) only [f_J3_iterator, z_add, z_sub, z_mul, z_neg, zlt, zle, zeq, zne, l0, l1, l2, l3, l4, l5, l6, l7, l8, l9, l10, l11, l16, l17, l20, l24, l32, l37, l47, l57, l60, l67, l77, l97, l99, l122, l48, l57, l100, l237, l397, l600, l900, l880, l9998, l9999, bnd, xcI_rI, xcV_rV, xcR_rR, zb0, zb1, nz0, nz1, nar_z0, nar_z1, nar_b2, ↓reduceIte, xgI, xgR, xlen, xaI, xaR, xaL, xnul, xcst, xco, xcl1, xins, xsw, xcon, List.getElem?_cons_zero, List.getElem?_cons_succ, List.set_cons_zero, List.set_cons_succ, List.length_cons, List.length_nil, zix, Nat.reduceLT, Nat.reduceAdd, Nat.lt_irrefl, false_or, or_false, and_true, true_and, not_false_eq_true, not_true_eq_false, Int.toNat_natCast, Int.zero_add, Int.add_zero, h1, xnew]
  rw [hst]
  have lx1 := h.fr hI f1 hl hb (fun h => h) noAr_0
  generalize xpush P (oB 20 [.int (z 0), .int (z 0), .int (z 0), .null]) 4 = P1 at *
  have f2 : Fr P.2.1 W0 P1 (xup P1 P.2.1 (oB 20 [.int (z 0), .int (z 0), .int (z 0), .ref l])) := Fr.upo f1.iv g1 rfl (fun b hb => by cases hb) fun h => absurd h (Nat.lt_irrefl _)
  have g3 : (xup P1 P.2.1 (oB 20 [.int (z 0), .int (z 0), .int (z 0), .ref l])).1 P.2.1 = some (true, oB 20 [.int (z 0), .int (z 0), .int (z 0), .ref l]) := up_at
  have f3 : Fr P.2.1 W0 _ (xup (xup P1 P.2.1 (oB 20 [.int (z 0), .int (z 0), .int (z 0), .ref l])) P.2.1 (oB 20 [.int (z 0), .int (z (-1)), .int (z 0), .ref l])) := Fr.upo f2.iv g3 rfl (fun b hb => by cases hb) fun h => absurd h (Nat.lt_irrefl _)
  have g4 : (xup (xup P1 P.2.1 (oB 20 [.int (z 0), .int (z 0), .int (z 0), .ref l])) P.2.1 (oB 20 [.int (z 0), .int (z (-1)), .int (z 0), .ref l])).1 P.2.1 = some (true, oB 20 [.int (z 0), .int (z (-1)), .int (z 0), .ref l]) := up_at
  have g5 : (xup (xup P1 P.2.1 (oB 20 [.int (z 0), .int (z 0), .int (z 0), .ref l])) P.2.1 (oB 20 [.int (z 0), .int (z (-1)), .int (z 0), .ref l])).1 l = some (true, oB 14 [.int mc, .ref b, .int (z xs.length)]) := (up_ne (by omega)).trans ((up_ne (by omega)).trans g2)
  have f4 : Fr P.2.1 W0 _ (xup (xup (xup P1 P.2.1 (oB 20 [.int (z 0), .int (z 0), .int (z 0), .ref l])) P.2.1 (oB 20 [.int (z 0), .int (z (-1)), .int (z 0), .ref l])) P.2.1 (oB 20 [.int (z 0), .int (z (-1)), .int mc, .ref l])) := Fr.upo f3.iv g4 rfl (fun b hb => by cases hb) fun h => absurd h (Nat.lt_irrefl _)
  refine ⟨_, ?_, ⟨mc, b, n, f, z (-1), up_at, lx1.fr f1.iv ((f2.trans f3).trans f4) hl hb (fun h => h) noAr_0⟩, f1.trans ((f2.trans f3).trans f4), ?_⟩
  · simp (disch := omega) only [f_J26_init, va_rf, z_add, z_sub, z_mul, z_neg, zlt, zle, zeq, zne, l0, l1, l2, l3, l4, l5, l6, l7, l8, l9, l10, l11, l16, l17, l20, l24, l32, l37, l47, l57, l60, l67, l77, l97, l99, l122, l48, l57, l100, l237, l397, l600, l900, l880, l9998, l9999, bnd, xcI_rI, xcV_rV, xcR_rR, zb0, zb1, nz0, nz1, nar_z0, nar_z1, nar_b2, ↓reduceIte, xgI, xgR, xlen, xaI, xaR, xaL, xnul, xcst, xco, xcl1, xins, xsw, xcon, List.getElem?_cons_zero, List.getElem?_cons_succ, List.set_cons_zero, List.set_cons_succ, List.length_cons, List.length_nil, zix, Nat.reduceLT, Nat.reduceAdd, Nat.lt_irrefl, false_or, or_false, and_true, true_and, not_false_eq_true, not_true_eq_false, Int.toNat_natCast, Int.zero_add, Int.add_zero, xpF_z (k := 3) g1 (by simp), xpF_z (k := 1) g3 (by simp), xpF_z (k := 2) g4 (by simp), List.set_cons_zero, List.set_cons_succ, g4, g5]
    rfl
  · rw [wt_up, wt_up, wt_up, w1]
theorem IT.hasNext {P : PH} {it l i : Nat} {xs : List Nat} (h : IT P it l i xs) (hi : i ≤ xs.length) : f_J26_hasNext P it = rI (z (b2 (i ≠ xs.length))) P := by
  obtain ⟨mc, b, n, f, lr, h1, h2⟩ := h
  have h3 := h2.1
  have h4 := h2.2.2.1
  simp (disch := omega) only [f_J26_hasNext, z_add, z_sub, z_mul, z_neg, zlt, zle, zeq, zne, l0, l1, l2, l3, l4, l5, l6, l7, l8, l9, l10, l11, l16, l17, l20, l24, l32, l37, l47, l57, l60, l67, l77, l97, l99, l122, l48, l57, l100, l237, l397, l600, l900, l880, l9998, l9999, bnd, xcI_rI, xcV_rV, xcR_rR, zb0, zb1, nz0, nz1, nar_z0, nar_z1, nar_b2, ↓reduceIte, xgI, xgR, xlen, xaI, xaR, xaL, xnul, xcst, xco, xcl1, xins, xsw, xcon, List.getElem?_cons_zero, List.getElem?_cons_succ, List.set_cons_zero, List.set_cons_succ, List.length_cons, List.length_nil, zix, Nat.reduceLT, Nat.reduceAdd, Nat.lt_irrefl, false_or, or_false, and_true, true_and, not_false_eq_true, not_true_eq_false, Int.toNat_natCast, Int.zero_add, Int.add_zero, h1, h3]
  by_cases c : i = xs.length
  · rw [if_pos (by omega), b2_f' (by simp [c])]
  · rw [if_neg (by omega), b2_t' c]
theorem IT.nxt {P : PH} (hI : Iv P) {it l i : Nat} {xs : List Nat} (h : IT P it l i xs) (hi : i < xs.length) : ∃ P', f_J26_next P it = rR (some xs[i]) P' ∧ IT P' it l (i + 1) xs ∧ Fr P.2.1 (fun q => q = it) P P' ∧ wt P' = wt P := by
  obtain ⟨mc, b, n, f, lr, h1, h2⟩ := h
  obtain ⟨h3, h4, h5, h6, h7⟩ := id h2
  have e := h6 i hi
  have c1 : (i : Int) < xs.length := by omega
  have c2 : (i : Int) < n := by omega
  have c3 : ¬ (i : Int) < 0 := by omega
  have c4 : ¬ n ≤ i := by omega
  have hne : it ≠ l := fun e => by rw [e, h3] at h1; cases h1
  have hnb : b ≠ it := fun e => by rw [← e, h4] at h1; cases h1
  have f1 : Fr P.2.1 (fun q => q = it) P (xup P it (oB 20 [.int (z (i + 1)), .int lr, .int mc, .ref l])) := Fr.upo hI h1 rfl (fun b hb => by cases hb) fun _ => rfl
  have g1 : (xup P it (oB 20 [.int (z (i + 1)), .int lr, .int mc, .ref l])).1 it = some (true, oB 20 [.int (z (i + 1)), .int lr, .int mc, .ref l]) := up_at
  have f2 : Fr P.2.1 (fun q => q = it) _ (xup (xup P it (oB 20 [.int (z (i + 1)), .int lr, .int mc, .ref l])) it (oB 20 [.int (z (i + 1)), .int (z i), .int mc, .ref l])) := Fr.upo f1.iv g1 rfl (fun b hb => by cases hb) fun _ => rfl
  have g2 : (xup (xup P it (oB 20 [.int (z (i + 1)), .int lr, .int mc, .ref l])) it (oB 20 [.int (z (i + 1)), .int (z i), .int mc, .ref l])).1 b = some (true, ar4 n f) := (up_ne hnb).trans ((up_ne hnb).trans h4)
  refine ⟨_, ?_, ⟨mc, b, n, f, z i, up_at, h2.fr hI (f1.trans f2) (hI.lt h3) (hI.lt h4) (fun e => hne e.symm) (noAr_eq h1)⟩, f1.trans f2, rfl⟩
  have ht : (i : Int).toNat = i := Int.toNat_natCast i
  simp (disch := omega) only [f_J26_next, f_J26_checkForComodification, z_add, z_sub, z_mul, z_neg, zlt, zle, zeq, zne, l0, l1, l2, l3, l4, l5, l6, l7, l8, l9, l10, l11, l16, l17, l20, l24, l32, l37, l47, l57, l60, l67, l77, l97, l99, l122, l48, l57, l100, l237, l397, l600, l900, l880, l9998, l9999, bnd, xcI_rI, xcV_rV, xcR_rR, zb0, zb1, nz0, nz1, nar_z0, nar_z1, nar_b2, ↓reduceIte, ↓xnul_s, ↓xnul_n, xcst_n, List.set_cons_zero, List.set_cons_succ, ↓xcl1_s h1, ↓xgI_s (k := 0) h1 rfl, ↓xgI_s (k := 1) h1 rfl, ↓xgI_s (k := 2) h1 rfl, ↓xgR_s (k := 3) h1 rfl, ↓xcl1_s h3, ↓xgI_s (k := 0) h3 rfl, ↓xgR_s (k := 1) h3 rfl, ↓xgI_s (k := 2) h3 rfl, ↓xlen_s h4 (by decide), c1, c2, xpF_z (k := 0) h1 (by simp), xpF_z (k := 1) g1 (by simp), List.set_cons_zero, List.set_cons_succ, ↓xaR_s g2, ht, e]
  rfl

/-! KEYS AND THEIR ORDER -/
set_option maxRecDepth 100000
/-- a text's rank among texts of n letters -/
def rkS : Nat → List Int → Int
  | 0, _ => 0
  | _ + 1, [] => 0
  | n + 1, c :: l => (c - 96) * 27 ^ n + rkS n l
def letS (l : List Int) : Prop := ∀ c ∈ l, 97 ≤ c ∧ c ≤ 122
theorem pw27 (n : Nat) : (0 : Int) < 27 ^ n := Int.pow_pos (by omega)
theorem rkS_lt : ∀ (n : Nat) (l : List Int), letS l → 0 ≤ rkS n l ∧ rkS n l < 27 ^ n := by
  intro n
  induction n with
  | zero => intro l _; exact ⟨Int.le_refl 0, by simp [rkS]⟩
  | succ n ih =>
    intro l hl
    have hp := pw27 n
    cases l with
    | nil => exact ⟨Int.le_refl 0, pw27 _⟩
    | cons c l =>
      have h1 := ih l fun c hc => hl c (List.mem_cons_of_mem _ hc)
      have h2 := hl c (List.mem_cons_self ..)
      have h3 : (c - 96) * 27 ^ n ≤ 26 * (27 ^ n : Int) := Int.mul_le_mul_of_nonneg_right (by omega) (by omega)
      have h4 : 0 ≤ (c - 96) * (27 ^ n : Int) := Int.mul_nonneg (by omega) (by omega)
      have h5 : (27 : Int) ^ (n + 1) = 27 * 27 ^ n := by rw [Int.pow_succ, Int.mul_comm]
      show 0 ≤ (c - 96) * 27 ^ n + rkS n l ∧ (c - 96) * 27 ^ n + rkS n l < 27 ^ (n + 1)
      rw [h5]
      omega
/-- which of two comes first -/
theorem rkS_dif : ∀ (n : Nat) (l l' : List Int), letS l → letS l' → l.length ≤ n → l'.length ≤ n → ∀ i, (∀ j, j < i → l.getD j 0 = l'.getD j 0) → i < l'.length → (i < l.length → l.getD i 0 < l'.getD i 0) → (i ≤ l.length) → rkS n l < rkS n l' := by
  intro n
  induction n with
  | zero => intro l l' _ _ _ h2 i _ h3; omega
  | succ n ih =>
    intro l l' hl hl' h1 h2 i hj h3 h4 h5
    have hp := pw27 n
    cases l' with
    | nil => simp at h3
    | cons c' l' =>
      have hc' := hl' c' (List.mem_cons_self ..)
      have ht' : letS l' := fun c hc => hl' c (List.mem_cons_of_mem _ hc)
      have b' := rkS_lt n l' ht'
      cases l with
      | nil =>
        show 0 < (c' - 96) * 27 ^ n + rkS n l'
        have : 0 < (c' - 96) * (27 ^ n : Int) := Int.mul_pos (by omega) hp
        omega
      | cons c l =>
        have ht : letS l := fun c hc => hl c (List.mem_cons_of_mem _ hc)
        have b := rkS_lt n l ht
        show (c - 96) * 27 ^ n + rkS n l < (c' - 96) * 27 ^ n + rkS n l'
        cases i with
        | zero =>
          have h6 : c < c' := h4 (by simp)
          have : (c - 96 + 1) * (27 ^ n : Int) ≤ (c' - 96) * 27 ^ n := Int.mul_le_mul_of_nonneg_right (by omega) (by omega)
          rw [Int.add_mul] at this
          omega
        | succ i =>
          have h6 : c = c' := hj 0 (by omega)
          have := ih l l' ht ht' (by simpa using h1) (by simpa using h2) i (fun j hj' => hj (j + 1) (by omega)) (by simpa using h3) (fun h => h4 (by simpa using h)) (by simpa using h5)
          rw [h6]
          omega
/-- what a key is: a whole number (0), a text (1), a stamp (2) -/
def KR (t : Nat) (P : PH) (a : Nat) (x : Int) : Prop := match t with
  | 0 => ∃ w, P.1 a = some (w, oB 18 [.int (z x)]) ∧ -1000000000 ≤ x ∧ x ≤ 1000000000
  | 1 => ∃ n l, STR n P a (l.map z) ∧ letS l ∧ l.length ≤ 6 ∧ x = rkS 6 l
  | _ => ∃ (w : Bool) (u r k : Int), P.1 a = some (w, oB 11 [.int (z u), .int (z r), .int (z k)]) ∧ (0 ≤ u ∧ u ≤ 100000) ∧ (0 ≤ r ∧ r < 100) ∧ (0 ≤ k ∧ k < 100) ∧ x = u * 10000 + r * 100 + k
theorem KR.bd {t : Nat} {P : PH} {a : Nat} {x : Int} (h : KR t P a x) : -1000000000000 < x ∧ x < 1000000000000 := by
  match t, h with
  | 0, ⟨w, h1, h2, h3⟩ => omega
  | 1, ⟨n, l, h1, h2, h3, h4⟩ =>
    have := rkS_lt 6 l h2
    have e : (27 : Int) ^ 6 = 387420489 := by decide
    omega
  | _ + 2, ⟨w, u, r, k, h1, h2⟩ => omega
/-- the comparator's field -/
def KC (t : Nat) (P : PH) (cmp : Value) : Prop := (t < 2 → cmp = .null) ∧ (t = 2 → ∃ b, P.2.2.2 0 = some b ∧ cmp = .ref b) ∧ t ≤ 2
theorem BT.co {P : PH} (h : BT P) {b : Nat} (hb : P.2.2.2 0 = some b) : xco P b = some 12 := by
  obtain ⟨b', h1, h2, h3⟩ := h
  rw [h1] at hb
  cases hb
  unfold xco
  rw [h3]
  simp only [h1, ↓reduceIte]
/-- writes that leave keys alone -/
def kfr (P : PH) (W : Nat → Prop) : Prop := ∀ a, W a → ∀ w x, P.1 a = some (w, x) → ∃ c fs, x = oB c fs ∧ c ≠ 11 ∧ c ≠ 16 ∧ c ≠ 18
theorem kfr.ob {P : PH} {W : Nat → Prop} (h : kfr P W) {a c : Nat} {w : Bool} {fs : List Value} (hc : P.1 a = some (w, oB c fs)) (h' : c = 11 ∨ c = 16 ∨ c = 18) : ¬ W a := fun hw => by
  obtain ⟨c1, fs1, e, h1⟩ := h a hw w _ hc
  cases e
  omega
theorem kfr.ar {P : PH} {W : Nat → Prop} (h : kfr P W) {a : Nat} {w : Bool} {x : _} (hc : P.1 a = some (w, .inl x)) : ¬ W a := fun hw => by
  obtain ⟨c1, fs1, e, h1⟩ := h a hw w _ hc
  cases e
theorem KR.fr {t : Nat} {P P' : PH} {W : Nat → Prop} {a : Nat} {x : Int} (h : KR t P a x) (hI : Iv P) (hf : Fr P.2.1 W P P') (hw : kfr P W) : KR t P' a x := by
  match t, h with
  | 0, ⟨w, h1, h2⟩ => exact ⟨w, hf.ob (hI.lt h1) h1 (hw.ob h1 (by decide)), h2⟩
  | 1, ⟨n, l, ⟨q, fs, f, h0, h1, h2, h3⟩, h4⟩ => exact ⟨n, l, ⟨q, fs, f, h0, hf.ob (hI.lt h1) h1 (hw.ob h1 (by decide)), hf.ar (hI.lt h2) h2 (by decide) (hw.ar h2), h3⟩, h4⟩
  | _ + 2, ⟨w, u, r, k, h1, h2⟩ => exact ⟨w, u, r, k, hf.ob (hI.lt h1) h1 (hw.ob h1 (by decide)), h2⟩
def sgq (c : Int32) (x y : Int) : Prop := ∃ i : Int, c = z i ∧ rg i ∧ (i < 0 ↔ x < y) ∧ (0 < i ↔ y < x)
theorem cmpI_z {P : PH} {x y : Int} (h1 : -2147483648 ≤ x) (h2 : x < 2147483648) (h3 : -2147483648 ≤ y) (h4 : y < 2147483648) : ∃ c, f_J19_compare P (z x) (z y) = rI c P ∧ sgq c x y := by
  simp (disch := omega) only [f_J19_compare, z_add, z_sub, z_mul, z_neg, zlt, zle, zeq, zne, l0, l1, l2, l3, l4, l5, l6, l7, l8, l9, l10, l11, l16, l17, l20, l24, l32, l37, l47, l57, l60, l67, l77, l97, l99, l122, l48, l57, l100, l237, l397, l600, l900, l880, l9998, l9999, bnd, xcI_rI, xcV_rV, xcR_rR, zb0, zb1, nz0, nz1, nar_z0, nar_z1, nar_b2, ↓reduceIte]
  by_cases c1 : y ≤ x
  · by_cases c2 : x = y
    · subst c2
      exact ⟨z 0, by simp, 0, rfl, by unfold rg; omega, by omega, by omega⟩
    · exact ⟨z 1, by simp [c1, c2], 1, rfl, by unfold rg; omega, by omega, by omega⟩
  · exact ⟨z (-1), by simp [c1], -1, rfl, by unfold rg; omega, by omega, by omega⟩
theorem kcmp0 {P : PH} {a b : Nat} {x y : Int} (ha : KR 0 P a x) (hb : KR 0 P b y) : ∃ c, f_J19_compareTo P a (some b) = rI c P ∧ sgq c x y := by
  obtain ⟨w, h1, h2⟩ := ha
  obtain ⟨w', h3, h4⟩ := hb
  obtain ⟨c, e, hc⟩ := cmpI_z (P := P) (x := x) (y := y) (by omega) (by omega) (by omega) (by omega)
  refine ⟨c, ?_, hc⟩
  unfold f_J19_compareTo f_J19_compareTo_2
  rw [xcl1_s h1, xcst_s h3 (by decide), xcl1_s h1, xgI_s h1 rfl, xnul_s, xgI_s h3 rfl, e]
  rfl
theorem kcmp2 {P : PH} {q a b : Nat} {x y : Int} (hq : xco P q = some 12) (ha : KR 2 P a x) (hb : KR 2 P b y) : ∃ c, f_X13_compare P q (some a) (some b) = rI c P ∧ sgq c x y := by
  obtain ⟨w, u, r, k, h1, h2, h3, h4, h5⟩ := ha
  obtain ⟨w', u', r', k', g1, g2, g3, g4, g5⟩ := hb
  have hq' : ∀ {α : Type} (K : Option α), xcl1 P q 12 K = K := fun K => by unfold xcl1; rw [hq]; exact if_pos rfl
  unfold f_X13_compare f_X13_compare_2
  rw [hq', xcst_s h1 (by decide), xcst_s g1 (by decide), hq', xnul_s, xgI_s h1 rfl, xnul_s, xgI_s g1 rfl, xgI_s h1 rfl, xgI_s g1 rfl, xgI_s h1 rfl, xgI_s g1 rfl, xgI_s h1 rfl, xgI_s g1 rfl, xgI_s h1 rfl, xgI_s g1 rfl]
  simp (disch := omega) only [z_add, z_sub, z_mul, z_neg, zlt, zle, zeq, zne, l0, l1, l2, l3, l4, l5, l6, l7, l8, l9, l10, l11, l16, l17, l20, l24, l32, l37, l47, l57, l60, l67, l77, l97, l99, l122, l48, l57, l100, l237, l397, l600, l900, l880, l9998, l9999, bnd, xcI_rI, xcV_rV, xcR_rR, zb0, zb1, nz0, nz1, nar_z0, nar_z1, nar_b2, ↓reduceIte]
  by_cases c1 : u = u'
  · rw [if_pos c1]
    by_cases c2 : r = r'
    · rw [if_pos c2]
      obtain ⟨c, e, i, e1, e2, e3, e4⟩ := cmpI_z (P := P) (x := k) (y := k') (by omega) (by omega) (by omega) (by omega)
      rw [e]
      exact ⟨c, rfl, i, e1, e2, by omega, by omega⟩
    · rw [if_neg c2]
      obtain ⟨c, e, i, e1, e2, e3, e4⟩ := cmpI_z (P := P) (x := r) (y := r') (by omega) (by omega) (by omega) (by omega)
      rw [e]
      exact ⟨c, rfl, i, e1, e2, by omega, by omega⟩
  · rw [if_neg c1]
    obtain ⟨c, e, i, e1, e2, e3, e4⟩ := cmpI_z (P := P) (x := u) (y := u') (by omega) (by omega) (by omega) (by omega)
    rw [e]
    exact ⟨c, rfl, i, e1, e2, by omega, by omega⟩

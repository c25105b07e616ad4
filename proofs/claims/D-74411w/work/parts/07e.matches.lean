/-! WHICH PUNCH TAKES WHICH CONTROL: the table -/
set_option maxRecDepth 100000
/-- how many can be taken of the last i controls by the last k punches -/
def cn (e : Nat → Nat → Bool) (n m : Nat) : Nat → Nat → Int
  | 0, _ => 0
  | _ + 1, 0 => 0
  | i + 1, k + 1 => max (max (cn e n m i (k + 1)) (cn e n m (i + 1) k)) (if e (n - (i + 1)) (m - (k + 1)) then 1 + cn e n m i k else 0)
termination_by i k => i + k
theorem cn_0 (e : Nat → Nat → Bool) (n m k : Nat) : cn e n m 0 k = 0 := by rw [cn]
theorem cn_k0 (e : Nat → Nat → Bool) (n m i : Nat) : cn e n m i 0 = 0 := by cases i <;> rw [cn]
theorem cn_rg (e : Nat → Nat → Bool) (n m : Nat) : ∀ i k, 0 ≤ cn e n m i k ∧ cn e n m i k ≤ i := by
  intro i
  induction i with
  | zero => intro k; rw [cn_0]; exact ⟨Int.le_refl _, Int.le_refl _⟩
  | succ i ih =>
    intro k
    induction k with
    | zero => rw [cn_k0]; exact ⟨Int.le_refl _, by omega⟩
    | succ k ihk =>
      rw [cn]
      have h1 := ih (k + 1)
      have h2 := ih k
      split <;> omega
/-- only the table and the takers changed -/
def TM (s s' : TS) : Prop := s'.1 = s.1 ∧ ∀ j, j ≠ 19 → j ≠ 20 → s'.2 j = s.2 j
theorem TM.rf {s : TS} : TM s s := ⟨rfl, fun _ _ _ => rfl⟩
theorem TM.trans {s t u : TS} (h : TM s t) (h' : TM t u) : TM s u := ⟨h'.1.trans h.1, fun j a b => (h'.2 j a b).trans (h.2 j a b)⟩
theorem TM.rep {s t : TS} {R : Nat → Int} (h : TM s t) (hr : TRep s R) : TRep t R := fun k hk => by rw [h.2 7 (by decide) (by decide)]; exact hr k hk
theorem tA_self {s : TS} {j i : Nat} {x : Int32} : (tA s j i x).2 j i = x := by simp [tA, upd]
theorem tA_oi {s : TS} {j i q : Nat} {x : Int32} (h : q ≠ i) : (tA s j i x).2 j q = s.2 j q := by simp [tA, upd, h]
theorem tA_oj {s : TS} {j i q : Nat} {x : Int32} (h : q ≠ j) : (tA s j i x).2 q = s.2 q := by simp [tA, h]
theorem TM.a19 {s : TS} {i : Nat} {x : Int32} : TM s (tA s 19 i x) := ⟨rfl, fun _ a _ => tA_oj a⟩
theorem TM.a20 {s : TS} {i : Nat} {x : Int32} : TM s (tA s 20 i x) := ⟨rfl, fun _ _ b => tA_oj b⟩
theorem ald_z {β : Type} {s : TS} {j : Nat} {i : Int} (h0 : 0 ≤ i) (h1 : i < tl j) (h2 : tl j ≤ 4000) (K : Int32 → Option β) : tald s j (z i) K = K (s.2 j i.toNat) := by
  have hr : rg i := ⟨by omega, by omega⟩
  have h3 : ¬ (z i < 0 ∨ tl j ≤ (z i).toNatClampNeg) := by
    rw [show (0 : Int32) = z 0 from rfl, z_lt hr ⟨by decide, by decide⟩, z_ix hr]
    omega
  unfold tald
  rw [if_pos h3, z_ix hr]
theorem ast_z {β : Type} {s : TS} {j : Nat} {i : Int} {x : Int32} (h0 : 0 ≤ i) (h1 : i < tl j) (h2 : tl j ≤ 4000) (K : TS → Option β) : tast s j (z i) x K = K (tA s j i.toNat x) := by
  have hr : rg i := ⟨by omega, by omega⟩
  have h3 : ¬ (z i < 0 ∨ tl j ≤ (z i).toNatClampNeg) := by
    rw [show (0 : Int32) = z 0 from rfl, z_lt hr ⟨by decide, by decide⟩, z_ix hr]
    omega
  unfold tast
  rw [if_pos h3, z_ix hr]
theorem T_cell_z (s : TS) (a b : Int) : T_cell s (z a) (z b) = rI (z (17 * a + b)) s := by
  unfold T_cell
  rw [show (17 : Int32) = z 17 from rfl, z_mul, z_add]
/-- the same code -/
def eqC (R : Nat → Int) (a c : Int) (i k : Nat) : Bool := decide (rCode R c i = rPc R a k)
/-- the table's rows from i on, row i from column k on -/
def canI (R : Nat → Int) (a c : Int) (n m : Nat) (i k : Int) (s : TS) : Prop := ∀ i' k' : Nat, i' ≤ n → k' ≤ m → ((i' : Int) > i ∨ ((i' : Int) = i ∧ (k' : Int) > k)) → s.2 19 (17 * i' + k') = z (cn (eqC R a c) n m (n - i') (m - k'))
theorem z_max (a b : Int) (ha : rg a) (hb : rg b) : (if z a ≤ z b then z b else z a) = z (max a b) := by
  by_cases h : a ≤ b
  · rw [if_pos ((z_le ha hb).mpr h), Int.max_eq_right h]
  · rw [if_neg (fun e => h ((z_le ha hb).mp e)), Int.max_eq_left (by omega)]
theorem cn_at {R : Nat → Int} {a c : Int} {n m i k : Nat} (hi : i < n) (hk : k < m) : cn (eqC R a c) n m (n - i) (m - k) = max (max (cn (eqC R a c) n m (n - (i + 1)) (m - k)) (cn (eqC R a c) n m (n - i) (m - (k + 1)))) (if eqC R a c i k then 1 + cn (eqC R a c) n m (n - (i + 1)) (m - (k + 1)) else 0) := by
  obtain ⟨p, hp⟩ : ∃ p, n - i = p + 1 := ⟨n - i - 1, by omega⟩
  obtain ⟨q, hq⟩ : ∃ q, m - k = q + 1 := ⟨m - k - 1, by omega⟩
  have e1 : n - (i + 1) = p := by omega
  have e2 : m - (k + 1) = q := by omega
  have e3 : n - (p + 1) = i := by omega
  have e4 : m - (q + 1) = k := by omega
  rw [hp, hq, e1, e2, cn, e3, e4]
/-- one cell more of the table -/
theorem canI_put {R : Nat → Int} {a c : Int} {n m i k : Nat} {s : TS} (h : canI R a c n m i k s) (hk : k ≤ m) (hi : i ≤ n) (hm : m ≤ 16) {v : Int} (hv : v = cn (eqC R a c) n m (n - i) (m - k)) : canI R a c n m i ((k : Int) - 1) (tA s 19 (17 * (i : Int) + k).toNat (z v)) := by
  intro i' k' h1 h2 h3
  have e : (17 * (i : Int) + k).toNat = 17 * i + k := by omega
  rw [e]
  by_cases hq : 17 * i' + k' = 17 * i + k
  · have e1 : i' = i := by omega
    have e2 : k' = k := by omega
    subst e1; subst e2
    rw [tA_self, hv]
  · rw [tA_oi hq]
    refine h i' k' h1 h2 ?_
    rcases h3 with h3 | ⟨h3, h4⟩
    · exact Or.inl h3
    · refine Or.inr ⟨h3, ?_⟩
      have : k' ≠ k := fun e => hq (by omega)
      omega

/-- how many from control i, punch k on -/
def CN (e : Nat → Nat → Bool) (n m i k : Nat) : Int := cn e n m (n - i) (m - k)
theorem CN_rg (e : Nat → Nat → Bool) (n m i k : Nat) : 0 ≤ CN e n m i k ∧ CN e n m i k ≤ n := by
  have := cn_rg e n m (n - i) (m - k)
  unfold CN
  omega
theorem canI.at {R : Nat → Int} {a c : Int} {n m : Nat} {i k : Int} {s : TS} (h : canI R a c n m i k s) {i' k' : Int} (h1 : 0 ≤ i') (h2 : i' ≤ n) (h3 : 0 ≤ k') (h4 : k' ≤ m) (h5 : i' > i ∨ (i' = i ∧ k' > k)) : s.2 19 (17 * i' + k').toNat = z (CN (eqC R a c) n m i'.toNat k'.toNat) := by
  have := h i'.toNat k'.toNat (by omega) (by omega) (by omega)
  have e : (17 * i' + k').toNat = 17 * i'.toNat + k'.toNat := by omega
  rw [e, this]
  rfl
theorem m158 {k32 : Int32 × Int32 × Int32 × Int32 × Int32 × Int32 × TS → Option (xO × TS)} {Q : Option Value → TS → Prop} {a c n m i k v : Int} {s : TS} (hi : 0 ≤ i ∧ i ≤ 10) (hk : 0 ≤ k ∧ k ≤ 16) (h : OK (k32 (z a, z c, z n, z m, z i, z (k - 1), tA s 19 (17 * i + k).toNat (z v))) Q) : OK (T_matches_158 k32 (z a) (z c) (z n) (z m) (z i) (z k) (z v) s) Q := by
  unfold T_matches_158
  rw [T_cell_z, xcI_rI, ast_z (by omega) (by show 17 * i + k < ((187 : Nat) : Int); omega) (by decide)]
  show OK (k32 (z a, z c, z n, z m, z i, z k + (-1), _)) Q
  rw [z_m1, z_add]
  exact h
theorem m140 {k32 : Int32 × Int32 × Int32 × Int32 × Int32 × Int32 × TS → Option (xO × TS)} {Q : Option Value → TS → Prop} {a c n m i k v w : Int} {s : TS} (hi : 0 ≤ i ∧ i ≤ 10) (hk : 0 ≤ k ∧ k ≤ 16) (hv : 0 ≤ v ∧ v ≤ 100) (hw : 0 ≤ w ∧ w ≤ 100) (h : OK (k32 (z a, z c, z n, z m, z i, z (k - 1), tA s 19 (17 * i + k).toNat (z (max v w)))) Q) : OK (T_matches_140 k32 (z a) (z c) (z n) (z m) (z i) (z k) (z v) (z w) s) Q := by
  unfold T_matches_140 T_matches_156
  simp (disch := omega) only [zle]
  by_cases hx : w ≤ v
  · rw [if_pos hx]
    rw [Int.max_eq_left hx] at h
    exact m158 hi hk h
  · rw [if_neg hx]
    rw [Int.max_eq_right (by omega)] at h
    exact m158 hi hk h
theorem ald19 {β : Type} {s : TS} {i : Int} {K : Int32 → Option β} (h0 : 0 ≤ i) (h1 : i < 187) : tald s 19 (z i) K = K (s.2 19 i.toNat) := ald_z (j := 19) h0 (by exact h1) (by decide) K
theorem ast19 {β : Type} {s : TS} {i : Int} {x : Int32} {K : TS → Option β} (h0 : 0 ≤ i) (h1 : i < 187) : tast s 19 (z i) x K = K (tA s 19 i.toNat x) := ast_z (j := 19) h0 (by exact h1) (by decide) K
theorem ald20 {β : Type} {s : TS} {i : Int} {K : Int32 → Option β} (h0 : 0 ≤ i) (h1 : i < 10) : tald s 20 (z i) K = K (s.2 20 i.toNat) := ald_z (j := 20) h0 (by exact h1) (by decide) K
theorem ast20 {β : Type} {s : TS} {i : Int} {x : Int32} {K : TS → Option β} (h0 : 0 ≤ i) (h1 : i < 10) : tast s 20 (z i) x K = K (tA s 20 i.toNat x) := ast_z (j := 20) h0 (by exact h1) (by decide) K
theorem ald21 {β : Type} {s : TS} {i : Int} {K : Int32 → Option β} (h0 : 0 ≤ i) (h1 : i < 11) : tald s 21 (z i) K = K (s.2 21 i.toNat) := ald_z (j := 21) h0 (by exact h1) (by decide) K
theorem ast21 {β : Type} {s : TS} {i : Int} {x : Int32} {K : TS → Option β} (h0 : 0 ≤ i) (h1 : i < 11) : tast s 21 (z i) x K = K (tA s 21 i.toNat x) := ast_z (j := 21) h0 (by exact h1) (by decide) K
theorem ald22 {β : Type} {s : TS} {i : Int} {K : Int32 → Option β} (h0 : 0 ≤ i) (h1 : i < 11) : tald s 22 (z i) K = K (s.2 22 i.toNat) := ald_z (j := 22) h0 (by exact h1) (by decide) K
theorem ast22 {β : Type} {s : TS} {i : Int} {x : Int32} {K : TS → Option β} (h0 : 0 ≤ i) (h1 : i < 11) : tast s 22 (z i) x K = K (tA s 22 i.toNat x) := ast_z (j := 22) h0 (by exact h1) (by decide) K
theorem ald25 {β : Type} {s : TS} {i : Int} {K : Int32 → Option β} (h0 : 0 ≤ i) (h1 : i < 100) : tald s 25 (z i) K = K (s.2 25 i.toNat) := ald_z (j := 25) h0 (by exact h1) (by decide) K
theorem ast25 {β : Type} {s : TS} {i : Int} {x : Int32} {K : TS → Option β} (h0 : 0 ≤ i) (h1 : i < 100) : tast s 25 (z i) x K = K (tA s 25 i.toNat x) := ast_z (j := 25) h0 (by exact h1) (by decide) K
theorem ald26 {β : Type} {s : TS} {i : Int} {K : Int32 → Option β} (h0 : 0 ≤ i) (h1 : i < 100) : tald s 26 (z i) K = K (s.2 26 i.toNat) := ald_z (j := 26) h0 (by exact h1) (by decide) K
theorem ast26 {β : Type} {s : TS} {i : Int} {x : Int32} {K : TS → Option β} (h0 : 0 ≤ i) (h1 : i < 100) : tast s 26 (z i) x K = K (tA s 26 i.toNat x) := ast_z (j := 26) h0 (by exact h1) (by decide) K
/-- one step of the table: row i, column k -/
theorem m32 {k23 : Int32 × Int32 × Int32 × Int32 × Int32 × TS → Option (xO × TS)} {Q : Option Value → TS → Prop} {R : Nat → Int} {s0 : TS} (hR : TRep s0 R) {a c : Int} {n m : Nat} (ha : 0 ≤ a ∧ a < 10) (hc : 0 ≤ c ∧ c < 3) (hn : n ≤ 10) (hm : m ≤ 16) (hC : ∀ i : Int, 0 ≤ i → i < n → 1 ≤ rCode R c i ∧ rCode R c i ≤ 99) (hP : ∀ k : Int, 0 ≤ k → k < m → 1 ≤ rPc R a k ∧ rPc R a k ≤ 99) {i : Int} (hi : 0 ≤ i ∧ i ≤ n) {s : TS} (hs : TM s0 s) (hI : canI R a c n m i m s) (h : ∀ s', TM s0 s' → canI R a c n m i (-1) s' → OK (k23 (z a, z c, z n, z m, z (i - 1), s')) Q) : OK (lp (T_matches_32F k23) FU (z a, z c, z n, z m, z i, z m, s)) Q := by
  refine ok_lpn (fun d p => ∃ (k : Int) (s : TS), p = (z a, z c, z n, z m, z i, z k, s) ∧ d = (k + 1).toNat ∧ -1 ≤ k ∧ k ≤ m ∧ TM s0 s ∧ canI R a c n m i k s) ?_ FU _ _ ⟨m, s, rfl, rfl, by omega, by omega, hs, hI⟩ (by simp only [FU]; omega)
  rintro kk d p ⟨k, s, rfl, rfl, h1, h2, h3, h4⟩ hk
  simp (disch := omega) only [T_matches_32F, z_add, z_sub, z_mul, z_neg, zlt, zle, zeq, zne, l0, l1, l2, l3, l4, l5, l6, l7, l8, l9, l10, l11, l16, l17, l20, l24, l32, l37, l47, l57, l60, l67, l77, l97, l99, l122, l48, l57, l100, l237, l397, l600, l900, l880, l9998, l9999, bnd, xcI_rI, xcV_rV, xcR_rR, zb0, zb1, nz0, nz1, nar_z0, nar_z1, nar_b2, ↓reduceIte]
  by_cases c1 : k < 0
  · simp only [c1, ↓reduceIte]
    have : k = -1 := by omega
    subst this
    rw [show i + -1 = i - 1 by omega]
    exact h s h3 h4
  · simp only [c1, ↓reduceIte]
    have hput : ∀ v : Int, v = cn (eqC R a c) n m (n - i.toNat) (m - k.toNat) → OK (kk (z a, z c, z n, z m, z i, z (k - 1), tA s 19 (17 * i + k).toNat (z v))) Q := by
      intro v hv
      refine hk _ _ ?_ ⟨k - 1, _, rfl, rfl, by omega, by omega, h3.trans TM.a19, ?_⟩
      · omega
      · have e1 : ((i.toNat : Nat) : Int) = i := by omega
        have e2 : ((k.toNat : Nat) : Int) = k := by omega
        have := canI_put (i := i.toNat) (k := k.toNat) (s := s) (v := v) (by rw [e1, e2]; exact h4) (by omega) (by omega) hm hv
        rw [e1, e2] at this
        exact this
    by_cases c2 : (n : Int) ≤ i
    · simp only [c2, ↓reduceIte]
      refine m158 (by omega) (by omega) (hput 0 ?_)
      rw [show n - i.toNat = 0 by omega, cn_0]
    · simp only [c2, ↓reduceIte]
      by_cases c3 : (m : Int) ≤ k
      · simp only [c3, ↓reduceIte]
        refine m158 (by omega) (by omega) (hput 0 ?_)
        rw [show m - k.toNat = 0 by omega, cn_k0]
      · simp only [c3, ↓reduceIte]
        have r1 := CN_rg (eqC R a c) n m (i + 1).toNat k.toNat
        have r2 := CN_rg (eqC R a c) n m i.toNat (k + 1).toNat
        have r3 := CN_rg (eqC R a c) n m (i + 1).toNat (k + 1).toNat
        have hR' := h3.rep hR
        have hCN : CN (eqC R a c) n m i.toNat k.toNat = max (max (CN (eqC R a c) n m (i + 1).toNat k.toNat) (CN (eqC R a c) n m i.toNat (k + 1).toNat)) (if eqC R a c i.toNat k.toNat then 1 + CN (eqC R a c) n m (i + 1).toNat (k + 1).toNat else 0) := by
          have := cn_at (R := R) (a := a) (c := c) (n := n) (m := m) (i := i.toNat) (k := k.toNat) (by omega) (by omega)
          rw [show (i + 1).toNat = i.toNat + 1 by omega, show (k + 1).toNat = k.toNat + 1 by omega]
          exact this
        have hE : (eqC R a c i.toNat k.toNat = true) = (rCode R c i = rPc R a k) := by
          unfold eqC
          rw [show ((i.toNat : Nat) : Int) = i by omega, show ((k.toNat : Nat) : Int) = k by omega]
          simp
        have m99 : ∀ v : Int, v = max (CN (eqC R a c) n m (i + 1).toNat k.toNat) (CN (eqC R a c) n m i.toNat (k + 1).toNat) → OK (T_matches_99 kk (z a) (z c) (z n) (z m) (z i) (z k) (z v) s) Q := by
          intro v hv
          have := hC i (by omega) (by omega)
          have := hP k (by omega) (by omega)
          unfold T_matches_99
          simp (disch := omega) only [z_add, z_sub, z_mul, z_neg, zlt, zle, zeq, zne, l0, l1, l2, l3, l4, l5, l6, l7, l8, l9, l10, l11, l16, l17, l20, l24, l32, l37, l47, l57, l60, l67, l77, l97, l99, l122, l48, l57, l100, l237, l397, l600, l900, l880, l9998, l9999, bnd, xcI_rI, xcV_rV, xcR_rR, zb0, zb1, nz0, nz1, nar_z0, nar_z1, nar_b2, ↓reduceIte, T_cell_z, ald19, ast19, ald20, ast20, ald21, ast21, ald22, ast22, ald25, ast25, ald26, ast26, codeOf_z hR', pCode_z hR', h4.at]
          by_cases c5 : rCode R c i = rPc R a k
          · simp only [c5, ↓reduceIte]
            refine m140 (v := v) (w := 1 + CN (eqC R a c) n m (i + 1).toNat (k + 1).toNat) (by omega) (by omega) (by omega) (by omega) (hput _ ?_)
            rw [if_pos (hE.mpr c5)] at hCN
            rw [hv]
            exact hCN.symm
          · simp only [c5, ↓reduceIte]
            refine m140 (v := v) (w := 0) (by omega) (by omega) (by omega) (by omega) (hput _ ?_)
            rw [if_neg (fun e => c5 (hE.mp e))] at hCN
            rw [hv]
            exact hCN.symm
        simp (disch := omega) only [z_add, z_sub, z_mul, z_neg, zlt, zle, zeq, zne, l0, l1, l2, l3, l4, l5, l6, l7, l8, l9, l10, l11, l16, l17, l20, l24, l32, l37, l47, l57, l60, l67, l77, l97, l99, l122, l48, l57, l100, l237, l397, l600, l900, l880, l9998, l9999, bnd, xcI_rI, xcV_rV, xcR_rR, zb0, zb1, nz0, nz1, nar_z0, nar_z1, nar_b2, ↓reduceIte, T_cell_z, ald19, ast19, ald20, ast20, ald21, ast21, ald22, ast22, ald25, ast25, ald26, ast26, h4.at]
        by_cases c4 : CN (eqC R a c) n m (i + 1).toNat k.toNat ≤ CN (eqC R a c) n m i.toNat (k + 1).toNat
        · simp only [c4, ↓reduceIte]
          exact m99 _ (Int.max_eq_right c4).symm
        · simp only [c4, ↓reduceIte]
          exact m99 _ (Int.max_eq_left (by omega)).symm

theorem m23 {Q : Option Value → TS → Prop} {R : Nat → Int} {s0 : TS} (hR : TRep s0 R) {a c : Int} {n m : Nat} (ha : 0 ≤ a ∧ a < 10) (hc : 0 ≤ c ∧ c < 3) (hn : n ≤ 10) (hm : m ≤ 16) (hC : ∀ i : Int, 0 ≤ i → i < n → 1 ≤ rCode R c i ∧ rCode R c i ≤ 99) (hP : ∀ k : Int, 0 ≤ k → k < m → 1 ≤ rPc R a k ∧ rPc R a k ≤ 99) (h : ∀ s', TM s0 s' → canI R a c n m (-1) m s' → OK (lp (T_matches_193F) FU (z a, z c, z n, z m, z 0, z 0, z 0, s')) Q) : OK (lp (T_matches_23F) FU (z a, z c, z n, z m, z n, s0)) Q := by
  refine ok_lpn (fun d p => ∃ (i : Int) (s : TS), p = (z a, z c, z n, z m, z i, s) ∧ d = (i + 1).toNat ∧ -1 ≤ i ∧ i ≤ n ∧ TM s0 s ∧ canI R a c n m i m s) ?_ FU _ _ ⟨n, s0, rfl, rfl, by omega, by omega, TM.rf, ?_⟩ (by simp only [FU]; omega)
  · rintro kk d p ⟨i, s, rfl, rfl, h1, h2, h3, h4⟩ hk
    simp (disch := omega) only [T_matches_23F, z_add, z_sub, z_mul, z_neg, zlt, zle, zeq, zne, l0, l1, l2, l3, l4, l5, l6, l7, l8, l9, l10, l11, l16, l17, l20, l24, l32, l37, l47, l57, l60, l67, l77, l97, l99, l122, l48, l57, l100, l237, l397, l600, l900, l880, l9998, l9999, bnd, xcI_rI, xcV_rV, xcR_rR, zb0, zb1, nz0, nz1, nar_z0, nar_z1, nar_b2, ↓reduceIte]
    by_cases c1 : i < 0
    · simp only [c1, ↓reduceIte]
      have : i = -1 := by omega
      subst this
      exact h s h3 h4
    · simp only [c1, ↓reduceIte]
      refine m32 hR ha hc hn hm hC hP (by omega) h3 h4 fun s' h5 h6 => hk _ _ ?_ ⟨i - 1, s', rfl, rfl, by omega, by omega, h5, ?_⟩
      · omega
      · intro i' k' a1 a2 a3
        refine h6 i' k' a1 a2 ?_
        omega
  · intro i' k' a1 a2 a3
    omega
/-! which punch is taken -/
/-- the punch that control i takes, if those from f on are free -/
def tkf (e : Nat → Nat → Bool) (n m f i : Nat) : Option Nat := (List.range' f (m - f)).find? (fun k => e i k && decide (1 + CN e n m (i + 1) (k + 1) = CN e n m i f))
/-- the first free punch ahead of control i -/
def frm (e : Nat → Nat → Bool) (n m : Nat) : Nat → Nat
  | 0 => 0
  | i + 1 => match tkf e n m (frm e n m i) i with
    | none => frm e n m i
    | some k => k + 1
def tkn (e : Nat → Nat → Bool) (n m i : Nat) : Option Nat := tkf e n m (frm e n m i) i
/-- how many of the first i controls are missed -/
def mis (e : Nat → Nat → Bool) (n m : Nat) : Nat → Int
  | 0 => 0
  | i + 1 => mis e n m i + (if tkn e n m i = none then 1 else 0)
def tv (o : Option Nat) : Int := match o with
  | none => -1
  | some k => k
theorem tkf_lt {e : Nat → Nat → Bool} {n m f i k : Nat} (h : tkf e n m f i = some k) : f ≤ k ∧ k < m := by
  have := List.mem_of_find?_eq_some h
  rw [List.mem_range'_1] at this
  omega
theorem frm_le {e : Nat → Nat → Bool} {n m : Nat} : ∀ i, frm e n m i ≤ m := by
  intro i
  induction i with
  | zero => exact Nat.zero_le _
  | succ i ih =>
    show (match tkf e n m (frm e n m i) i with | none => frm e n m i | some k => k + 1) ≤ m
    split
    · exact ih
    · rename_i k hk
      exact (tkf_lt hk).2
theorem frm_s (e : Nat → Nat → Bool) (n m i : Nat) : (frm e n m (i + 1) : Int) = if tkn e n m i = none then (frm e n m i : Int) else tv (tkn e n m i) + 1 := by
  show (((match tkf e n m (frm e n m i) i with | none => frm e n m i | some k => k + 1) : Nat) : Int) = _
  unfold tkn
  cases tkf e n m (frm e n m i) i with
  | none => simp
  | some k => simp [tv]
theorem tkn_rg {e : Nat → Nat → Bool} {n m i : Nat} : -1 ≤ tv (tkn e n m i) ∧ tv (tkn e n m i) < m ∧ (tkn e n m i = none ↔ tv (tkn e n m i) = -1) := by
  cases h : tkn e n m i with
  | none => exact ⟨by simp [tv], by simp only [tv]; omega, by simp [tv]⟩
  | some k =>
    have := (tkf_lt h).2
    exact ⟨by simp only [tv]; omega, by simp only [tv]; omega, ⟨fun h => (by cases h), fun h => (by simp only [tv] at h; omega)⟩⟩
theorem mis_rg {e : Nat → Nat → Bool} {n m : Nat} : ∀ i, 0 ≤ mis e n m i ∧ mis e n m i ≤ i := by
  intro i
  induction i with
  | zero => exact ⟨Int.le_refl _, Int.le_refl _⟩
  | succ i ih =>
    show 0 ≤ mis e n m i + _ ∧ mis e n m i + _ ≤ _
    split <;> omega
/-- the search from f: stops at the first -/
theorem tkf_step {e : Nat → Nat → Bool} {n m f i j : Nat} (hj : j < m) (hf : f ≤ j) (hno : ∀ k, f ≤ k → k < j → (e i k && decide (1 + CN e n m (i + 1) (k + 1) = CN e n m i f)) = false) (hy : (e i j && decide (1 + CN e n m (i + 1) (j + 1) = CN e n m i f)) = true) : tkf e n m f i = some j := by
  unfold tkf
  rw [List.find?_eq_some_iff_getElem]
  refine ⟨hy, j - f, by simp; omega, by simp; omega, ?_⟩
  intro q hq
  simp only [List.getElem_range', Nat.one_mul]
  rw [hno (f + q) (by omega) (by omega)]
  rfl
theorem tkf_none {e : Nat → Nat → Bool} {n m f i : Nat} (hno : ∀ k, f ≤ k → k < m → (e i k && decide (1 + CN e n m (i + 1) (k + 1) = CN e n m i f)) = false) : tkf e n m f i = none := by
  unfold tkf
  rw [List.find?_eq_none]
  intro k hk
  rw [List.mem_range'_1] at hk
  rw [hno k hk.1 (by omega)]
  exact Bool.false_ne_true
theorem CN_cond {e : Nat → Nat → Bool} {n m f i k : Nat} {p : Prop} [Decidable p] (hp : (e i k = true) = p) : ((e i k && decide (1 + CN e n m (i + 1) (k + 1) = CN e n m i f)) = true) ↔ (p ∧ 1 + CN e n m (i + 1) (k + 1) = CN e n m i f) := by
  rw [Bool.and_eq_true, hp, decide_eq_true_eq]
/-- behind the search for control i -/
theorem m294 {k193 : Int32 × Int32 × Int32 × Int32 × Int32 × Int32 × Int32 × TS → Option (xO × TS)} {Q : Option Value → TS → Prop} {a c n m f mi i : Int} {t : Option Nat} {s : TS} (hi : 0 ≤ i ∧ i < 10) (ht : s.2 20 i.toNat = z (tv t)) (hr : -1 ≤ tv t ∧ tv t < 16 ∧ (t = none ↔ tv t = -1)) (h : OK (k193 (z a, z c, z n, z m, z (if t = none then f else tv t + 1), z (mi + if t = none then 1 else 0), z (i + 1), s)) Q) : OK (T_matches_294 k193 (z a) (z c) (z n) (z m) (z f) (z mi) (z i) s) Q := by
  unfold T_matches_294 T_matches_319 T_matches_339
  simp (disch := omega) only [z_add, z_sub, z_mul, z_neg, zlt, zle, zeq, zne, l0, l1, l2, l3, l4, l5, l6, l7, l8, l9, l10, l11, l16, l17, l20, l24, l32, l37, l47, l57, l60, l67, l77, l97, l99, l122, l48, l57, l100, l237, l397, l600, l900, l880, l9998, l9999, bnd, xcI_rI, xcV_rV, xcR_rR, zb0, zb1, nz0, nz1, nar_z0, nar_z1, nar_b2, ↓reduceIte, T_cell_z, ald19, ast19, ald20, ast20, ald21, ast21, ald22, ast22, ald25, ast25, ald26, ast26, ht]
  by_cases c1 : t = none
  · have := hr.2.2.mp c1
    simp only [c1, ↓reduceIte] at h
    simp only [this, ↓reduceIte]
    exact h
  · have : ¬ tv t = -1 := fun e => c1 (hr.2.2.mpr e)
    simp only [c1, ↓reduceIte] at h
    simp only [this, ↓reduceIte]
    exact h
/-- what is laid out of the first i controls -/
def tkI (e : Nat → Nat → Bool) (n m i : Nat) (s : TS) : Prop := ∀ q, q < i → s.2 20 q = z (tv (tkn e n m q))
theorem m211 {k193 : Int32 × Int32 × Int32 × Int32 × Int32 × Int32 × Int32 × TS → Option (xO × TS)} {Q : Option Value → TS → Prop} {R : Nat → Int} {s0 : TS} (hR : TRep s0 R) {a c : Int} {n m : Nat} (ha : 0 ≤ a ∧ a < 10) (hc : 0 ≤ c ∧ c < 3) (hn : n ≤ 10) (hm : m ≤ 16) (hC : ∀ i : Int, 0 ≤ i → i < n → 1 ≤ rCode R c i ∧ rCode R c i ≤ 99) (hP : ∀ k : Int, 0 ≤ k → k < m → 1 ≤ rPc R a k ∧ rPc R a k ≤ 99) {i : Nat} (hi : i < n) {mi : Int} {s : TS} (hs : TM s0 s) (hI : canI R a c n m (-1) m s) (ht : tkI (eqC R a c) n m i s) (hb : s.2 20 i = z (-1)) (h : ∀ s', TM s0 s' → canI R a c n m (-1) m s' → tkI (eqC R a c) n m (i + 1) s' → OK (k193 (z a, z c, z n, z m, z (frm (eqC R a c) n m (i + 1)), z (mi + if tkn (eqC R a c) n m i = none then 1 else 0), z (i + 1), s')) Q) : OK (lp (T_matches_211F k193) FU (z a, z c, z n, z m, z (frm (eqC R a c) n m i), z mi, z i, z (frm (eqC R a c) n m i), s)) Q := by
  have hf := frm_le (e := eqC R a c) (n := n) (m := m) i
  have hend : ∀ s' : TS, TM s0 s' → canI R a c n m (-1) m s' → tkI (eqC R a c) n m i s' → s'.2 20 i = z (tv (tkn (eqC R a c) n m i)) → OK (T_matches_294 k193 (z a) (z c) (z n) (z m) (z (frm (eqC R a c) n m i)) (z mi) (z i) s') Q := by
    intro s' h1 h2 h3 h4
    have hr := tkn_rg (e := eqC R a c) (n := n) (m := m) (i := i)
    refine m294 (t := tkn (eqC R a c) n m i) (by omega) (by rw [Int.toNat_natCast]; exact h4) ⟨by omega, by omega, hr.2.2⟩ ?_
    rw [← frm_s]
    refine h s' h1 h2 ?_
    intro q hq
    by_cases hqi : q = i
    · rw [hqi]; exact h4
    · exact h3 q (by omega)
  refine ok_lpn (fun d p => ∃ (k : Nat) (s : TS), p = (z a, z c, z n, z m, z (frm (eqC R a c) n m i), z mi, z i, z k, s) ∧ d = m - k ∧ k ≤ m ∧ frm (eqC R a c) n m i ≤ k ∧ TM s0 s ∧ canI R a c n m (-1) m s ∧ tkI (eqC R a c) n m i s ∧ ((s.2 20 i = z (-1) ∧ ∀ q, frm (eqC R a c) n m i ≤ q → q < k → (eqC R a c i q && decide (1 + CN (eqC R a c) n m (i + 1) (q + 1) = CN (eqC R a c) n m i (frm (eqC R a c) n m i))) = false) ∨ (∃ j : Nat, tkn (eqC R a c) n m i = some j ∧ s.2 20 i = z j))) ?_ FU _ _ ⟨frm (eqC R a c) n m i, s, rfl, rfl, hf, Nat.le_refl _, hs, hI, ht, Or.inl ⟨hb, fun q a1 a2 => absurd a1 (by omega)⟩⟩ (by simp only [FU]; omega)
  rintro kk d p ⟨k, s, rfl, rfl, h1, h2, h3, h4, h5, h6⟩ hk
  simp (disch := omega) only [T_matches_211F, z_add, z_sub, z_mul, z_neg, zlt, zle, zeq, zne, l0, l1, l2, l3, l4, l5, l6, l7, l8, l9, l10, l11, l16, l17, l20, l24, l32, l37, l47, l57, l60, l67, l77, l97, l99, l122, l48, l57, l100, l237, l397, l600, l900, l880, l9998, l9999, bnd, xcI_rI, xcV_rV, xcR_rR, zb0, zb1, nz0, nz1, nar_z0, nar_z1, nar_b2, ↓reduceIte, T_cell_z, ald19, ast19, ald20, ast20, ald21, ast21, ald22, ast22, ald25, ast25, ald26, ast26]
  by_cases c1 : (m : Int) ≤ k
  · simp only [c1, ↓reduceIte]
    refine hend s h3 h4 h5 ?_
    rcases h6 with ⟨h6, h7⟩ | ⟨j, h6, h7⟩
    · rw [h6]
      unfold tkn
      rw [tkf_none (fun q a1 a2 => h7 q a1 (by omega))]
      rfl
    · rw [h7, h6]
      rfl
  · simp only [c1, ↓reduceIte, Int.toNat_natCast]
    rcases h6 with ⟨h6, h7⟩ | ⟨j, h6, h7⟩
    · have hR' := h3.rep hR
      have := hC i (by omega) (by omega)
      have := hP k (by omega) (by omega)
      have r1 := CN_rg (eqC R a c) n m (i + 1) (k + 1)
      have r2 := CN_rg (eqC R a c) n m i (frm (eqC R a c) n m i)
      have hE : (eqC R a c i k = true) = (rCode R c i = rPc R a k) := by unfold eqC; simp
      have e1 : ((i : Int) + 1).toNat = i + 1 := by omega
      have e2 : ((k : Int) + 1).toNat = k + 1 := by omega
      have e3 : ((k : Int) + 1) = ((k + 1 : Nat) : Int) := by omega
      have hstep : (tkn (eqC R a c) n m i ≠ some k) → ∀ q, frm (eqC R a c) n m i ≤ q → q < k + 1 → (eqC R a c i q && decide (1 + CN (eqC R a c) n m (i + 1) (q + 1) = CN (eqC R a c) n m i (frm (eqC R a c) n m i))) = false := by
        intro hne q a1 a2
        by_cases hq : q = k
        · subst hq
          cases hh : (eqC R a c i q && decide (1 + CN (eqC R a c) n m (i + 1) (q + 1) = CN (eqC R a c) n m i (frm (eqC R a c) n m i)))
          · rfl
          · exact absurd (tkf_step (by omega) h2 h7 hh) hne
        · exact h7 q a1 (by omega)
      have hcont : (¬ (rCode R c i = rPc R a k ∧ 1 + CN (eqC R a c) n m (i + 1) (k + 1) = CN (eqC R a c) n m i (frm (eqC R a c) n m i))) → OK (kk (z a, z c, z n, z m, z (frm (eqC R a c) n m i), z mi, z i, z (k + 1), s)) Q := by
        intro hne
        rw [e3]
        refine hk _ _ ?_ ⟨k + 1, s, rfl, rfl, by omega, by omega, h3, h4, h5, Or.inl ⟨h6, hstep ?_⟩⟩
        · omega
        · intro hs
          have := List.find?_some hs
          exact hne ((CN_cond hE).mp this)
      simp (disch := omega) only [h6, z_add, z_sub, z_mul, z_neg, zlt, zle, zeq, zne, l0, l1, l2, l3, l4, l5, l6, l7, l8, l9, l10, l11, l16, l17, l20, l24, l32, l37, l47, l57, l60, l67, l77, l97, l99, l122, l48, l57, l100, l237, l397, l600, l900, l880, l9998, l9999, bnd, xcI_rI, xcV_rV, xcR_rR, zb0, zb1, nz0, nz1, nar_z0, nar_z1, nar_b2, ↓reduceIte, T_cell_z, ald19, ast19, ald20, ast20, ald21, ast21, ald22, ast22, ald25, ast25, ald26, ast26, codeOf_z hR', pCode_z hR', h4.at, T_matches_288, Int.toNat_natCast, e1, e2]
      by_cases c2 : rCode R c i = rPc R a k
      · simp only [c2, ↓reduceIte]
        by_cases c3 : 1 + CN (eqC R a c) n m (i + 1) (k + 1) = CN (eqC R a c) n m i (frm (eqC R a c) n m i)
        · simp only [c3, ↓reduceIte]
          rw [e3]
          have hj : tkn (eqC R a c) n m i = some k := tkf_step (by omega) h2 h7 ((CN_cond hE).mpr ⟨c2, c3⟩)
          refine hk _ _ ?_ ⟨k + 1, _, rfl, rfl, by omega, by omega, h3.trans TM.a20, ?_, ?_, Or.inr ⟨k, hj, tA_self⟩⟩
          · omega
          · intro i' k' b1 b2 b3
            exact (congrFun (tA_oj (by decide)) _).trans (h4 i' k' b1 b2 b3)
          · intro q hq
            rw [tA_oi (by omega)]
            exact h5 q hq
        · simp only [c3, ↓reduceIte]
          exact hcont (fun hh => c3 hh.2)
      · simp only [c2, ↓reduceIte]
        exact hcont (fun hh => c2 hh.1)
    · have : ¬ ((j : Int) = -1) := by omega
      have := tkf_lt h6
      simp (disch := omega) only [h7, z_add, z_sub, z_mul, z_neg, zlt, zle, zeq, zne, l0, l1, l2, l3, l4, l5, l6, l7, l8, l9, l10, l11, l16, l17, l20, l24, l32, l37, l47, l57, l60, l67, l77, l97, l99, l122, l48, l57, l100, l237, l397, l600, l900, l880, l9998, l9999, bnd, xcI_rI, xcV_rV, xcR_rR, zb0, zb1, nz0, nz1, nar_z0, nar_z1, nar_b2, ↓reduceIte, T_cell_z, ald19, ast19, ald20, ast20, ald21, ast21, ald22, ast22, ald25, ast25, ald26, ast26]
      rw [if_neg (by omega)]
      exact hend s h3 h4 h5 (by rw [h7, h6]; rfl)
/-- a row's matching -/
def rTk (R : Nat → Int) (a c : Int) (i : Nat) : Option Nat := tkn (eqC R a c) (rLen R c).toNat (rNp R a).toNat i
def rMis (R : Nat → Int) (a c : Int) : Int := mis (eqC R a c) (rLen R c).toNat (rNp R a).toNat (rLen R c).toNat
theorem T_matches_z {R : Nat → Int} {s : TS} (hR : TRep s R) (hV : RV R) {a c : Int} (ha : 0 ≤ a) (ha' : a < R 1) (hc : 0 ≤ c) (hc' : c < R 0) : ∃ s', T_matches s (z a) (z c) = rI (z (rMis R a c)) s' ∧ TM s s' ∧ ∀ i : Nat, (i : Int) < rLen R c → s'.2 20 i = z (tv (rTk R a c i)) := by
  have hl := hV.len hc hc'
  have hp := hV.np ha ha'
  have h0 := hV.nC
  have h1 := hV.nR
  suffices h : OK (T_matches s (z a) (z c)) (fun v s' => v = some (.int (z (rMis R a c))) ∧ TM s s' ∧ ∀ i : Nat, (i : Int) < rLen R c → s'.2 20 i = z (tv (rTk R a c i))) by
    obtain ⟨v, s', e, rfl, h2, h3⟩ := h
    exact ⟨s', e, h2, h3⟩
  obtain ⟨n, hn⟩ : ∃ n : Nat, rLen R c = n := ⟨_, (Int.toNat_of_nonneg (by omega)).symm⟩
  obtain ⟨m, hm⟩ : ∃ m : Nat, rNp R a = m := ⟨_, (Int.toNat_of_nonneg (by omega)).symm⟩
  have hC : ∀ i : Int, 0 ≤ i → i < n → 1 ≤ rCode R c i ∧ rCode R c i ≤ 99 := fun i q1 q2 => hV.code hc hc' q1 (by omega)
  have hP : ∀ k : Int, 0 ≤ k → k < m → 1 ≤ rPc R a k ∧ rPc R a k ≤ 99 := fun i q1 q2 => hV.pc ha ha' q1 (by omega)
  unfold T_matches
  simp (disch := omega) only [z_add, z_sub, z_mul, z_neg, zlt, zle, zeq, zne, l0, l1, l2, l3, l4, l5, l6, l7, l8, l9, l10, l11, l16, l17, l20, l24, l32, l37, l47, l57, l60, l67, l77, l97, l99, l122, l48, l57, l100, l237, l397, l600, l900, l880, l9998, l9999, bnd, xcI_rI, xcV_rV, xcR_rR, zb0, zb1, nz0, nz1, nar_z0, nar_z1, nar_b2, ↓reduceIte, T_cell_z, ald19, ast19, ald20, ast20, ald21, ast21, ald22, ast22, ald25, ast25, ald26, ast26, (ald_nC hR), (ald_nR hR), (ald_gap hR), (ald_slk hR), (ald_len hR), (ald_crs hR), (ald_st hR), (ald_fi hR), (ald_np hR), (codeOf_z hR), (pCode_z hR), (pTime_z hR), (total_z hR), (isC_z hR), (isR_z hR)]
  unfold rMis rTk
  rw [hn, hm]
  simp only [Int.toNat_natCast]
  refine m23 hR ⟨by omega, by omega⟩ ⟨by omega, by omega⟩ (by omega) (by omega) hC hP fun s' h2 h3 => ?_
  refine ok_lpn (fun d p => ∃ (i : Nat) (s1 : TS), p = (z a, z c, z n, z m, z (frm (eqC R a c) n m i), z (mis (eqC R a c) n m i), z i, s1) ∧ d = n - i ∧ i ≤ n ∧ TM s s1 ∧ canI R a c n m (-1) m s1 ∧ tkI (eqC R a c) n m i s1) ?_ FU _ _ ⟨0, s', rfl, rfl, by omega, h2, h3, fun q hq => absurd hq (by omega)⟩ (by simp only [FU]; omega)
  rintro kk d p ⟨i, s1, rfl, rfl, h4, h5, h6, h7⟩ hk
  simp (disch := omega) only [T_matches_193F, z_add, z_sub, z_mul, z_neg, zlt, zle, zeq, zne, l0, l1, l2, l3, l4, l5, l6, l7, l8, l9, l10, l11, l16, l17, l20, l24, l32, l37, l47, l57, l60, l67, l77, l97, l99, l122, l48, l57, l100, l237, l397, l600, l900, l880, l9998, l9999, bnd, xcI_rI, xcV_rV, xcR_rR, zb0, zb1, nz0, nz1, nar_z0, nar_z1, nar_b2, ↓reduceIte, T_cell_z, ald19, ast19, ald20, ast20, ald21, ast21, ald22, ast22, ald25, ast25, ald26, ast26]
  by_cases c1 : (n : Int) ≤ i
  · simp only [c1, ↓reduceIte]
    have : i = n := by omega
    subst this
    exact ok_rI.mpr ⟨rfl, h5, fun q hq => h7 q (by omega)⟩
  · simp only [c1, ↓reduceIte, Int.toNat_natCast]
    refine m211 hR ⟨by omega, by omega⟩ ⟨by omega, by omega⟩ (by omega) (by omega) hC hP (by omega) (h5.trans TM.a20) ?_ ?_ tA_self ?_
    · intro i' k' b1 b2 b3
      exact (congrFun (tA_oj (by decide)) _).trans (h6 i' k' b1 b2 b3)
    · intro q hq
      rw [tA_oi (by omega)]
      exact h7 q hq
    · intro s2 b1 b2 b3
      exact hk _ _ (by omega) ⟨i + 1, s2, rfl, rfl, by omega, b1, b2, b3⟩

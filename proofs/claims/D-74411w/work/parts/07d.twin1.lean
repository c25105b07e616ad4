/-! THE TWIN's SMALL METHODS -/
set_option maxRecDepth 100000
def b2 (c : Prop) [Decidable c] : Int := if c then 1 else 0
theorem T_in_eq (s : TS) (a b c : Int32) : T_in s a b c = rI (if b ≤ a ∧ a ≤ c then 1 else 0) s := by
  unfold T_in
  simp only [nar_z0, nar_z1, ↓reduceIte]
  by_cases h1 : a < b
  · rw [if_pos h1, if_neg (fun h => absurd h.1 (Int32.not_le.mpr h1))]
  · rw [if_neg h1]
    by_cases h2 : c < a
    · rw [if_pos h2, if_neg (fun h => absurd h.2 (Int32.not_le.mpr h2))]
    · rw [if_neg h2, if_pos ⟨Int32.not_lt.mp h1, Int32.not_lt.mp h2⟩]
theorem T_isRefused_eq (s : TS) (w : Int32) : T_isRefused s w = rI (if w = 0 then 0 else 1) (tI (tI (tI s 0 0) 3 (-1)) 1 w) := by
  unfold T_isRefused
  simp only [nar_z0, nar_z1, ↓reduceIte, bnd]
  split <;> rfl
theorem T_unless_eq (s : TS) (a b : Int32) : T_unless s a b = rI (if a = 0 then 1 else if b = 0 then 2 else 0) s := by
  unfold T_unless
  split
  · rfl
  · split <;> rfl
theorem T_unless_2_eq (s : TS) (a : Int32) : T_unless_2 s a = rI (if a = 0 then 1 else 0) s := by
  unfold T_unless_2
  split <;> rfl
/-- the twin's row says R -/
def TRep (s : TS) (R : Nat → Int) : Prop := ∀ k, k < 397 → s.2 7 k = z (R k)
theorem ald_r {β : Type} {s : TS} {R : Nat → Int} (h : TRep s R) {i : Int} (h0 : 0 ≤ i) (h1 : i < 397) (K : Int32 → Option β) : tald s 7 (z i) K = K (z (R i.toNat)) := by
  have hr : rg i := ⟨by omega, by omega⟩
  have h2 : ¬ (z i < 0 ∨ tl 7 ≤ (z i).toNatClampNeg) := by
    rw [show (0 : Int32) = z 0 from rfl, z_lt hr ⟨by decide, by decide⟩, z_ix hr]
    show ¬ (i < 0 ∨ 397 ≤ i.toNat)
    omega
  unfold tald
  rw [if_pos h2, z_ix hr, h i.toNat (by omega)]
theorem xcI_rI {σ β : Type} {x : Int32} {s : σ} {F : Int32 → σ → Option β} : xcI (rI x s) F = F x s := rfl
theorem xcV_rV {σ β : Type} {s : σ} {F : σ → Option β} : xcV (rV s) F = F s := rfl
theorem b2_z (c : Prop) [Decidable c] : (if c then (1 : Int32) else 0) = z (b2 c) := by
  unfold b2
  split <;> rfl
theorem nar_b2 (c : Prop) [Decidable c] : vp_nar .boolean (z (b2 c)) = z (b2 c) := by
  unfold b2
  split
  · exact nar_z1
  · exact nar_z0
theorem T_in_z (s : TS) {a b c : Int} (ha : rg a) (hb : rg b) (hc : rg c) : T_in s (z a) (z b) (z c) = rI (z (b2 (b ≤ a ∧ a ≤ c))) s := by
  rw [T_in_eq, b2_z]
  congr 2
  unfold b2
  simp only [z_le hb ha, z_le ha hc]
theorem T_isCourse_z {s : TS} {R : Nat → Int} (h : TRep s R) (hR : 0 ≤ R 0 ∧ R 0 ≤ 3) {c : Int} (hc : rg c) : T_isCourse s (z c) = rI (z (b2 (0 ≤ c ∧ c < R 0))) s := by
  unfold T_isCourse
  rw [show (0 : Int32) = z 0 from rfl, ald_r h (by decide) (by decide)]
  show (xcI (T_in s (z c) (z 0) (z (R 0) - 1)) _) = _
  rw [show (1 : Int32) = z 1 from rfl, z_sub, T_in_z s hc ⟨by decide, by decide⟩ ⟨by omega, by omega⟩, xcI_rI]
  rw [nar_b2, if_pos rfl]
  congr 2
  unfold b2
  simp only [Int.le_sub_one_iff]
theorem T_isRunner_z {s : TS} {R : Nat → Int} (h : TRep s R) (hR : 0 ≤ R 1 ∧ R 1 ≤ 10) {c : Int} (hc : rg c) : T_isRunner s (z c) = rI (z (b2 (0 ≤ c ∧ c < R 1))) s := by
  unfold T_isRunner
  rw [show (1 : Int32) = z 1 from rfl, ald_r h (by decide) (by decide)]
  show (xcI (T_in s (z c) (z 0) (z (R 1) - z 1)) _) = _
  rw [z_sub, T_in_z s hc ⟨by decide, by decide⟩ ⟨by omega, by omega⟩, xcI_rI]
  rw [nar_b2, if_pos rfl]
  congr 2
  unfold b2
  simp only [Int.le_sub_one_iff]
theorem b2_0 (c : Prop) [Decidable c] : (z (b2 c) = 0) ↔ ¬ c := by
  unfold b2
  by_cases h : c
  · rw [if_pos h]
    exact ⟨fun e => absurd e (by decide), fun e => absurd h e⟩
  · rw [if_neg h]
    exact ⟨fun _ => h, fun _ => rfl⟩
theorem T_codeOf_z {s : TS} {R : Nat → Int} (h : TRep s R) {c i : Int} (h0 : 0 ≤ c) (h1 : c < 3) (h2 : 0 ≤ i) (h3 : i < 10) : T_codeOf s (z c) (z i) = rI (z (R (7 + 10 * c + i).toNat)) s := by
  unfold T_codeOf
  rw [show (7 : Int32) = z 7 from rfl, show (10 : Int32) = z 10 from rfl, z_mul, z_add, z_add, ald_r h (by omega) (by omega)]
theorem T_punchCode_z {s : TS} {R : Nat → Int} (h : TRep s R) {c i : Int} (h0 : 0 ≤ c) (h1 : c < 10) (h2 : 0 ≤ i) (h3 : i < 16) : T_punchCode s (z c) (z i) = rI (z (R (77 + 16 * c + i).toNat)) s := by
  unfold T_punchCode
  rw [show (77 : Int32) = z 77 from rfl, show (16 : Int32) = z 16 from rfl, z_mul, z_add, z_add, ald_r h (by omega) (by omega)]
theorem T_punchTime_z {s : TS} {R : Nat → Int} (h : TRep s R) {c i : Int} (h0 : 0 ≤ c) (h1 : c < 10) (h2 : 0 ≤ i) (h3 : i < 16) : T_punchTime s (z c) (z i) = rI (z (R (237 + 16 * c + i).toNat)) s := by
  unfold T_punchTime
  rw [show (237 : Int32) = z 237 from rfl, show (16 : Int32) = z 16 from rfl, z_mul, z_add, z_add, ald_r h (by omega) (by omega)]
theorem T_totalOf_z {s : TS} {R : Nat → Int} (h : TRep s R) {a : Int} (h0 : 0 ≤ a) (h1 : a < 10) : T_totalOf s (z a) = rI (z (R (57 + a).toNat - R (47 + a).toNat)) s := by
  unfold T_totalOf
  rw [show (57 : Int32) = z 57 from rfl, show (47 : Int32) = z 47 from rfl, z_add, z_add, ald_r h (by omega) (by omega), ald_r h (by omega) (by omega), z_sub]

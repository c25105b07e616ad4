theorem zb0 {p : Prop} [Decidable p] : (z (b2 p) = z 0) = ¬ p := propext (b2_0 p)
theorem zb1 {p : Prop} [Decidable p] : (z (b2 p) = z 1) = p := by
  by_cases h : p
  · unfold b2; simp [h]
  · unfold b2; simp only [h, ↓reduceIte]; exact propext ⟨fun e => absurd e (by decide), fun e => e.elim⟩
theorem b2_t' {p : Prop} [Decidable p] (h : p) : b2 p = 1 := if_pos h
theorem b2_f' {p : Prop} [Decidable p] (h : ¬ p) : b2 p = 0 := if_neg h
theorem nz0 : vp_nar .boolean (z 0) = z 0 := nar_z0
theorem nz1 : vp_nar .boolean (z 1) = z 1 := nar_z1
/-! THE ROW's ENTRIES -/
def rLen (R : Nat → Int) (c : Int) : Int := R (4 + c).toNat
def rCode (R : Nat → Int) (c i : Int) : Int := R (7 + 10 * c + i).toNat
def rCrs (R : Nat → Int) (a : Int) : Int := R (37 + a).toNat
def rSt (R : Nat → Int) (a : Int) : Int := R (47 + a).toNat
def rFi (R : Nat → Int) (a : Int) : Int := R (57 + a).toNat
def rNp (R : Nat → Int) (a : Int) : Int := R (67 + a).toNat
def rPc (R : Nat → Int) (a k : Int) : Int := R (77 + 16 * a + k).toNat
def rPt (R : Nat → Int) (a k : Int) : Int := R (237 + 16 * a + k).toNat
/-- a row that can be -/
def RV (R : Nat → Int) : Prop := (0 ≤ R 0 ∧ R 0 ≤ 3) ∧ (0 ≤ R 1 ∧ R 1 ≤ 10) ∧ (0 ≤ R 2 ∧ R 2 ≤ 600) ∧ (0 ≤ R 3 ∧ R 3 ≤ 600) ∧ (∀ c : Int, 0 ≤ c → c < R 0 → (1 ≤ rLen R c ∧ rLen R c ≤ 10) ∧ ∀ i, 0 ≤ i → i < rLen R c → 1 ≤ rCode R c i ∧ rCode R c i ≤ 99) ∧ ∀ a : Int, 0 ≤ a → a < R 1 → (0 ≤ rCrs R a ∧ rCrs R a < R 0) ∧ (0 ≤ rSt R a ∧ rSt R a < rFi R a ∧ rFi R a ≤ 9999) ∧ (0 ≤ rNp R a ∧ rNp R a ≤ 16) ∧ ∀ k, 0 ≤ k → k < rNp R a → (1 ≤ rPc R a k ∧ rPc R a k ≤ 99) ∧ (rSt R a ≤ rPt R a k ∧ rPt R a k ≤ rFi R a) ∧ (k + 1 < rNp R a → rPt R a k ≤ rPt R a (k + 1))
theorem RV.nC {R : Nat → Int} (h : RV R) : 0 ≤ R 0 ∧ R 0 ≤ 3 := h.1
theorem RV.nR {R : Nat → Int} (h : RV R) : 0 ≤ R 1 ∧ R 1 ≤ 10 := h.2.1
theorem RV.gap {R : Nat → Int} (h : RV R) : 0 ≤ R 2 ∧ R 2 ≤ 600 := h.2.2.1
theorem RV.slk {R : Nat → Int} (h : RV R) : 0 ≤ R 3 ∧ R 3 ≤ 600 := h.2.2.2.1
theorem RV.len {R : Nat → Int} (h : RV R) {c : Int} (h0 : 0 ≤ c) (h1 : c < R 0) : 1 ≤ rLen R c ∧ rLen R c ≤ 10 := (h.2.2.2.2.1 c h0 h1).1
theorem RV.code {R : Nat → Int} (h : RV R) {c i : Int} (h0 : 0 ≤ c) (h1 : c < R 0) (h2 : 0 ≤ i) (h3 : i < rLen R c) : 1 ≤ rCode R c i ∧ rCode R c i ≤ 99 := (h.2.2.2.2.1 c h0 h1).2 i h2 h3
theorem RV.crs {R : Nat → Int} (h : RV R) {a : Int} (h0 : 0 ≤ a) (h1 : a < R 1) : 0 ≤ rCrs R a ∧ rCrs R a < R 0 := (h.2.2.2.2.2 a h0 h1).1
theorem RV.st {R : Nat → Int} (h : RV R) {a : Int} (h0 : 0 ≤ a) (h1 : a < R 1) : 0 ≤ rSt R a ∧ rSt R a < rFi R a ∧ rFi R a ≤ 9999 := (h.2.2.2.2.2 a h0 h1).2.1
theorem RV.np {R : Nat → Int} (h : RV R) {a : Int} (h0 : 0 ≤ a) (h1 : a < R 1) : 0 ≤ rNp R a ∧ rNp R a ≤ 16 := (h.2.2.2.2.2 a h0 h1).2.2.1
theorem RV.pc {R : Nat → Int} (h : RV R) {a k : Int} (h0 : 0 ≤ a) (h1 : a < R 1) (h2 : 0 ≤ k) (h3 : k < rNp R a) : 1 ≤ rPc R a k ∧ rPc R a k ≤ 99 := ((h.2.2.2.2.2 a h0 h1).2.2.2 k h2 h3).1
theorem RV.pt {R : Nat → Int} (h : RV R) {a k : Int} (h0 : 0 ≤ a) (h1 : a < R 1) (h2 : 0 ≤ k) (h3 : k < rNp R a) : rSt R a ≤ rPt R a k ∧ rPt R a k ≤ rFi R a := ((h.2.2.2.2.2 a h0 h1).2.2.2 k h2 h3).2.1
theorem RV.srt {R : Nat → Int} (h : RV R) {a k : Int} (h0 : 0 ≤ a) (h1 : a < R 1) (h2 : 0 ≤ k) (h3 : k + 1 < rNp R a) : rPt R a k ≤ rPt R a (k + 1) := ((h.2.2.2.2.2 a h0 h1).2.2.2 k h2 (by omega)).2.2 h3
section
variable {β : Type} {s : TS} {R : Nat → Int} {K : Int32 → Option β}
theorem ald_nC (h : TRep s R) : tald s 7 (z 0) K = K (z (R 0)) := ald_r h (by omega) (by omega) K
theorem ald_nR (h : TRep s R) : tald s 7 (z 1) K = K (z (R 1)) := ald_r h (by omega) (by omega) K
theorem ald_gap (h : TRep s R) : tald s 7 (z 2) K = K (z (R 2)) := ald_r h (by omega) (by omega) K
theorem ald_slk (h : TRep s R) : tald s 7 (z 3) K = K (z (R 3)) := ald_r h (by omega) (by omega) K
theorem ald_len (h : TRep s R) {c : Int} (h0 : 0 ≤ c) (h1 : c < 3) : tald s 7 (z (4 + c)) K = K (z (rLen R c)) := ald_r h (by omega) (by omega) K
theorem ald_crs (h : TRep s R) {c : Int} (h0 : 0 ≤ c) (h1 : c < 10) : tald s 7 (z (37 + c)) K = K (z (rCrs R c)) := ald_r h (by omega) (by omega) K
theorem ald_st (h : TRep s R) {c : Int} (h0 : 0 ≤ c) (h1 : c < 10) : tald s 7 (z (47 + c)) K = K (z (rSt R c)) := ald_r h (by omega) (by omega) K
theorem ald_fi (h : TRep s R) {c : Int} (h0 : 0 ≤ c) (h1 : c < 10) : tald s 7 (z (57 + c)) K = K (z (rFi R c)) := ald_r h (by omega) (by omega) K
theorem ald_np (h : TRep s R) {c : Int} (h0 : 0 ≤ c) (h1 : c < 10) : tald s 7 (z (67 + c)) K = K (z (rNp R c)) := ald_r h (by omega) (by omega) K
theorem codeOf_z (h : TRep s R) {c i : Int} (h0 : 0 ≤ c) (h1 : c < 3) (h2 : 0 ≤ i) (h3 : i < 10) : T_codeOf s (z c) (z i) = rI (z (rCode R c i)) s := T_codeOf_z h h0 h1 h2 h3
theorem pCode_z (h : TRep s R) {c i : Int} (h0 : 0 ≤ c) (h1 : c < 10) (h2 : 0 ≤ i) (h3 : i < 16) : T_punchCode s (z c) (z i) = rI (z (rPc R c i)) s := T_punchCode_z h h0 h1 h2 h3
theorem pTime_z (h : TRep s R) {c i : Int} (h0 : 0 ≤ c) (h1 : c < 10) (h2 : 0 ≤ i) (h3 : i < 16) : T_punchTime s (z c) (z i) = rI (z (rPt R c i)) s := T_punchTime_z h h0 h1 h2 h3
theorem total_z (h : TRep s R) {a : Int} (h0 : 0 ≤ a) (h1 : a < 10) : T_totalOf s (z a) = rI (z (rFi R a - rSt R a)) s := T_totalOf_z h h0 h1
theorem isC_z (h : TRep s R) (h0 : 0 ≤ R 0) (h1 : R 0 ≤ 3) {c : Int} (h2 : -2147483648 ≤ c) (h3 : c < 2147483648) : T_isCourse s (z c) = rI (z (b2 (0 ≤ c ∧ c < R 0))) s := T_isCourse_z h ⟨h0, h1⟩ ⟨h2, h3⟩
theorem isR_z (h : TRep s R) (h0 : 0 ≤ R 1) (h1 : R 1 ≤ 10) {c : Int} (h2 : -2147483648 ≤ c) (h3 : c < 2147483648) : T_isRunner s (z c) = rI (z (b2 (0 ≤ c ∧ c < R 1))) s := T_isRunner_z h ⟨h0, h1⟩ ⟨h2, h3⟩
end

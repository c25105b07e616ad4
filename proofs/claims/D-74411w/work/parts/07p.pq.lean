/-! THE PRIORITY QUEUE of parts -/
set_option maxRecDepth 100000
theorem zl_mul {a b : Int} (ha : 0 ≤ a ∧ a ≤ 10000) (hb : 0 ≤ b ∧ b ≤ 10000) : (z a).toInt64 * (z b).toInt64 = Int64.ofInt (a * b) := by
  have e : ∀ c : Int, 0 ≤ c ∧ c ≤ 10000 → (z c).toInt64 = Int64.ofInt c := by
    intro c hc
    apply Int64.toInt_inj.mp
    rw [Int32.toInt_toInt64, zint (by omega) (by omega), Int64.toInt_ofInt]
    exact (Int.bmod_eq_of_le (by have : (Int64.size : Int) = 18446744073709551616 := rfl; omega) (by have : (Int64.size : Int) = 18446744073709551616 := rfl; omega)).symm
  rw [e a ha, e b hb, Int64.ofInt_mul]
theorem lz_toInt {a : Int} (h1 : -1000000000000 ≤ a) (h2 : a ≤ 1000000000000) : (Int64.ofInt a).toInt = a := by
  rw [Int64.toInt_ofInt]
  exact Int.bmod_eq_of_le (by have : (Int64.size : Int) = 18446744073709551616 := rfl; omega) (by have : (Int64.size : Int) = 18446744073709551616 := rfl; omega)
def cmpI (a b : Int) : Int := if a < b then -1 else if a = b then 0 else 1
theorem cmpI_rg (a b : Int) : -1 ≤ cmpI a b ∧ cmpI a b ≤ 1 := by unfold cmpI; split <;> (try split) <;> omega
theorem compare_z {P : PH} {a b : Int} (ha : -1000000000000 ≤ a ∧ a ≤ 1000000000000) (hb : -1000000000000 ≤ b ∧ b ≤ 1000000000000) : f_J21_compare P (Int64.ofInt a) (Int64.ofInt b) = rI (z (cmpI a b)) P := by
  have h1 : (Int64.ofInt a > Int64.ofInt b) ↔ b < a := by
    show Int64.ofInt b < Int64.ofInt a ↔ _
    rw [Int64.lt_iff_toInt_lt, lz_toInt ha.1 ha.2, lz_toInt hb.1 hb.2]
  have h2 : (Int64.ofInt a = Int64.ofInt b) ↔ a = b := ⟨fun h => by rw [← lz_toInt ha.1 ha.2, ← lz_toInt hb.1 hb.2, h], fun h => by rw [h]⟩
  unfold f_J21_compare lg_cmp cmpI
  simp only [h1, h2]
  by_cases c1 : b < a
  · simp only [c1, ↓reduceIte, show ¬ a < b by omega, show ¬ a = b by omega]
    rfl
  · by_cases c2 : a = b
    · simp only [c2, ↓reduceIte, Int.lt_irrefl]
      rfl
    · simp only [c1, c2, ↓reduceIte, show a < b by omega]
      rfl
/-- a part: a fraction -/
def PA (P : PH) (U V : Nat → Int) (a : Nat) : Prop := P.1 a = some (true, oB 10 [.int (z (U a)), .int (z (V a))]) ∧ (0 ≤ U a ∧ U a ≤ 9999) ∧ (1 ≤ V a ∧ V a ≤ 9999)
def fle (U V : Nat → Int) (a b : Nat) : Prop := U a * V b ≤ U b * V a
theorem mul_rg {a b : Int} (ha : 0 ≤ a ∧ a ≤ 9999) (hb : 0 ≤ b ∧ b ≤ 9999) : 0 ≤ a * b ∧ a * b ≤ 99980001 :=
  ⟨Int.mul_nonneg ha.1 hb.1, by
    have h1 : a * b ≤ 9999 * b := Int.mul_le_mul_of_nonneg_right ha.2 hb.1
    omega⟩
theorem compareTo_z {P : PH} {U V : Nat → Int} {a b : Nat} (ha : PA P U V a) (hb : PA P U V b) : f_X11_compareTo P a (some b) = rI (z (cmpI (U a * V b) (U b * V a))) P := by
  obtain ⟨h1, h2, h3⟩ := ha
  obtain ⟨g1, g2, g3⟩ := hb
  have m1 := mul_rg (a := U a) (b := V b) h2 ⟨by omega, by omega⟩
  have m2 := mul_rg (a := U b) (b := V a) g2 ⟨by omega, by omega⟩
  have e1 := zl_mul (a := U a) (b := V b) ⟨by omega, by omega⟩ ⟨by omega, by omega⟩
  have e2 := zl_mul (a := U b) (b := V a) ⟨by omega, by omega⟩ ⟨by omega, by omega⟩
  have e3 := compare_z (P := P) (a := U a * V b) (b := U b * V a) ⟨by omega, by omega⟩ ⟨by omega, by omega⟩
  simp (disch := omega) only [f_X11_compareTo, f_X11_compareTo_2, z_add, z_sub, z_mul, z_neg, zlt, zle, zeq, zne, l0, l1, l2, l3, l4, l5, l6, l7, l8, l9, l10, l11, l16, l17, l20, l24, l32, l37, l47, l57, l60, l67, l77, l97, l99, l122, l48, l57, l100, l237, l397, l600, l900, l880, l9998, l9999, bnd, xcI_rI, xcV_rV, xcR_rR, zb0, zb1, nz0, nz1, nar_z0, nar_z1, nar_b2, ↓reduceIte, ↓xnul_s, ↓xnul_n, xcst_n, List.set_cons_zero, List.set_cons_succ, ↓xcl1_s h1, ↓xgI_s (k := 0) h1 rfl, ↓xgI_s (k := 1) h1 rfl, ↓xcl1_s g1, ↓xgI_s (k := 0) g1 rfl, ↓xgI_s (k := 1) g1 rfl, ↓xcst_s g1 (cs := [10]) rfl, e1, e2, e3]
/-- what a queue's array holds -/
def QA (P : PH) (U V : Nat → Int) (b m : Nat) (f : Nat → Option Nat) (t : Nat → Nat) (n k : Nat) : Prop := P.1 b = some (true, ar4 m f) ∧ (n ≤ m ∧ m ≤ 100) ∧ (∀ i, i < n → i ≠ k → f i = some (t i)) ∧ (∀ i, i < n → PA P U V (t i)) ∧ ∀ i, n ≤ i → i < m → f i = none
theorem PA.up {P : PH} {U V : Nat → Int} {a b m : Nat} {f g : Nat → Option Nat} (h : PA P U V a) (hb : P.1 b = some (true, ar4 m f)) : PA (xup P b (ar4 m g)) U V a :=
  ⟨(up_ne (fun e => by have h1 := h.1; rw [e, hb] at h1; cases h1)).trans h.1, h.2⟩
theorem PA.q {P : PH} {U V : Nat → Int} {a : Nat} (h : PA P U V a) : xmayq P 4 (some a) = true := by
  unfold xmayq
  simp only [h.1]
  rfl
theorem par_z {k : Nat} (hk : 1 ≤ k) (hk' : k ≤ 1000) : (((z k) - 1).toUInt32 >>> ((1 : Int32).toUInt32 &&& Int32.toUInt32 31)).toInt32 = z (par k) := by
  have : ∀ q : Fin 1001, 1 ≤ q.1 → (((z q.1) - 1).toUInt32 >>> ((1 : Int32).toUInt32 &&& Int32.toUInt32 31)).toInt32 = z (par q.1) := by decide +kernel
  exact this ⟨k, by omega⟩ hk
theorem half_z {k : Nat} (hk' : k ≤ 1000) : ((z k).toUInt32 >>> ((1 : Int32).toUInt32 &&& Int32.toUInt32 31)).toInt32 = z ((k / 2 : Nat)) := by
  have : ∀ q : Fin 1001, ((z q.1).toUInt32 >>> ((1 : Int32).toUInt32 &&& Int32.toUInt32 31)).toInt32 = z ((q.1 / 2 : Nat)) := by decide +kernel
  exact this ⟨k, by omega⟩
theorem dbl_z {k : Nat} (hk' : k ≤ 1000) : (z k <<< ((1 : Int32) &&& 31)) + 1 = z ((2 * k + 1 : Nat)) := by
  have : ∀ q : Fin 1001, (z q.1 <<< ((1 : Int32) &&& 31)) + 1 = z ((2 * q.1 + 1 : Nat)) := by decide +kernel
  exact this ⟨k, by omega⟩

section
variable {P0 : PH} {U V : Nat → Int} {q b m : Nat} {s mc : Int32}
/-- what holds while a queue is put in order -/
def QJ (n0 : Nat) (P0 P : PH) (U V : Nat → Int) (q b m : Nat) (s mc : Int32) (f : Nat → Option Nat) (t : Nat → Nat) (n k : Nat) : Prop := Fr n0 (fun a => a = q) P0 P ∧ wt P = wt P0 ∧ P.1 q = some (true, oB 22 [.ref b, .int s, .null, .int mc]) ∧ QA P U V b m f t n k
theorem QJ.put {n0 : Nat} {P : PH} {f : Nat → Option Nat} {t : Nat → Nat} {n k : Nat} (h : QJ n0 P0 P U V q b m s mc f t n k) {t' : Nat → Nat} {k' : Nat} (hk : k < n) (hkk : k ≠ k') (ht : ∀ i, i < n → i ≠ k → i ≠ k' → t' i = t i) (hp : ∀ i, i < n → PA P U V (t' i)) : QJ n0 P0 (xup P b (ar4 m (updR f k (some (t' k))))) U V q b m s mc (updR f k (some (t' k))) t' n k' := by
  obtain ⟨h1, h2, h3, h4, h5, h6, h7, h8⟩ := h
  have hqb : q ≠ b := fun e => by rw [e, h4] at h3; cases h3
  refine ⟨h1.trans (Fr.upa h1.iv h4 fun _ => ⟨q, rfl, ⟨_, _, h3, rfl⟩⟩), h2, (up_ne hqb).trans h3, up_at, h5, fun i hi hik => ?_, fun i hi => (hp i hi).up h4, fun i hi hi' => ?_⟩
  · unfold updR
    by_cases e : i = k
    · rw [if_pos e, e]
    · rw [if_neg e, h6 i hi e, ht i hi e hik]
  · unfold updR
    rw [if_neg (by omega)]
    exact h8 i hi hi'
theorem fle_lt {a b : Nat} : cmpI (U a * V b) (U b * V a) < 0 ↔ ¬ fle U V b a := by
  unfold cmpI fle
  split
  · omega
  · split <;> omega
theorem fle_le {a b : Nat} : cmpI (U a * V b) (U b * V a) ≤ 0 ↔ fle U V a b := by
  unfold cmpI fle
  split
  · omega
  · split <;> omega
theorem fle_tot (a b : Nat) : fle U V a b ∨ fle U V b a := by unfold fle; omega
/-- where all denominators are positive -/
theorem fle_tr {a b c : Nat} (ha : 1 ≤ V a) (hb : 1 ≤ V b) (hc : 1 ≤ V c) (h1 : fle U V a b) (h2 : fle U V b c) : fle U V a c := by
  unfold fle at *
  have e1 : U a * V b * V c ≤ U b * V a * V c := Int.mul_le_mul_of_nonneg_right h1 (by omega)
  have e2 : U b * V c * V a ≤ U c * V b * V a := Int.mul_le_mul_of_nonneg_right h2 (by omega)
  have e3 : U b * V a * V c = U b * V c * V a := by rw [Int.mul_assoc, Int.mul_comm (V a), ← Int.mul_assoc]
  have e4 : U a * V b * V c = U a * V c * V b := by rw [Int.mul_assoc, Int.mul_comm (V b), ← Int.mul_assoc]
  have e5 : U c * V b * V a = U c * V a * V b := by rw [Int.mul_assoc, Int.mul_comm (V b), ← Int.mul_assoc]
  have e6 : U a * V c * V b ≤ U c * V a * V b := by omega
  exact Int.le_of_mul_le_mul_right e6 (by omega)
/-- the order with positive denominators everywhere -/
def V1 (V : Nat → Int) (a : Nat) : Int := if 1 ≤ V a then V a else 1
theorem V1_pos (V : Nat → Int) (a : Nat) : 1 ≤ V1 V a := by unfold V1; split <;> omega
theorem fle1_tr (U V : Nat → Int) : ∀ a b c, fle U (V1 V) a b → fle U (V1 V) b c → fle U (V1 V) a c := fun a b c => fle_tr (V1_pos V a) (V1_pos V b) (V1_pos V c)
theorem fle1_eq {P : PH} {a b : Nat} (ha : PA P U V a) (hb : PA P U V b) : fle U (V1 V) a b ↔ fle U V a b := by
  unfold fle V1
  rw [if_pos ha.2.2.1, if_pos hb.2.2.1]
theorem siftUp_z {n0 : Nat} {P : PH} {f : Nat → Option Nat} {t : Nat → Nat} {n x : Nat} (h : QJ n0 P0 P U V q b m s mc f t (n + 1) n) (hx : t n = x) (hH : HU (fle U (V1 V)) t (n + 1) n) : ∃ P' f' t', f_J32_siftUpComparable P (z n) (some x) (some b) = rV P' ∧ QJ n0 P0 P' U V q b m s mc f' t' (n + 1) (n + 1) ∧ HP (fle U (V1 V)) t' (n + 1) ∧ (∀ p, cnt p t' (n + 1) = cnt p t (n + 1)) := by
  suffices hS : OK (f_J32_siftUpComparable P (z n) (some x) (some b)) (fun v P' => v = none ∧ ∃ f' t', QJ n0 P0 P' U V q b m s mc f' t' (n + 1) (n + 1) ∧ HP (fle U (V1 V)) t' (n + 1) ∧ (∀ p, cnt p t' (n + 1) = cnt p t (n + 1))) by
    obtain ⟨v, P', e, rfl, f', t', r⟩ := hS
    exact ⟨P', f', t', e, r⟩
  have hnm := h.2.2.2.2.1
  have hpx : PA P U V x := hx ▸ h.2.2.2.2.2.2.1 n (by omega)
  unfold f_J32_siftUpComparable
  rw [xcst_s hpx.1 (cs := [16, 18, 10]) rfl]
  refine ok_lpn (fun d p => ∃ (k : Nat) (P1 : PH) (f1 : Nat → Option Nat) (t1 : Nat → Nat), p = (z k, some b, some x, P1) ∧ d = k ∧ k ≤ n ∧ QJ n0 P0 P1 U V q b m s mc f1 t1 (n + 1) k ∧ t1 k = x ∧ HU (fle U (V1 V)) t1 (n + 1) k ∧ (∀ p, cnt p t1 (n + 1) = cnt p t (n + 1))) ?_ FU _ _ ⟨n, P, f, t, rfl, rfl, Nat.le_refl _, h, hx, hH, fun _ => rfl⟩ (by simp only [FU]; omega)
  rintro kk d p ⟨k, P1, f1, t1, rfl, rfl, h1, h2, h3, h4, h5⟩ hk
  have g4 := h2.2.2.2.1
  have g5 := h2.2.2.2.2.1
  have g7 := h2.2.2.2.2.2.2.1
  have hpx1 : PA P1 U V x := h3 ▸ g7 d (by omega)
  have hend : (d = 0 ∨ fle U (V1 V) (t1 (par d)) (t1 d)) → OK (f_J32_siftUpComparable_47 (z d) (some b) (some x) P1) (fun v P' => v = none ∧ ∃ f' t', QJ n0 P0 P' U V q b m s mc f' t' (n + 1) (n + 1) ∧ HP (fle U (V1 V)) t' (n + 1) ∧ (∀ p, cnt p t' (n + 1) = cnt p t (n + 1))) := by
    intro hdn
    simp (disch := omega) only [f_J32_siftUpComparable_47, z_add, z_sub, z_mul, z_neg, zlt, zle, zeq, zne, l0, l1, l2, l3, l4, l5, l6, l7, l8, l9, l10, l11, l16, l17, l20, l24, l32, l37, l47, l57, l60, l67, l77, l97, l99, l122, l48, l57, l100, l237, l397, l600, l900, l880, l9998, l9999, bnd, xcI_rI, xcV_rV, xcR_rR, zb0, zb1, nz0, nz1, nar_z0, nar_z1, nar_b2, ↓reduceIte, ↓xnul_s, ↓xnul_n, xcst_n, List.set_cons_zero, List.set_cons_succ, xsR_z g4 (show d < m by omega) (by omega) hpx1.q]
    have := h2.put (t' := t1) (k' := n + 1) (by omega) (by omega) (fun _ _ _ _ => rfl) g7
    rw [h3] at this
    exact ok_rV.mpr ⟨rfl, _, _, this, h4.done hdn, h5⟩
  simp (disch := omega) only [f_J32_siftUpComparable_5F, z_add, z_sub, z_mul, z_neg, zlt, zle, zeq, zne, l0, l1, l2, l3, l4, l5, l6, l7, l8, l9, l10, l11, l16, l17, l20, l24, l32, l37, l47, l57, l60, l67, l77, l97, l99, l122, l48, l57, l100, l237, l397, l600, l900, l880, l9998, l9999, bnd, xcI_rI, xcV_rV, xcR_rR, zb0, zb1, nz0, nz1, nar_z0, nar_z1, nar_b2, ↓reduceIte, ↓xnul_s, ↓xnul_n, xcst_n, List.set_cons_zero, List.set_cons_succ]
  refine ok_ite (fun c1 => ?_) fun c1 => ?_
  · exact hend (Or.inl (by omega))
  · have hp : par d < d := by unfold par; omega
    have hpz := par_z (k := d) (by omega) (by omega)
    have e2 : f1 (par d) = some (t1 (par d)) := h2.2.2.2.2.2.1 (par d) (by omega) (by omega)
    have hpp := g7 (par d) (by omega)
    have hpz' : (((z d) - z 1).toUInt32 >>> ((z 1).toUInt32 &&& Int32.toUInt32 31)).toInt32 = z (par d) := hpz
    have hcm := compareTo_z hpx1 hpp
    have hcr := cmpI_rg (U x * V (t1 (par d))) (U (t1 (par d)) * V x)
    simp (disch := omega) only [z_sub] at hpz'
    simp (disch := omega) only [hpz', z_add, z_sub, z_mul, z_neg, zlt, zle, zeq, zne, l0, l1, l2, l3, l4, l5, l6, l7, l8, l9, l10, l11, l16, l17, l20, l24, l32, l37, l47, l57, l60, l67, l77, l97, l99, l122, l48, l57, l100, l237, l397, l600, l900, l880, l9998, l9999, bnd, xcI_rI, xcV_rV, xcR_rR, zb0, zb1, nz0, nz1, nar_z0, nar_z1, nar_b2, ↓reduceIte, ↓xnul_s, ↓xnul_n, xcst_n, List.set_cons_zero, List.set_cons_succ, ↓xaR_s g4, e2, ↓xsw_s hpx1.1, eq_self, Int.toNat_natCast, hcm]
    refine ok_ite (fun c2 => ?_) fun c2 => ?_
    · have hlt := fle_lt.mp c2
      have hle : fle U (V1 V) x (t1 (par d)) := (fle1_eq hpx1 hpp).mpr ((fle_tot x (t1 (par d))).resolve_right hlt)
      simp (disch := omega) only [xsR_z g4 (show d < m by omega) (by omega) hpp.q]
      have hput := h2.put (t' := swN t1 d (par d)) (k' := par d) (by omega) (by omega) (fun i _ a1 a2 => by unfold swN; rw [if_neg a1, if_neg a2]) (fun i hi => by
        unfold swN
        split
        · exact hpp
        · split
          · exact h3.symm ▸ hpx1
          · exact g7 i hi)
      have e3 : swN t1 d (par d) d = t1 (par d) := if_pos rfl
      have e4 : swN t1 d (par d) (par d) = t1 d := by unfold swN; rw [if_neg (by omega), if_pos rfl]
      rw [e3] at hput
      exact hk (par d) _ hp ⟨par d, _, _, _, rfl, rfl, by omega, hput, e4.trans h3, HU.step (fle1_tr U V) h4 (by omega) (by omega) (h3.symm ▸ hle), fun p => (cnt_sw (by omega) (by omega)).trans (h5 p)⟩
    · refine hend (Or.inr ?_)
      rw [h3]
      have := Classical.not_not.mp (fun e => c2 (fle_lt.mpr e))
      exact (fle1_eq hpp hpx1).mpr this

theorem siftDown_z {n0 : Nat} {P : PH} {f : Nat → Option Nat} {t : Nat → Nat} {n x : Nat} (hn : 1 ≤ n) (h : QJ n0 P0 P U V q b m s mc f t n 0) (hx : t 0 = x) (hH : HD (fle U (V1 V)) t n 0) : ∃ P' f' t', f_J32_siftDownComparable P (z 0) (some x) (some b) (z n) = rV P' ∧ QJ n0 P0 P' U V q b m s mc f' t' n n ∧ HP (fle U (V1 V)) t' n ∧ (∀ p, cnt p t' n = cnt p t n) := by
  suffices hS : OK (f_J32_siftDownComparable P (z 0) (some x) (some b) (z n)) (fun v P' => v = none ∧ ∃ f' t', QJ n0 P0 P' U V q b m s mc f' t' n n ∧ HP (fle U (V1 V)) t' n ∧ (∀ p, cnt p t' n = cnt p t n)) by
    obtain ⟨v, P', e, rfl, f', t', r⟩ := hS
    exact ⟨P', f', t', e, r⟩
  have hnm := h.2.2.2.2.1
  have hpx : PA P U V x := hx ▸ h.2.2.2.2.2.2.1 0 (by omega)
  unfold f_J32_siftDownComparable
  rw [xcst_s hpx.1 (cs := [16, 18, 10]) rfl, half_z (by omega)]
  refine ok_lpn (fun d p => ∃ (k : Nat) (P1 : PH) (f1 : Nat → Option Nat) (t1 : Nat → Nat), p = (z k, some b, z n, some x, z (n / 2 : Nat), P1) ∧ d = n - k ∧ k < n ∧ QJ n0 P0 P1 U V q b m s mc f1 t1 n k ∧ t1 k = x ∧ HD (fle U (V1 V)) t1 n k ∧ (∀ p, cnt p t1 n = cnt p t n)) ?_ FU _ _ ⟨0, P, f, t, rfl, rfl, by omega, h, hx, hH, fun _ => rfl⟩ (by simp only [FU]; omega)
  rintro kk dd p ⟨d, P1, f1, t1, rfl, rfl, h1, h2, h3, h4, h5⟩ hk
  have g4 := h2.2.2.2.1
  have g7 := h2.2.2.2.2.2.2.1
  have hpx1 : PA P1 U V x := h3 ▸ g7 d (by omega)
  have hend : (∀ i, 1 ≤ i → i < n → par i = d → fle U (V1 V) (t1 d) (t1 i)) → OK (f_J32_siftDownComparable_94 (z d) (some b) (some x) P1) (fun v P' => v = none ∧ ∃ f' t', QJ n0 P0 P' U V q b m s mc f' t' n n ∧ HP (fle U (V1 V)) t' n ∧ (∀ p, cnt p t' n = cnt p t n)) := by
    intro hdn
    simp (disch := omega) only [f_J32_siftDownComparable_94, z_add, z_sub, z_mul, z_neg, zlt, zle, zeq, zne, l0, l1, l2, l3, l4, l5, l6, l7, l8, l9, l10, l11, l16, l17, l20, l24, l32, l37, l47, l57, l60, l67, l77, l97, l99, l122, l48, l57, l100, l237, l397, l600, l900, l880, l9998, l9999, bnd, xcI_rI, xcV_rV, xcR_rR, zb0, zb1, nz0, nz1, nar_z0, nar_z1, nar_b2, ↓reduceIte, ↓xnul_s, ↓xnul_n, xcst_n, List.set_cons_zero, List.set_cons_succ, xsR_z g4 (show d < m by omega) (by omega) hpx1.q]
    have := h2.put (t' := t1) (k' := n) (by omega) (by omega) (fun _ _ _ _ => rfl) g7
    rw [h3] at this
    exact ok_rV.mpr ⟨rfl, _, _, this, h4.done hdn, h5⟩
  have h68 : ∀ j, 1 ≤ j → j < n → par j = d → (∀ i, 1 ≤ i → i < n → par i = d → fle U (V1 V) (t1 j) (t1 i)) → OK (f_J32_siftDownComparable_68 kk (z d) (some b) (z n) (some x) (z (n / 2 : Nat)) (z j) (some (t1 j)) P1) (fun v P' => v = none ∧ ∃ f' t', QJ n0 P0 P' U V q b m s mc f' t' n n ∧ HP (fle U (V1 V)) t' n ∧ (∀ p, cnt p t' n = cnt p t n)) := by
    intro j hj1 hj2 hj3 hmin
    have hdj : d < j := by unfold par at hj3; omega
    have hpj := g7 j hj2
    have hcm := compareTo_z hpx1 hpj
    have hcr := cmpI_rg (U x * V (t1 j)) (U (t1 j) * V x)
    simp (disch := omega) only [f_J32_siftDownComparable_68, z_add, z_sub, z_mul, z_neg, zlt, zle, zeq, zne, l0, l1, l2, l3, l4, l5, l6, l7, l8, l9, l10, l11, l16, l17, l20, l24, l32, l37, l47, l57, l60, l67, l77, l97, l99, l122, l48, l57, l100, l237, l397, l600, l900, l880, l9998, l9999, bnd, xcI_rI, xcV_rV, xcR_rR, zb0, zb1, nz0, nz1, nar_z0, nar_z1, nar_b2, ↓reduceIte, ↓xnul_s, ↓xnul_n, xcst_n, List.set_cons_zero, List.set_cons_succ, ↓xsw_s hpx1.1, eq_self, hcm]
    refine ok_ite (fun c2 => ?_) fun c2 => ?_
    · have hlt : ¬ fle U V x (t1 j) := fun e => by have := fle_le.mpr e; omega
      have hle : fle U (V1 V) (t1 j) x := (fle1_eq hpj hpx1).mpr ((fle_tot (t1 j) x).resolve_right hlt)
      simp (disch := omega) only [xsR_z g4 (show d < m by omega) (by omega) hpj.q]
      have hput := h2.put (t' := swN t1 d j) (k' := j) (by omega) (by omega) (fun i _ a1 a2 => by unfold swN; rw [if_neg a1, if_neg a2]) (fun i hi => by
        unfold swN
        split
        · exact hpj
        · split
          · exact h3.symm ▸ hpx1
          · exact g7 i hi)
      have e3 : swN t1 d j d = t1 j := if_pos rfl
      have e4 : swN t1 d j j = t1 d := by unfold swN; rw [if_neg (by omega), if_pos rfl]
      rw [e3] at hput
      exact hk _ _ (by omega) ⟨j, _, _, _, rfl, rfl, hj2, hput, e4.trans h3, HD.step h4 hj1 hj2 hj3 hmin (h3.symm ▸ hle), fun p => (cnt_sw (by omega) (by omega)).trans (h5 p)⟩
    · refine hend fun i a1 a2 a3 => ?_
      rw [h3]
      have hxj : fle U (V1 V) x (t1 j) := (fle1_eq hpx1 hpj).mpr (fle_le.mp (by omega))
      exact fle1_tr U V _ _ _ hxj (hmin i a1 a2 a3)
  simp (disch := omega) only [f_J32_siftDownComparable_11F, z_add, z_sub, z_mul, z_neg, zlt, zle, zeq, zne, l0, l1, l2, l3, l4, l5, l6, l7, l8, l9, l10, l11, l16, l17, l20, l24, l32, l37, l47, l57, l60, l67, l77, l97, l99, l122, l48, l57, l100, l237, l397, l600, l900, l880, l9998, l9999, bnd, xcI_rI, xcV_rV, xcR_rR, zb0, zb1, nz0, nz1, nar_z0, nar_z1, nar_b2, ↓reduceIte, ↓xnul_s, ↓xnul_n, xcst_n, List.set_cons_zero, List.set_cons_succ]
  refine ok_ite (fun c1 => ?_) fun c1 => ?_
  · exact hend fun i a1 a2 a3 => by unfold par at a3; omega
  · have hdz : (z d <<< (z 1 &&& 31)) + z 1 = z ((2 * d + 1 : Nat)) := dbl_z (by omega)
    have e2 : f1 (2 * d + 1) = some (t1 (2 * d + 1)) := h2.2.2.2.2.2.1 _ (by omega) (by omega)
    have hp1 := g7 (2 * d + 1) (by omega)
    simp (disch := omega) only [hdz, z_add, z_sub, z_mul, z_neg, zlt, zle, zeq, zne, l0, l1, l2, l3, l4, l5, l6, l7, l8, l9, l10, l11, l16, l17, l20, l24, l32, l37, l47, l57, l60, l67, l77, l97, l99, l122, l48, l57, l100, l237, l397, l600, l900, l880, l9998, l9999, bnd, xcI_rI, xcV_rV, xcR_rR, zb0, zb1, nz0, nz1, nar_z0, nar_z1, nar_b2, ↓reduceIte, ↓xnul_s, ↓xnul_n, xcst_n, List.set_cons_zero, List.set_cons_succ, ↓xaR_s g4, e2, Int.toNat_natCast]
    refine ok_ite (fun c2 => ?_) fun c2 => ?_
    · exact h68 (2 * d + 1) (by omega) (by omega) (by unfold par; omega) fun i a1 a2 a3 => by
        have : i = 2 * d + 1 := by unfold par at a3; omega
        rw [this]
        exact (fle_tot _ _).elim id id
    · have e3 : f1 (2 * d + 2) = some (t1 (2 * d + 2)) := h2.2.2.2.2.2.1 _ (by omega) (by omega)
      have hp2 := g7 (2 * d + 2) (by omega)
      have e4 : (((2 * d + 1 : Nat) : Int) + 1).toNat = 2 * d + 2 := by omega
      have hcm := compareTo_z hp1 hp2
      have hcr := cmpI_rg (U (t1 (2 * d + 1)) * V (t1 (2 * d + 2))) (U (t1 (2 * d + 2)) * V (t1 (2 * d + 1)))
      simp (disch := omega) only [z_add, z_sub, z_mul, z_neg, zlt, zle, zeq, zne, l0, l1, l2, l3, l4, l5, l6, l7, l8, l9, l10, l11, l16, l17, l20, l24, l32, l37, l47, l57, l60, l67, l77, l97, l99, l122, l48, l57, l100, l237, l397, l600, l900, l880, l9998, l9999, bnd, xcI_rI, xcV_rV, xcR_rR, zb0, zb1, nz0, nz1, nar_z0, nar_z1, nar_b2, ↓reduceIte, ↓xnul_s, ↓xnul_n, xcst_n, List.set_cons_zero, List.set_cons_succ, ↓xcst_s hp1.1 (cs := [16, 18, 10]) rfl, ↓xaR_s g4, e4, e3, ↓xsw_s hp1.1, eq_self, hcm]
      refine ok_ite (fun c3 => ?_) fun c3 => ?_
      · refine h68 (2 * d + 1) (by omega) (by omega) (by unfold par; omega) fun i a1 a2 a3 => ?_
        have : i = 2 * d + 1 ∨ i = 2 * d + 2 := by unfold par at a3; omega
        rcases this with this | this
        · rw [this]; exact (fle_tot _ _).elim id id
        · rw [this]; exact (fle1_eq hp1 hp2).mpr (fle_le.mp c3)
      · rw [show (((2 * d + 1 : Nat) : Int) + 1) = ((2 * d + 2 : Nat) : Int) by omega]
        refine h68 (2 * d + 2) (by omega) (by omega) (by unfold par; omega) fun i a1 a2 a3 => ?_
        have : i = 2 * d + 1 ∨ i = 2 * d + 2 := by unfold par at a3; omega
        rcases this with this | this
        · rw [this]; exact (fle1_eq hp2 hp1).mpr ((fle_tot _ _).resolve_right fun e => c3 (fle_le.mpr e))
        · rw [this]; exact (fle_tot _ _).elim id id
end

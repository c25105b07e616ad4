/-! SORTING A LIST -/
set_option maxRecDepth 100000
/-- the state with an array's contents -/
abbrev SG (P : PH) (b m : Nat) (g : Nat → Option Nat) : PH := xup P b (ar4 m g)
theorem up_up {P : PH} {b : Nat} {c c' : PC} : xup (xup P b c) b c' = xup P b c' := by
  unfold xup
  congr 1
  funext a
  simp only
  split <;> rfl
theorem SG.at {P : PH} {b m : Nat} {g : Nat → Option Nat} : (SG P b m g).1 b = some (true, ar4 m g) := up_at
theorem SG.self {P : PH} {b m : Nat} {g : Nat → Option Nat} (h : P.1 b = some (true, ar4 m g)) : SG P b m g = P := by
  unfold SG xup
  refine Prod.ext ?_ rfl
  funext a
  simp only
  split
  · rename_i e; rw [e, h]
  · rfl
/-- how the comparator q answers in all these states -/
def SC (P : PH) (b m q : Nat) (K : Nat → Int) (X : Nat → Prop) : Prop := (∀ g, ∃ w fs, (SG P b m g).1 q = some (w, oB 9 fs)) ∧ (∀ g x, X x → elO (SG P b m g) x) ∧ ∀ g x y, X x → X y → ∃ c, f_X10_compare (SG P b m g) q (some x) (some y) = rI c (SG P b m g) ∧ sgq c (K x) (K y)
def gt (X : Nat → Prop) (g : Nat → Option Nat) (t : Nat → Nat) (n : Nat) : Prop := ∀ i, i < n → g i = some (t i) ∧ X (t i)
def srtK (K : Nat → Int) (t : Nat → Nat) (n : Nat) : Prop := ∀ i j, i ≤ j → j < n → K (t i) ≤ K (t j)
def rot (t : Nat → Nat) (l s : Nat) : Nat → Nat := fun i => if i < l then t i else if i = l then t s else if i ≤ s then t (i - 1) else t i
theorem rot_cnt {p : Nat → Bool} {t : Nat → Nat} {s n : Nat} (hs : s < n) : ∀ d l, l + d = s → cnt p (rot t l s) n = cnt p t n := by
  intro d
  induction d with
  | zero =>
    intro l hl
    refine cnt_congr fun i hi => ?_
    unfold rot
    split
    · rfl
    · split
      · congr 1; omega
      · rw [if_neg (by omega)]
  | succ d ih =>
    intro l hl
    rw [← ih (l + 1) (by omega), ← cnt_sw (t := rot t (l + 1) s) (i := l) (j := l + 1) (by omega) (by omega)]
    refine cnt_congr fun i hi => ?_
    unfold swN rot
    by_cases c1 : i = l
    · subst c1
      simp only [Nat.lt_irrefl, ↓reduceIte]
    · by_cases c2 : i = l + 1
      · subst c2
        simp only [show ¬ (l + 1 < l) by omega, show ¬ (l + 1 = l) by omega, show l + 1 ≤ s by omega, show l < l + 1 by omega, ↓reduceIte, Nat.add_sub_cancel]
      · simp only [c1, c2, ↓reduceIte]
        by_cases c3 : i < l
        · simp only [c3, show i < l + 1 by omega, ↓reduceIte]
        · simp only [c3, show ¬ i < l + 1 by omega, ↓reduceIte]
theorem sgq.lt {c : Int32} {x y : Int} (h : sgq c x y) : (c < 0) = (x < y) := by
  obtain ⟨i, rfl, h1, h2, h3⟩ := h
  rw [show (0 : Int32) = z 0 from rfl, zlt h1.1 h1.2 (by omega) (by omega)]
  exact propext h2
theorem sgq.ge {c : Int32} {x y : Int} (h : sgq c x y) : (0 ≤ c) = (y ≤ x) := by
  obtain ⟨i, rfl, h1, h2, h3⟩ := h
  rw [show (0 : Int32) = z 0 from rfl, zle (by omega) (by omega) h1.1 h1.2]
  refine propext ⟨fun h => ?_, fun h => ?_⟩
  · rw [← Int.not_lt]; exact fun e => by have := h2.mpr e; omega
  · rw [← Int.not_lt]; exact fun e => by have := h2.mp e; omega
section
variable {P : PH} {b m q n : Nat} {K : Nat → Int} {X : Nat → Prop}
theorem sg_get {α : Type} {g : Nat → Option Nat} {t : Nat → Nat} (hm : m ≤ 100000) (hnm : n ≤ m) (ht : gt X g t n) {i : Nat} (hi : i < n) {F : Option Nat → Option α} : xaR (SG P b m g) b 4 (z i) F = F (some (t i)) := by
  rw [xaR_s SG.at (by omega) (by omega) hm, Int.toNat_natCast, (ht i hi).1]
theorem sg_set {α : Type} {g : Nat → Option Nat} (hS : SC P b m q K X) (hm : m ≤ 100000) {i x : Nat} (hi : i < m) (hx : X x) {F : PH → Option α} : xsR (SG P b m g) b 4 (z i) (some x) F = F (SG P b m (updR g i (some x))) := by
  rw [xsR_z SG.at hi hm (hS.2.1 g x hx).q]
  unfold SG
  rw [up_up]
theorem rev_z (hS : SC P b m q K X) (hm : m ≤ 100000) (hnm : n ≤ m) (hn' : n ≤ 31) {g : Nat → Option Nat} {t : Nat → Nat} (ht : gt X g t n) {r : Nat} (hr : r ≤ n) (hr1 : 1 ≤ r) : ∃ g', f_J25_reverseRange (SG P b m g) (some b) (z 0) (z r) = rV (SG P b m g') ∧ gt X g' (fun i => if i < r then t (r - 1 - i) else t i) n ∧ ∀ p, cnt p (fun i => if i < r then t (r - 1 - i) else t i) n = cnt p t n := by
  suffices hh : OK (f_J25_reverseRange (SG P b m g) (some b) (z 0) (z r)) (fun v P' => v = none ∧ ∃ g', P' = SG P b m g' ∧ gt X g' (fun i => if i < r then t (r - 1 - i) else t i) n ∧ ∀ p, cnt p (fun i => if i < r then t (r - 1 - i) else t i) n = cnt p t n) by
    obtain ⟨v, P', e, rfl, g', rfl, h1, h2⟩ := hh
    exact ⟨g', e, h1, h2⟩
  unfold f_J25_reverseRange
  rw [show z (r : Int) + (-1) = z ((r : Int) - 1) from by rw [show (-1 : Int32) = z (-1) from rfl, z_add]; rfl]
  show OK (lp f_J25_reverseRange_3F FU (some b, z 0, z ((r : Int) - 1), SG P b m g)) _
  refine ok_lpn (fun d p => ∃ (k : Nat) (g1 : Nat → Option Nat) (t1 : Nat → Nat), p = (some b, z k, z ((r : Int) - 1 - k), SG P b m g1) ∧ d = r - k ∧ 2 * k ≤ r ∧ gt X g1 t1 n ∧ (∀ i, t1 i = if i < r ∧ (i < k ∨ r - 1 - k < i) then t (r - 1 - i) else t i) ∧ ∀ p, cnt p t1 n = cnt p t n) ?_ FU _ _ ⟨0, g, t, by rw [show (r : Int) - 1 - ((0 : Nat) : Int) = (r : Int) - 1 by omega]; rfl, rfl, by omega, ht, fun i => by rw [if_neg (by omega)], fun _ => rfl⟩ (by simp only [FU]; omega)
  rintro kk d p ⟨k, g1, t1, rfl, rfl, h4, h5, h6, h7⟩ hk
  unfold f_J25_reverseRange_3F
  simp (disch := omega) only [zle, xnul_s]
  refine ok_ite (fun c1 => ?_) fun c1 => ?_
  · have e : ∀ i, i < n → t1 i = if i < r then t (r - 1 - i) else t i := fun i hi => by
      rw [h6]
      by_cases c2 : i < r
      · rw [if_pos c2]
        by_cases c3 : i < k ∨ r - 1 - k < i
        · rw [if_pos ⟨c2, c3⟩]
        · rw [if_neg (fun h => c3 h.2)]
          congr 1; omega
      · rw [if_neg (fun h => c2 h.1), if_neg c2]
    refine ok_rV.mpr ⟨rfl, g1, rfl, fun i hi => ?_, fun p => ?_⟩
    · show g1 i = some (if i < r then t (r - 1 - i) else t i) ∧ X (if i < r then t (r - 1 - i) else t i)
      rw [← e i hi]; exact h5 i hi
    · rw [← h7 p]; exact cnt_congr fun i hi => (e i hi).symm
  · have e1 : (r : Int) - 1 - k = ((r - 1 - k : Nat) : Int) := by omega
    rw [e1]
    rw [sg_get hm hnm h5 (by omega)]
    simp only [bnd]
    rw [sg_get hm hnm h5 (by omega), sg_set hS hm (by omega) (h5 _ (by omega)).2, sg_set hS hm (by omega) (h5 _ (by omega)).2, show (-1 : Int32) = z (-1) from rfl, z_add, l1, z_add]
    refine hk (r - (k + 1)) _ (by omega) ⟨k + 1, updR (updR g1 k (some (t1 (r - 1 - k)))) (r - 1 - k) (some (t1 k)), swN t1 k (r - 1 - k), ?_, rfl, by omega, fun i hi => ?_, fun i => ?_, fun p => ?_⟩
    · rw [show ((r - 1 - k : Nat) : Int) + -1 = (r : Int) - 1 - ((k + 1 : Nat) : Int) by omega]
      rfl
    · unfold updR swN
      by_cases d1 : i = r - 1 - k
      · rw [if_pos d1]
        by_cases d2 : i = k
        · exact absurd d2 (by omega)
        · rw [if_neg d2, if_pos d1]; exact ⟨rfl, (h5 _ (by omega)).2⟩
      · rw [if_neg d1]
        by_cases d2 : i = k
        · rw [if_pos d2, if_pos d2]; exact ⟨rfl, (h5 _ (by omega)).2⟩
        · rw [if_neg d2, if_neg d2, if_neg d1]; exact h5 i hi
    · unfold swN
      by_cases d2 : i = k
      · rw [if_pos d2, h6, if_neg (by omega), if_pos (by omega), d2]
      · rw [if_neg d2]
        by_cases d1 : i = r - 1 - k
        · rw [if_pos d1, h6, if_neg (by omega), if_pos (by omega)]
          congr 1; omega
        · rw [if_neg d1, h6]
          by_cases d3 : i < r ∧ (i < k ∨ r - 1 - k < i)
          · rw [if_pos d3, if_pos (by omega)]
          · rw [if_neg d3, if_neg (by omega)]
    · rw [cnt_sw (by omega) (by omega), h7]
theorem crun_z (hS : SC P b m q K X) (hm : m ≤ 100000) (hnm : n ≤ m) (hn : 2 ≤ n) (hn' : n ≤ 31) {g : Nat → Option Nat} {t : Nat → Nat} (ht : gt X g t n) : ∃ g' t' r, f_J25_countRunAndMakeAscending (SG P b m g) (some b) (z 0) (z n) (some q) = rI (z ((r : Nat) : Int)) (SG P b m g') ∧ gt X g' t' n ∧ (1 ≤ r ∧ r ≤ n) ∧ srtK K t' r ∧ ∀ p, cnt p t' n = cnt p t n := by
  suffices hh : OK (f_J25_countRunAndMakeAscending (SG P b m g) (some b) (z 0) (z n) (some q)) (fun v P' => ∃ (g' : Nat → Option Nat) (t' : Nat → Nat) (r : Nat), v = some (.int (z r)) ∧ P' = SG P b m g' ∧ gt X g' t' n ∧ (1 ≤ r ∧ r ≤ n) ∧ srtK K t' r ∧ ∀ p, cnt p t' n = cnt p t n) by
    obtain ⟨v, P', e, g', t', r, rfl, rfl, h1⟩ := hh
    exact ⟨g', t', r, e, h1⟩
  have hsw : ∀ (g : Nat → Option Nat) {α : Type} {F : Nat → Option α}, xsw (SG P b m g) q F = F 9 := fun g α F => by
    obtain ⟨w, fs, h⟩ := hS.1 g
    exact xsw_s h
  unfold f_J25_countRunAndMakeAscending f_J25_countRunAndMakeAscending_19
  rw [if_neg (by decide)]
  have n1 : ¬ (z 0 + 1 = z (n : Int)) := by
    rw [l1, z_add, zeq (by omega) (by omega) (by omega) (by omega)]; omega
  simp only [bnd]
  rw [if_neg n1, xnul_s, l1, z_add, show (0 : Int) + 1 = ((1 : Nat) : Int) from rfl, sg_get hm hnm ht (by omega), show z 0 = z ((0 : Nat) : Int) from rfl, sg_get hm hnm ht (by omega), xnul_s, hsw, if_pos rfl, z_add]
  obtain ⟨c, e, hc⟩ := hS.2.2 g (t 1) (t 0) (ht 1 (by omega)).2 (ht 0 (by omega)).2
  rw [e, xcI_rI]
  refine ok_ite (fun c1 => ?_) fun c1 => ?_
  · rw [hc.ge] at c1
    refine ok_lpn (fun d p => ∃ r : Nat, p = (some b, z 0, z n, some q, z r, SG P b m g) ∧ d = n - r ∧ (2 ≤ r ∧ r ≤ n) ∧ srtK K t r) ?_ FU _ _ ⟨2, rfl, rfl, by omega, fun i j h1 h2 => ?_⟩ (by simp only [FU]; omega)
    · rintro kk d p ⟨r, rfl, rfl, h4, h5⟩ hk
      unfold f_J25_countRunAndMakeAscending_92F f_J25_countRunAndMakeAscending_123
      simp (disch := omega) only [zle, xnul_s]
      have hend : OK (rI (z r - z 0) (SG P b m g)) (fun v P' => ∃ (g' : Nat → Option Nat) (t' : Nat → Nat) (r : Nat), v = some (.int (z r)) ∧ P' = SG P b m g' ∧ gt X g' t' n ∧ (1 ≤ r ∧ r ≤ n) ∧ srtK K t' r ∧ ∀ p, cnt p t' n = cnt p t n) := by
        rw [z_sub, Int.sub_zero]
        exact ok_rI.mpr ⟨g, t, r, rfl, rfl, ht, by omega, h5, fun _ => rfl⟩
      refine ok_ite (fun d1 => hend) fun d1 => ?_
      rw [sg_get hm hnm ht (by omega), l1, z_sub, show (r : Int) - 1 = ((r - 1 : Nat) : Int) by omega, sg_get hm hnm ht (by omega), hsw, if_pos rfl]
      obtain ⟨c', e', hc'⟩ := hS.2.2 g (t r) (t (r - 1)) (ht r (by omega)).2 (ht (r - 1) (by omega)).2
      rw [e', xcI_rI]
      refine ok_ite (fun d2 => hend) fun d2 => ?_
      rw [hc'.lt] at d2
      simp only [bnd]
      rw [z_add]
      refine hk (n - (r + 1)) _ (by omega) ⟨r + 1, rfl, rfl, by omega, fun i j h1 h2 => ?_⟩
      by_cases d3 : j < r
      · exact h5 i j h1 d3
      · have : j = r := by omega
        subst this
        by_cases d4 : i = j
        · rw [d4]; exact Int.le_refl _
        · have := h5 i (j - 1) (by omega) (by omega)
          omega
    · by_cases d3 : i = j
      · rw [d3]; exact Int.le_refl _
      · have h1 : i = 0 := by omega
        have h2 : j = 1 := by omega
        rw [h1, h2]
        exact c1
  · rw [hc.ge] at c1
    refine ok_lpn (fun d p => ∃ r : Nat, p = (some b, z 0, z n, some q, z r, SG P b m g) ∧ d = n - r ∧ (2 ≤ r ∧ r ≤ n) ∧ ∀ i j, i ≤ j → j < r → K (t j) ≤ K (t i)) ?_ FU _ _ ⟨2, rfl, rfl, by omega, fun i j h1 h2 => ?_⟩ (by simp only [FU]; omega)
    · rintro kk d p ⟨r, rfl, rfl, h4, h5⟩ hk
      unfold f_J25_countRunAndMakeAscending_51F f_J25_countRunAndMakeAscending_82 f_J25_countRunAndMakeAscending_123
      simp (disch := omega) only [zle, xnul_s]
      have hend : OK (xcV (f_J25_reverseRange (SG P b m g) (some b) (z 0) (z r)) fun p25 => rI (z r - z 0) p25) (fun v P' => ∃ (g' : Nat → Option Nat) (t' : Nat → Nat) (r : Nat), v = some (.int (z r)) ∧ P' = SG P b m g' ∧ gt X g' t' n ∧ (1 ≤ r ∧ r ≤ n) ∧ srtK K t' r ∧ ∀ p, cnt p t' n = cnt p t n) := by
        obtain ⟨g', e', h6, h7⟩ := rev_z hS hm hnm hn' ht (r := r) (by omega) (by omega)
        rw [e', xcV_rV, z_sub, Int.sub_zero]
        refine ok_rI.mpr ⟨g', _, r, rfl, rfl, h6, by omega, fun i j h1 h2 => ?_, h7⟩
        simp only [show i < r by omega, h2, ↓reduceIte]
        exact h5 _ _ (by omega) (by omega)
      refine ok_ite (fun d1 => hend) fun d1 => ?_
      rw [sg_get hm hnm ht (by omega), l1, z_sub, show (r : Int) - 1 = ((r - 1 : Nat) : Int) by omega, sg_get hm hnm ht (by omega), hsw, if_pos rfl]
      obtain ⟨c', e', hc'⟩ := hS.2.2 g (t r) (t (r - 1)) (ht r (by omega)).2 (ht (r - 1) (by omega)).2
      rw [e', xcI_rI]
      refine ok_ite (fun d2 => hend) fun d2 => ?_
      rw [hc'.ge] at d2
      simp only [bnd]
      rw [z_add]
      refine hk (n - (r + 1)) _ (by omega) ⟨r + 1, rfl, rfl, by omega, fun i j h1 h2 => ?_⟩
      by_cases d3 : j < r
      · exact h5 i j h1 d3
      · have : j = r := by omega
        subst this
        by_cases d4 : i = j
        · rw [d4]; exact Int.le_refl _
        · have := h5 i (j - 1) (by omega) (by omega)
          omega
    · by_cases d3 : i = j
      · rw [d3]; exact Int.le_refl _
      · have h1 : i = 0 := by omega
        have h2 : j = 1 := by omega
        rw [h1, h2]
        omega
theorem bshift_z {k32 : Option Nat × Int32 × Int32 × Int32 × Option Nat × PH → Option (xO × PH)} (hS : SC P b m q K X) (hm : m ≤ 100000) (hnm : n ≤ m) {g : Nat → Option Nat} {t : Nat → Nat} (ht : gt X g t n) {l s : Nat} (hl : l ≤ s) (hs : s < n) : ∃ g', f_J25_binarySort_138 k32 (some b) (z 0) (z n) (z s) (some q) (some (t s)) (z l) (SG P b m g) = k32 (some b, z 0, z n, z ((s + 1 : Nat) : Int), some q, SG P b m g') ∧ gt X g' (rot t l s) n := by
  have hgo : ∀ g1 : Nat → Option Nat, (∀ i, i < n → i ≠ l → g1 i = some (rot t l s i)) → ∃ g', f_J25_binarySort_210 k32 (some b) (z 0) (z n) (z s) (some q) (some (t s)) (z l) (SG P b m g1) = k32 (some b, z 0, z n, z ((s + 1 : Nat) : Int), some q, SG P b m g') ∧ gt X g' (rot t l s) n := fun g1 h1 => by
    refine ⟨updR g1 l (some (t s)), ?_, fun i hi => ?_⟩
    · unfold f_J25_binarySort_210
      rw [xnul_s, sg_set hS hm (by omega) (ht s hs).2]
      simp only [bnd]
      rw [l1, z_add]
      rfl
    · have hx : X (rot t l s i) := by
        unfold rot
        split
        · exact (ht _ (by omega)).2
        · split
          · exact (ht _ (by omega)).2
          · split
            · exact (ht _ (by omega)).2
            · exact (ht _ (by omega)).2
      refine ⟨?_, hx⟩
      unfold updR
      by_cases c : i = l
      · rw [if_pos c]
        unfold rot
        rw [if_neg (by omega), if_pos c]
      · rw [if_neg c]
        exact h1 i hi c
  have h184 : ∀ g1 : Nat → Option Nat, l + 1 ≤ s → (∀ i, i < n → i ≠ l → i ≠ l + 1 → g1 i = some (rot t l s i)) → g1 l = some (t l) → ∃ g', f_J25_binarySort_184 k32 (some b) (z 0) (z n) (z s) (some q) (some (t s)) (z l) (SG P b m g1) = k32 (some b, z 0, z n, z ((s + 1 : Nat) : Int), some q, SG P b m g') ∧ gt X g' (rot t l s) n := fun g1 h0 h1 h2 => by
    unfold f_J25_binarySort_184
    rw [xnul_s, xaR_s SG.at (by omega) (by omega) hm, Int.toNat_natCast, h2, l1, z_add, show (l : Int) + 1 = ((l + 1 : Nat) : Int) by omega, sg_set hS hm (by omega) (ht l (by omega)).2]
    refine hgo _ fun i hi hne => ?_
    unfold updR
    by_cases c : i = l + 1
    · rw [if_pos c]
      unfold rot
      rw [if_neg (by omega), if_neg (by omega), if_pos (by omega), c]
      rfl
    · rw [if_neg c]
      exact h1 i hi hne c
  unfold f_J25_binarySort_138
  simp only [bnd]
  rw [z_sub, show (s : Int) - l = ((s - l : Nat) : Int) by omega, l1, show (2 : Int32) = z 2 from rfl]
  simp (disch := omega) only [zeq, xnul_s]
  by_cases c1 : s - l = 1
  · rw [if_pos (by omega)]
    refine h184 g (by omega) (fun i hi d1 d2 => ?_) (ht l (by omega)).1
    rw [(ht i hi).1]
    unfold rot
    by_cases d3 : i < l
    · rw [if_pos d3]
    · rw [if_neg d3, if_neg d1, if_neg (by omega)]
  · rw [if_neg (by omega)]
    by_cases c2 : s - l = 2
    · rw [if_pos (by omega), z_add, z_add, show (l : Int) + 1 = ((l + 1 : Nat) : Int) by omega, show (l : Int) + 2 = ((l + 2 : Nat) : Int) by omega, sg_get hm hnm ht (by omega), sg_set hS hm (by omega) (ht (l + 1) (by omega)).2]
      refine h184 _ (by omega) (fun i hi d1 d2 => ?_) ?_
      · unfold updR
        by_cases d4 : i = l + 2
        · rw [if_pos d4]
          unfold rot
          rw [if_neg (by omega), if_neg (by omega), if_pos (by omega), d4]
          rfl
        · rw [if_neg d4, (ht i hi).1]
          unfold rot
          by_cases d3 : i < l
          · rw [if_pos d3]
          · rw [if_neg d3, if_neg d1, if_neg (by omega)]
      · unfold updR
        rw [if_neg (by omega), (ht l (by omega)).1]
    · rw [if_neg (by omega), z_add, show (l : Int) + 1 = ((l + 1 : Nat) : Int) by omega, xcpR_z (sp := l) (dp := l + 1) (n := s - l) SG.at SG.at (by omega) (by omega) hm hm (fun i hi => by rw [(ht (l + i) (by omega)).1]; exact (hS.2.1 g _ (ht (l + i) (by omega)).2).q), up_up]
      refine hgo _ fun i hi hne => ?_
      unfold va_cpy
      by_cases d1 : l + 1 ≤ i ∧ i < l + 1 + (s - l)
      · rw [if_pos d1, (ht _ (by omega)).1]
        unfold rot
        rw [if_neg (by omega), if_neg (by omega), if_pos (by omega)]
        congr 2; omega
      · rw [if_neg d1, (ht i hi).1]
        unfold rot
        by_cases d3 : i < l
        · rw [if_pos d3]
        · rw [if_neg d3, if_neg hne, if_neg (by omega)]
theorem rot_srt {t : Nat → Nat} {l s : Nat} (hl : l ≤ s) (h : srtK K t s) (h1 : ∀ i, i < l → K (t i) ≤ K (t s)) (h2 : ∀ i, l ≤ i → i < s → K (t s) ≤ K (t i)) : srtK K (rot t l s) (s + 1) := by
  intro i j hij hj
  unfold rot
  by_cases c1 : i < l
  · rw [if_pos c1]
    by_cases c2 : j < l
    · rw [if_pos c2]; exact h i j hij (by omega)
    · rw [if_neg c2]
      by_cases c3 : j = l
      · rw [if_pos c3]; exact h1 i c1
      · rw [if_neg c3, if_pos (by omega)]; exact h i (j - 1) (by omega) (by omega)
  · rw [if_neg c1, if_neg (show ¬ j < l by omega)]
    by_cases c3 : i = l
    · rw [if_pos c3]
      by_cases c4 : j = l
      · rw [if_pos c4]; exact Int.le_refl _
      · rw [if_neg c4, if_pos (by omega)]; exact h2 (j - 1) (by omega) (by omega)
    · rw [if_neg c3, if_pos (by omega), if_neg (show ¬ j = l by omega), if_pos (by omega)]
      exact h (i - 1) (j - 1) (by omega) (by omega)
theorem bsort_z (hS : SC P b m q K X) (hm : m ≤ 100000) (hnm : n ≤ m) (hn' : n ≤ 31) {g : Nat → Option Nat} {t : Nat → Nat} (ht : gt X g t n) {r : Nat} (hr : 1 ≤ r) (hr' : r ≤ n) (hsr : srtK K t r) : ∃ g' t', f_J25_binarySort (SG P b m g) (some b) (z 0) (z n) (z r) (some q) = rV (SG P b m g') ∧ gt X g' t' n ∧ srtK K t' n ∧ ∀ p, cnt p t' n = cnt p t n := by
  suffices hh : OK (f_J25_binarySort (SG P b m g) (some b) (z 0) (z n) (z r) (some q)) (fun v P' => v = none ∧ ∃ (g' : Nat → Option Nat) (t' : Nat → Nat), P' = SG P b m g' ∧ gt X g' t' n ∧ srtK K t' n ∧ ∀ p, cnt p t' n = cnt p t n) by
    obtain ⟨v, P', e, rfl, g', t', rfl, h1⟩ := hh
    exact ⟨g', t', e, h1⟩
  have hsw : ∀ (g : Nat → Option Nat) {α : Type} {F : Nat → Option α}, xsw (SG P b m g) q F = F 9 := fun g α F => by
    obtain ⟨w, fs, h⟩ := hS.1 g
    exact xsw_s h
  unfold f_J25_binarySort f_J25_binarySort_24
  rw [if_neg (by decide)]
  have hz : ¬ (z (r : Int) = z 0) := by
    rw [zeq (by omega) (by omega) (by omega) (by omega)]; omega
  rw [if_neg hz]
  refine ok_lpn (fun d p => ∃ (s : Nat) (g1 : Nat → Option Nat) (t1 : Nat → Nat), p = (some b, z 0, z n, z s, some q, SG P b m g1) ∧ d = n - s ∧ (1 ≤ s ∧ s ≤ n) ∧ gt X g1 t1 n ∧ srtK K t1 s ∧ ∀ p, cnt p t1 n = cnt p t n) ?_ FU _ _ ⟨r, g, t, rfl, rfl, ⟨hr, hr'⟩, ht, hsr, fun _ => rfl⟩ (by simp only [FU]; omega)
  rintro kk d p ⟨s, g1, t1, rfl, rfl, h4, h5, h6, h7⟩ hk
  unfold f_J25_binarySort_32F
  simp (disch := omega) only [zle, xnul_s]
  refine ok_ite (fun c1 => ?_) fun c1 => ?_
  · have : s = n := by omega
    subst this
    exact ok_rV.mpr ⟨rfl, g1, t1, rfl, h5, h6, h7⟩
  · rw [sg_get hm hnm h5 (by omega), if_neg (by decide)]
    refine ok_lpn (fun d p => ∃ (l e : Nat), p = (some b, z 0, z n, z s, some q, some (t1 s), z l, z e, SG P b m g1) ∧ d = e - l ∧ (l ≤ e ∧ e ≤ s) ∧ (∀ i, i < l → K (t1 i) ≤ K (t1 s)) ∧ ∀ i, e ≤ i → i < s → K (t1 s) ≤ K (t1 i)) ?_ FU _ _ ⟨0, s, rfl, rfl, by omega, fun i hi => absurd hi (Nat.not_lt_zero _), fun i h1 h2 => by omega⟩ (by simp only [FU]; omega)
    rintro kk2 d p ⟨l, e, rfl, rfl, g4, g5, g6⟩ hk2
    unfold f_J25_binarySort_69F f_J25_binarySort_114
    simp (disch := omega) only [zle, xnul_s]
    refine ok_ite (fun c2 => ?_) fun c2 => ?_
    · have : l = e := by omega
      subst this
      rw [if_neg (by decide)]
      obtain ⟨g', e', h8⟩ := bshift_z (k32 := kk) hS hm hnm h5 g4.2 (show s < n by omega)
      rw [e']
      exact hk (n - (s + 1)) _ (by omega) ⟨s + 1, g', _, rfl, rfl, by omega, h8, rot_srt g4.2 h6 g5 g6, fun p => by rw [rot_cnt (by omega) (s - l) l (by omega)]; exact h7 p⟩
    · have hmid : ((z (l : Int) + z e).toUInt32 >>> ((1 : Int32).toUInt32 &&& Int32.toUInt32 31)).toInt32 = z (((l + e) / 2 : Nat) : Int) := by
        rw [z_add, show (l : Int) + e = ((l + e : Nat) : Int) by omega]
        exact half_z (by omega)
      simp only [bnd]
      rw [hmid]
      generalize hq : (l + e) / 2 = k
      rw [sg_get hm hnm h5 (show k < n by omega), hsw, if_pos rfl]
      obtain ⟨c', e', hc'⟩ := hS.2.2 g1 (t1 s) (t1 k) (h5 s (by omega)).2 (h5 k (by omega)).2
      rw [e', xcI_rI]
      refine ok_ite (fun c3 => ?_) fun c3 => ?_
      · rw [hc'.ge] at c3
        rw [l1, z_add]
        refine hk2 (e - (k + 1)) _ (by omega) ⟨k + 1, e, rfl, rfl, by omega, fun i hi => ?_, g6⟩
        exact Int.le_trans (h6 i k (by omega) (by omega)) c3
      · rw [hc'.ge] at c3
        refine hk2 (k - l) _ (by omega) ⟨l, k, rfl, rfl, by omega, g5, fun i h1 h2 => ?_⟩
        have := h6 k i h1 h2
        omega
theorem sort_z (hS : SC P b m q K X) (hm : m ≤ 100000) (hnm : n ≤ m) (hn' : n ≤ 31) {g : Nat → Option Nat} {t : Nat → Nat} (ht : gt X g t n) : ∃ g' t', f_J17_sort (SG P b m g) (some b) (z 0) (z n) (some q) = rV (SG P b m g') ∧ gt X g' t' n ∧ srtK K t' n ∧ ∀ p, cnt p t' n = cnt p t n := by
  have e0 : f_J17_sort (SG P b m g) (some b) (z 0) (z n) (some q) = xcV (f_J25_sort (SG P b m g) (some b) (z 0) (z n) (some q) none 0 0) fun p5 => rV p5 := by
    unfold f_J17_sort f_J17_rangeCheck
    have a1 : z 0 ≤ z (n : Int) := by rw [zle (by omega) (by omega) (by omega) (by omega)]; omega
    have a2 : z (n : Int) ≤ z (m : Int) := by rw [zle (by omega) (by omega) (by omega) (by omega)]; omega
    rw [xnul_s, xnul_s, xlen_s SG.at (by omega), if_pos a1, if_pos (by decide), if_pos a2, xcV_rV, if_pos rfl]
  rw [e0]
  unfold f_J25_sort f_J25_sort_37
  rw [if_neg (by decide)]
  simp only [bnd]
  rw [l2, l32, z_sub, Int.sub_zero]
  simp (disch := omega) only [zle]
  by_cases c : 2 ≤ n
  · obtain ⟨g1, t1, r, e1, h1, h2, h3, h4⟩ := crun_z hS hm hnm c hn' ht
    obtain ⟨g2, t2, e2, k1, k2, k3⟩ := bsort_z hS hm hnm hn' h1 h2.1 h2.2 h3
    rw [if_pos (by omega), if_neg (by omega), e1, xcI_rI, z_add, Int.zero_add, e2, xcV_rV, xcV_rV]
    exact ⟨g2, t2, rfl, k1, k2, fun p => (k3 p).trans (h4 p)⟩
  · rw [if_neg (by omega), xcV_rV]
    refine ⟨g, t, rfl, ht, fun i j h1 h2 => ?_, fun _ => rfl⟩
    have : i = j := by omega
    rw [this]; exact Int.le_refl _
end
theorem cnt_range {p : Nat → Bool} {t : Nat → Nat} : ∀ {n}, ((List.range n).map t).countP p = cnt p t n := by
  intro n
  induction n with
  | zero => rfl
  | succ n ih =>
    rw [List.range_succ, List.map_append, List.countP_append, ih]
    show cnt p t n + _ = cnt p t n + (if p (t n) = true then 1 else 0)
    simp [List.countP_cons]
theorem cnt_list {p : Nat → Bool} {xs : List Nat} : cnt p (fun i => xs.getD i 0) xs.length = xs.countP p := by
  rw [← cnt_range]
  congr 1
  apply List.ext_getElem
  · simp
  · intro i h1 h2
    simp at h1
    simp [h1]
/-- a list in order -/
def srtL (K : Nat → Int) (xs : List Nat) : Prop := ∀ (i j : Nat) (x y : Nat), i ≤ j → xs[i]? = some x → xs[j]? = some y → K x ≤ K y
theorem PLs.sort {P : PH} (hI : Iv P) {a q : Nat} {xs : List Nat} {mc : Int32} {b m : Nat} {f : Nat → Option Nat} (h : LX P a mc b m f xs) {K : Nat → Int} {X : Nat → Prop} (hS : SC P b m q K X) (hX : ∀ x ∈ xs, X x) (hl : xs.length ≤ 31) : ∃ P' xs', f_J3_sort P a (some q) = rV P' ∧ PLs P' a xs' ∧ srtL K xs' ∧ (∀ p, xs'.countP p = xs.countP p) ∧ Fr P.2.1 (fun y => y = a) P P' ∧ wt P' = wt P := by
  have hab := h.ne
  obtain ⟨h1, h2, h3, h4, h5⟩ := id h
  have ht : gt X f (fun i => xs.getD i 0) xs.length := fun i hi => by
    have : xs.getD i 0 = xs[i] := by simp [hi]
    show f i = some (xs.getD i 0) ∧ X (xs.getD i 0)
    rw [h4 i hi, this]
    exact ⟨rfl, hX _ (List.getElem_mem hi)⟩
  obtain ⟨g', t', e, k1, k2, k3⟩ := sort_z hS (by omega) h3.1 hl ht
  rw [SG.self h2] at e
  have f1 : Fr P.2.1 (fun y => y = a) P (SG P b m g') := Fr.upa hI h2 fun _ => ⟨a, rfl, h.own⟩
  have h1' : (SG P b m g').1 a = some (true, oB 14 [.int mc, .ref b, .int (z xs.length)]) := (up_ne hab).trans h1
  have f2 : Fr P.2.1 (fun y => y = a) (SG P b m g') (xup (SG P b m g') a (oB 14 [.int (mc + 1), .ref b, .int (z xs.length)])) := Fr.upo f1.iv h1' rfl (fun b' hb' => Or.inl hb') fun _ => rfl
  refine ⟨xup (SG P b m g') a (oB 14 [.int (mc + 1), .ref b, .int (z xs.length)]), (List.range xs.length).map t', ?_, ⟨mc + 1, b, m, g', ?_, (up_ne (Ne.symm hab)).trans SG.at, ?_, ?_, ?_⟩, ?_, ?_, f1.trans f2, rfl⟩
  · unfold f_J3_sort
    rw [xcl1_s h1, xgI_s h1 rfl, xgR_s h1 rfl, xgI_s (k := 2) h1 rfl, show (0 : Int32) = z 0 from rfl, e, xcV_rV, xgI_s h1' rfl, if_pos rfl, xgI_s h1' rfl, xpF_z h1' (by simp)]
    rfl
  · rw [up_at]; simp
  · simpa using h3
  · intro i hi
    simp at hi
    rw [(k1 i hi).1]
    simp
  · intro x hx
    obtain ⟨i, hi, rfl⟩ := List.mem_map.mp hx
    exact (hS.2.1 g' _ (k1 i (List.mem_range.mp hi)).2).up h1' rfl
  · intro i j x y hij hx hy
    rw [List.getElem?_map] at hx hy
    have hj : j < xs.length := by
      rcases Nat.lt_or_ge j xs.length with c | c
      · exact c
      · rw [List.getElem?_eq_none (by simpa using c)] at hy; cases hy
    rw [List.getElem?_range (by omega)] at hx
    rw [List.getElem?_range hj] at hy
    cases hx
    cases hy
    exact k2 i j hij hj
  · intro p
    rw [cnt_range, k3 p, cnt_list]

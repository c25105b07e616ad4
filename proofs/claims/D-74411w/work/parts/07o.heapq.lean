/-! A QUEUE's ORDER, plainly -/
set_option maxRecDepth 100000
def cnt (p : Nat → Bool) (t : Nat → Nat) : Nat → Nat
  | 0 => 0
  | i + 1 => cnt p t i + (if p (t i) = true then 1 else 0)
def updN (t : Nat → Nat) (k x : Nat) : Nat → Nat := fun q => if q = k then x else t q
def swN (t : Nat → Nat) (i j : Nat) : Nat → Nat := fun q => if q = i then t j else if q = j then t i else t q
theorem cnt_congr {p : Nat → Bool} {t t' : Nat → Nat} : ∀ {n}, (∀ i, i < n → t i = t' i) → cnt p t n = cnt p t' n := by
  intro n
  induction n with
  | zero => exact fun _ => rfl
  | succ n ih => intro h; unfold cnt; rw [ih fun i hi => h i (by omega), h n (by omega)]
theorem cnt_upd {p : Nat → Bool} {t : Nat → Nat} {k x : Nat} : ∀ {n}, k < n → cnt p (updN t k x) n + (if p (t k) = true then 1 else 0) = cnt p t n + (if p x = true then 1 else 0) := by
  intro n
  induction n with
  | zero => exact fun h => absurd h (Nat.not_lt_zero _)
  | succ n ih =>
    intro h
    show cnt p (updN t k x) n + (if p (updN t k x n) = true then 1 else 0) + (if p (t k) = true then 1 else 0) = cnt p t n + (if p (t n) = true then 1 else 0) + (if p x = true then 1 else 0)
    by_cases hk : n = k
    · subst hk
      have e : cnt p (updN t n x) n = cnt p t n := cnt_congr fun i hi => if_neg (by omega)
      have e2 : updN t n x n = x := if_pos rfl
      rw [e, e2]
      omega
    · have e2 : updN t k x n = t n := if_neg hk
      have := ih (by omega)
      rw [e2]
      omega
theorem cnt_sw {p : Nat → Bool} {t : Nat → Nat} {i j n : Nat} (hi : i < n) (hj : j < n) : cnt p (swN t i j) n = cnt p t n := by
  by_cases h : i = j
  · subst h
    refine cnt_congr fun q _ => ?_
    unfold swN
    split
    · rename_i e; rw [e]
    · rfl
  · have e : swN t i j = updN (updN t i (t j)) j (t i) := by
      funext q
      unfold swN updN
      by_cases h1 : q = i
      · subst h1; rw [if_pos rfl, if_neg h, if_pos rfl]
      · rw [if_neg h1, if_neg h1]
    rw [e]
    have h1 := cnt_upd (p := p) (t := updN t i (t j)) (k := j) (x := t i) hj
    have h2 := cnt_upd (p := p) (t := t) (k := i) (x := t j) hi
    have h3 : updN t i (t j) j = t j := if_neg (Ne.symm h)
    rw [h3] at h1
    omega
def par (i : Nat) : Nat := (i - 1) / 2
section
variable {le : Nat → Nat → Prop}
/-- in order but for what lies at k, which may be too small -/
def HU (le : Nat → Nat → Prop) (t : Nat → Nat) (n k : Nat) : Prop := (∀ i, 1 ≤ i → i < n → i ≠ k → le (t (par i)) (t i)) ∧ ∀ i, 1 ≤ i → i < n → par i = k → 1 ≤ k → le (t (par k)) (t i)
/-- .. too large -/
def HD (le : Nat → Nat → Prop) (t : Nat → Nat) (n k : Nat) : Prop := (∀ i, 1 ≤ i → i < n → par i ≠ k → le (t (par i)) (t i)) ∧ ∀ i, 1 ≤ i → i < n → par i = k → 1 ≤ k → le (t (par k)) (t i)
def HP (le : Nat → Nat → Prop) (t : Nat → Nat) (n : Nat) : Prop := ∀ i, 1 ≤ i → i < n → le (t (par i)) (t i)
theorem HU.done {t : Nat → Nat} {n k : Nat} (h : HU le t n k) (hk : k = 0 ∨ le (t (par k)) (t k)) : HP le t n := by
  intro i h1 h2
  by_cases hik : i = k
  · subst hik
    rcases hk with hk | hk
    · omega
    · exact hk
  · exact h.1 i h1 h2 hik
theorem HU.step (tr : ∀ a b c, le a b → le b c → le a c) {t : Nat → Nat} {n k : Nat} (h : HU le t n k) (hk : 1 ≤ k) (hkn : k < n) (hlt : le (t k) (t (par k))) : HU le (swN t k (par k)) n (par k) := by
  have hp : par k < k := by unfold par; omega
  refine ⟨fun i h1 h2 h3 => ?_, fun i h1 h2 h3 h4 => ?_⟩
  · unfold swN
    by_cases hik : i = k
    · subst hik
      rw [if_pos rfl, if_neg (by omega), if_pos rfl]
      exact hlt
    · rw [if_neg hik, if_neg h3]
      by_cases hpk : par i = k
      · rw [if_pos hpk]
        exact h.2 i h1 h2 hpk hk
      · rw [if_neg hpk]
        by_cases hpp : par i = par k
        · rw [if_pos hpp]
          exact tr _ _ _ hlt (hpp ▸ h.1 i h1 h2 hik)
        · rw [if_neg hpp]
          exact h.1 i h1 h2 hik
  · have hpp : par (par k) < par k := by unfold par at h4 ⊢; omega
    unfold swN
    rw [if_neg (show par (par k) ≠ k by omega), if_neg (show par (par k) ≠ par k by omega)]
    have hg := h.1 (par k) h4 (by omega) (by omega)
    by_cases hik : i = k
    · rw [if_pos hik]; exact hg
    · have hip : i ≠ par k := fun e => by rw [e] at h3; omega
      rw [if_neg hik, if_neg hip]
      have := h.1 i h1 h2 hik
      rw [h3] at this
      exact tr _ _ _ hg this
theorem HD.done {t : Nat → Nat} {n k : Nat} (h : HD le t n k) (hk : ∀ i, 1 ≤ i → i < n → par i = k → le (t k) (t i)) : HP le t n := by
  intro i h1 h2
  by_cases hik : par i = k
  · rw [hik]; exact hk i h1 h2 hik
  · exact h.1 i h1 h2 hik
theorem HD.step {t : Nat → Nat} {n k j : Nat} (h : HD le t n k) (hj : 1 ≤ j) (hjn : j < n) (hjk : par j = k) (hmin : ∀ i, 1 ≤ i → i < n → par i = k → le (t j) (t i)) (hlt : le (t j) (t k)) : HD le (swN t k j) n j := by
  have hp : k < j := by rw [← hjk]; unfold par; omega
  refine ⟨fun i h1 h2 h3 => ?_, fun i h1 h2 h3 h4 => ?_⟩
  · unfold swN
    by_cases hik : i = k
    · subst hik
      have h5 : par i < i := by unfold par; omega
      rw [if_pos rfl, if_neg (by omega), if_neg (by omega)]
      exact h.2 j hj hjn hjk h1
    · rw [if_neg hik]
      by_cases hpk : par i = k
      · rw [if_pos hpk]
        by_cases hij : i = j
        · rw [if_pos hij]; exact hlt
        · rw [if_neg hij]; exact hmin i h1 h2 hpk
      · rw [if_neg hpk, if_neg h3]
        have hij : i ≠ j := fun e => hpk (e ▸ hjk)
        rw [if_neg hij]
        exact h.1 i h1 h2 hpk
  · have hij : i ≠ k := fun e => by rw [e] at h3; unfold par at h3; omega
    have hijj : i ≠ j := fun e => by rw [e] at h3; unfold par at h3; omega
    unfold swN
    rw [hjk, if_pos rfl, if_neg hij, if_neg hijj]
    have := h.1 i h1 h2 (by omega)
    rw [h3] at this
    exact this
theorem HP.min (tr : ∀ a b c, le a b → le b c → le a c) (tot : ∀ a b, le a b ∨ le b a) {t : Nat → Nat} {n : Nat} (h : HP le t n) : ∀ i, i < n → le (t 0) (t i) := by
  have : ∀ d i, i ≤ d → i < n → le (t 0) (t i) := by
    intro d
    induction d with
    | zero =>
      intro i h1 _
      rw [show i = 0 by omega]
      exact (tot _ _).elim id id
    | succ d ih =>
      intro i h1 h2
      by_cases h0 : i = 0
      · rw [h0]; exact (tot _ _).elim id id
      · have hp : par i < i := by unfold par; omega
        exact tr _ _ _ (ih (par i) (by omega) (by omega)) (h i (by omega) h2)
  exact fun i hi => this i i (Nat.le_refl _) hi
/-- a new last one -/
theorem HP.push {t : Nat → Nat} {n x : Nat} (h : HP le t n) : HU le (updN t n x) (n + 1) n := by
  refine ⟨fun i h1 h2 h3 => ?_, fun i h1 h2 h3 h4 => ?_⟩
  · have hp : par i < i := by unfold par; omega
    unfold updN
    rw [if_neg (by omega), if_neg h3]
    exact h i h1 (by omega)
  · have hp : par i < i := by unfold par; omega
    omega
/-- the last one in the first's place -/
theorem HP.pop {t : Nat → Nat} {n : Nat} (h : HP le t (n + 1)) : HD le (updN t 0 (t n)) n 0 := by
  refine ⟨fun i h1 h2 h3 => ?_, fun i h1 h2 h3 h4 => absurd h4 (by omega)⟩
  unfold updN
  rw [if_neg h3, if_neg (by omega)]
  exact h i h1 (by omega)
end

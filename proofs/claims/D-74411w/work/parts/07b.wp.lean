/-! WHAT A RESIDUAL COMPUTATION DOES: weakest preconditions, one law a combinator -/
set_option maxRecDepth 100000
def OK {σ : Type} (K : Option (xO × σ)) (Q : Option Value → σ → Prop) : Prop := ∃ v s, K = some (.inr v, s) ∧ Q v s
theorem OK.mono {σ : Type} {K : Option (xO × σ)} {Q Q' : Option Value → σ → Prop} (h : OK K Q) (hq : ∀ v s, Q v s → Q' v s) : OK K Q' := by
  obtain ⟨v, s, h1, h2⟩ := h
  exact ⟨v, s, h1, hq v s h2⟩
section
variable {σ : Type} {Q : Option Value → σ → Prop} {K K1 K2 Kc : Option (xO × σ)} {s : σ}
theorem ok_rI {x : Int32} : OK (rI x s) Q ↔ Q (some (.int x)) s := ⟨fun ⟨_, _, h, hq⟩ => by cases h; exact hq, fun h => ⟨_, _, rfl, h⟩⟩
theorem ok_rL {x : Int64} : OK (rL x s) Q ↔ Q (some (.long x)) s := ⟨fun ⟨_, _, h, hq⟩ => by cases h; exact hq, fun h => ⟨_, _, rfl, h⟩⟩
theorem ok_rR {x : Option Nat} : OK (rR x s) Q ↔ Q (some (va_rf x)) s := ⟨fun ⟨_, _, h, hq⟩ => by cases h; exact hq, fun h => ⟨_, _, rfl, h⟩⟩
theorem ok_rV : OK (rV s) Q ↔ Q none s := ⟨fun ⟨_, _, h, hq⟩ => by cases h; exact hq, fun h => ⟨_, _, rfl, h⟩⟩
theorem ok_ite {c : Prop} [Decidable c] (h1 : c → OK K1 Q) (h2 : ¬ c → OK K2 Q) : OK (if c then K1 else K2) Q := by
  split
  · exact h1 ‹_›
  · exact h2 ‹_›
theorem ok_pos {c : Prop} [Decidable c] (hc : c) (h1 : OK K1 Q) : OK (if c then K1 else K2) Q := by rw [if_pos hc]; exact h1
theorem ok_neg {c : Prop} [Decidable c] (hc : ¬ c) (h1 : OK K2 Q) : OK (if c then K1 else K2) Q := by rw [if_neg hc]; exact h1
theorem ok_bnd {α : Type} {x : α} {F : α → Option (xO × σ)} (h : ∀ y, y = x → OK (F y) Q) : OK (bnd x F) Q := h x rfl
theorem ok_cI {F : Int32 → σ → Option (xO × σ)} (h : OK Kc fun v s => ∃ x, v = some (.int x) ∧ OK (F x s) Q) : OK (xcI Kc F) Q := by
  obtain ⟨v, s, h1, x, rfl, h2⟩ := h
  rw [h1]
  exact h2
theorem ok_cV {F : σ → Option (xO × σ)} (h : OK Kc fun v s => v = none ∧ OK (F s) Q) : OK (xcV Kc F) Q := by
  obtain ⟨v, s, h1, rfl, h2⟩ := h
  rw [h1]
  exact h2
theorem ok_cR {F : Option Nat → σ → Option (xO × σ)} (h : OK Kc fun v s => ∃ x, v = some (va_rf x) ∧ OK (F x s) Q) : OK (xcR Kc F) Q := by
  obtain ⟨v, s, h1, x, rfl, h2⟩ := h
  rw [h1]
  cases x <;> exact h2
/-- loops: a measure below the fuel -/
theorem ok_lp {α : Type} {F : (α → Option (xO × σ)) → α → Option (xO × σ)} (M : α → Nat) (I : α → Prop) (h : ∀ k p, I p → (∀ p', I p' → M p' < M p → OK (k p') Q) → OK (F k p) Q) : ∀ (n : Nat) (p : α), I p → M p < n → OK (lp F n p) Q := by
  intro n
  induction n with
  | zero => exact fun p _ hm => absurd hm (Nat.not_lt_zero _)
  | succ n ih => exact fun p hp hm => h _ p hp fun p' hp' hm' => ih p' hp' (by omega)
end

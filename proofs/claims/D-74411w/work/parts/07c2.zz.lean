/-! INTS BY WHOLE NUMBERS: forms for simp with omega -/
theorem z_neg (a : Int) : -(z a) = z (-a) := by
  have := (Int32.ofInt_neg a)
  exact this.symm
theorem zlt {a b : Int} (h1 : -2147483648 ≤ a) (h2 : a < 2147483648) (h3 : -2147483648 ≤ b) (h4 : b < 2147483648) : (z a < z b) = (a < b) := propext (z_lt ⟨h1, h2⟩ ⟨h3, h4⟩)
theorem zle {a b : Int} (h1 : -2147483648 ≤ a) (h2 : a < 2147483648) (h3 : -2147483648 ≤ b) (h4 : b < 2147483648) : (z a ≤ z b) = (a ≤ b) := propext (z_le ⟨h1, h2⟩ ⟨h3, h4⟩)
theorem zeq {a b : Int} (h1 : -2147483648 ≤ a) (h2 : a < 2147483648) (h3 : -2147483648 ≤ b) (h4 : b < 2147483648) : (z a = z b) = (a = b) := propext (z_eq ⟨h1, h2⟩ ⟨h3, h4⟩)
theorem zix {a : Int} (h1 : -2147483648 ≤ a) (h2 : a < 2147483648) : (z a).toNatClampNeg = a.toNat := z_ix ⟨h1, h2⟩
theorem zint {a : Int} (h1 : -2147483648 ≤ a) (h2 : a < 2147483648) : (z a).toInt = a := z_toInt ⟨h1, h2⟩
theorem zne {a b : Int} : (z a ≠ z b) = ¬ (z a = z b) := rfl
theorem l0 : (0 : Int32) = z 0 := rfl
theorem l1 : (1 : Int32) = z 1 := rfl
theorem l2 : (2 : Int32) = z 2 := rfl
theorem l3 : (3 : Int32) = z 3 := rfl
theorem l4 : (4 : Int32) = z 4 := rfl
theorem l5 : (5 : Int32) = z 5 := rfl
theorem l6 : (6 : Int32) = z 6 := rfl
theorem l7 : (7 : Int32) = z 7 := rfl
theorem l8 : (8 : Int32) = z 8 := rfl
theorem l9 : (9 : Int32) = z 9 := rfl
theorem l10 : (10 : Int32) = z 10 := rfl
theorem l11 : (11 : Int32) = z 11 := rfl
theorem l12 : (12 : Int32) = z 12 := rfl
theorem l13 : (13 : Int32) = z 13 := rfl
theorem l14 : (14 : Int32) = z 14 := rfl
theorem l15 : (15 : Int32) = z 15 := rfl
theorem l16 : (16 : Int32) = z 16 := rfl
theorem l17 : (17 : Int32) = z 17 := rfl
theorem l18 : (18 : Int32) = z 18 := rfl
theorem l20 : (20 : Int32) = z 20 := rfl
theorem l24 : (24 : Int32) = z 24 := rfl
theorem l31 : (31 : Int32) = z 31 := rfl
theorem l32 : (32 : Int32) = z 32 := rfl
theorem l37 : (37 : Int32) = z 37 := rfl
theorem l40 : (40 : Int32) = z 40 := rfl
theorem l44 : (44 : Int32) = z 44 := rfl
theorem l47 : (47 : Int32) = z 47 := rfl
theorem l48 : (48 : Int32) = z 48 := rfl
theorem l57 : (57 : Int32) = z 57 := rfl
theorem l58 : (58 : Int32) = z 58 := rfl
theorem l59 : (59 : Int32) = z 59 := rfl
theorem l60 : (60 : Int32) = z 60 := rfl
theorem l67 : (67 : Int32) = z 67 := rfl
theorem l77 : (77 : Int32) = z 77 := rfl
theorem l97 : (97 : Int32) = z 97 := rfl
theorem l99 : (99 : Int32) = z 99 := rfl
theorem l100 : (100 : Int32) = z 100 := rfl
theorem l122 : (122 : Int32) = z 122 := rfl
theorem l237 : (237 : Int32) = z 237 := rfl
theorem l255 : (255 : Int32) = z 255 := rfl
theorem l397 : (397 : Int32) = z 397 := rfl
theorem l600 : (600 : Int32) = z 600 := rfl
theorem l880 : (880 : Int32) = z 880 := rfl
theorem l900 : (900 : Int32) = z 900 := rfl
theorem l9998 : (9998 : Int32) = z 9998 := rfl
theorem l9999 : (9999 : Int32) = z 9999 := rfl
theorem xcR_rR {σ β : Type} {x : Option Nat} {s : σ} {F : Option Nat → σ → Option β} : xcR (rR x s) F = F x s := by cases x <;> rfl
theorem xcL_rL {σ β : Type} {x : Int64} {s : σ} {F : Int64 → σ → Option β} : xcL (rL x s) F = F x s := rfl
/-- loops, by a measure that the invariant tells -/
theorem ok_lpn {σ α : Type} {Q : Option Value → σ → Prop} {F : (α → Option (xO × σ)) → α → Option (xO × σ)} (I : Nat → α → Prop) (h : ∀ k d p, I d p → (∀ d' p', d' < d → I d' p' → OK (k p') Q) → OK (F k p) Q) : ∀ (n d : Nat) (p : α), I d p → d < n → OK (lp F n p) Q := by
  intro n
  induction n with
  | zero => exact fun d p _ hm => absurd hm (Nat.not_lt_zero _)
  | succ n ih => exact fun d p hp hm => h _ d p hp fun d' p' hd hp' => ih d' p' hp' (by omega)

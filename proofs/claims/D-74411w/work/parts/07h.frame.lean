/-! WHAT A CALL LEAVES ALONE -/
set_option maxRecDepth 100000
/-- the field that holds an object's own array -/
def ownF (c : Nat) : Option Nat := if c = 3 then some 4 else if c = 13 then some 0 else if c = 14 then some 1 else if c = 22 then some 0 else none
def ownA (x : PC) : Option Nat := match x with
  | .inl _ => none
  | .inr (c, fs) => match ownF c with
    | none => none
    | some k => match fs[k]? with
      | some (.ref b) => some b
      | _ => none
def oArr (P : PH) (a b : Nat) : Prop := ∃ w x, P.1 a = some (w, x) ∧ ownA x = some b
def isOA (x : PC) : Prop := match x with
  | .inl (t, _, _) => t = 4 ∨ t = 5
  | .inr _ => False
/-- what was there at the start and is never written -/
def fal (P : PH) (a : Nat) : Option PC := match P.1 a with
  | some (false, x) => some x
  | _ => none
def slitC (j : Nat) : List Int32 := match j with
  | 10 => [99, 111, 117, 114, 115, 101]
  | 11 => [114, 117, 110, 110, 101, 114]
  | 12 => [103, 97, 112]
  | 13 => [115, 108, 97, 99, 107]
  | 14 => [59, 44, 58]
  | 15 => [32, 99, 111, 117, 114, 115, 101, 32, 114, 117, 110, 110, 101, 114, 32, 103, 97, 112, 32, 115, 108, 97, 99, 107, 32]
  | 16 => [32]
  | 17 => [99, 111, 117, 114, 115, 101]
  | 18 => [114, 117, 110, 110, 101, 114]
  | 19 => [103, 97, 112]
  | _ => [115, 108, 97, 99, 107]
/-- the constants: a class mirror, the cache of Integers, texts -/
def CC (F : Nat → Option PC) (con : Nat → Option Nat) : Prop := (∃ mi, con 8 = some mi) ∧ (∃ ca f, con 1 = some ca ∧ F ca = some (.inl (7, 256, .inr (.inr (.inr (.inr f))))) ∧ ∀ j, j < 256 → ∃ ia, f j = some ia ∧ F ia = some (.inr (18, [.int (z ((j : Int) - 128))]))) ∧ ∀ j, 10 ≤ j → j ≤ 20 → ∃ a b fs f, con j = some a ∧ F a = some (.inr (16, .ref b :: .int 0 :: fs)) ∧ F b = some (.inl (2, (slitC j).length, .inl f)) ∧ ∀ q, q < (slitC j).length → f q = (slitC j).getD q 0
/-- the comparator, which has no cell -/
def BT (P : PH) : Prop := ∃ b, P.2.2.2 0 = some b ∧ b < P.2.1 ∧ P.1 b = none
/-- nothing lies behind the next address; arrays have one owner; the constants are there -/
def Iv (P : PH) : Prop := (∀ a, P.2.1 ≤ a → P.1 a = none) ∧ (∀ a a' b, oArr P a b → oArr P a' b → a = a') ∧ (∀ a b, oArr P a b → b < P.2.1) ∧ CC (fal P) P.2.2.2 ∧ BT P
theorem BT.up {P : PH} (h : BT P) {a : Nat} {x c : PC} (hx : P.1 a = some (true, x)) : BT (xup P a c) := by
  obtain ⟨b, h1, h2, h3⟩ := h
  exact ⟨b, h1, h2, (if_neg (fun e => by rw [e, hx] at h3; cases h3)).trans h3⟩
theorem BT.push {P : PH} (h : BT P) {n : Nat} {c : PC} : BT (xpush P c n) := by
  obtain ⟨b, h1, h2, h3⟩ := h
  exact ⟨b, h1, Nat.lt_succ_of_lt h2, (if_neg (by omega)).trans h3⟩
theorem fal_up {P : PH} {a : Nat} {x c : PC} (hx : P.1 a = some (true, x)) : fal (xup P a c) = fal P := by
  funext b
  unfold fal xup
  by_cases h : b = a
  · subst h
    simp only [↓reduceIte, hx]
  · simp only [h, ↓reduceIte]
theorem fal_push {P : PH} (hI : P.1 P.2.1 = none) {n : Nat} {c : PC} : fal (xpush P c n) = fal P := by
  funext b
  unfold fal xpush
  by_cases h : b = P.2.1
  · subst h
    simp only [↓reduceIte, hI]
  · simp only [h, ↓reduceIte]
theorem fal_of {P : PH} {a : Nat} {x : PC} (h : fal P a = some x) : P.1 a = some (false, x) := by
  unfold fal at h
  split at h
  · rename_i y e
    cases h
    exact e
  · cases h
def wt (P : PH) : Nat := P.2.1 + P.2.2.1
def shp (x : PC) : (Nat × Nat) ⊕ (Nat × Nat) := match x with
  | .inl (t, n, _) => .inl (t, n)
  | .inr (c, fs) => .inr (c, fs.length)
/-- from P to P' of what lies ahead of n only W is written (and what W's objects own) -/
def Fr (n : Nat) (W : Nat → Prop) (P P' : PH) : Prop := Iv P' ∧ (P.2.1 ≤ P'.2.1 ∧ P.2.2.1 ≤ P'.2.2.1 ∧ P'.2.2.2 = P.2.2.2) ∧ (∀ a b, oArr P' a b → oArr P a b ∨ n ≤ b) ∧ (∀ a w x, P.1 a = some (w, x) → ∃ x', P'.1 a = some (w, x') ∧ shp x' = shp x) ∧ ∀ a w x, a < n → P.1 a = some (w, x) → ¬ W a → (isOA x → ∀ o, W o → ¬ oArr P o a) → P'.1 a = some (w, x)
def W0 : Nat → Prop := fun _ => False
theorem Iv.lt {P : PH} (h : Iv P) {a : Nat} {c : Bool × PC} (hc : P.1 a = some c) : a < P.2.1 := by
  by_cases h' : a < P.2.1
  · exact h'
  · have := h.1 a (by omega)
    rw [this] at hc
    cases hc
theorem Fr.rf {n : Nat} {W : Nat → Prop} {P : PH} (h : Iv P) : Fr n W P P := ⟨h, ⟨Nat.le_refl _, Nat.le_refl _, rfl⟩, fun _ _ h => Or.inl h, fun _ _ x h => ⟨x, h, rfl⟩, fun _ _ _ _ h _ _ => h⟩
theorem Fr.iv {n : Nat} {W : Nat → Prop} {P P' : PH} (h : Fr n W P P') : Iv P' := h.1
theorem Fr.trans {n : Nat} {W : Nat → Prop} {P P1 P2 : PH} (h : Fr n W P P1) (h' : Fr n W P1 P2) : Fr n W P P2 := by
  refine ⟨h'.1, ⟨Nat.le_trans h.2.1.1 h'.2.1.1, Nat.le_trans h.2.1.2.1 h'.2.1.2.1, h'.2.1.2.2.trans h.2.1.2.2⟩, fun a b hb => ?_, fun a w x hx => ?_, fun a w x ha hx h1 h2 => ?_⟩
  · rcases h'.2.2.1 a b hb with h3 | h3
    · exact h.2.2.1 a b h3
    · exact Or.inr h3
  · obtain ⟨x1, e1, s1⟩ := h.2.2.2.1 a w x hx
    obtain ⟨x2, e2, s2⟩ := h'.2.2.2.1 a w x1 e1
    exact ⟨x2, e2, s2.trans s1⟩
  · refine h'.2.2.2.2 a w x ha (h.2.2.2.2 a w x ha hx h1 h2) h1 fun hoa o ho hoo => ?_
    rcases h.2.2.1 o a hoo with h5 | h5
    · exact h2 hoa o ho h5
    · omega
/-- a callee's frame -/
theorem Fr.low {n n' : Nat} {W W' : Nat → Prop} {P P' : PH} (h : Fr n' W' P P') (hn : n ≤ n') (hw : ∀ a, W' a → W a ∨ n ≤ a) (hI : Iv P) (hnP : ∀ o b, n ≤ o → oArr P o b → n ≤ b) : Fr n W P P' := by
  refine ⟨h.1, h.2.1, fun a b hb => (h.2.2.1 a b hb).elim Or.inl fun h3 => Or.inr (Nat.le_trans hn h3), h.2.2.2.1, fun a w x ha hx h1 h2 => h.2.2.2.2 a w x (by omega) hx (fun h3 => ?_) fun hoa o ho hoo => ?_⟩
  · rcases hw a h3 with h4 | h4
    · exact h1 h4
    · omega
  · rcases hw o ho with h4 | h4
    · exact h2 hoa o h4 hoo
    · have := hnP o a h4 hoo
      omega
theorem Fr.mono {n : Nat} {W W' : Nat → Prop} {P P' : PH} (h : Fr n W P P') (hw : ∀ a, W a → W' a) : Fr n W' P P' := ⟨h.1, h.2.1, h.2.2.1, h.2.2.2.1, fun a w x ha hx h1 h2 => h.2.2.2.2 a w x ha hx (fun e => h1 (hw a e)) fun hoa o ho => h2 hoa o (hw o ho)⟩
section
variable {n : Nat} {W : Nat → Prop} {P P' : PH}
/-- an object that isn't written stays -/
theorem Fr.ob (h : Fr n W P P') {a c : Nat} {w : Bool} {fs : List Value} (ha : a < n) (hc : P.1 a = some (w, .inr (c, fs))) (hw : ¬ W a) : P'.1 a = some (w, .inr (c, fs)) := h.2.2.2.2 a w _ ha hc hw fun h => h.elim
/-- .. an array of ints -/
theorem Fr.ar (h : Fr n W P P') {a t m : Nat} {w : Bool} {f : _} (ha : a < n) (hc : P.1 a = some (w, .inl (t, m, f))) (ht : t ≠ 4 ∧ t ≠ 5) (hw : ¬ W a) : P'.1 a = some (w, .inl (t, m, f)) := h.2.2.2.2 a w _ ha hc hw fun h => absurd h (by simp [isOA, ht.1, ht.2])
/-- .. the own array of one that isn't written -/
theorem Fr.oa (hI : Iv P) (h : Fr n W P P') {o a t m : Nat} {w : Bool} {f : _} (ha : a < n) (hc : P.1 a = some (w, .inl (t, m, f))) (ho : oArr P o a) (hw : ¬ W a) (hw' : ¬ W o) : P'.1 a = some (w, .inl (t, m, f)) := h.2.2.2.2 a w _ ha hc hw fun _ o' ho' hoo => hw' (hI.2.1 o o' a ho hoo ▸ ho')
theorem Fr.cls (h : Fr n W P P') {a c : Nat} {w : Bool} {fs : List Value} (hc : P.1 a = some (w, .inr (c, fs))) : ∃ fs', P'.1 a = some (w, .inr (c, fs')) := by
  obtain ⟨x', e, s⟩ := h.2.2.2.1 a w _ hc
  cases x' with
  | inl x => simp [shp] at s
  | inr y =>
    obtain ⟨c', fs'⟩ := y
    simp [shp] at s
    rw [s.1] at e
    exact ⟨fs', e⟩
theorem Fr.next (h : Fr n W P P') : P.2.1 ≤ P'.2.1 := h.2.1.1
theorem Fr.con (h : Fr n W P P') : P'.2.2.2 = P.2.2.2 := h.2.1.2.2
end
/-! steps -/
theorem oArr_up {P : PH} {a : Nat} {c : PC} {o b : Nat} : oArr (xup P a c) o b ↔ (o = a ∧ ownA c = some b) ∨ (o ≠ a ∧ oArr P o b) := by
  unfold oArr xup
  by_cases h : o = a
  · subst h
    simp only [↓reduceIte, Option.some.injEq, Prod.mk.injEq, true_and, ne_eq, not_true_eq_false, false_and, or_false]
    exact ⟨fun ⟨w, x, e, h2⟩ => e.2 ▸ h2, fun h2 => ⟨true, c, ⟨rfl, rfl⟩, h2⟩⟩
  · simp only [h, ↓reduceIte, false_and, ne_eq, not_false_eq_true, true_and, false_or]
theorem oArr_push {P : PH} {n : Nat} {c : PC} {o b : Nat} : oArr (xpush P c n) o b ↔ (o = P.2.1 ∧ ownA c = some b) ∨ (o ≠ P.2.1 ∧ oArr P o b) := by
  unfold oArr xpush
  by_cases h : o = P.2.1
  · subst h
    simp only [↓reduceIte, Option.some.injEq, Prod.mk.injEq, true_and, ne_eq, not_true_eq_false, false_and, or_false]
    exact ⟨fun ⟨w, x, e, h2⟩ => e.2 ▸ h2, fun h2 => ⟨true, c, ⟨rfl, rfl⟩, h2⟩⟩
  · simp only [h, ↓reduceIte, false_and, ne_eq, not_false_eq_true, true_and, false_or]
/-- a cell is written: it owns what it owned, or a free array -/
theorem Iv.up {P : PH} (hI : Iv P) {a : Nat} {x c : PC} (hx : P.1 a = some (true, x)) (ho : ∀ b, ownA c = some b → ownA x = some b ∨ (b < P.2.1 ∧ ∀ o, ¬ oArr P o b)) : Iv (xup P a c) := by
  refine ⟨fun b hb => ?_, fun o o' b h1 h2 => ?_, fun o b h => ?_, (fal_up hx).symm ▸ hI.2.2.2.1, hI.2.2.2.2.up hx⟩
  · show (if b = a then some (true, c) else P.1 b) = none
    have := hI.lt hx
    have hb : P.2.1 ≤ b := hb
    rw [if_neg (by omega)]
    exact hI.1 b hb
  · rw [oArr_up] at h1 h2
    rcases h1 with ⟨h1, h1'⟩ | ⟨h1, h1'⟩ <;> rcases h2 with ⟨h2, h2'⟩ | ⟨h2, h2'⟩
    · rw [h1, h2]
    · rcases ho b h1' with h3 | h3
      · rw [h1]; exact hI.2.1 _ _ _ ⟨true, x, hx, h3⟩ h2'
      · exact absurd h2' (h3.2 _)
    · rcases ho b h2' with h3 | h3
      · rw [h2]; exact hI.2.1 _ _ _ h1' ⟨true, x, hx, h3⟩
      · exact absurd h1' (h3.2 _)
    · exact hI.2.1 _ _ _ h1' h2'
  · show b < P.2.1
    rw [oArr_up] at h
    rcases h with ⟨h1, h1'⟩ | ⟨h1, h1'⟩
    · rcases ho b h1' with h3 | h3
      · exact hI.2.2.1 _ _ ⟨true, x, hx, h3⟩
      · exact h3.1
    · exact hI.2.2.1 _ _ h1'
theorem Iv.push {P : PH} (hI : Iv P) {c : PC} {n : Nat} (ho : ownA c = none) : Iv (xpush P c n) := by
  refine ⟨fun b hb => ?_, fun o o' b h1 h2 => ?_, fun o b h => ?_, (fal_push (hI.1 _ (Nat.le_refl _))).symm ▸ hI.2.2.2.1, hI.2.2.2.2.push⟩
  · show (if b = P.2.1 then some (true, c) else P.1 b) = none
    have hb : P.2.1 + 1 ≤ b := hb
    rw [if_neg (by omega)]
    exact hI.1 b (by omega)
  · rw [oArr_push, ho] at h1 h2
    rcases h1 with ⟨_, h1⟩ | ⟨_, h1⟩
    · cases h1
    rcases h2 with ⟨_, h2⟩ | ⟨_, h2⟩
    · cases h2
    exact hI.2.1 _ _ _ h1 h2
  · show b < P.2.1 + 1
    rw [oArr_push, ho] at h
    rcases h with ⟨_, h⟩ | ⟨_, h⟩
    · cases h
    have := hI.2.2.1 _ _ h
    omega

theorem Fr.up {n : Nat} {W : Nat → Prop} {P : PH} (hI : Iv P) {a : Nat} {x c : PC} (hx : P.1 a = some (true, x)) (hs : shp c = shp x) (ho : ∀ b, ownA c = some b → ownA x = some b ∨ (n ≤ b ∧ b < P.2.1 ∧ ∀ o, ¬ oArr P o b)) (hW : a < n → W a ∨ (isOA x ∧ ∃ o, W o ∧ oArr P o a)) : Fr n W P (xup P a c) := by
  refine ⟨hI.up hx (fun b hb => (ho b hb).elim Or.inl fun h => Or.inr h.2), ⟨Nat.le_refl _, Nat.le_refl _, rfl⟩, fun o b hb => ?_, fun q w y hy => ?_, fun q w y hq hy h1 h2 => ?_⟩
  · rw [oArr_up] at hb
    rcases hb with ⟨h1, h2⟩ | ⟨_, h2⟩
    · rcases ho b h2 with h3 | h3
      · rw [h1]; exact Or.inl ⟨true, x, hx, h3⟩
      · exact Or.inr h3.1
    · exact Or.inl h2
  · show ∃ x', (if q = a then some (true, c) else P.1 q) = some (w, x') ∧ shp x' = shp y
    by_cases h : q = a
    · subst h
      rw [hx] at hy
      cases hy
      exact ⟨c, if_pos rfl, hs⟩
    · rw [if_neg h]
      exact ⟨y, hy, rfl⟩
  · show (if q = a then some (true, c) else P.1 q) = some (w, y)
    by_cases h : q = a
    · subst h
      rw [hx] at hy
      cases hy
      rcases hW hq with h3 | ⟨h3, o, h4, h5⟩
      · exact absurd h3 h1
      · exact absurd h5 (h2 h3 o h4)
    · rw [if_neg h]
      exact hy
theorem Fr.push {n : Nat} {W : Nat → Prop} {P : PH} (hI : Iv P) {c : PC} {m : Nat} (ho : ownA c = none) : Fr n W P (xpush P c m) := by
  have hne : ∀ q y, P.1 q = some y → q ≠ P.2.1 := fun q y hy e => by have := hI.lt hy; omega
  refine ⟨hI.push ho, ⟨Nat.le_succ _, Nat.le_add_right _ _, rfl⟩, fun o b hb => ?_, fun q w y hy => ?_, fun q w y hq hy h1 h2 => ?_⟩
  · rw [oArr_push, ho] at hb
    rcases hb with ⟨_, h1⟩ | ⟨_, h1⟩
    · cases h1
    · exact Or.inl h1
  · exact ⟨y, (if_neg (hne q _ hy)).trans hy, rfl⟩
  · exact (if_neg (hne q _ hy)).trans hy
theorem up_at {P : PH} {a : Nat} {c : PC} : (xup P a c).1 a = some (true, c) := if_pos rfl
theorem up_ne {P : PH} {a b : Nat} {c : PC} (h : b ≠ a) : (xup P a c).1 b = P.1 b := if_neg h
theorem push_at {P : PH} {c : PC} {m : Nat} : (xpush P c m).1 P.2.1 = some (true, c) := if_pos rfl
theorem push_ne {P : PH} {b m : Nat} {c : PC} (h : b ≠ P.2.1) : (xpush P c m).1 b = P.1 b := if_neg h
theorem push_old {P : PH} (hI : Iv P) {b m : Nat} {c : PC} {x : Bool × PC} (h : P.1 b = some x) : (xpush P c m).1 b = some x := (push_ne (by have := hI.lt h; omega)).trans h
theorem wt_up {P : PH} {a : Nat} {c : PC} : wt (xup P a c) = wt P := rfl
theorem wt_push {P : PH} {c : PC} {m : Nat} : wt (xpush P c m) = wt P + 1 + m := by unfold wt xpush; simp only; omega
/-- no owner is known of what's new -/
theorem oArr_lt {P : PH} (hI : Iv P) {o b : Nat} (h : oArr P o b) : o < P.2.1 ∧ b < P.2.1 := by
  obtain ⟨w, x, e, _⟩ := id h
  exact ⟨hI.lt e, hI.2.2.1 _ _ h⟩

/-- owners that are new own what's new -/
theorem Fr.hn {P0 P1 : PH} {W : Nat → Prop} (hI : Iv P0) (h : Fr P0.2.1 W P0 P1) : ∀ o b, P0.2.1 ≤ o → oArr P1 o b → P0.2.1 ≤ b := by
  intro o b ho hb
  rcases h.2.2.1 o b hb with h1 | h1
  · have := oArr_lt hI h1
    omega
  · exact h1
/-- .. and then a callee -/
theorem Fr.call {P0 P1 P2 : PH} {W W' : Nat → Prop} (hI : Iv P0) (h : Fr P0.2.1 W P0 P1) (h' : Fr P1.2.1 W' P1 P2) (hw : ∀ a, W' a → W a ∨ P0.2.1 ≤ a) : Fr P0.2.1 W P0 P2 :=
  h.trans (h'.low h.next hw h.iv (h.hn hI))

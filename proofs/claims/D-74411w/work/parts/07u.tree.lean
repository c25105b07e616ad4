/-! TREES WITH PARENTS, plainly: no colours -/
set_option maxRecDepth 100000
def updO (f : Nat → Option Nat) (a : Nat) (x : Option Nat) : Nat → Option Nat := fun q => if q = a then x else f q
def updZ (f : Nat → Int) (a : Nat) (x : Int) : Nat → Int := fun q => if q = a then x else f q
/-- links, root, keys, the open interval of each subtree -/
def TI (S : Nat → Prop) (K : Nat → Int) (L R Pa : Nat → Option Nat) (root : Option Nat) (lo hi : Nat → Int) (A B : Int) : Prop :=
  (∀ r, root = some r → S r ∧ Pa r = none ∧ lo r = A ∧ hi r = B) ∧
  (root = none → ∀ e, ¬ S e) ∧
  (∀ e, S e → lo e < K e ∧ K e < hi e) ∧
  (∀ e l, S e → L e = some l → S l ∧ Pa l = some e ∧ lo l = lo e ∧ hi l = K e) ∧
  (∀ e r, S e → R e = some r → S r ∧ Pa r = some e ∧ lo r = K e ∧ hi r = hi e) ∧
  (∀ e s, S e → L e = none → S s → ¬ (lo e < K s ∧ K s < K e)) ∧
  (∀ e s, S e → R e = none → S s → ¬ (K e < K s ∧ K s < hi e)) ∧
  (∀ e, S e → Pa e = none → root = some e) ∧
  (∀ e q, S e → Pa e = some q → S q ∧ (L q = some e ∨ R q = some e)) ∧
  (∀ s t, S s → S t → K s = K t → s = t) ∧
  (∀ e s, S e → S s → L e = none → R s = none → ¬ (lo e < hi s ∧ K s < K e))
/-- p's right child r comes up -/
def rlL (L Pa : Nat → Option Nat) (p r : Nat) : Nat → Option Nat := updO (match Pa p with
  | none => L
  | some q => if L q = some p then updO L q (some r) else L) r (some p)
def rlR (L R Pa : Nat → Option Nat) (p r : Nat) : Nat → Option Nat := match Pa p with
  | none => updO R p (L r)
  | some q => if L q = some p then updO R p (L r) else updO (updO R p (L r)) q (some r)
def rlP (L Pa : Nat → Option Nat) (p r : Nat) : Nat → Option Nat := match L r with
  | none => updO (updO Pa r (Pa p)) p (some r)
  | some m => updO (updO (updO Pa m (some p)) r (Pa p)) p (some r)
def rlT (Pa : Nat → Option Nat) (root : Option Nat) (p r : Nat) : Option Nat := match Pa p with
  | none => some r
  | some _ => root
theorem TI.rl {S : Nat → Prop} {K : Nat → Int} {L R Pa : Nat → Option Nat} {root : Option Nat} {lo hi : Nat → Int} {A B : Int} (h : TI S K L R Pa root lo hi A B) {p r : Nat} (hp : S p) (hr : R p = some r) : TI S K (rlL L Pa p r) (rlR L R Pa p r) (rlP L Pa p r) (rlT Pa root p r) (updZ lo r (lo p)) (updZ hi p (K r)) A B := by
  obtain ⟨h1, h2, h3, h4, h5, h6, h7, h8, h9, h10, h11⟩ := h
  have hrr := h5 p r hp hr
  have hk1 := h3 p hp
  have hk2 := h3 r hrr.1
  have hpr : p ≠ r := fun e => by rw [e] at hrr; rw [← e] at hrr; omega
  have hPp : Pa p ≠ some p := fun e => by
    rcases (h9 p p hp e).2 with g | g
    · have := (h4 p p hp g).2.2.2; omega
    · have := (h5 p p hp g).2.2.1; omega
  have hPr : Pa p ≠ some r := fun e => by
    rcases (h9 p r hp e).2 with g | g
    · have := (h4 r p hrr.1 g).2.2; omega
    · have := (h5 r p hrr.1 g).2.2; omega
  have hLr1 : L r ≠ some p := fun e => by have := (h4 r p hrr.1 e).2.2; omega
  have hLr2 : L r ≠ some r := fun e => by have := (h4 r r hrr.1 e).2.2; omega
  unfold TI rlL rlR rlP rlT
  cases hPa : Pa p with
  | none =>
    have g8 := h8 p hp hPa
    cases hLr : L r with
    | none => simp only [updO, updZ]; refine ⟨?_, ?_, ?_, ?_, ?_, ?_, ?_, ?_, ?_, h10, ?_⟩ <;> grind
    | some m =>
      have g4 := h4 r m hrr.1 hLr
      simp only [updO, updZ]; refine ⟨?_, ?_, ?_, ?_, ?_, ?_, ?_, ?_, ?_, h10, ?_⟩ <;> grind
  | some q =>
    have g9 := h9 p q hp hPa
    by_cases hq : L q = some p
    · have g4' := h4 q p g9.1 hq
      simp only [hq, ↓reduceIte]
      cases hLr : L r with
      | none => simp only [updO, updZ]; refine ⟨?_, ?_, ?_, ?_, ?_, ?_, ?_, ?_, ?_, h10, ?_⟩ <;> grind
      | some m =>
        have g4 := h4 r m hrr.1 hLr
        simp only [updO, updZ]; refine ⟨?_, ?_, ?_, ?_, ?_, ?_, ?_, ?_, ?_, h10, ?_⟩ <;> grind
    · have g5' := h5 q p g9.1 (g9.2.resolve_left hq)
      simp only [hq, ↓reduceIte]
      cases hLr : L r with
      | none => simp only [updO, updZ]; refine ⟨?_, ?_, ?_, ?_, ?_, ?_, ?_, ?_, ?_, h10, ?_⟩ <;> grind
      | some m =>
        have g4 := h4 r m hrr.1 hLr
        simp only [updO, updZ]; refine ⟨?_, ?_, ?_, ?_, ?_, ?_, ?_, ?_, ?_, h10, ?_⟩ <;> grind
theorem TI.mir {S : Nat → Prop} {K : Nat → Int} {L R Pa : Nat → Option Nat} {root : Option Nat} {lo hi : Nat → Int} {A B : Int} (h : TI S K L R Pa root lo hi A B) : TI S (fun e => -K e) R L Pa root (fun e => -hi e) (fun e => -lo e) (-B) (-A) := by
  obtain ⟨h1, h2, h3, h4, h5, h6, h7, h8, h9, h10, h11⟩ := h
  refine ⟨fun r hr => ?_, h2, fun e he => ?_, fun e l he hl => ?_, fun e l he hl => ?_, fun e s he hl hs => ?_, fun e s he hl hs => ?_, h8, fun e q he hq => ?_, fun s t hs ht e => h10 s t hs ht (by have e : -K s = -K t := e; omega), fun e s he hs hl hr => ?_⟩
  · have := h1 r hr
    exact ⟨this.1, this.2.1, congrArg (fun x => -x) this.2.2.2, congrArg (fun x => -x) this.2.2.1⟩
  · have := h3 e he
    show -hi e < -K e ∧ -K e < -lo e
    omega
  · have := h5 e l he hl
    exact ⟨this.1, this.2.1, congrArg (fun x => -x) this.2.2.2, congrArg (fun x => -x) this.2.2.1⟩
  · have := h4 e l he hl
    exact ⟨this.1, this.2.1, congrArg (fun x => -x) this.2.2.2, congrArg (fun x => -x) this.2.2.1⟩
  · have := h7 e s he hl hs
    show ¬ (-hi e < -K s ∧ -K s < -K e)
    omega
  · have := h6 e s he hl hs
    show ¬ (-K e < -K s ∧ -K s < -lo e)
    omega
  · have := h9 e q he hq
    exact ⟨this.1, this.2.symm⟩
  · have := h11 s e hs he hr hl
    show ¬ (-hi e < -lo s ∧ -K s < -K e)
    omega
theorem neg_neg_f {K : Nat → Int} : (fun e => - (fun e => -K e) e) = K := by funext e; simp
/-- p's left child l comes up -/
theorem TI.rr {S : Nat → Prop} {K : Nat → Int} {L R Pa : Nat → Option Nat} {root : Option Nat} {lo hi : Nat → Int} {A B : Int} (h : TI S K L R Pa root lo hi A B) {p l : Nat} (hp : S p) (hl : L p = some l) : TI S K (rlR R L Pa p l) (rlL R Pa p l) (rlP R Pa p l) (rlT Pa root p l) (updZ lo p (K l)) (updZ hi l (hi p)) A B := by
  have h2 := (h.mir.rl hp hl).mir
  have e1 : (fun e => -(updZ (fun e => -lo e) p (-K l)) e) = updZ lo p (K l) := by
    funext e; unfold updZ; split <;> simp
  have e2 : (fun e => -(updZ (fun e => -hi e) l (-hi p)) e) = updZ hi l (hi p) := by
    funext e; unfold updZ; split <;> simp
  rw [neg_neg_f, e1, e2, Int.neg_neg, Int.neg_neg] at h2
  exact h2

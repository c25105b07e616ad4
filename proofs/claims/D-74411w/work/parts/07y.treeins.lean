/-! A KEY MORE, A KEY LESS -/
set_option maxRecDepth 100000
section
variable {S : Nat → Prop} {K : Nat → Int} {L R Pa : Nat → Option Nat} {root : Option Nat} {lo hi : Nat → Int} {A B : Int}
theorem TI.insL (h : TI S K L R Pa root lo hi A B) {e b : Nat} {x : Int} (he : S e) (hl : L e = none) (hb : ¬ S b) (h1 : lo e < x) (h2 : x < K e) : TI (fun a => S a ∨ a = b) (updZ K b x) (updO (updO L b none) e (some b)) (updO R b none) (updO Pa b (some e)) root (updZ lo b (lo e)) (updZ hi b (K e)) A B := by
  obtain ⟨g1, g2, g3, g4, g5, g6, g7, g8, g9, g10, g11⟩ := h
  have hbe : e ≠ b := fun h => hb (h ▸ he)
  have k6 : ∀ s, S s → ¬ (lo e < K s ∧ K s < K e) := fun s hs => g6 e s he hl hs
  simp only [TI, updO, updZ]
  refine ⟨?_, ?_, ?_, ?_, ?_, ?_, ?_, ?_, ?_, ?_, ?_⟩ <;> grind
theorem TI.insR (h : TI S K L R Pa root lo hi A B) {e b : Nat} {x : Int} (he : S e) (hl : R e = none) (hb : ¬ S b) (h1 : K e < x) (h2 : x < hi e) : TI (fun a => S a ∨ a = b) (updZ K b x) (updO L b none) (updO (updO R b none) e (some b)) (updO Pa b (some e)) root (updZ lo b (K e)) (updZ hi b (hi e)) A B := by
  have h3 := (h.mir.insL (e := e) (b := b) (x := -x) he hl hb (by omega) (by omega)).mir
  have e1 : (fun q => -(updZ (fun e => -lo e) b (-K e)) q) = updZ lo b (K e) := by
    funext q; unfold updZ; split <;> simp
  have e2 : (fun q => -(updZ (fun e => -hi e) b (-hi e)) q) = updZ hi b (hi e) := by
    funext q; unfold updZ; split <;> simp
  have e3 : (fun q => -(updZ (fun e => -K e) b (-x)) q) = updZ K b x := by
    funext q; unfold updZ; split <;> simp
  rw [e3, e1, e2, Int.neg_neg, Int.neg_neg] at h3
  exact h3
theorem TI.one {b : Nat} {x : Int} (h1 : A < x) (h2 : x < B) : TI (fun a => a = b) (fun _ => x) (fun _ => none) (fun _ => none) (fun _ => none) (some b) (fun _ => A) (fun _ => B) A B := by
  refine ⟨?_, ?_, ?_, ?_, ?_, ?_, ?_, ?_, ?_, ?_, ?_⟩ <;> grind
end

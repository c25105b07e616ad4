/-! AFTER AN ENTRY IS PUT IN -/
set_option maxRecDepth 100000
section
variable {n0 m : Nat} {P : PH} {cmp : Value × Value} {root : Option Nat} {sz : Int32} {S : Nat → Prop} {kk vv L R Pa : Nat → Option Nat} {C : Nat → Int32}
theorem TZ.par (h : TZ P m cmp root sz S kk vv L R Pa C) {e : Nat} (he : S e) : f_J5_parentOf P (some e) = rR (Pa e) P := by
  unfold f_J5_parentOf
  rw [xnul_s, h.gPa he]
theorem TZ.lef (h : TZ P m cmp root sz S kk vv L R Pa C) {e : Nat} (he : S e) : f_J5_leftOf P (some e) = rR (L e) P := by
  unfold f_J5_leftOf
  rw [xnul_s, h.gL he]
theorem TZ.rig (h : TZ P m cmp root sz S kk vv L R Pa C) {e : Nat} (he : S e) : f_J5_rightOf P (some e) = rR (R e) P := by
  unfold f_J5_rightOf
  rw [xnul_s, h.gR he]
theorem col_nar {x : Int32} (h : x = z 0 ∨ x = z 1) : vp_nar .boolean x = x := by
  rcases h with h | h <;> rw [h] <;> rfl
theorem TZ.clr (h : TZ P m cmp root sz S kk vv L R Pa C) {e : Nat} (he : S e) : f_J5_colorOf P (some e) = rI (C e) P := by
  unfold f_J5_colorOf
  rw [xnul_s, h.gC he, if_pos (col_nar (h.col he))]
theorem clr_n : f_J5_colorOf P none = rI (z 1) P := by
  unfold f_J5_colorOf
  rw [xnul_n]
  exact if_pos nar_z1
theorem TZ.set (h : TZ P m cmp root sz S kk vv L R Pa C) (hI : Iv P) {e : Nat} (he : S e) {x : Int32} (hx : x = z 0 ∨ x = z 1) : ∃ P', f_J5_setColor P (some e) x = rV P' ∧ TZ P' m cmp root sz S kk vv L R Pa (updI C e x) ∧ TStep n0 m S P P' := by
  obtain ⟨P', w, t, s⟩ := h.wC (n0 := n0) hI he x hx
  refine ⟨P', ?_, t, s⟩
  unfold f_J5_setColor
  rw [xnul_s, if_pos (col_nar hx), w]
end
/-- how many keys lie in an interval -/
def icnt (es : List Nat) (K : Nat → Int) (a b : Int) : Nat := (es.filter (fun e => decide (a < K e ∧ K e < b))).length
theorem icnt_le (es : List Nat) (K : Nat → Int) (a b : Int) : icnt es K a b ≤ es.length := List.length_filter_le _ _
theorem icnt_mono {es : List Nat} {K : Nat → Int} {a b a' b' : Int} (h1 : a' ≤ a) (h2 : b ≤ b') : icnt es K a b ≤ icnt es K a' b' := by
  unfold icnt
  induction es with
  | nil => exact Nat.le_refl _
  | cons e es ih =>
    rw [List.filter_cons, List.filter_cons]
    by_cases c : a < K e ∧ K e < b
    · rw [if_pos (by simpa using c), if_pos (by simp; omega)]
      simp only [List.length_cons]
      omega
    · rw [if_neg (by simpa using c)]
      split
      · simp only [List.length_cons]; omega
      · exact ih
theorem icnt_lt {es : List Nat} {K : Nat → Int} {a b a' b' : Int} {e : Nat} (he : e ∈ es) (h1 : a' ≤ a) (h2 : b ≤ b') (h3 : a' < K e ∧ K e < b') (h4 : ¬ (a < K e ∧ K e < b)) : icnt es K a b < icnt es K a' b' := by
  induction es with
  | nil => cases he
  | cons f es ih =>
    unfold icnt
    rw [List.filter_cons, List.filter_cons]
    rcases List.mem_cons.mp he with hh | hh
    · subst hh
      rw [if_neg (by simpa using h4), if_pos (by simpa using h3)]
      have := icnt_mono (es := es) (K := K) h1 h2
      unfold icnt at this
      simp only [List.length_cons]
      omega
    · have := ih hh
      unfold icnt at this
      by_cases c : a < K f ∧ K f < b
      · rw [if_pos (by simpa using c), if_pos (by simp; omega)]
        simp only [List.length_cons]
        omega
      · rw [if_neg (by simpa using c)]
        split
        · simp only [List.length_cons]; omega
        · exact this
theorem rlP_p {L Pa : Nat → Option Nat} {p r : Nat} : rlP L Pa p r p = some r := by
  unfold rlP
  cases L r <;> exact if_pos rfl
theorem rlP_r {L Pa : Nat → Option Nat} {p r : Nat} (h : r ≠ p) : rlP L Pa p r r = Pa p := by
  unfold rlP
  cases L r <;> exact (if_neg h).trans (if_pos rfl)
theorem rlP_o {L Pa : Nat → Option Nat} {p r x : Nat} (h1 : x ≠ p) (h2 : x ≠ r) (h3 : L r ≠ some x) : rlP L Pa p r x = Pa x := by
  unfold rlP
  cases hl : L r with
  | none => exact (if_neg h1).trans (if_neg h2)
  | some m => exact (if_neg h1).trans ((if_neg h2).trans (if_neg (fun e => h3 (by rw [hl, e]))))
theorem rlT_s {Pa : Nat → Option Nat} {root : Option Nat} {p r q : Nat} (h : Pa p = some q) : rlT Pa root p r = root := by unfold rlT; rw [h]
theorem rlT_n {Pa : Nat → Option Nat} {root : Option Nat} {p r : Nat} (h : Pa p = none) : rlT Pa root p r = some r := by unfold rlT; rw [h]
theorem rlL_q {L Pa : Nat → Option Nat} {p r q : Nat} (h : Pa p = some q) (hl : L q = some p) (hne : q ≠ r) : rlL L Pa p r q = some r := by
  unfold rlL
  rw [h]
  simp only [hl, ↓reduceIte]
  exact (if_neg hne).trans (if_pos rfl)
theorem rlR_q {L R Pa : Nat → Option Nat} {p r q : Nat} (h : Pa p = some q) (hl : L q ≠ some p) : rlR L R Pa p r q = some r := by
  unfold rlR
  rw [h]
  simp only [hl, ↓reduceIte]
  exact if_pos rfl
theorem rlR_p {L R Pa : Nat → Option Nat} {p r : Nat} (h : ∀ q, Pa p = some q → q ≠ p) : rlR L R Pa p r p = L r := by
  unfold rlR
  cases hq : Pa p with
  | none => exact if_pos rfl
  | some q =>
    simp only
    split
    · exact if_pos rfl
    · exact (if_neg (h q hq).symm).trans (if_pos rfl)
theorem rlL_r {L Pa : Nat → Option Nat} {p r : Nat} : rlL L Pa p r r = some p := if_pos rfl
section
variable {S : Nat → Prop} {K : Nat → Int} {L R Pa : Nat → Option Nat} {root : Option Nat} {lo hi : Nat → Int} {A B : Int}
theorem TI.pS (h : TI S K L R Pa root lo hi A B) {e q : Nat} (he : S e) (hq : Pa e = some q) : S q ∧ (L q = some e ∨ R q = some e) := h.2.2.2.2.2.2.2.2.1 e q he hq
theorem TI.lS (h : TI S K L R Pa root lo hi A B) {e l : Nat} (he : S e) (hl : L e = some l) : S l ∧ Pa l = some e ∧ lo l = lo e ∧ hi l = K e := h.2.2.2.1 e l he hl
theorem TI.rS (h : TI S K L R Pa root lo hi A B) {e l : Nat} (he : S e) (hl : R e = some l) : S l ∧ Pa l = some e ∧ lo l = K e ∧ hi l = hi e := h.2.2.2.2.1 e l he hl
theorem TI.key (h : TI S K L R Pa root lo hi A B) {e : Nat} (he : S e) : lo e < K e ∧ K e < hi e := h.2.2.1 e he
theorem TI.rt (h : TI S K L R Pa root lo hi A B) {e : Nat} (he : S e) (hp : Pa e = none) : root = some e := h.2.2.2.2.2.2.2.1 e he hp
theorem TI.rtS (h : TI S K L R Pa root lo hi A B) {r : Nat} (hr : root = some r) : S r ∧ Pa r = none ∧ lo r = A ∧ hi r = B := h.1 r hr
/-- a parent is another -/
theorem TI.pne (h : TI S K L R Pa root lo hi A B) {e q : Nat} (he : S e) (hq : Pa e = some q) : q ≠ e ∧ L e ≠ some q ∧ R e ≠ some q := by
  have hk := h.key he
  obtain ⟨h1, h2⟩ := h.pS he hq
  have hkq := h.key h1
  refine ⟨fun e1 => ?_, fun e1 => ?_, fun e1 => ?_⟩
  · subst e1
    rcases h2 with h2 | h2
    · have := (h.lS h1 h2).2.2; omega
    · have := (h.rS h1 h2).2.2; omega
  · have g := (h.lS he e1).2.2
    rcases h2 with h2 | h2
    · have := (h.lS h1 h2).2.2; omega
    · have := (h.rS h1 h2).2.2; omega
  · have g := (h.rS he e1).2.2
    rcases h2 with h2 | h2
    · have := (h.lS h1 h2).2.2; omega
    · have := (h.rS h1 h2).2.2; omega
theorem TI.lr (h : TI S K L R Pa root lo hi A B) {e x : Nat} (he : S e) (hl : L e = some x) : R e ≠ some x := fun hr => by
  have h1 := h.lS he hl
  have h2 := h.rS he hr
  have h3 := h.key he
  have h4 := h.key h1.1
  omega
end
/-- a tree in the heap -/
def TT (P : PH) (m : Nat) (cmp : Value × Value) (root : Option Nat) (sz : Int32) (S : Nat → Prop) (K : Nat → Int) (kk vv L R Pa : Nat → Option Nat) (C : Nat → Int32) (lo hi : Nat → Int) (A B : Int) : Prop := TZ P m cmp root sz S kk vv L R Pa C ∧ TI S K L R Pa root lo hi A B
section
variable {n0 m : Nat} {P : PH} {cmp : Value × Value} {root : Option Nat} {sz : Int32} {S : Nat → Prop} {K : Nat → Int} {kk vv L R Pa : Nat → Option Nat} {C : Nat → Int32} {lo hi : Nat → Int} {A B : Int}

theorem TT.rotateLeft (h : TT P m cmp root sz S K kk vv L R Pa C lo hi A B) (hI : Iv P) {p c : Nat} (hp : S p) (hc : R p = some c) : ∃ P', f_J5_rotateLeft P m (some p) = rV P' ∧ TT P' m cmp (rlT Pa root p c) sz S K kk vv (rlL L Pa p c) (rlR L R Pa p c) (rlP L Pa p c) C (updZ lo c (lo p)) (updZ hi p (K c)) A B ∧ TStep n0 m S P P' := by
  have hcS := h.2.rS hp hc
  have hk := h.2.key hp
  have hkc := h.2.key hcS.1
  obtain ⟨P', e, t, s⟩ := rotateLeft_z (n0 := n0) h.1 hI hp hc hcS.1 (fun x hx => ⟨(h.2.lS hcS.1 hx).1, fun e => by have := (h.2.lS hcS.1 hx).2.2; rw [e] at this; omega⟩) (fun q hq => ⟨(h.2.pS hp hq).1, (h.2.pne hp hq).1, fun e => by rw [e] at hq; exact absurd hc ((h.2.pne hp hq).2.2)⟩)
  exact ⟨P', e, ⟨t, h.2.rl hp hc⟩, s⟩

theorem TT.rotateRight (h : TT P m cmp root sz S K kk vv L R Pa C lo hi A B) (hI : Iv P) {p c : Nat} (hp : S p) (hc : L p = some c) : ∃ P', f_J5_rotateRight P m (some p) = rV P' ∧ TT P' m cmp (rlT Pa root p c) sz S K kk vv (rlR R L Pa p c) (rlL R Pa p c) (rlP R Pa p c) C (updZ lo p (K c)) (updZ hi c (hi p)) A B ∧ TStep n0 m S P P' := by
  have hcS := h.2.lS hp hc
  have hk := h.2.key hp
  have hkc := h.2.key hcS.1
  obtain ⟨P', e, t, s⟩ := rotateRight_z (n0 := n0) h.1 hI hp hc hcS.1 (fun x hx => ⟨(h.2.rS hcS.1 hx).1, fun e => by have := (h.2.rS hcS.1 hx).2.2; rw [e] at this; omega⟩) (fun q hq => ⟨(h.2.pS hp hq).1, (h.2.pne hp hq).1, fun e => by rw [e] at hq; exact absurd hc ((h.2.pne hp hq).2.1)⟩)
  exact ⟨P', e, ⟨t, h.2.rr hp hc⟩, s⟩
end

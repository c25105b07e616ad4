/-! WHO IS RANKED: what is asked of it -/
set_option maxRecDepth 100000
theorem sumS_one {f : Nat → Int} {o : Nat} : ∀ {n : Nat}, (∀ i, i < n → 0 ≤ f i) → o < n → f o ≤ sumS f n := by
  intro n
  induction n with
  | zero => exact fun _ h => absurd h (Nat.not_lt_zero _)
  | succ n ih =>
    intro h ho
    have h2 := h n (by omega)
    show f o ≤ sumS f n + f n
    by_cases c : o = n
    · subst c
      have : 0 ≤ sumS f o := by
        have := fun i hi => h i (Nat.lt_succ_of_lt hi)
        clear ih h h2 ho
        induction o with
        | zero => exact Int.le_refl _
        | succ o ih => have h1 := ih fun i hi => this i (by omega); have h2 := this o (by omega); show 0 ≤ sumS f o + f o; omega
      omega
    · have := ih (fun i hi => h i (by omega)) (by omega)
      omega
theorem sumS_congr {f f' : Nat → Int} : ∀ {n : Nat}, (∀ i, i < n → f i = f' i) → sumS f n = sumS f' n := by
  intro n
  induction n with
  | zero => exact fun _ => rfl
  | succ n ih => intro h; rw [sumS, sumS, ih fun i hi => h i (by omega), h n (by omega)]
theorem sumS_0 {f : Nat → Int} : ∀ {n : Nat}, (∀ i, i < n → f i = 0) → sumS f n = 0 := by
  intro n
  induction n with
  | zero => exact fun _ => rfl
  | succ n ih => intro h; rw [sumS, ih fun i hi => h i (by omega), h n (by omega)]; rfl
theorem sumS_add {f f' : Nat → Int} : ∀ {n : Nat}, sumS (fun i => f i + f' i) n = sumS f n + sumS f' n := by
  intro n
  induction n with
  | zero => rfl
  | succ n ih => rw [sumS, sumS, sumS, ih]; omega
theorem sumS_only {f : Nat → Int} {o : Nat} : ∀ {n : Nat}, o < n → (∀ i, i < n → i ≠ o → f i = 0) → sumS f n = f o := by
  intro n
  induction n with
  | zero => exact fun h => absurd h (Nat.not_lt_zero _)
  | succ n ih =>
    intro ho h
    rw [sumS]
    by_cases c : o = n
    · subst c
      rw [sumS_0 fun i hi => h i (by omega) (by omega), Int.zero_add]
    · rw [ih (by omega) fun i hi hne => h i (by omega) hne, h n (by omega) (by omega), Int.add_zero]
theorem b2_pos {p : Prop} [Decidable p] : 0 ≤ b2 p := by unfold b2; split <;> decide
theorem b2_le {p : Prop} [Decidable p] : b2 p ≤ 1 := by unfold b2; split <;> decide
theorem countP_hi {α : Type} {p : α → Bool} {xs : List α} {j : Nat} (h : ∀ i x, j ≤ i → xs[i]? = some x → p x = false) : xs.countP p ≤ j := by
  have e := List.take_append_drop j xs
  have : xs.countP p = (xs.take j).countP p + (xs.drop j).countP p := by rw [← List.countP_append, e]
  have h2 : (xs.drop j).countP p = 0 := by
    rw [List.countP_eq_zero]
    intro x hx hp
    obtain ⟨i, hi⟩ := List.mem_iff_getElem?.mp hx
    rw [List.getElem?_drop] at hi
    rw [h _ x (Nat.le_add_right j i) hi] at hp
    cases hp
  have h3 : (xs.take j).countP p ≤ (xs.take j).length := List.countP_le_length
  have h4 : (xs.take j).length ≤ j := by rw [List.length_take]; omega
  omega
theorem countP_lo {α : Type} {p : α → Bool} {xs : List α} {j : Nat} (hj : j < xs.length) (h : ∀ i x, i ≤ j → xs[i]? = some x → p x = true) : j + 1 ≤ xs.countP p := by
  have e := List.take_append_drop (j + 1) xs
  have : xs.countP p = (xs.take (j + 1)).countP p + (xs.drop (j + 1)).countP p := by rw [← List.countP_append, e]
  have h2 : (xs.take (j + 1)).countP p = (xs.take (j + 1)).length := by
    rw [List.countP_eq_length]
    intro x hx
    obtain ⟨i, hi⟩ := List.mem_iff_getElem?.mp hx
    rw [List.getElem?_take] at hi
    split at hi
    · exact h i x (by omega) hi
    · cases hi
  have h4 : (xs.take (j + 1)).length = j + 1 := by rw [List.length_take]; omega
  omega
theorem countP_take {α : Type} {p : α → Bool} {xs : List α} {i : Nat} (hi : i < xs.length) : (xs.take (i + 1)).countP p = (xs.take i).countP p + (if p xs[i] = true then 1 else 0) := by
  rw [List.take_succ, List.countP_append, List.getElem?_eq_getElem hi]
  simp [List.countP_cons]
section
variable {P : PH} {R : Nat → Int} {c : Int} {xs : List Nat} {V : Nat → Int}
theorem RK.mem (h : RK P R c xs V) {o : Int} (ho : 0 ≤ o) (ho' : o < R 1) (hc : rCrs R o = c) (hv : rVal R o) : ∃ x ∈ xs, V x = o := by
  have h1 := h.2.2 fun v => decide (v = o)
  have h2 := sumS_one (f := fun q : Nat => b2 ((rCrs R q = c ∧ rVal R q) ∧ decide ((q : Int) = o) = true)) (o := o.toNat) (n := (R 1).toNat) (fun _ _ => b2_pos) (by omega)
  have e : ((o.toNat : Nat) : Int) = o := by omega
  simp only [e] at h2
  rw [b2_t' ⟨⟨hc, hv⟩, by simp⟩] at h2
  have h3 : 0 < xs.countP fun x => decide (V x = o) := by omega
  obtain ⟨x, hx, hp⟩ := List.countP_pos_iff.mp h3
  exact ⟨x, hx, of_decide_eq_true hp⟩
/-- a rank -/
def ahd (R : Nat → Int) (c a : Int) : Int := sumS (fun o => b2 ((rCrs R o = c ∧ rVal R o) ∧ tky R o < tky R a)) (R 1).toNat
theorem RK.at (hV : RV R) (h : RK P R c xs V) {j x : Nat} (hx : xs[j]? = some x) : ahd R c (V x) = j := by
  have hnr := hV.nR
  have hj : j < xs.length := (List.getElem?_eq_some_iff.mp hx).1
  have hm : x ∈ xs := List.mem_of_getElem? hx
  obtain ⟨-, hr, hc, hv⟩ := h.1 x hm
  have h1 : xs.countP (fun y => decide (tky R (V y) < tky R (V x))) ≤ j := countP_hi fun i y hi hy => by
    have := h.2.1 j i x y hi hx hy
    simpa using this
  have h2 : j + 1 ≤ xs.countP (fun y => decide (tky R (V y) ≤ tky R (V x))) := countP_lo hj fun i y hi hy => by
    have := h.2.1 i j y x hi hy hx
    simpa using this
  have k1 := h.2.2 fun v => decide (tky R v < tky R (V x))
  have k2 := h.2.2 fun v => decide (tky R v ≤ tky R (V x))
  have k3 : sumS (fun o : Nat => b2 ((rCrs R o = c ∧ rVal R o) ∧ decide (tky R o ≤ tky R (V x)) = true)) (R 1).toNat = sumS (fun o : Nat => b2 ((rCrs R o = c ∧ rVal R o) ∧ decide (tky R o < tky R (V x)) = true)) (R 1).toNat + sumS (fun o : Nat => b2 ((o : Int) = V x)) (R 1).toNat := by
    rw [← sumS_add]
    refine sumS_congr fun o ho => ?_
    have hk : tky R o = tky R (V x) ↔ (o : Int) = V x := by
      constructor
      · intro e
        unfold tky at e
        omega
      · intro e; rw [e]
    by_cases d1 : (o : Int) = V x
    · rw [d1, b2_t' (p := V x = V x) rfl, b2_t' (p := (rCrs R (V x) = c ∧ rVal R (V x)) ∧ _) ⟨⟨hc, hv⟩, by simp⟩, b2_f' (fun e => by have := of_decide_eq_true e.2; omega)]
      rfl
    · have hk' : tky R o ≠ tky R (V x) := fun e => d1 (hk.mp e)
      rw [b2_f' d1, Int.add_zero]
      refine b2_c ⟨fun e => ⟨e.1, ?_⟩, fun e => ⟨e.1, ?_⟩⟩
      · have := of_decide_eq_true e.2
        exact decide_eq_true (by omega)
      · have := of_decide_eq_true e.2
        exact decide_eq_true (by omega)
  have k4 : sumS (fun o : Nat => b2 ((o : Int) = V x)) (R 1).toNat = 1 := by
    rw [sumS_only (o := (V x).toNat) (by omega) fun i hi hne => b2_f' (by omega)]
    exact b2_t' (by omega)
  have k5 : ahd R c (V x) = sumS (fun o : Nat => b2 ((rCrs R o = c ∧ rVal R o) ∧ decide (tky R o < tky R (V x)) = true)) (R 1).toNat := by
    unfold ahd
    refine sumS_congr fun o _ => b2_c ⟨fun e => ⟨e.1, decide_eq_true e.2⟩, fun e => ⟨e.1, of_decide_eq_true e.2⟩⟩
  omega
/-- who has so many ahead -/
def rkF (R : Nat → Int) (c i : Int) : Nat → Nat → Int
  | 0, _ => -2
  | d + 1, a => if (rCrs R a = c ∧ rVal R a) ∧ ahd R c a = i then a else rkF R c i d (a + 1)
theorem rkF_no {i : Int} : ∀ d a : Nat, (∀ o : Nat, a ≤ o → o < a + d → ¬ ((rCrs R o = c ∧ rVal R o) ∧ ahd R c o = i)) → rkF R c i d a = -2 := by
  intro d
  induction d with
  | zero => exact fun _ _ => rfl
  | succ d ih =>
    intro a h
    rw [rkF, if_neg (h a (Nat.le_refl _) (by omega))]
    exact ih (a + 1) fun o h1 h2 => h o (by omega) (by omega)
theorem rkF_yes {i : Int} {v : Nat} (hv : (rCrs R v = c ∧ rVal R v) ∧ ahd R c v = i) : ∀ d a : Nat, a ≤ v → v < a + d → (∀ o : Nat, a ≤ o → o < a + d → (rCrs R o = c ∧ rVal R o) ∧ ahd R c o = i → o = v) → rkF R c i d a = v := by
  intro d
  induction d with
  | zero => intro a h1 h2; omega
  | succ d ih =>
    intro a h1 h2 h
    rw [rkF]
    split
    · rename_i hh
      rw [h a (Nat.le_refl _) (by omega) hh]
    · rename_i hh
      refine ih (a + 1) ?_ (by omega) fun o h3 h4 => h o (by omega) (by omega)
      rcases Nat.eq_or_lt_of_le h1 with e | e
      · subst e; exact absurd hv hh
      · exact e
def vRank (R : Nat → Int) (c i : Int) : Int := rkF R c i (R 1).toNat 0
theorem RK.rank (hV : RV R) (h : RK P R c xs V) {i : Nat} : (∀ x, xs[i]? = some x → vRank R c i = V x) ∧ (xs.length ≤ i → vRank R c i = -2) := by
  have hnr := hV.nR
  have key : ∀ o : Nat, (o : Int) < R 1 → (rCrs R o = c ∧ rVal R o) ∧ ahd R c o = i → ∃ x, xs[i]? = some x ∧ V x = o := fun o ho hh => by
    obtain ⟨x, hx, e⟩ := h.mem (o := o) (by omega) ho hh.1.1 hh.1.2
    obtain ⟨j, hj⟩ := List.mem_iff_getElem?.mp hx
    have := h.at hV hj
    rw [e] at this
    have : j = i := by omega
    subst this
    exact ⟨x, hj, e⟩
  constructor
  · intro x hx
    obtain ⟨-, hr, hc, hv⟩ := h.1 x (List.mem_of_getElem? hx)
    have ha := h.at hV hx
    have e : (((V x).toNat : Nat) : Int) = V x := by omega
    have h1 := rkF_yes (R := R) (c := c) (i := i) (v := (V x).toNat) (by rw [e]; exact ⟨⟨hc, hv⟩, ha⟩) (R 1).toNat 0 (Nat.zero_le _) (by omega) fun o _ ho hh => by
      obtain ⟨y, hy, e2⟩ := key o (by omega) hh
      rw [hx] at hy
      cases hy
      omega
    unfold vRank
    rw [h1, e]
  · intro hl
    refine rkF_no _ _ fun o _ ho hh => ?_
    obtain ⟨y, hy, e2⟩ := key o (by omega) hh
    have := (List.getElem?_eq_some_iff.mp hy).1
    omega
theorem vTot_ne {o : Nat} (h : vTot R c o ≠ -2) : rCrs R o = c ∧ rVal R o := by
  unfold vTot at h
  split at h
  · rename_i hh; exact hh
  · exact absurd rfl h
theorem RK.least (hV : RV R) (h : RK P R c xs V) : (xs = [] → vmin (vTot R c) (R 1).toNat = -2) ∧ ∀ x, xs[0]? = some x → vmin (vTot R c) (R 1).toNat = rTot R (V x) := by
  have hnr := hV.nR
  constructor
  · intro e
    have : amin (vTot R c) (R 1).toNat = -2 := by
      rcases amin_rg (vTot R c) (R 1).toNat with h1 | h1
      · exact h1
      · exfalso
        have hh := vTot_ne h1.2.2
        have e2 : (((amin (vTot R c) (R 1).toNat).toNat : Nat) : Int) = amin (vTot R c) (R 1).toNat := by omega
        rw [e2] at hh
        obtain ⟨x, hx, -⟩ := h.mem (o := amin (vTot R c) (R 1).toNat) (by omega) (by omega) hh.1 hh.2
        rw [e] at hx
        cases hx
    unfold vmin
    rw [if_pos this]
  · intro x hx
    obtain ⟨-, hr, hc, hv⟩ := h.1 x (List.mem_of_getElem? hx)
    have e : (((V x).toNat : Nat) : Int) = V x := by omega
    have ht : vTot R c (V x).toNat = rTot R (V x) := by
      unfold vTot
      rw [e, if_pos ⟨hc, hv⟩]
    have hs := hV.st hr.1 hr.2
    have h1 := amin_le (v := vTot R c) (n := (R 1).toNat) (i := (V x).toNat) (by omega) (by rw [ht]; unfold rTot; omega)
    rcases amin_rg (vTot R c) (R 1).toNat with h2 | h2
    · exact absurd h2 h1.1
    · have e2 : (((amin (vTot R c) (R 1).toNat).toNat : Nat) : Int) = amin (vTot R c) (R 1).toNat := by omega
      have h3 := h2.2.2
      unfold vmin
      rw [if_neg h1.1]
      rw [ht] at h1
      have hval : rCrs R (amin (vTot R c) (R 1).toNat) = c ∧ rVal R (amin (vTot R c) (R 1).toNat) := by
        have := vTot_ne h3
        rw [e2] at this
        exact this
      have h4 : vTot R c (amin (vTot R c) (R 1).toNat).toNat = rTot R (amin (vTot R c) (R 1).toNat) := by
        have : ∀ w : Nat, (w : Int) = amin (vTot R c) (R 1).toNat → vTot R c w = rTot R (amin (vTot R c) (R 1).toNat) := fun w hw => by
          rw [show vTot R c w = if rCrs R w = c ∧ rVal R w then rTot R w else -2 from rfl, hw, if_pos hval]
        exact this _ e2
      obtain ⟨y, hy, e3⟩ := h.mem (o := amin (vTot R c) (R 1).toNat) (by omega) (by omega) hval.1 hval.2
      obtain ⟨j, hj⟩ := List.mem_iff_getElem?.mp hy
      have h5 := h.2.1 0 j x y (Nat.zero_le _) hx hj
      simp only at h5
      rw [e3] at h5
      unfold tky at h5
      omega
end

/-! PACE, in lowest terms -/
set_option maxRecDepth 100000
theorem z_div {p q : Int} (p0 : 0 ≤ p) (p1 : p < 2147483648) (q0 : 1 ≤ q) (q1 : q < 2147483648) : z p / z q = z (p / q) := by
  have d0 : 0 ≤ p / q := Int.ediv_nonneg p0 (by omega)
  have d1 : p / q ≤ p := Int.ediv_le_self _ p0
  apply Int32.toInt_inj.mp
  rw [Int32.toInt_div, zint (by omega) (by omega), zint (by omega) (by omega), zint (by omega) (by omega), Int.tdiv_eq_ediv_of_nonneg p0]
  exact Int.bmod_eq_of_le (by have : (2 ^ 32 : Int) = 4294967296 := rfl; omega) (by have : (2 ^ 32 : Int) = 4294967296 := rfl; omega)
theorem z_mod {p q : Nat} (p1 : p < 2147483648) (q0 : 1 ≤ q) (q1 : q < 2147483648) : z p - z p / z q * z q = z ((p % q : Nat) : Int) := by
  rw [z_div (by omega) (by omega) (by omega) (by omega), z_mul, z_sub]
  congr 1
  have := Int.emod_add_mul_ediv (p : Int) q
  have e : (p : Int) / q * q = q * (p / q) := Int.mul_comm _ _
  rw [e, Int.natCast_emod]
  omega
/-- one fraction's terms, divided by what they share -/
theorem low_eq {x y x' y' : Nat} (hy : 0 < y) (hy' : 0 < y') (h : x * y' = x' * y) : x / x.gcd y = x' / x'.gcd y' ∧ y / x.gcd y = y' / x'.gcd y' := by
  have g0 : 0 < x.gcd y := Nat.gcd_pos_of_pos_right _ hy
  have g0' : 0 < x'.gcd y' := Nat.gcd_pos_of_pos_right _ hy'
  have c := Nat.coprime_div_gcd_div_gcd g0
  have c' := Nat.coprime_div_gcd_div_gcd g0'
  have ex := Nat.mul_div_cancel' (Nat.gcd_dvd_left x y)
  have ey := Nat.mul_div_cancel' (Nat.gcd_dvd_right x y)
  have ex' := Nat.mul_div_cancel' (Nat.gcd_dvd_left x' y')
  have ey' := Nat.mul_div_cancel' (Nat.gcd_dvd_right x' y')
  generalize x / x.gcd y = a at *
  generalize y / x.gcd y = b at *
  generalize x' / x'.gcd y' = a' at *
  generalize y' / x'.gcd y' = b' at *
  generalize x.gcd y = g at *
  generalize x'.gcd y' = g' at *
  have e : a * b' = a' * b := by
    have e1 : (g * g') * (a * b') = (g * g') * (a' * b) := by
      calc (g * g') * (a * b') = (g * a) * (g' * b') := Nat.mul_mul_mul_comm g g' a b'
        _ = (g' * a') * (g * b) := by rw [ex, ey', h, ex', ey]
        _ = (g' * g) * (a' * b) := (Nat.mul_mul_mul_comm g' g a' b).symm
        _ = (g * g') * (a' * b) := by rw [Nat.mul_comm g' g]
    exact Nat.eq_of_mul_eq_mul_left (Nat.mul_pos g0 g0') e1
  have hb : 0 < b := Nat.pos_of_ne_zero fun e0 => by rw [e0, Nat.mul_zero] at ey; omega
  have d1 : a ∣ a' := c.dvd_of_dvd_mul_right (e ▸ Nat.dvd_mul_right a b')
  have d2 : a' ∣ a := c'.dvd_of_dvd_mul_right (e.symm ▸ Nat.dvd_mul_right a' b)
  have d3 : b ∣ b' := (Nat.Coprime.symm c).dvd_of_dvd_mul_left (e.symm ▸ Nat.dvd_mul_left b a')
  have d4 : b' ∣ b := (Nat.Coprime.symm c').dvd_of_dvd_mul_left (e ▸ Nat.dvd_mul_left b' a)
  exact ⟨Nat.dvd_antisymm d1 d2, Nat.dvd_antisymm d3 d4⟩
theorem divN {P : PH} : ∀ f a b : Nat, b ≤ a → a < 100000 → a * b < 2 ^ f → f_X1_divisorN (f + 1) P (z a) (z b) = rI (z (a.gcd b)) P := by
  intro f
  induction f with
  | zero =>
    intro a b h ha hm
    have : b = 0 := by
      rcases Nat.eq_zero_or_pos b with h0 | h0
      · exact h0
      · have := Nat.mul_le_mul (show 1 ≤ a by omega) h0; omega
    subst this
    show f_X1_divisorB _ _ _ _ = _
    unfold f_X1_divisorB
    rw [if_pos (by rfl), Nat.gcd_zero_right]
  | succ f ih =>
    intro a b h ha hm
    show f_X1_divisorB _ _ _ _ = _
    unfold f_X1_divisorB
    rcases Nat.eq_zero_or_pos b with h0 | h0
    · subst h0
      rw [if_pos (by rfl), Nat.gcd_zero_right]
    · have hz : ¬ z (b : Int) = 0 := by
        rw [show (0 : Int32) = z 0 from rfl, zeq (by omega) (by omega) (by omega) (by omega)]
        omega
      have hr := Nat.mod_lt a h0
      rw [if_neg hz, if_neg hz, z_mod (by omega) (by omega) (by omega), ih b (a % b) (by omega) (by omega) ?_, xcI_rI, Nat.gcd_comm b, ← Nat.gcd_rec, Nat.gcd_comm]
      · have h1 : 2 * (a % b) ≤ a := by
          have := Nat.mod_add_div a b
          have : 1 ≤ a / b := (Nat.le_div_iff_mul_le h0).mpr (by omega)
          have : b * 1 ≤ b * (a / b) := Nat.mul_le_mul_left _ this
          omega
        have h2 : b * (2 * (a % b)) ≤ b * a := Nat.mul_le_mul_left _ h1
        have h3 : b * (2 * (a % b)) = 2 * (b * (a % b)) := by rw [← Nat.mul_assoc, Nat.mul_comm b 2, Nat.mul_assoc]
        rw [Nat.pow_succ] at hm
        rw [Nat.mul_comm] at hm
        omega
theorem X_divisor_z {P : PH} {a b : Nat} (ha : a < 10000) (hb : b < 10000) : f_X1_divisor P (z a) (z b) = rI (z (a.gcd b)) P := by
  have hm : a * b < 2 ^ 58 := by
    have := Nat.mul_le_mul (show a ≤ 9999 by omega) (show b ≤ 9999 by omega)
    omega
  show f_X1_divisorN (59 + 1) P (z a) (z b) = _
  rcases Nat.le_total b a with h | h
  · exact divN 59 a b h (by omega) (Nat.lt_trans hm (by decide))
  · rcases Nat.eq_or_lt_of_le h with h1 | h1
    · subst h1
      exact divN 59 a a (by omega) (by omega) (Nat.lt_trans hm (by decide))
    · show f_X1_divisorB _ _ _ _ = _
      unfold f_X1_divisorB
      have hz : ¬ z (b : Int) = 0 := by
        rw [show (0 : Int32) = z 0 from rfl, zeq (by omega) (by omega) (by omega) (by omega)]
        omega
      rw [if_neg hz, if_neg hz, z_mod (by omega) (by omega) (by omega), Nat.mod_eq_of_lt h1]
      show xcI (f_X1_divisorN (58 + 1) P (z b) (z a)) _ = _
      rw [divN 58 b a (by omega) (by omega) (by rw [Nat.mul_comm]; exact hm), xcI_rI, Nat.gcd_comm]
theorem T_divisor_z {s : TS} {a b : Nat} (ha : a < 10000) (hb : b < 10000) : T_divisor s (z a) (z b) = rI (z (a.gcd b)) s := by
  suffices h : OK (T_divisor s (z a) (z b)) (fun v s' => v = some (.int (z (a.gcd b))) ∧ s' = s) by
    obtain ⟨v, s', e, rfl, rfl⟩ := h
    exact e
  unfold T_divisor
  refine ok_lpn (fun d p => ∃ (x y : Nat), p = (z x, z y, s) ∧ d = y ∧ x < 10000 ∧ y < 10000 ∧ x.gcd y = a.gcd b) ?_ FU _ _ ⟨a, b, rfl, rfl, ha, hb, rfl⟩ (by simp only [FU]; omega)
  rintro kk d p ⟨x, y, rfl, rfl, h1, h2, h3⟩ hk
  unfold T_divisor_4F
  rcases Nat.eq_zero_or_pos d with h0 | h0
  · subst h0
    rw [← h3, Nat.gcd_zero_right]
    exact ok_pos (by rfl) (ok_rI.mpr ⟨rfl, rfl⟩)
  · have hz : ¬ z (d : Int) = 0 := by
      rw [show (0 : Int32) = z 0 from rfl, zeq (by omega) (by omega) (by omega) (by omega)]
      omega
    simp only [if_neg hz]
    rw [z_mod (by omega) (by omega) (by omega)]
    have hr := Nat.mod_lt x h0
    exact hk _ _ hr ⟨d, x % d, rfl, rfl, h2, by omega, by rw [Nat.gcd_comm d, ← Nat.gcd_rec, Nat.gcd_comm]; exact h3⟩
noncomputable def vPace (R : Nat → Int) (a k : Int) : Int := (((if k = 0 then (rPx R a).1.toNat else (rPx R a).2.toNat) / ((rPx R a).1.toNat.gcd (rPx R a).2.toNat) : Nat) : Int)
theorem pace_of {R : Nat → Int} {a x y k : Int} (h : isPace R a x y) : ∃ u v : Nat, x = u ∧ y = v ∧ (u < 10000 ∧ 0 < v ∧ v < 10000) ∧ (((if k = 0 then u else v) / u.gcd v : Nat) : Int) = vPace R a k := by
  have h1 := h.1
  have h2 := (rPx_of h).1
  have h3 := h.uniq (rPx_of h)
  obtain ⟨u, rfl⟩ := Int.eq_ofNat_of_zero_le h1.1.1
  obtain ⟨v, rfl⟩ := Int.eq_ofNat_of_zero_le (show 0 ≤ y by omega)
  unfold vPace
  obtain ⟨u', hu'⟩ := Int.eq_ofNat_of_zero_le h2.1.1
  obtain ⟨v', hv'⟩ := Int.eq_ofNat_of_zero_le (show 0 ≤ (rPx R a).2 by omega)
  rw [hu', hv'] at h3 h2 ⊢
  refine ⟨u, v, rfl, rfl, by omega, ?_⟩
  have h4 : u * v' = u' * v := by exact_mod_cast h3
  have := low_eq (by omega) (by omega) h4
  simp only [Int.toNat_natCast]
  split
  · rw [this.1]
  · rw [this.2]
theorem z_divN {u g : Nat} (hu : u < 10000) (hg : 0 < g) (hg' : g < 10000) : z u / z g = z ((u / g : Nat)) := by
  rw [z_div (by omega) (by omega) (by omega) (by omega), Int.natCast_ediv]
section
variable {n x : Nat} {P : PH} {g : GX} {mo : Option Nat} {cs rs : List Nat} {R : Nat → Int} {N : Nat → List Int32}
theorem X_pace (hx : CX P x g mo) (hI : Iv P) (hn : n ≤ P.2.1) (hM : MO n P mo cs rs R N) (hV : RV R) {a k : Int} (ha : i32 a) (hk : i32 k) : Oq n P x g mo cs rs R N 100 (f_X1_pace P x (z a) (z k)) (if ((0 ≤ a ∧ a < R 1) ∧ 0 ≤ k ∧ k ≤ 1) ∧ pAll R a pT ≠ 0 then vPace R a k else -1) (if (0 ≤ a ∧ a < R 1) ∧ 0 ≤ k ∧ k ≤ 1 then (if pAll R a pT ≠ 0 then 0 else 6) else 1) := by
  unfold f_X1_pace f_X1_pace_17
  rw [hx.cl, X_isRunner hx hM hV ha, xcI_rI]
  by_cases c1 : 0 ≤ a ∧ a < R 1
  · rw [b2_t' c1, if_neg (by decide), l1, show (0 : Int32) = z 0 from rfl, X_isIn_z hk (by omega) (by omega), xcI_rI]
    by_cases c2 : 0 ≤ k ∧ k ≤ 1
    · obtain ⟨m, rfl, hM'⟩ := hM.get (by omega)
      have hne := hx.ne hM'
      rw [b2_t' c2, if_pos (And.intro c1 c2), if_neg (by decide), hx.gm, xnul_s]
      obtain ⟨P1, q1, t1, h⟩ := hM'.pace hI hn hV c1.1 c1.2
      rcases h with ⟨h0, e⟩ | ⟨p, u, v, e, hp, hi⟩
      · rw [e, xcR_rR, xnul_n, if_neg (fun h : ((0 ≤ a ∧ a < R 1) ∧ 0 ≤ k ∧ k ≤ 1) ∧ pAll R a pT ≠ 0 => h.2 h0), if_neg (fun h : pAll R a pT ≠ 0 => h h0)]
        exact op_rf (w := 6) hx hI t1 q1 hne
      · obtain ⟨u, v, rfl, rfl, hb, hv⟩ := pace_of (k := k) hi
        have hne0 : pAll R a pT ≠ 0 := by have := hi.2.1; omega
        rw [e, xcR_rR, xnul_s, xgI_s hp rfl, xgI_s (k := 1) hp rfl, X_divisor_z (by omega) (by omega), xcI_rI, if_pos (And.intro (And.intro c1 c2) hne0), if_pos hne0]
        have hg0 : 0 < u.gcd v := Nat.gcd_pos_of_pos_right _ hb.2.1
        have hg1 : u.gcd v ≤ v := Nat.gcd_le_right _ hb.2.1
        have hz : ¬ z ((u.gcd v : Nat) : Int) = z 0 := by
          rw [zeq (by omega) (by omega) (by omega) (by omega)]
          omega
        have hK : (if z k = z 0 then xgI P1 p 10 0 fun x21 => f_X1_pace_72 x (z ((u.gcd v : Nat) : Int)) x21 P1 else xgI P1 p 10 1 fun x18 => f_X1_pace_72 x (z ((u.gcd v : Nat) : Int)) x18 P1) = xcI (f_X1_fine P1 x (z (vPace R a k))) fun a b => rI a b := by
          unfold f_X1_pace_72
          rw [xgI_s hp rfl, xgI_s (k := 1) hp rfl]
          rw [show (0 : Int32) = z 0 from rfl, if_neg hz, if_neg hz, z_divN (by omega) hg0 (by omega), z_divN (by omega) hg0 (by omega), ← hv]
          simp (disch := omega) only [zeq]
          by_cases c : k = 0
          · rw [if_pos c, if_pos c]
          · rw [if_neg c, if_neg c]
        exact Eq.mpr (congrArg (fun K => Oq n P x g (some m) cs rs R N 100 K _ _) hK) (op_yes hx hI t1 q1 hne)
    · rw [b2_f' c2, if_pos (by decide), if_neg (fun h : _ ∧ _ => c2 h.1.2), if_neg (fun h : _ ∧ _ => c2 h.2)]
      exact op_no (w := 1) hx hI hM
  · rw [b2_f' c1, if_pos (by decide), if_neg (fun h : _ ∧ _ => c1 h.1.1), if_neg (fun h : _ ∧ _ => c1 h.1)]
    exact op_no (w := 1) hx hI hM
end
theorem TQ.tf {s t : TS} {w : Int32} (h : TQ s t) : TQ (tF s w) (tF t w) := by
  refine ⟨fun k a b c d e => ?_, h.2⟩
  show (if k = 1 then _ else if k = 3 then _ else if k = 0 then _ else t.1 k) = (if k = 1 then _ else if k = 3 then _ else if k = 0 then _ else s.1 k)
  rw [h.1 k a b c d e]
section
variable {s : TS} {R : Nat → Int}
theorem Tw_pace (hR : TRep s R) (hV : RV R) {a k : Int} (ha : i32 a) (hk : i32 k) : To s (T_pace s (z a) (z k)) (if ((0 ≤ a ∧ a < R 1) ∧ 0 ≤ k ∧ k ≤ 1) ∧ pAll R a pT ≠ 0 then vPace R a k else -1) (if (0 ≤ a ∧ a < R 1) ∧ 0 ≤ k ∧ k ≤ 1 then (if pAll R a pT ≠ 0 then 0 else 6) else 1) := by
  have h1 := hV.nR
  unfold T_pace
  rw [isR_z hR h1.1 h1.2 ha.1 ha.2, xcI_rI]
  have hno : To s (T_pace_22 (z a) (z k) 0 s) (-1) 1 := ⟨_, rfl, TQ.rf⟩
  unfold T_pace_21
  by_cases c1 : 0 ≤ a ∧ a < R 1
  · rw [b2_t' c1, if_neg (by decide), l1, show (0 : Int32) = z 0 from rfl, T_in_z s (a := k) (b := 0) (c := 1) hk ⟨by decide, by decide⟩ ⟨by decide, by decide⟩, xcI_rI]
    by_cases c2 : 0 ≤ k ∧ k ≤ 1
    · rw [b2_t' c2, if_neg (by decide), if_pos (And.intro c1 c2)]
      have e1 : T_pace_22 (z a) (z k) (z 1) s = xcI (T_paces s (z a)) fun x6 s5 => if x6 = 0 then T_pace_49 (z k) 6 s5 else T_pace_49 (z k) 0 s5 := rfl
      rw [e1]
      obtain ⟨s1, e2, t1, g1⟩ := T_paces_z hR hV c1.1 c1.2
      rw [e2, xcI_rI]
      by_cases c3 : 1 ≤ pAll R a pT
      · have c3' : pAll R a pT ≠ 0 := by omega
        obtain ⟨x, y, hi, g2, g3⟩ := g1 c3
        obtain ⟨u, v, rfl, rfl, hb, hv⟩ := pace_of (k := k) hi
        rw [b2_t' c3, if_neg (by decide), if_pos (And.intro (And.intro c1 c2) c3'), if_pos c3']
        unfold T_pace_49 T_pace_72
        rw [show (0 : Int32) = z 0 from rfl]
        have hw := fun (K1 K2 : TS → Option (xO × TS)) => tw_w (s := s1) (K1 := K1) (K2 := K2) (w := 0) (by omega)
        rw [show (0 : Int32) = z 0 from rfl] at hw
        rw [hw, if_pos rfl]
        have g2' : (tF s1 (z 0)).1 23 = z u := g2
        have g3' : (tF s1 (z 0)).1 24 = z v := g3
        have hg0 : 0 < v.gcd u := Nat.gcd_pos_of_pos_left _ hb.2.1
        have hg1 : v.gcd u ≤ v := Nat.gcd_le_left _ hb.2.1
        have hz : ¬ z ((v.gcd u : Nat) : Int) = z 0 := by
          rw [zeq (by omega) (by omega) (by omega) (by omega)]
          omega
        rw [g2', g3', T_divisor_z (by omega) (by omega), xcI_rI, if_neg hz, xcI_rI, if_neg hz, z_divN (by omega) hg0 (by omega), z_divN (by omega) hg0 (by omega), ← hv, Nat.gcd_comm u v]
        simp (disch := omega) only [zeq]
        by_cases c : k = 0
        · rw [if_pos c, if_pos c]
          exact ⟨_, rfl, t1.tf⟩
        · rw [if_neg c, if_neg c]
          exact ⟨_, rfl, t1.tf⟩
      · have c3' : ¬ pAll R a pT ≠ 0 := by omega
        rw [b2_f' c3, if_pos (by decide), if_neg (fun h : _ ∧ _ => c3' h.2), if_neg c3']
        exact ⟨_, rfl, t1.tf⟩
    · rw [b2_f' c2, if_pos (by decide), if_neg (fun h : _ ∧ _ => c2 h.1.2), if_neg (fun h : _ ∧ _ => c2 h.2)]
      exact hno
  · rw [b2_f' c1, if_pos (by decide), if_neg (fun h : _ ∧ _ => c1 h.1.1), if_neg (fun h : _ ∧ _ => c1 h.1)]
    exact hno
end

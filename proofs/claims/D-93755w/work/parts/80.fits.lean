/-! fits, odds, bars (mine) -/
theorem wabs_b {x y : Int32} (hx : 0 ≤ x.toInt) (hx2 : x.toInt ≤ 1200) (hy : 0 ≤ y.toInt) (hy2 : y.toInt ≤ 1200) : 0 ≤ (wabs (x - y)).toInt ∧ (wabs (x - y)).toInt ≤ 1200 := by
  rw [wabs_sub hx (by omega) hy (by omega)]
  have h1 : (x - y).toInt = x.toInt - y.toInt := i32_sub (by omega) (by omega)
  have h2 : (y - x).toInt = y.toInt - x.toInt := i32_sub (by omega) (by omega)
  split
  · next c => have := Int32.le_iff_toInt_le.mp c; omega
  · next c =>
    have : ¬ y.toInt ≤ x.toInt := fun q => c (Int32.le_iff_toInt_le.mpr q)
    omega
theorem wmax1 (x : Int32) : (if 1 ≤ x then x else 1) = wmax 1 x := by
  unfold wmax
  by_cases c : 1 < x
  · have d := Int32.lt_iff_toInt_lt.mp c
    rw [if_pos c, if_pos (Int32.le_iff_toInt_le.mpr (by omega))]
  · rw [if_neg c]
    by_cases c2 : 1 ≤ x
    · have d2 := Int32.le_iff_toInt_le.mp c2
      have d : ¬ (1 : Int32).toInt < x.toInt := fun q => c (Int32.lt_iff_toInt_lt.mpr q)
      rw [if_pos c2, ← Int32.toInt_inj]; omega
    · rw [if_neg c2]
theorem fit_eq {D : xD} {n : Nat} {f0 f1 : xF} {g0 g1 g81 : xG} {t : Int32} (R : cR D f0 g0) (Gd : Good D) (hn : D.1 0 = i32 n) (hn10 : n ≤ 10) (I : rs D n f0 g0 (fun _ => 60) f1 g1 g81) (ht0 : 0 ≤ t.toInt) (ht1 : t.toInt < (D.1 32).toInt) :
    ∃ v : Int32, pX0_fitsNow f1 g1 t = some v ∧ (∀ f8 : xF, pX8_fitting f8 g81 t = some v) ∧ 1 ≤ v.toInt ∧ v.toInt ≤ 9 := by
  have ht24 : (D.1 32).toInt ≤ 24 := (Gd.1 32).2
  have hgt : gin t 24 = true := gin_t ht0 (by omega)
  have hx := Gd.2.2
  have hpos : 0 < (D.1 0).toInt := by
    rcases hx.2.2.2.1 with q | q
    · exact q
    · omega
  have hsb : 0 ≤ (D.2 33 t.toNatClampNeg).toInt ∧ (D.2 33 t.toNatClampNeg).toInt ≤ 9 := Gd.2.1 33 _
  have hsl : (D.2 33 t.toNatClampNeg).toInt < (D.1 0).toInt := by
    rcases hx.2.2.2.2 t.toNatClampNeg with q | q
    · omega
    · exact q
  have hnt : (D.1 0).toInt = n := by rw [hn]; exact i32_toInt (by omega)
  have hcl := cl_of hsb.1
  have hgs : gin (D.2 33 t.toNatClampNeg) 10 = true := gin_t hsb.1 (by omega)
  have hi : (D.2 33 t.toNatClampNeg).toNatClampNeg < n := by omega
  obtain ⟨a1, a2, a3, a4, a5, a6, a7, a8⟩ := I.2.2.2.2 _ hi
  dsimp only at a6 a7
  have k31 : g1 31 = D.2 33 := (I.2.2.1 31 (by decide) (by decide) (by decide) (by decide)).trans R.aTs
  have k32 : g1 32 = D.2 34 := (I.2.2.1 32 (by decide) (by decide) (by decide) (by decide)).trans R.aTl
  have k33 : g1 33 = D.2 35 := (I.2.2.1 33 (by decide) (by decide) (by decide) (by decide)).trans R.aTt
  have l33 : g81 33 = D.2 33 := I.1 33 (by decide) (by decide) (by decide) (by decide) (by decide)
  have l34 : g81 34 = D.2 34 := I.1 34 (by decide) (by decide) (by decide) (by decide) (by decide)
  have l35 : g81 35 = D.2 35 := I.1 35 (by decide) (by decide) (by decide) (by decide) (by decide)
  have b34 : 0 ≤ (D.2 34 t.toNatClampNeg).toInt ∧ (D.2 34 t.toNatClampNeg).toInt ≤ 999 := Gd.2.1 34 _
  have b35 : 0 ≤ (D.2 35 t.toNatClampNeg).toInt ∧ (D.2 35 t.toNatClampNeg).toInt ≤ 99 := Gd.2.1 35 _
  have w1 := wabs_b (x := D.2 34 t.toNatClampNeg) (y := g1 28 (D.2 33 t.toNatClampNeg).toNatClampNeg) b34.1 (by omega) a6.1 (by omega)
  have w2 := wabs_b (x := D.2 35 t.toNatClampNeg) (y := g1 29 (D.2 33 t.toNatClampNeg).toNatClampNeg) b35.1 (by omega) a7.1 (by omega)
  refine ⟨wmax 1 ((9 - wabs (D.2 34 t.toNatClampNeg - g1 28 (D.2 33 t.toNatClampNeg).toNatClampNeg)) - 3 * wabs (D.2 35 t.toNatClampNeg - g1 29 (D.2 33 t.toNatClampNeg).toNatClampNeg)), ?_, fun f8 => ?_, ?_⟩
  · unfold pX0_fitsNow pX0_fitsNow_0
    rw [k31, k32, k33, if_pos hgt, if_pos hgt, if_pos hgs, if_pos hgt, if_pos hgs]
  · unfold pX8_fitting pX8_fitting_0 pX8_fitting_56
    rw [l33, l34, l35, ← a2, ← a3, if_pos hgt, if_pos hgt, if_pos hgs, apart8 (f := f8) (g := g81) b34.1 (by omega) a6.1 (by omega)]
    simp only [Option.bind_some]
    rw [if_pos hgt, if_pos hgs, apart8 (f := f8) (g := g81) b35.1 (by omega) a7.1 (by omega)]
    simp only [Option.bind_some]
    rw [← wmax1]
    split <;> rfl
  · generalize wabs (D.2 34 t.toNatClampNeg - g1 28 (D.2 33 t.toNatClampNeg).toNatClampNeg) = A at *
    generalize wabs (D.2 35 t.toNatClampNeg - g1 29 (D.2 33 t.toNatClampNeg).toNatClampNeg) = B at *
    have e1 : ((9 : Int32) - A).toInt = 9 - A.toInt := i32_sub (x := 9) (by show _ ≤ (9 : Int) - _; omega) (by show (9 : Int) - _ ≤ _; omega)
    have e2 : ((3 : Int32) * B).toInt = 3 * B.toInt := i32_mul (x := 3) (by show _ ≤ (3 : Int) * _; omega) (by show (3 : Int) * _ ≤ _; omega)
    have e3 : ((9 - A) - 3 * B).toInt = 9 - A.toInt - 3 * B.toInt := by rw [i32_sub (by omega) (by omega), e1, e2]
    unfold wmax
    split
    · next c => have := Int32.lt_iff_toInt_lt.mp c; rw [show (1 : Int32).toInt = 1 from rfl] at this; omega
    · exact ⟨by decide, by decide⟩
theorem P_fits {D : xD} {η : cx_H} {θ : cx_T} {f : xF} {g : xG} (R : cR D f g) (Gd : Good D) (H : HR D η) (T : TR D θ) (t h : Int32) : Sim D [] [26, 28, 29, 30, 31] (pX0_fits η θ f g t h) (pX8_fits D.1 D.2 t h) := by
  have hd0 : 0 ≤ (D.1 2).toInt := (Gd.1 2).1
  have ht0 : 0 ≤ (D.1 32).toInt := (Gd.1 32).1
  obtain ⟨n, hn10, hn⟩ := gs_n Gd
  simp only [pX0_fits, pX8_fits, pX0_fits_0, pX8_fits_0, pX0_fits_16, pX8_fits_16, isHo0, isHo8, isTr0, isTr8, R.hows, R.tracks, Option.bind_some, zi_0, ite_not, keeps0, lays0]
  by_cases c1 : 0 ≤ t.toInt ∧ t.toInt ≤ (D.1 32 - 1).toInt
  case neg => simp only [c1, if_false]; exact Sim.same R Gd
  by_cases c2 : 0 ≤ h.toInt ∧ h.toInt ≤ (D.1 2 - 1).toInt
  case neg => simp only [c1, and_self, if_true, c2, if_false]; exact Sim.same R Gd
  have h1 := cnt_lt hd0 c2.2
  have h2 := cnt_lt ht0 c1.2
  obtain ⟨e1, e2, e3, e4, e5, e6⟩ := hw_of H c2.1 h1
  have hg : gk η h [0, 1, 2, 3, 4, 5] = true := gk_t c2.1 e1 (ct6 _ (by omega))
  obtain ⟨f1, g1, g81, q1, q2, q3⟩ := all_eq Gd H T R.keep hn hn10 c2.1 h1
  obtain ⟨v, r1, r2, _⟩ := fit_eq R.keep Gd hn hn10 q3 c1.1 h2
  have hL := lays_eq R hn10 q3
  have hG := rs_good Gd q3
  simp only [c1, c2, and_self, if_true, e6, hg, q1, q2, r1, r2 D.1, Option.bind_some]
  exact Sim.leaf (E := (D.1, g81)) (hL.off hG.2 (by decide) (by decide) (by decide)) hG.1 hG.2
/-! long numbers -/
theorem i64_mul {x y : Int64} (h1 : -9223372036854775808 ≤ x.toInt * y.toInt) (h2 : x.toInt * y.toInt ≤ 9223372036854775807) : (x * y).toInt = x.toInt * y.toInt := by
  rw [Int64.toInt_mul]; exact Int.bmod_eq_of_le (by omega) (by omega)
theorem i64_add {x y : Int64} (h1 : -9223372036854775808 ≤ x.toInt + y.toInt) (h2 : x.toInt + y.toInt ≤ 9223372036854775807) : (x + y).toInt = x.toInt + y.toInt := by
  rw [Int64.toInt_add]; exact Int.bmod_eq_of_le (by omega) (by omega)
theorem i64_sub {x y : Int64} (h1 : -9223372036854775808 ≤ x.toInt - y.toInt) (h2 : x.toInt - y.toInt ≤ 9223372036854775807) : (x - y).toInt = x.toInt - y.toInt := by
  rw [Int64.toInt_sub]; exact Int.bmod_eq_of_le (by omega) (by omega)
theorem i64_mod {x d : Int64} (h : 0 ≤ x.toInt) (hd : 0 < d.toInt) : (x - x / d * d).toInt = x.toInt % d.toInt := by
  have h1 : (x / d).toInt = x.toInt / d.toInt := by
    rw [Int64.toInt_div_of_ne_right x d (fun q => by rw [q] at hd; exact absurd hd (by decide))]
    exact Int.tdiv_eq_ediv_of_nonneg h
  have h3 : 0 ≤ x.toInt / d.toInt := Int.ediv_nonneg h (by omega)
  have h4 : x.toInt / d.toInt * d.toInt ≤ x.toInt := Int.ediv_mul_le _ (by omega)
  have h6 : 0 ≤ x.toInt / d.toInt * d.toInt := Int.mul_nonneg h3 (by omega)
  have h5 := x.toInt_lt
  have h2 : (x / d * d).toInt = x.toInt / d.toInt * d.toInt := by
    rw [i64_mul, h1] <;> rw [h1] <;> omega
  rw [i64_sub (by rw [h2]; omega) (by rw [h2]; omega), h2, Int.emod_def, Int.mul_comm]
theorem cmp_z (a : Int64) : (lg_cmp a 0 = 0) ↔ a = 0 := by
  unfold lg_cmp
  by_cases h : a > 0
  · rw [if_pos h]
    refine ⟨fun q => absurd q (by decide), fun q => ?_⟩
    have h2 := Int64.lt_iff_toInt_lt.mp h
    rw [q] at h2
    exact absurd h2 (by decide)
  · rw [if_neg h]
    by_cases h3 : a = 0
    · rw [if_pos h3]; exact ⟨fun _ => h3, fun _ => rfl⟩
    · rw [if_neg h3]; exact ⟨fun q => absurd q (by decide), fun q => absurd q h3⟩
theorem halves {b r : Int} (hr : 0 < r) (hb : r ≤ b) : 2 * (b % r) < b ∧ 0 ≤ b % r ∧ b % r < r := by
  have h1 := Int.emod_add_mul_ediv b r
  have h2 : 1 ≤ b / r := Int.le_ediv_of_mul_le hr (by omega)
  have h3 : r * 1 ≤ r * (b / r) := Int.mul_le_mul_of_nonneg_left h2 (by omega)
  have h4 := Int.emod_lt_of_pos b hr
  have h5 := Int.emod_nonneg b (show r ≠ 0 by omega)
  exact ⟨by omega, h5, h4⟩
theorem gcd_ok : ∀ (k : Nat) (a b : Int64), 0 ≤ a.toInt → 0 ≤ b.toInt → b.toInt < ((2 ^ k : Nat) : Int) → (0 < a.toInt ∨ 0 < b.toInt) →
    ∃ d : Int64, 0 < d.toInt ∧ ∀ K, 2 * k + 2 ≤ K → (∀ (f : xF) (g : xG), pX8_divisor_6 f g K a b = some d) ∧ ∀ (f : xF) (g : xG) (v0 v2 : Int64) (v4 : Int32), pX0_lowest_6 f g K v0 v2 v4 a b = pX0_lowest_31 f g v0 v2 v4 d := by
  have base : ∀ (a b : Int64), b = 0 → 0 < a.toInt → ∀ K, 0 < K → (∀ (f : xF) (g : xG), pX8_divisor_6 f g K a b = some a) ∧ ∀ (f : xF) (g : xG) (v0 v2 : Int64) (v4 : Int32), pX0_lowest_6 f g K v0 v2 v4 a b = pX0_lowest_31 f g v0 v2 v4 a := by
    intro a b hb ha K hK
    obtain ⟨k, rfl⟩ : ∃ k, K = k + 1 := ⟨K - 1, by omega⟩
    refine ⟨fun f g => ?_, fun f g v0 v2 v4 => ?_⟩
    · rw [pX8_divisor_6, if_pos ((cmp_z b).mpr hb)]
    · rw [pX0_lowest_6, if_pos ((cmp_z b).mpr hb)]
  have step : ∀ (a b : Int64), ¬ b = 0 → ∀ K, (∀ (f : xF) (g : xG), pX8_divisor_6 f g (K + 1) a b = pX8_divisor_6 f g K b (a - a / b * b)) ∧ ∀ (f : xF) (g : xG) (v0 v2 : Int64) (v4 : Int32), pX0_lowest_6 f g (K + 1) v0 v2 v4 a b = pX0_lowest_6 f g K v0 v2 v4 b (a - a / b * b) := by
    intro a b hb K
    refine ⟨fun f g => ?_, fun f g v0 v2 v4 => ?_⟩
    · rw [pX8_divisor_6, if_neg (fun q => hb ((cmp_z b).mp q)), if_neg hb]
    · rw [pX0_lowest_6, if_neg (fun q => hb ((cmp_z b).mp q)), if_neg hb]
  intro k
  induction k with
  | zero =>
    intro a b ha hb hlt hpos
    have hb0 : b.toInt = 0 := by have : b.toInt < 1 := hlt; omega
    have hbz : b = 0 := by rw [← Int64.toInt_inj]; exact hb0
    exact ⟨a, by omega, fun K hK => base a b hbz (by omega) K (by omega)⟩
  | succ k ih =>
    intro a b ha hb hlt hpos
    by_cases c : b = 0
    · have hb0 : b.toInt = 0 := by rw [c]; rfl
      exact ⟨a, by omega, fun K hK => base a b c (by omega) K (by omega)⟩
    have hbp : 0 < b.toInt := by
      have : b.toInt ≠ 0 := fun q => c (by rw [← Int64.toInt_inj]; exact q)
      omega
    have hr := i64_mod ha hbp
    have hr1 := Int.emod_nonneg a.toInt (show b.toInt ≠ 0 by omega)
    have hr2 := Int.emod_lt_of_pos a.toInt hbp
    by_cases c2 : a - a / b * b = 0
    · refine ⟨b, hbp, fun K hK => ?_⟩
      obtain ⟨K', rfl⟩ : ∃ k, K = k + 1 := ⟨K - 1, by omega⟩
      have s1 := step a b c K'
      have b1 := base b (a - a / b * b) c2 hbp K' (by omega)
      exact ⟨fun f g => (s1.1 f g).trans (b1.1 f g), fun f g v0 v2 v4 => (s1.2 f g v0 v2 v4).trans (b1.2 f g v0 v2 v4)⟩
    have hrp : 0 < (a - a / b * b).toInt := by
      have : (a - a / b * b).toInt ≠ 0 := fun q => c2 (by rw [← Int64.toInt_inj]; exact q)
      omega
    have hm := i64_mod (x := b) (d := a - a / b * b) hb hrp
    have hh := halves hrp (show (a - a / b * b).toInt ≤ b.toInt by omega)
    have hlt2 : b.toInt < ((2 ^ k * 2 : Nat) : Int) := by rw [← Nat.pow_succ]; exact hlt
    obtain ⟨d, hd, hD⟩ := ih (a - a / b * b) (b - b / (a - a / b * b) * (a - a / b * b)) (by omega) (by rw [hm]; omega) (by rw [hm]; generalize 2 ^ k = P at *; omega) (Or.inl hrp)
    refine ⟨d, hd, fun K hK => ?_⟩
    obtain ⟨K', rfl⟩ : ∃ k, K = k + 1 + 1 := ⟨K - 2, by omega⟩
    have s1 := step a b c (K' + 1)
    have s2 := step b (a - a / b * b) c2 K'
    have b1 := hD K' (by omega)
    exact ⟨fun f g => ((s1.1 f g).trans (s2.1 f g)).trans (b1.1 f g), fun f g v0 v2 v4 => ((s1.2 f g v0 v2 v4).trans (s2.2 f g v0 v2 v4)).trans (b1.2 f g v0 v2 v4)⟩
theorem gcd_eq {a b : Int64} (ha : 0 ≤ a.toInt) (hb : 0 ≤ b.toInt) (h : 0 < a.toInt ∨ 0 < b.toInt) : ∃ d : Int64, ¬ d = 0 ∧ (∀ (f : xF) (g : xG), pX8_divisor f g a b = some d) ∧ ∀ (f : xF) (g : xG) (v4 : Int32), ¬ b = 0 → pX0_lowest f g a b v4 = some ((if v4 = 0 then a else b) / d) := by
  obtain ⟨d, hd, hD⟩ := gcd_ok 63 a b ha hb b.toInt_lt h
  obtain ⟨h1, h2⟩ := hD 5000 (by omega)
  have hd0 : ¬ d = 0 := fun q => by rw [q] at hd; exact absurd hd (by decide)
  refine ⟨d, hd0, h1, fun f g v4 hb0 => ?_⟩
  show pX0_lowest_6 f g 5000 a b v4 a b = _
  rw [h2]
  unfold pX0_lowest_31 pX0_lowest_53 pX0_lowest_56
  rw [if_neg (fun q => hb0 ((cmp_z b).mp q)), if_neg hd0, if_neg hd0]
  split <;> rfl
/-! odds -/
theorem pw9 : ∀ t, t < 17 → (9 : Nat) ^ t ≤ 1853020188851841 := by decide
theorem prod_loop {D : xD} {η : cx_H} {θ : cx_T} {n m : Nat} {f0 f1 : xF} {g0 g1 g81 : xG} {set : Int32} (R : cR D f0 g0) (Gd : Good D) (hn : D.1 0 = i32 n) (hn10 : n ≤ 10) (I : rs D n f0 g0 (fun _ => 60) f1 g1 g81) (hm16 : m ≤ 16) (hm : ∀ t, t < m → t < (D.1 32).toNatClampNeg) (hm2 : m = 16 ∨ m = (D.1 32).toNatClampNeg) :
    ∀ (d t K K8 : Nat) (acc : Int64), t + d = m → d < K → d < K8 → 1 ≤ acc.toInt → acc.toInt ≤ ((9 ^ t : Nat) : Int) →
      ∃ z : Int64, pX0_productOf_26 η θ K f1 g1 set acc (i32 t) = some (z, f1, va_up g1 1 (va_cpy (g1 27) (g1 1) 0 0 10)) ∧ pX8_product_10 K8 D.1 g81 set acc (i32 t) = some (z, D.1, g81) ∧ 1 ≤ z.toInt ∧ z.toInt ≤ 1853020188851841 := by
  have hT0 : 0 ≤ (D.1 32).toInt := (Gd.1 32).1
  have hTc := cl_of hT0
  have hT24 : (D.1 32).toInt ≤ 24 := (Gd.1 32).2
  have f34 : f1 34 = i32 (D.1 32).toNatClampNeg := by rw [I.2.1 34 (by decide) (by decide) (by decide), R.tracks]; exact i32_of hT0
  have d32 : D.1 32 = i32 (D.1 32).toNatClampNeg := i32_of hT0
  intro d
  induction d with
  | zero =>
    intro t K K8 acc ht hK hK8 h1 h2
    obtain ⟨k, rfl⟩ : ∃ k, K = k + 1 := ⟨K - 1, by omega⟩
    obtain ⟨k8, rfl⟩ : ∃ k, K8 = k + 1 := ⟨K8 - 1, by omega⟩
    have hp := pw9 t (by omega)
    refine ⟨acc, ?_, ?_, h1, by omega⟩
    · rw [pX0_productOf_26, f34]
      by_cases c : i32 (D.1 32).toNatClampNeg ≤ i32 t
      · rw [if_pos c]; rfl
      · rw [if_neg c, if_pos (by
          rw [i32_le (by omega) (by omega)] at c
          rw [show (16 : Int32) = i32 16 from rfl, i32_le (by omega) (by omega)]; omega)]
        rfl
    · rw [pX8_product_10]
      by_cases c : D.1 32 ≤ i32 t
      · rw [if_pos c]; rfl
      · rw [if_neg c, if_pos (by
          rw [d32, i32_le (by omega) (by omega)] at c
          rw [show (16 : Int32) = i32 16 from rfl, i32_le (by omega) (by omega)]; omega)]
        rfl
  | succ d ih =>
    intro t K K8 acc ht hK hK8 h1 h2
    obtain ⟨k, rfl⟩ : ∃ k, K = k + 1 := ⟨K - 1, by omega⟩
    obtain ⟨k8, rfl⟩ : ∃ k, K8 = k + 1 := ⟨K8 - 1, by omega⟩
    have htm := hm t (by omega)
    have hp := pw9 (t + 1) (by omega)
    have hp0 := pw9 t (by omega)
    have n1 : ¬ i32 (D.1 32).toNatClampNeg ≤ i32 t := by rw [i32_le (by omega) (by omega)]; omega
    have n2 : ¬ (16 : Int32) ≤ i32 t := by rw [show (16 : Int32) = i32 16 from rfl, i32_le (by omega) (by omega)]; omega
    rw [pX0_productOf_26, f34, if_neg n1, if_neg n2, pX8_product_10, d32, if_neg n1, if_neg n2]
    have hit : (i32 t).toInt = t := i32_toInt (by omega)
    obtain ⟨v, r1, r2, r3, r4⟩ := fit_eq (t := i32 t) R Gd hn hn10 I (by omega) (by omega)
    rw [r1, r2 D.1]
    simp only [Option.bind_some]
    unfold pX0_productOf_64 pX8_product_48
    rw [i32_succ]
    have e9 : (9 : Nat) ^ (t + 1) = 9 ^ t * 9 := Nat.pow_succ 9 t
    by_cases c : ((set >>> (i32 t &&& 31)) &&& 1) = 1
    · rw [if_pos c, if_pos c]
      have hv : v.toInt64.toInt = v.toInt := Int32.toInt_toInt64 v
      have hle : acc.toInt * v.toInt ≤ ((9 ^ t : Nat) : Int) * 9 := Int.mul_le_mul h2 r4 (by omega) (by omega)
      have hpos : 0 < acc.toInt * v.toInt := Int.mul_pos (by omega) (by omega)
      have hmul : (acc * v.toInt64).toInt = acc.toInt * v.toInt := by
        rw [i64_mul, hv]
        · rw [hv]; omega
        · rw [hv]; generalize 9 ^ t = P at *; omega
      exact ih (t + 1) k k8 _ (by omega) (by omega) (by omega) (by rw [hmul]; omega) (by rw [hmul, e9]; generalize 9 ^ t = P at *; omega)
    · rw [if_neg c, if_neg c]
      have hmul : (acc * 1).toInt = acc.toInt := by rw [Int64.mul_one]
      exact ih (t + 1) k k8 _ (by omega) (by omega) (by omega) (by rw [hmul]; omega) (by rw [hmul, e9]; generalize 9 ^ t = P at *; omega)
theorem prod_eq {D : xD} {η : cx_H} {θ : cx_T} {f : xF} {g : xG} (R : cR D f g) (Gd : Good D) (H : HR D η) (T : TR D θ) {h : Int32} (set : Int32) (h0 : 0 ≤ h.toInt) (h1 : h.toInt < (D.1 2).toInt) :
    ∃ (z : Int64) (f1 : xF) (g1 : xG) (E : xD), pX0_productOf η θ f g h set = some (z, f1, g1) ∧ pX8_product D.1 D.2 h set = some (z, E.1, E.2) ∧ cR E f1 g1 ∧ Good E ∧ off [] [26, 28, 29, 30, 31] D E ∧ 1 ≤ z.toInt ∧ z.toInt ≤ 1853020188851841 := by
  obtain ⟨n, hn10, hn⟩ := gs_n Gd
  obtain ⟨e1, e2, e3, e4, e5, e6⟩ := hw_of H h0 h1
  have hg : gk η h [0, 1, 2, 3, 4, 5] = true := gk_t h0 e1 (ct6 _ (by omega))
  obtain ⟨f1, g1, g81, q1, q2, q3⟩ := all_eq Gd H T R.keep hn hn10 h0 h1
  have hL := lays_eq R hn10 q3
  have hG := rs_good Gd q3
  have hm : ∃ m : Nat, m ≤ 16 ∧ (∀ t, t < m → t < (D.1 32).toNatClampNeg) ∧ (m = 16 ∨ m = (D.1 32).toNatClampNeg) := by
    by_cases c : 16 ≤ (D.1 32).toNatClampNeg
    · exact ⟨16, by omega, fun t ht => by omega, Or.inl rfl⟩
    · exact ⟨(D.1 32).toNatClampNeg, by omega, fun t ht => ht, Or.inr rfl⟩
  obtain ⟨m, m1, m2, m3⟩ := hm
  obtain ⟨z, r1, r2, r3, r4⟩ := prod_loop (η := η) (θ := θ) (set := set) R.keep Gd hn hn10 q3 m1 m2 m3 m 0 5000 5000 1 (by omega) (by omega) (by omega) (by decide) (by decide)
  refine ⟨z, f1, _, (D.1, g81), ?_, ?_, hL.off hG.2 (by decide) (by decide) (by decide), hG.1, hG.2, r3, r4⟩
  · show (pX0_keeps f g).bind _ = _
    rw [keeps0]
    simp only [Option.bind_some]
    rw [if_pos e6, if_pos hg, q1]
    exact r1
  · show (pX8_goAll D.1 D.2 h).bind _ = _
    rw [q2]
    exact r2
theorem odds_loop {η : cx_H} {θ : cx_T} {N : Nat} {h set part : Int32} (hN : N ≤ 8) (hN1 : 1 ≤ N) (h0 : 0 ≤ h.toInt) (h1 : h.toInt < N) (hp : part = 0 ∨ ¬ part = 0) :
    ∀ (d j K K8 : Nat) (D : xD) (f : xF) (g : xG) (acc : Int64), j + d = N → d < K → d < K8 → D.1 2 = i32 N → cR D f g → Good D → HR D η → TR D θ → (j : Int) ≤ acc.toInt → acc.toInt ≤ j * 1853020188851841 →
      Sim D [] [26, 28, 29, 30, 31] (pX0_odds_51 η θ K f g h set part acc (i32 j)) (pX8_odds_63 K8 D.1 D.2 h set part acc (i32 j)) := by
  intro d
  induction d with
  | zero =>
    intro j K K8 D f g acc hj hK hK8 hD R Gd H T a1 a2
    obtain ⟨k, rfl⟩ : ∃ k, K = k + 1 := ⟨K - 1, by omega⟩
    obtain ⟨k8, rfl⟩ : ∃ k, K8 = k + 1 := ⟨K8 - 1, by omega⟩
    have hDt : (D.1 2).toInt = N := by rw [hD]; exact i32_toInt (by omega)
    rw [pX0_odds_51, if_pos (by rw [R.hows, hD, i32_le (by omega) (by omega)]; omega), pX8_odds_63, if_pos (by rw [hD, i32_le (by omega) (by omega)]; omega)]
    obtain ⟨z, f1, g1, E, r1, r2, r3, r4, r5, r6, r7⟩ := prod_eq R Gd H T set h0 (by omega)
    unfold pX0_odds_78 pX8_odds_90 pX8_odds_125
    rw [r1, r2]
    simp only [Option.bind_some]
    have hacc : ¬ acc = 0 := fun q => by rw [q] at a1; have : ((0 : Int64)).toInt = 0 := rfl; omega
    obtain ⟨dd, d1, d2, d3⟩ := gcd_eq (a := z) (b := acc) (by omega) (by omega) (Or.inl (by omega))
    rw [d2, d3 f1 g1 part hacc]
    simp only [Option.bind_some]
    by_cases c : part = 0
    · rw [if_pos c, if_pos c, if_neg d1]
      exact Sim.leaf r3 r4 r5
    · rw [if_neg c, if_neg c, if_neg d1]
      exact Sim.leaf r3 r4 r5
  | succ d ih =>
    intro j K K8 D f g acc hj hK hK8 hD R Gd H T a1 a2
    obtain ⟨k, rfl⟩ : ∃ k, K = k + 1 := ⟨K - 1, by omega⟩
    obtain ⟨k8, rfl⟩ : ∃ k, K8 = k + 1 := ⟨K8 - 1, by omega⟩
    have hDt : (D.1 2).toInt = N := by rw [hD]; exact i32_toInt (by omega)
    have hjt : (i32 j).toInt = j := i32_toInt (by omega)
    rw [pX0_odds_51, if_neg (by rw [R.hows, hD, i32_le (by omega) (by omega)]; omega), pX8_odds_63, if_neg (by rw [hD, i32_le (by omega) (by omega)]; omega)]
    obtain ⟨z, f1, g1, E, r1, r2, r3, r4, r5, r6, r7⟩ := prod_eq (h := i32 j) R Gd H T set (by omega) (by omega)
    rw [r1, r2]
    simp only [Option.bind_some]
    rw [i32_succ]
    have hs : (acc + z).toInt = acc.toInt + z.toInt := i64_add (by omega) (by omega)
    obtain ⟨v, f2, g2, E2, k1, k2, k3, k4, k5⟩ := ih (j + 1) k k8 E f1 g1 (acc + z) (by omega) (by omega) (by omega) (by rw [r5.1 2 (by decide)]; exact hD) r3 r4 (H.off r5 (by decide) (by decide) (by decide)) (T.off r5 (by decide) (by decide) (by decide) (by decide)) (by rw [hs]; omega) (by rw [hs]; omega)
    exact ⟨v, f2, g2, E2, k1, k2, k3, k4, off.tr r5 k5⟩
theorem wmin16 (x : Int32) : (if (16 : Int32) ≤ x then (16 : Int32) else x) = wmin 16 x := by
  unfold wmin
  by_cases c : 16 ≤ x
  · have d := Int32.le_iff_toInt_le.mp c
    rw [if_pos c, if_neg (fun q => by have := Int32.lt_iff_toInt_lt.mp q; omega)]
  · have d : ¬ (16 : Int32).toInt ≤ x.toInt := fun q => c (Int32.le_iff_toInt_le.mpr q)
    rw [if_neg c, if_pos (Int32.lt_iff_toInt_lt.mpr (by omega))]
theorem P_odds {D : xD} {η : cx_H} {θ : cx_T} {f : xF} {g : xG} (R : cR D f g) (Gd : Good D) (H : HR D η) (T : TR D θ) (h set part : Int32) : Sim D [] [26, 28, 29, 30, 31] (pX0_odds η θ f g h set part) (pX8_odds D.1 D.2 h set part) := by
  have hd0 : 0 ≤ (D.1 2).toInt := (Gd.1 2).1
  have e18 : pX8_odds D.1 D.2 h set part = pX8_odds_18 D.1 D.2 h set part (wmin 16 (D.1 32)) := by
    unfold pX8_odds pX8_odds_0
    rw [← wmin16]
    split <;> rfl
  rw [e18]
  simp only [pX0_odds, pX0_odds_0, pX8_odds_18, pX0_odds_41, pX8_odds_53, isHo0, isHo8, in0, in8, R.hows, R.tracks, Option.bind_some, zi_0, ite_not, Int32.toInt_toInt64, Int32.toInt_zero, show (0 : Int64).toInt = 0 from rfl]
  by_cases c1 : 0 ≤ h.toInt ∧ h.toInt ≤ (D.1 2 - 1).toInt
  case neg => simp only [c1, if_false]; exact Sim.same R Gd
  by_cases c2 : 0 ≤ set.toInt ∧ set.toInt ≤ (((1 : Int32) <<< ((wmin (16 : Int32) (D.1 32)) &&& 31)) - (1 : Int32)).toInt
  case neg => simp only [c1, and_self, if_true, c2, if_false]; exact Sim.same R Gd
  by_cases c3 : 0 ≤ part.toInt ∧ part.toInt ≤ 1
  case neg => simp only [c1, c2, and_self, if_true, show (1 : Int64).toInt = 1 from rfl, show (1 : Int32).toInt = 1 from rfl, c3, if_false]; exact Sim.same R Gd
  simp only [c1, c2, and_self, if_true, show (1 : Int64).toInt = 1 from rfl, show (1 : Int32).toInt = 1 from rfl, c3]
  have h1 := cnt_lt hd0 c1.2
  obtain ⟨N, hN, eN⟩ := i32_ex (x := D.1 2) (N := 8) (Gd.1 2).1 (Gd.1 2).2 (by omega)
  have eNt : (D.1 2).toInt = N := by rw [eN]; exact i32_toInt (by omega)
  exact odds_loop (N := N) hN (by omega) c1.1 (by omega) (Classical.em _) N 0 5000 5000 D f g 0 (by omega) (by omega) (by omega) eN R Gd H T (by decide) (by decide)
/-! bars -/
theorem bars_loop {D : xD} {η : cx_H} {θ : cx_T} {n : Nat} {f f1 : xF} {g g1 g81 : xG} {far : Int32} (R : cR D f g) (Gd : Good D) (hn : D.1 0 = i32 n) (hn10 : n ≤ 10) (I : rs D n f (gk27 g) (fun _ => 60) f1 g1 g81) :
    ∀ (d j K K8 : Nat) (acc : Int32), j + d = n → d < K → d < K8 →
      ∃ z : Int32, pX0_bars_49 η θ K f1 g1 far acc (i32 j) = some (z, f1, va_up g1 1 (va_cpy (g1 27) (g1 1) 0 0 10)) ∧ pX8_bars_32 K8 D.1 g81 far acc (i32 j) = some (z, D.1, g81) := by
  have hf2 : f1 2 = i32 n := by rw [I.2.1 2 (by decide) (by decide) (by decide), R.stones, hn]
  have k36 : f1 36 = f 36 := I.2.1 36 (by decide) (by decide) (by decide)
  have k35 : g1 35 = g 35 := (I.2.2.1 35 (by decide) (by decide) (by decide) (by decide)).trans (va_up_ne _ _ (by decide))
  have l38 : g81 38 = D.2 38 := I.1 38 (by decide) (by decide) (by decide) (by decide) (by decide)
  have l4 : g81 4 = D.2 4 := I.1 4 (by decide) (by decide) (by decide) (by decide) (by decide)
  have k27 : ∀ i, i < 10 → g1 27 i = D.2 4 i := fun i hi => by
    rw [I.2.2.1 27 (by decide) (by decide) (by decide) (by decide)]
    unfold gk27
    rw [va_up_self]
    unfold va_cpy
    rw [if_pos (by omega), R.aP, Nat.sub_zero, Nat.zero_add]
  intro d
  induction d with
  | zero =>
    intro j K K8 acc hj hK hK8
    obtain ⟨k, rfl⟩ : ∃ k, K = k + 1 := ⟨K - 1, by omega⟩
    obtain ⟨k8, rfl⟩ : ∃ k, K8 = k + 1 := ⟨K8 - 1, by omega⟩
    refine ⟨acc, ?_, ?_⟩
    · rw [pX0_bars_49, if_pos (by rw [hf2, i32_le (by omega) (by omega)]; omega)]; rfl
    · rw [pX8_bars_32, if_pos (by rw [hn, i32_le (by omega) (by omega)]; omega)]
  | succ d ih =>
    intro j K K8 acc hj hK hK8
    obtain ⟨k, rfl⟩ : ∃ k, K = k + 1 := ⟨K - 1, by omega⟩
    obtain ⟨k8, rfl⟩ : ∃ k, K8 = k + 1 := ⟨K8 - 1, by omega⟩
    have hg : gin (i32 j) 10 = true := gin_i (by omega) (by omega)
    have hcl : (i32 j).toNatClampNeg = j := i32_cl (by omega)
    obtain ⟨b1, p1, p2⟩ := held_eq R Gd (g8 := g81) l38 l4 (far := far) hg
    rw [hcl] at p1
    obtain ⟨b2, o1, o2⟩ := out_eq R Gd (g8 := g81) l38 (g1 1 j)
    have h28 : g81 28 j = g1 1 j := ((I.2.2.2.2 j (by omega)).1).symm
    rw [pX0_bars_49, if_neg (by rw [hf2, i32_le (by omega) (by omega)]; omega), if_pos hg, hcl, k27 j (by omega), p1 f1 g1 k36 k35, if_pos hg, o1 f1 g1 k36 k35]
    rw [pX8_bars_32, if_neg (by rw [hn, i32_le (by omega) (by omega)]; omega), p2 D.1 rfl, if_pos hg, hcl, h28, o2 D.1 rfl]
    simp only [Option.bind_some, bz_0]
    unfold pX0_bars_92 pX0_bars_93 pX8_bars_70 pX8_bars_71
    rw [i32_succ]
    cases b1
    · exact ih (j + 1) k k8 _ (by omega) (by omega) (by omega)
    · cases b2
      · exact ih (j + 1) k k8 _ (by omega) (by omega) (by omega)
      · exact ih (j + 1) k k8 _ (by omega) (by omega) (by omega)
theorem P_bars {D : xD} {η : cx_H} {θ : cx_T} {f : xF} {g : xG} (R : cR D f g) (Gd : Good D) (H : HR D η) (T : TR D θ) (h far : Int32) : Sim D [] [26, 28, 29, 30, 31] (pX0_bars η θ f g h far) (pX8_bars D.1 D.2 h far) := by
  have hd0 : 0 ≤ (D.1 2).toInt := (Gd.1 2).1
  obtain ⟨n, hn10, hn⟩ := gs_n Gd
  simp only [pX0_bars, pX8_bars, pX0_bars_0, pX8_bars_0, pX0_bars_20, pX8_bars_19, isHo0, isHo8, in0, in8, R.hows, Option.bind_some, zi_0, ite_not, keeps0, Int32.reduceToInt, Int64.reduceToInt]
  by_cases c1 : 0 ≤ h.toInt ∧ h.toInt ≤ (D.1 2 - 1).toInt
  case neg => simp only [c1, if_false]; exact Sim.same R Gd
  by_cases c2 : 0 ≤ far.toInt ∧ far.toInt ≤ 63
  case neg => simp only [c1, and_self, if_true, c2, if_false]; exact Sim.same R Gd
  have h1 := cnt_lt hd0 c1.2
  obtain ⟨e1, e2, e3, e4, e5, e6⟩ := hw_of H c1.1 h1
  have hg : gk η h [0, 1, 2, 3, 4, 5] = true := gk_t c1.1 e1 (ct6 _ (by omega))
  obtain ⟨f1, g1, g81, q1, q2, q3⟩ := all_eq Gd H T R.keep hn hn10 c1.1 h1
  have hL := lays_eq R hn10 q3
  have hG := rs_good Gd q3
  obtain ⟨z, r1, r2⟩ := bars_loop (η := η) (θ := θ) (far := far) R Gd hn hn10 q3 n 0 5000 5000 0 (by omega) (by omega) (by omega)
  simp only [c1, c2, and_self, if_true, e6, hg, q1, q2, Option.bind_some]
  rw [show (0 : Int32) = i32 0 from rfl, show i32 0 = (0 : Int32) from rfl]
  have r1' : pX0_bars_49 η θ 5000 f1 g1 far 0 0 = some (z, f1, va_up g1 1 (va_cpy (g1 27) (g1 1) 0 0 10)) := r1
  have r2' : pX8_bars_32 5000 D.1 g81 far 0 0 = some (z, D.1, g81) := r2
  rw [r1', r2']
  exact Sim.leaf (E := (D.1, g81)) (hL.off hG.2 (by decide) (by decide) (by decide)) hG.1 hG.2

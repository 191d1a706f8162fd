/-! THE PURE PART, KIT (mine): small numbers as Int32, guards, loops -/
def i32 (n : Nat) : Int32 := Int32.ofNat n
theorem i32_toInt {n : Nat} (h : n < 2147483648) : (i32 n).toInt = n := Int32.toInt_ofNat_of_lt h
theorem i32_cl {n : Nat} (h : n < 2147483648) : (i32 n).toNatClampNeg = n := by
  show (i32 n).toInt.toNat = n
  rw [i32_toInt h]; rfl
theorem i32_add (n m : Nat) : i32 n + i32 m = i32 (n + m) := (Int32.ofNat_add n m).symm
theorem i32_succ (n : Nat) : i32 n + 1 = i32 (n + 1) := i32_add n 1
theorem i32_lt {n m : Nat} (h : n < 2147483648) (h2 : m < 2147483648) : i32 n < i32 m ↔ n < m := by
  rw [Int32.lt_iff_toInt_lt, i32_toInt h, i32_toInt h2]; omega
theorem i32_le {n m : Nat} (h : n < 2147483648) (h2 : m < 2147483648) : i32 n ≤ i32 m ↔ n ≤ m := by
  rw [Int32.le_iff_toInt_le, i32_toInt h, i32_toInt h2]; omega
theorem i32_inj {n m : Nat} (h : n < 2147483648) (h2 : m < 2147483648) : i32 n = i32 m ↔ n = m := by
  rw [← Int32.toInt_inj, i32_toInt h, i32_toInt h2]; omega
theorem i32_of {x : Int32} (h : 0 ≤ x.toInt) : x = i32 x.toNatClampNeg := by
  have h1 : x.toNatClampNeg < 2147483648 := by
    have := x.toInt_lt; show x.toInt.toNat < _; omega
  rw [← Int32.toInt_inj, i32_toInt h1]
  show _ = ((x.toInt.toNat : Nat) : Int); omega
theorem cl_lt (x : Int32) : x.toNatClampNeg < 2147483648 := by
  have := x.toInt_lt; show x.toInt.toNat < _; omega
theorem cl_of {x : Int32} (h : 0 ≤ x.toInt) : (x.toNatClampNeg : Int) = x.toInt := by
  show ((x.toInt.toNat : Nat) : Int) = _; omega
theorem i32_ex {x : Int32} {N : Nat} (h : 0 ≤ x.toInt) (h2 : x.toInt ≤ N) (hN : N < 2147483648) : ∃ n : Nat, n ≤ N ∧ x = i32 n := ⟨x.toNatClampNeg, by have := cl_of h; omega, i32_of h⟩
theorem gin_iff (x : Int32) (N : Nat) : (gin x N = true) ↔ (0 ≤ x.toInt ∧ x.toInt < N) := by
  simp only [gin, Bool.and_eq_true, decide_eq_true_eq, Int32.le_iff_toInt_le, Int32.toInt_zero]
  constructor
  · rintro ⟨h1, h2⟩; have := cl_of h1; omega
  · rintro ⟨h1, h2⟩; have := cl_of h1; omega
theorem gin_t {x : Int32} {N : Nat} (h : 0 ≤ x.toInt) (h2 : x.toInt < N) : gin x N = true := (gin_iff x N).mpr ⟨h, h2⟩
theorem gin_i {n N : Nat} (h : n < N) (hN : N < 2147483648) : gin (i32 n) N = true := by
  refine gin_t ?_ ?_ <;> rw [i32_toInt (by omega)] <;> omega
theorem gbz0 : gbz 0 = true := rfl
theorem gbz1 : gbz 1 = true := rfl
/-- a truth as an int -/
def zi (c : Prop) [Decidable c] : Int32 := if c then 1 else 0
theorem zi_t {c : Prop} [Decidable c] (h : c) : zi c = 1 := if_pos h
theorem zi_f {c : Prop} [Decidable c] (h : ¬ c) : zi c = 0 := if_neg h
theorem zi_0 {c : Prop} [Decidable c] : (zi c = 0) ↔ ¬ c := by
  unfold zi; split <;> simp_all
theorem zi_1 {c : Prop} [Decidable c] : (zi c = 1) ↔ c := by
  unfold zi; split <;> simp_all
theorem zi_b (c : Prop) [Decidable c] : gbz (zi c) = true := by
  unfold zi; split <;> rfl
theorem zi_c {c d : Prop} [Decidable c] [Decidable d] (h : c ↔ d) : zi c = zi d := by
  unfold zi; by_cases hc : c
  · rw [if_pos hc, if_pos (h.mp hc)]
  · rw [if_neg hc, if_neg (fun hd => hc (h.mpr hd))]
theorem in8 (f : xF) (g : xG) (v lo hi : Int32) : pX8_in f g v lo hi = some (zi (lo.toInt ≤ v.toInt ∧ v.toInt ≤ hi.toInt)) := by
  simp only [pX8_in, pX8_in_0, pX8_in_14, pX8_in_15, gbz0, gbz1, if_true, Int32.lt_iff_toInt_lt]
  by_cases h1 : v.toInt < lo.toInt
  · rw [if_pos h1, zi_f (by omega)]
  · rw [if_neg h1]
    by_cases h2 : hi.toInt < v.toInt
    · rw [if_pos h2, zi_f (by omega)]
    · rw [if_neg h2, zi_t (by omega)]
theorem cmp_lt (a b : Int64) : (lg_cmp a b < 0) ↔ a.toInt < b.toInt := by
  unfold lg_cmp
  by_cases h : a > b
  · have h2 := Int64.lt_iff_toInt_lt.mp h
    rw [if_pos h]
    exact ⟨fun q => absurd q (by decide), fun q => by omega⟩
  · rw [if_neg h]
    have h2 : ¬ b.toInt < a.toInt := fun q => h (Int64.lt_iff_toInt_lt.mpr q)
    by_cases h3 : a = b
    · rw [if_pos h3]; subst h3
      exact ⟨fun q => absurd q (by decide), fun q => by omega⟩
    · rw [if_neg h3]
      have : a.toInt ≠ b.toInt := fun q => h3 (Int64.toInt_inj.mp q)
      exact ⟨fun q => by omega, fun q => by decide⟩
theorem cmp_gt (a b : Int64) : (0 < lg_cmp a b) ↔ b.toInt < a.toInt := by
  unfold lg_cmp
  by_cases h : a > b
  · have h2 := Int64.lt_iff_toInt_lt.mp h
    rw [if_pos h]
    exact ⟨fun q => h2, fun q => by decide⟩
  · rw [if_neg h]
    have h2 : ¬ b.toInt < a.toInt := fun q => h (Int64.lt_iff_toInt_lt.mpr q)
    by_cases h3 : a = b
    · rw [if_pos h3]
      exact ⟨fun q => absurd q (by decide), fun q => by omega⟩
    · rw [if_neg h3]
      exact ⟨fun q => absurd q (by decide), fun q => by omega⟩
theorem in0 (f : xF) (g : xG) (v : Int32) (lo hi : Int64) : pX0_in f g v.toInt64 lo hi = some (zi (lo.toInt ≤ v.toInt ∧ v.toInt ≤ hi.toInt)) := by
  simp only [pX0_in, pX0_in_0, pX0_in_17, pX0_in_18, gbz0, gbz1, if_true, cmp_lt, cmp_gt, Int32.toInt_toInt64]
  by_cases h1 : v.toInt < lo.toInt
  · rw [if_pos h1, zi_f (by omega)]
  · rw [if_neg h1]
    by_cases h2 : hi.toInt < v.toInt
    · rw [if_pos h2, zi_f (by omega)]
    · rw [if_neg h2, zi_t (by omega)]
/-- a loop by an invariant over its turns -/
theorem loopN {σ ρ : Type} {F : Nat → σ → Option ρ} {Post : ρ → Prop} {n : Nat} (I : Nat → σ → Prop)
    (step : ∀ (j : Nat) (s : σ) (k : Nat), j < n → I j s → (∃ r, F (k + 1) s = some r ∧ Post r) ∨ ∃ s', I (j + 1) s' ∧ F (k + 1) s = F k s')
    (last : ∀ (s : σ) (k : Nat), I n s → ∃ r, F (k + 1) s = some r ∧ Post r) : ∀ (d j : Nat) (s : σ) (K : Nat), j + d = n → d < K → I j s → ∃ r, F K s = some r ∧ Post r := by
  intro d
  induction d with
  | zero =>
    intro j s K hj hK hI
    obtain ⟨k, rfl⟩ : ∃ k, K = k + 1 := ⟨K - 1, by omega⟩
    have : j = n := by omega
    subst this
    exact last s k hI
  | succ d ih =>
    intro j s K hj hK hI
    obtain ⟨k, rfl⟩ : ∃ k, K = k + 1 := ⟨K - 1, by omega⟩
    rcases step j s k (by omega) hI with h | ⟨s', hI', he⟩
    · exact h
    · rw [he]
      exact ih (j + 1) s' k (by omega) (by omega) hI'
/-- the same, for what the loop answers -/
theorem loopV {σ ρ : Type} {F : Nat → σ → Option ρ} {v : ρ} {n : Nat} (I : Nat → σ → Prop)
    (step : ∀ (j : Nat) (s : σ) (k : Nat), j < n → I j s → F (k + 1) s = some v ∨ ∃ s', I (j + 1) s' ∧ F (k + 1) s = F k s')
    (last : ∀ (s : σ) (k : Nat), I n s → F (k + 1) s = some v) {s : σ} {K : Nat} (hK : n < K) (h0 : I 0 s) : F K s = some v := by
  obtain ⟨r, h1, rfl⟩ := loopN (F := F) (Post := fun r => r = v) (n := n) I (fun j s k hj hI => (step j s k hj hI).imp (fun h => ⟨v, h, rfl⟩) id) (fun s k hI => ⟨v, last s k hI, rfl⟩) n 0 s K (by omega) hK h0
  exact h1
theorem upd_e {f : xF} {k : Nat} {v : Int32} : upd f k v k = v := by simp [upd]
theorem upd_n {f : xF} {k j : Nat} {v : Int32} (h : j ≠ k) : upd f k v j = f j := by simp [upd, h]

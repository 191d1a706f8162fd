/-! seldom (mine) -/
def ps_b (D : xD) (N h : Nat) (n : Int32) : Bool := (List.range N).any (fun s => decide (¬ pv_w D h s n (D.2 7 n.toNatClampNeg) ≤ 0))
theorem ps_b_t {D : xD} {N h : Nat} {n : Int32} : ps_b D N h n = true ↔ ∃ s, s < N ∧ ¬ pv_w D h s n (D.2 7 n.toNatClampNeg) ≤ 0 := by
  unfold ps_b
  simp only [List.any_eq_true, List.mem_range, decide_eq_true_eq]
theorem ps0 {D : xD} {η : cx_H} {θ : cx_T} {N : Nat} {f0 : xF} {g : xG} {h n : Int32} (R : cR D f0 g) (Gd : Good D) (H : HR D η) (T : TR D θ) (hN : D.1 0 = i32 N) (hN10 : N ≤ 10) (h0 : 0 ≤ h.toInt) (h1 : h.toInt < (D.1 2).toInt) (hn : gin n 60 = true) :
    ∀ (d j K : Nat) (f : xF), j + d = N → d < K → (∀ k, k ≠ 11 → k ≠ 12 → k ≠ 13 → f k = f0 k) → (∀ s, s < j → pv_w D h.toNatClampNeg s n (D.2 7 n.toNatClampNeg) ≤ 0) →
      ∃ f1 : xF, (∀ k, k ≠ 11 → k ≠ 12 → k ≠ 13 → f1 k = f0 k) ∧ pX0_pushesSome_2 η θ K f g h n (i32 j) = some (bz (ps_b D N h.toNatClampNeg n), f1, g) := by
  intro d
  induction d with
  | zero =>
    intro j K f hj hK hf hI
    obtain ⟨k, rfl⟩ : ∃ k, K = k + 1 := ⟨K - 1, by omega⟩
    refine ⟨f, hf, ?_⟩
    rw [pX0_pushesSome_2, if_pos (by rw [hf 2 (by decide) (by decide) (by decide), R.stones, hN, i32_le (by omega) (by omega)]; omega)]
    have : ps_b D N h.toNatClampNeg n = false := by
      cases hb : ps_b D N h.toNatClampNeg n
      · rfl
      · obtain ⟨s, s1, s2⟩ := ps_b_t.mp hb
        exact absurd (hI s (by omega)) s2
    rw [this]; rfl
  | succ d ih =>
    intro j K f hj hK hf hI
    obtain ⟨k, rfl⟩ : ∃ k, K = k + 1 := ⟨K - 1, by omega⟩
    have hg : gin (i32 j) 10 = true := gin_i (by omega) (by omega)
    have hcl : (i32 j).toNatClampNeg = j := i32_cl (by omega)
    have A : aR D f g := (R.f3 hf).aR
    obtain ⟨f1, hf1, e⟩ := goesBy0 (s := i32 j) Gd H T A h0 h1 hg hn
    rw [hcl, R.aWind] at e
    rw [pX0_pushesSome_2, if_neg (by rw [hf 2 (by decide) (by decide) (by decide), R.stones, hN, i32_le (by omega) (by omega)]; omega), if_pos hg, R.aW, hcl, e]
    simp only [Option.bind_some]
    have hf2 : ∀ k, k ≠ 11 → k ≠ 12 → k ≠ 13 → f1 k = f0 k := fun k k1 k2 k3 => (hf1 k k1 k2 k3).trans (hf k k1 k2 k3)
    by_cases c : pv_w D h.toNatClampNeg j n (D.2 7 n.toNatClampNeg) ≤ 0
    · rw [if_pos c, i32_succ]
      refine ih (j + 1) k f1 (by omega) (by omega) hf2 (fun s hs => ?_)
      by_cases c2 : s = j
      · rw [c2]; exact c
      · exact hI s (by omega)
    · rw [if_neg c, ps_b_t.mpr ⟨j, by omega, c⟩]
      exact ⟨f1, hf2, rfl⟩
theorem ps8 {D : xD} {η : cx_H} {θ : cx_T} {N : Nat} {h n : Int32} (Gd : Good D) (H : HR D η) (T : TR D θ) (hN : D.1 0 = i32 N) (hN10 : N ≤ 10) (h0 : 0 ≤ h.toInt) (h1 : h.toInt < (D.1 2).toInt) (hn : gin n 60 = true) :
    ∀ (d j K : Nat) (p : Nat → Int32), j + d = N → d < K → (∀ s, s < j → pv_w D h.toNatClampNeg s n (D.2 7 n.toNatClampNeg) ≤ 0) →
      ∃ p2, pX8_pushesSome_2 K D.1 (va_up D.2 26 p) h n (i32 j) = some (bz (ps_b D N h.toNatClampNeg n), D.1, va_up D.2 26 p2) := by
  intro d
  induction d with
  | zero =>
    intro j K p hj hK hI
    obtain ⟨k, rfl⟩ : ∃ k, K = k + 1 := ⟨K - 1, by omega⟩
    refine ⟨p, ?_⟩
    rw [pX8_pushesSome_2, if_pos (by rw [hN, i32_le (by omega) (by omega)]; omega)]
    have : ps_b D N h.toNatClampNeg n = false := by
      cases hb : ps_b D N h.toNatClampNeg n
      · rfl
      · obtain ⟨s, s1, s2⟩ := ps_b_t.mp hb
        exact absurd (hI s (by omega)) s2
    rw [this]; rfl
  | succ d ih =>
    intro j K p hj hK hI
    obtain ⟨k, rfl⟩ : ∃ k, K = k + 1 := ⟨K - 1, by omega⟩
    have hg : gin (i32 j) 10 = true := gin_i (by omega) (by omega)
    have hcl : (i32 j).toNatClampNeg = j := i32_cl (by omega)
    obtain ⟨p2, e⟩ := pushD (g8 := va_up D.2 26 p) (s := i32 j) Gd H T (fun q hq => va_up_ne _ _ hq) h0 h1 hg hn
    rw [hcl, va_up_up] at e
    rw [pX8_pushesSome_2, if_neg (by rw [hN, i32_le (by omega) (by omega)]; omega), e]
    simp only [Option.bind_some]
    by_cases c : pv_w D h.toNatClampNeg j n (D.2 7 n.toNatClampNeg) ≤ 0
    · rw [if_pos c, i32_succ]
      refine ih (j + 1) k p2 (by omega) (by omega) (fun s hs => ?_)
      by_cases c2 : s = j
      · rw [c2]; exact c
      · exact hI s (by omega)
    · rw [if_neg c, ps_b_t.mpr ⟨j, by omega, c⟩]
      exact ⟨p2, rfl⟩
/-- the least weight -/
def lgt (a : Nat → Int32) : Nat → Nat → Int32 → Int32
  | 0, _, v => v
  | d + 1, j, v => lgt a d (j + 1) (if v = 0 then a j else if v ≤ a j then v else a j)
theorem lgt8 {f : xF} {g : xG} {N : Nat} (hf : f 0 = i32 N) (hN : N ≤ 10) : ∀ (d j K : Nat) (v : Int32), j + d = N → d < K → pX8_lightest_4 f g K v (i32 j) = some (lgt (g 3) d j v) := by
  intro d
  induction d with
  | zero =>
    intro j K v hj hK
    obtain ⟨k, rfl⟩ : ∃ k, K = k + 1 := ⟨K - 1, by omega⟩
    rw [pX8_lightest_4, if_pos (by rw [hf, i32_le (by omega) (by omega)]; omega)]; rfl
  | succ d ih =>
    intro j K v hj hK
    obtain ⟨k, rfl⟩ : ∃ k, K = k + 1 := ⟨K - 1, by omega⟩
    have hg : gin (i32 j) 10 = true := gin_i (by omega) (by omega)
    have hcl : (i32 j).toNatClampNeg = j := i32_cl (by omega)
    rw [pX8_lightest_4, if_neg (by rw [hf, i32_le (by omega) (by omega)]; omega)]
    unfold pX8_lightest_26 pX8_lightest_36 lgt
    rw [if_pos hg, if_pos hg, hcl, i32_succ, ih (j + 1) k _ (by omega) (by omega), ih (j + 1) k _ (by omega) (by omega)]
    by_cases c : v = 0
    · rw [if_pos c, if_pos c]
    · rw [if_neg c, if_neg c]
      by_cases c2 : v ≤ g 3 j
      · rw [if_pos c2, if_pos c2]
      · rw [if_neg c2, if_neg c2]
theorem lgt0 {η : cx_H} {θ : cx_T} {f : xF} {g : xG} {N : Nat} {h n : Int32} (hf : f 2 = i32 N) (hN : N ≤ 10) : ∀ (d j K : Nat) (v : Int32), j + d = N → d < K → pX0_isCalled_5 η θ K f g h n v (i32 j) = pX0_isCalled_47 η θ f g h n (lgt (g 0) d j v) := by
  intro d
  induction d with
  | zero =>
    intro j K v hj hK
    obtain ⟨k, rfl⟩ : ∃ k, K = k + 1 := ⟨K - 1, by omega⟩
    rw [pX0_isCalled_5, if_pos (by rw [hf, i32_le (by omega) (by omega)]; omega)]; rfl
  | succ d ih =>
    intro j K v hj hK
    obtain ⟨k, rfl⟩ : ∃ k, K = k + 1 := ⟨K - 1, by omega⟩
    have hg : gin (i32 j) 10 = true := gin_i (by omega) (by omega)
    have hcl : (i32 j).toNatClampNeg = j := i32_cl (by omega)
    rw [pX0_isCalled_5, if_neg (by rw [hf, i32_le (by omega) (by omega)]; omega)]
    unfold pX0_isCalled_29 pX0_isCalled_40 lgt
    rw [if_pos hg, if_pos hg, hcl, i32_succ, ih (j + 1) k _ (by omega) (by omega), ih (j + 1) k _ (by omega) (by omega)]
    by_cases c : v = 0
    · rw [if_pos c, if_pos c]
    · rw [if_neg c, if_neg c]
      by_cases c2 : v ≤ g 0 j
      · rw [if_pos c2, if_pos c2]
      · rw [if_neg c2, if_neg c2]
def ca_b (D : xD) (N h : Nat) (n : Int32) : Bool := decide (¬ pv_r D 1 (lgt (D.2 3) N 0 0) n (D.2 7 n.toNatClampNeg) (D.2 10 h) = 0)
theorem wmm (r : Int32) : wmax (-2147483648) (wmin 2147483647 r) = r := by
  have h1 := i32_min r
  have h2 := i32_max r
  have e1 : (-2147483648 : Int32).toInt = -2147483648 := rfl
  have e2 : (2147483647 : Int32).toInt = 2147483647 := rfl
  have hm : wmin 2147483647 r = r := by
    unfold wmin
    split
    · rfl
    · next c =>
      have : ¬ r.toInt < (2147483647 : Int32).toInt := fun q => c (Int32.lt_iff_toInt_lt.mpr q)
      rw [← Int32.toInt_inj]; omega
  rw [hm]
  unfold wmax
  split
  · rfl
  · next c =>
    have : ¬ (-2147483648 : Int32).toInt < r.toInt := fun q => c (Int32.lt_iff_toInt_lt.mpr q)
    rw [← Int32.toInt_inj]; omega
theorem ca0 {D : xD} {η : cx_H} {θ : cx_T} {N : Nat} {f0 f : xF} {g : xG} {h n : Int32} (R : cR D f0 g) (Gd : Good D) (H : HR D η) (T : TR D θ) (hN : D.1 0 = i32 N) (hN10 : N ≤ 10) (h0 : 0 ≤ h.toInt) (h1 : h.toInt < (D.1 2).toInt) (hn : gin n 60 = true) (hf : ∀ k, k ≠ 11 → k ≠ 12 → k ≠ 13 → f k = f0 k) :
    ∃ f1 : xF, (∀ k, k ≠ 11 → k ≠ 12 → k ≠ 13 → f1 k = f0 k) ∧ pX0_isCalled η θ f g h n = some (bz (ca_b D N h.toNatClampNeg n), f1, g) := by
  obtain ⟨e1, e2, e3, e4, e5, e6⟩ := hw_of H h0 h1
  have hg : gk η h [0, 1, 2, 3, 4, 5] = true := gk_t h0 e1 (ct6 _ (by omega))
  have A : aR D f g := (R.f3 hf).aR
  refine ⟨upd (upd (upd f 13 n) 11 (lgt (D.2 3) N 0 0)) 12 (hnu η h), fun k k1 k2 k3 => by rw [upd_n k2, upd_n k1, upd_n k3]; exact hf k k1 k2 k3, ?_⟩
  show pX0_isCalled_5 η θ 5000 f g h n 0 (i32 0) = _
  rw [lgt0 (by rw [hf 2 (by decide) (by decide) (by decide), R.stones, hN]) hN10 N 0 5000 0 (by omega) (by omega), R.aW]
  unfold pX0_isCalled_47 pX0_isCalled_72
  have := asksD (η := η) (k := 1) (n := n) (w := lgt (D.2 3) N 0 0) (nu := hnu η h) (lo := -2147483648) (hi := 2147483647) Gd T A (by decide) hn
  rw [if_pos hg, show (1 : Int32) = i32 1 from rfl, this, wmm, R.aWind]
  simp only [Option.bind_some]
  unfold ca_b
  rw [e5]
  by_cases c : pv_r D 1 (lgt (D.2 3) N 0 0) n (D.2 7 n.toNatClampNeg) (hnu η h) = 0
  · rw [if_pos c, decide_eq_false (fun q => q c)]; rfl
  · rw [if_neg c, decide_eq_true c]; rfl
/-- the longest row of nights without a push -/
def lgn (PB : Nat → Bool) : Nat → Nat → Int32 → Int32 → Int32
  | 0, _, most, _ => most
  | d + 1, j, most, now => lgn PB d (j + 1) (wmax most (if PB j = true then 0 else now + 1)) (if PB j = true then 0 else now + 1)
theorem lgn0 {D : xD} {η : cx_H} {θ : cx_T} {N M : Nat} {f0 : xF} {g : xG} {h : Int32} (R : cR D f0 g) (Gd : Good D) (H : HR D η) (T : TR D θ) (hN : D.1 0 = i32 N) (hN10 : N ≤ 10) (hM : D.1 1 = i32 M) (hM60 : M ≤ 60) (h0 : 0 ≤ h.toInt) (h1 : h.toInt < (D.1 2).toInt) :
    ∀ (d j K : Nat) (f : xF) (most now : Int32), j + d = M → d < K → (∀ k, k ≠ 11 → k ≠ 12 → k ≠ 13 → f k = f0 k) →
      ∃ f1 : xF, (∀ k, k ≠ 11 → k ≠ 12 → k ≠ 13 → f1 k = f0 k) ∧ pX0_longest_7 η θ K f g h most now (i32 j) = some (lgn (fun i => ps_b D N h.toNatClampNeg (i32 i)) d j most now, f1, g) := by
  intro d
  induction d with
  | zero =>
    intro j K f most now hj hK hf
    obtain ⟨k, rfl⟩ : ∃ k, K = k + 1 := ⟨K - 1, by omega⟩
    refine ⟨f, hf, ?_⟩
    rw [pX0_longest_7, if_pos (by rw [hf 7 (by decide) (by decide) (by decide), R.nights, hM, i32_le (by omega) (by omega)]; omega)]; rfl
  | succ d ih =>
    intro j K f most now hj hK hf
    obtain ⟨k, rfl⟩ : ∃ k, K = k + 1 := ⟨K - 1, by omega⟩
    obtain ⟨f1, hf1, e⟩ := ps0 (n := i32 j) R Gd H T hN hN10 h0 h1 (gin_i (by omega) (by omega)) N 0 5000 f (by omega) (by omega) hf (fun s hs => by omega)
    rw [pX0_longest_7, if_neg (by rw [hf 7 (by decide) (by decide) (by decide), R.nights, hM, i32_le (by omega) (by omega)]; omega), show pX0_pushesSome η θ f g h (i32 j) = _ from e]
    simp only [Option.bind_some, bz_0]
    unfold pX0_longest_33 lgn
    rw [i32_succ]
    cases hb : ps_b D N h.toNatClampNeg (i32 j)
    · simp only [if_true, Bool.false_eq_true, if_false]
      exact ih (j + 1) k f1 _ _ (by omega) (by omega) hf1
    · simp only [if_true, Bool.true_eq_false, if_false]
      exact ih (j + 1) k f1 _ _ (by omega) (by omega) hf1
theorem wmax_le (x y : Int32) : (if y ≤ x then x else y) = wmax x y := by
  unfold wmax
  by_cases c : x < y
  · have d := Int32.lt_iff_toInt_lt.mp c
    rw [if_pos c, if_neg (fun q => by have := Int32.le_iff_toInt_le.mp q; omega)]
  · have d : ¬ x.toInt < y.toInt := fun q => c (Int32.lt_iff_toInt_lt.mpr q)
    rw [if_neg c, if_pos (Int32.le_iff_toInt_le.mpr (by omega))]
theorem seldom_loop {D : xD} {η : cx_H} {θ : cx_T} {N M : Nat} {f0 : xF} {g : xG} {h what : Int32} (R : cR D f0 g) (Gd : Good D) (H : HR D η) (T : TR D θ) (hN : D.1 0 = i32 N) (hN10 : N ≤ 10) (hM : D.1 1 = i32 M) (hM60 : M ≤ 60) (h0 : 0 ≤ h.toInt) (h1 : h.toInt < (D.1 2).toInt) :
    ∀ (d j K K8 : Nat) (f : xF) (p : Nat → Int32) (a b c row lon : Int32), j + d = M → d < K → d < K8 → (∀ k, k ≠ 11 → k ≠ 12 → k ≠ 13 → f k = f0 k) → 0 ≤ a.toInt → a.toInt ≤ j →
      ∃ (f1 : xF) (p2 : Nat → Int32) (A B C : Int32), (∀ k, k ≠ 11 → k ≠ 12 → k ≠ 13 → f1 k = f0 k) ∧ 0 ≤ A.toInt ∧ A.toInt ≤ 60 ∧
        pX0_seldom_43 η θ K f g what h a b c (i32 j) = pX0_seldom_126 η θ f1 g what h A B C ∧
        pX8_seldom_39 K8 D.1 (va_up D.2 26 p) h what a row lon b c (i32 j) = pX8_seldom_164 D.1 (va_up D.2 26 p2) what A (lgn (fun i => ps_b D N h.toNatClampNeg (i32 i)) d j lon row) B C := by
  obtain ⟨e1, e2, e3, e4, e5, e6⟩ := hw_of H h0 h1
  have h0' : 0 ≤ h := by rw [Int32.le_iff_toInt_le, Int32.toInt_zero]; exact h0
  intro d
  induction d with
  | zero =>
    intro j K K8 f p a b c row lon hj hK hK8 hf ha0 ha1
    obtain ⟨k, rfl⟩ : ∃ k, K = k + 1 := ⟨K - 1, by omega⟩
    obtain ⟨k8, rfl⟩ : ∃ k, K8 = k + 1 := ⟨K8 - 1, by omega⟩
    refine ⟨f, p, a, b, c, hf, ha0, by omega, ?_, ?_⟩
    · rw [pX0_seldom_43, if_pos (by rw [hf 7 (by decide) (by decide) (by decide), R.nights, hM, i32_le (by omega) (by omega)]; omega)]
    · rw [pX8_seldom_39, if_pos (by rw [hM, i32_le (by omega) (by omega)]; omega)]; rfl
  | succ d ih =>
    intro j K K8 f p a b c row lon hj hK hK8 hf ha0 ha1
    obtain ⟨k, rfl⟩ : ∃ k, K = k + 1 := ⟨K - 1, by omega⟩
    obtain ⟨k8, rfl⟩ : ∃ k, K8 = k + 1 := ⟨K8 - 1, by omega⟩
    have hgn : gin (i32 j) 60 = true := gin_i (by omega) (by omega)
    obtain ⟨f1, hf1, E1⟩ := ps0 (n := i32 j) R Gd H T hN hN10 h0 h1 hgn N 0 5000 f (by omega) (by omega) hf (fun s hs => by omega)
    obtain ⟨f2, hf2, E2⟩ := ca0 (n := i32 j) R Gd H T hN hN10 h0 h1 hgn hf1
    obtain ⟨p1, E3⟩ := ps8 (n := i32 j) Gd H T hN hN10 h0 h1 hgn N 0 5000 p (by omega) (by omega) (fun s hs => by omega)
    have E4 : pX8_lightest D.1 (va_up D.2 26 p1) = some (lgt (D.2 3) N 0 0) := by
      have := lgt8 (f := D.1) (g := va_up D.2 26 p1) hN hN10 N 0 5000 0 (by omega) (by omega)
      rw [va_up_ne _ _ (show 3 ≠ 26 by decide)] at this
      exact this
    obtain ⟨p2, E5⟩ := tellsD (f8 := D.1) (g8 := va_up D.2 26 p1) (k := 1) (w := lgt (D.2 3) N 0 0) (n := i32 j) (h := h) (wd := D.2 7 (i32 j).toNatClampNeg) (nu := D.2 10 h.toNatClampNeg) Gd T (by decide) rfl (fun q hq => va_up_ne _ _ hq) hgn (fun q => by rw [wind8 (nt27 Gd) hgn, va_up_ne _ _ (show 7 ≠ 26 by decide), va_up_ne _ _ (show 7 ≠ 26 by decide)]) (Or.inl ⟨h0', e6, rfl⟩)
    rw [va_up_up] at E5
    have hcb : (pv_r D 1 (lgt (D.2 3) N 0 0) (i32 j) (D.2 7 (i32 j).toNatClampNeg) (D.2 10 h.toNatClampNeg) = 0) ↔ ca_b D N h.toNatClampNeg (i32 j) = false := by
      unfold ca_b
      rw [decide_eq_false_iff_not, Classical.not_not]
    rw [pX0_seldom_43, if_neg (by rw [hf 7 (by decide) (by decide) (by decide), R.nights, hM, i32_le (by omega) (by omega)]; omega), show pX0_pushesSome η θ f g h (i32 j) = _ from E1]
    rw [pX8_seldom_39, if_neg (by rw [hM, i32_le (by omega) (by omega)]; omega), show pX8_pushesSome D.1 (va_up D.2 26 p) h (i32 j) = _ from E3]
    simp only [Option.bind_some]
    rw [E2, E4]
    simp only [Option.bind_some]
    rw [show (1 : Int32) = i32 1 from rfl, E5, show i32 1 = (1 : Int32) from rfl]
    simp only [Option.bind_some, hcb]
    unfold pX0_seldom_82 pX0_seldom_97 pX0_seldom_116 pX0_seldom_117 pX8_seldom_77 pX8_seldom_90 pX8_seldom_105 pX8_seldom_121 pX8_seldom_135 pX8_seldom_154 pX8_seldom_155 lgn
    simp only [bz_0, wmax_le, i32_succ]
    have ha1' : (a + 1).toInt = a.toInt + 1 := one_add (x := a) (hi := 60) (by omega) (by decide)
    have haz : (a + 0).toInt = a.toInt := by rw [Int32.add_zero]
    have fix : ∀ t x : Int32, (if t ≤ x then x else t) = wmax x t := fun t x => wmax_le x t
    cases hb : ps_b D N h.toNatClampNeg (i32 j) <;> cases hc : ca_b D N h.toNatClampNeg (i32 j)
    · simp only [if_true, Bool.false_eq_true, if_false, bz_0, show ¬ (1 : Int32) = 0 by decide]
      have := ih (j + 1) k k8 f2 p2 (a + 0) (b + 0) (c + 0) (row + 1) (wmax lon (row + 1)) (by omega) (by omega) (by omega) hf2 (by omega) (by omega)
      rw [← wmax_le] at this ⊢
      split <;> (rename_i q; simp only [q, if_true, if_false] at this; exact this)
    · simp only [if_true, Bool.false_eq_true, Bool.true_eq_false, if_false, bz_0, show ¬ (1 : Int32) = 0 by decide]
      have := ih (j + 1) k k8 f2 p2 (a + 0) (b + 1) (c + 0) (row + 1) (wmax lon (row + 1)) (by omega) (by omega) (by omega) hf2 (by omega) (by omega)
      rw [← wmax_le] at this ⊢
      split <;> (rename_i q; simp only [q, if_true, if_false] at this; exact this)
    · simp only [if_true, Bool.true_eq_false, Bool.false_eq_true, if_false, bz_0, show ¬ (1 : Int32) = 0 by decide]
      have := ih (j + 1) k k8 f2 p2 (a + 1) (b + 0) (c + 0) 0 (wmax lon 0) (by omega) (by omega) (by omega) hf2 (by omega) (by omega)
      rw [← wmax_le] at this ⊢
      split <;> (rename_i q; simp only [q, if_true, if_false] at this; exact this)
    · simp only [if_true, Bool.true_eq_false, Bool.false_eq_true, if_false, bz_0, show ¬ (1 : Int32) = 0 by decide]
      have := ih (j + 1) k k8 f2 p2 (a + 1) (b + 1) (c + 1) 0 (wmax lon 0) (by omega) (by omega) (by omega) hf2 (by omega) (by omega)
      rw [← wmax_le] at this ⊢
      split <;> (rename_i q; simp only [q, if_true, if_false] at this; exact this)
theorem div01 (f : xF) (g : xG) : pX8_divisor f g 0 1 = some 1 := by
  show pX8_divisor_6 f g (4998 + 1 + 1) 0 1 = _
  rw [pX8_divisor_6, if_neg (by decide), if_neg (by decide), pX8_divisor_6, if_pos (by decide)]
theorem P_seldom {D : xD} {η : cx_H} {θ : cx_T} {f : xF} {g : xG} (R : cR D f g) (Gd : Good D) (H : HR D η) (T : TR D θ) (h what : Int32) : Sim D [] [26] (pX0_seldom η θ f g h what) (pX8_seldom D.1 D.2 h what) := by
  have hd0 : 0 ≤ (D.1 2).toInt := (Gd.1 2).1
  obtain ⟨N, hN10, hN⟩ := gs_n Gd
  obtain ⟨M, hM60, hM⟩ := i32_ex (x := D.1 1) (N := 60) (Gd.1 1).1 (Gd.1 1).2 (by omega)
  simp only [pX0_seldom, pX8_seldom, pX0_seldom_0, pX8_seldom_0, pX0_seldom_20, pX8_seldom_18, isHo0, isHo8, in0, in8, R.hows, Option.bind_some, zi_0, ite_not, Int32.reduceToInt, Int64.reduceToInt]
  by_cases c1 : 0 ≤ h.toInt ∧ h.toInt ≤ (D.1 2 - 1).toInt
  case neg => simp only [c1, if_false]; exact Sim.same R Gd
  by_cases c2 : 0 ≤ what.toInt ∧ what.toInt ≤ 5
  case neg => simp only [c1, and_self, if_true, c2, if_false]; exact Sim.same R Gd
  have h1 := cnt_lt hd0 c1.2
  obtain ⟨e1, e2, e3, e4, e5, e6⟩ := hw_of H c1.1 h1
  have hg : gk η h [0, 1, 2, 3, 4, 5] = true := gk_t c1.1 e1 (ct6 _ (by omega))
  simp only [c1, c2, and_self, if_true, e6, hg]
  obtain ⟨f1, p2, A, B, C, r1, r2, r3, r4, r5⟩ := seldom_loop (what := what) R Gd H T hN hN10 hM hM60 c1.1 h1 M 0 5000 5000 f (D.2 26) 0 0 0 0 0 (by omega) (by omega) (by omega) (fun _ _ _ _ => rfl) (by decide) (by decide)
  rw [va_up_id] at r5
  have r4' : pX0_seldom_43 η θ 5000 f g what h 0 0 0 0 = pX0_seldom_126 η θ f1 g what h A B C := r4
  have r5' : pX8_seldom_39 5000 D.1 D.2 h what 0 0 0 0 0 0 = pX8_seldom_164 D.1 (va_up D.2 26 p2) what A (lgn (fun i => ps_b D N h.toNatClampNeg (i32 i)) M 0 0 0) B C := r5
  rw [r4', r5']
  have leaf : ∀ (x : Int64) (f1 : xF), (∀ k, k ≠ 11 → k ≠ 12 → k ≠ 13 → f1 k = f k) → Sim D [] [26] (some (x, f1, g)) (some (x, D.1, va_up D.2 26 p2)) := fun x f1 hf => Sim26 R Gd (by decide) hf
  have hw : what = 0 ∨ what = 1 ∨ what = 2 ∨ what = 3 ∨ what = 4 ∨ what = 5 := by
    have e : ∀ k : Int32, what.toInt = k.toInt → what = k := fun k q => Int32.toInt_inj.mp q
    have : what.toInt = 0 ∨ what.toInt = 1 ∨ what.toInt = 2 ∨ what.toInt = 3 ∨ what.toInt = 4 ∨ what.toInt = 5 := by omega
    rcases this with q | q | q | q | q | q
    · exact Or.inl (e 0 q)
    · exact Or.inr (Or.inl (e 1 q))
    · exact Or.inr (Or.inr (Or.inl (e 2 q)))
    · exact Or.inr (Or.inr (Or.inr (Or.inl (e 3 q))))
    · exact Or.inr (Or.inr (Or.inr (Or.inr (Or.inl (e 4 q)))))
    · exact Or.inr (Or.inr (Or.inr (Or.inr (Or.inr (e 5 q)))))
  have hf7 : f1 7 = D.1 1 := (r1 7 (by decide) (by decide) (by decide)).trans R.nights
  -- the twin's divisor
  have hdv : ∃ (dv ab be : Int64), ¬ dv = 0 ∧ pX8_seldom_164 D.1 (va_up D.2 26 p2) what A (lgn (fun i => ps_b D N h.toNatClampNeg (i32 i)) M 0 0 0) B C = (if what = 0 then some (A.toInt64, D.1, va_up D.2 26 p2) else if what = 1 then some ((lgn (fun i => ps_b D N h.toNatClampNeg (i32 i)) M 0 0 0).toInt64, D.1, va_up D.2 26 p2) else if what = 2 then some (ab / dv, D.1, va_up D.2 26 p2) else if what = 3 then some (be / dv, D.1, va_up D.2 26 p2) else if what = 4 then some (B.toInt64, D.1, va_up D.2 26 p2) else some (C.toInt64, D.1, va_up D.2 26 p2)) ∧ ((A = 0 ∧ ab = 0 ∧ be = 1 ∧ dv = 1) ∨ (¬ A = 0 ∧ ∀ v4 : Int32, pX0_lowest f1 g ((f1 7).toInt64) A.toInt64 v4 = some ((if v4 = 0 then ab else be) / dv))) := by
    by_cases cA : A = 0
    · refine ⟨1, 0, 1, by decide, ?_, Or.inl ⟨cA, rfl, rfl, rfl⟩⟩
      unfold pX8_seldom_164 pX8_seldom_177 pX8_seldom_189
      rw [if_pos cA, if_pos cA, div01]
      simp only [Option.bind_some, show ¬ (1 : Int64) = 0 by decide, if_false]
    · have hA : A.toInt ≠ 0 := ne_toInt cA
      have hAt : A.toInt64.toInt = A.toInt := Int32.toInt_toInt64 A
      have hMt : (D.1 1).toInt64.toInt = (D.1 1).toInt := Int32.toInt_toInt64 _
      have hM0 : 0 ≤ (D.1 1).toInt := (Gd.1 1).1
      obtain ⟨dv, d1, d2, d3⟩ := gcd_eq (a := (D.1 1).toInt64) (b := A.toInt64) (by omega) (by omega) (Or.inr (by omega))
      have hA0 : ¬ A.toInt64 = 0 := fun q => by rw [q] at hAt; have : (0 : Int64).toInt = 0 := rfl; omega
      refine ⟨dv, (D.1 1).toInt64, A.toInt64, d1, ?_, Or.inr ⟨cA, fun v4 => by rw [hf7]; exact d3 f1 g v4 hA0⟩⟩
      unfold pX8_seldom_164 pX8_seldom_177 pX8_seldom_189
      rw [if_neg cA, if_neg cA, d2]
      simp only [Option.bind_some, d1, if_false]
  obtain ⟨dv, ab, be, k1, k2, k3⟩ := hdv
  rw [k2]
  unfold pX0_seldom_126 pX0_seldom_197
  rcases hw with rfl | rfl | rfl | rfl | rfl | rfl
  · exact leaf _ f1 r1
  · obtain ⟨f2, hf2, e⟩ := lgn0 R Gd H T hN hN10 hM hM60 c1.1 h1 M 0 5000 f1 0 0 (by omega) (by omega) r1
    have e' : pX0_longest η θ f1 g h = some (lgn (fun i => ps_b D N h.toNatClampNeg (i32 i)) M 0 0 0, f2, g) := e
    rw [if_neg (by decide), if_pos rfl, if_neg (by decide), if_pos rfl, e']
    exact leaf _ f2 hf2
  · simp only [show ¬ (2 : Int32) = 0 by decide, show ¬ (2 : Int32) = 1 by decide, if_false, if_true]
    rcases k3 with ⟨q1, q2, q3, q4⟩ | ⟨q1, q2⟩
    · rw [if_pos q1, q2, q4]; exact leaf _ f1 r1
    · rw [if_neg q1, q2]; exact leaf _ f1 r1
  · simp only [show ¬ (3 : Int32) = 0 by decide, show ¬ (3 : Int32) = 1 by decide, show ¬ (3 : Int32) = 2 by decide, if_false, if_true]
    rcases k3 with ⟨q1, q2, q3, q4⟩ | ⟨q1, q2⟩
    · rw [if_pos q1, q3, q4]; exact leaf _ f1 r1
    · rw [if_neg q1, q2]; exact leaf _ f1 r1
  · exact leaf _ f1 r1
  · exact leaf _ f1 r1

/-! look (mine) -/
theorem and1_32 (x : Int32) : (x &&& 1) = 0 ∨ (x &&& 1) = 1 := by
  have h : (x &&& 1).toBitVec = BitVec.ofNat 32 (x.toBitVec.toNat % 2) := by
    apply BitVec.eq_of_toNat_eq
    show (x.toBitVec &&& 1#32).toNat = _
    rw [BitVec.toNat_and, BitVec.toNat_ofNat, BitVec.toNat_ofNat, show 1 % 2 ^ 32 = 2 ^ 1 - 1 from rfl, Nat.and_two_pow_sub_one_eq_mod]
    omega
  have hm : x.toBitVec.toNat % 2 = 0 ∨ x.toBitVec.toNat % 2 = 1 := by omega
  rcases hm with q | q
  · left; rw [q] at h; exact Int32.toBitVec_inj.mp h
  · right; rw [q] at h; exact Int32.toBitVec_inj.mp h
theorem bit_0 (x : Int32) : (x &&& 1 = 0) ↔ ¬ (x &&& 1 = 1) := by
  rcases and1_32 x with q | q
  · rw [q]; decide
  · rw [q]; decide
def lk_w (a c : Nat → Int32) (set : Int32) : Nat → Nat → Int32 × Int32 → Int32 × Int32
  | 0, _, s => s
  | d + 1, j, s => lk_w a c set d (j + 1) (if ((set >>> (i32 j &&& 31)) &&& 1) = 1 then (s.1 + a j, s.2 + (3 + c j)) else s)
theorem lk0 {η : cx_H} {θ : cx_T} {f : xF} {g : xG} {m : Nat} {v1 v2 v4 v5 v6 set : Int32} (k83 : xF → xG → Int32 → Int32 → Int32 → Int32 → Int32 → Int32 → Int32 → Option (Int32 × xF × xG)) (hm : m ≤ 12) : ∀ (d j K : Nat) (s : Int32 × Int32), j + d = m → d < K → pX0_look_100 η θ k83 K f g v1 v2 (i32 m) v4 v5 v6 set s.1 s.2 (i32 j) = pX0_look_168 η θ k83 f g v1 v2 (i32 m) v4 v5 v6 set (lk_w (g 40) (g 4) set d j s).1 (lk_w (g 40) (g 4) set d j s).2 := by
  intro d
  induction d with
  | zero =>
    intro j K s hj hK
    obtain ⟨k, rfl⟩ : ∃ k, K = k + 1 := ⟨K - 1, by omega⟩
    rw [pX0_look_100, if_pos (by rw [i32_le (by omega) (by omega)]; omega)]; rfl
  | succ d ih =>
    intro j K s hj hK
    obtain ⟨k, rfl⟩ : ∃ k, K = k + 1 := ⟨K - 1, by omega⟩
    have hg : gin (i32 j) 12 = true := gin_i (by omega) (by omega)
    have hg2 : gin (i32 j) 60 = true := gin_i (by omega) (by omega)
    have hcl : (i32 j).toNatClampNeg = j := i32_cl (by omega)
    rw [pX0_look_100, if_neg (by rw [i32_le (by omega) (by omega)]; omega), if_pos hg, hcl]
    unfold pX0_look_130 pX0_look_159 lk_w
    rw [if_pos hg2, hcl, i32_succ]
    by_cases c : ((set >>> (i32 j &&& 31)) &&& 1) = 1
    · simp only [c, if_true]
      exact ih (j + 1) k (s.1 + g 40 j, s.2 + (3 + g 4 j)) (by omega) (by omega)
    · simp only [c, if_false, Int32.add_zero]
      exact ih (j + 1) k s (by omega) (by omega)
theorem lk8 {f : xF} {g : xG} {m : Nat} {v1 v2 v4 v5 v6 set : Int32} (k83 : xF → xG → Int32 → Int32 → Int32 → Int32 → Int32 → Int32 → Int32 → Option (Int32 × xF × xG)) (hm : m ≤ 12) : ∀ (d j K : Nat) (s : Int32 × Int32), j + d = m → d < K → pX8_look_2_100 k83 K f g v1 v2 (i32 m) v4 v5 v6 set s.2 s.1 (i32 j) = pX8_look_2_151 k83 f g v1 v2 (i32 m) v4 v5 v6 set (lk_w (g 53) (g 6) set d j s).2 (lk_w (g 53) (g 6) set d j s).1 := by
  intro d
  induction d with
  | zero =>
    intro j K s hj hK
    obtain ⟨k, rfl⟩ : ∃ k, K = k + 1 := ⟨K - 1, by omega⟩
    rw [pX8_look_2_100, if_pos (by rw [i32_le (by omega) (by omega)]; omega)]; rfl
  | succ d ih =>
    intro j K s hj hK
    obtain ⟨k, rfl⟩ : ∃ k, K = k + 1 := ⟨K - 1, by omega⟩
    have hg : gin (i32 j) 12 = true := gin_i (by omega) (by omega)
    have hg2 : gin (i32 j) 60 = true := gin_i (by omega) (by omega)
    have hcl : (i32 j).toNatClampNeg = j := i32_cl (by omega)
    rw [pX8_look_2_100, if_neg (by rw [i32_le (by omega) (by omega)]; omega), if_pos hg, if_pos hg2, hcl]
    unfold pX8_look_2_145 lk_w
    rw [i32_succ]
    simp only [bit_0]
    by_cases c : ((set >>> (i32 j &&& 31)) &&& 1) = 1
    · simp only [c, if_true, not_true_eq_false, if_false]
      exact ih (j + 1) k (s.1 + g 53 j, s.2 + (3 + g 6 j)) (by omega) (by omega)
    · simp only [c, if_false, not_false_eq_true, if_true]
      exact ih (j + 1) k s (by omega) (by omega)
theorem lk_c {a a2 c : Nat → Int32} {set : Int32} : ∀ (d j : Nat) (s : Int32 × Int32), (∀ i, j ≤ i → i < j + d → a i = a2 i) → lk_w a c set d j s = lk_w a2 c set d j s := by
  intro d
  induction d with
  | zero => intro j s _; rfl
  | succ d ih =>
    intro j s h
    unfold lk_w
    rw [h j (by omega) (by omega)]
    exact ih (j + 1) _ (fun i h1 h2 => h i (by omega) (by omega))
def lk_t (coin : Int32) (b : Int32 × Int32 × Int32) (set w c : Int32) : Int32 × Int32 × Int32 := if coin < c then b else if b.2.1 < w then (set, w, c) else if w = b.2.1 then (if b.2.2 ≤ c then b else (set, w, c)) else b
theorem lt0 {η : cx_H} {θ : cx_T} {f : xF} {g : xG} {v1 v2 v3 v4 v5 v6 v7 v8 v9 : Int32} (k83 : xF → xG → Int32 → Int32 → Int32 → Int32 → Int32 → Int32 → Int32 → Option (Int32 × xF × xG)) : pX0_look_168 η θ k83 f g v1 v2 v3 v4 v5 v6 v7 v8 v9 = k83 f g v1 v2 v3 (lk_t v1 (v4, v5, v6) v7 v8 v9).1 (lk_t v1 (v4, v5, v6) v7 v8 v9).2.1 (lk_t v1 (v4, v5, v6) v7 v8 v9).2.2 (v7 + 1) := by
  unfold pX0_look_168 pX0_look_195 pX0_look_207 lk_t
  by_cases c1 : v1 < v9
  · simp only [c1, if_true]
  · simp only [c1, if_false]
    by_cases c2 : v5 < v8
    · simp only [c2, if_true]
    · simp only [c2, if_false]
      by_cases c3 : v8 = v5
      · simp only [c3, if_true]
        by_cases c4 : v6 ≤ v9
        · simp only [c4, if_true]
        · simp only [c4, if_false]
      · simp only [c3, if_false]
theorem lt8 {f : xF} {g : xG} {v1 v2 v3 v4 v5 v6 v7 v8 v9 : Int32} (k83 : xF → xG → Int32 → Int32 → Int32 → Int32 → Int32 → Int32 → Int32 → Option (Int32 × xF × xG)) : pX8_look_2_151 k83 f g v1 v2 v3 v4 v5 v6 v7 v9 v8 = k83 f g v1 v2 v3 (lk_t v1 (v4, v5, v6) v7 v8 v9).1 (lk_t v1 (v4, v5, v6) v7 v8 v9).2.1 (lk_t v1 (v4, v5, v6) v7 v8 v9).2.2 (v7 + 1) := by
  have L : ∀ a b : Int32, (a < b) ↔ ¬ (b ≤ a) := fun a b => by rw [Int32.le_iff_toInt_le, Int32.lt_iff_toInt_lt]; omega
  unfold pX8_look_2_151 pX8_look_2_181 pX8_look_2_193 lk_t
  by_cases c1 : v1 < v9
  · simp only [c1, if_true]
  · simp only [c1, if_false]
    by_cases c3 : v8 = v5
    · have h1 : ¬ v8 < v5 := by rw [c3]; exact Int32.lt_irrefl
      have h2 : ¬ v5 < v8 := by rw [c3]; exact Int32.lt_irrefl
      simp only [h1, h2, c3, if_true, if_false]
      have h1' : ¬ v5 < v5 := Int32.lt_irrefl
      simp only [h1', if_false]
      by_cases c4 : v6 ≤ v9
      · have : ¬ v9 < v6 := fun q => (L _ _).mp q c4
        simp only [this, c4, if_true, if_false]
      · have : v9 < v6 := (L _ _).mpr c4
        simp only [this, c4, if_true, if_false]
    · simp only [c3, if_false]
      by_cases c2 : v5 < v8
      · have : ¬ v8 < v5 := fun q => by rw [Int32.lt_iff_toInt_lt] at q c2; omega
        simp only [this, c2, if_true, if_false]
      · have : v8 < v5 := by
          have hne := ne_toInt c3
          rw [Int32.lt_iff_toInt_lt] at c2 ⊢
          omega
        simp only [this, c2, if_true, if_false]
theorem shl1 : ∀ m, m < 13 → ((1 : Int32) <<< (i32 m &&& 31)) = i32 (2 ^ m) := by decide
theorem p2_12 : ∀ m, m < 13 → (1 ≤ 2 ^ m ∧ 2 ^ m ≤ 4096) := by decide
theorem sets_eq {η : cx_H} {θ : cx_T} {f f8 : xF} {g g8 : xG} {m : Nat} {coin what : Int32} (hm : m ≤ 12) (hw : ∀ i, i < m → g 40 i = g8 53 i) (hc : g 4 = g8 6) : ∀ (d set K K8 : Nat) (b : Int32 × Int32 × Int32), set + d = 2 ^ m → d < K → d < K8 → ∃ z : Int32, pX0_look_83 η θ K f g coin what (i32 m) b.1 b.2.1 b.2.2 (i32 set) = some (z, f, g) ∧ pX8_look_2_83 K8 f8 g8 coin what (i32 m) b.1 b.2.1 b.2.2 (i32 set) = some (z, f8, g8) := by
  have hp := p2_12 m (by omega)
  intro d
  induction d with
  | zero =>
    intro set K K8 b hs hK hK8
    obtain ⟨k, rfl⟩ : ∃ k, K = k + 1 := ⟨K - 1, by omega⟩
    obtain ⟨k8, rfl⟩ : ∃ k, K8 = k + 1 := ⟨K8 - 1, by omega⟩
    refine ⟨if what = 0 then b.1 else if what = 1 then b.2.1 else b.2.2, ?_, ?_⟩
    · rw [pX0_look_83, shl1 m (by omega), if_pos (by rw [i32_le (by omega) (by omega)]; omega)]
      unfold pX0_look_213 pX0_look_234
      split
      · rfl
      · split <;> rfl
    · rw [pX8_look_2_83, shl1 m (by omega), if_pos (by rw [i32_le (by omega) (by omega)]; omega)]
      unfold pX8_look_2_199 pX8_look_2_220
      split
      · rfl
      · split <;> rfl
  | succ d ih =>
    intro set K K8 b hs hK hK8
    obtain ⟨k, rfl⟩ : ∃ k, K = k + 1 := ⟨K - 1, by omega⟩
    obtain ⟨k8, rfl⟩ : ∃ k, K8 = k + 1 := ⟨K8 - 1, by omega⟩
    have hlt : ¬ i32 (2 ^ m) ≤ i32 set := by rw [i32_le (by omega) (by omega)]; omega
    have e0 := lk0 (η := η) (θ := θ) (f := f) (g := g) (v1 := coin) (v2 := what) (v4 := b.1) (v5 := b.2.1) (v6 := b.2.2) (set := i32 set) (pX0_look_83 η θ k) hm m 0 5000 (0, 0) (by omega) (by omega)
    have e8 := lk8 (f := f8) (g := g8) (v1 := coin) (v2 := what) (v4 := b.1) (v5 := b.2.1) (v6 := b.2.2) (set := i32 set) (pX8_look_2_83 k8) hm m 0 5000 (0, 0) (by omega) (by omega)
    have e0' : pX0_look_100 η θ (pX0_look_83 η θ k) 5000 f g coin what (i32 m) b.1 b.2.1 b.2.2 (i32 set) 0 0 0 = _ := e0
    have e8' : pX8_look_2_100 (pX8_look_2_83 k8) 5000 f8 g8 coin what (i32 m) b.1 b.2.1 b.2.2 (i32 set) 0 0 0 = _ := e8
    rw [pX0_look_83, shl1 m (by omega), if_neg hlt, e0', lt0, pX8_look_2_83, shl1 m (by omega), if_neg hlt, e8', lt8, i32_succ, hc, lk_c (a := g 40) (a2 := g8 53) m 0 (0, 0) (fun i _ hi => hw i (by omega))]
    exact ih (set + 1) k k8 (lk_t coin (b.1, b.2.1, b.2.2) (i32 set) _ _) (by omega) (by omega) (by omega)
theorem lk_z (a c : Nat → Int32) : ∀ (d j : Nat) (s : Int32 × Int32), j + d ≤ 12 → lk_w a c 0 d j s = s := by
  intro d
  induction d with
  | zero => intro j s _; rfl
  | succ d ih =>
    intro j s h
    unfold lk_w
    have hz : ∀ j, j < 13 → ¬ (((0 : Int32) >>> (i32 j &&& 31)) &&& 1) = 1 := by decide
    rw [if_neg (hz j (by omega))]
    exact ih (j + 1) s (by omega)
theorem cl_99 (r : Int32) : (if 0 ≤ r then (if r ≤ 99 then r else 99) else 0) = wmax 0 (wmin 99 r) := by
  unfold wmax wmin
  have L : ∀ a b : Int32, (a ≤ b) ↔ a.toInt ≤ b.toInt := fun a b => Int32.le_iff_toInt_le
  have M : ∀ a b : Int32, (a < b) ↔ a.toInt < b.toInt := fun a b => Int32.lt_iff_toInt_lt
  have e9 : (99 : Int32).toInt = 99 := rfl
  have e0 : (0 : Int32).toInt = 0 := rfl
  by_cases c1 : r < 99
  · rw [if_pos c1]
    have d1 := (M _ _).mp c1
    by_cases c2 : 0 < r
    · have d2 := (M _ _).mp c2
      rw [if_pos c2, if_pos ((L _ _).mpr (by omega)), if_pos ((L _ _).mpr (by omega))]
    · rw [if_neg c2]
      have d2 : ¬ (0 : Int32).toInt < r.toInt := fun q => c2 ((M _ _).mpr q)
      by_cases c3 : 0 ≤ r
      · have d3 := (L _ _).mp c3
        rw [if_pos c3, if_pos ((L _ _).mpr (by omega)), ← Int32.toInt_inj]; omega
      · rw [if_neg c3]
  · rw [if_neg c1, show (if (0 : Int32) < 99 then (99 : Int32) else 0) = 99 by decide]
    have d1 : ¬ r.toInt < (99 : Int32).toInt := fun q => c1 ((M _ _).mpr q)
    rw [if_pos ((L _ _).mpr (by omega))]
    by_cases c3 : r ≤ 99
    · have d3 := (L _ _).mp c3
      rw [if_pos c3, ← Int32.toInt_inj]; omega
    · rw [if_neg c3]
theorem worth8 {D : xD} {θ : cx_T} {g8 : xG} {n : Int32} (Gd : Good D) (T : TR D θ) (hg : ∀ j, j ≠ 26 → j ≠ 53 → g8 j = D.2 j) (hn : gin n 60 = true) : ∃ p2, pX8_worthOf D.1 g8 n = some (wmax 0 (wmin 99 (pv_r D 2 0 n (D.2 7 n.toNatClampNeg) 0)), D.1, va_up g8 26 p2) := by
  have hG : Good (D.1, g8) := ⟨Gd.1, fun k i => by
    by_cases k26 : k = 26
    · subst k26; exact ⟨i32_min _, i32_max _⟩
    by_cases k53 : k = 53
    · subst k53; exact ⟨i32_min _, i32_max _⟩
    rw [show (D.1, g8).2 k = D.2 k from hg k k26 k53]; exact Gd.2.1 k i, by
    have hx := Gd.2.2
    unfold gX at *
    rw [show (D.1, g8).2 33 = D.2 33 from hg 33 (by decide) (by decide)]
    exact hx⟩
  have hO : off [] [26, 53] D (D.1, g8) := ⟨fun _ _ => rfl, fun k hk => by
    simp only [List.mem_cons, List.not_mem_nil, or_false, not_or] at hk
    exact hg k hk.1 hk.2⟩
  obtain ⟨p2, e⟩ := tellsD (D := (D.1, g8)) (f8 := D.1) (g8 := g8) (k := 2) (w := 0) (n := n) (h := -1) (wd := D.2 7 n.toNatClampNeg) (nu := 0) hG (T.off hO (by decide) (by decide) (by decide) (by decide)) (by decide) rfl (fun _ _ => rfl) hn (fun q => by rw [wind8 (nt27 Gd) hn, va_up_ne _ _ (show 7 ≠ 26 by decide), hg 7 (by decide) (by decide)]) (Or.inr ⟨by decide, rfl⟩)
  refine ⟨p2, ?_⟩
  unfold pX8_worthOf pX8_worthOf_0 pX8_worthOf_29
  rw [show (2 : Int32) = i32 2 from rfl, e]
  simp only [Option.bind_some]
  have ev : pv_r (D.1, g8) 2 0 n (D.2 7 n.toNatClampNeg) 0 = pv_r D 2 0 n (D.2 7 n.toNatClampNeg) 0 := by
    unfold pv_r pv_ru rl_at
    simp only [hg 5 (by decide) (by decide), hg 6 (by decide) (by decide), hg 22 (by decide) (by decide), hg 23 (by decide) (by decide), hg 24 (by decide) (by decide)]
  rw [ev, ← cl_99]
  generalize pv_r D 2 0 n (D.2 7 n.toNatClampNeg) 0 = r
  by_cases c1 : 0 ≤ r
  · rw [if_pos c1, if_pos c1]
    by_cases c2 : r ≤ 99
    · rw [if_pos c2, if_pos c2]
    · rw [if_neg c2, if_neg c2]
  · rw [if_neg c1, if_neg c1]
theorem worths_loop {D : xD} {η : cx_H} {θ : cx_T} {m : Nat} {f0 : xF} {g0 : xG} {coin what : Int32} (R : cR D f0 g0) (Gd : Good D) (T : TR D θ) (hm : m ≤ 12) :
    ∀ (d j K K8 : Nat) (f : xF) (g g8 : xG), j + d = m → d < K → d < K8 → (∀ k, k ≠ 11 → k ≠ 12 → k ≠ 13 → f k = f0 k) → (∀ k, k ≠ 40 → g k = g0 k) → (∀ k, k ≠ 26 → k ≠ 53 → g8 k = D.2 k) → (∀ i, i < j → g 40 i = g8 53 i) →
      ∃ (f1 : xF) (g1 g81 : xG), (∀ k, k ≠ 11 → k ≠ 12 → k ≠ 13 → f1 k = f0 k) ∧ (∀ k, k ≠ 40 → g1 k = g0 k) ∧ (∀ k, k ≠ 26 → k ≠ 53 → g81 k = D.2 k) ∧ (∀ i, i < m → g1 40 i = g81 53 i) ∧ pX0_look_40 η θ K f g coin what (i32 m) (i32 j) = pX0_look_71 η θ f1 g1 coin what (i32 m) ∧ pX8_look_2_46 K8 D.1 g8 coin what (i32 m) (i32 j) = pX8_look_2_71 D.1 g81 coin what (i32 m) := by
  intro d
  induction d with
  | zero =>
    intro j K K8 f g g8 hj hK hK8 a1 a2 a3 a4
    obtain ⟨k, rfl⟩ : ∃ k, K = k + 1 := ⟨K - 1, by omega⟩
    obtain ⟨k8, rfl⟩ : ∃ k, K8 = k + 1 := ⟨K8 - 1, by omega⟩
    refine ⟨f, g, g8, a1, a2, a3, fun i hi => a4 i (by omega), ?_, ?_⟩
    · rw [pX0_look_40, if_pos (by rw [i32_le (by omega) (by omega)]; omega)]
    · rw [pX8_look_2_46, if_pos (by rw [i32_le (by omega) (by omega)]; omega)]
  | succ d ih =>
    intro j K K8 f g g8 hj hK hK8 a1 a2 a3 a4
    obtain ⟨k, rfl⟩ : ∃ k, K = k + 1 := ⟨K - 1, by omega⟩
    obtain ⟨k8, rfl⟩ : ∃ k, K8 = k + 1 := ⟨K8 - 1, by omega⟩
    have hg : gin (i32 j) 12 = true := gin_i (by omega) (by omega)
    have hg2 : gin (i32 j) 60 = true := gin_i (by omega) (by omega)
    have hcl : (i32 j).toNatClampNeg = j := i32_cl (by omega)
    have A : aR D f g := ⟨(a1 26 (by decide) (by decide) (by decide)).trans R.rule, (a2 0 (by decide)).trans R.aW, (a2 3 (by decide)).trans R.aWet, (a2 4 (by decide)).trans R.aIce⟩
    have e0 := asksD (η := η) (k := 2) (n := i32 j) (w := 0) (nu := 0) (lo := 0) (hi := 99) Gd T A (by decide) hg2
    obtain ⟨p2, e8⟩ := worth8 (n := i32 j) Gd T a3 hg2
    have e0' : pX0_asks η θ f g 2 (i32 j) 0 0 0 99 = _ := e0
    rw [pX0_look_40, if_neg (by rw [i32_le (by omega) (by omega)]; omega), e0', pX8_look_2_46, if_neg (by rw [i32_le (by omega) (by omega)]; omega), e8]
    simp only [Option.bind_some]
    rw [if_pos hg, if_pos hg, hcl, i32_succ, (a2 5 (by decide)).trans R.aWind]
    refine ih (j + 1) k k8 _ _ _ (by omega) (by omega) (by omega) (fun q q1 q2 q3 => by rw [upd_n q2, upd_n q1, upd_n q3]; exact a1 q q1 q2 q3) (fun q hq => (va_up_ne _ _ hq).trans (a2 q hq)) (fun q q1 q2 => by rw [va_up_ne _ _ q2, va_up_ne _ _ q1]; exact a3 q q1 q2) (fun i hi => ?_)
    rw [va_up_self, va_up_self, va_up_ne _ _ (show 53 ≠ 26 by decide)]
    by_cases c : i = j
    · rw [c, upd_e, upd_e]
    · rw [upd_n c, upd_n c]; exact a4 i (by omega)
theorem wmin12 (x : Int32) : (if (12 : Int32) ≤ x then (12 : Int32) else x) = wmin 12 x := by
  unfold wmin
  by_cases c : 12 ≤ x
  · have d := Int32.le_iff_toInt_le.mp c
    rw [if_pos c, if_neg (fun q => by have := Int32.lt_iff_toInt_lt.mp q; omega)]
  · have d : ¬ (12 : Int32).toInt ≤ x.toInt := fun q => c (Int32.le_iff_toInt_le.mpr q)
    rw [if_neg c, if_pos (Int32.lt_iff_toInt_lt.mpr (by omega))]
theorem P_look {D : xD} {η : cx_H} {θ : cx_T} {f : xF} {g : xG} (R : cR D f g) (Gd : Good D) (T : TR D θ) (coin what : Int32) : Sim D [] [26, 53] (pX0_look η θ f g coin what) (pX8_look_2 D.1 D.2 coin what) := by
  obtain ⟨M, hM60, hM⟩ := i32_ex (x := D.1 1) (N := 60) (Gd.1 1).1 (Gd.1 1).2 (by omega)
  have e42 : (if (12 : Int32) ≤ D.1 1 then pX8_look_2_42 D.1 D.2 coin what 12 else pX8_look_2_42 D.1 D.2 coin what (D.1 1)) = pX8_look_2_42 D.1 D.2 coin what (wmin 12 (D.1 1)) := by
    rw [← wmin12]; split <;> rfl
  simp only [pX0_look, pX8_look_2, pX0_look_0, pX8_look_2_0, pX0_look_24, pX8_look_2_21, in0, in8, R.nights, Option.bind_some, zi_0, ite_not, Int32.reduceToInt, Int64.reduceToInt, e42]
  by_cases c1 : 0 ≤ coin.toInt ∧ coin.toInt ≤ 99
  case neg => simp only [c1, if_false]; exact Sim.same R Gd
  by_cases c2 : 0 ≤ what.toInt ∧ what.toInt ≤ 2
  case neg => simp only [c1, and_self, if_true, c2, if_false]; exact Sim.same R Gd
  simp only [c1, c2, and_self, if_true]
  obtain ⟨m, hm, em⟩ : ∃ m : Nat, m ≤ 12 ∧ wmin 12 (D.1 1) = i32 m := by
    rw [← wmin12, hM]
    by_cases c : (12 : Int32) ≤ i32 M
    · rw [if_pos c]; exact ⟨12, by omega, rfl⟩
    · rw [if_neg c]
      rw [show (12 : Int32) = i32 12 from rfl, i32_le (by omega) (by omega)] at c
      exact ⟨M, by omega, rfl⟩
  rw [em]
  obtain ⟨f1, g1, g81, r1, r2, r3, r4, r5, r6⟩ := worths_loop (η := η) (coin := coin) (what := what) R Gd T hm m 0 5000 5000 f g D.2 (by omega) (by omega) (by omega) (fun _ _ _ _ => rfl) (fun _ _ => rfl) (fun _ _ _ => rfl) (fun i hi => by omega)
  have r5' : pX0_look_40 η θ 5000 f g coin what (i32 m) 0 = _ := r5
  have r6' : pX8_look_2_42 D.1 D.2 coin what (i32 m) = _ := r6
  rw [r5', r6']
  have hp := p2_12 m (by omega)
  have hc : g1 4 = g81 6 := by rw [r2 4 (by decide), r3 6 (by decide) (by decide), R.aIce]
  -- the empty set, in the component
  have first : pX0_look_71 η θ f1 g1 coin what (i32 m) = pX0_look_83 η θ 4999 f1 g1 coin what (i32 m) 0 0 0 (i32 1) := by
    show pX0_look_83 η θ (4999 + 1) f1 g1 coin what (i32 m) 0 (-1) 0 0 = _
    have e0 := lk0 (η := η) (θ := θ) (f := f1) (g := g1) (v1 := coin) (v2 := what) (v4 := 0) (v5 := -1) (v6 := 0) (set := 0) (pX0_look_83 η θ 4999) hm m 0 5000 (0, 0) (by omega) (by omega)
    have e0' : pX0_look_100 η θ (pX0_look_83 η θ 4999) 5000 f1 g1 coin what (i32 m) 0 (-1) 0 0 0 0 0 = _ := e0
    rw [pX0_look_83, shl1 m (by omega), if_neg (by rw [show (0 : Int32) = i32 0 from rfl, i32_le (by omega) (by omega)]; omega), e0', lk_z _ _ m 0 (0, 0) (by omega), lt0]
    have hn : ¬ coin < 0 := fun q => by have := Int32.lt_iff_toInt_lt.mp q; rw [Int32.toInt_zero] at this; omega
    unfold lk_t
    simp only [hn, if_false, show (-1 : Int32) < 0 by decide, if_true]
    rfl
  rw [first]
  obtain ⟨z, z1, z2⟩ := sets_eq (η := η) (θ := θ) (f := f1) (f8 := D.1) (g := g1) (g8 := g81) (coin := coin) (what := what) hm r4 hc (2 ^ m - 1) 1 4999 5000 (0, 0, 0) (by omega) (by omega) (by omega)
  have z2' : pX8_look_2_71 D.1 g81 coin what (i32 m) = some (z, D.1, g81) := z2
  rw [z1, z2']
  refine Sim.leaf (E := (D.1, g81)) ⟨fun p hp => ?_, fun p hp => ?_, fun i hi => ?_⟩ ⟨Gd.1, fun k i => ?_, ?_⟩ ⟨fun _ _ => rfl, fun k hk => ?_⟩
  · have h3 : ∀ p ∈ cF, p.1 ≠ 11 ∧ p.1 ≠ 12 ∧ p.1 ≠ 13 := by decide
    rw [r1 p.1 (h3 p hp).1 (h3 p hp).2.1 (h3 p hp).2.2]; exact R.1 p hp
  · have h3 : ∀ p ∈ cG, p.1 ≠ 40 ∧ p.2 ≠ 26 ∧ p.2 ≠ 53 := by decide
    rw [r2 p.1 (h3 p hp).1]
    show _ = g81 p.2
    rw [r3 p.2 (h3 p hp).2.1 (h3 p hp).2.2]; exact R.2.1 p hp
  · show g1 18 i &&& 255 = g81 21 i
    rw [r2 18 (by decide), r3 21 (by decide) (by decide)]; exact R.2.2 i hi
  · by_cases k26 : k = 26
    · subst k26; exact ⟨i32_min _, i32_max _⟩
    by_cases k53 : k = 53
    · subst k53; exact ⟨i32_min _, i32_max _⟩
    rw [show (D.1, g81).2 k = D.2 k from r3 k k26 k53]; exact Gd.2.1 k i
  · have hx := Gd.2.2
    unfold gX at *
    rw [show (D.1, g81).2 33 = D.2 33 from r3 33 (by decide) (by decide)]
    exact hx
  · simp only [List.mem_cons, List.not_mem_nil, or_false, not_or] at hk
    exact r3 k hk.1 hk.2

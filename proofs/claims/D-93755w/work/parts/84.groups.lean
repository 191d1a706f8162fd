/-! groups (mine): the component spreads sets of tracks, the twin joins names of groups; both count the least of each group -/
def bt (x : Int32) (i : Nat) : Bool := decide (((x >>> (i32 i &&& 31)) &&& 1) = 1)
theorem bt_sh : ∀ i, i < 24 → ((i32 i &&& 31).toBitVec.smod 32).toNat = i := by decide +kernel
theorem bt_get {x : Int32} {i : Nat} (h : i < 24) : bt x i = x.toBitVec.getLsbD i := by
  have h0 : ∀ y : Int32, (decide ((y &&& 1) = 1)) = y.toBitVec.getLsbD 0 := by
    intro y
    have e : (y &&& 1).toBitVec = BitVec.ofNat 32 (y.toBitVec.toNat % 2) := by
      apply BitVec.eq_of_toNat_eq
      show (y.toBitVec &&& 1#32).toNat = _
      rw [BitVec.toNat_and, BitVec.toNat_ofNat, BitVec.toNat_ofNat, show 1 % 2 ^ 32 = 2 ^ 1 - 1 from rfl, Nat.and_two_pow_sub_one_eq_mod]
      omega
    have e2 : y.toBitVec.getLsbD 0 = decide (y.toBitVec.toNat % 2 = 1) := by
      show y.toBitVec.toNat.testBit 0 = _
      rw [Nat.testBit_zero]
    rw [e2]
    have hm : y.toBitVec.toNat % 2 = 0 ∨ y.toBitVec.toNat % 2 = 1 := by omega
    rcases hm with q | q
    · rw [q] at e ⊢
      have : (y &&& 1) = 0 := Int32.toBitVec_inj.mp e
      rw [this]; rfl
    · rw [q] at e ⊢
      have : (y &&& 1) = 1 := Int32.toBitVec_inj.mp e
      rw [this]; rfl
  unfold bt
  rw [h0, Int32.toBitVec_shiftRight, BitVec.getLsbD_sshiftRight', bt_sh i h, if_pos (by omega), Nat.add_zero]
  simp
theorem bt_or {x y : Int32} {i : Nat} (h : i < 24) : bt (x ||| y) i = (bt x i || bt y i) := by
  rw [bt_get h, bt_get h, bt_get h, Int32.toBitVec_or, BitVec.getLsbD_or]
theorem bt_one32 : ∀ b, b < 24 → ∀ i, i < 32 → ((1 : Int32) <<< (i32 b &&& 31)).toBitVec.getLsbD i = decide (i = b) := by decide +kernel
theorem bt_one {b i : Nat} (hb : b < 24) (hi : i < 24) : bt ((1 : Int32) <<< (i32 b &&& 31)) i = decide (i = b) := by
  rw [bt_get hi]; exact bt_one32 b hb i (by omega)
theorem bt_zero {i : Nat} (hi : i < 24) : bt 0 i = false := by
  rw [bt_get hi]; exact BitVec.getLsbD_zero
theorem or_bit {x : Int32} {b : Nat} (hb : b < 24) (h : bt x b = true) : x ||| ((1 : Int32) <<< (i32 b &&& 31)) = x := by
  apply Int32.toBitVec_inj.mp
  apply BitVec.eq_of_getLsbD_eq
  intro i hi
  rw [Int32.toBitVec_or, BitVec.getLsbD_or, bt_one32 b hb i hi]
  by_cases c : i = b
  · subst c
    rw [bt_get hb] at h
    rw [h]; rfl
  · rw [decide_eq_false c, Bool.or_false]
theorem bt_1 {x : Int32} {i : Nat} : (((x >>> (i32 i &&& 31)) &&& 1) = 1) ↔ bt x i = true := by unfold bt; rw [decide_eq_true_eq]
/-! counting -/
def cn (p : Nat → Bool) : Nat → Nat
  | 0 => 0
  | n + 1 => cn p n + (if p n = true then 1 else 0)
theorem cn_le (p : Nat → Bool) : ∀ n, cn p n ≤ n := by
  intro n
  induction n with
  | zero => exact Nat.le_refl _
  | succ n ih => unfold cn; split <;> omega
theorem cn_mono {p q : Nat → Bool} : ∀ n, (∀ i, i < n → p i = true → q i = true) → cn p n ≤ cn q n := by
  intro n
  induction n with
  | zero => intro _; exact Nat.le_refl _
  | succ n ih =>
    intro h
    have h1 := ih (fun i hi => h i (by omega))
    unfold cn
    by_cases c : p n = true
    · rw [if_pos c, if_pos (h n (by omega) c)]; omega
    · rw [if_neg c]; omega
theorem cn_eq {p q : Nat → Bool} : ∀ n, (∀ i, i < n → p i = q i) → cn p n = cn q n := by
  intro n
  induction n with
  | zero => intro _; rfl
  | succ n ih => intro h; unfold cn; rw [ih (fun i hi => h i (by omega)), h n (by omega)]
theorem cn_lt {p q : Nat → Bool} : ∀ n i, (∀ i, i < n → p i = true → q i = true) → i < n → p i = false → q i = true → cn p n < cn q n := by
  intro n
  induction n with
  | zero => intro i _ h; omega
  | succ n ih =>
    intro i h hi h1 h2
    have hm := cn_mono n (fun i hi => h i (by omega))
    unfold cn
    by_cases c : i = n
    · subst c
      rw [h1, h2]; simp; omega
    · have := ih i (fun i hi => h i (by omega)) (by omega) h1 h2
      by_cases c2 : p n = true
      · rw [if_pos c2, if_pos (h n (by omega) c2)]; omega
      · rw [if_neg c2]; omega
/-- one less -/
theorem cn_one {p q : Nat → Bool} : ∀ n x, (∀ i, i < n → i ≠ x → p i = q i) → x < n → p x = true → q x = false → cn p n = cn q n + 1 := by
  intro n
  induction n with
  | zero => intro x _ h; omega
  | succ n ih =>
    intro x h hx h1 h2
    unfold cn
    by_cases c : x = n
    · subst c
      rw [cn_eq x (fun i hi => h i (by omega) (by omega)), h1, h2]; simp
    · rw [ih x (fun i hi hne => h i (by omega) hne) (by omega) h1 h2, h n (by omega) (fun q => c q.symm)]; omega
noncomputable def pb (p : Prop) : Bool := @decide p (Classical.propDecidable p)
theorem pb_t {p : Prop} : pb p = true ↔ p := by unfold pb; exact @decide_eq_true_iff p (Classical.propDecidable p)
theorem pb_f {p : Prop} : pb p = false ↔ ¬ p := by
  cases h : pb p
  · exact ⟨fun _ q => (by rw [pb_t.mpr q] at h; cases h), fun _ => rfl⟩
  · exact ⟨fun q => by (cases q), fun q => absurd (pb_t.mp h) q⟩
/-! what hangs together -/
def cl_ (T : Nat → Nat → Prop) (N : Nat) (Z : Nat → Prop) : Prop := ∀ a b, a < N → b < N → Z a → T a b → Z b
def con (T : Nat → Nat → Prop) (N : Nat) (x y : Nat) : Prop := ∀ Z : Nat → Prop, cl_ T N Z → Z x → Z y
theorem con.rf {T : Nat → Nat → Prop} {N x : Nat} : con T N x x := fun _ _ h => h
theorem con.tr {T : Nat → Nat → Prop} {N x y z : Nat} (h : con T N x y) (h2 : con T N y z) : con T N x z := fun Z hZ hx => h2 Z hZ (h Z hZ hx)
theorem con.st {T : Nat → Nat → Prop} {N x y : Nat} (hx : x < N) (hy : y < N) (h : T x y) : con T N x y := fun Z hZ hz => hZ x y hx hy hz h
noncomputable def ldr (T : Nat → Nat → Prop) (N t : Nat) : Bool := pb (∀ s, s < t → ¬ con T N s t)
/-! the component -/
theorem spread17 {D : xD} {f : xF} {g : xG} {N : Nat} {off : Int32} (R : cR D f g) (hN : D.1 32 = i32 N) (hN24 : N ≤ 24) (k5 : Int32 → Int32 → Int32 → Int32 → Option Int32) (v1 : Int32) (a : Nat) (ha : a < N) :
    ∀ (d b K : Nat) (v3 : Int32), b + d = N → d < K → (∀ i, i < 24 → bt v1 i = true → bt v3 i = true) →
      ∃ m : Int32, pX0_spreads_17 f g k5 K v1 off v3 (i32 a) (i32 b) = k5 v1 off m (i32 (a + 1)) ∧ (∀ i, i < 24 → bt v3 i = true → bt m i = true) ∧ (∀ i, i < 24 → bt m i = true → bt v3 i = true ∨ (i < N ∧ bt v1 a = true ∧ tog D a i off)) ∧ (bt v1 a = true → ∀ i, b ≤ i → i < N → tog D a i off → bt m i = true) ∧ (m = v3 ∨ ∃ i, i < N ∧ bt m i = true ∧ bt v3 i = false) := by
  have hda : ∀ b : Nat, Decidable (tog D (i32 a).toNatClampNeg (i32 b).toNatClampNeg off) := fun b => Classical.propDecidable _
  intro d
  induction d with
  | zero =>
    intro b K v3 hb hK hsub
    obtain ⟨k, rfl⟩ : ∃ k, K = k + 1 := ⟨K - 1, by omega⟩
    refine ⟨v3, ?_, fun i _ h => h, fun i _ h => Or.inl h, fun _ i h1 h2 => by omega, Or.inl rfl⟩
    rw [pX0_spreads_17, if_pos (by rw [R.tracks, hN, i32_le (by omega) (by omega)]; omega)]
    unfold pX0_spreads_65
    rw [i32_succ]
  | succ d ih =>
    intro b K v3 hb hK hsub
    obtain ⟨k, rfl⟩ : ∃ k, K = k + 1 := ⟨K - 1, by omega⟩
    rw [pX0_spreads_17, if_neg (by rw [R.tracks, hN, i32_le (by omega) (by omega)]; omega)]
    by_cases c : bt v1 a = true
    case neg =>
      refine ⟨v3, ?_, fun i _ h => h, fun i _ h => Or.inl h, fun q => absurd q c, Or.inl rfl⟩
      rw [if_neg (fun q => c (bt_1.mp q))]
      unfold pX0_spreads_65
      rw [i32_succ]
    rw [if_pos (bt_1.mpr c)]
    have hD := hda b
    rw [areT0 R (gin_i (show a < 24 by omega) (by omega)) (gin_i (show b < 24 by omega) (by omega))]
    simp only [Option.bind_some, zi_0]
    unfold pX0_spreads_57
    rw [i32_succ]
    have ea : (i32 a).toNatClampNeg = a := i32_cl (by omega)
    have eb : (i32 b).toNatClampNeg = b := i32_cl (by omega)
    by_cases c2 : tog D a b off
    · rw [if_neg (by rw [ea, eb]; exact fun q => q c2)]
      have hnew : ∀ i, i < 24 → bt (v3 ||| ((1 : Int32) <<< (i32 b &&& 31))) i = (bt v3 i || decide (i = b)) := fun i hi => by rw [bt_or hi, bt_one (by omega) hi]
      obtain ⟨m, m1, m2, m3, m4, m5⟩ := ih (b + 1) k (v3 ||| ((1 : Int32) <<< (i32 b &&& 31))) (by omega) (by omega) (fun i hi h => by rw [hnew i hi, hsub i hi h]; rfl)
      refine ⟨m, m1, fun i hi h => m2 i hi (by rw [hnew i hi, h]; rfl), fun i hi h => ?_, fun h i h1 h2 h3 => ?_, ?_⟩
      · rcases m3 i hi h with q | q
        · rw [hnew i hi, Bool.or_eq_true, decide_eq_true_eq] at q
          rcases q with q | q
          · exact Or.inl q
          · exact Or.inr ⟨by omega, c, by rw [q]; exact c2⟩
        · exact Or.inr q
      · by_cases e : i = b
        · subst e; exact m2 i (by omega) (by rw [hnew i (by omega)]; simp)
        · exact m4 h i (by omega) h2 h3
      · by_cases cb : bt v3 b = true
        · have e := or_bit (show b < 24 by omega) cb
          rw [e] at m5
          exact m5
        · refine Or.inr ⟨b, by omega, m2 b (by omega) (by rw [hnew b (by omega)]; simp), ?_⟩
          cases q : bt v3 b
          · rfl
          · exact absurd q cb
    · rw [if_pos (by rw [ea, eb]; exact c2)]
      have e0 : v3 ||| 0 = v3 := by
        apply Int32.toBitVec_inj.mp
        rw [Int32.toBitVec_or]
        exact BitVec.or_zero
      rw [e0]
      obtain ⟨m, m1, m2, m3, m4, m5⟩ := ih (b + 1) k v3 (by omega) (by omega) hsub
      refine ⟨m, m1, m2, m3, fun h i h1 h2 h3 => ?_, m5⟩
      by_cases e : i = b
      · subst e; exact absurd h3 c2
      · exact m4 h i (by omega) h2 h3
theorem spread5 {D : xD} {f : xF} {g : xG} {N : Nat} {off : Int32} (R : cR D f g) (hN : D.1 32 = i32 N) (hN24 : N ≤ 24) (rc : Int32 → Int32 → Option Int32) (v1 : Int32) :
    ∀ (d a K : Nat) (v3 : Int32), a + d = N → d < K → (∀ i, i < 24 → bt v1 i = true → bt v3 i = true) → (v3 = v1 ∨ ∃ i, i < N ∧ bt v3 i = true ∧ bt v1 i = false) →
      ∃ m : Int32, pX0_spreads_5 f g rc K v1 off v3 (i32 a) = pX0_spreads_71 f g rc v1 off m ∧ (∀ i, i < 24 → bt v3 i = true → bt m i = true) ∧ (∀ i, i < 24 → bt m i = true → bt v3 i = true ∨ (i < N ∧ ∃ x, x < N ∧ bt v1 x = true ∧ tog D x i off)) ∧ (∀ x, a ≤ x → x < N → bt v1 x = true → ∀ i, i < N → tog D x i off → bt m i = true) ∧ (m = v1 ∨ ∃ i, i < N ∧ bt m i = true ∧ bt v1 i = false) := by
  intro d
  induction d with
  | zero =>
    intro a K v3 ha hK hsub hgr
    obtain ⟨k, rfl⟩ : ∃ k, K = k + 1 := ⟨K - 1, by omega⟩
    refine ⟨v3, ?_, fun i _ h => h, fun i _ h => Or.inl h, fun x h1 h2 => by omega, hgr⟩
    rw [pX0_spreads_5, if_pos (by rw [R.tracks, hN, i32_le (by omega) (by omega)]; omega)]
  | succ d ih =>
    intro a K v3 ha hK hsub hgr
    obtain ⟨k, rfl⟩ : ∃ k, K = k + 1 := ⟨K - 1, by omega⟩
    rw [pX0_spreads_5, if_neg (by rw [R.tracks, hN, i32_le (by omega) (by omega)]; omega)]
    obtain ⟨m, m1, m2, m3, m4, m5⟩ := spread17 (off := off) R hN hN24 (pX0_spreads_5 f g rc k) v1 a (by omega) N 0 5000 v3 (by omega) (by omega) hsub
    have m1' : pX0_spreads_17 f g (pX0_spreads_5 f g rc k) 5000 v1 off v3 (i32 a) 0 = _ := m1
    rw [m1']
    obtain ⟨q, q1, q2, q3, q4, q5⟩ := ih (a + 1) k m (by omega) (by omega) (fun i hi h => m2 i hi (hsub i hi h)) (by
      rcases m5 with e | ⟨i, i1, i2, i3⟩
      · rw [e]; exact hgr
      · refine Or.inr ⟨i, i1, i2, ?_⟩
        cases h : bt v1 i
        · rfl
        · have := hsub i (by omega) h
          rw [this] at i3; cases i3)
    refine ⟨q, q1, fun i hi h => q2 i hi (m2 i hi h), fun i hi h => ?_, fun x h1 h2 h3 i h4 h5 => ?_, q5⟩
    · rcases q3 i hi h with r | r
      · rcases m3 i hi r with r | ⟨r1, r2, r3⟩
        · exact Or.inl r
        · exact Or.inr ⟨r1, a, by omega, r2, r3⟩
      · exact Or.inr r
    · by_cases e : x = a
      · subst e; exact q2 i (by omega) (m4 h3 i (by omega) h4 h5)
      · exact q4 x (by omega) h2 h3 i h4 h5
theorem spreadR {D : xD} {f : xF} {g : xG} {N : Nat} {off : Int32} (R : cR D f g) (hN : D.1 32 = i32 N) (hN24 : N ≤ 24) :
    ∀ (n : Nat) (set : Int32), 24 - cn (bt set) 24 < n →
      ∃ m : Int32, pX0_spreadsR f g n set off = some m ∧ (∀ i, i < 24 → bt set i = true → bt m i = true) ∧ (∀ a b, a < N → b < N → bt m a = true → tog D a b off → bt m b = true) ∧ ∀ Z : Nat → Prop, cl_ (fun a b => tog D a b off) N Z → (∀ i, i < 24 → bt set i = true → Z i) → ∀ i, i < 24 → bt m i = true → Z i := by
  intro n
  induction n with
  | zero => intro set h; omega
  | succ n ih =>
    intro set hlt
    obtain ⟨m, m1, m2, m3, m4, m5⟩ := spread5 (off := off) R hN hN24 (pX0_spreadsR f g n) set N 0 5000 set (by omega) (by omega) (fun i _ h => h) (Or.inl rfl)
    have m1' : pX0_spreadsR f g (n + 1) set off = pX0_spreads_71 f g (pX0_spreadsR f g n) set off m := m1
    rw [m1']
    unfold pX0_spreads_71 pX0_spreads_86
    by_cases c : m = set
    · subst c
      rw [if_pos rfl]
      exact ⟨m, rfl, fun i _ h => h, fun a b ha hb h1 h2 => m4 a (by omega) ha h1 b hb h2, fun Z _ h => h⟩
    · rw [if_neg c]
      obtain ⟨i, i1, i2, i3⟩ : ∃ i, i < N ∧ bt m i = true ∧ bt set i = false := by
        rcases m5 with q | q
        · exact absurd q c
        · exact q
      have hcn := cn_lt 24 i (p := bt set) (q := bt m) m2 (by omega) i3 i2
      have hle := cn_le (bt m) 24
      obtain ⟨r, r1, r2, r3, r4⟩ := ih m (by omega)
      rw [r1]
      refine ⟨r, rfl, fun i hi h => r2 i hi (m2 i hi h), r3, fun Z hZ h => r4 Z hZ (fun j hj hm => ?_)⟩
      rcases m3 j hj hm with q | ⟨q1, x, x1, x2, x3⟩
      · exact h j hj q
      · exact hZ x j x1 q1 (h x (by omega) x2) x3
theorem groups0 {D : xD} {f : xF} {g : xG} {N : Nat} {off : Int32} (R : cR D f g) (hN : D.1 32 = i32 N) (hN24 : N ≤ 24) :
    ∀ (d t K : Nat) (seen : Int32), t + d = N → d < K → (∀ i, i < N → (bt seen i = true ↔ ∃ s, s < t ∧ con (fun a b => tog D a b off) N s i)) →
      pX0_groups_22 f g K off (i32 (cn (ldr (fun a b => tog D a b off) N) t)) seen (i32 t) = some (i32 (cn (ldr (fun a b => tog D a b off) N) N)) := by
  intro d
  induction d with
  | zero =>
    intro t K seen ht hK hI
    obtain ⟨k, rfl⟩ : ∃ k, K = k + 1 := ⟨K - 1, by omega⟩
    rw [pX0_groups_22, if_pos (by rw [R.tracks, hN, i32_le (by omega) (by omega)]; omega), show t = N by omega]
  | succ d ih =>
    intro t K seen ht hK hI
    obtain ⟨k, rfl⟩ : ∃ k, K = k + 1 := ⟨K - 1, by omega⟩
    rw [pX0_groups_22, if_neg (by rw [R.tracks, hN, i32_le (by omega) (by omega)]; omega)]
    unfold pX0_groups_59
    rw [i32_succ]
    by_cases c : bt seen t = true
    · rw [if_pos (bt_1.mpr c)]
      obtain ⟨s0, s1, s2⟩ := (hI t (by omega)).mp c
      have hl : ldr (fun a b => tog D a b off) N t = false := pb_f.mpr (fun q => q s0 s1 s2)
      have e : cn (ldr (fun a b => tog D a b off) N) (t + 1) = cn (ldr (fun a b => tog D a b off) N) t := by
        show cn _ t + (if _ then 1 else 0) = _
        rw [hl]; simp
      have := ih (t + 1) k seen (by omega) (by omega) (fun i hi => by
        rw [hI i hi]
        refine ⟨fun ⟨s, a1, a2⟩ => ⟨s, by omega, a2⟩, fun ⟨s, a1, a2⟩ => ?_⟩
        by_cases e : s = t
        · subst e; exact ⟨s0, s1, s2.tr a2⟩
        · exact ⟨s, by omega, a2⟩)
      rw [e] at this
      exact this
    · rw [if_neg (fun q => c (bt_1.mp q))]
      have hle := cn_le (bt ((1 : Int32) <<< (i32 t &&& 31))) 24
      obtain ⟨m, m1, m2, m3, m4⟩ := spreadR (off := off) R hN hN24 40 ((1 : Int32) <<< (i32 t &&& 31)) (by omega)
      have m1' : pX0_spreads f g ((1 : Int32) <<< (i32 t &&& 31)) off = some m := m1
      rw [m1']
      simp only [Option.bind_some]
      have hm : ∀ i, i < N → (bt m i = true ↔ con (fun a b => tog D a b off) N t i) := fun i hi => by
        refine ⟨fun h Z hZ hz => m4 Z hZ (fun j hj hb => ?_) i (by omega) h, fun h => ?_⟩
        · rw [bt_one (by omega) hj, decide_eq_true_eq] at hb
          rw [hb]; exact hz
        · exact h (fun j => bt m j = true) (fun a b ha hb h1 h2 => m3 a b ha hb h1 h2) (m2 t (by omega) (by rw [bt_one (by omega) (by omega)]; simp))
      have hl : ldr (fun a b => tog D a b off) N t = true := pb_t.mpr (fun s hs q => c ((hI t (by omega)).mpr ⟨s, hs, q⟩))
      have e : cn (ldr (fun a b => tog D a b off) N) (t + 1) = cn (ldr (fun a b => tog D a b off) N) t + 1 := by
        show cn _ t + (if _ then 1 else 0) = _
        rw [hl]; simp
      have := ih (t + 1) k (seen ||| m) (by omega) (by omega) (fun i hi => by
        rw [bt_or (by omega), Bool.or_eq_true, hI i hi, hm i hi]
        refine ⟨fun h => ?_, fun ⟨s, a1, a2⟩ => ?_⟩
        · rcases h with ⟨s, a1, a2⟩ | h
          · exact ⟨s, by omega, a2⟩
          · exact ⟨t, by omega, h⟩
        · by_cases e : s = t
          · subst e; exact Or.inr a2
          · exact Or.inl ⟨s, by omega, a2⟩)
      rw [e] at this
      rw [i32_succ]
      exact this
/-! the twin -/
noncomputable def lda (a : Nat → Int32) (t : Nat) : Bool := pb (∀ s, s < t → ¬ a s = a t)
theorem least {P : Nat → Prop} : ∀ n, P n → ∃ m, m ≤ n ∧ P m ∧ ∀ s, s < m → ¬ P s := by
  intro n
  induction n using Nat.strongRecOn with
  | ind n ih =>
    intro h
    by_cases c : ∃ s, s < n ∧ P s
    · obtain ⟨s, s1, s2⟩ := c
      obtain ⟨m, m1, m2, m3⟩ := ih s s1 s2
      exact ⟨m, by omega, m2, m3⟩
    · exact ⟨n, Nat.le_refl _, h, fun s hs q => c ⟨s, hs, q⟩⟩
theorem merge_cn {N x y : Nat} {a b : Nat → Int32} (hx : x < N) (hy : y < N) (hne : ¬ a x = a y) (hb : ∀ t, t < N → b t = if a t = a x then a y else a t) : cn (lda a) N = cn (lda b) N + 1 := by
  obtain ⟨lx, x1, x2, x3⟩ := least (P := fun t => a t = a x) x rfl
  obtain ⟨ly, y1, y2, y3⟩ := least (P := fun t => a t = a y) y rfl
  have hl : lx ≠ ly := fun q => hne (by rw [← x2, q, y2])
  -- the greater of the two leads no more
  have key : ∀ mx mn : Nat, mx < N → mn < mx → (a mx = a x ∨ a mx = a y) → (a mn = a x ∨ a mn = a y) → (∀ s, s < mx → ¬ a s = a mx) → (∀ s, s < mn → ¬ a s = a x ∧ ¬ a s = a y) → (∀ t, t < N → (a t = a x ∨ a t = a y) → (∀ s, s < t → ¬ a s = a t) → t = mx ∨ t = mn) → cn (lda a) N = cn (lda b) N + 1 := by
    intro mx mn h1 h2 h3 h4 h5 h6 h7
    have bU : ∀ t, t < N → (a t = a x ∨ a t = a y) → b t = a y := fun t ht q => by
      rw [hb t ht]
      rcases q with q | q
      · rw [if_pos q]
      · by_cases e : a t = a x
        · rw [if_pos e]
        · rw [if_neg e]; exact q
    have bO : ∀ t, t < N → ¬ (a t = a x ∨ a t = a y) → b t = a t := fun t ht q => by
      rw [hb t ht, if_neg (fun e => q (Or.inl e))]
    refine cn_one N mx (fun t ht hne => ?_) h1 (pb_t.mpr h5) (pb_f.mpr (fun q => q mn h2 (by rw [bU mn (by omega) h4, bU mx h1 h3])))
    rw [Bool.eq_iff_iff]
    unfold lda
    rw [pb_t, pb_t]
    by_cases cu : a t = a x ∨ a t = a y
    · refine ⟨fun q s hs e => ?_, fun q s hs e => ?_⟩
      · rcases h7 t ht cu q with r | r
        · exact hne r
        · subst r
          rw [bU t ht cu] at e
          by_cases cs : a s = a x ∨ a s = a y
          · rcases cs with r | r
            · exact (h6 s hs).1 r
            · exact (h6 s hs).2 r
          · rw [bO s (by omega) cs] at e
            exact cs (Or.inr e)
      · exact q s hs (by
          have cs : a s = a x ∨ a s = a y := by rw [e]; exact cu
          rw [bU s (by omega) cs, bU t ht cu])
    · refine ⟨fun q s hs e => ?_, fun q s hs e => ?_⟩
      · rw [bO t ht cu] at e
        by_cases cs : a s = a x ∨ a s = a y
        · rw [bU s (by omega) cs] at e
          exact cu (Or.inr e.symm)
        · rw [bO s (by omega) cs] at e
          exact q s hs e
      · refine q s hs ?_
        have cs : ¬ (a s = a x ∨ a s = a y) := by rw [e]; exact cu
        rw [bO s (by omega) cs, bO t ht cu]; exact e
  have hT : ∀ t, t < N → (a t = a x ∨ a t = a y) → (∀ s, s < t → ¬ a s = a t) → t = lx ∨ t = ly := fun t ht q h => by
    rcases q with q | q
    · left
      by_cases c : lx < t
      · exact absurd (by rw [x2, q]) (h lx c)
      · by_cases c2 : t < lx
        · exact absurd q (x3 t c2)
        · omega
    · right
      by_cases c : ly < t
      · exact absurd (by rw [y2, q]) (h ly c)
      · by_cases c2 : t < ly
        · exact absurd q (y3 t c2)
        · omega
  by_cases c : lx < ly
  · exact key ly lx (by omega) c (Or.inr y2) (Or.inl x2) (fun s hs q => y3 s hs (by rw [q, y2])) (fun s hs => ⟨x3 s hs, y3 s (by omega)⟩) (fun t ht q h => (hT t ht q h).symm)
  · exact key lx ly (by omega) (by omega) (Or.inl x2) (Or.inr y2) (fun s hs q => x3 s hs (by rw [q, x2])) (fun s hs => ⟨x3 s (by omega), y3 s hs⟩) (fun t ht q h => hT t ht q h)
theorem relabel {D : xD} {N : Nat} {off n : Int32} (hN : D.1 32 = i32 N) (hN24 : N ≤ 24) (k44 : xF → xG → Int32 → Int32 → Int32 → Option (Int32 × xF × xG)) (k55 : xF → xG → Int32 → Int32 → Int32 → Int32 → Option (Int32 × xF × xG)) (a0 : Nat → Int32) (x y : Nat) (hx : x < N) (hy : y < N) (hne : ¬ a0 x = a0 y) :
    ∀ (d t K : Nat) (p : Nat → Int32), t + d = N → d < K → (∀ i, i < t → p i = if a0 i = a0 x then a0 y else a0 i) → (∀ i, t ≤ i → p i = a0 i) →
      ∃ p2, pX8_groups_102 k44 k55 K D.1 (va_up D.2 36 p) off n (i32 x) (i32 y) (a0 x) (i32 t) = k55 D.1 (va_up D.2 36 p2) off (n + -1) (i32 x) (i32 (y + 1)) ∧ ∀ i, i < N → p2 i = if a0 i = a0 x then a0 y else a0 i := by
  intro d
  induction d with
  | zero =>
    intro t K p ht hK h1 h2
    obtain ⟨k, rfl⟩ : ∃ k, K = k + 1 := ⟨K - 1, by omega⟩
    refine ⟨p, ?_, fun i hi => h1 i (by omega)⟩
    rw [pX8_groups_102, if_pos (by rw [hN, i32_le (by omega) (by omega)]; omega)]
    unfold pX8_groups_153 pX8_groups_156
    rw [i32_succ]
  | succ d ih =>
    intro t K p ht hK h1 h2
    obtain ⟨k, rfl⟩ : ∃ k, K = k + 1 := ⟨K - 1, by omega⟩
    have hgt : gin (i32 t) 24 = true := gin_i (by omega) (by omega)
    have hgy : gin (i32 y) 24 = true := gin_i (by omega) (by omega)
    have ct : (i32 t).toNatClampNeg = t := i32_cl (by omega)
    have cy : (i32 y).toNatClampNeg = y := i32_cl (by omega)
    have hpy : p y = a0 y := by
      by_cases c : y < t
      · rw [h1 y c, if_neg (fun q => hne q.symm)]
      · exact h2 y (by omega)
    rw [pX8_groups_102, if_neg (by rw [hN, i32_le (by omega) (by omega)]; omega), if_pos hgt, if_pos hgy, if_pos hgt, ct, cy, va_up_self, h2 t (Nat.le_refl _), hpy]
    unfold pX8_groups_146
    rw [if_pos hgt, if_pos hgt, ct, va_up_self, va_up_up, va_up_up, i32_succ]
    have main : ∀ v : Int32, v = (if a0 t = a0 x then a0 y else a0 t) → ∃ p2, pX8_groups_102 k44 k55 k D.1 (va_up D.2 36 (upd p t v)) off n (i32 x) (i32 y) (a0 x) (i32 (t + 1)) = k55 D.1 (va_up D.2 36 p2) off (n + -1) (i32 x) (i32 (y + 1)) ∧ ∀ i, i < N → p2 i = if a0 i = a0 x then a0 y else a0 i := by
      intro v hv
      refine ih (t + 1) k _ (by omega) (by omega) (fun i hi => ?_) (fun i hi => ?_)
      · by_cases c : i = t
        · rw [c, upd_e]; exact hv
        · rw [upd_n c]; exact h1 i (by omega)
      · rw [upd_n (by omega)]; exact h2 i (by omega)
    by_cases c : a0 t = a0 x
    · rw [if_pos c]; exact main _ (by rw [if_pos c])
    · rw [if_neg c]; exact main _ (by rw [if_neg c])
theorem tog_sy {D : xD} (Gd : Good D) {a b : Nat} {off : Int32} (h : tog D a b off) : tog D b a off := by
  have hx : ∀ i, 0 ≤ (D.2 34 i).toInt ∧ (D.2 34 i).toInt ≤ 999 := Gd.2.1 34
  have h1 := hx a
  have h2 := hx b
  refine ⟨h.1.symm, ?_⟩
  have e : wabs (D.2 34 b - D.2 34 a) = wabs (D.2 34 a - D.2 34 b) := by
    rw [wabs_sub h2.1 (by omega) h1.1 (by omega), wabs_sub h1.1 (by omega) h2.1 (by omega)]
    by_cases c : D.2 34 a ≤ D.2 34 b
    · rw [if_pos c]
      by_cases c2 : D.2 34 b ≤ D.2 34 a
      · rw [if_pos c2]
        have : D.2 34 a = D.2 34 b := by
          rw [Int32.le_iff_toInt_le] at c c2
          rw [← Int32.toInt_inj]; omega
        rw [this]
      · rw [if_neg c2]
    · rw [if_neg c, if_pos]
      rw [Int32.le_iff_toInt_le] at c ⊢
      omega
  rw [e]; exact h.2
theorem groups55 {D : xD} {N : Nat} {off : Int32} (Gd : Good D) (hN : D.1 32 = i32 N) (hN24 : N ≤ 24) (k44 : xF → xG → Int32 → Int32 → Int32 → Option (Int32 × xF × xG)) (a : Nat) (ha : a < N) :
    ∀ (d b K : Nat) (p : Nat → Int32), b + d = a → d < K → (∀ x y, x < N → y < N → p x = p y → con (fun a b => tog D a b off) N x y) → (∀ x y, x < N → y < x → (x < a ∨ (x = a ∧ y < b)) → tog D x y off → p x = p y) →
      ∃ p2, pX8_groups_55 k44 K D.1 (va_up D.2 36 p) off (i32 (cn (lda p) N)) (i32 a) (i32 b) = k44 D.1 (va_up D.2 36 p2) off (i32 (cn (lda p2) N)) (i32 (a + 1)) ∧ (∀ x y, x < N → y < N → p2 x = p2 y → con (fun a b => tog D a b off) N x y) ∧ (∀ x y, x < N → y < x → x < a + 1 → tog D x y off → p2 x = p2 y) := by
  have hdb : ∀ b : Nat, Decidable (tog D (i32 a).toNatClampNeg (i32 b).toNatClampNeg off) := fun b => Classical.propDecidable _
  intro d
  induction d with
  | zero =>
    intro b K p hb hK h1 h2
    obtain ⟨k, rfl⟩ : ∃ k, K = k + 1 := ⟨K - 1, by omega⟩
    refine ⟨p, ?_, h1, fun x y hx hy hxa => h2 x y hx hy (by omega)⟩
    rw [pX8_groups_55, if_pos (by rw [i32_le (by omega) (by omega)]; omega)]
    unfold pX8_groups_162
    rw [i32_succ]
  | succ d ih =>
    intro b K p hb hK h1 h2
    obtain ⟨k, rfl⟩ : ∃ k, K = k + 1 := ⟨K - 1, by omega⟩
    have hga : gin (i32 a) 24 = true := gin_i (by omega) (by omega)
    have hgb : gin (i32 b) 24 = true := gin_i (by omega) (by omega)
    have ea : (i32 a).toNatClampNeg = a := i32_cl (by omega)
    have eb : (i32 b).toNatClampNeg = b := i32_cl (by omega)
    have hD := hdb b
    rw [pX8_groups_55, if_neg (by rw [i32_le (by omega) (by omega)]; omega), areT8 (D := D) Gd (va_up_ne _ _ (by decide)) (va_up_ne _ _ (by decide)) hga hgb]
    simp only [Option.bind_some, zi_0]
    by_cases c : tog D a b off
    case neg =>
      rw [if_pos (by rw [ea, eb]; exact c)]
      unfold pX8_groups_156
      rw [i32_succ]
      refine ih (b + 1) k p (by omega) (by omega) h1 (fun x y hx hy hq ht => ?_)
      by_cases e : x = a ∧ y = b
      · obtain ⟨e1, e2⟩ := e
        subst e1; subst e2; exact absurd ht c
      · exact h2 x y hx hy (by omega) ht
    rw [if_neg (by rw [ea, eb]; exact fun q => q c), if_pos hga, if_pos hgb, if_pos hga, ea, eb, va_up_self]
    by_cases c2 : p a = p b
    · rw [if_pos c2]
      unfold pX8_groups_156
      rw [i32_succ]
      refine ih (b + 1) k p (by omega) (by omega) h1 (fun x y hx hy hq ht => ?_)
      by_cases e : x = a ∧ y = b
      · obtain ⟨e1, e2⟩ := e
        subst e1; subst e2; exact c2
      · exact h2 x y hx hy (by omega) ht
    · rw [if_neg c2]
      obtain ⟨p2, r1, r2⟩ := relabel (off := off) (n := i32 (cn (lda p) N)) hN hN24 k44 (pX8_groups_55 k44 k) p a b ha (by omega) c2 N 0 5000 p (by omega) (by omega) (fun i hi => by omega) (fun i _ => rfl)
      have r1' : pX8_groups_102 k44 (pX8_groups_55 k44 k) 5000 D.1 (va_up D.2 36 p) off (i32 (cn (lda p) N)) (i32 a) (i32 b) (p a) 0 = _ := r1
      rw [r1']
      have hcn := merge_cn (a := p) (b := p2) ha (show b < N by omega) c2 r2
      have hle := cn_le (lda p) N
      have en : i32 (cn (lda p) N) + -1 = i32 (cn (lda p2) N) := by
        have := i32_ofsub (m := cn (lda p) N) (j := 0) (by omega) (by omega)
        rw [Nat.sub_zero] at this
        rw [this, hcn]; rfl
      rw [en]
      have hcon : con (fun a b => tog D a b off) N a b := con.st ha (by omega) c
      have hcon2 : con (fun a b => tog D a b off) N b a := con.st (by omega) ha (tog_sy Gd c)
      have pab : p2 a = p b := by rw [r2 a ha, if_pos rfl]
      refine ih (b + 1) k p2 (by omega) (by omega) (fun x y hx hy he => ?_) (fun x y hx hy hq ht => ?_)
      · rw [r2 x hx, r2 y hy] at he
        by_cases cx : p x = p a
        · rw [if_pos cx] at he
          by_cases cy : p y = p a
          · exact h1 x y hx hy (by rw [cx, cy])
          · rw [if_neg cy] at he
            exact ((h1 x a hx ha cx).tr hcon).tr (h1 b y (by omega) hy he)
        · rw [if_neg cx] at he
          by_cases cy : p y = p a
          · rw [if_pos cy] at he
            exact ((h1 x b hx (by omega) he).tr hcon2).tr (h1 a y ha hy cy.symm)
          · rw [if_neg cy] at he
            exact h1 x y hx hy he
      · by_cases e : x = a ∧ y = b
        · obtain ⟨e1, e2⟩ := e
          subst e1; subst e2
          rw [pab, r2 y (by omega), if_neg (fun q => c2 q.symm)]
        · have := h2 x y hx hy (by omega) ht
          rw [r2 x hx, r2 y (by omega), this]
theorem groups44 {D : xD} {N : Nat} {off : Int32} (Gd : Good D) (hN : D.1 32 = i32 N) (hN24 : N ≤ 24) :
    ∀ (d a K : Nat) (p : Nat → Int32), a + d = N → d < K → (∀ x y, x < N → y < N → p x = p y → con (fun a b => tog D a b off) N x y) → (∀ x y, x < N → y < x → x < a → tog D x y off → p x = p y) →
      ∃ p2, pX8_groups_44 K D.1 (va_up D.2 36 p) off (i32 (cn (lda p) N)) (i32 a) = some (i32 (cn (ldr (fun a b => tog D a b off) N) N), D.1, va_up D.2 36 p2) := by
  intro d
  induction d with
  | zero =>
    intro a K p ha hK h1 h2
    obtain ⟨k, rfl⟩ : ∃ k, K = k + 1 := ⟨K - 1, by omega⟩
    refine ⟨p, ?_⟩
    rw [pX8_groups_44, if_pos (by rw [hN, i32_le (by omega) (by omega)]; omega)]
    have e : cn (lda p) N = cn (ldr (fun a b => tog D a b off) N) N := cn_eq N (fun t ht => by
      rw [Bool.eq_iff_iff]
      unfold lda ldr
      rw [pb_t, pb_t]
      have hiff : ∀ s, s < t → (con (fun a b => tog D a b off) N s t ↔ p s = p t) := fun s hs => by
        refine ⟨fun q => ?_, fun q => h1 s t (by omega) ht q⟩
        have := q (fun z => p z = p s) (fun x y hx hy hz ht2 => by
          show p y = p s
          by_cases c : y < x
          · rw [← h2 x y hx c (by omega) ht2]; exact hz
          · by_cases c2 : x < y
            · rw [h2 y x hy c2 (by omega) (tog_sy Gd ht2)]; exact hz
            · rw [show y = x by omega]; exact hz) rfl
        exact this.symm
      exact ⟨fun q s hs r => q s hs ((hiff s hs).mp r), fun q s hs r => q s hs ((hiff s hs).mpr r)⟩)
    rw [e]
  | succ d ih =>
    intro a K p ha hK h1 h2
    obtain ⟨k, rfl⟩ : ∃ k, K = k + 1 := ⟨K - 1, by omega⟩
    rw [pX8_groups_44, if_neg (by rw [hN, i32_le (by omega) (by omega)]; omega)]
    obtain ⟨p2, r1, r2, r3⟩ := groups55 (off := off) Gd hN hN24 (pX8_groups_44 k) a (by omega) a 0 5000 p (by omega) (by omega) h1 (fun x y hx hy hq ht => h2 x y hx hy (by omega) ht)
    have r1' : pX8_groups_55 (pX8_groups_44 k) 5000 D.1 (va_up D.2 36 p) off (i32 (cn (lda p) N)) (i32 a) 0 = _ := r1
    rw [r1']
    exact ih (a + 1) k p2 (by omega) (by omega) r2 r3
theorem groups16 {D : xD} {N : Nat} {off : Int32} (hN : D.1 32 = i32 N) (hN24 : N ≤ 24) :
    ∀ (d t K : Nat) (p : Nat → Int32), t + d = N → d < K → (∀ i, i < t → p i = i32 i) →
      ∃ p2, pX8_groups_16 K D.1 (va_up D.2 36 p) off (i32 t) = pX8_groups_37 D.1 (va_up D.2 36 p2) off ∧ ∀ i, i < N → p2 i = i32 i := by
  intro d
  induction d with
  | zero =>
    intro t K p ht hK h1
    obtain ⟨k, rfl⟩ : ∃ k, K = k + 1 := ⟨K - 1, by omega⟩
    refine ⟨p, ?_, fun i hi => h1 i (by omega)⟩
    rw [pX8_groups_16, if_pos (by rw [hN, i32_le (by omega) (by omega)]; omega)]
  | succ d ih =>
    intro t K p ht hK h1
    obtain ⟨k, rfl⟩ : ∃ k, K = k + 1 := ⟨K - 1, by omega⟩
    rw [pX8_groups_16, if_neg (by rw [hN, i32_le (by omega) (by omega)]; omega), if_pos (gin_i (by omega) (by omega)), i32_cl (by omega), va_up_self, va_up_up, i32_succ]
    refine ih (t + 1) k _ (by omega) (by omega) (fun i hi => ?_)
    by_cases c : i = t
    · rw [c, upd_e]
    · rw [upd_n c]; exact h1 i (by omega)
theorem P_groups {D : xD} {f : xF} {g : xG} (R : cR D f g) (Gd : Good D) (ofs : Int32) : Sim D [] [36] (rd f g (pX0_groups f g ofs)) (pX8_groups D.1 D.2 ofs) := by
  obtain ⟨N, hN24, hN⟩ := i32_ex (x := D.1 32) (N := 24) (Gd.1 32).1 (Gd.1 32).2 (by omega)
  simp only [rd, pX0_groups, pX8_groups, pX0_groups_0, pX8_groups_0, in0, in8, Option.bind_some, zi_0, ite_not, Int32.reduceToInt, Int64.reduceToInt]
  by_cases c1 : 0 ≤ ofs.toInt ∧ ofs.toInt ≤ 99
  case neg => simp only [c1, if_false, Option.bind_some]; exact Sim.same R Gd
  simp only [c1, and_self, if_true]
  have e0 := groups0 (off := ofs) R hN hN24 N 0 5000 0 (by omega) (by omega) (fun i hi => by
    rw [bt_zero (by omega)]
    exact ⟨fun q => (by cases q), fun ⟨s, hs, _⟩ => (by omega)⟩)
  have e0' : pX0_groups_22 f g 5000 ofs 0 0 0 = some (i32 (cn (ldr (fun a b => tog D a b ofs) N) N)) := e0
  obtain ⟨p1, q1, q2⟩ := groups16 (off := ofs) hN hN24 N 0 5000 (D.2 36) (by omega) (by omega) (fun i hi => by omega)
  rw [va_up_id] at q1
  have q1' : pX8_groups_16 5000 D.1 D.2 ofs 0 = pX8_groups_37 D.1 (va_up D.2 36 p1) ofs := q1
  have inj : ∀ x y, x < N → y < N → p1 x = p1 y → x = y := fun x y hx hy h => by
    rw [q2 x hx, q2 y hy] at h
    exact (i32_inj (by omega) (by omega)).mp h
  have ecn : cn (lda p1) N = N := by
    have : ∀ n, n ≤ N → cn (lda p1) n = n := by
      intro n
      induction n with
      | zero => intro _; rfl
      | succ n ih =>
        intro h
        have hl : lda p1 n = true := pb_t.mpr (fun s hs q => by have := inj s n (by omega) (by omega) q; omega)
        show cn _ n + (if _ then 1 else 0) = _
        rw [ih (by omega), hl]; simp
    exact this N (Nat.le_refl _)
  obtain ⟨p2, r⟩ := groups44 (off := ofs) Gd hN hN24 N 0 5000 p1 (by omega) (by omega) (fun x y hx hy h => by rw [inj x y hx hy h]; exact con.rf) (fun x y _ _ h => by omega)
  rw [ecn] at r
  have r' : pX8_groups_37 D.1 (va_up D.2 36 p1) ofs = some (i32 (cn (ldr (fun a b => tog D a b ofs) N) N), D.1, va_up D.2 36 p2) := by
    show pX8_groups_44 5000 D.1 (va_up D.2 36 p1) ofs (D.1 32) 0 = _
    rw [hN]; exact r
  rw [e0', q1', r']
  simp only [Option.bind_some]
  exact Sim.leaf (E := (D.1, va_up D.2 36 p2)) (R.off (lf := []) (lg := [36]) ((off.rf D).ug (by decide)) (by decide) (by decide) (by decide)) ⟨Gd.1, gA_r Gd.2.1 (fun i => ⟨i32_min _, i32_max _⟩), gX.ug (D := D) Gd.2.2 (by decide)⟩ ((off.rf D).ug (by decide))

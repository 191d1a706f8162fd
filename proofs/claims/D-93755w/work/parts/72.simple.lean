/-! SIMPLE METHODS (mine; printed by pure/mk72.py): stone, night, stoneTold, force, peg, cross, track, together, image, back, count -/
def liesB (n : Nat) (a : Nat → Int32) (p : Int32) : Bool := (List.range n).any (fun j => a j == p)
theorem liesB_t {n : Nat} {a : Nat → Int32} {p : Int32} : liesB n a p = true ↔ ∃ j, j < n ∧ a j = p := by simp [liesB]
theorem liesAt0 {f : xF} {g : xG} {n : Nat} (hf : f 2 = i32 n) (hn : n ≤ 10) (p : Int32) : pX0_liesAt f g p = some (zi (liesB n (g 1) p = true)) := by
  refine loopV (F := fun k (s : Int32 × Int32) => pX0_liesAt_2 f g k s.1 s.2) (s := (p, 0)) (n := n) (fun j s => s = (p, i32 j) ∧ ∀ i, i < j → g 1 i ≠ p) ?_ ?_ (by omega) ⟨rfl, fun i hi => by omega⟩
  · rintro j s k hj ⟨rfl, hI⟩
    show pX0_liesAt_2 f g (k + 1) p (i32 j) = _ ∨ _
    rw [pX0_liesAt_2, hf, if_neg (by rw [i32_le (by omega) (by omega)]; omega), if_pos (gin_i (by omega) (by omega)), i32_cl (by omega)]
    by_cases hp : g 1 j = p
    · left; rw [if_pos hp, zi_t (liesB_t.mpr ⟨j, hj, hp⟩)]
    · right
      rw [if_neg hp]
      refine ⟨(p, i32 (j + 1)), ⟨rfl, fun i hi => ?_⟩, by rw [i32_succ]⟩
      by_cases h : i = j
      · rw [h]; exact hp
      · exact hI i (by omega)
  · rintro s k ⟨rfl, hI⟩
    show pX0_liesAt_2 f g (k + 1) p (i32 n) = _
    rw [pX0_liesAt_2, hf, if_pos (by rw [i32_le (by omega) (by omega)]; omega), zi_f]
    intro h
    obtain ⟨j, hj, hp⟩ := liesB_t.mp h
    exact hI j hj hp
theorem liesAt8 {f : xF} {g : xG} {n : Nat} (hf : f 0 = i32 n) (hn : n ≤ 10) (w p : Int32) : pX8_stone_28 5000 f g w p 0 = if liesB n (g 4) p = true then some (-3, f, g) else pX8_stone_55 f g w p := by
  have key : ∀ d j K : Nat, j + d = n → d < K → (∀ i, i < j → g 4 i ≠ p) → pX8_stone_28 K f g w p (i32 j) = if liesB n (g 4) p = true then some (-3, f, g) else pX8_stone_55 f g w p := by
    intro d
    induction d with
    | zero =>
      intro j K hj hK hI
      obtain ⟨k, rfl⟩ : ∃ k, K = k + 1 := ⟨K - 1, by omega⟩
      rw [pX8_stone_28, hf, if_pos (by rw [i32_le (by omega) (by omega)]; omega), if_neg]
      intro h
      obtain ⟨i, hi, hp⟩ := liesB_t.mp h
      exact hI i (by omega) hp
    | succ d ih =>
      intro j K hj hK hI
      obtain ⟨k, rfl⟩ : ∃ k, K = k + 1 := ⟨K - 1, by omega⟩
      rw [pX8_stone_28, hf, if_neg (by rw [i32_le (by omega) (by omega)]; omega), if_pos (gin_i (by omega) (by omega)), i32_cl (by omega)]
      by_cases hp : g 4 j = p
      · rw [if_pos hp, if_pos (liesB_t.mpr ⟨j, by omega, hp⟩)]
      · rw [if_neg hp, i32_succ]
        refine ih (j + 1) k (by omega) (by omega) (fun i hi => ?_)
        by_cases h : i = j
        · rw [h]; exact hp
        · exact hI i (by omega)
  exact key n 0 5000 (by omega) (by omega) (fun i hi => by omega)
theorem gs_n {D : xD} (Gd : Good D) : ∃ n : Nat, n ≤ 10 ∧ D.1 0 = i32 n := i32_ex (Gd.1 0).1 (Gd.1 0).2 (by omega)
theorem gX.uf {D : xD} {k : Nat} {v : Int32} (h : gX D) (h1 : 12 ≠ k) (h2 : 11 ≠ k) (h3 : 44 ≠ k) (h4 : 43 ≠ k) (h5 : 0 ≠ k) (h6 : 32 ≠ k) (h7 : 45 ≠ k) : gX (upd D.1 k v, D.2) := by
  unfold gX at *
  simpa only [upd_n h1, upd_n h2, upd_n h3, upd_n h4, upd_n h5, upd_n h6, upd_n h7] using h
theorem gX.ug {D : xD} {k : Nat} {a : Nat → Int32} (h : gX D) (h1 : 33 ≠ k) : gX (D.1, va_up D.2 k a) := by
  unfold gX at *
  simpa only [va_up_ne D.2 a h1] using h
theorem ne_toInt {x y : Int32} (h : ¬ x = y) : x.toInt ≠ y.toInt := fun q => h (Int32.toInt_inj.mp q)
theorem vg {g : xG} {k j : Nat} {a : Nat → Int32} : va_up g k a j = if j = k then a else g j := rfl
theorem gX_st {D : xD} (hx : gX D) (hs1 : (D.1 0 + 1).toInt = (D.1 0).toInt + 1) : gX (upd D.1 0 (D.1 0 + 1), D.2) := by
  unfold gX at *
  simp only [upd_e, upd_n (show 12 ≠ 0 by decide), upd_n (show 11 ≠ 0 by decide), upd_n (show 44 ≠ 0 by decide), upd_n (show 43 ≠ 0 by decide), upd_n (show 32 ≠ 0 by decide), upd_n (show 45 ≠ 0 by decide), hs1]
  refine ⟨hx.1, hx.2.1, by omega, by omega, fun i => ?_⟩
  rcases hx.2.2.2.2 i with h | h
  · exact Or.inl h
  · exact Or.inr (by omega)
theorem i32_div {x d : Int32} (h : 0 ≤ x.toInt) (hd : 0 < d.toInt) : (x / d).toInt = x.toInt / d.toInt := by
  rw [Int32.toInt_div_of_ne_right x d (fun q => by rw [q] at hd; exact absurd hd (by decide))]
  exact Int.tdiv_eq_ediv_of_nonneg h
theorem i32_sub {x y : Int32} (h1 : -2147483648 ≤ x.toInt - y.toInt) (h2 : x.toInt - y.toInt ≤ 2147483647) : (x - y).toInt = x.toInt - y.toInt := by
  rw [Int32.toInt_sub]; exact Int.bmod_eq_of_le (by omega) (by omega)
theorem i32_addI {x y : Int32} (h1 : -2147483648 ≤ x.toInt + y.toInt) (h2 : x.toInt + y.toInt ≤ 2147483647) : (x + y).toInt = x.toInt + y.toInt := by
  rw [Int32.toInt_add]; exact Int.bmod_eq_of_le (by omega) (by omega)
theorem i32_mul {x y : Int32} (h1 : -2147483648 ≤ x.toInt * y.toInt) (h2 : x.toInt * y.toInt ≤ 2147483647) : (x * y).toInt = x.toInt * y.toInt := by
  rw [Int32.toInt_mul]; exact Int.bmod_eq_of_le (by omega) (by omega)
theorem i32_mod {x d : Int32} (h : 0 ≤ x.toInt) (hd : 0 < d.toInt) : (x - x / d * d).toInt = x.toInt % d.toInt := by
  have h1 := i32_div h hd
  have h3 : 0 ≤ x.toInt / d.toInt := Int.ediv_nonneg h (by omega)
  have h4 : x.toInt / d.toInt * d.toInt ≤ x.toInt := Int.ediv_mul_le _ (by omega)
  have h6 : 0 ≤ x.toInt / d.toInt * d.toInt := Int.mul_nonneg h3 (by omega)
  have h5 := i32_max x
  have h2 : (x / d * d).toInt = x.toInt / d.toInt * d.toInt := by
    rw [i32_mul, h1] <;> rw [h1] <;> omega
  rw [i32_sub (by rw [h2]; omega) (by rw [h2]; omega), h2, Int.emod_def, Int.mul_comm]
theorem cpy0 {a b : Nat → Int32} {j : Nat} : va_cpy a b j j 0 = b := by
  funext i; unfold va_cpy; rw [if_neg (by omega)]
theorem cpyS {a b : Nat → Int32} {j d : Nat} : va_cpy a (upd b j (a j)) (j + 1) (j + 1) d = va_cpy a b j j (d + 1) := by
  funext i
  unfold va_cpy
  by_cases h1 : i = j
  · subst h1; rw [if_neg (by omega), if_pos (by omega), upd_e, Nat.sub_self, Nat.add_zero]
  · by_cases h2 : j + 1 ≤ i ∧ i < j + 1 + d
    · rw [if_pos h2, if_pos (by omega), show j + 1 + (i - (j + 1)) = j + (i - j) by omega]
    · rw [if_neg h2, upd_n h1, if_neg (by omega)]
theorem va_up_id {α : Type} {g : Nat → α} {k : Nat} : va_up g k (g k) = g := by
  funext j; unfold va_up; split
  · next h => rw [h]
  · rfl
theorem va_up_up {α : Type} {g : Nat → α} {k : Nat} {a b : α} : va_up (va_up g k a) k b = va_up g k b := by
  funext j; unfold va_up; split <;> rfl
theorem img8 {n : Nat} {f : xF} (hf : f 0 = i32 n) (hn : n ≤ 10) : ∀ (d j K : Nat) (g : xG), j + d = n → d < K → pX8_image_47 K f g (i32 j) = some (f 0, f, va_up g 48 (va_cpy (g 4) (g 48) j j d)) := by
  intro d
  induction d with
  | zero =>
    intro j K g hj hK
    obtain ⟨k, rfl⟩ : ∃ k, K = k + 1 := ⟨K - 1, by omega⟩
    rw [pX8_image_47, if_pos (by rw [hf, i32_le (by omega) (by omega)]; omega), cpy0, va_up_id]
  | succ d ih =>
    intro j K g hj hK
    obtain ⟨k, rfl⟩ : ∃ k, K = k + 1 := ⟨K - 1, by omega⟩
    rw [pX8_image_47, if_neg (by rw [hf, i32_le (by omega) (by omega)]; omega), if_pos (gin_i (by omega) (by omega)), if_pos (gin_i (by omega) (by omega)), i32_cl (by omega), i32_succ, ih (j + 1) k _ (by omega) (by omega), va_up_self, va_up_ne _ _ (show 4 ≠ 48 by decide), va_up_up, cpyS]
theorem bak8 {n : Nat} {f : xF} (hf : f 43 = i32 n) (hn : n ≤ 10) : ∀ (d j K : Nat) (g : xG), j + d = n → d < K → pX8_back_44 K f g (i32 j) = some (f 0, f, va_up g 4 (va_cpy (g 48) (g 4) j j d)) := by
  intro d
  induction d with
  | zero =>
    intro j K g hj hK
    obtain ⟨k, rfl⟩ : ∃ k, K = k + 1 := ⟨K - 1, by omega⟩
    rw [pX8_back_44, if_pos (by rw [hf, i32_le (by omega) (by omega)]; omega), cpy0, va_up_id]
  | succ d ih =>
    intro j K g hj hK
    obtain ⟨k, rfl⟩ : ∃ k, K = k + 1 := ⟨K - 1, by omega⟩
    rw [pX8_back_44, if_neg (by rw [hf, i32_le (by omega) (by omega)]; omega), if_pos (gin_i (by omega) (by omega)), if_pos (gin_i (by omega) (by omega)), i32_cl (by omega), i32_succ, ih (j + 1) k _ (by omega) (by omega), va_up_self, va_up_ne _ _ (show 48 ≠ 4 by decide), va_up_up, cpyS]
theorem gcp_n {n : Nat} (h : n ≤ 10) : gcp (0 : Int32) (0 : Int32) (i32 n) 10 10 = true := by
  have h1 : ¬ i32 n < 0 := by rw [show (0 : Int32) = i32 0 from rfl, i32_lt (by omega) (by omega)]; omega
  simp only [gcp, i32_cl (show n < 2147483648 by omega), h1, show (0 : Int32).toNatClampNeg = 0 from rfl, Nat.zero_add, h, Int32.lt_irrefl, decide_true, decide_false, not_false_eq_true, Bool.and_self]
theorem Sim.leaf {α : Type} {D : xD} {lf lg : List Nat} {v : α} {f1 : xF} {g1 : xG} {E : xD} (h1 : cR E f1 g1) (h2 : Good E) (h3 : off lf lg D E) : Sim D lf lg (some (v, f1, g1)) (some (v, E.1, E.2)) := ⟨v, f1, g1, E, rfl, rfl, h1, h2, h3⟩
theorem Sim.rd {D : xD} {lf lg : List Nat} {f : xF} {g : xG} {p0 p8 : Option Int32} (R : cR D f g) (Gd : Good D) {v : Int32} (h0 : p0 = some v) (h8 : p8 = some v) : Sim D lf lg (rd f g p0) (rd D.1 D.2 p8) := by
  subst h0 h8; exact Sim.same R Gd
theorem P_stone {D : xD} {f : xF} {g : xG} (R : cR D f g) (Gd : Good D) (w p : Int32) : Sim D [0] [3, 4] (pX0_stone f g w p) (pX8_stone D.1 D.2 w p) := by
  obtain ⟨n, hn, h0⟩ := gs_n Gd
  have hb0 : 0 ≤ (D.1 0).toInt := (Gd.1 0).1
  have hb1 : (D.1 0).toInt ≤ 10 := (Gd.1 0).2
  simp only [pX0_stone, pX8_stone, pX0_stone_0, pX8_stone_0, in0, in8, isPl0, isSt0, isSt8, isTr0, isTr8, isTe0, isNi0, isNi8, isHo0, isHo8, Option.bind_some, zi_0, ite_not, Int32.reduceToInt, Int64.reduceToInt, Int32.toInt_toInt64, pX0_stone_19, pX8_stone_23, liesAt0 (R.stones.trans h0) hn, liesAt8 h0 hn, R.aP]
  by_cases c1 : (1 : Int) ≤ w.toInt ∧ w.toInt ≤ 99
  case neg => simp only [c1, if_false]; exact Sim.same R Gd
  simp only [c1, and_self, if_true]
  by_cases c2 : (0 : Int) ≤ p.toInt ∧ p.toInt ≤ 4095
  case neg => simp only [c2, if_false]; exact Sim.same R Gd
  simp only [c2, and_self, if_true]
  by_cases c3 : liesB n (D.2 4) p = true
  case pos => simp only [c3, if_true]; exact Sim.same R Gd
  simp only [c3, if_false, pX8_stone_55, R.stones]
  by_cases c9 : D.1 0 = 10
  case pos => simp only [c9, if_true]; exact Sim.same R Gd
  have hne : (D.1 0).toInt ≠ 10 := ne_toInt c9
  have hg : gin (D.1 0) 10 = true := gin_t hb0 (by omega)
  have hs1 := one_add hb1 (by decide)
  simp only [c9, if_false, hg, if_true, upd_e, R.aW, R.aP, vg]
  refine ⟨_, _, _, (upd (D.1) 0 (D.1 0 + 1), va_up (va_up (D.2) 3 (upd (D.2 3) (D.1 0).toNatClampNeg (w))) 4 (upd (D.2 4) (D.1 0).toNatClampNeg (p))), rfl, rfl, (((R.uf (k := 2) (k2 := 0) (v := D.1 0 + 1) (by decide) (by decide)).ug (k := 0) (k2 := 3) (a := (upd (D.2 3) (D.1 0).toNatClampNeg (w))) (by decide) (by decide) (by decide)).ug (k := 1) (k2 := 4) (a := (upd (D.2 4) (D.1 0).toNatClampNeg (p))) (by decide) (by decide) (by decide)), ⟨(gF_u (k := 0) (v := D.1 0 + 1) Gd.1 (by simp only [sLo]; omega) (by simp only [sHi]; omega)), (gA_u (k := 4) (i := (D.1 0).toNatClampNeg) (v := p) (gA_u (k := 3) (i := (D.1 0).toNatClampNeg) (v := w) Gd.2.1 (by simp only [aLo]; omega) (by simp only [aHi]; omega)) (by simp only [aLo]; omega) (by simp only [aHi]; omega)), ?_⟩, ((((off.rf D).uf (k := 0) (v := D.1 0 + 1) (by decide)).ug (k := 3) (a := (upd (D.2 3) (D.1 0).toNatClampNeg (w))) (by decide)).ug (k := 4) (a := (upd (D.2 4) (D.1 0).toNatClampNeg (p))) (by decide))⟩
  refine gX.ug (D := (upd D.1 0 (D.1 0 + 1), _)) (gX.ug (D := (upd D.1 0 (D.1 0 + 1), _)) ?_ (by decide)) (by decide)
  exact gX_st Gd.2.2 hs1
theorem comes8 {f : xF} {g : xG} {v : Int32} (hg : gin (f 1) 60 = true) : pX8_comes f g v = some (upd f 1 (f 1 + 1), va_up (va_up (va_up (va_up g 5 (upd (g 5) (f 1).toNatClampNeg (v / 10000))) 6 (upd (g 6) (f 1).toNatClampNeg (v / 1000 - v / 1000 / 10 * 10))) 7 (upd (g 7) (f 1).toNatClampNeg (v / 10 - v / 10 / 100 * 100))) 8 (upd (g 8) (f 1).toNatClampNeg (v - v / 10 * 10))) := by
  simp only [pX8_comes, pX8_comes_0, hg, if_true]; rfl
theorem isWea8 {f : xF} {g : xG} {v : Int32} : pX8_isWeather f g v = some (zi ((0 ≤ v.toInt ∧ v.toInt ≤ 99999) ∧ (v - v / 10 * 10).toInt < 4)) := by
  simp only [pX8_isWeather, pX8_isWeather_0, pX8_isWeather_23, pX8_isWeather_24, in8, Option.bind_some, zi_0, ite_not, Int32.reduceToInt, Int32.le_iff_toInt_le, gbz0, gbz1, if_true]
  by_cases c1 : (0 ≤ v.toInt ∧ v.toInt ≤ 99999)
  · rw [if_pos c1]
    by_cases c2 : 4 ≤ (v - v / 10 * 10).toInt
    · rw [if_pos c2, zi_f (by omega)]
    · rw [if_neg c2, zi_t ⟨c1, by omega⟩]
  · rw [if_neg c1, zi_f (fun q => c1 q.1)]
theorem P_night {D : xD} {f : xF} {g : xG} (R : cR D f g) (Gd : Good D) (v : Int32) : Sim D [1] [5, 6, 7, 8] (pX0_night f g v) (pX8_night D.1 D.2 v) := by
  simp only [pX0_night, pX8_night, pX0_night_0, pX8_night_0, isWea8, Option.bind_some, zi_0, ite_not, pX0_night_22, Int32.lt_iff_toInt_lt, Int32.le_iff_toInt_le, Int32.reduceToInt]
  by_cases c1 : v.toInt < 0
  case pos => rw [if_pos c1, if_neg (by omega)]; exact Sim.same R Gd
  have hdv := i32_div (x := v) (d := 10000) (by omega) (by decide)
  have hdv : (v / 10000).toInt = v.toInt / 10000 := hdv
  rw [if_neg c1, hdv]
  by_cases c2 : 9 < v.toInt / 10000
  case pos => rw [if_pos c2, if_neg (by omega)]; exact Sim.same R Gd
  rw [if_neg c2]
  by_cases c3 : (v - v / 10 * 10).toInt ≤ 3
  case neg => rw [if_neg c3, if_neg (by omega)]; exact Sim.same R Gd
  rw [if_pos c3, if_pos (show (0 ≤ v.toInt ∧ v.toInt ≤ 99999) ∧ (v - v / 10 * 10).toInt < 4 by omega)]
  have hb0 : 0 ≤ (D.1 1).toInt := (Gd.1 1).1
  have hb1 : (D.1 1).toInt ≤ 60 := (Gd.1 1).2
  simp only [R.nights]
  by_cases c9 : D.1 1 = 60
  case pos => simp only [c9, if_true]; exact Sim.same R Gd
  have hne : (D.1 1).toInt ≠ 60 := ne_toInt c9
  have hg : gin (D.1 1) 60 = true := gin_t hb0 (by omega)
  have hs1 := one_add hb1 (by decide)
  simp only [c9, if_false, comes8 hg, Option.bind_some, hg, if_true, upd_e, R.aWet, R.aIce, R.aWind, R.aWay, vg]
  have e1 : (v / 1000).toInt = v.toInt / 1000 := i32_div (d := 1000) (by omega) (by decide)
  have e2 : (v / 10).toInt = v.toInt / 10 := i32_div (d := 10) (by omega) (by decide)
  have e3 : (v / 1000 - v / 1000 / 10 * 10).toInt = (v / 1000).toInt % 10 := i32_mod (d := 10) (by omega) (by decide)
  have e4 : (v / 10 - v / 10 / 100 * 100).toInt = (v / 10).toInt % 100 := i32_mod (d := 100) (by omega) (by decide)
  have e5 : (v - v / 10 * 10).toInt = v.toInt % 10 := i32_mod (d := 10) (by omega) (by decide)
  refine ⟨_, _, _, (upd (D.1) 1 (D.1 1 + 1), va_up (va_up (va_up (va_up (D.2) 5 (upd (D.2 5) (D.1 1).toNatClampNeg (v / 10000))) 6 (upd (D.2 6) (D.1 1).toNatClampNeg (v / 1000 - v / 1000 / 10 * 10))) 7 (upd (D.2 7) (D.1 1).toNatClampNeg (v / 10 - v / 10 / 100 * 100))) 8 (upd (D.2 8) (D.1 1).toNatClampNeg (v - v / 10 * 10))), rfl, rfl, (((((R.uf (k := 7) (k2 := 1) (v := D.1 1 + 1) (by decide) (by decide)).ug (k := 3) (k2 := 5) (a := (upd (D.2 5) (D.1 1).toNatClampNeg (v / 10000))) (by decide) (by decide) (by decide)).ug (k := 4) (k2 := 6) (a := (upd (D.2 6) (D.1 1).toNatClampNeg (v / 1000 - v / 1000 / 10 * 10))) (by decide) (by decide) (by decide)).ug (k := 5) (k2 := 7) (a := (upd (D.2 7) (D.1 1).toNatClampNeg (v / 10 - v / 10 / 100 * 100))) (by decide) (by decide) (by decide)).ug (k := 6) (k2 := 8) (a := (upd (D.2 8) (D.1 1).toNatClampNeg (v - v / 10 * 10))) (by decide) (by decide) (by decide)), ⟨(gF_u (k := 1) (v := D.1 1 + 1) Gd.1 (by simp only [sLo]; omega) (by simp only [sHi]; omega)), (gA_u (k := 8) (i := (D.1 1).toNatClampNeg) (v := v - v / 10 * 10) (gA_u (k := 7) (i := (D.1 1).toNatClampNeg) (v := v / 10 - v / 10 / 100 * 100) (gA_u (k := 6) (i := (D.1 1).toNatClampNeg) (v := v / 1000 - v / 1000 / 10 * 10) (gA_u (k := 5) (i := (D.1 1).toNatClampNeg) (v := v / 10000) Gd.2.1 (by simp only [aLo]; omega) (by simp only [aHi]; omega)) (by simp only [aLo]; omega) (by simp only [aHi]; omega)) (by simp only [aLo]; omega) (by simp only [aHi]; omega)) (by simp only [aLo]; omega) (by simp only [aHi]; omega)), ?_⟩, ((((((off.rf D).uf (k := 1) (v := D.1 1 + 1) (by decide)).ug (k := 5) (a := (upd (D.2 5) (D.1 1).toNatClampNeg (v / 10000))) (by decide)).ug (k := 6) (a := (upd (D.2 6) (D.1 1).toNatClampNeg (v / 1000 - v / 1000 / 10 * 10))) (by decide)).ug (k := 7) (a := (upd (D.2 7) (D.1 1).toNatClampNeg (v / 10 - v / 10 / 100 * 100))) (by decide)).ug (k := 8) (a := (upd (D.2 8) (D.1 1).toNatClampNeg (v - v / 10 * 10))) (by decide))⟩
  exact (gX.ug (k := 8) (a := (upd (D.2 8) (D.1 1).toNatClampNeg (v - v / 10 * 10))) (gX.ug (k := 7) (a := (upd (D.2 7) (D.1 1).toNatClampNeg (v / 10 - v / 10 / 100 * 100))) (gX.ug (k := 6) (a := (upd (D.2 6) (D.1 1).toNatClampNeg (v / 1000 - v / 1000 / 10 * 10))) (gX.ug (k := 5) (a := (upd (D.2 5) (D.1 1).toNatClampNeg (v / 10000))) (gX.uf (k := 1) (v := D.1 1 + 1) Gd.2.2 (by decide) (by decide) (by decide) (by decide) (by decide) (by decide) (by decide)) (by decide)) (by decide)) (by decide)) (by decide))
theorem P_stoneTold {D : xD} {f : xF} {g : xG} (R : cR D f g) (Gd : Good D) (v w : Int32) : Sim D [] [] (rd f g (pX0_stoneTold f g v w)) (rd D.1 D.2 (pX8_stoneTold D.1 D.2 v w)) := by
  have hb0 : 0 ≤ (D.1 0).toInt := (Gd.1 0).1
  have hb1 : (D.1 0).toInt ≤ 10 := (Gd.1 0).2
  simp only [rd, pX0_stoneTold, pX8_stoneTold, pX0_stoneTold_0, pX8_stoneTold_0, pX0_stoneTold_40, pX0_stoneTold_42, pX8_stoneTold_18, pX8_stoneTold_40, in0, in8, isPl0, isSt0, isSt8, isTr0, isTr8, isTe0, isNi0, isNi8, isHo0, isHo8, Option.bind_some, zi_0, ite_not, Int32.reduceToInt, Int64.reduceToInt, Int32.toInt_toInt64, R.stones]
  by_cases c1 : 0 ≤ v.toInt ∧ v.toInt ≤ (D.1 0 - 1).toInt
  case neg => simp only [c1, if_false, Option.bind_some]; exact Sim.same R Gd
  have h1 := cnt_lt hb0 c1.2
  have hg : gin v 10 = true := gin_t c1.1 (by omega)
  simp only [c1, and_self, if_true, hg, R.aW, R.aP]
  by_cases c2 : 0 ≤ w.toInt ∧ w.toInt ≤ 1
  case neg => simp only [c2, if_false, Option.bind_some]; exact Sim.same R Gd
  simp only [c2, and_self, if_true]
  by_cases c3 : w = 0
  · simp only [c3, if_true, Option.bind_some]; exact Sim.same R Gd
  · simp only [c3, if_false, Option.bind_some]; exact Sim.same R Gd
theorem P_force {D : xD} {f : xF} {g : xG} (R : cR D f g) (Gd : Good D) (v : Int32) : Sim D [12] [] (pX0_force f g v) (pX8_force D.1 D.2 v) := by
  have hb0 : 1 ≤ (D.1 11).toInt := (Gd.1 11).1
  have hb1 : (D.1 11).toInt ≤ 6 := (Gd.1 11).2
  simp only [pX0_force, pX8_force, pX0_force_0, pX8_force_0, in0, in8, isPl0, isSt0, isSt8, isTr0, isTr8, isTe0, isNi0, isNi8, isHo0, isHo8, Option.bind_some, zi_0, ite_not, Int32.reduceToInt, Int64.reduceToInt, Int32.toInt_toInt64, R.texts]
  by_cases c1 : 0 ≤ v.toInt ∧ v.toInt ≤ (D.1 11 - 1).toInt
  case neg => simp only [c1, if_false]; exact Sim.same R Gd
  simp only [c1, and_self, if_true]
  have h1 := cnt_lt (by omega) c1.2
  rw [R.rule]
  refine ⟨_, _, _, (upd (D.1) 12 (v), D.2), rfl, rfl, (R.uf (k := 26) (k2 := 12) (v := v) (by decide) (by decide)), ⟨(gF_u (k := 12) (v := v) Gd.1 (by simp only [sLo]; omega) (by simp only [sHi]; omega)), Gd.2.1, ?_⟩, ((off.rf D).uf (k := 12) (v := v) (by decide))⟩
  have hx := Gd.2.2
  unfold gX at *
  simp only [upd_e, upd_n (show 11 ≠ 12 by decide), upd_n (show 44 ≠ 12 by decide), upd_n (show 43 ≠ 12 by decide), upd_n (show 0 ≠ 12 by decide), upd_n (show 32 ≠ 12 by decide), upd_n (show 45 ≠ 12 by decide)]
  exact ⟨h1, hx.2⟩
theorem P_peg {D : xD} {f : xF} {g : xG} (R : cR D f g) (Gd : Good D) (p : Int32) : Sim D [37] [38] (pX0_peg f g p) (pX8_peg D.1 D.2 p) := by
  have hb0 : 0 ≤ (D.1 37).toInt := (Gd.1 37).1
  have hb1 : (D.1 37).toInt ≤ 8 := (Gd.1 37).2
  simp only [pX0_peg, pX8_peg, pX0_peg_0, pX8_peg_0, in0, in8, isPl0, isSt0, isSt8, isTr0, isTr8, isTe0, isNi0, isNi8, isHo0, isHo8, Option.bind_some, zi_0, ite_not, Int32.reduceToInt, Int64.reduceToInt, Int32.toInt_toInt64, R.pegs]
  by_cases c1 : 0 ≤ p.toInt ∧ p.toInt ≤ 4095
  case neg => simp only [c1, if_false]; exact Sim.same R Gd
  simp only [c1, and_self, if_true]
  by_cases c9 : D.1 37 = 8
  case pos => simp only [c9, if_true]; exact Sim.same R Gd
  have hne : (D.1 37).toInt ≠ 8 := ne_toInt c9
  have hg : gin (D.1 37) 8 = true := gin_t hb0 (by omega)
  have hs1 := one_add hb1 (by decide)
  simp only [c9, if_false, hg, if_true, upd_e, R.aPeg]
  refine ⟨_, _, _, (upd (D.1) 37 (D.1 37 + 1), va_up (D.2) 38 (upd (D.2 38) (D.1 37).toNatClampNeg (p))), rfl, rfl, ((R.uf (k := 36) (k2 := 37) (v := D.1 37 + 1) (by decide) (by decide)).ug (k := 35) (k2 := 38) (a := (upd (D.2 38) (D.1 37).toNatClampNeg (p))) (by decide) (by decide) (by decide)), ⟨(gF_u (k := 37) (v := D.1 37 + 1) Gd.1 (by simp only [sLo]; omega) (by simp only [sHi]; omega)), (gA_u (k := 38) (i := (D.1 37).toNatClampNeg) (v := p) Gd.2.1 (by simp only [aLo]; omega) (by simp only [aHi]; omega)), ?_⟩, (((off.rf D).uf (k := 37) (v := D.1 37 + 1) (by decide)).ug (k := 38) (a := (upd (D.2 38) (D.1 37).toNatClampNeg (p))) (by decide))⟩
  exact (gX.ug (k := 38) (a := (upd (D.2 38) (D.1 37).toNatClampNeg (p))) (gX.uf (k := 37) (v := D.1 37 + 1) Gd.2.2 (by decide) (by decide) (by decide) (by decide) (by decide) (by decide) (by decide)) (by decide))
theorem P_cross {D : xD} {f : xF} {g : xG} (R : cR D f g) (Gd : Good D) (a b : Int32) : Sim D [39] [40, 41] (pX0_cross f g a b) (pX8_cross D.1 D.2 a b) := by
  have hb0 : 0 ≤ (D.1 39).toInt := (Gd.1 39).1
  have hb1 : (D.1 39).toInt ≤ 20 := (Gd.1 39).2
  have ht0 : 0 ≤ (D.1 32).toInt := (Gd.1 32).1
  have ht1 : (D.1 32).toInt ≤ 24 := (Gd.1 32).2
  simp only [pX0_cross, pX8_cross, pX0_cross_0, pX8_cross_0, pX0_cross_21, pX8_cross_21, in0, in8, isPl0, isSt0, isSt8, isTr0, isTr8, isTe0, isNi0, isNi8, isHo0, isHo8, Option.bind_some, zi_0, ite_not, Int32.reduceToInt, Int64.reduceToInt, Int32.toInt_toInt64, R.tracks]
  by_cases c1 : 0 ≤ a.toInt ∧ a.toInt ≤ (D.1 32 - 1).toInt
  case neg => simp only [c1, if_false]; exact Sim.same R Gd
  simp only [c1, and_self, if_true]
  by_cases c2 : 0 ≤ b.toInt ∧ b.toInt ≤ (D.1 32 - 1).toInt
  case neg => simp only [c2, if_false]; exact Sim.same R Gd
  simp only [c2, and_self, if_true]
  by_cases c3 : a = b
  case pos => simp only [c3, if_true]; exact Sim.same R Gd
  have h1 := cnt_lt ht0 c1.2
  have h2 := cnt_lt ht0 c2.2
  simp only [c3, if_false, R.crosses]
  by_cases c9 : D.1 39 = 20
  case pos => simp only [c9, if_true]; exact Sim.same R Gd
  have hne : (D.1 39).toInt ≠ 20 := ne_toInt c9
  have hg : gin (D.1 39) 20 = true := gin_t hb0 (by omega)
  have hs1 := one_add hb1 (by decide)
  simp only [c9, if_false, hg, if_true, upd_e, R.aOv, R.aUn, vg]
  refine ⟨_, _, _, (upd (D.1) 39 (D.1 39 + 1), va_up (va_up (D.2) 40 (upd (D.2 40) (D.1 39).toNatClampNeg (a))) 41 (upd (D.2 41) (D.1 39).toNatClampNeg (b))), rfl, rfl, (((R.uf (k := 39) (k2 := 39) (v := D.1 39 + 1) (by decide) (by decide)).ug (k := 37) (k2 := 40) (a := (upd (D.2 40) (D.1 39).toNatClampNeg (a))) (by decide) (by decide) (by decide)).ug (k := 38) (k2 := 41) (a := (upd (D.2 41) (D.1 39).toNatClampNeg (b))) (by decide) (by decide) (by decide)), ⟨(gF_u (k := 39) (v := D.1 39 + 1) Gd.1 (by simp only [sLo]; omega) (by simp only [sHi]; omega)), (gA_u (k := 41) (i := (D.1 39).toNatClampNeg) (v := b) (gA_u (k := 40) (i := (D.1 39).toNatClampNeg) (v := a) Gd.2.1 (by simp only [aLo]; omega) (by simp only [aHi]; omega)) (by simp only [aLo]; omega) (by simp only [aHi]; omega)), ?_⟩, ((((off.rf D).uf (k := 39) (v := D.1 39 + 1) (by decide)).ug (k := 40) (a := (upd (D.2 40) (D.1 39).toNatClampNeg (a))) (by decide)).ug (k := 41) (a := (upd (D.2 41) (D.1 39).toNatClampNeg (b))) (by decide))⟩
  exact (gX.ug (k := 41) (a := (upd (D.2 41) (D.1 39).toNatClampNeg (b))) (gX.ug (k := 40) (a := (upd (D.2 40) (D.1 39).toNatClampNeg (a))) (gX.uf (k := 39) (v := D.1 39 + 1) Gd.2.2 (by decide) (by decide) (by decide) (by decide) (by decide) (by decide) (by decide)) (by decide)) (by decide))
theorem P_track {D : xD} {f : xF} {g : xG} (R : cR D f g) (Gd : Good D) (s l t : Int32) : Sim D [32] [33, 34, 35] (pX0_track f g s l t) (pX8_track D.1 D.2 s l t) := by
  have hb0 : 0 ≤ (D.1 32).toInt := (Gd.1 32).1
  have hb1 : (D.1 32).toInt ≤ 24 := (Gd.1 32).2
  have ht0 : 0 ≤ (D.1 0).toInt := (Gd.1 0).1
  have ht1 : (D.1 0).toInt ≤ 10 := (Gd.1 0).2
  simp only [pX0_track, pX8_track, pX0_track_0, pX8_track_0, pX0_track_32, pX8_track_31, in0, in8, isPl0, isSt0, isSt8, isTr0, isTr8, isTe0, isNi0, isNi8, isHo0, isHo8, Option.bind_some, zi_0, ite_not, Int32.reduceToInt, Int64.reduceToInt, Int32.toInt_toInt64, R.stones]
  by_cases c1 : 0 ≤ s.toInt ∧ s.toInt ≤ (D.1 0 - 1).toInt
  case neg => simp only [c1, if_false]; exact Sim.same R Gd
  simp only [c1, and_self, if_true]
  by_cases c2 : 0 ≤ l.toInt ∧ l.toInt ≤ 999
  case neg => simp only [c2, if_false]; exact Sim.same R Gd
  simp only [c2, and_self, if_true]
  by_cases c3 : 0 ≤ t.toInt ∧ t.toInt ≤ 99
  case neg => simp only [c3, if_false]; exact Sim.same R Gd
  simp only [c3, and_self, if_true]
  have h1 := cnt_lt ht0 c1.2
  simp only [R.tracks]
  by_cases c9 : D.1 32 = 24
  case pos => simp only [c9, if_true]; exact Sim.same R Gd
  have hne : (D.1 32).toInt ≠ 24 := ne_toInt c9
  have hg : gin (D.1 32) 24 = true := gin_t hb0 (by omega)
  have hs1 := one_add hb1 (by decide)
  simp only [c9, if_false, hg, if_true, upd_e, R.aTs, R.aTl, R.aTt, vg]
  refine ⟨_, _, _, (upd (D.1) 32 (D.1 32 + 1), va_up (va_up (va_up (D.2) 33 (upd (D.2 33) (D.1 32).toNatClampNeg (s))) 34 (upd (D.2 34) (D.1 32).toNatClampNeg (l))) 35 (upd (D.2 35) (D.1 32).toNatClampNeg (t))), rfl, rfl, ((((R.uf (k := 34) (k2 := 32) (v := D.1 32 + 1) (by decide) (by decide)).ug (k := 31) (k2 := 33) (a := (upd (D.2 33) (D.1 32).toNatClampNeg (s))) (by decide) (by decide) (by decide)).ug (k := 32) (k2 := 34) (a := (upd (D.2 34) (D.1 32).toNatClampNeg (l))) (by decide) (by decide) (by decide)).ug (k := 33) (k2 := 35) (a := (upd (D.2 35) (D.1 32).toNatClampNeg (t))) (by decide) (by decide) (by decide)), ⟨(gF_u (k := 32) (v := D.1 32 + 1) Gd.1 (by simp only [sLo]; omega) (by simp only [sHi]; omega)), (gA_u (k := 35) (i := (D.1 32).toNatClampNeg) (v := t) (gA_u (k := 34) (i := (D.1 32).toNatClampNeg) (v := l) (gA_u (k := 33) (i := (D.1 32).toNatClampNeg) (v := s) Gd.2.1 (by simp only [aLo]; omega) (by simp only [aHi]; omega)) (by simp only [aLo]; omega) (by simp only [aHi]; omega)) (by simp only [aLo]; omega) (by simp only [aHi]; omega)), ?_⟩, (((((off.rf D).uf (k := 32) (v := D.1 32 + 1) (by decide)).ug (k := 33) (a := (upd (D.2 33) (D.1 32).toNatClampNeg (s))) (by decide)).ug (k := 34) (a := (upd (D.2 34) (D.1 32).toNatClampNeg (l))) (by decide)).ug (k := 35) (a := (upd (D.2 35) (D.1 32).toNatClampNeg (t))) (by decide))⟩
  have hx := Gd.2.2
  unfold gX at *
  simp only [vg, upd_e, upd_n (show 11 ≠ 32 by decide), upd_n (show 12 ≠ 32 by decide), upd_n (show 44 ≠ 32 by decide), upd_n (show 43 ≠ 32 by decide), upd_n (show 0 ≠ 32 by decide), upd_n (show 45 ≠ 32 by decide)]
  refine ⟨hx.1, hx.2.1, hx.2.2.1, Or.inl (by omega), fun i => ?_⟩
  show (upd (D.2 33) (D.1 32).toNatClampNeg s i).toInt = 0 ∨ (upd (D.2 33) (D.1 32).toNatClampNeg s i).toInt < _
  by_cases hi : i = (D.1 32).toNatClampNeg
  · rw [hi, upd_e]; exact Or.inr h1
  · rw [upd_n hi]; exact hx.2.2.2.2 i
theorem P_count {D : xD} {f : xF} {g : xG} (R : cR D f g) (Gd : Good D) (v : Int32) : Sim D [] [] (rd f g (pX0_count f g v)) (rd D.1 D.2 (pX8_count D.1 D.2 v)) := by
  have e : pX0_count f g v = pX8_count D.1 D.2 v := by
    simp only [pX0_count, pX8_count, pX0_count_0, pX8_count_0, R.stones, R.nights, R.hows, R.tracks, R.pegs, R.crosses, R.texts, R.taped, R.rule]
  have h8 : ∃ z, pX8_count D.1 D.2 v = some z := by
    simp only [pX8_count, pX8_count_0]
    repeat' split
    all_goals exact ⟨_, rfl⟩
  obtain ⟨z, hz⟩ := h8
  exact Sim.rd R Gd (e.trans hz) hz
theorem cpy_b {a b : Nat → Int32} {n : Nat} {lo hi : Int} (ha : ∀ i, lo ≤ (a i).toInt ∧ (a i).toInt ≤ hi) (hb : ∀ i, lo ≤ (b i).toInt ∧ (b i).toInt ≤ hi) (i : Nat) : lo ≤ (va_cpy a b 0 0 n i).toInt ∧ (va_cpy a b 0 0 n i).toInt ≤ hi := by
  unfold va_cpy; split
  · exact ha _
  · exact hb _
theorem P_image {D : xD} {f : xF} {g : xG} (R : cR D f g) (Gd : Good D) : Sim D [42, 43, 44, 45, 46, 47] [48] (pX0_image f g) (pX8_image D.1 D.2) := by
  obtain ⟨n, hn, h0⟩ := gs_n Gd
  have e8 : pX8_image D.1 D.2 = some (D.1 0, upd (upd (upd (upd (upd (upd D.1 42 1) 43 (D.1 0)) 44 (D.1 12)) 45 (D.1 32)) 46 (D.1 39)) 47 (D.1 37), va_up D.2 48 (va_cpy (D.2 4) (D.2 48) 0 0 n)) :=
    (img8 (f := upd (upd (upd (upd (upd (upd D.1 42 1) 43 (D.1 0)) 44 (D.1 12)) 45 (D.1 32)) 46 (D.1 39)) 47 (D.1 37)) h0 hn n 0 5000 D.2 (by omega) (by omega))
  have e0 : pX0_image f g = some (f 2, upd (upd (upd (upd (upd (upd f 42 (f 2)) 43 (f 34)) 44 (f 39)) 45 (f 36)) 46 (f 26)) 41 1, va_up g 47 (va_cpy (g 1) (g 47) 0 0 n)) := by
    have hc := gcp_n hn
    rw [← h0, ← R.stones] at hc
    have hcl : (f 2).toNatClampNeg = n := by rw [R.stones, h0]; exact i32_cl (by omega)
    have e : pX0_image f g = if gcp (0 : Int32) (0 : Int32) (f 2) 10 10 = true then some (f 2, upd (upd (upd (upd (upd (upd f 42 (f 2)) 43 (f 34)) 44 (f 39)) 45 (f 36)) 46 (f 26)) 41 1, va_up g 47 (va_cpy (g 1) (g 47) (0 : Int32).toNatClampNeg (0 : Int32).toNatClampNeg (f 2).toNatClampNeg)) else none := rfl
    rw [e, if_pos hc, hcl]; rfl
  rw [e0, e8, R.stones, R.tracks, R.crosses, R.pegs, R.rule, R.aP, R.aIm]
  refine Sim.leaf (E := (upd (upd (upd (upd (upd (upd D.1 42 1) 43 (D.1 0)) 44 (D.1 12)) 45 (D.1 32)) 46 (D.1 39)) 47 (D.1 37), va_up D.2 48 (va_cpy (D.2 4) (D.2 48) 0 0 n))) ?_ ?_ ?_
  · refine cR.ug (D := (upd (upd (upd (upd (upd (upd D.1 42 1) 43 (D.1 0)) 44 (D.1 12)) 45 (D.1 32)) 46 (D.1 39)) 47 (D.1 37), D.2)) (k := 47) (k2 := 48) ⟨?_, R.2.1, fun i hi => R.2.2 i hi⟩ (by decide) (by decide) (by decide)
    simp only [cF, List.forall_mem_cons]
    refine ⟨R.stones, R.nights, R.hows, R.texts, R.rule, R.taped, R.tracks, R.pegs, R.crosses, rfl, rfl, rfl, rfl, rfl, rfl, fun _ h => by cases h⟩
  · have hx := Gd.2.2
    have b0 := Gd.1 0
    have b1 := Gd.1 12
    have b2 := Gd.1 32
    have b3 := Gd.1 39
    have b4 := Gd.1 37
    refine ⟨gF_u (gF_u (gF_u (gF_u (gF_u (gF_u Gd.1 (by decide) (by decide)) b0.1 b0.2) b1.1 b1.2) b2.1 b2.2) b3.1 b3.2) b4.1 b4.2, gA_r Gd.2.1 (cpy_b (Gd.2.1 4) (Gd.2.1 48)), ?_⟩
    refine gX.ug (D := (upd (upd (upd (upd (upd (upd D.1 42 1) 43 (D.1 0)) 44 (D.1 12)) 45 (D.1 32)) 46 (D.1 39)) 47 (D.1 37), D.2)) ?_ (by decide)
    exact ⟨hx.1, hx.1, Int.le_refl _, hx.2.2.2.1.imp id (fun q => ⟨q.1, q.1⟩), hx.2.2.2.2⟩
  · exact (((((((off.rf D).uf (by decide)).uf (by decide)).uf (by decide)).uf (by decide)).uf (by decide)).uf (by decide)).ug (by decide)
theorem P_back {D : xD} {f : xF} {g : xG} (R : cR D f g) (Gd : Good D) : Sim D [12, 32, 37, 39] [4] (pX0_back f g) (pX8_back D.1 D.2) := by
  by_cases c0 : D.1 42 = 0
  · have e0 : pX0_back f g = some (-3, f, g) := by
      simp only [pX0_back, pX0_back_0, R.hasI, c0, if_true]
    have e8 : pX8_back D.1 D.2 = some (-3, D.1, D.2) := by
      simp only [pX8_back, pX8_back_0, c0, if_true]
    rw [e0, e8]; exact Sim.same R Gd
  obtain ⟨n, hn, h0⟩ : ∃ n : Nat, n ≤ 10 ∧ D.1 43 = i32 n := i32_ex (Gd.1 43).1 (Gd.1 43).2 (by omega)
  have e8 : pX8_back D.1 D.2 = some (D.1 0, upd (upd (upd (upd D.1 12 (D.1 44)) 32 (D.1 45)) 39 (D.1 46)) 37 (D.1 47), va_up D.2 4 (va_cpy (D.2 48) (D.2 4) 0 0 n)) := by
    have e : pX8_back D.1 D.2 = if D.1 42 = 0 then some (-3, D.1, D.2) else pX8_back_44 5000 (upd (upd (upd (upd D.1 12 (D.1 44)) 32 (D.1 45)) 39 (D.1 46)) 37 (D.1 47)) D.2 0 := rfl
    rw [e, if_neg c0]
    exact (bak8 (f := upd (upd (upd (upd D.1 12 (D.1 44)) 32 (D.1 45)) 39 (D.1 46)) 37 (D.1 47)) h0 hn n 0 5000 D.2 (by omega) (by omega))
  have e0 : pX0_back f g = some (f 2, upd (upd (upd (upd f 34 (f 43)) 39 (f 44)) 36 (f 45)) 26 (f 46), va_up g 1 (va_cpy (g 47) (g 1) 0 0 n)) := by
    have hc := gcp_n hn
    rw [← h0, ← R.iSt] at hc
    have hcl : (f 42).toNatClampNeg = n := by rw [R.iSt, h0]; exact i32_cl (by omega)
    have e : pX0_back f g = if f 41 = 0 then some (-3, f, g) else if gcp (0 : Int32) (0 : Int32) (f 42) 10 10 = true then some (f 2, upd (upd (upd (upd f 34 (f 43)) 39 (f 44)) 36 (f 45)) 26 (f 46), va_up g 1 (va_cpy (g 47) (g 1) (0 : Int32).toNatClampNeg (0 : Int32).toNatClampNeg (f 42).toNatClampNeg)) else none := rfl
    rw [e, if_neg (by rw [R.hasI]; exact c0), if_pos hc, hcl]; rfl
  rw [e0, e8, R.stones, R.iTr, R.iCr, R.iPe, R.iRu, R.aP, R.aIm]
  refine Sim.leaf (E := (upd (upd (upd (upd D.1 12 (D.1 44)) 32 (D.1 45)) 39 (D.1 46)) 37 (D.1 47), va_up D.2 4 (va_cpy (D.2 48) (D.2 4) 0 0 n))) ?_ ?_ ?_
  · refine cR.ug (D := (upd (upd (upd (upd D.1 12 (D.1 44)) 32 (D.1 45)) 39 (D.1 46)) 37 (D.1 47), D.2)) (k := 1) (k2 := 4) ⟨?_, R.2.1, fun i hi => R.2.2 i hi⟩ (by decide) (by decide) (by decide)
    simp only [cF, List.forall_mem_cons]
    refine ⟨R.stones, R.nights, R.hows, R.texts, rfl, R.taped, rfl, rfl, rfl, R.hasI, R.iSt, R.iTr, R.iCr, R.iPe, R.iRu, fun _ h => by cases h⟩
  · have hx := Gd.2.2
    have b1 := Gd.1 44
    have b2 := Gd.1 45
    have b3 := Gd.1 46
    have b4 := Gd.1 47
    refine ⟨gF_u (gF_u (gF_u (gF_u Gd.1 b1.1 b1.2) b2.1 b2.2) b3.1 b3.2) b4.1 b4.2, gA_r Gd.2.1 (cpy_b (Gd.2.1 48) (Gd.2.1 4)), ?_⟩
    refine gX.ug (D := (upd (upd (upd (upd D.1 12 (D.1 44)) 32 (D.1 45)) 39 (D.1 46)) 37 (D.1 47), D.2)) ?_ (by decide)
    exact ⟨hx.2.1, hx.2.1, hx.2.2.1, hx.2.2.2.1.imp id (fun q => ⟨q.2, q.2⟩), hx.2.2.2.2⟩
  · exact (((((off.rf D).uf (by decide)).uf (by decide)).uf (by decide)).uf (by decide)).ug (by decide)

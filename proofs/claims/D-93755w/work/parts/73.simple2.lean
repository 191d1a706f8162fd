/-! MORE SIMPLE METHODS (mine): together, holds, isOut, feed -/
def tog (D : xD) (a b : Nat) (o : Int32) : Prop := D.2 35 a = D.2 35 b ∧ (wabs (D.2 34 a - D.2 34 b)).toInt ≤ o.toInt
theorem wabs_sub {x y : Int32} (hx : 0 ≤ x.toInt) (hx2 : x.toInt ≤ 99999999) (hy : 0 ≤ y.toInt) (hy2 : y.toInt ≤ 99999999) : (wabs (x - y)) = if y ≤ x then x - y else y - x := by
  have h1 : (x - y).toInt = x.toInt - y.toInt := i32_sub (by omega) (by omega)
  have h2 : (y - x).toInt = y.toInt - x.toInt := i32_sub (by omega) (by omega)
  unfold wabs
  by_cases c : y ≤ x
  · have c2 := Int32.le_iff_toInt_le.mp c
    rw [if_pos c, if_pos (by rw [Int32.le_iff_toInt_le, h1, Int32.toInt_zero]; omega)]
  · have c2 : ¬ y.toInt ≤ x.toInt := fun q => c (Int32.le_iff_toInt_le.mpr q)
    rw [if_neg c, if_neg (by rw [Int32.le_iff_toInt_le, h1, Int32.toInt_zero]; omega), ← Int32.toInt_inj, i32_sub (by rw [h1, Int32.toInt_zero]; omega) (by rw [h1, Int32.toInt_zero]; omega), h1, h2, Int32.toInt_zero]
    omega
theorem apart8 {f : xF} {g : xG} {x y : Int32} (hx : 0 ≤ x.toInt) (hx2 : x.toInt ≤ 99999999) (hy : 0 ≤ y.toInt) (hy2 : y.toInt ≤ 99999999) : pX8_apart f g x y = some (wabs (x - y)) := by
  rw [wabs_sub hx hx2 hy hy2]
  simp only [pX8_apart, pX8_apart_0, pX8_apart_14]
  split <;> rfl
theorem areT0 {D : xD} {f : xF} {g : xG} (R : cR D f g) {a b o : Int32} (ha : gin a 24 = true) (hb : gin b 24 = true) [Decidable (tog D a.toNatClampNeg b.toNatClampNeg o)] : pX0_areTogether f g a b o = some (zi (tog D a.toNatClampNeg b.toNatClampNeg o)) := by
  simp only [pX0_areTogether, pX0_areTogether_0, pX0_areTogether_39, pX0_areTogether_40, ha, hb, if_true, gbz0, gbz1, R.aTt, R.aTl, Int32.lt_iff_toInt_lt]
  by_cases c1 : D.2 35 a.toNatClampNeg = D.2 35 b.toNatClampNeg
  · rw [if_pos c1]
    by_cases c2 : o.toInt < (wabs (D.2 34 a.toNatClampNeg - D.2 34 b.toNatClampNeg)).toInt
    · rw [if_pos c2, zi_f (fun q => by have := q.2; omega)]
    · rw [if_neg c2, zi_t ⟨c1, by omega⟩]
  · rw [if_neg c1, zi_f (fun q => c1 q.1)]
theorem areT8 {D : xD} {f : xF} {g : xG} (Gd : Good D) (h34 : g 34 = D.2 34) (h35 : g 35 = D.2 35) {a b o : Int32} (ha : gin a 24 = true) (hb : gin b 24 = true) [Decidable (tog D a.toNatClampNeg b.toNatClampNeg o)] : pX8_areTogether f g a b o = some (zi (tog D a.toNatClampNeg b.toNatClampNeg o)) := by
  have hx : ∀ i, 0 ≤ (D.2 34 i).toInt ∧ (D.2 34 i).toInt ≤ 999 := Gd.2.1 34
  have hx1 := hx a.toNatClampNeg
  have hx2 := hx b.toNatClampNeg
  simp only [pX8_areTogether, pX8_areTogether_0, pX8_areTogether_39, pX8_areTogether_40, ha, hb, if_true, gbz0, gbz1, h34, h35, Int32.lt_iff_toInt_lt, apart8 (f := f) (g := g) hx1.1 (by omega) hx2.1 (by omega), Option.bind_some]
  by_cases c1 : D.2 35 a.toNatClampNeg = D.2 35 b.toNatClampNeg
  · rw [if_pos c1]
    by_cases c2 : o.toInt < (wabs (D.2 34 a.toNatClampNeg - D.2 34 b.toNatClampNeg)).toInt
    · rw [if_pos c2, zi_f (fun q => by have := q.2; omega)]
    · rw [if_neg c2, zi_t ⟨c1, by omega⟩]
  · rw [if_neg c1, zi_f (fun q => c1 q.1)]
theorem P_together {D : xD} {f : xF} {g : xG} (R : cR D f g) (Gd : Good D) (a b o : Int32) : Sim D [] [] (rd f g (pX0_together f g a b o)) (rd D.1 D.2 (pX8_together D.1 D.2 a b o)) := by
  have hb0 : 0 ≤ (D.1 32).toInt := (Gd.1 32).1
  have hb1 : (D.1 32).toInt ≤ 24 := (Gd.1 32).2
  have hD : Decidable (tog D a.toNatClampNeg b.toNatClampNeg o) := Classical.propDecidable _
  simp only [rd, pX0_together, pX8_together, pX0_together_0, pX8_together_0, pX0_together_33, pX0_together_51, pX8_together_32, pX8_together_50, isTr0, isTr8, in0, in8, R.tracks, Option.bind_some, zi_0, ite_not, Int32.reduceToInt, Int64.reduceToInt]
  by_cases c1 : 0 ≤ a.toInt ∧ a.toInt ≤ (D.1 32 - 1).toInt
  case neg => simp only [c1, if_false, Option.bind_some]; exact Sim.same R Gd
  by_cases c2 : 0 ≤ b.toInt ∧ b.toInt ≤ (D.1 32 - 1).toInt
  case neg => simp only [c1, and_self, if_true, c2, if_false, Option.bind_some]; exact Sim.same R Gd
  have h1 := cnt_lt hb0 c1.2
  have h2 := cnt_lt hb0 c2.2
  simp only [c1, c2, and_self, if_true, areT0 R (gin_t c1.1 (show a.toInt < (24 : Nat) by omega)) (gin_t c2.1 (show b.toInt < (24 : Nat) by omega)), areT8 (f := D.1) Gd rfl rfl (gin_t c1.1 (show a.toInt < (24 : Nat) by omega)) (gin_t c2.1 (show b.toInt < (24 : Nat) by omega)), Option.bind_some]
  by_cases c3 : a = b
  · simp only [c3, if_true, Option.bind_some]; exact Sim.same R Gd
  simp only [c3, if_false]
  by_cases c4 : 0 ≤ o.toInt ∧ o.toInt ≤ 99
  case neg => simp only [c4, if_false, Option.bind_some]; exact Sim.same R Gd
  simp only [c4, and_self, if_true]
  by_cases c5 : zi (tog D a.toNatClampNeg b.toNatClampNeg o) = 0
  · simp only [c5, if_true, Option.bind_some]; exact Sim.same R Gd
  · simp only [c5, if_false, Option.bind_some]; exact Sim.same R Gd
/-! pegs -/
def bz (b : Bool) : Int32 := if b then 1 else 0
theorem bz_0 {b : Bool} : (bz b = 0) ↔ b = false := by cases b <;> decide
def sb (a b l r : Bool) : Int32 := (if a then 1 else 0) ||| ((if b then 2 else 0) ||| ((if l then 4 else 0) ||| (if r then 8 else 0)))
theorem sb_or : ∀ a b l r a2 b2 l2 r2 : Bool, (((sb a b l r ||| (if a2 then (1 : Int32) else 0)) ||| (if b2 then (2 : Int32) else 0)) ||| (if l2 then (4 : Int32) else 0)) ||| (if r2 then (8 : Int32) else 0) = sb (a || a2) (b || b2) (l || l2) (r || r2) := by decide
theorem sb_15 : ∀ a b l r : Bool, (sb a b l r = 15) ↔ (a && b && l && r) = true := by decide
theorem dh_67 {f : xF} {g : xG} {k : Int32 → Int32 → Int32 → Int32 → Option Int32} {v1 v2 v4 v5 v6 t0 t1 : Int32} : pX0_doHold_67 f g k v1 v2 v4 v5 v6 t0 t1 = k v1 v2 ((((t0 ||| t1) ||| (if decide (1 ≤ v6.toInt ∧ v6.toInt ≤ v2.toInt) then (2 : Int32) else 0)) ||| (if decide (1 ≤ (-v5).toInt ∧ (-v5).toInt ≤ v2.toInt) then (4 : Int32) else 0)) ||| (if decide (1 ≤ v5.toInt ∧ v5.toInt ≤ v2.toInt) then (8 : Int32) else 0)) (v4 + 1) := by
  simp only [pX0_doHold_67, pX0_doHold_87, pX0_doHold_108, pX0_doHold_129, in0, Option.bind_some, zi_0, ite_not, Int64.reduceToInt, Int32.toInt_toInt64, decide_eq_true_eq]
  repeat' split
  all_goals rfl
theorem ih_88 {f : xF} {g : xG} {k : Int32 → Int32 → Int32 → Int32 → Int32 → Int32 → Int32 → Option Int32} {v1 v2 v7 v8 v9 t0 : Int32} {r a b : Bool} : pX8_isHeld_88 f g k v1 v2 (bz r) (bz a) (bz b) v7 v8 v9 t0 = k v1 v2 t0 (bz (r || decide (1 ≤ v8.toInt ∧ v8.toInt ≤ v2.toInt))) (bz (a || decide (1 ≤ (-v9).toInt ∧ (-v9).toInt ≤ v2.toInt))) (bz (b || decide (1 ≤ v9.toInt ∧ v9.toInt ≤ v2.toInt))) (v7 + 1) := by
  simp only [pX8_isHeld_88, pX8_isHeld_105, pX8_isHeld_110, pX8_isHeld_129, pX8_isHeld_134, pX8_isHeld_152, pX8_isHeld_157, in8, Option.bind_some, zi_0, ite_not, Int32.reduceToInt, bz_0]
  by_cases c1 : (1 ≤ v8.toInt ∧ v8.toInt ≤ v2.toInt) <;> by_cases c2 : (1 ≤ (-v9).toInt ∧ (-v9).toInt ≤ v2.toInt) <;> by_cases c3 : (1 ≤ v9.toInt ∧ v9.toInt ≤ v2.toInt) <;> cases r <;> cases a <;> cases b <;> simp only [c1, c2, c3, and_self, decide_true, decide_false, if_true, if_false, reduceCtorEq] <;> rfl
theorem ih_step {f : xF} {g : xG} {n : Nat} {v1 v2 v7 : Int32} {l r a b : Bool} (h7 : gin v7 8 = true) (h1 : gin v1 10 = true) (hp : ¬ f 37 ≤ v7) : pX8_isHeld_14 f g (n + 1) v1 v2 (bz l) (bz r) (bz a) (bz b) v7 = pX8_isHeld_88 f g (pX8_isHeld_14 f g n) v1 v2 (bz r) (bz a) (bz b) v7 ((g 38 v7.toNatClampNeg - g 38 v7.toNatClampNeg / 64 * 64) - (g 4 v1.toNatClampNeg - g 4 v1.toNatClampNeg / 64 * 64)) (g 38 v7.toNatClampNeg / 64 - g 4 v1.toNatClampNeg / 64) (bz (l || decide (1 ≤ (-((g 38 v7.toNatClampNeg - g 38 v7.toNatClampNeg / 64 * 64) - (g 4 v1.toNatClampNeg - g 4 v1.toNatClampNeg / 64 * 64))).toInt ∧ (-((g 38 v7.toNatClampNeg - g 38 v7.toNatClampNeg / 64 * 64) - (g 4 v1.toNatClampNeg - g 4 v1.toNatClampNeg / 64 * 64))).toInt ≤ v2.toInt))) := by
  rw [pX8_isHeld_14]
  simp only [hp, if_false, h7, h1, if_true, in8, Option.bind_some, zi_0, ite_not, Int32.reduceToInt, bz_0, pX8_isHeld_83]
  by_cases c1 : (1 ≤ (-((g 38 v7.toNatClampNeg - g 38 v7.toNatClampNeg / 64 * 64) - (g 4 v1.toNatClampNeg - g 4 v1.toNatClampNeg / 64 * 64))).toInt ∧ (-((g 38 v7.toNatClampNeg - g 38 v7.toNatClampNeg / 64 * 64) - (g 4 v1.toNatClampNeg - g 4 v1.toNatClampNeg / 64 * 64))).toInt ≤ v2.toInt) <;> cases l <;> simp only [c1, and_self, decide_true, decide_false, if_true, if_false, reduceCtorEq] <;> rfl
theorem dh_step {f : xF} {g : xG} {n : Nat} {v1 v2 v3 v4 : Int32} (h4 : gin v4 8 = true) (hp : ¬ f 36 ≤ v4) : pX0_doHold_5 f g (n + 1) v1 v2 v3 v4 = pX0_doHold_67 f g (pX0_doHold_5 f g n) v1 v2 v4 ((g 35 v4.toNatClampNeg - g 35 v4.toNatClampNeg / 64 * 64) - (v1 - v1 / 64 * 64)) (g 35 v4.toNatClampNeg / 64 - v1 / 64) v3 (if decide (1 ≤ (-(g 35 v4.toNatClampNeg / 64 - v1 / 64)).toInt ∧ (-(g 35 v4.toNatClampNeg / 64 - v1 / 64)).toInt ≤ v2.toInt) then (1 : Int32) else 0) := by
  rw [pX0_doHold_5]
  simp only [hp, if_false, h4, if_true, in0, Option.bind_some, zi_0, ite_not, Int64.reduceToInt, Int32.toInt_toInt64, decide_eq_true_eq]
  split <;> rfl
theorem held_eq {D : xD} {f : xF} {g : xG} (R : cR D f g) (Gd : Good D) {g8 : xG} (h38 : g8 38 = D.2 38) (h4 : g8 4 = D.2 4) {s far : Int32} (hs : gin s 10 = true) : ∃ b : Bool, (∀ (f1 : xF) (g1 : xG), f1 36 = f 36 → g1 35 = g 35 → pX0_doHold f1 g1 (D.2 4 s.toNatClampNeg) far = some (bz b)) ∧ ∀ f8 : xF, f8 37 = D.1 37 → pX8_isHeld f8 g8 s far = some (bz b) := by
  obtain ⟨n, hn, h0⟩ : ∃ n : Nat, n ≤ 8 ∧ D.1 37 = i32 n := i32_ex (Gd.1 37).1 (Gd.1 37).2 (by omega)
  have key : ∀ d j : Nat, j + d = n → ∀ a b l r : Bool, ∃ z : Bool, (∀ (f1 : xF) (g1 : xG), f1 36 = f 36 → g1 35 = g 35 → ∀ K, d < K → pX0_doHold_5 f1 g1 K (D.2 4 s.toNatClampNeg) far (sb a b l r) (i32 j) = some (bz z)) ∧ ∀ f8 : xF, f8 37 = D.1 37 → ∀ K, d < K → pX8_isHeld_14 f8 g8 K s far (bz l) (bz r) (bz a) (bz b) (i32 j) = some (bz z) := by
    intro d
    induction d with
    | zero =>
      intro j hj a b l r
      refine ⟨a && b && l && r, fun f1 g1 h1 h2 K hK => ?_, fun f8 h8 K hK => ?_⟩
      · obtain ⟨k, rfl⟩ : ∃ k, K = k + 1 := ⟨K - 1, by omega⟩
        rw [pX0_doHold_5, if_pos (by rw [h1, R.pegs, h0, i32_le (by omega) (by omega)]; omega)]
        simp only [pX0_doHold_137, pX0_doHold_148, sb_15, gbz0, gbz1, if_true]
        cases a <;> cases b <;> cases l <;> cases r <;> rfl
      · obtain ⟨k, rfl⟩ : ∃ k, K = k + 1 := ⟨K - 1, by omega⟩
        rw [pX8_isHeld_14, if_pos (by rw [h8, h0, i32_le (by omega) (by omega)]; omega)]
        cases a <;> cases b <;> cases l <;> cases r <;> rfl
    | succ d ih =>
      intro j hj a b l r
      have hg : gin (i32 j) 8 = true := gin_i (by omega) (by omega)
      have hcl : (i32 j).toNatClampNeg = j := i32_cl (by omega)
      have hnl : ¬ D.1 37 ≤ i32 j := by rw [h0, i32_le (by omega) (by omega)]; omega
      have hX := fun (x y : Int32) => ih (j + 1) (by omega) (a || decide (1 ≤ (-y).toInt ∧ (-y).toInt ≤ far.toInt)) (b || decide (1 ≤ y.toInt ∧ y.toInt ≤ far.toInt)) (l || decide (1 ≤ (-x).toInt ∧ (-x).toInt ≤ far.toInt)) (r || decide (1 ≤ x.toInt ∧ x.toInt ≤ far.toInt))
      obtain ⟨z, hz0, hz8⟩ := hX ((D.2 38 j - D.2 38 j / 64 * 64) - (D.2 4 s.toNatClampNeg - D.2 4 s.toNatClampNeg / 64 * 64)) (D.2 38 j / 64 - D.2 4 s.toNatClampNeg / 64)
      refine ⟨z, fun f1 g1 h1 h2 K hK => ?_, fun f8 h8 K hK => ?_⟩
      · obtain ⟨k, rfl⟩ : ∃ k, K = k + 1 := ⟨K - 1, by omega⟩
        rw [dh_step hg (by rw [h1, R.pegs]; exact hnl), dh_67, hcl, h2, R.aPeg, sb_or, i32_succ]
        exact hz0 f1 g1 h1 h2 k (by omega)
      · obtain ⟨k, rfl⟩ : ∃ k, K = k + 1 := ⟨K - 1, by omega⟩
        rw [ih_step hg hs (by rw [h8]; exact hnl), ih_88, hcl, h38, h4, i32_succ]
        exact hz8 f8 h8 k (by omega)
  obtain ⟨z, h1, h2⟩ := key n 0 (by omega) false false false false
  exact ⟨z, fun f1 g1 a b => h1 f1 g1 a b 5000 (by omega), fun f8 h8 => h2 f8 h8 5000 (by omega)⟩
theorem P_holds {D : xD} {f : xF} {g : xG} (R : cR D f g) (Gd : Good D) (s far : Int32) : Sim D [] [] (rd f g (pX0_holds f g s far)) (rd D.1 D.2 (pX8_holds D.1 D.2 s far)) := by
  have hb0 : 0 ≤ (D.1 0).toInt := (Gd.1 0).1
  have hb1 : (D.1 0).toInt ≤ 10 := (Gd.1 0).2
  simp only [rd, pX0_holds, pX8_holds, pX0_holds_0, pX8_holds_0, pX0_holds_42, pX0_holds_44, pX8_holds_19, pX8_holds_36, isSt0, isSt8, in0, in8, R.stones, Option.bind_some, zi_0, ite_not, Int32.reduceToInt, Int64.reduceToInt]
  by_cases c1 : 0 ≤ s.toInt ∧ s.toInt ≤ (D.1 0 - 1).toInt
  case neg => simp only [c1, if_false, Option.bind_some]; exact Sim.same R Gd
  by_cases c2 : 0 ≤ far.toInt ∧ far.toInt ≤ 63
  case neg => simp only [c1, and_self, if_true, c2, if_false, Option.bind_some]; exact Sim.same R Gd
  have h1 := cnt_lt hb0 c1.2
  have hg : gin s 10 = true := gin_t c1.1 (by omega)
  obtain ⟨z, e0, e8⟩ := held_eq R Gd (g8 := D.2) rfl rfl (far := far) hg
  simp only [c1, c2, and_self, if_true, hg, R.aP, e0 f g rfl rfl, e8 D.1 rfl, Option.bind_some, bz_0]
  cases z
  · exact Sim.same R Gd
  · exact Sim.same R Gd
/-! isOut -/
def lb (w n : Bool) : Int32 := (if w then 0 else 1) ||| (if n then 0 else 2)
theorem lb_or : ∀ w n w2 n2 : Bool, lb w n ||| ((if w2 then (0 : Int32) else 1) ||| (if n2 then (0 : Int32) else 2)) = lb (w && w2) (n && n2) := by decide
theorem lb_3 : ∀ w n : Bool, (lb w n = 3) ↔ (w || n) = false := by decide
theorem io0_step {f : xF} {g : xG} {n : Nat} {v1 v4 : Int32} {w e no so : Bool} (h4 : gin v4 8 = true) (hp : ¬ f 36 ≤ v4) : pX0_isOut_7 f g (n + 1) v1 (lb w no) (lb e so) v4 = pX0_isOut_7 f g n v1 (lb (w && decide (v1 - v1 / 64 * 64 < g 35 v4.toNatClampNeg - g 35 v4.toNatClampNeg / 64 * 64)) (no && decide (v1 / 64 < g 35 v4.toNatClampNeg / 64))) (lb (e && decide (g 35 v4.toNatClampNeg - g 35 v4.toNatClampNeg / 64 * 64 < v1 - v1 / 64 * 64)) (so && decide (g 35 v4.toNatClampNeg / 64 < v1 / 64))) (v4 + 1) := by
  rw [pX0_isOut_7, ← lb_or, ← lb_or]
  simp only [hp, if_false, h4, if_true, pX0_isOut_39, pX0_isOut_61, pX0_isOut_87, pX0_isOut_109, decide_eq_true_eq]
  repeat' split
  all_goals rfl
theorem io8_step {f : xF} {g : xG} {n : Nat} {v1 v6 : Int32} {w e no so : Bool} (h4 : gin v6 8 = true) (hp : ¬ f 37 ≤ v6) : pX8_isOut_13 f g (n + 1) v1 (bz w) (bz e) (bz no) (bz so) v6 = pX8_isOut_13 f g n v1 (bz (w && decide (v1 - v1 / 64 * 64 < g 38 v6.toNatClampNeg - g 38 v6.toNatClampNeg / 64 * 64))) (bz (e && decide (g 38 v6.toNatClampNeg - g 38 v6.toNatClampNeg / 64 * 64 < v1 - v1 / 64 * 64))) (bz (no && decide (v1 / 64 < g 38 v6.toNatClampNeg / 64))) (bz (so && decide (g 38 v6.toNatClampNeg / 64 < v1 / 64))) (v6 + 1) := by
  rw [pX8_isOut_13]
  simp only [hp, if_false, h4, if_true, pX8_isOut_47, pX8_isOut_48, pX8_isOut_74, pX8_isOut_75, pX8_isOut_102, pX8_isOut_103, pX8_isOut_131, pX8_isOut_132, bz_0]
  generalize v1 - v1 / 64 * 64 = x
  generalize g 38 v6.toNatClampNeg - g 38 v6.toNatClampNeg / 64 * 64 = px
  generalize v1 / 64 = y
  generalize g 38 v6.toNatClampNeg / 64 = py
  have L : ∀ a b : Int32, (a ≤ b) ↔ ¬ (b < a) := fun a b => by rw [Int32.le_iff_toInt_le, Int32.lt_iff_toInt_lt]; omega
  simp only [L, ite_not]
  by_cases c1 : x < px <;> by_cases c2 : px < x <;> by_cases c3 : y < py <;> by_cases c4 : py < y <;> cases w <;> cases e <;> cases no <;> cases so <;> simp only [c1, c2, c3, c4, decide_true, decide_false, if_true, if_false, reduceCtorEq] <;> rfl
theorem out_eq {D : xD} {f : xF} {g : xG} (R : cR D f g) (Gd : Good D) {g8 : xG} (h38 : g8 38 = D.2 38) (p : Int32) : ∃ b : Bool, (∀ (f1 : xF) (g1 : xG), f1 36 = f 36 → g1 35 = g 35 → pX0_isOut f1 g1 p = some (bz b)) ∧ ∀ f8 : xF, f8 37 = D.1 37 → pX8_isOut f8 g8 p = some (bz b) := by
  obtain ⟨n, hn, h0⟩ : ∃ n : Nat, n ≤ 8 ∧ D.1 37 = i32 n := i32_ex (Gd.1 37).1 (Gd.1 37).2 (by omega)
  have key : ∀ d j : Nat, j + d = n → ∀ w e no so : Bool, ∃ z : Bool, (∀ (f1 : xF) (g1 : xG), f1 36 = f 36 → g1 35 = g 35 → ∀ K, d < K → pX0_isOut_7 f1 g1 K p (lb w no) (lb e so) (i32 j) = some (bz z)) ∧ ∀ f8 : xF, f8 37 = D.1 37 → ∀ K, d < K → pX8_isOut_13 f8 g8 K p (bz w) (bz e) (bz no) (bz so) (i32 j) = some (bz z) := by
    intro d
    induction d with
    | zero =>
      intro j hj w e no so
      refine ⟨w || e || no || so, fun f1 g1 h1 h2 K hK => ?_, fun f8 h8 K hK => ?_⟩
      · obtain ⟨k, rfl⟩ : ∃ k, K = k + 1 := ⟨K - 1, by omega⟩
        rw [pX0_isOut_7, if_pos (by rw [h1, R.pegs, h0, i32_le (by omega) (by omega)]; omega)]
        cases w <;> cases e <;> cases no <;> cases so <;> rfl
      · obtain ⟨k, rfl⟩ : ∃ k, K = k + 1 := ⟨K - 1, by omega⟩
        rw [pX8_isOut_13, if_pos (by rw [h8, h0, i32_le (by omega) (by omega)]; omega)]
        cases w <;> cases e <;> cases no <;> cases so <;> rfl
    | succ d ih =>
      intro j hj w e no so
      have hg : gin (i32 j) 8 = true := gin_i (by omega) (by omega)
      have hcl : (i32 j).toNatClampNeg = j := i32_cl (by omega)
      have hnl : ¬ D.1 37 ≤ i32 j := by rw [h0, i32_le (by omega) (by omega)]; omega
      obtain ⟨z, hz0, hz8⟩ := ih (j + 1) (by omega) (w && decide (p - p / 64 * 64 < D.2 38 j - D.2 38 j / 64 * 64)) (e && decide (D.2 38 j - D.2 38 j / 64 * 64 < p - p / 64 * 64)) (no && decide (p / 64 < D.2 38 j / 64)) (so && decide (D.2 38 j / 64 < p / 64))
      refine ⟨z, fun f1 g1 h1 h2 K hK => ?_, fun f8 h8 K hK => ?_⟩
      · obtain ⟨k, rfl⟩ : ∃ k, K = k + 1 := ⟨K - 1, by omega⟩
        rw [io0_step hg (by rw [h1, R.pegs]; exact hnl), hcl, h2, R.aPeg, i32_succ]
        exact hz0 f1 g1 h1 h2 k (by omega)
      · obtain ⟨k, rfl⟩ : ∃ k, K = k + 1 := ⟨K - 1, by omega⟩
        rw [io8_step hg (by rw [h8]; exact hnl), hcl, h38, i32_succ]
        exact hz8 f8 h8 k (by omega)
  obtain ⟨z, h1, h2⟩ := key n 0 (by omega) true true true true
  exact ⟨z, fun f1 g1 a b => h1 f1 g1 a b 5000 (by omega), fun f8 h8 => h2 f8 h8 5000 (by omega)⟩

/-! WHAT PUSHES (mine): the hows on both sides; goesBy and pushes are one number -/
def HR (D : xD) (η : cx_H) : Prop := D.1 2 = i32 η.1 ∧ η.1 ≤ 8 ∧ ∀ j, j < η.1 → D.2 9 j = i32 (η.2.2.1 j) ∧ η.2.2.1 j ≤ 5 ∧ D.2 10 j = η.2.2.2 j
theorem HR.off {lf lg : List Nat} {D E : xD} {η : cx_H} (h : HR D η) (ho : off lf lg D E) (h1 : 2 ∉ lf) (h2 : 9 ∉ lg) (h3 : 10 ∉ lg) : HR E η := by
  unfold HR
  rw [ho.1 2 h1, ho.2 9 h2, ho.2 10 h3]
  exact h
def pu_m (κ : Nat) (wet ice : Int32) : Bool := decide (¬ wet = 0) && (if κ = 2 then decide (¬ ice ≤ 2) else if κ = 3 then decide (¬ ice ≤ 5) else if κ = 4 then decide (1 ≤ ice.toInt ∧ ice.toInt ≤ 4) else true)
def pu_d (κ : Nat) (nu w : Int32) : Int32 := if κ = 0 then 2 * w else if κ = 1 then 2 * w + nu else if κ = 2 then (2 * w + nu) / 4 else if κ = 3 then nu else if κ = 4 then (2 * w + nu) / 4 / 2 else 0
def pu_p (κ : Nat) (nu w wd : Int32) : Int32 := if κ = 5 then (if nu ≤ w / 5 then 0 else 1) else if κ = 3 then wmin 9 (wmax 0 ((wd - pu_d κ nu w) / 10)) else if κ = 4 then (if wmax 0 ((wd - pu_d κ nu w) / 10) ≤ 0 then 0 else wmax 0 ((wd - pu_d κ nu w) / 10) + 1) else wmax 0 ((wd - pu_d κ nu w) / 10)
def pu_v (κ : Nat) (nu w wet ice wd r : Int32) : Int32 := if pu_m κ wet ice = true then (if pu_p κ nu w wd ≤ 0 then 0 else wmax 0 (pu_p κ nu w wd + wmax (-9) (wmin 9 r))) else 0
/-- what a name stands for: by weight, night, its weather, a how's number -/
def pu_n (w n wet ice wd nu : Int32) (k : Int32) : Int32 := if k = 0 then w else if k = 1 then wet else if k = 2 then ice else if k = 3 then wd else if k = 4 then nu else n
theorem gk_t {η : cx_H} {i : Int32} {ks : List Nat} (h0 : 0 ≤ i.toInt) (h1 : i.toNatClampNeg < η.1) (h2 : ks.contains (hki η i) = true) : gk η i ks = true := by
  unfold gk ghw
  rw [h2, Bool.and_true, Bool.and_eq_true, decide_eq_true_eq, decide_eq_true_eq, Int32.le_iff_toInt_le, Int32.toInt_zero]
  exact ⟨h0, h1⟩
theorem ct6 : ∀ k, k < 6 → [0, 1, 2, 3, 4, 5].contains k = true := by decide
theorem may0 {η : cx_H} {f : xF} {g : xG} {i n : Int32} (h0 : 0 ≤ i.toInt) (h1 : i.toNatClampNeg < η.1) (h2 : hki η i ≤ 5) (hn : gin n 60 = true) : pV_may η f g i n = some (if pu_m (hki η i) (g 3 n.toNatClampNeg) (g 4 n.toNatClampNeg) = true then 1 else 0) := by
  have hall : gk η i [0, 1, 2, 3, 4, 5] = true := gk_t h0 h1 (ct6 _ (by omega))
  have hw : pX9_may η f g i n = some (if g 3 n.toNatClampNeg = 0 then 0 else 1) := by
    simp only [pX9_may_0, pV_isWet, pX9_isWet_0, pX9_isWet_17, hall, hn, if_true, gbz0, gbz1]
    split <;> rfl
  have hk : hki η i = 0 ∨ hki η i = 1 ∨ hki η i = 2 ∨ hki η i = 3 ∨ hki η i = 4 ∨ hki η i = 5 := by omega
  unfold pV_may
  rw [if_pos hall]
  rcases hk with hk | hk | hk | hk | hk | hk
  · simp only [hk, if_true, hw, pu_m]
    by_cases c : g 3 n.toNatClampNeg = 0 <;> simp [c]
  · simp only [hk, if_true, hw, pu_m]
    by_cases c : g 3 n.toNatClampNeg = 0 <;> simp [c]
  · have hg : gk η i [2, 3, 4] = true := gk_t h0 h1 (by rw [hk]; rfl)
    simp only [hk, show ¬ (2 : Nat) = 0 by decide, show ¬ (2 : Nat) = 1 by decide, if_false, if_true, pX11_may_0, hg, hw, hn, Option.bind_some, pX11_may_25, pX11_may_26, gbz0, gbz1, pu_m]
    by_cases c : g 3 n.toNatClampNeg = 0
    · simp [c]
    · by_cases c2 : g 4 n.toNatClampNeg ≤ 2 <;> simp [c, c2]
  · have hg : gk η i [2, 3, 4] = true := gk_t h0 h1 (by rw [hk]; rfl)
    have hg3 : gk η i [3] = true := gk_t h0 h1 (by rw [hk]; rfl)
    have h52 : g 4 n.toNatClampNeg ≤ 2 → g 4 n.toNatClampNeg ≤ 5 := by
      rw [Int32.le_iff_toInt_le, Int32.le_iff_toInt_le]
      intro h
      exact Int.le_trans h (by decide)
    simp only [hk, show ¬ (3 : Nat) = 0 by decide, show ¬ (3 : Nat) = 1 by decide, show ¬ (3 : Nat) = 2 by decide, if_false, if_true, pX12_may_0, pX11_may_0, hg, hg3, hw, hn, Option.bind_some, pX11_may_25, pX11_may_26, pX12_may_25, pX12_may_26, gbz0, gbz1, pu_m]
    by_cases c : g 3 n.toNatClampNeg = 0
    · simp [c]
    · by_cases c2 : g 4 n.toNatClampNeg ≤ 2
      · simp [c, c2, h52 c2]
      · by_cases c3 : g 4 n.toNatClampNeg ≤ 5 <;> simp [c, c2, c3]
  · have hg4 : gk η i [4] = true := gk_t h0 h1 (by rw [hk]; rfl)
    have hw4 : pV4_isWet η f g i n = some (if g 3 n.toNatClampNeg = 0 then 0 else 1) := by
      simp only [pV4_isWet, pX9_isWet_0, pX9_isWet_17, hall, hg4, hn, if_true, gbz0, gbz1]
      split <;> rfl
    simp only [hk, show ¬ (4 : Nat) = 0 by decide, show ¬ (4 : Nat) = 1 by decide, show ¬ (4 : Nat) = 2 by decide, show ¬ (4 : Nat) = 3 by decide, if_false, if_true, pX13_may_0, hg4, hw4, hn, Option.bind_some, pX13_may_32, pX13_may_33, gbz0, gbz1, pu_m, in0, zi_0, Int64.reduceToInt]
    by_cases c : g 3 n.toNatClampNeg = 0
    · simp [c]
    · by_cases c2 : 1 ≤ (g 4 n.toNatClampNeg).toInt ∧ (g 4 n.toNatClampNeg).toInt ≤ 4 <;> simp [c, c2]
  · simp only [hk, show ¬ (5 : Nat) = 0 by decide, show ¬ (5 : Nat) = 1 by decide, show ¬ (5 : Nat) = 2 by decide, show ¬ (5 : Nat) = 3 by decide, show ¬ (5 : Nat) = 4 by decide, if_false, hw, pu_m]
    by_cases c : g 3 n.toNatClampNeg = 0 <;> simp [c]
theorem drag0 {η : cx_H} {f : xF} {g : xG} {i w : Int32} (h0 : 0 ≤ i.toInt) (h1 : i.toNatClampNeg < η.1) (h2 : hki η i ≤ 5) : pV_drag η f g i w = some (pu_d (hki η i) (hnu η i) w) := by
  have hk : hki η i = 0 ∨ hki η i = 1 ∨ hki η i = 2 ∨ hki η i = 3 ∨ hki η i = 4 ∨ hki η i = 5 := by omega
  unfold pV_drag
  rcases hk with hk | hk | hk | hk | hk | hk
  all_goals
    have hg : gk η i [0, 1, 2, 3, 4, 5] = true := gk_t h0 h1 (by rw [hk]; rfl)
    rw [if_pos hg]
  · simp only [hk, if_true]; rfl
  · have hg : gk η i [1, 2, 3, 4] = true := gk_t h0 h1 (by rw [hk]; rfl)
    simp only [hk, show ¬ (1 : Nat) = 0 by decide, if_false, if_true, pX10_drag_0, pX9_drag_0, hg, Option.bind_some]; rfl
  · have hg : gk η i [1, 2, 3, 4] = true := gk_t h0 h1 (by rw [hk]; rfl)
    have hg2 : gk η i [2, 3, 4] = true := gk_t h0 h1 (by rw [hk]; rfl)
    simp only [hk, show ¬ (2 : Nat) = 0 by decide, show ¬ (2 : Nat) = 1 by decide, if_false, if_true, pX11_drag_0, pX10_drag_0, pX9_drag_0, hg, hg2, Option.bind_some]; rfl
  · have hg : gk η i [3] = true := gk_t h0 h1 (by rw [hk]; rfl)
    simp only [hk, show ¬ (3 : Nat) = 0 by decide, show ¬ (3 : Nat) = 1 by decide, show ¬ (3 : Nat) = 2 by decide, if_false, if_true, pX12_drag_0, hg]; rfl
  · have hg : gk η i [1, 2, 3, 4] = true := gk_t h0 h1 (by rw [hk]; rfl)
    have hg2 : gk η i [2, 3, 4] = true := gk_t h0 h1 (by rw [hk]; rfl)
    have hg4 : gk η i [4] = true := gk_t h0 h1 (by rw [hk]; rfl)
    simp only [hk, show ¬ (4 : Nat) = 0 by decide, show ¬ (4 : Nat) = 1 by decide, show ¬ (4 : Nat) = 2 by decide, show ¬ (4 : Nat) = 3 by decide, if_false, if_true, pX13_drag_0, pX11_drag_0, pX10_drag_0, pX9_drag_0, hg, hg2, hg4, Option.bind_some]; rfl
  · simp only [hk, show ¬ (5 : Nat) = 0 by decide, show ¬ (5 : Nat) = 1 by decide, show ¬ (5 : Nat) = 2 by decide, show ¬ (5 : Nat) = 3 by decide, show ¬ (5 : Nat) = 4 by decide, if_false]; rfl
theorem push0 {η : cx_H} {f : xF} {g : xG} {i w n : Int32} (h0 : 0 ≤ i.toInt) (h1 : i.toNatClampNeg < η.1) (h2 : hki η i ≤ 5) (hn : gin n 60 = true) : pV_pushes η f g i w n = some (pu_p (hki η i) (hnu η i) w (g 5 n.toNatClampNeg)) := by
  have hk : hki η i = 0 ∨ hki η i = 1 ∨ hki η i = 2 ∨ hki η i = 3 ∨ hki η i = 4 ∨ hki η i = 5 := by omega
  unfold pV_pushes
  have hg : gk η i [0, 1, 2, 3, 4, 5] = true := gk_t h0 h1 (ct6 _ (by omega))
  rw [if_pos hg]
  have h9 : pX9_pushes η f g i w n = some (wmax 0 ((g 5 n.toNatClampNeg - pu_d (hki η i) (hnu η i) w) / 10)) := by
    simp only [pX9_pushes_0, hg, hn, if_true, drag0 h0 h1 h2, Option.bind_some]
  rcases hk with hk | hk | hk | hk | hk | hk
  · rw [h9, hk]; rfl
  · rw [h9, hk]; rfl
  · rw [h9, hk]; rfl
  · have hg3 : gk η i [3] = true := gk_t h0 h1 (by rw [hk]; rfl)
    simp only [pX12_pushes_0, hg3, if_true, h9, Option.bind_some, hk]; rfl
  · have hg4 : gk η i [4] = true := gk_t h0 h1 (by rw [hk]; rfl)
    simp only [pX13_pushes_0, hg4, if_true, h9, Option.bind_some, hk, pX13_pushes_18, pu_p, show ¬ (4 : Nat) = 0 by decide, show ¬ (4 : Nat) = 1 by decide, show ¬ (4 : Nat) = 2 by decide, show ¬ (4 : Nat) = 3 by decide, show ¬ (4 : Nat) = 5 by decide, if_false]
    split <;> rfl
  · have hg5 : gk η i [5] = true := gk_t h0 h1 (by rw [hk]; rfl)
    simp only [pX14_pushes_0, hg5, if_true, hk, pX14_pushes_15, pu_p, show ¬ (5 : Nat) = 0 by decide, show ¬ (5 : Nat) = 1 by decide, show ¬ (5 : Nat) = 2 by decide, show ¬ (5 : Nat) = 3 by decide, show ¬ (5 : Nat) = 4 by decide, if_false]
    split <;> rfl
theorem way0 {η : cx_H} {f : xF} {g : xG} {i n : Int32} (h0 : 0 ≤ i.toInt) (h1 : i.toNatClampNeg < η.1) (h2 : hki η i ≤ 5) (hn : gin n 60 = true) : pV_way η f g i n = some (if hki η i = 5 then 1 else g 6 n.toNatClampNeg) := by
  have hk : hki η i = 0 ∨ hki η i = 1 ∨ hki η i = 2 ∨ hki η i = 3 ∨ hki η i = 4 ∨ hki η i = 5 := by omega
  unfold pV_way
  have hg : gk η i [0, 1, 2, 3, 4, 5] = true := gk_t h0 h1 (ct6 _ (by omega))
  have h9 : pX9_way η f g i n = some (g 6 n.toNatClampNeg) := by simp only [pX9_way_0, hg, hn, if_true]
  rw [if_pos hg, h9]
  rcases hk with hk | hk | hk | hk | hk | hk <;> simp [hk, pX14_way_0]
/-! the twin -/
theorem may8 {f : xF} {g : xG} {h n : Int32} {κ : Nat} (hh : gin h 8 = true) (hn : gin n 60 = true) (hk : g 9 h.toNatClampNeg = i32 κ) (hk5 : κ ≤ 5) : pX8_may f g h n = some (if pu_m κ (g 5 n.toNatClampNeg) (g 6 n.toNatClampNeg) = true then 1 else 0) := by
  have hc : κ = 0 ∨ κ = 1 ∨ κ = 2 ∨ κ = 3 ∨ κ = 4 ∨ κ = 5 := by omega
  simp only [pX8_may_0, hh, hn, if_true, hk, pX8_may_59, pX8_may_75, gbz0, gbz1, in8, Option.bind_some, zi_b, Int32.reduceToInt]
  by_cases c : g 5 n.toNatClampNeg = 0
  · rw [if_pos c]; simp [pu_m, c]
  rw [if_neg c]
  rcases hc with rfl | rfl | rfl | rfl | rfl | rfl
  · rw [if_neg (by decide), if_neg (by decide), if_neg (by decide)]; simp [pu_m, c]
  · rw [if_neg (by decide), if_neg (by decide), if_neg (by decide)]; simp [pu_m, c]
  · rw [if_pos (by decide)]
    by_cases c2 : g 6 n.toNatClampNeg ≤ 2 <;> simp [pu_m, c, c2]
  · rw [if_neg (by decide), if_pos (by decide)]
    by_cases c2 : g 6 n.toNatClampNeg ≤ 5 <;> simp [pu_m, c, c2]
  · rw [if_neg (by decide), if_neg (by decide), if_pos (by decide)]
    by_cases c2 : 1 ≤ (g 6 n.toNatClampNeg).toInt ∧ (g 6 n.toNatClampNeg).toInt ≤ 4
    · rw [zi_t c2]; simp [pu_m, c, c2]
    · rw [zi_f c2]; simp [pu_m, c, c2]
  · rw [if_neg (by decide), if_neg (by decide), if_neg (by decide)]; simp [pu_m, c]
theorem drag8 {f : xF} {g : xG} {h s : Int32} {κ : Nat} (hh : gin h 8 = true) (hs : gin s 10 = true) (hk : g 9 h.toNatClampNeg = i32 κ) (hk5 : κ ≤ 5) : pX8_drag f g h s = some (pu_d κ (g 10 h.toNatClampNeg) (g 3 s.toNatClampNeg)) := by
  have hc : κ = 0 ∨ κ = 1 ∨ κ = 2 ∨ κ = 3 ∨ κ = 4 ∨ κ = 5 := by omega
  simp only [pX8_drag_0, hh, hs, if_true, hk]
  rcases hc with rfl | rfl | rfl | rfl | rfl | rfl
  · rw [if_pos (by decide)]; rfl
  · rw [if_neg (by decide), if_pos (by decide)]; rfl
  · rw [if_neg (by decide), if_neg (by decide), if_pos (by decide)]; rfl
  · rw [if_neg (by decide), if_neg (by decide), if_neg (by decide), if_pos (by decide)]; rfl
  · rw [if_neg (by decide), if_neg (by decide), if_neg (by decide), if_neg (by decide), if_pos (by decide)]; rfl
  · rw [if_neg (by decide), if_neg (by decide), if_neg (by decide), if_neg (by decide), if_neg (by decide)]; rfl
theorem wmax0 (x : Int32) : wmax 0 x = if 0 < x then x else 0 := rfl
theorem plain8 {f : xF} {g : xG} {h s n wd : Int32} {κ : Nat} (hh : gin h 8 = true) (hs : gin s 10 = true) (hn : gin n 60 = true) (hk : g 9 h.toNatClampNeg = i32 κ) (hk5 : κ ≤ 5) (hw : pX8_windNow f g n = some wd) : pX8_plainPush f g h s n = some (if pu_m κ (g 5 n.toNatClampNeg) (g 6 n.toNatClampNeg) = true then pu_p κ (g 10 h.toNatClampNeg) (g 3 s.toNatClampNeg) wd else 0) := by
  have hc : κ = 0 ∨ κ = 1 ∨ κ = 2 ∨ κ = 3 ∨ κ = 4 ∨ κ = 5 := by omega
  simp only [pX8_plainPush_0, may8 hh hn hk hk5, Option.bind_some]
  by_cases c : pu_m κ (g 5 n.toNatClampNeg) (g 6 n.toNatClampNeg) = true
  case neg => simp only [c, if_false, if_true]; rfl
  simp only [c, if_true, show ¬ (1 : Int32) = 0 by decide, if_false, hh, hs, hk, hw, drag8 hh hs hk hk5, Option.bind_some, pX8_plainPush_43, pX8_plainPush_114]
  have e5 : (i32 κ = 5) ↔ κ = 5 := i32_inj (m := 5) (by omega) (by omega)
  have e3 : (i32 κ = 3) ↔ κ = 3 := i32_inj (m := 3) (by omega) (by omega)
  have e4 : (i32 κ = 4) ↔ κ = 4 := i32_inj (m := 4) (by omega) (by omega)
  simp only [e3, e4, e5]
  unfold pu_p
  generalize (wd - pu_d κ (g 10 h.toNatClampNeg) (g 3 s.toNatClampNeg)) / 10 = q
  by_cases k5 : κ = 5
  · simp only [k5, if_true]
    split <;> rfl
  simp only [k5, if_false, wmax0]
  by_cases k3 : κ = 3
  · simp only [k3, if_true]
    unfold wmin
    by_cases c1 : 0 < q
    · simp only [c1, if_true]
      by_cases c2 : q ≤ 9
      · rw [if_pos c2]
        by_cases c3 : q < 9
        · rw [if_pos c3]
        · rw [if_neg c3]
          rw [Int32.le_iff_toInt_le] at c2
          rw [Int32.lt_iff_toInt_lt] at c3
          congr 1
          rw [← Int32.toInt_inj]; omega
      · rw [if_neg c2, if_neg (fun q => c2 (by rw [Int32.le_iff_toInt_le]; rw [Int32.lt_iff_toInt_lt] at q; omega))]
    · simp only [c1, if_false]; rfl
  simp only [k3, if_false]
  by_cases k4 : κ = 4
  · simp only [k4, if_true]
    by_cases c1 : 0 < q
    · simp only [c1, if_true]
      rw [if_neg (fun h => by rw [Int32.le_iff_toInt_le] at h; rw [Int32.lt_iff_toInt_lt] at c1; omega)]
    · simp only [c1, if_false]; rfl
  simp only [k4, if_false]
  split <;> rfl
theorem wind8 {f : xF} {g : xG} {n : Int32} (hf : ¬ 0 ≤ f 27) (hn : gin n 60 = true) : pX8_windNow f g n = some (g 7 n.toNatClampNeg) := by
  simp only [pX8_windNow_0, hf, if_false, hn, if_true, pX8_windNow_20]
theorem name8 {f : xF} {g : xG} {w n h wd : Int32} (hn : gin n 60 = true) (hw : pX8_windNow f g n = some wd) (nu : Int32) (hh : (0 ≤ h ∧ gin h 8 = true ∧ nu = g 10 h.toNatClampNeg) ∨ (¬ 0 ≤ h ∧ nu = 0)) (q : Int32) : pX8_nameValue f g q w n h = some (pu_n w n (g 5 n.toNatClampNeg) (g 6 n.toNatClampNeg) wd nu q) := by
  have h4 : (if 0 ≤ h then (if gin h 8 = true then pX8_nameValue_74 f g (g 10 h.toNatClampNeg) else none) else pX8_nameValue_74 f g 0) = some nu := by
    rcases hh with ⟨a, b, c⟩ | ⟨a, c⟩
    · rw [if_pos a, if_pos b, c]; rfl
    · rw [if_neg a, c]; rfl
  unfold pX8_nameValue pX8_nameValue_0 pu_n
  rw [h4]
  simp only [hn, if_true, hw, Option.bind_some]
  repeat' split
  all_goals rfl
theorem cl_a9 (r : Int32) : (if r ≤ 9 then (if -9 ≤ r then r else -9) else 9) = wmax (-9) (wmin 9 r) := by
  unfold wmax wmin
  have L : ∀ a b : Int32, (a ≤ b) ↔ a.toInt ≤ b.toInt := fun a b => Int32.le_iff_toInt_le
  have M : ∀ a b : Int32, (a < b) ↔ a.toInt < b.toInt := fun a b => Int32.lt_iff_toInt_lt
  have e9 : (9 : Int32).toInt = 9 := rfl
  have en9 : (-9 : Int32).toInt = -9 := rfl
  by_cases c1 : r < 9
  · rw [if_pos c1]
    have d1 := (M _ _).mp c1
    rw [if_pos ((L _ _).mpr (by omega))]
    by_cases c2 : -9 < r
    · have d2 := (M _ _).mp c2
      rw [if_pos c2, if_pos ((L _ _).mpr (by omega))]
    · rw [if_neg c2]
      have d2 : ¬ (-9 : Int32).toInt < r.toInt := fun q => c2 ((M _ _).mpr q)
      by_cases c3 : -9 ≤ r
      · have d3 := (L _ _).mp c3
        rw [if_pos c3, ← Int32.toInt_inj]; omega
      · rw [if_neg c3]
  · rw [if_neg c1, show (if (-9 : Int32) < 9 then (9 : Int32) else -9) = 9 by decide]
    have d1 : ¬ r.toInt < (9 : Int32).toInt := fun q => c1 ((M _ _).mpr q)
    by_cases c3 : r ≤ 9
    · have d3 := (L _ _).mp c3
      rw [if_pos c3, if_pos ((L _ _).mpr (by omega)), ← Int32.toInt_inj]; omega
    · rw [if_neg c3]
theorem wmax0' (x : Int32) : (if 0 ≤ x then x else 0) = wmax 0 x := by
  unfold wmax
  by_cases c : 0 < x
  · have d := Int32.lt_iff_toInt_lt.mp c
    rw [if_pos c, if_pos (Int32.le_iff_toInt_le.mpr (by omega))]
  · rw [if_neg c]
    by_cases c2 : 0 ≤ x
    · have d2 := Int32.le_iff_toInt_le.mp c2
      have d : ¬ (0 : Int32).toInt < x.toInt := fun q => c (Int32.lt_iff_toInt_lt.mpr q)
      rw [if_pos c2, ← Int32.toInt_inj]; omega
    · rw [if_neg c2]
/-- bounds: a plain push is 0 to 10 -/
theorem tdiv_le {x : Int} (h : x ≤ 99) : x.tdiv 10 ≤ 9 := by
  by_cases c : 0 ≤ x
  · rw [Int.tdiv_eq_ediv_of_nonneg c]; omega
  · have e : x.tdiv 10 = -((-x).tdiv 10) := by rw [Int.neg_tdiv, Int.neg_neg]
    have h2 : 0 ≤ (-x).tdiv 10 := by rw [Int.tdiv_eq_ediv_of_nonneg (by omega)]; omega
    omega
theorem pu_d_b {κ : Nat} {nu w : Int32} (h1 : 0 ≤ nu.toInt) (h2 : nu.toInt ≤ 20) (h3 : 0 ≤ w.toInt) (h4 : w.toInt ≤ 99) : 0 ≤ (pu_d κ nu w).toInt ∧ (pu_d κ nu w).toInt ≤ 218 := by
  have e1 : ((2 : Int32) * w).toInt = 2 * w.toInt := i32_mul (x := 2) (by show _ ≤ (2 : Int) * _; omega) (by show (2 : Int) * _ ≤ _; omega)
  have e2 : ((2 : Int32) * w + nu).toInt = 2 * w.toInt + nu.toInt := by rw [i32_addI (by omega) (by omega), e1]
  have e3 : (((2 : Int32) * w + nu) / 4).toInt = (2 * w.toInt + nu.toInt) / 4 := by rw [i32_div (d := 4) (by omega) (by decide), e2]; rfl
  have e4 : (((2 : Int32) * w + nu) / 4 / 2).toInt = (2 * w.toInt + nu.toInt) / 4 / 2 := by rw [i32_div (d := 2) (by omega) (by decide), e3]; rfl
  unfold pu_d
  repeat' split
  · omega
  · omega
  · omega
  · omega
  · omega
  · exact ⟨by decide, by decide⟩
theorem pu_q_b {wd dg : Int32} (h1 : 0 ≤ wd.toInt) (h2 : wd.toInt ≤ 99) (h3 : 0 ≤ dg.toInt) (h4 : dg.toInt ≤ 218) : 0 ≤ (wmax 0 ((wd - dg) / 10)).toInt ∧ (wmax 0 ((wd - dg) / 10)).toInt ≤ 9 := by
  have e : ((wd - dg) / 10).toInt = (wd.toInt - dg.toInt).tdiv 10 := by
    rw [Int32.toInt_div_of_ne_right _ _ (by decide), i32_sub (by omega) (by omega)]; rfl
  have := tdiv_le (x := wd.toInt - dg.toInt) (by omega)
  rw [wmax0]
  split
  · next c => have := Int32.lt_iff_toInt_lt.mp c; rw [Int32.toInt_zero] at this; omega
  · exact ⟨by decide, by decide⟩
theorem pu_p_b {κ : Nat} {nu w wd : Int32} (h1 : 0 ≤ nu.toInt) (h2 : nu.toInt ≤ 20) (h3 : 0 ≤ w.toInt) (h4 : w.toInt ≤ 99) (h5 : 0 ≤ wd.toInt) (h6 : wd.toInt ≤ 99) : 0 ≤ (pu_p κ nu w wd).toInt ∧ (pu_p κ nu w wd).toInt ≤ 10 := by
  have hd := pu_d_b (κ := κ) h1 h2 h3 h4
  have hq := pu_q_b h5 h6 hd.1 hd.2
  unfold pu_p
  generalize wmax 0 ((wd - pu_d κ nu w) / 10) = q at *
  split
  · split <;> exact ⟨by decide, by decide⟩
  · split
    · unfold wmin
      split
      · omega
      · exact ⟨by decide, by decide⟩
    · split
      · split
        · exact ⟨by decide, by decide⟩
        · rw [one_add hq.2 (by decide)]; omega
      · omega
theorem pu_v_b {κ : Nat} {nu w wet ice wd r : Int32} (h1 : 0 ≤ nu.toInt) (h2 : nu.toInt ≤ 20) (h3 : 0 ≤ w.toInt) (h4 : w.toInt ≤ 99) (h5 : 0 ≤ wd.toInt) (h6 : wd.toInt ≤ 99) : 0 ≤ (pu_v κ nu w wet ice wd r).toInt ∧ (pu_v κ nu w wet ice wd r).toInt ≤ 19 := by
  have hp := pu_p_b (κ := κ) h1 h2 h3 h4 h5 h6
  unfold pu_v
  split
  · split
    · exact ⟨by decide, by decide⟩
    · have hc : -9 ≤ (wmax (-9) (wmin 9 r)).toInt ∧ (wmax (-9) (wmin 9 r)).toInt ≤ 9 := by
        rw [← cl_a9]
        have e9 : (9 : Int32).toInt = 9 := rfl
        have en9 : (-9 : Int32).toInt = -9 := rfl
        split
        · next c =>
          have d := Int32.le_iff_toInt_le.mp c
          split
          · next c2 =>
            have d2 := Int32.le_iff_toInt_le.mp c2
            omega
          · omega
        · omega
      have hs := i32_addI (x := pu_p κ nu w wd) (y := wmax (-9) (wmin 9 r)) (by omega) (by omega)
      rw [wmax0]
      split
      · next c =>
        have d := Int32.lt_iff_toInt_lt.mp c
        rw [Int32.toInt_zero] at d
        omega
      · exact ⟨by decide, by decide⟩
  · exact ⟨by decide, by decide⟩
/-- the push of how h on stone s in night n, by the twin's numbers; wd: the wind that is tried -/
def pv_ru (D : xD) : Nat := (D.1 12).toNatClampNeg
def pv_r (D : xD) (k : Nat) (w n wd nu : Int32) : Int32 := ev_v (pu_n w n (D.2 5 n.toNatClampNeg) (D.2 6 n.toNatClampNeg) wd nu) (rl_at D.2 (pv_ru D) k)
def pv_w (D : xD) (h s : Nat) (n wd : Int32) : Int32 := pu_v (D.2 9 h).toNatClampNeg (D.2 10 h) (D.2 3 s) (D.2 5 n.toNatClampNeg) (D.2 6 n.toNatClampNeg) wd (pv_r D 0 (D.2 3 s) n wd (D.2 10 h))
theorem ru_lt {D : xD} (Gd : Good D) : pv_ru D < (D.1 11).toNatClampNeg ∧ pv_ru D < 6 ∧ D.1 12 = i32 (pv_ru D) := by
  have h1 : 0 ≤ (D.1 12).toInt := (Gd.1 12).1
  have h2 : (D.1 12).toInt ≤ 5 := (Gd.1 12).2
  have h3 : (D.1 12).toInt < (D.1 11).toInt := Gd.2.2.1
  have c1 := cl_of h1
  have c2 := cl_of (x := D.1 11) (by omega)
  unfold pv_ru
  exact ⟨by omega, by omega, i32_of h1⟩
/-- the component's state while it asks: f and g as D's, but for the wind of the night that is asked -/
def aR (D : xD) (f : xF) (g : xG) : Prop := f 26 = D.1 12 ∧ g 0 = D.2 3 ∧ g 3 = D.2 5 ∧ g 4 = D.2 6
theorem cR.aR {D : xD} {f : xF} {g : xG} (R : cR D f g) : aR D f g := ⟨R.rule, R.aW, R.aWet, R.aIce⟩
theorem n0_eq {D : xD} {f : xF} {g : xG} {n w nu : Int32} (A : aR D f g) : ev_n0 (upd (upd (upd f 13 n) 11 w) 12 nu) g = pu_n w n (D.2 5 n.toNatClampNeg) (D.2 6 n.toNatClampNeg) (g 5 n.toNatClampNeg) nu := by
  funext k
  show (if k = 0 then w else if k = 1 then g 3 n.toNatClampNeg else if k = 2 then g 4 n.toNatClampNeg else if k = 3 then g 5 n.toNatClampNeg else if k = 4 then nu else n) = _
  rw [A.2.2.1, A.2.2.2]
  rfl
theorem asksD {D : xD} {η : cx_H} {θ : cx_T} {f : xF} {g : xG} {k : Nat} {n w nu lo hi : Int32} (Gd : Good D) (T : TR D θ) (A : aR D f g) (hk : k < 3) (hn : gin n 60 = true) : pX0_asks η θ f g (i32 k) n w nu lo hi = some (wmax lo (wmin hi (pv_r D k w n (g 5 n.toNatClampNeg) nu)), upd (upd (upd f 13 n) 11 w) 12 nu, g) := by
  obtain ⟨h1, h2, h3⟩ := ru_lt Gd
  rw [asks0 T (A.1.trans h3) h1 h2 hk hn, n0_eq A]
  rfl
theorem hw_of {D : xD} {η : cx_H} (H : HR D η) {h : Int32} (h0 : 0 ≤ h.toInt) (h1 : h.toInt < (D.1 2).toInt) : h.toNatClampNeg < η.1 ∧ hki η h ≤ 5 ∧ (D.2 9 h.toNatClampNeg).toNatClampNeg = hki η h ∧ D.2 9 h.toNatClampNeg = i32 (hki η h) ∧ D.2 10 h.toNatClampNeg = hnu η h ∧ gin h 8 = true := by
  have hb := H.2.1
  rw [H.1, i32_toInt (by omega)] at h1
  have hc := cl_of h0
  have hl : h.toNatClampNeg < η.1 := by omega
  obtain ⟨a, b, c⟩ := H.2.2 _ hl
  exact ⟨hl, b, by rw [a]; exact i32_cl (by show η.2.2.1 h.toNatClampNeg < _; omega), a, c, gin_t h0 (by omega)⟩
/-- goesBy of the component -/
theorem goesBy0 {D : xD} {η : cx_H} {θ : cx_T} {f : xF} {g : xG} {h s n : Int32} (Gd : Good D) (H : HR D η) (T : TR D θ) (A : aR D f g) (h0 : 0 ≤ h.toInt) (h1 : h.toInt < (D.1 2).toInt) (hs : gin s 10 = true) (hn : gin n 60 = true) :
    ∃ f1 : xF, (∀ k, k ≠ 11 → k ≠ 12 → k ≠ 13 → f1 k = f k) ∧ pV_goesBy η θ f g h (D.2 3 s.toNatClampNeg) n = some (pv_w D h.toNatClampNeg s.toNatClampNeg n (g 5 n.toNatClampNeg), f1, g) := by
  obtain ⟨e1, e2, e3, e4, e5, e6⟩ := hw_of H h0 h1
  have hg : gk η h [0, 1, 2, 3, 4, 5] = true := gk_t h0 e1 (ct6 _ (by omega))
  unfold pV_goesBy pX9_goesBy pX9_goesBy_0
  rw [if_pos hg, may0 h0 e1 e2 hn, push0 h0 e1 e2 hn]
  unfold pv_w pu_v
  rw [e3, e5, A.2.2.1, A.2.2.2]
  simp only [Option.bind_some]
  by_cases c : pu_m (hki η h) (D.2 5 n.toNatClampNeg) (D.2 6 n.toNatClampNeg) = true
  case neg =>
    refine ⟨f, fun _ _ _ _ => rfl, ?_⟩
    simp only [c, if_false, if_true]
    rfl
  simp only [c, if_true, show ¬ (1 : Int32) = 0 by decide, if_false]
  unfold pX9_goesBy_18
  by_cases c2 : pu_p (hki η h) (hnu η h) (D.2 3 s.toNatClampNeg) (g 5 n.toNatClampNeg) ≤ 0
  · refine ⟨f, fun _ _ _ _ => rfl, ?_⟩
    rw [if_pos c2, if_pos c2]; rfl
  · rw [if_neg c2, if_neg c2, if_pos hg, if_pos hg]
    refine ⟨upd (upd (upd f 13 n) 11 (D.2 3 s.toNatClampNeg)) 12 (hnu η h), fun k k1 k2 k3 => by rw [upd_n k2, upd_n k1, upd_n k3], ?_⟩
    have := asksD (η := η) (k := 0) (n := n) (w := D.2 3 s.toNatClampNeg) (nu := hnu η h) (lo := -9) (hi := 9) Gd T A (by decide) hn
    rw [show (0 : Int32) = i32 0 from rfl, this]
    rfl
/-- the twin's rule at hand -/
theorem tellsD {D : xD} {θ : cx_T} {f8 : xF} {g8 : xG} {k : Nat} {w n h wd nu : Int32} (Gd : Good D) (T : TR D θ) (hk : k < 3) (hr : f8 12 = D.1 12) (hg : ∀ j, j ≠ 26 → g8 j = D.2 j) (hn : gin n 60 = true) (hw : ∀ p, pX8_windNow f8 (va_up g8 26 p) n = some wd) (hh : (0 ≤ h ∧ gin h 8 = true ∧ nu = D.2 10 h.toNatClampNeg) ∨ (¬ 0 ≤ h ∧ nu = 0)) :
    ∃ p2, pX8_tellsRule f8 g8 (i32 k) w n h = some (pv_r D k w n wd nu, f8, va_up g8 26 p2) := by
  obtain ⟨h1, h2, h3⟩ := ru_lt Gd
  obtain ⟨ra, a, t1, t2, t3, t4⟩ := T.2 _ k h1 hk
  have e1 : rl_at g8 (pv_ru D) k = rl_at D.2 (pv_ru D) k := by unfold rl_at; rw [hg 22 (by decide), hg 23 (by decide), hg 24 (by decide)]
  have e2 : rl_ok g8 (pv_ru D) k := by unfold rl_ok; rw [hg 22 (by decide), hg 24 (by decide)]; exact t4
  obtain ⟨p2, hp⟩ := tells8 (v2 := w) (v3 := n) (v4 := h) (ν := pu_n w n (D.2 5 n.toNatClampNeg) (D.2 6 n.toNatClampNeg) wd nu) (hr.trans h3) h2 hk e2 (by rw [e1]; exact (ev_nd T.1 200 a _ t3).1) (fun p q => by
    have := name8 (f := f8) (g := va_up g8 26 p) (w := w) (h := h) hn (hw p) nu (by
      rw [va_up_ne _ _ (show 10 ≠ 26 by decide), hg 10 (by decide)]; exact hh) q
    rw [this, va_up_ne _ _ (show 5 ≠ 26 by decide), va_up_ne _ _ (show 6 ≠ 26 by decide), hg 5 (by decide), hg 6 (by decide)])
  refine ⟨p2, ?_⟩
  rw [hp, e1]
  rfl
theorem pushes8 {D : xD} {η : cx_H} {θ : cx_T} {f8 : xF} {g8 : xG} {h s n wd : Int32} (Gd : Good D) (H : HR D η) (T : TR D θ) (hr : f8 12 = D.1 12) (hg : ∀ j, j ≠ 26 → g8 j = D.2 j) (h0 : 0 ≤ h.toInt) (h1 : h.toInt < (D.1 2).toInt) (hs : gin s 10 = true) (hn : gin n 60 = true) (hw : ∀ p, pX8_windNow f8 (va_up g8 26 p) n = some wd) (hwd0 : 0 ≤ wd.toInt) (hwd1 : wd.toInt ≤ 99) :
    ∃ p2, pX8_pushes f8 g8 h s n = some (pv_w D h.toNatClampNeg s.toNatClampNeg n wd, f8, va_up g8 26 p2) := by
  obtain ⟨e1, e2, e3, e4, e5, e6⟩ := hw_of H h0 h1
  have hw' : pX8_windNow f8 g8 n = some wd := by have := hw (g8 26); rw [va_up_id] at this; exact this
  unfold pX8_pushes pX8_pushes_0
  rw [plain8 (κ := hki η h) e6 hs hn (by rw [hg 9 (by decide)]; exact e4) e2 hw', hg 5 (by decide), hg 6 (by decide), hg 10 (by decide), hg 3 (by decide)]
  unfold pv_w pu_v
  rw [e3]
  have hb10 : 0 ≤ (D.2 10 h.toNatClampNeg).toInt ∧ (D.2 10 h.toNatClampNeg).toInt ≤ 20 := Gd.2.1 10 _
  have hb3 : 0 ≤ (D.2 3 s.toNatClampNeg).toInt ∧ (D.2 3 s.toNatClampNeg).toInt ≤ 99 := Gd.2.1 3 _
  have hpb := pu_p_b (κ := hki η h) hb10.1 hb10.2 hb3.1 hb3.2 hwd0 hwd1
  simp only [Option.bind_some]
  by_cases c : pu_m (hki η h) (D.2 5 n.toNatClampNeg) (D.2 6 n.toNatClampNeg) = true
  case neg =>
    simp only [c, if_false, if_true]
    exact ⟨g8 26, by rw [va_up_id]; rfl⟩
  simp only [c, if_true]
  generalize hq : pu_p (hki η h) (D.2 10 h.toNatClampNeg) (D.2 3 s.toNatClampNeg) wd = q at *
  by_cases c2 : q = 0
  · rw [if_pos c2, if_pos (by rw [c2]; decide)]
    exact ⟨g8 26, by rw [va_up_id]⟩
  have c3 : ¬ q ≤ 0 := by
    intro h; have := Int32.le_iff_toInt_le.mp h; rw [Int32.toInt_zero] at this
    exact c2 (by rw [← Int32.toInt_inj, Int32.toInt_zero]; omega)
  rw [if_neg c2, if_neg c3, if_pos hs]
  obtain ⟨p2, hp⟩ := tellsD (k := 0) (w := D.2 3 s.toNatClampNeg) (h := h) (nu := D.2 10 h.toNatClampNeg) Gd T (by decide) hr hg hn hw (Or.inl ⟨by rw [Int32.le_iff_toInt_le, Int32.toInt_zero]; exact h0, e6, rfl⟩)
  refine ⟨p2, ?_⟩
  rw [show (0 : Int32) = i32 0 from rfl, hp]
  simp only [Option.bind_some]
  unfold pX8_pushes_59 pX8_pushes_73
  rw [← cl_a9, show i32 0 = (0 : Int32) from rfl]
  generalize pv_r D 0 (D.2 3 s.toNatClampNeg) n wd (D.2 10 h.toNatClampNeg) = r
  by_cases d1 : r ≤ 9
  · rw [if_pos d1, if_pos d1]
    by_cases d2 : -9 ≤ r
    · rw [if_pos d2, if_pos d2, ← wmax0']; split <;> rfl
    · rw [if_neg d2, if_neg d2, ← wmax0']; split <;> rfl
  · rw [if_neg d1, if_neg d1, ← wmax0']; split <;> rfl
theorem pv_b {D : xD} (Gd : Good D) {h s : Nat} {n wd : Int32} (h5 : 0 ≤ wd.toInt) (h6 : wd.toInt ≤ 99) : 0 ≤ (pv_w D h s n wd).toInt ∧ (pv_w D h s n wd).toInt ≤ 19 := by
  have hb10 : 0 ≤ (D.2 10 h).toInt ∧ (D.2 10 h).toInt ≤ 20 := Gd.2.1 10 _
  have hb3 : 0 ≤ (D.2 3 s).toInt ∧ (D.2 3 s).toInt ≤ 99 := Gd.2.1 3 _
  exact pu_v_b hb10.1 hb10.2 hb3.1 hb3.2 h5 h6
theorem wayOf8 {D : xD} {η : cx_H} {f8 : xF} {g8 : xG} {h n : Int32} (H : HR D η) (hg9 : g8 9 = D.2 9) (hg8 : g8 8 = D.2 8) (h0 : 0 ≤ h.toInt) (h1 : h.toInt < (D.1 2).toInt) (hn : gin n 60 = true) : pX8_wayOf f8 g8 h n = some (if hki η h = 5 then 1 else D.2 8 n.toNatClampNeg) := by
  obtain ⟨e1, e2, e3, e4, e5, e6⟩ := hw_of H h0 h1
  have e : (i32 (hki η h) = 5) ↔ hki η h = 5 := i32_inj (m := 5) (by omega) (by omega)
  unfold pX8_wayOf pX8_wayOf_0 pX8_wayOf_20
  rw [if_pos e6, hg9, e4, if_pos hn, hg8]
  by_cases c : hki η h = 5
  · rw [if_pos (e.mpr c), if_pos c]
  · rw [if_neg (fun q => c (e.mp q)), if_neg c]

/-! RUNS (mine): a stone goes; nights; the component lays its stones, the twin its copy beside -/
def ax (q : Int32) (j : Nat) : Int32 := (q - q / 64 * 64) + cDX j
def ay (q : Int32) (j : Nat) : Int32 := (q / 64) + cDY j
def onb (q : Int32) (j : Nat) : Bool := decide ((0 ≤ (ax q j).toInt ∧ (ax q j).toInt ≤ 63) ∧ (0 ≤ (ay q j).toInt ∧ (ay q j).toInt ≤ 63))
def av (q : Int32) (j : Nat) : Int32 := (64 * ay q j) + ax q j
def ah (q : Int32) (j : Nat) : Int32 := if onb q j = true then av q j else -1
theorem av_b {q : Int32} {j : Nat} (h : onb q j = true) : 0 ≤ (av q j).toInt ∧ (av q j).toInt ≤ 4095 := by
  unfold onb at h
  rw [decide_eq_true_eq] at h
  have e1 : ((64 : Int32) * ay q j).toInt = 64 * (ay q j).toInt := i32_mul (x := 64) (by show _ ≤ (64 : Int) * _; omega) (by show (64 : Int) * _ ≤ _; omega)
  unfold av
  rw [i32_addI (by omega) (by omega), e1]
  omega
theorem ahead47 {f : xF} {g : xG} {x y t : Int32} : pX8_ahead_47 f g x y t = some (if (decide ((0 ≤ x.toInt ∧ x.toInt ≤ 63) ∧ (0 ≤ (y + t).toInt ∧ (y + t).toInt ≤ 63))) = true then (64 * (y + t)) + x else -1) := by
  simp only [pX8_ahead_47, pX8_ahead_83, pX8_ahead_84, in8, Option.bind_some, zi_0, ite_not, Int32.reduceToInt, decide_eq_true_eq]
  by_cases c1 : 0 ≤ x.toInt ∧ x.toInt ≤ 63
  · rw [if_pos c1]
    by_cases c2 : 0 ≤ (y + t).toInt ∧ (y + t).toInt ≤ 63
    · rw [if_pos c2, if_pos ⟨c1, c2⟩]
    · rw [if_neg c2, if_neg (fun q => c2 q.2)]
  · rw [if_neg c1, if_neg (fun q => c1 q.1)]
theorem ahead8 {f : xF} {g : xG} {q : Int32} {j : Nat} (hj : j < 4) : pX8_ahead f g q (i32 j) = some (ah q j) := by
  have hc : j = 0 ∨ j = 1 ∨ j = 2 ∨ j = 3 := by omega
  unfold pX8_ahead pX8_ahead_0 pX8_ahead_22
  rcases hc with rfl | rfl | rfl | rfl
  · rw [if_pos (by decide), if_neg (by decide), if_neg (by decide)]; exact ahead47
  · rw [if_neg (by decide), if_neg (by decide), if_pos (by decide)]; exact ahead47
  · rw [if_neg (by decide), if_pos (by decide), if_neg (by decide), if_neg (by decide)]; exact ahead47
  · rw [if_neg (by decide), if_neg (by decide), if_neg (by decide), if_pos (by decide)]; exact ahead47
def nxt (n : Nat) (a : Nat → Int32) (q : Int32) (j : Nat) : Int32 := if onb q j = true then (if liesB n a (av q j) = true then -1 else av q j) else -1
theorem nextAt0 {f : xF} {g : xG} {n : Nat} (hf : f 2 = i32 n) (hn : n ≤ 10) {q : Int32} {j : Nat} (hj : j < 4) : pX0_nextAt f g q (i32 j) = some (nxt n (g 1) q j) := by
  have e1 : (i32 j).toNatClampNeg = j := i32_cl (by omega)
  simp only [pX0_nextAt_0, pX0_nextAt_52, pX0_nextAt_53, pX0_nextAt_84, pX0_nextAt_85, gin_i (show j < 4 from hj) (show 4 < 2147483648 by omega), if_true, e1, in0, Option.bind_some, zi_0, ite_not, Int64.reduceToInt, liesAt0 hf hn, show ¬ (1 : Int32) = 0 by decide, if_false]
  unfold nxt onb
  simp only [decide_eq_true_eq]
  show (if 0 ≤ (ax q j).toInt ∧ (ax q j).toInt ≤ 63 then (if 0 ≤ (ay q j).toInt ∧ (ay q j).toInt ≤ 63 then (if liesB n (g 1) (av q j) = true then some (-1) else some (av q j)) else some (-1)) else some (-1)) = some (if (0 ≤ (ax q j).toInt ∧ (ax q j).toInt ≤ 63) ∧ (0 ≤ (ay q j).toInt ∧ (ay q j).toInt ≤ 63) then (if liesB n (g 1) (av q j) = true then -1 else av q j) else -1)
  by_cases c1 : 0 ≤ (ax q j).toInt ∧ (ax q j).toInt ≤ 63
  · by_cases c2 : 0 ≤ (ay q j).toInt ∧ (ay q j).toInt ≤ 63
    · simp only [c1, c2, and_self, if_true]
      split <;> rfl
    · simp only [c1, c2, and_self, and_false, if_true, if_false]
  · simp only [c1, false_and, if_false]
theorem isFree8 {f : xF} {g : xG} {n : Nat} (hf : f 0 = i32 n) (hn : n ≤ 10) (p : Int32) : pX8_isFree f g p = some (if liesB n (g 28) p = true then 0 else 1) := by
  refine loopV (F := fun k (s : Int32 × Int32) => pX8_isFree_2 f g k s.1 s.2) (s := (p, 0)) (n := n) (fun j s => s = (p, i32 j) ∧ ∀ i, i < j → g 28 i ≠ p) ?_ ?_ (by omega) ⟨rfl, fun i hi => by omega⟩
  · rintro j s k hj ⟨rfl, hI⟩
    show pX8_isFree_2 f g (k + 1) p (i32 j) = _ ∨ _
    rw [pX8_isFree_2, hf, if_neg (by rw [i32_le (by omega) (by omega)]; omega), if_pos (gin_i (by omega) (by omega)), i32_cl (by omega)]
    by_cases hp : g 28 j = p
    · left; rw [if_pos hp, if_pos (liesB_t.mpr ⟨j, hj, hp⟩)]
    · right
      rw [if_neg hp]
      refine ⟨(p, i32 (j + 1)), ⟨rfl, fun i hi => ?_⟩, by rw [i32_succ]⟩
      by_cases h : i = j
      · rw [h]; exact hp
      · exact hI i (by omega)
  · rintro s k ⟨rfl, hI⟩
    show pX8_isFree_2 f g (k + 1) p (i32 n) = _
    rw [pX8_isFree_2, hf, if_pos (by rw [i32_le (by omega) (by omega)]; omega), if_neg]
    intro h
    obtain ⟨j, hj, hp⟩ := liesB_t.mp h
    exact hI j hj hp
theorem liesB_c {n : Nat} {a b : Nat → Int32} {p : Int32} (h : ∀ i, i < n → a i = b i) : liesB n a p = liesB n b p := by
  rw [Bool.eq_iff_iff, liesB_t, liesB_t]
  exact ⟨fun ⟨j, hj, e⟩ => ⟨j, hj, (h j hj) ▸ e⟩, fun ⟨j, hj, e⟩ => ⟨j, hj, (h j hj).symm ▸ e⟩⟩
theorem upd_id {a : Nat → Int32} {i : Nat} : upd a i (a i) = a := by
  funext j
  by_cases h : j = i
  · rw [h, upd_e]
  · rw [upd_n h]
theorem upd_up {a : Nat → Int32} {i : Nat} {v w : Int32} : upd (upd a i v) i w = upd a i w := by
  funext j
  by_cases h : j = i
  · rw [h, upd_e, upd_e]
  · rw [upd_n h, upd_n h, upd_n h]
/-- the stone's own loop -/
def gq (g : xG) (s : Nat) (q : Int32) : xG := va_up g 1 (upd (g 1) s q)
def g8q (g8 : xG) (s : Nat) (q w : Int32) : xG := va_up (va_up g8 28 (upd (g8 28) s q)) 29 (upd (g8 29) s w)
theorem i32_ofsub {m j : Nat} (h : j < m) (hm : m < 2147483648) : i32 (m - j) + -1 = i32 (m - (j + 1)) := by
  rw [← Int32.toInt_inj, i32_addI (by rw [i32_toInt (by omega)]; show _ ≤ _ + (-1 : Int); omega) (by rw [i32_toInt (by omega)]; show _ + (-1 : Int) ≤ _; omega), i32_toInt (by omega), i32_toInt (by omega)]
  show _ + (-1 : Int) = _
  omega
def ng1 : Int32 := -1
theorem av_ne {q : Int32} {j : Nat} (h : onb q j = true) : ¬ av q j = -1 := by
  intro e
  have := (av_b h).1
  rw [e] at this
  exact absurd this (by decide)
theorem av_nn {q : Int32} {j : Nat} (h : onb q j = true) : ¬ av q j < 0 := by
  intro e
  have h1 := (av_b h).1
  have h2 := Int32.lt_iff_toInt_lt.mp e
  rw [Int32.toInt_zero] at h2
  omega
theorem go_loop {η : cx_H} {θ : cx_T} {D1 f : xF} {g g8 : xG} {n s m j4 : Nat} {h nt : Int32} (k10 : xF → xG → Int32 → Int32 → Int32 → Int32 → Option (xF × xG)) (hf : f 2 = i32 n) (h8 : D1 0 = i32 n) (hn : n ≤ 10) (hs : s < n) (hm : m ≤ 19) (hj4 : j4 < 4) (hw : Int32) (hgg : ∀ i, i < n → g 1 i = g8 28 i) :
    ∀ (d j K K8 : Nat) (q : Int32), j + d = m → d < K → d < K8 → 0 ≤ q.toInt → q.toInt ≤ 4095 →
      ∃ (j' : Nat) (q' : Int32), j ≤ j' ∧ j' ≤ m ∧ 0 ≤ q'.toInt ∧ q'.toInt ≤ 4095 ∧
        pX0_goes_48 η θ K f (gq g s q) (i32 s) (i32 m) (i32 j4) (i32 j) (if m ≤ j then -1 else nxt n (upd (g 1) s q) q j4) = pX0_goes_93 η θ f (gq g s q') (i32 s) (i32 j4) (i32 j') ∧
        pX8_goNight_46 k10 K8 D1 (g8q g8 s q (hw + i32 j)) h nt (i32 j4) (i32 s) (i32 (m - j)) (ah q j4) (if j = 0 then 0 else 1) = pX8_goNight_103 k10 D1 (g8q g8 s q' (hw + i32 j')) h nt (i32 j4) (i32 s) (if j' = 0 then 0 else 1) := by
  intro d
  induction d with
  | zero =>
    intro j K K8 q hj hK hK8 hq0 hq1
    obtain ⟨k, rfl⟩ : ∃ k, K = k + 1 := ⟨K - 1, by omega⟩
    obtain ⟨k8, rfl⟩ : ∃ k, K8 = k + 1 := ⟨K8 - 1, by omega⟩
    refine ⟨j, q, Nat.le_refl _, by omega, hq0, hq1, ?_, ?_⟩
    · rw [if_pos (show m ≤ j by omega), pX0_goes_48, if_pos rfl]
    · rw [pX8_goNight_46, if_pos (by rw [show m - j = 0 by omega]; decide)]
  | succ d ih =>
    intro j K K8 q hj hK hK8 hq0 hq1
    obtain ⟨k, rfl⟩ : ∃ k, K = k + 1 := ⟨K - 1, by omega⟩
    obtain ⟨k8, rfl⟩ : ∃ k, K8 = k + 1 := ⟨K8 - 1, by omega⟩
    have hl : ¬ i32 (m - j) ≤ 0 := by rw [show (0 : Int32) = i32 0 from rfl, i32_le (by omega) (by omega)]; omega
    have hgs : gin (i32 s) 10 = true := gin_i (by omega) (by omega)
    have hcs : (i32 s).toNatClampNeg = s := i32_cl (by omega)
    have e28 : g8q g8 s q (hw + i32 j) 28 = upd (g8 28) s q := by unfold g8q; rw [va_up_ne _ _ (by decide), va_up_self]
    have e1 : gq g s q 1 = upd (g 1) s q := va_up_self _ _ _
    have hlies : ∀ p, liesB n (upd (g8 28) s q) p = liesB n (upd (g 1) s q) p := fun p => liesB_c (fun i hi => by
      by_cases c : i = s
      · rw [c, upd_e, upd_e]
      · rw [upd_n c, upd_n c, hgg i hi])
    rw [if_neg (show ¬ m ≤ j by omega)]
    unfold nxt ah
    by_cases c1 : onb q j4 = true
    case neg =>
      refine ⟨j, q, Nat.le_refl _, by omega, hq0, hq1, ?_, ?_⟩
      · rw [if_neg c1, pX0_goes_48, if_pos rfl]
      · rw [if_neg c1, pX8_goNight_46, if_neg hl, if_pos (by decide)]
    rw [if_pos c1, if_pos c1]
    by_cases c2 : liesB n (upd (g 1) s q) (av q j4) = true
    · refine ⟨j, q, Nat.le_refl _, by omega, hq0, hq1, ?_, ?_⟩
      · rw [if_pos c2, pX0_goes_48, if_pos rfl]
      · rw [pX8_goNight_46, if_neg hl, if_neg (av_nn c1), isFree8 h8 hn, e28, hlies, if_pos c2]
        rfl
    rw [if_neg c2]
    have hb := av_b c1
    obtain ⟨j', q', r1, r2, r3, r4, r5, r6⟩ := ih (j + 1) k k8 (av q j4) (by omega) (by omega) (by omega) hb.1 hb.2
    refine ⟨j', q', by omega, r2, r3, r4, ?_, ?_⟩
    · rw [← r5, pX0_goes_48, if_neg (av_ne c1), if_pos hgs, hcs, i32_succ]
      have eg : va_up (gq g s q) 1 (upd (gq g s q 1) s (av q j4)) = gq g s (av q j4) := by
        rw [e1, upd_up]; unfold gq; rw [va_up_up]
      rw [eg]
      by_cases c3 : m ≤ j + 1
      · rw [if_pos (show i32 m ≤ i32 (j + 1) by rw [i32_le (by omega) (by omega)]; exact c3), if_pos c3]
        rfl
      · rw [if_neg (show ¬ i32 m ≤ i32 (j + 1) by rw [i32_le (by omega) (by omega)]; exact c3), if_neg c3, if_pos hgs, nextAt0 hf hn hj4]
        show pX0_goes_48 η θ k f (gq g s (av q j4)) (i32 s) (i32 m) (i32 j4) (i32 (j + 1)) (nxt n (gq g s (av q j4) 1) (gq g s (av q j4) 1 s) j4) = _
        rw [show gq g s (av q j4) 1 = upd (g 1) s (av q j4) from va_up_self _ _ _, upd_e]
    · rw [← r6, pX8_goNight_46, if_neg hl, if_neg (av_nn c1), isFree8 h8 hn, e28, hlies, if_neg c2]
      simp only [Option.bind_some]
      rw [if_neg (by decide), if_pos hgs, if_pos hgs, if_pos hgs, hcs, ahead8 hj4, i32_ofsub (show j < m by omega) (by omega)]
      have eg : va_up (va_up (g8q g8 s q (hw + i32 j)) 28 (upd (upd (g8 28) s q) s (av q j4))) 29 (upd ((va_up (g8q g8 s q (hw + i32 j)) 28 (upd (upd (g8 28) s q) s (av q j4))) 29) s (((va_up (g8q g8 s q (hw + i32 j)) 28 (upd (upd (g8 28) s q) s (av q j4))) 29 s) + 1)) = g8q g8 s (av q j4) (hw + i32 (j + 1)) := by
        rw [upd_up, va_up_ne _ _ (show 29 ≠ 28 by decide)]
        unfold g8q
        rw [va_up_self, upd_e, upd_up, ← i32_succ, Int32.add_assoc]
        funext i
        simp only [va_up]
        by_cases d1 : i = 29
        · simp [d1]
        · by_cases d2 : i = 28
          · simp [d2]
          · simp [d1, d2]
      rw [eg]
      show pX8_goNight_46 k10 k8 D1 (g8q g8 s (av q j4) (hw + i32 (j + 1))) h nt (i32 j4) (i32 s) (i32 (m - (j + 1))) (ah (av q j4) j4) 1 = _
      rw [if_neg (show ¬ j + 1 = 0 by omega)]
/-- the two runs side by side: f0 g0 the component's state at the run's start; b: how many nights each stone has gone -/
def rs (D : xD) (n : Nat) (f0 : xF) (g0 : xG) (b : Nat → Nat) (f : xF) (g g8 : xG) : Prop :=
  (∀ k, k ≠ 26 → k ≠ 28 → k ≠ 29 → k ≠ 30 → k ≠ 31 → g8 k = D.2 k) ∧ (∀ k, k ≠ 11 → k ≠ 12 → k ≠ 13 → f k = f0 k) ∧ (∀ k, k ≠ 1 → k ≠ 28 → k ≠ 29 → k ≠ 30 → g k = g0 k) ∧
  (∀ i, n ≤ i → g 1 i = g0 1 i) ∧
  ∀ i, i < n → g 1 i = g8 28 i ∧ g 28 i = g8 29 i ∧ g 29 i = g8 30 i ∧ g 30 i = g8 31 i ∧ (0 ≤ (g 1 i).toInt ∧ (g 1 i).toInt ≤ 4095) ∧ (0 ≤ (g 28 i).toInt ∧ (g 28 i).toInt ≤ 19 * b i) ∧ (0 ≤ (g 29 i).toInt ∧ (g 29 i).toInt ≤ b i) ∧ (-1 ≤ (g 30 i).toInt ∧ (g 30 i).toInt ≤ 3)
theorem rs.mono {D : xD} {n : Nat} {f0 : xF} {g0 : xG} {b b2 : Nat → Nat} {f : xF} {g g8 : xG} (h : rs D n f0 g0 b f g g8) (hb : ∀ i, i < n → b i ≤ b2 i) : rs D n f0 g0 b2 f g g8 := by
  refine ⟨h.1, h.2.1, h.2.2.1, h.2.2.2.1, fun i hi => ?_⟩
  obtain ⟨a1, a2, a3, a4, a5, a6, a7, a8⟩ := h.2.2.2.2 i hi
  have := hb i hi
  exact ⟨a1, a2, a3, a4, a5, ⟨a6.1, by omega⟩, ⟨a7.1, by omega⟩, a8⟩
def wyN (D : xD) (η : cx_H) (h n : Int32) : Int32 := if hki η h = 5 then 1 else D.2 8 n.toNatClampNeg
theorem wyN_ex {D : xD} (Gd : Good D) (η : cx_H) (h n : Int32) : ∃ j, j < 4 ∧ wyN D η h n = i32 j := by
  unfold wyN
  split
  · exact ⟨1, by omega, rfl⟩
  · have hb : 0 ≤ (D.2 8 n.toNatClampNeg).toInt ∧ (D.2 8 n.toNatClampNeg).toInt ≤ 3 := Gd.2.1 8 _
    obtain ⟨j, hj, e⟩ := i32_ex (N := 3) hb.1 hb.2 (by omega)
    exact ⟨j, by omega, e⟩
def g93 (g : xG) (s j : Nat) (w : Int32) : xG := if j = 0 then g else va_up (va_up (va_up g 29 (upd (g 29) s (g 29 s + (if g 30 s = -1 then 0 else if g 30 s = w then 0 else 1)))) 30 (upd (g 30) s w)) 28 (upd (g 28) s (g 28 s + i32 j))
def g103 (g : xG) (s j : Nat) (w : Int32) : xG := if j = 0 then g else va_up (va_up g 30 (upd (g 30) s (g 30 s + (if g 31 s < 0 then 0 else if g 31 s = w then 0 else 1)))) 31 (upd (g 31) s w)
theorem goes93 {η : cx_H} {θ : cx_T} {f : xF} {g : xG} {s j : Nat} {w : Int32} (hs : s < 10) (hj : j < 2147483648) : pX0_goes_93 η θ f g (i32 s) w (i32 j) = some (f, g93 g s j w) := by
  unfold g93
  have hgs : gin (i32 s) 10 = true := gin_i (by omega) (by omega)
  have hcs : (i32 s).toNatClampNeg = s := i32_cl (by omega)
  have h0 : (i32 j ≤ 0) ↔ j = 0 := by rw [show (0 : Int32) = i32 0 from rfl, i32_le hj (by omega)]; omega
  unfold pX0_goes_93 pX0_goes_130 pX0_goes_131 pX0_goes_152
  simp only [hgs, if_true, hcs, h0]
  by_cases c : j = 0
  · rw [if_pos c, if_pos c]
  rw [if_neg c, if_neg c]
  have e1 : ∀ x : Nat → Int32, va_up g 29 x 30 = g 30 := fun x => va_up_ne _ _ (by decide)
  have e2 : ∀ x y : Nat → Int32, va_up (va_up g 29 x) 30 y 28 = g 28 := fun x y => by rw [va_up_ne _ _ (by decide), va_up_ne _ _ (by decide)]
  simp only [e1, e2]
  by_cases c1 : g 30 s = -1
  · rw [if_pos c1, if_pos c1]
  · rw [if_neg c1, if_neg c1]
    by_cases c2 : g 30 s = w
    · rw [if_pos c2, if_pos c2]
    · rw [if_neg c2, if_neg c2]
theorem goN103 {D1 : xF} {g : xG} {s j : Nat} {h nt w : Int32} (k10 : xF → xG → Int32 → Int32 → Int32 → Int32 → Option (xF × xG)) (hs : s < 10) : pX8_goNight_103 k10 D1 g h nt w (i32 s) (if j = 0 then 0 else 1) = k10 D1 (g103 g s j w) h nt w (i32 (s + 1)) := by
  unfold g103
  have hgs : gin (i32 s) 10 = true := gin_i (by omega) (by omega)
  have hcs : (i32 s).toNatClampNeg = s := i32_cl (by omega)
  unfold pX8_goNight_103 pX8_goNight_144 pX8_goNight_145 pX8_goNight_155
  simp only [hgs, if_true, hcs, i32_succ]
  by_cases c : j = 0
  · rw [if_pos c, if_pos c, if_pos rfl]
  rw [if_neg c, if_neg c, if_neg (by decide)]
  have e1 : ∀ x : Nat → Int32, va_up g 30 x 31 = g 31 := fun x => va_up_ne _ _ (by decide)
  simp only [e1]
  by_cases c1 : g 31 s < 0
  · rw [if_pos c1, if_pos c1]
  · rw [if_neg c1, if_neg c1]
    by_cases c2 : g 31 s = w
    · rw [if_pos c2, if_pos c2]
    · rw [if_neg c2, if_neg c2]
theorem go_one {D : xD} {η : cx_H} {θ : cx_T} {n s : Nat} {f0 f : xF} {g0 g g8 : xG} {b : Nat → Nat} {h nt : Int32} (Gd : Good D) (H : HR D η) (T : TR D θ) (R : cR D f0 g0) (hn : D.1 0 = i32 n) (hn10 : n ≤ 10) (hs : s < n) (hb : b s ≤ 100) (h0 : 0 ≤ h.toInt) (h1 : h.toInt < (D.1 2).toInt) (hnt : gin nt 60 = true) (I : rs D n f0 g0 b f g g8) (k10 : xF → xG → Int32 → Int32 → Int32 → Int32 → Option (xF × xG)) :
    ∃ (f1 : xF) (g1 g81 : xG), pX0_goes η θ f g h (i32 s) nt = some (f1, g1) ∧ rs D n f0 g0 (fun i => if i = s then b i + 1 else b i) f1 g1 g81 ∧
      ((pX8_pushes D.1 g8 h (i32 s) nt).bind (fun r24 => if gin (i32 s) 10 = true then (pX8_ahead r24.2.1 r24.2.2 (r24.2.2 28 (i32 s).toNatClampNeg) (wyN D η h nt)).bind (fun r38 => pX8_goNight_46 k10 5000 r24.2.1 r24.2.2 h nt (wyN D η h nt) (i32 s) r24.1 r38 0) else none)) = k10 D.1 g81 h nt (wyN D η h nt) (i32 (s + 1)) := by
  obtain ⟨I1, I2, I3, I4, I5⟩ := I
  have hgs : gin (i32 s) 10 = true := gin_i (by omega) (by omega)
  have hcs : (i32 s).toNatClampNeg = s := i32_cl (by omega)
  obtain ⟨j4, hj4, hway⟩ := wyN_ex Gd η h nt
  have A : aR D f g := ⟨(I2 26 (by decide) (by decide) (by decide)).trans R.rule, (I3 0 (by decide) (by decide) (by decide) (by decide)).trans R.aW, (I3 3 (by decide) (by decide) (by decide) (by decide)).trans R.aWet, (I3 4 (by decide) (by decide) (by decide) (by decide)).trans R.aIce⟩
  have h5 : g 5 = D.2 7 := (I3 5 (by decide) (by decide) (by decide) (by decide)).trans R.aWind
  have h6 : g 6 = D.2 8 := (I3 6 (by decide) (by decide) (by decide) (by decide)).trans R.aWay
  have hwd : 0 ≤ (D.2 7 nt.toNatClampNeg).toInt ∧ (D.2 7 nt.toNatClampNeg).toInt ≤ 99 := Gd.2.1 7 _
  obtain ⟨f1, hf1, e1⟩ := goesBy0 (s := i32 s) Gd H T A h0 h1 hgs hnt
  rw [h5, hcs] at e1
  obtain ⟨d1, d2, d3, d4, d5, d6⟩ := hw_of H h0 h1
  -- a copy of D with the twin's arrays as they are
  have ht27 : ¬ 0 ≤ D.1 27 := by
    have h27 : (D.1 27).toInt ≤ -1 := (Gd.1 27).2
    intro q
    have := Int32.le_iff_toInt_le.mp q
    rw [Int32.toInt_zero] at this
    omega
  have hE : ∃ p2, pX8_pushes D.1 g8 h (i32 s) nt = some (pv_w D h.toNatClampNeg s nt (D.2 7 nt.toNatClampNeg), D.1, va_up g8 26 p2) := by
    have hD2 : Good (D.1, g8) := ⟨Gd.1, fun k i => by
      by_cases k26 : k = 26
      · subst k26; exact ⟨i32_min _, i32_max _⟩
      by_cases k28 : k = 28
      · subst k28; exact ⟨i32_min _, i32_max _⟩
      by_cases k29 : k = 29
      · subst k29; exact ⟨i32_min _, i32_max _⟩
      by_cases k30 : k = 30
      · subst k30; exact ⟨i32_min _, i32_max _⟩
      by_cases k31 : k = 31
      · subst k31; exact ⟨i32_min _, i32_max _⟩
      rw [show (D.1, g8).2 k = D.2 k from I1 k k26 k28 k29 k30 k31]; exact Gd.2.1 k i, by
      have hx := Gd.2.2
      unfold gX at *
      rw [show (D.1, g8).2 33 = D.2 33 from I1 33 (by decide) (by decide) (by decide) (by decide) (by decide)]
      exact hx⟩
    have hO : off [] [26, 28, 29, 30, 31] D (D.1, g8) := ⟨fun _ _ => rfl, fun k hk => by
      simp only [List.mem_cons, List.not_mem_nil, or_false, not_or] at hk
      exact I1 k hk.1 hk.2.1 hk.2.2.1 hk.2.2.2.1 hk.2.2.2.2⟩
    obtain ⟨p2, hp⟩ := pushes8 (D := (D.1, g8)) (f8 := D.1) (g8 := g8) (h := h) (s := i32 s) (wd := D.2 7 nt.toNatClampNeg) hD2 (H.off hO (by decide) (by decide) (by decide)) (T.off hO (by decide) (by decide) (by decide) (by decide)) rfl (fun _ _ => rfl) h0 h1 hgs hnt (fun p => by
      rw [wind8 ht27 hnt, va_up_ne _ _ (show 7 ≠ 26 by decide), I1 7 (by decide) (by decide) (by decide) (by decide) (by decide)]) hwd.1 hwd.2
    refine ⟨p2, ?_⟩
    rw [hp, hcs]
    unfold pv_w pv_r pv_ru rl_at
    simp only [I1 9 (by decide) (by decide) (by decide) (by decide) (by decide), I1 10 (by decide) (by decide) (by decide) (by decide) (by decide), I1 3 (by decide) (by decide) (by decide) (by decide) (by decide), I1 5 (by decide) (by decide) (by decide) (by decide) (by decide), I1 6 (by decide) (by decide) (by decide) (by decide) (by decide), I1 22 (by decide) (by decide) (by decide) (by decide) (by decide), I1 23 (by decide) (by decide) (by decide) (by decide) (by decide), I1 24 (by decide) (by decide) (by decide) (by decide) (by decide)]
  obtain ⟨p2, hp⟩ := hE
  have hvb := pv_b Gd (h := h.toNatClampNeg) (s := s) (n := nt) hwd.1 hwd.2
  obtain ⟨m, hm, hv⟩ := i32_ex (x := pv_w D h.toNatClampNeg s nt (D.2 7 nt.toNatClampNeg)) (N := 19) hvb.1 hvb.2 (by omega)
  rw [hv] at e1 hp
  obtain ⟨a1, a2, a3, a4, a5, a6, a7, a8⟩ := I5 s hs
  have hf2 : f1 2 = i32 n := by rw [hf1 2 (by decide) (by decide) (by decide), I2 2 (by decide) (by decide) (by decide), R.stones, hn]
  obtain ⟨j', q', r1, r2, r3, r4, r5, r6⟩ := go_loop (η := η) (θ := θ) (g := g) (g8 := va_up g8 26 p2) (h := h) (nt := nt) k10 hf2 hn hn10 hs hm hj4 (g8 29 s) (fun i hi => by rw [va_up_ne _ _ (show 28 ≠ 26 by decide)]; exact (I5 i hi).1) m 0 5000 5000 (g 1 s) (by omega) (by omega) (by omega) a5.1 a5.2
  have eg0 : gq g s (g 1 s) = g := by unfold gq; rw [upd_id, va_up_id]
  have eg8 : g8q (va_up g8 26 p2) s (g 1 s) (g8 29 s + i32 0) = va_up g8 26 p2 := by
    unfold g8q
    rw [show g8 29 s + i32 0 = g8 29 s from Int32.add_zero _, va_up_ne _ _ (show 28 ≠ 26 by decide), va_up_ne _ _ (show 29 ≠ 26 by decide), a1, upd_id, upd_id]
    funext i
    simp only [va_up]
    by_cases d1 : i = 29
    · simp [d1]
    · by_cases d2 : i = 28
      · simp [d2]
      · simp [d1, d2]
  rw [eg0] at r5
  rw [eg8] at r6
  rw [if_pos rfl, Nat.sub_zero] at r6
  rw [goes93 (by omega) (by omega)] at r5
  rw [goN103 k10 (by omega)] at r6
  refine ⟨f1, g93 (gq g s q') s j' (i32 j4), g103 (g8q (va_up g8 26 p2) s q' (g8 29 s + i32 j')) s j' (i32 j4), ?_, ?_, ?_⟩
  · show pX0_goes_0 η θ f g h (i32 s) nt = _
    unfold pX0_goes_0 pX0_goes_46
    rw [if_pos hgs, A.2.1, hcs, e1]
    simp only [Option.bind_some]
    rw [way0 h0 d1 d2 hnt, h6]
    simp only [Option.bind_some]
    rw [show (if hki η h = 5 then 1 else D.2 8 nt.toNatClampNeg) = i32 j4 from hway, if_pos hgs, nextAt0 hf2 hn10 hj4]
    simp only [Option.bind_some]
    rw [upd_id] at r5
    have hm0 : (i32 m ≤ 0) ↔ m ≤ 0 := by rw [show (0 : Int32) = i32 0 from rfl, i32_le (by omega) (by omega)]
    by_cases c : m ≤ 0
    · rw [if_pos (hm0.mpr c)]
      rw [if_pos c] at r5
      exact r5
    · rw [if_neg (fun q => c (hm0.mp q))]
      rw [if_neg c] at r5
      exact r5
  · have hj19 : j' ≤ 19 := by omega
    unfold g93 g103
    have hjt : (i32 j').toInt = j' := i32_toInt (by omega)
    refine ⟨fun k k1 k2 k3 k4 k5 => ?_, fun k k1 k2 k3 => (hf1 k k1 k2 k3).trans (I2 k k1 k2 k3), fun k k1 k2 k3 k4 => ?_, fun i hi => ?_, fun i hi => ?_⟩
    · have e : g8q (va_up g8 26 p2) s q' (g8 29 s + i32 j') k = g8 k := by
        unfold g8q
        rw [va_up_ne _ _ k3, va_up_ne _ _ k2, va_up_ne _ _ k1]
      split
      · rw [e]; exact I1 k k1 k2 k3 k4 k5
      · rw [va_up_ne _ _ k5, va_up_ne _ _ k4, e]; exact I1 k k1 k2 k3 k4 k5
    · have e : gq g s q' k = g k := va_up_ne _ _ k1
      split
      · rw [e]; exact I3 k k1 k2 k3 k4
      · rw [va_up_ne _ _ k2, va_up_ne _ _ k4, va_up_ne _ _ k3, e]; exact I3 k k1 k2 k3 k4
    · have e : gq g s q' 1 i = g 1 i := by unfold gq; rw [va_up_self, upd_n (by omega)]
      split
      · rw [e]; exact I4 i hi
      · rw [va_up_ne _ _ (show 1 ≠ 28 by decide), va_up_ne _ _ (show 1 ≠ 30 by decide), va_up_ne _ _ (show 1 ≠ 29 by decide), e]; exact I4 i hi
    · dsimp only
      have G1 : gq g s q' 1 = upd (g 1) s q' := va_up_self _ _ _
      have Gk : ∀ k, k ≠ 1 → gq g s q' k = g k := fun k hk => va_up_ne _ _ hk
      have E28 : g8q (va_up g8 26 p2) s q' (g8 29 s + i32 j') 28 = upd (g8 28) s q' := by
        unfold g8q; rw [va_up_ne _ _ (show 28 ≠ 29 by decide), va_up_self, va_up_ne _ _ (show 28 ≠ 26 by decide)]
      have E29 : g8q (va_up g8 26 p2) s q' (g8 29 s + i32 j') 29 = upd (g8 29) s (g8 29 s + i32 j') := by
        unfold g8q; rw [va_up_self, va_up_ne _ _ (show 29 ≠ 26 by decide)]
      have Ek : ∀ k, k ≠ 26 → k ≠ 28 → k ≠ 29 → g8q (va_up g8 26 p2) s q' (g8 29 s + i32 j') k = g8 k := fun k k1 k2 k3 => by
        unfold g8q; rw [va_up_ne _ _ k3, va_up_ne _ _ k2, va_up_ne _ _ k1]
      obtain ⟨b1, b2, b3, b4, b5, b6, b7, b8⟩ := I5 i hi
      by_cases cj : j' = 0
      · subst cj
        rw [if_pos rfl, if_pos rfl, G1, Gk 28 (by decide), Gk 29 (by decide), Gk 30 (by decide), E28, E29, Ek 30 (by decide) (by decide) (by decide), Ek 31 (by decide) (by decide) (by decide)]
        by_cases ci : i = s
        · subst ci
          rw [upd_e, upd_e, upd_e, if_pos rfl]
          exact ⟨rfl, by rw [show g8 29 i + i32 0 = g8 29 i from Int32.add_zero _]; exact b2, b3, b4, ⟨r3, r4⟩, ⟨b6.1, by omega⟩, ⟨b7.1, by omega⟩, b8⟩
        · rw [upd_n ci, upd_n ci, upd_n ci, if_neg ci]
          exact ⟨b1, b2, b3, b4, b5, b6, b7, b8⟩
      · rw [if_neg cj, if_neg cj]
        have F1 : ∀ x y z : Nat → Int32, va_up (va_up (va_up (gq g s q') 29 x) 30 y) 28 z 1 = upd (g 1) s q' := fun x y z => by
          rw [va_up_ne _ _ (by decide), va_up_ne _ _ (by decide), va_up_ne _ _ (by decide), G1]
        have F28 : ∀ x y z : Nat → Int32, va_up (va_up (va_up (gq g s q') 29 x) 30 y) 28 z 28 = z := fun x y z => va_up_self _ _ _
        have F29 : ∀ x y z : Nat → Int32, va_up (va_up (va_up (gq g s q') 29 x) 30 y) 28 z 29 = x := fun x y z => by
          rw [va_up_ne _ _ (by decide), va_up_ne _ _ (by decide), va_up_self]
        have F30 : ∀ x y z : Nat → Int32, va_up (va_up (va_up (gq g s q') 29 x) 30 y) 28 z 30 = y := fun x y z => by
          rw [va_up_ne _ _ (by decide), va_up_self]
        rw [F1, F28, F29, F30, Gk 28 (by decide), Gk 29 (by decide), Gk 30 (by decide)]
        have K30 : ∀ x y : Nat → Int32, va_up (va_up (g8q (va_up g8 26 p2) s q' (g8 29 s + i32 j')) 30 x) 31 y 30 = x := fun x y => by
          rw [va_up_ne _ _ (by decide), va_up_self]
        have K31 : ∀ x y : Nat → Int32, va_up (va_up (g8q (va_up g8 26 p2) s q' (g8 29 s + i32 j')) 30 x) 31 y 31 = y := fun x y => va_up_self _ _ _
        have K28 : ∀ x y : Nat → Int32, va_up (va_up (g8q (va_up g8 26 p2) s q' (g8 29 s + i32 j')) 30 x) 31 y 28 = upd (g8 28) s q' := fun x y => by
          rw [va_up_ne _ _ (by decide), va_up_ne _ _ (by decide), E28]
        have K29 : ∀ x y : Nat → Int32, va_up (va_up (g8q (va_up g8 26 p2) s q' (g8 29 s + i32 j')) 30 x) 31 y 29 = upd (g8 29) s (g8 29 s + i32 j') := fun x y => by
          rw [va_up_ne _ _ (by decide), va_up_ne _ _ (by decide), E29]
        rw [K28, K29, K30, K31, Ek 30 (by decide) (by decide) (by decide), Ek 31 (by decide) (by decide) (by decide)]
        by_cases ci : i = s
        · subst ci
          rw [upd_e, upd_e, upd_e, upd_e, upd_e, upd_e, upd_e, upd_e, if_pos rfl, ← b2, ← b3, ← b4]
          have hneg : (g 30 i = -1) ↔ g 30 i < 0 := by
            rw [← Int32.toInt_inj, Int32.lt_iff_toInt_lt, Int32.toInt_zero, show (-1 : Int32).toInt = -1 from rfl]; omega
          have hw3 : -1 ≤ (wyN D η h nt).toInt ∧ (wyN D η h nt).toInt ≤ 3 := by
            rw [hway, i32_toInt (by omega)]; omega
          have hadd : (g 28 i + i32 j').toInt = (g 28 i).toInt + j' := by
            rw [i32_addI (by omega) (by omega), hjt]
          have hbi : b i ≤ 100 := hb
          refine ⟨rfl, rfl, ?_, rfl, ⟨r3, r4⟩, ⟨by rw [hadd]; omega, by rw [hadd]; omega⟩, ?_, by rw [← hway]; exact hw3⟩
          · by_cases c1 : g 30 i = -1
            · rw [if_pos c1, if_pos (hneg.mp c1)]
            · rw [if_neg c1, if_neg (fun q => c1 (hneg.mpr q))]
          · have hz : ∀ z : Int32, 0 ≤ z.toInt → z.toInt ≤ 1 → 0 ≤ (g 29 i + z).toInt ∧ (g 29 i + z).toInt ≤ ((b i + 1 : Nat) : Int) := fun z z1 z2 => by
              rw [i32_addI (by omega) (by omega)]; omega
            split
            · exact hz 0 (by decide) (by decide)
            · split
              · exact hz 0 (by decide) (by decide)
              · exact hz 1 (by decide) (by decide)
        · rw [upd_n ci, upd_n ci, upd_n ci, upd_n ci, upd_n ci, upd_n ci, upd_n ci, upd_n ci, if_neg ci]
          exact ⟨b1, b2, b3, b4, b5, b6, b7, b8⟩
  · rw [hp]
    simp only [Option.bind_some]
    rw [if_pos hgs, hway, ahead8 hj4, hcs]
    simp only [Option.bind_some]
    rw [va_up_ne _ _ (show 28 ≠ 26 by decide), ← a1]
    exact r6

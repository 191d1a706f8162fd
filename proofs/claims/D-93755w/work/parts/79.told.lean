/-! told, needs, run, lay (mine) -/
theorem good26 {D : xD} (Gd : Good D) (p : Nat → Int32) : Good (D.1, va_up D.2 26 p) := ⟨Gd.1, gA_r Gd.2.1 (fun i => ⟨i32_min _, i32_max _⟩), gX.ug (D := D) Gd.2.2 (by decide)⟩
theorem cR.f3 {D : xD} {f f1 : xF} {g : xG} (R : cR D f g) (h : ∀ k, k ≠ 11 → k ≠ 12 → k ≠ 13 → f1 k = f k) : cR D f1 g :=
  R.same (fun p hp => by
    have h3 : ∀ p ∈ cF, p.1 ≠ 11 ∧ p.1 ≠ 12 ∧ p.1 ≠ 13 := by decide
    exact h p.1 (h3 p hp).1 (h3 p hp).2.1 (h3 p hp).2.2) (fun _ _ => rfl) rfl
theorem off26 {D : xD} {p : Nat → Int32} {lf lg : List Nat} (h : 26 ∈ lg) : off lf lg D (D.1, va_up D.2 26 p) := (off.rf D).ug h
theorem Sim26 {α : Type} {D : xD} {f f1 : xF} {g : xG} {lf lg : List Nat} {v : α} {p : Nat → Int32} (R : cR D f g) (Gd : Good D) (h : 26 ∈ lg) (hf : ∀ k, k ≠ 11 → k ≠ 12 → k ≠ 13 → f1 k = f k) : Sim D lf lg (some (v, f1, g)) (some (v, D.1, va_up D.2 26 p)) :=
  Sim.leaf (E := (D.1, va_up D.2 26 p)) ((R.f3 hf).off (off26 (lf := []) (lg := [26]) (by decide)) (by decide) (by decide) (by decide)) (good26 Gd p) (off26 h)
theorem nt27 {D : xD} (Gd : Good D) : ¬ 0 ≤ D.1 27 := by
  have h27 : (D.1 27).toInt ≤ -1 := (Gd.1 27).2
  intro q
  have := Int32.le_iff_toInt_le.mp q
  rw [Int32.toInt_zero] at this
  omega
theorem pushD {D : xD} {η : cx_H} {θ : cx_T} {g8 : xG} {h s n : Int32} (Gd : Good D) (H : HR D η) (T : TR D θ) (hg : ∀ j, j ≠ 26 → g8 j = D.2 j) (h0 : 0 ≤ h.toInt) (h1 : h.toInt < (D.1 2).toInt) (hs : gin s 10 = true) (hn : gin n 60 = true) : ∃ p2, pX8_pushes D.1 g8 h s n = some (pv_w D h.toNatClampNeg s.toNatClampNeg n (D.2 7 n.toNatClampNeg), D.1, va_up g8 26 p2) :=
  pushes8 Gd H T rfl hg h0 h1 hs hn (fun p => by rw [wind8 (nt27 Gd) hn, va_up_ne _ _ (show 7 ≠ 26 by decide), hg 7 (by decide)]) (Gd.2.1 7 _).1 (Gd.2.1 7 _).2
theorem P_told {D : xD} {η : cx_H} {θ : cx_T} {f : xF} {g : xG} (R : cR D f g) (Gd : Good D) (H : HR D η) (T : TR D θ) (h s n w : Int32) : Sim D [] [26] (pX0_told η θ f g h s n w) (pX8_told D.1 D.2 h s n w) := by
  have hb0 : 0 ≤ (D.1 0).toInt := (Gd.1 0).1
  have hb1 : (D.1 0).toInt ≤ 10 := (Gd.1 0).2
  have hc0 : 0 ≤ (D.1 1).toInt := (Gd.1 1).1
  have hc1 : (D.1 1).toInt ≤ 60 := (Gd.1 1).2
  have hd0 : 0 ≤ (D.1 2).toInt := (Gd.1 2).1
  simp only [pX0_told, pX8_told, pX0_told_0, pX8_told_0, pX0_told_37, pX8_told_35, pX0_told_102, pX8_told_82, isHo0, isHo8, isSt0, isSt8, isNi0, isNi8, in0, in8, R.hows, R.stones, R.nights, Option.bind_some, zi_0, ite_not, Int32.reduceToInt, Int64.reduceToInt]
  by_cases c1 : 0 ≤ h.toInt ∧ h.toInt ≤ (D.1 2 - 1).toInt
  case neg => simp only [c1, if_false]; exact Sim.same R Gd
  by_cases c2 : 0 ≤ s.toInt ∧ s.toInt ≤ (D.1 0 - 1).toInt
  case neg => simp only [c1, and_self, if_true, c2, if_false]; exact Sim.same R Gd
  by_cases c3 : 0 ≤ n.toInt ∧ n.toInt ≤ (D.1 1 - 1).toInt
  case neg => simp only [c1, c2, and_self, if_true, c3, if_false]; exact Sim.same R Gd
  by_cases c4 : 0 ≤ w.toInt ∧ w.toInt ≤ 2
  case neg => simp only [c1, c2, c3, and_self, if_true, c4, if_false]; exact Sim.same R Gd
  have h1 := cnt_lt hd0 c1.2
  have h2 := cnt_lt hb0 c2.2
  have h3 := cnt_lt hc0 c3.2
  have hs : gin s 10 = true := gin_t c2.1 (by omega)
  have hn : gin n 60 = true := gin_t c3.1 (by omega)
  obtain ⟨e1, e2, e3, e4, e5, e6⟩ := hw_of H c1.1 h1
  have hg : gk η h [0, 1, 2, 3, 4, 5] = true := gk_t c1.1 e1 (ct6 _ (by omega))
  obtain ⟨f1, hf1, ef⟩ := goesBy0 (s := s) Gd H T R.aR c1.1 h1 hs hn
  obtain ⟨p2, ep⟩ := pushD (s := s) Gd H T (fun _ _ => rfl) c1.1 h1 hs hn
  simp only [c1, c2, c3, c4, and_self, if_true, e6, hg, hs, may0 c1.1 e1 e2 hn, drag0 c1.1 e1 e2, R.aW, ef, ep, may8 (f := D.1) e6 hn e4 e2, drag8 (f := D.1) e6 hs e4 e2, R.aWet, R.aIce, R.aWind, e5, Option.bind_some]
  by_cases d1 : w = 0
  · simp only [d1, if_true]
    by_cases d2 : pu_m (hki η h) (D.2 5 n.toNatClampNeg) (D.2 6 n.toNatClampNeg) = true
    · simp only [d2, if_true, show ¬ (1 : Int32) = 0 by decide, if_false]; exact Sim.same R Gd
    · simp only [d2, if_false, if_true]; exact Sim.same R Gd
  simp only [d1, if_false]
  by_cases d2 : w = 1
  · simp only [d2, if_true]; exact Sim.same R Gd
  simp only [d2, if_false]
  exact Sim26 R Gd (by decide) hf1
/-! needs -/
def fst_ (P : Nat → Bool) : Nat → Nat → Int32
  | 0, _ => -1
  | d + 1, w => if P w = true then i32 w else fst_ P d (w + 1)
def nd_P (D : xD) (h s : Nat) (n : Int32) (w : Nat) : Bool := decide (¬ pv_w D h s n (i32 w) ≤ 0)
theorem needs0 {D : xD} {η : cx_H} {θ : cx_T} {f0 : xF} {g0 : xG} {h s n : Int32} (Gd : Good D) (H : HR D η) (T : TR D θ) (R : cR D f0 g0) (h0 : 0 ≤ h.toInt) (h1 : h.toInt < (D.1 2).toInt) (hs : gin s 10 = true) (hn : gin n 60 = true) (hgk : gk η h [0, 1, 2, 3, 4, 5] = true) (hg8 : gin h 8 = true) :
    ∀ (d w K : Nat) (f : xF) (x : Int32), w + d = 100 → d < K → (∀ k, k ≠ 11 → k ≠ 12 → k ≠ 13 → f k = f0 k) →
      ∃ f1 : xF, (∀ k, k ≠ 11 → k ≠ 12 → k ≠ 13 → f1 k = f0 k) ∧ pX0_needs_38 η θ K f (va_up g0 5 (upd (g0 5) n.toNatClampNeg x)) h s n (g0 5 n.toNatClampNeg) (i32 w) = some (fst_ (nd_P D h.toNatClampNeg s.toNatClampNeg n) d w, f1, g0) := by
  have back : ∀ x : Int32, va_up (va_up g0 5 (upd (g0 5) n.toNatClampNeg x)) 5 (upd (va_up g0 5 (upd (g0 5) n.toNatClampNeg x) 5) n.toNatClampNeg (g0 5 n.toNatClampNeg)) = g0 := fun x => by
    rw [va_up_self, va_up_up, upd_up, upd_id, va_up_id]
  intro d
  induction d with
  | zero =>
    intro w K f x hw hK hf
    obtain ⟨k, rfl⟩ : ∃ k, K = k + 1 := ⟨K - 1, by omega⟩
    refine ⟨f, hf, ?_⟩
    rw [pX0_needs_38, if_pos (by rw [show (99 : Int32) = i32 99 from rfl, i32_lt (by omega) (by omega)]; omega)]
    unfold pX0_needs_93
    rw [if_pos hn, back]; rfl
  | succ d ih =>
    intro w K f x hw hK hf
    obtain ⟨k, rfl⟩ : ∃ k, K = k + 1 := ⟨K - 1, by omega⟩
    rw [pX0_needs_38, if_neg (by rw [show (99 : Int32) = i32 99 from rfl, i32_lt (by omega) (by omega)]; omega), if_pos hn, if_pos hg8, if_pos hgk, if_pos hs]
    have eg : va_up (va_up g0 5 (upd (g0 5) n.toNatClampNeg x)) 5 (upd (va_up g0 5 (upd (g0 5) n.toNatClampNeg x) 5) n.toNatClampNeg (i32 w)) = va_up g0 5 (upd (g0 5) n.toNatClampNeg (i32 w)) := by
      rw [va_up_self, va_up_up, upd_up]
    rw [eg]
    have A : aR D f (va_up g0 5 (upd (g0 5) n.toNatClampNeg (i32 w))) := ⟨(hf 26 (by decide) (by decide) (by decide)).trans R.rule, (va_up_ne _ _ (by decide)).trans R.aW, (va_up_ne _ _ (by decide)).trans R.aWet, (va_up_ne _ _ (by decide)).trans R.aIce⟩
    obtain ⟨f1, hf1, e⟩ := goesBy0 (s := s) Gd H T A h0 h1 hs hn
    rw [A.2.1, e, va_up_self, upd_e]
    simp only [Option.bind_some]
    have hf2 : ∀ k, k ≠ 11 → k ≠ 12 → k ≠ 13 → f1 k = f0 k := fun k k1 k2 k3 => (hf1 k k1 k2 k3).trans (hf k k1 k2 k3)
    unfold fst_
    by_cases c : pv_w D h.toNatClampNeg s.toNatClampNeg n (i32 w) ≤ 0
    · rw [if_pos c, if_neg (by unfold nd_P; rw [decide_eq_true_eq]; exact fun q => q c), i32_succ]
      exact ih (w + 1) k f1 (i32 w) (by omega) (by omega) hf2
    · rw [if_neg c, if_pos (by unfold nd_P; rw [decide_eq_true_eq]; exact c)]
      refine ⟨f1, hf2, ?_⟩
      unfold pX0_needs_72
      rw [if_pos hn, back]
theorem needs8 {D : xD} {η : cx_H} {θ : cx_T} {h s n : Int32} (Gd : Good D) (H : HR D η) (T : TR D θ) (h0 : 0 ≤ h.toInt) (h1 : h.toInt < (D.1 2).toInt) (hs : gin s 10 = true) (hn : gin n 60 = true) :
    ∀ (w K : Nat) (p : Nat → Int32) (x : Int32), w ≤ 100 → w < K →
      ∃ p2, pX8_needs_34 K (upd D.1 27 x) (va_up D.2 26 p) h s n (fst_ (nd_P D h.toNatClampNeg s.toNatClampNeg n) (100 - w) w) (i32 w - 1) = some (fst_ (nd_P D h.toNatClampNeg s.toNatClampNeg n) 100 0, D.1, va_up D.2 26 p2) := by
  have u27 : ∀ x : Int32, upd (upd D.1 27 x) 27 (-1) = D.1 := fun x => by
    rw [upd_up]
    have : D.1 27 = -1 := by
      have a1 : -1 ≤ (D.1 27).toInt := (Gd.1 27).1
      have a2 : (D.1 27).toInt ≤ -1 := (Gd.1 27).2
      rw [← Int32.toInt_inj, show (-1 : Int32).toInt = -1 from rfl]; omega
    rw [← this, upd_id]
  intro w
  induction w with
  | zero =>
    intro K p x hw hK
    obtain ⟨k, rfl⟩ : ∃ k, K = k + 1 := ⟨K - 1, by omega⟩
    refine ⟨p, ?_⟩
    rw [pX8_needs_34, if_pos (by decide), u27]
  | succ w ih =>
    intro K p x hw hK
    obtain ⟨k, rfl⟩ : ∃ k, K = k + 1 := ⟨K - 1, by omega⟩
    have ew : i32 (w + 1) - 1 = i32 w := by
      rw [← Int32.toInt_inj, one_sub (x := i32 (w + 1)) (lo := 0) (by rw [i32_toInt (by omega)]; omega) (by omega), i32_toInt (by omega), i32_toInt (by omega)]
      omega
    have hwt : (i32 w).toInt = w := i32_toInt (by omega)
    have hnn : ¬ i32 w < 0 := by rw [show (0 : Int32) = i32 0 from rfl, i32_lt (by omega) (by omega)]; omega
    have hge : 0 ≤ i32 w := by rw [show (0 : Int32) = i32 0 from rfl, i32_le (by omega) (by omega)]; omega
    rw [ew, pX8_needs_34, if_neg hnn, upd_up]
    obtain ⟨p2, e⟩ := pushes8 (f8 := upd D.1 27 (i32 w)) (g8 := va_up D.2 26 p) (s := s) (wd := i32 w) Gd H T rfl (fun j hj => va_up_ne _ _ hj) h0 h1 hs hn (fun p => by
      unfold pX8_windNow pX8_windNow_0 pX8_windNow_20
      rw [upd_e, if_pos hge]) (by omega) (by omega)
    rw [e]
    simp only [Option.bind_some]
    unfold pX8_needs_59
    rw [va_up_up, show i32 w + -1 = i32 w - 1 from (Int32.sub_eq_add_neg _ _).symm]
    have hfst : fst_ (nd_P D h.toNatClampNeg s.toNatClampNeg n) (100 - w) w = if nd_P D h.toNatClampNeg s.toNatClampNeg n w = true then i32 w else fst_ (nd_P D h.toNatClampNeg s.toNatClampNeg n) (100 - (w + 1)) (w + 1) := by
      rw [show 100 - w = (100 - (w + 1)) + 1 by omega]; rfl
    have hI := ih k p2 (i32 w) (by omega) (by omega)
    rw [hfst] at hI
    by_cases c : pv_w D h.toNatClampNeg s.toNatClampNeg n (i32 w) ≤ 0
    · rw [if_neg (by unfold nd_P; rw [decide_eq_true_eq]; exact fun q => q c)] at hI
      rw [if_pos c]; exact hI
    · rw [if_pos (by unfold nd_P; rw [decide_eq_true_eq]; exact c)] at hI
      rw [if_neg c]; exact hI
theorem P_needs {D : xD} {η : cx_H} {θ : cx_T} {f : xF} {g : xG} (R : cR D f g) (Gd : Good D) (H : HR D η) (T : TR D θ) (h s n : Int32) : Sim D [] [26] (pX0_needs η θ f g h s n) (pX8_needs D.1 D.2 h s n) := by
  have hb0 : 0 ≤ (D.1 0).toInt := (Gd.1 0).1
  have hb1 : (D.1 0).toInt ≤ 10 := (Gd.1 0).2
  have hc0 : 0 ≤ (D.1 1).toInt := (Gd.1 1).1
  have hc1 : (D.1 1).toInt ≤ 60 := (Gd.1 1).2
  have hd0 : 0 ≤ (D.1 2).toInt := (Gd.1 2).1
  simp only [pX0_needs, pX8_needs, pX0_needs_0, pX8_needs_0, pX0_needs_24, pX8_needs_24, isHo0, isHo8, isSt0, isSt8, isNi0, isNi8, R.hows, R.stones, R.nights, Option.bind_some, zi_0, ite_not]
  by_cases c1 : 0 ≤ h.toInt ∧ h.toInt ≤ (D.1 2 - 1).toInt
  case neg => simp only [c1, if_false]; exact Sim.same R Gd
  by_cases c2 : 0 ≤ s.toInt ∧ s.toInt ≤ (D.1 0 - 1).toInt
  case neg => simp only [c1, and_self, if_true, c2, if_false]; exact Sim.same R Gd
  by_cases c3 : 0 ≤ n.toInt ∧ n.toInt ≤ (D.1 1 - 1).toInt
  case neg => simp only [c1, c2, and_self, if_true, c3, if_false]; exact Sim.same R Gd
  have h1 := cnt_lt hd0 c1.2
  have h2 := cnt_lt hb0 c2.2
  have h3 := cnt_lt hc0 c3.2
  have hs : gin s 10 = true := gin_t c2.1 (by omega)
  have hn : gin n 60 = true := gin_t c3.1 (by omega)
  obtain ⟨e1, e2, e3, e4, e5, e6⟩ := hw_of H c1.1 h1
  have hg : gk η h [0, 1, 2, 3, 4, 5] = true := gk_t c1.1 e1 (ct6 _ (by omega))
  simp only [c1, c2, c3, and_self, if_true, hn]
  obtain ⟨f1, hf1, E0⟩ := needs0 (s := s) Gd H T R c1.1 h1 hs hn hg e6 100 0 5000 f (g 5 n.toNatClampNeg) (by omega) (by omega) (fun _ _ _ _ => rfl)
  rw [upd_id, va_up_id] at E0
  obtain ⟨p2, E8⟩ := needs8 (s := s) Gd H T c1.1 h1 hs hn 100 5000 (D.2 26) (D.1 27) (by omega) (by omega)
  rw [upd_id, va_up_id] at E8
  have E8' : pX8_needs_34 5000 D.1 D.2 h s n (-1) 99 = some (fst_ (nd_P D h.toNatClampNeg s.toNatClampNeg n) 100 0, D.1, va_up D.2 26 p2) := E8
  rw [show (0 : Int32) = i32 0 from rfl, E0, E8']
  exact Sim26 R Gd (by decide) hf1
/-! run, lay -/
theorem P_run {D : xD} {η : cx_H} {θ : cx_T} {f : xF} {g : xG} (R : cR D f g) (Gd : Good D) (H : HR D η) (T : TR D θ) (h v s w : Int32) : Sim D [] [26, 28, 29, 30, 31] (pX0_run η θ f g h v s w) (pX8_run D.1 D.2 h v s w) := by
  have hb0 : 0 ≤ (D.1 0).toInt := (Gd.1 0).1
  have hb1 : (D.1 0).toInt ≤ 10 := (Gd.1 0).2
  have hd0 : 0 ≤ (D.1 2).toInt := (Gd.1 2).1
  obtain ⟨n, hn10, hn⟩ := gs_n Gd
  simp only [pX0_run, pX8_run, pX0_run_0, pX8_run_0, pX0_run_37, pX8_run_35, pX0_run_97, pX8_run_79, isHo0, isHo8, isSt0, isSt8, in0, in8, isRow8 (f := D.1) (g := D.2) (Gd.1 1).1 (Gd.1 1).2, areNi0 (f := f) (g := g) (by rw [R.nights]; exact (Gd.1 1).1) (by rw [R.nights]; exact (Gd.1 1).2), R.hows, R.stones, R.nights, Option.bind_some, zi_0, ite_not, Int32.reduceToInt, Int64.reduceToInt, keeps0, lays0]
  by_cases c1 : 0 ≤ h.toInt ∧ h.toInt ≤ (D.1 2 - 1).toInt
  case neg => simp only [c1, if_false]; exact Sim.same R Gd
  by_cases c2 : 0 ≤ v.toInt ∧ v.toInt / 100 ≤ v.toInt % 100 ∧ v.toInt % 100 < (D.1 1).toInt
  case neg => simp only [c1, and_self, if_true, c2, if_false]; exact Sim.same R Gd
  by_cases c3 : 0 ≤ s.toInt ∧ s.toInt ≤ (D.1 0 - 1).toInt
  case neg => simp only [c1, c2, and_self, if_true, c3, if_false]; exact Sim.same R Gd
  by_cases c4 : 0 ≤ w.toInt ∧ w.toInt ≤ 2
  case neg => simp only [c1, c2, c3, and_self, if_true, c4, if_false]; exact Sim.same R Gd
  have h1 := cnt_lt hd0 c1.2
  have h2 := cnt_lt hb0 c3.2
  have hs : gin s 10 = true := gin_t c3.1 (by omega)
  obtain ⟨e1, e2, e3, e4, e5, e6⟩ := hw_of H c1.1 h1
  have hg : gk η h [0, 1, 2, 3, 4, 5] = true := gk_t c1.1 e1 (ct6 _ (by omega))
  obtain ⟨f1, g1, g81, q1, q2, q3⟩ := row_eq Gd H T R.keep hn hn10 c1.1 h1 c2
  have hsn : s.toNatClampNeg < n := by
    have := cl_of c3.1
    rw [hn, i32_toInt (by omega)] at h2
    omega
  obtain ⟨a1, a2, a3, _⟩ := q3.2.2.2.2 _ hsn
  have hL := lays_eq R hn10 q3
  have hG := rs_good Gd q3
  have leaf : ∀ x : Int32, Sim D [] [26, 28, 29, 30, 31] (some (x, f1, va_up g1 1 (va_cpy (g1 27) (g1 1) 0 0 10))) (some (x, D.1, g81)) := fun x => Sim.leaf (E := (D.1, g81)) (hL.off hG.2 (by decide) (by decide) (by decide)) hG.1 hG.2
  simp only [c1, c2, c3, c4, and_self, if_true, e6, hg, hs, q1, q2, Option.bind_some]
  by_cases d1 : w = 0
  · simp only [d1, if_true]; rw [a2]; exact leaf _
  simp only [d1, if_false]
  by_cases d2 : w = 1
  · simp only [d2, if_true]; rw [a1]; exact leaf _
  simp only [d2, if_false]
  rw [a3]; exact leaf _
theorem lay_loop {D : xD} {η : cx_H} {θ : cx_T} {n : Nat} {f1 : xF} {g1 g81 : xG} (hn : D.1 0 = i32 n) (hn10 : n ≤ 10) (hf : f1 2 = i32 n) (hw : ∀ i, i < n → g1 28 i = g81 29 i) :
    ∀ (d j K K8 : Nat) (acc : Int32) (g8 : xG), j + d = n → d < K → d < K8 → (∀ k, k ≠ 4 → g8 k = g81 k) → (∀ i, i < j → g8 4 i = g81 28 i) → (∀ i, j ≤ i → g8 4 i = D.2 4 i) →
      ∃ (z : Int32) (g82 : xG), pX0_lay_42 η θ K f1 g1 acc (i32 j) = some (z, f1, g1) ∧ pX8_lay_30 K8 D.1 g8 acc (i32 j) = some (z, D.1, g82) ∧ (∀ k, k ≠ 4 → g82 k = g81 k) ∧ (∀ i, i < n → g82 4 i = g81 28 i) ∧ (∀ i, n ≤ i → g82 4 i = D.2 4 i) := by
  intro d
  induction d with
  | zero =>
    intro j K K8 acc g8 hj hK hK8 a1 a2 a3
    obtain ⟨k, rfl⟩ : ∃ k, K = k + 1 := ⟨K - 1, by omega⟩
    obtain ⟨k8, rfl⟩ : ∃ k, K8 = k + 1 := ⟨K8 - 1, by omega⟩
    refine ⟨acc, g8, ?_, ?_, a1, fun i hi => a2 i (by omega), fun i hi => a3 i (by omega)⟩
    · rw [pX0_lay_42, if_pos (by rw [hf, i32_le (by omega) (by omega)]; omega)]
    · rw [pX8_lay_30, if_pos (by rw [hn, i32_le (by omega) (by omega)]; omega)]
  | succ d ih =>
    intro j K K8 acc g8 hj hK hK8 a1 a2 a3
    obtain ⟨k, rfl⟩ : ∃ k, K = k + 1 := ⟨K - 1, by omega⟩
    obtain ⟨k8, rfl⟩ : ∃ k, K8 = k + 1 := ⟨K8 - 1, by omega⟩
    have hg : gin (i32 j) 10 = true := gin_i (by omega) (by omega)
    have hcl : (i32 j).toNatClampNeg = j := i32_cl (by omega)
    rw [pX0_lay_42, if_neg (by rw [hf, i32_le (by omega) (by omega)]; omega), if_pos hg, hcl, i32_succ]
    rw [pX8_lay_30, if_neg (by rw [hn, i32_le (by omega) (by omega)]; omega), if_pos hg, if_pos hg, if_pos hg, hcl, i32_succ, va_up_ne _ _ (show 29 ≠ 4 by decide), a1 29 (by decide), a1 28 (by decide), hw j (by omega)]
    refine ih (j + 1) k k8 _ _ (by omega) (by omega) (by omega) (fun q hq => (va_up_ne _ _ hq).trans (a1 q hq)) (fun i hi => ?_) (fun i hi => ?_)
    · rw [va_up_self]
      by_cases c : i = j
      · rw [c, upd_e]
      · rw [upd_n c]; exact a2 i (by omega)
    · rw [va_up_self, upd_n (by omega)]; exact a3 i (by omega)
set_option maxRecDepth 100000 in
theorem P_lay {D : xD} {η : cx_H} {θ : cx_T} {f : xF} {g : xG} (R : cR D f g) (Gd : Good D) (H : HR D η) (T : TR D θ) (h v : Int32) : Sim D [] [4, 26, 28, 29, 30, 31] (pX0_lay η θ f g h v) (pX8_lay D.1 D.2 h v) := by
  have hd0 : 0 ≤ (D.1 2).toInt := (Gd.1 2).1
  obtain ⟨n, hn10, hn⟩ := gs_n Gd
  simp only [pX0_lay, pX8_lay, pX0_lay_0, pX8_lay_0, pX0_lay_16, pX8_lay_16, isHo0, isHo8, isRow8 (f := D.1) (g := D.2) (Gd.1 1).1 (Gd.1 1).2, areNi0 (f := f) (g := g) (by rw [R.nights]; exact (Gd.1 1).1) (by rw [R.nights]; exact (Gd.1 1).2), R.hows, R.nights, Option.bind_some, zi_0, ite_not]
  by_cases c1 : 0 ≤ h.toInt ∧ h.toInt ≤ (D.1 2 - 1).toInt
  case neg => simp only [c1, if_false]; exact Sim.same R Gd
  by_cases c2 : 0 ≤ v.toInt ∧ v.toInt / 100 ≤ v.toInt % 100 ∧ v.toInt % 100 < (D.1 1).toInt
  case neg => simp only [c1, and_self, if_true, c2, if_false]; exact Sim.same R Gd
  have h1 := cnt_lt hd0 c1.2
  obtain ⟨e1, e2, e3, e4, e5, e6⟩ := hw_of H c1.1 h1
  have hg : gk η h [0, 1, 2, 3, 4, 5] = true := gk_t c1.1 e1 (ct6 _ (by omega))
  obtain ⟨f1, g1, g81, q1, q2, q3⟩ := row_eq Gd H T R hn hn10 c1.1 h1 c2
  simp only [c1, c2, and_self, if_true, e6, hg, q1, q2, Option.bind_some]
  have hf2 : f1 2 = i32 n := by rw [q3.2.1 2 (by decide) (by decide) (by decide), R.stones, hn]
  have hG := rs_good Gd q3
  obtain ⟨z, g82, r1, r2, r3, r4, r5⟩ := lay_loop (η := η) (θ := θ) hn hn10 hf2 (fun i hi => (q3.2.2.2.2 i hi).2.1) n 0 5000 5000 0 g81 (by omega) (by omega) (by omega) (fun _ _ => rfl) (fun i hi => by omega) (fun i hi => by rw [q3.1 4 (by decide) (by decide) (by decide) (by decide) (by decide)])
  have r1' : pX0_lay_42 η θ 5000 f1 g1 0 0 = some (z, f1, g1) := r1
  have r2' : pX8_lay_30 5000 D.1 g81 0 0 = some (z, D.1, g82) := r2
  rw [r1', r2']
  have h4 : g1 1 = g82 4 := by
    funext i
    by_cases c : i < n
    · rw [r4 i c]; exact (q3.2.2.2.2 i c).1
    · rw [r5 i (by omega), q3.2.2.2.1 i (by omega), R.aP]
  refine Sim.leaf (E := (D.1, g82)) ⟨fun p hp => ?_, fun p hp => ?_, fun i hi => ?_⟩ ⟨Gd.1, fun k i => ?_, ?_⟩ ⟨fun _ _ => rfl, fun k hk => ?_⟩
  · have h3 : ∀ p ∈ cF, p.1 ≠ 11 ∧ p.1 ≠ 12 ∧ p.1 ≠ 13 := by decide
    rw [q3.2.1 p.1 (h3 p hp).1 (h3 p hp).2.1 (h3 p hp).2.2]; exact R.1 p hp
  · by_cases c : p.1 = 1
    · have : p.2 = 4 := by
        have h : ∀ p ∈ cG, p.1 = 1 → p.2 = 4 := by decide
        exact h p hp c
      rw [c, this]; exact h4
    · have h3 : ∀ p ∈ cG, p.1 ≠ 28 ∧ p.1 ≠ 29 ∧ p.1 ≠ 30 ∧ p.2 ≠ 26 ∧ p.2 ≠ 28 ∧ p.2 ≠ 29 ∧ p.2 ≠ 30 ∧ p.2 ≠ 31 ∧ (p.1 ≠ 1 → p.2 ≠ 4) := by decide
      obtain ⟨b1, b2, b3, b4, b5, b6, b7, b8, b9⟩ := h3 p hp
      rw [q3.2.2.1 p.1 c b1 b2 b3, R.2.1 p hp]
      show _ = g82 p.2
      rw [r3 p.2 (b9 c), q3.1 p.2 b4 b5 b6 b7 b8]
  · show g1 18 i &&& 255 = g82 21 i
    rw [r3 21 (by decide), q3.1 21 (by decide) (by decide) (by decide) (by decide) (by decide), q3.2.2.1 18 (by decide) (by decide) (by decide) (by decide)]
    exact R.2.2 i hi
  · by_cases c : k = 4
    · subst c
      show 0 ≤ (g82 4 i).toInt ∧ (g82 4 i).toInt ≤ 4095
      rw [← h4]
      by_cases c : i < n
      · exact (q3.2.2.2.2 i c).2.2.2.2.1
      · rw [q3.2.2.2.1 i (by omega), R.aP]; exact Gd.2.1 4 i
    · rw [show (D.1, g82).2 k = g81 k from r3 k c]; exact hG.1.2.1 k i
  · have hx := hG.1.2.2
    unfold gX at *
    rw [show (D.1, g82).2 33 = g81 33 from r3 33 (by decide)]
    exact hx
  · simp only [List.mem_cons, List.not_mem_nil, or_false, not_or] at hk
    rw [show (D.1, g82).2 k = g81 k from r3 k hk.1]
    exact q3.1 k hk.2.1 hk.2.2.1 hk.2.2.2.1 hk.2.2.2.2.1 hk.2.2.2.2.2

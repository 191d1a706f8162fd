/-! when, goers, foretold, order, look (mine) -/
def gb (D : xD) (N : Nat) (g8 : xG) : Prop := (∀ k, k ≠ 26 → k ≠ 28 → k ≠ 29 → k ≠ 30 → k ≠ 31 → g8 k = D.2 k) ∧ ∀ i, i < N → g8 28 i = D.2 4 i
theorem gb.up {D : xD} {N : Nat} {g8 : xG} (h : gb D N g8) (p : Nat → Int32) : gb D N (va_up g8 26 p) := ⟨fun k k1 k2 k3 k4 k5 => (va_up_ne _ _ k1).trans (h.1 k k1 k2 k3 k4 k5), fun i hi => by rw [va_up_ne _ _ (show 28 ≠ 26 by decide)]; exact h.2 i hi⟩
theorem gb_good {D : xD} {N : Nat} {g8 : xG} (Gd : Good D) (I : gb D N g8) : Good (D.1, g8) ∧ off [] [26, 28, 29, 30, 31] D (D.1, g8) := by
  refine ⟨⟨Gd.1, fun k i => ?_, ?_⟩, ⟨fun _ _ => rfl, fun k hk => ?_⟩⟩
  · by_cases k26 : k = 26
    · subst k26; exact ⟨i32_min _, i32_max _⟩
    by_cases k28 : k = 28
    · subst k28; exact ⟨i32_min _, i32_max _⟩
    by_cases k29 : k = 29
    · subst k29; exact ⟨i32_min _, i32_max _⟩
    by_cases k30 : k = 30
    · subst k30; exact ⟨i32_min _, i32_max _⟩
    by_cases k31 : k = 31
    · subst k31; exact ⟨i32_min _, i32_max _⟩
    rw [show (D.1, g8).2 k = D.2 k from I.1 k k26 k28 k29 k30 k31]; exact Gd.2.1 k i
  · have hx := Gd.2.2
    unfold gX at *
    rw [show (D.1, g8).2 33 = D.2 33 from I.1 33 (by decide) (by decide) (by decide) (by decide) (by decide)]
    exact hx
  · simp only [List.mem_cons, List.not_mem_nil, or_false, not_or] at hk
    exact I.1 k hk.1 hk.2.1 hk.2.2.1 hk.2.2.2.1 hk.2.2.2.2
theorem pushG {D : xD} {η : cx_H} {θ : cx_T} {N : Nat} {g8 : xG} {h s n : Int32} (Gd : Good D) (H : HR D η) (T : TR D θ) (I : gb D N g8) (h0 : 0 ≤ h.toInt) (h1 : h.toInt < (D.1 2).toInt) (hs : gin s 10 = true) (hn : gin n 60 = true) : ∃ p2, pX8_pushes D.1 g8 h s n = some (pv_w D h.toNatClampNeg s.toNatClampNeg n (D.2 7 n.toNatClampNeg), D.1, va_up g8 26 p2) := by
  obtain ⟨hD2, hO⟩ := gb_good Gd I
  have I1 := I.1
  obtain ⟨p2, hp⟩ := pushes8 (D := (D.1, g8)) (f8 := D.1) (g8 := g8) (h := h) (s := s) (wd := D.2 7 n.toNatClampNeg) hD2 (H.off hO (by decide) (by decide) (by decide)) (T.off hO (by decide) (by decide) (by decide) (by decide)) rfl (fun _ _ => rfl) h0 h1 hs hn (fun p => by
      rw [wind8 (nt27 Gd) hn, va_up_ne _ _ (show 7 ≠ 26 by decide), I1 7 (by decide) (by decide) (by decide) (by decide) (by decide)]) (Gd.2.1 7 _).1 (Gd.2.1 7 _).2
  refine ⟨p2, ?_⟩
  rw [hp]
  unfold pv_w pv_r pv_ru rl_at
  simp only [I1 9 (by decide) (by decide) (by decide) (by decide) (by decide), I1 10 (by decide) (by decide) (by decide) (by decide) (by decide), I1 3 (by decide) (by decide) (by decide) (by decide) (by decide), I1 5 (by decide) (by decide) (by decide) (by decide) (by decide), I1 6 (by decide) (by decide) (by decide) (by decide) (by decide), I1 22 (by decide) (by decide) (by decide) (by decide) (by decide), I1 23 (by decide) (by decide) (by decide) (by decide) (by decide), I1 24 (by decide) (by decide) (by decide) (by decide) (by decide)]
theorem will_eq {D : xD} {η : cx_H} {θ : cx_T} {N : Nat} {f0 f : xF} {g g8 : xG} {h s n : Int32} (R : cR D f0 g) (Gd : Good D) (H : HR D η) (T : TR D θ) (hN : D.1 0 = i32 N) (hN10 : N ≤ 10) (I : gb D N g8) (h0 : 0 ≤ h.toInt) (h1 : h.toInt < (D.1 2).toInt) (hs : gin s 10 = true) (hn : gin n 60 = true) (hf : ∀ k, k ≠ 11 → k ≠ 12 → k ≠ 13 → f k = f0 k) :
    ∃ (b : Bool) (f1 : xF) (p2 : Nat → Int32), (∀ k, k ≠ 11 → k ≠ 12 → k ≠ 13 → f1 k = f0 k) ∧ pX0_willGo η θ f g h s n = some (bz b, f1, g) ∧ pX8_canGo D.1 g8 h s n = some (bz b, D.1, va_up g8 26 p2) := by
  have A : aR D f g := (R.f3 hf).aR
  obtain ⟨e1, e2, e3, e4, e5, e6⟩ := hw_of H h0 h1
  obtain ⟨f1, hf1, E1⟩ := goesBy0 (s := s) Gd H T A h0 h1 hs hn
  rw [R.aWind] at E1
  obtain ⟨p2, E2⟩ := pushG (s := s) Gd H T I h0 h1 hs hn
  obtain ⟨j, hj, hway⟩ := wyN_ex Gd η h n
  have hf2 : ∀ k, k ≠ 11 → k ≠ 12 → k ≠ 13 → f1 k = f0 k := fun k k1 k2 k3 => (hf1 k k1 k2 k3).trans (hf k k1 k2 k3)
  have hf12 : f1 2 = i32 N := by rw [hf2 2 (by decide) (by decide) (by decide), R.stones, hN]
  have hw0 : pV_way η f1 g h n = some (i32 j) := by rw [way0 h0 e1 e2 hn, R.aWay]; exact congrArg some hway
  have hw8 : pX8_wayOf D.1 g8 h n = some (i32 j) := by rw [wayOf8 H (I.1 9 (by decide) (by decide) (by decide) (by decide) (by decide)) (I.1 8 (by decide) (by decide) (by decide) (by decide) (by decide)) h0 h1 hn]; exact congrArg some hway
  have hlies : liesB N (va_up g8 26 p2 28) (av (D.2 4 s.toNatClampNeg) j) = liesB N (D.2 4) (av (D.2 4 s.toNatClampNeg) j) := liesB_c (fun i hi => by rw [va_up_ne _ _ (show 28 ≠ 26 by decide)]; exact I.2 i hi)
  unfold pX0_willGo pX0_willGo_0 pX0_willGo_37 pX0_willGo_38 pX8_canGo pX8_canGo_0 pX8_canGo_46 pX8_canGo_47
  rw [if_pos hs, A.2.1, E1, if_pos hs, hw8]
  simp only [Option.bind_some]
  rw [I.1 4 (by decide) (by decide) (by decide) (by decide) (by decide), ahead8 hj]
  simp only [Option.bind_some]
  rw [E2]
  simp only [Option.bind_some, hs, if_true, hw0, gbz0, gbz1, R.aP]
  by_cases c : pv_w D h.toNatClampNeg s.toNatClampNeg n (D.2 7 n.toNatClampNeg) ≤ 0
  · rw [if_pos c, if_pos c]
    exact ⟨false, f1, p2, hf2, rfl, rfl⟩
  rw [if_neg c, if_neg c, nextAt0 hf12 hN10 hj, R.aP]
  simp only [Option.bind_some]
  unfold nxt ah
  by_cases c1 : onb (D.2 4 s.toNatClampNeg) j = true
  case neg =>
    rw [if_neg c1, if_neg c1, if_pos rfl, if_pos (by decide)]
    exact ⟨false, f1, p2, hf2, rfl, rfl⟩
  rw [if_pos c1, if_pos c1, if_neg (av_nn c1), isFree8 hN hN10, hlies]
  simp only [Option.bind_some]
  by_cases c2 : liesB N (D.2 4) (av (D.2 4 s.toNatClampNeg) j) = true
  · rw [if_pos c2, if_pos c2, if_pos rfl, if_pos rfl]
    exact ⟨false, f1, p2, hf2, rfl, rfl⟩
  · rw [if_neg c2, if_neg c2, if_neg (av_ne c1), if_neg (by decide)]
    exact ⟨true, f1, p2, hf2, rfl, rfl⟩
theorem when_loop {D : xD} {η : cx_H} {θ : cx_T} {N M : Nat} {f0 : xF} {g : xG} {h s : Int32} (R : cR D f0 g) (Gd : Good D) (H : HR D η) (T : TR D θ) (hN : D.1 0 = i32 N) (hN10 : N ≤ 10) (hM : D.1 1 = i32 M) (hM60 : M ≤ 60) (h0 : 0 ≤ h.toInt) (h1 : h.toInt < (D.1 2).toInt) (hs : gin s 10 = true) (hg : gk η h [0, 1, 2, 3, 4, 5] = true) (hg8 : gin h 8 = true) :
    ∀ (d j K K8 : Nat) (f : xF) (g8 : xG) (acc : Int64), j + d = M → d < K → d < K8 → (∀ k, k ≠ 11 → k ≠ 12 → k ≠ 13 → f k = f0 k) → gb D N g8 →
      ∃ (z : Int64) (f1 : xF) (g81 : xG), (∀ k, k ≠ 11 → k ≠ 12 → k ≠ 13 → f1 k = f0 k) ∧ gb D N g81 ∧ pX0_when_25 η θ K f g h s acc (i32 j) = some (z, f1, g) ∧ pX8_when_29 K8 D.1 g8 h s acc (i32 j) = some (z, D.1, g81) := by
  intro d
  induction d with
  | zero =>
    intro j K K8 f g8 acc hj hK hK8 hf I
    obtain ⟨k, rfl⟩ : ∃ k, K = k + 1 := ⟨K - 1, by omega⟩
    obtain ⟨k8, rfl⟩ : ∃ k, K8 = k + 1 := ⟨K8 - 1, by omega⟩
    refine ⟨acc, f, g8, hf, I, ?_, ?_⟩
    · rw [pX0_when_25, if_pos (by rw [hf 7 (by decide) (by decide) (by decide), R.nights, hM, i32_le (by omega) (by omega)]; omega)]
    · rw [pX8_when_29, if_pos (by rw [hM, i32_le (by omega) (by omega)]; omega)]
  | succ d ih =>
    intro j K K8 f g8 acc hj hK hK8 hf I
    obtain ⟨k, rfl⟩ : ∃ k, K = k + 1 := ⟨K - 1, by omega⟩
    obtain ⟨k8, rfl⟩ : ∃ k, K8 = k + 1 := ⟨K8 - 1, by omega⟩
    obtain ⟨b, f1, p2, q1, q2, q3⟩ := will_eq (s := s) (n := i32 j) R Gd H T hN hN10 I h0 h1 hs (gin_i (by omega) (by omega)) hf
    rw [pX0_when_25, if_neg (by rw [hf 7 (by decide) (by decide) (by decide), R.nights, hM, i32_le (by omega) (by omega)]; omega), if_pos hg8, if_pos hg, q2]
    rw [pX8_when_29, if_neg (by rw [hM, i32_le (by omega) (by omega)]; omega), q3]
    simp only [Option.bind_some, bz_0]
    unfold pX0_when_59 pX8_when_58
    rw [i32_succ]
    cases b
    · exact ih (j + 1) k k8 f1 _ _ (by omega) (by omega) (by omega) q1 (I.up p2)
    · exact ih (j + 1) k k8 f1 _ _ (by omega) (by omega) (by omega) q1 (I.up p2)
theorem gb0 {D : xD} {N : Nat} (hN : D.1 0 = i32 N) (hN10 : N ≤ 10) : ∃ g81, pX8_begin D.1 D.2 = some (D.1, g81) ∧ gb D N g81 := by
  obtain ⟨g81, b1, b2, b3⟩ := begin8 (g8 := D.2) hN hN10
  exact ⟨g81, b1, fun k _ k2 k3 k4 k5 => b2 k k2 k3 k4 k5, fun i hi => (b3 i hi).1⟩
theorem P_when {D : xD} {η : cx_H} {θ : cx_T} {f : xF} {g : xG} (R : cR D f g) (Gd : Good D) (H : HR D η) (T : TR D θ) (h s : Int32) : Sim D [] [26, 28, 29, 30, 31] (pX0_when η θ f g h s) (pX8_when D.1 D.2 h s) := by
  have hb0 : 0 ≤ (D.1 0).toInt := (Gd.1 0).1
  have hb1 : (D.1 0).toInt ≤ 10 := (Gd.1 0).2
  have hd0 : 0 ≤ (D.1 2).toInt := (Gd.1 2).1
  obtain ⟨N, hN10, hN⟩ := gs_n Gd
  obtain ⟨M, hM60, hM⟩ := i32_ex (x := D.1 1) (N := 60) (Gd.1 1).1 (Gd.1 1).2 (by omega)
  obtain ⟨gB, eB, IB⟩ := gb0 hN hN10
  simp only [pX0_when, pX8_when, pX0_when_0, pX8_when_0, pX0_when_16, pX8_when_16, isHo0, isHo8, isSt0, isSt8, R.hows, R.stones, Option.bind_some, zi_0, ite_not, eB]
  by_cases c1 : 0 ≤ h.toInt ∧ h.toInt ≤ (D.1 2 - 1).toInt
  case neg => simp only [c1, if_false]; exact Sim.same R Gd
  by_cases c2 : 0 ≤ s.toInt ∧ s.toInt ≤ (D.1 0 - 1).toInt
  case neg => simp only [c1, and_self, if_true, c2, if_false]; exact Sim.same R Gd
  have h1 := cnt_lt hd0 c1.2
  have h2 := cnt_lt hb0 c2.2
  have hs : gin s 10 = true := gin_t c2.1 (by omega)
  obtain ⟨e1, e2, e3, e4, e5, e6⟩ := hw_of H c1.1 h1
  have hg : gk η h [0, 1, 2, 3, 4, 5] = true := gk_t c1.1 e1 (ct6 _ (by omega))
  simp only [c1, c2, and_self, if_true]
  obtain ⟨z, f1, g81, r1, r2, r3, r4⟩ := when_loop R Gd H T hN hN10 hM hM60 c1.1 h1 hs hg e6 M 0 5000 5000 f gB 0 (by omega) (by omega) (by omega) (fun _ _ _ _ => rfl) IB
  have r3' : pX0_when_25 η θ 5000 f g h s 0 0 = some (z, f1, g) := r3
  have r4' : pX8_when_29 5000 D.1 gB h s 0 0 = some (z, D.1, g81) := r4
  rw [r3', r4']
  obtain ⟨hG, hO⟩ := gb_good Gd r2
  exact Sim.leaf (E := (D.1, g81)) ((R.f3 r1).off hO (by decide) (by decide) (by decide)) hG hO
theorem goers_loop {D : xD} {η : cx_H} {θ : cx_T} {N : Nat} {f0 : xF} {g : xG} {h n : Int32} (R : cR D f0 g) (Gd : Good D) (H : HR D η) (T : TR D θ) (hN : D.1 0 = i32 N) (hN10 : N ≤ 10) (h0 : 0 ≤ h.toInt) (h1 : h.toInt < (D.1 2).toInt) (hn : gin n 60 = true) (hg : gk η h [0, 1, 2, 3, 4, 5] = true) (hg8 : gin h 8 = true) :
    ∀ (d j K K8 : Nat) (f : xF) (g8 : xG) (acc : Int32), j + d = N → d < K → d < K8 → (∀ k, k ≠ 11 → k ≠ 12 → k ≠ 13 → f k = f0 k) → gb D N g8 →
      ∃ (z : Int32) (f1 : xF) (g81 : xG), (∀ k, k ≠ 11 → k ≠ 12 → k ≠ 13 → f1 k = f0 k) ∧ gb D N g81 ∧ pX0_goers_5 η θ K f g h n acc (i32 j) = some (z, f1, g) ∧ pX8_goers_9 K8 D.1 g8 h n acc (i32 j) = some (z, D.1, g81) := by
  intro d
  induction d with
  | zero =>
    intro j K K8 f g8 acc hj hK hK8 hf I
    obtain ⟨k, rfl⟩ : ∃ k, K = k + 1 := ⟨K - 1, by omega⟩
    obtain ⟨k8, rfl⟩ : ∃ k, K8 = k + 1 := ⟨K8 - 1, by omega⟩
    refine ⟨acc, f, g8, hf, I, ?_, ?_⟩
    · rw [pX0_goers_5, if_pos (by rw [hf 2 (by decide) (by decide) (by decide), R.stones, hN, i32_le (by omega) (by omega)]; omega)]
    · rw [pX8_goers_9, if_pos (by rw [hN, i32_le (by omega) (by omega)]; omega)]
  | succ d ih =>
    intro j K K8 f g8 acc hj hK hK8 hf I
    obtain ⟨k, rfl⟩ : ∃ k, K = k + 1 := ⟨K - 1, by omega⟩
    obtain ⟨k8, rfl⟩ : ∃ k, K8 = k + 1 := ⟨K8 - 1, by omega⟩
    obtain ⟨b, f1, p2, q1, q2, q3⟩ := will_eq (s := i32 j) (n := n) R Gd H T hN hN10 I h0 h1 (gin_i (by omega) (by omega)) hn hf
    rw [pX0_goers_5, if_neg (by rw [hf 2 (by decide) (by decide) (by decide), R.stones, hN, i32_le (by omega) (by omega)]; omega), if_pos hg8, if_pos hg, q2]
    rw [pX8_goers_9, if_neg (by rw [hN, i32_le (by omega) (by omega)]; omega), q3]
    simp only [Option.bind_some, bz_0]
    unfold pX0_goers_39 pX8_goers_38
    rw [i32_succ]
    cases b
    · exact ih (j + 1) k k8 f1 _ _ (by omega) (by omega) (by omega) q1 (I.up p2)
    · exact ih (j + 1) k k8 f1 _ _ (by omega) (by omega) (by omega) q1 (I.up p2)
theorem goers_eq {D : xD} {η : cx_H} {θ : cx_T} {f : xF} {g : xG} {h n : Int32} (R : cR D f g) (Gd : Good D) (H : HR D η) (T : TR D θ) (h0 : 0 ≤ h.toInt) (h1 : h.toInt < (D.1 2).toInt) (hn : gin n 60 = true) : Sim D [] [26, 28, 29, 30, 31] (pX0_goers η θ f g h n) (pX8_goers D.1 D.2 h n) := by
  obtain ⟨N, hN10, hN⟩ := gs_n Gd
  obtain ⟨gB, eB, IB⟩ := gb0 hN hN10
  obtain ⟨e1, e2, e3, e4, e5, e6⟩ := hw_of H h0 h1
  have hg : gk η h [0, 1, 2, 3, 4, 5] = true := gk_t h0 e1 (ct6 _ (by omega))
  obtain ⟨z, f1, g81, r1, r2, r3, r4⟩ := goers_loop R Gd H T hN hN10 h0 h1 hn hg e6 N 0 5000 5000 f gB 0 (by omega) (by omega) (by omega) (fun _ _ _ _ => rfl) IB
  have r3' : pX0_goers η θ f g h n = some (z, f1, g) := r3
  have r4' : pX8_goers D.1 D.2 h n = some (z, D.1, g81) := by
    show (pX8_begin D.1 D.2).bind _ = _
    rw [eB]; exact r4
  rw [r3', r4']
  obtain ⟨hG, hO⟩ := gb_good Gd r2
  exact Sim.leaf (E := (D.1, g81)) ((R.f3 r1).off hO (by decide) (by decide) (by decide)) hG hO
theorem P_foretold {D : xD} {η : cx_H} {θ : cx_T} {f : xF} {g : xG} (R : cR D f g) (Gd : Good D) (H : HR D η) (T : TR D θ) (h n : Int32) : Sim D [] [26, 28, 29, 30, 31] (pX0_foretold η θ f g h n) (pX8_foretold D.1 D.2 h n) := by
  have hc0 : 0 ≤ (D.1 1).toInt := (Gd.1 1).1
  have hc1 : (D.1 1).toInt ≤ 60 := (Gd.1 1).2
  have hd0 : 0 ≤ (D.1 2).toInt := (Gd.1 2).1
  simp only [pX0_foretold, pX8_foretold, pX0_foretold_0, pX8_foretold_0, pX0_foretold_25, pX8_foretold_25, pX0_foretold_27, pX8_foretold_27, isHo0, isHo8, isNi0, isNi8, R.hows, R.nights, Option.bind_some, zi_0, ite_not]
  by_cases c1 : 0 ≤ h.toInt ∧ h.toInt ≤ (D.1 2 - 1).toInt
  case neg => simp only [c1, if_false]; exact Sim.same R Gd
  by_cases c2 : 0 ≤ n.toInt ∧ n.toInt ≤ (D.1 1 - 1).toInt
  case neg => simp only [c1, and_self, if_true, c2, if_false]; exact Sim.same R Gd
  have h1 := cnt_lt hd0 c1.2
  have h2 := cnt_lt hc0 c2.2
  simp only [c1, c2, and_self, if_true]
  obtain ⟨v, f1, g1, E, k1, k2, k3, k4, k5⟩ := goers_eq (n := n) R Gd H T c1.1 h1 (gin_t c2.1 (by omega))
  rw [k1, k2]
  exact Sim.leaf k3 k4 k5
/-! order -/
def eb (ov un : Nat → Int32) (pl t : Int32) : Nat → Nat → Bool
  | 0, _ => true
  | d + 1, j => !(decide (ov j = t) && decide (((pl >>> (un j &&& 31)) &&& 1) = 0)) && eb ov un pl t d (j + 1)
theorem eb0 {f : xF} {g : xG} {C : Nat} {pl t : Int32} (hC : f 39 = i32 C) (hC20 : C ≤ 20) : ∀ (d j K : Nat), j + d = C → d < K → pX0_isEldest_2 f g K t pl (i32 j) = some (bz (eb (g 37) (g 38) pl t d j)) := by
  intro d
  induction d with
  | zero =>
    intro j K hj hK
    obtain ⟨k, rfl⟩ : ∃ k, K = k + 1 := ⟨K - 1, by omega⟩
    rw [pX0_isEldest_2, if_pos (by rw [hC, i32_le (by omega) (by omega)]; omega)]; rfl
  | succ d ih =>
    intro j K hj hK
    obtain ⟨k, rfl⟩ : ∃ k, K = k + 1 := ⟨K - 1, by omega⟩
    have hg : gin (i32 j) 20 = true := gin_i (by omega) (by omega)
    have hcl : (i32 j).toNatClampNeg = j := i32_cl (by omega)
    rw [pX0_isEldest_2, if_neg (by rw [hC, i32_le (by omega) (by omega)]; omega), if_pos hg, if_pos hg, hcl]
    unfold pX0_isEldest_35 eb
    rw [i32_succ, ih (j + 1) k (by omega) (by omega)]
    by_cases c1 : g 37 j = t
    · by_cases c2 : ((pl >>> (g 38 j &&& 31)) &&& 1) = 0
      · rw [if_pos c1, if_pos c2]; simp [c1, c2, bz]
      · rw [if_pos c1, if_neg c2]; simp [c1, c2]
    · rw [if_neg c1]; simp [c1]
theorem eb8 {f : xF} {g : xG} {C : Nat} {pl t : Int32} (k2 : Int32 → Int32 → Option Int32) (hC : f 39 = i32 C) (hC20 : C ≤ 20) : ∀ (d j K : Nat) (b : Bool), j + d = C → d < K → pX8_eldest_27 f g k2 K pl t (bz b) (i32 j) = pX8_eldest_77 f g k2 pl t (bz (b && eb (g 40) (g 41) pl t d j)) := by
  intro d
  induction d with
  | zero =>
    intro j K b hj hK
    obtain ⟨k, rfl⟩ : ∃ k, K = k + 1 := ⟨K - 1, by omega⟩
    rw [pX8_eldest_27, if_pos (by rw [hC, i32_le (by omega) (by omega)]; omega)]
    unfold eb
    rw [Bool.and_true]
  | succ d ih =>
    intro j K b hj hK
    obtain ⟨k, rfl⟩ : ∃ k, K = k + 1 := ⟨K - 1, by omega⟩
    have hg : gin (i32 j) 20 = true := gin_i (by omega) (by omega)
    have hcl : (i32 j).toNatClampNeg = j := i32_cl (by omega)
    have i1 := ih (j + 1) k true (by omega) (by omega)
    have i0 := ih (j + 1) k false (by omega) (by omega)
    rw [pX8_eldest_27, if_neg (by rw [hC, i32_le (by omega) (by omega)]; omega), if_pos hg, if_pos hg, hcl]
    unfold pX8_eldest_69 pX8_eldest_65 pX8_eldest_70 eb
    rw [i32_succ, show (0 : Int32) = bz false from rfl, show (1 : Int32) = bz true from rfl, i0, i1]
    cases b
    · rw [if_pos rfl]; simp
    · rw [if_neg (by decide)]
      by_cases c1 : g 40 j = t
      · by_cases c2 : ((pl >>> (g 41 j &&& 31)) &&& bz true) = bz false
        · have c2' : ((pl >>> (g 41 j &&& 31)) &&& 1) = 0 := c2
          rw [if_pos c1, if_pos c2]; simp [c1, c2]
        · have c2' : ¬ ((pl >>> (g 41 j &&& 31)) &&& 1) = 0 := c2
          rw [if_pos c1, if_neg c2]; simp [c1, c2]
      · rw [if_neg c1]; simp [c1]
theorem next_eq {D : xD} {f : xF} {g : xG} (R : cR D f g) (Gd : Good D) (pl : Int32) : ∃ v : Int32, pX0_nextTrack f g pl = some v ∧ pX8_eldest D.1 D.2 pl = some v ∧ ((v = -1) ∨ 0 ≤ v.toInt) := by
  obtain ⟨C, hC20, hC⟩ := i32_ex (x := D.1 39) (N := 20) (Gd.1 39).1 (Gd.1 39).2 (by omega)
  obtain ⟨M, hM24, hM⟩ := i32_ex (x := D.1 32) (N := 24) (Gd.1 32).1 (Gd.1 32).2 (by omega)
  have key : ∀ d j K K8 : Nat, j + d = M → d < K → d < K8 → ∃ v : Int32, pX0_nextTrack_2 f g K pl (i32 j) = some v ∧ pX8_eldest_2 D.1 D.2 K8 pl (i32 j) = some v ∧ ((v = -1) ∨ 0 ≤ v.toInt) := by
    intro d
    induction d with
    | zero =>
      intro j K K8 hj hK hK8
      obtain ⟨k, rfl⟩ : ∃ k, K = k + 1 := ⟨K - 1, by omega⟩
      obtain ⟨k8, rfl⟩ : ∃ k, K8 = k + 1 := ⟨K8 - 1, by omega⟩
      refine ⟨-1, ?_, ?_, Or.inl rfl⟩
      · rw [pX0_nextTrack_2, if_pos (by rw [R.tracks, hM, i32_le (by omega) (by omega)]; omega)]
      · rw [pX8_eldest_2, if_pos (by rw [hM, i32_le (by omega) (by omega)]; omega)]
    | succ d ih =>
      intro j K K8 hj hK hK8
      obtain ⟨k, rfl⟩ : ∃ k, K = k + 1 := ⟨K - 1, by omega⟩
      obtain ⟨k8, rfl⟩ : ∃ k, K8 = k + 1 := ⟨K8 - 1, by omega⟩
      obtain ⟨v, v1, v2, v3⟩ := ih (j + 1) k k8 (by omega) (by omega) (by omega)
      rw [pX0_nextTrack_2, if_neg (by rw [R.tracks, hM, i32_le (by omega) (by omega)]; omega), show pX0_isEldest f g (i32 j) pl = _ from eb0 (f := f) (g := g) (pl := pl) (t := i32 j) (R.crosses.trans hC) hC20 C 0 5000 (by omega) (by omega)]
      rw [pX8_eldest_2, if_neg (show ¬ D.1 32 ≤ i32 j by rw [hM, i32_le (by omega) (by omega)]; omega)]
      unfold pX8_eldest_23 pX0_nextTrack_29
      have z1 : ∀ b : Bool, pX8_eldest_27 D.1 D.2 (pX8_eldest_2 D.1 D.2 k8) 5000 pl (i32 j) (bz b) 0 = _ := fun b => eb8 (f := D.1) (g := D.2) (pl := pl) (t := i32 j) (pX8_eldest_2 D.1 D.2 k8) hC hC20 C 0 5000 b (by omega) (by omega)
      have e1 := z1 true
      have e0 := z1 false
      rw [show bz true = (1 : Int32) from rfl] at e1
      rw [show bz false = (0 : Int32) from rfl] at e0
      rw [e1, e0, Bool.true_and, Bool.false_and, R.aOv, R.aUn, i32_succ]
      unfold pX8_eldest_77
      simp only [Option.bind_some, bz_0]
      rw [i32_succ]
      have hit : (i32 j).toInt = j := i32_toInt (by omega)
      by_cases c : ((pl >>> (i32 j &&& 31)) &&& 1) = 0
      · rw [if_pos c, if_pos c]
        cases hb : eb (D.2 40) (D.2 41) pl (i32 j) C 0
        · exact ⟨v, v1, v2, v3⟩
        · exact ⟨i32 j, rfl, rfl, Or.inr (by omega)⟩
      · rw [if_neg c, if_neg c]
        exact ⟨v, v1, v2, v3⟩
  exact key M 0 5000 5000 (by omega) (by omega) (by omega)
theorem P_order {D : xD} {f : xF} {g : xG} (R : cR D f g) (Gd : Good D) (i : Int32) : Sim D [] [] (rd f g (pX0_order f g i)) (rd D.1 D.2 (pX8_order D.1 D.2 i)) := by
  have ht0 : 0 ≤ (D.1 32).toInt := (Gd.1 32).1
  have ht1 : (D.1 32).toInt ≤ 24 := (Gd.1 32).2
  have key : ∀ (m : Nat), m ≤ 24 → ∀ d k K K8 : Nat, k + d = m → d < K → d + 1 < K8 → ∀ (pl tr t : Int32), pX0_nextTrack f g pl = some tr → ∃ v, pX0_order_30 f g K (i32 m) pl tr (i32 k) = some v ∧ pX8_order_18 D.1 D.2 K8 (i32 m) pl t (i32 k) = some v := by
    intro m hm d
    induction d with
    | zero =>
      intro k K K8 hk hK hK8 pl tr t hn
      obtain ⟨q, rfl⟩ : ∃ q, K = q + 1 := ⟨K - 1, by omega⟩
      obtain ⟨q8, rfl⟩ : ∃ q, K8 = q + 1 + 1 := ⟨K8 - 2, by omega⟩
      obtain ⟨v, v1, v2, v3⟩ := next_eq R Gd pl
      have : v = tr := by rw [v1] at hn; exact Option.some.inj hn
      subst this
      refine ⟨v, ?_, ?_⟩
      · rw [pX0_order_30, if_pos (by rw [i32_le (by omega) (by omega)]; omega)]; rfl
      · rw [pX8_order_18, if_neg (by rw [i32_lt (by omega) (by omega)]; omega), v2]
        simp only [Option.bind_some]
        rcases v3 with q1 | q1
        · subst q1; rw [if_neg (by decide)]
        · rw [if_pos (by rw [Int32.le_iff_toInt_le, Int32.toInt_zero]; exact q1), i32_succ, pX8_order_18, if_pos (by rw [i32_lt (by omega) (by omega)]; omega)]
    | succ d ih =>
      intro k K K8 hk hK hK8 pl tr t hn
      obtain ⟨q, rfl⟩ : ∃ q, K = q + 1 := ⟨K - 1, by omega⟩
      obtain ⟨q8, rfl⟩ : ∃ q, K8 = q + 1 := ⟨K8 - 1, by omega⟩
      obtain ⟨v, v1, v2, v3⟩ := next_eq R Gd pl
      have : v = tr := by rw [v1] at hn; exact Option.some.inj hn
      subst this
      rw [pX0_order_30, if_neg (show ¬ i32 m ≤ i32 k by rw [i32_le (by omega) (by omega)]; omega), pX8_order_18, if_neg (show ¬ i32 m < i32 k by rw [i32_lt (by omega) (by omega)]; omega), v2]
      simp only [Option.bind_some]
      by_cases c : v = -1
      · subst c
        rw [if_pos rfl, if_neg (by decide)]
        exact ⟨-1, rfl, rfl⟩
      · have h0 : 0 ≤ v.toInt := by
          rcases v3 with q1 | q1
          · exact absurd q1 c
          · exact q1
        rw [if_neg c, if_pos (by rw [Int32.le_iff_toInt_le, Int32.toInt_zero]; exact h0)]
        obtain ⟨w, w1, w2, w3⟩ := next_eq R Gd (pl ||| ((1 : Int32) <<< (v &&& 31)))
        rw [w1]
        simp only [Option.bind_some]
        rw [i32_succ]
        exact ih (k + 1) q q8 (by omega) (by omega) (by omega) _ w v w1
  simp only [rd, pX0_order, pX8_order, pX0_order_0, pX8_order_0, in0, isTr8, R.tracks, Option.bind_some, zi_0, ite_not, Int32.toInt_toInt64, show (0 : Int64).toInt = 0 from rfl]
  by_cases c1 : 0 ≤ i.toInt ∧ i.toInt ≤ (D.1 32 - 1).toInt
  case neg => simp only [c1, if_false, Option.bind_some]; exact Sim.same R Gd
  have h1 := cnt_lt ht0 c1.2
  simp only [c1, and_self, if_true]
  obtain ⟨m, hm, em⟩ := i32_ex (x := i) (N := 24) c1.1 (by omega) (by omega)
  obtain ⟨w, w1, w2, w3⟩ := next_eq R Gd 0
  obtain ⟨v, v1, v2⟩ := key m hm m 0 5000 5000 (by omega) (by omega) (by omega) 0 w (-1) w1
  rw [← em] at v1 v2
  have v1' : pX0_order_30 f g 5000 i 0 w 0 = some v := v1
  have v2' : pX8_order_18 D.1 D.2 5000 i 0 (-1) 0 = some v := v2
  rw [w1]
  simp only [Option.bind_some]
  rw [v1', v2']
  exact Sim.same R Gd

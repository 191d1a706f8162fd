/-! NIGHT BY NIGHT (mine) -/
def bs (c s : Nat) : Nat → Nat := fun i => if i < s then c + 1 else c
theorem night_loop {D : xD} {η : cx_H} {θ : cx_T} {n c : Nat} {f0 : xF} {g0 : xG} {h nt : Int32} (Gd : Good D) (H : HR D η) (T : TR D θ) (R : cR D f0 g0) (hn : D.1 0 = i32 n) (hn10 : n ≤ 10) (hc : c < 100) (h0 : 0 ≤ h.toInt) (h1 : h.toInt < (D.1 2).toInt) (hnt : gin nt 60 = true) :
    ∀ (d s K K8 : Nat) (f : xF) (g g8 : xG), s + d = n → d < K → d < K8 → rs D n f0 g0 (bs c s) f g g8 →
      ∃ (f1 : xF) (g1 g81 : xG), (∀ (k45 : xF → xG → Int32 → Int32 → Int32 → Option (xF × xG)) (to : Int32), pX0_runs_54 η θ k45 K f g h to nt (i32 s) = k45 f1 g1 h to (nt + 1)) ∧ pX8_goNight_10 K8 D.1 g8 h nt (wyN D η h nt) (i32 s) = some (D.1, g81) ∧ rs D n f0 g0 (fun _ => c + 1) f1 g1 g81 := by
  intro d
  induction d with
  | zero =>
    intro s K K8 f g g8 hs hK hK8 I
    obtain ⟨k, rfl⟩ : ∃ k, K = k + 1 := ⟨K - 1, by omega⟩
    obtain ⟨k8, rfl⟩ : ∃ k, K8 = k + 1 := ⟨K8 - 1, by omega⟩
    have hf2 : f 2 = i32 n := by rw [I.2.1 2 (by decide) (by decide) (by decide), R.stones, hn]
    refine ⟨f, g, g8, fun k45 to => ?_, ?_, I.mono (fun i hi => by unfold bs; split <;> omega)⟩
    · rw [pX0_runs_54, if_pos (by rw [hf2, i32_le (by omega) (by omega)]; omega)]; rfl
    · rw [pX8_goNight_10, if_pos (by rw [hn, i32_le (by omega) (by omega)]; omega)]
  | succ d ih =>
    intro s K K8 f g g8 hs hK hK8 I
    obtain ⟨k, rfl⟩ : ∃ k, K = k + 1 := ⟨K - 1, by omega⟩
    obtain ⟨k8, rfl⟩ : ∃ k, K8 = k + 1 := ⟨K8 - 1, by omega⟩
    have hf2 : f 2 = i32 n := by rw [I.2.1 2 (by decide) (by decide) (by decide), R.stones, hn]
    obtain ⟨f1, g1, g81, e0, I1, e8⟩ := go_one Gd H T R hn hn10 (show s < n by omega) (show bs c s s ≤ 100 by unfold bs; split <;> omega) h0 h1 hnt I (pX8_goNight_10 k8)
    have I2 : rs D n f0 g0 (bs c (s + 1)) f1 g1 g81 := I1.mono (fun i hi => by
      unfold bs
      by_cases c1 : i = s
      · rw [if_pos c1, if_neg (by omega), if_pos (by omega)]; omega
      · rw [if_neg c1]
        by_cases c2 : i < s
        · rw [if_pos c2, if_pos (by omega)]; omega
        · rw [if_neg c2, if_neg (by omega)]; omega)
    obtain ⟨f2, g2, g82, q1, q2, q3⟩ := ih (s + 1) k k8 f1 g1 g81 (by omega) (by omega) (by omega) I2
    refine ⟨f2, g2, g82, fun k45 to => ?_, ?_, q3⟩
    · rw [pX0_runs_54, if_neg (by rw [hf2, i32_le (by omega) (by omega)]; omega), e0]
      show pX0_runs_54 η θ k45 k f1 g1 h to nt (i32 s + 1) = _
      rw [i32_succ]; exact q1 k45 to
    · rw [pX8_goNight_10, if_neg (by rw [hn, i32_le (by omega) (by omega)]; omega), e8]
      exact q2
theorem night_eq {D : xD} {η : cx_H} {θ : cx_T} {n c : Nat} {f0 f : xF} {g0 g g8 : xG} {h nt : Int32} (Gd : Good D) (H : HR D η) (T : TR D θ) (R : cR D f0 g0) (hn : D.1 0 = i32 n) (hn10 : n ≤ 10) (hc : c < 100) (h0 : 0 ≤ h.toInt) (h1 : h.toInt < (D.1 2).toInt) (hnt : gin nt 60 = true) (I : rs D n f0 g0 (fun _ => c) f g g8) :
    ∃ (f1 : xF) (g1 g81 : xG), (∀ (k45 : xF → xG → Int32 → Int32 → Int32 → Option (xF × xG)) (to : Int32), pX0_runs_54 η θ k45 5000 f g h to nt 0 = k45 f1 g1 h to (nt + 1)) ∧ pX8_goNight D.1 g8 h nt = some (D.1, g81) ∧ rs D n f0 g0 (fun _ => c + 1) f1 g1 g81 := by
  obtain ⟨f1, g1, g81, q1, q2, q3⟩ := night_loop Gd H T R hn hn10 hc h0 h1 hnt n 0 5000 5000 f g g8 (by omega) (by omega) (by omega) (I.mono (fun i hi => by unfold bs; split <;> omega))
  refine ⟨f1, g1, g81, q1, ?_, q3⟩
  show (pX8_wayOf D.1 g8 h nt).bind _ = _
  rw [wayOf8 H (I.1 9 (by decide) (by decide) (by decide) (by decide) (by decide)) (I.1 8 (by decide) (by decide) (by decide) (by decide) (by decide)) h0 h1 hnt]
  exact q2
theorem nights_loop {D : xD} {η : cx_H} {θ : cx_T} {n e : Nat} {f0 : xF} {g0 : xG} {h to : Int32} (Gd : Good D) (H : HR D η) (T : TR D θ) (R : cR D f0 g0) (hn : D.1 0 = i32 n) (hn10 : n ≤ 10) (h0 : 0 ≤ h.toInt) (h1 : h.toInt < (D.1 2).toInt) (he : e ≤ 60) (hto : ∀ a, a ≤ e → (to < i32 a ↔ e ≤ a)) (F : Nat → xF → xG → Int32 → Option (xF × xG)) (hF : ∀ k g a, a ≤ e → F (k + 1) D.1 g (i32 a) = if e ≤ a then some (D.1, g) else (pX8_goNight D.1 g h (i32 a)).bind (fun r => F k r.1 r.2 (i32 (a + 1)))) :
    ∀ (d a c K K8 : Nat) (f : xF) (g g8 : xG), a + d = e → d < K → d < K8 → c + d ≤ 60 → rs D n f0 g0 (fun _ => c) f g g8 →
      ∃ (f1 : xF) (g1 g81 : xG), pX0_runs_45 η θ K f g h to (i32 a) = some (f1, g1) ∧ F K8 D.1 g8 (i32 a) = some (D.1, g81) ∧ rs D n f0 g0 (fun _ => 60) f1 g1 g81 := by
  intro d
  induction d with
  | zero =>
    intro a c K K8 f g g8 ha hK hK8 hc I
    obtain ⟨k, rfl⟩ : ∃ k, K = k + 1 := ⟨K - 1, by omega⟩
    obtain ⟨k8, rfl⟩ : ∃ k, K8 = k + 1 := ⟨K8 - 1, by omega⟩
    refine ⟨f, g, g8, ?_, ?_, I.mono (fun i hi => by omega)⟩
    · rw [pX0_runs_45, if_pos ((hto a (by omega)).mpr (by omega))]
    · rw [hF k8 g8 a (by omega), if_pos (by omega)]
  | succ d ih =>
    intro a c K K8 f g g8 ha hK hK8 hc I
    obtain ⟨k, rfl⟩ : ∃ k, K = k + 1 := ⟨K - 1, by omega⟩
    obtain ⟨k8, rfl⟩ : ∃ k, K8 = k + 1 := ⟨K8 - 1, by omega⟩
    obtain ⟨f1, g1, g81, q1, q2, q3⟩ := night_eq (nt := i32 a) Gd H T R hn hn10 (show c < 100 by omega) h0 h1 (gin_i (by omega) (by omega)) I
    obtain ⟨f2, g2, g82, r1, r2, r3⟩ := ih (a + 1) (c + 1) k k8 f1 g1 g81 (by omega) (by omega) (by omega) (by omega) q3
    refine ⟨f2, g2, g82, ?_, ?_, r3⟩
    · rw [pX0_runs_45, if_neg (fun q => by have := (hto a (by omega)).mp q; omega), q1, i32_succ]
      exact r1
    · rw [hF k8 g8 a (by omega), if_neg (by omega), q2]
      exact r2
/-- the twin's beginning -/
theorem begin_loop {f8 : xF} {n : Nat} (hf : f8 0 = i32 n) (hn : n ≤ 10) (G0 : xG) : ∀ (d j K : Nat) (g8 : xG), j + d = n → d < K → (∀ k, k ≠ 28 → k ≠ 29 → k ≠ 30 → k ≠ 31 → g8 k = G0 k) → (∀ i, i < j → g8 28 i = G0 4 i ∧ g8 29 i = 0 ∧ g8 30 i = 0 ∧ g8 31 i = -1) →
    ∃ g81, pX8_begin_2 K f8 g8 (i32 j) = some (f8, g81) ∧ (∀ k, k ≠ 28 → k ≠ 29 → k ≠ 30 → k ≠ 31 → g81 k = G0 k) ∧ ∀ i, i < n → g81 28 i = G0 4 i ∧ g81 29 i = 0 ∧ g81 30 i = 0 ∧ g81 31 i = -1 := by
  intro d
  induction d with
  | zero =>
    intro j K g8 hj hK h1 h2
    obtain ⟨k, rfl⟩ : ∃ k, K = k + 1 := ⟨K - 1, by omega⟩
    refine ⟨g8, ?_, h1, fun i hi => h2 i (by omega)⟩
    rw [pX8_begin_2, if_pos (by rw [hf, i32_le (by omega) (by omega)]; omega)]
  | succ d ih =>
    intro j K g8 hj hK h1 h2
    obtain ⟨k, rfl⟩ : ∃ k, K = k + 1 := ⟨K - 1, by omega⟩
    have hg : gin (i32 j) 10 = true := gin_i (by omega) (by omega)
    have hcl : (i32 j).toNatClampNeg = j := i32_cl (by omega)
    rw [pX8_begin_2, if_neg (by rw [hf, i32_le (by omega) (by omega)]; omega)]
    simp only [hg, if_true, hcl, i32_succ]
    have e1 : ∀ x : Nat → Int32, va_up g8 28 x 29 = g8 29 := fun x => va_up_ne _ _ (by decide)
    have e2 : ∀ x y : Nat → Int32, va_up (va_up g8 28 x) 29 y 30 = g8 30 := fun x y => by rw [va_up_ne _ _ (by decide), va_up_ne _ _ (by decide)]
    have e3 : ∀ x y z : Nat → Int32, va_up (va_up (va_up g8 28 x) 29 y) 30 z 31 = g8 31 := fun x y z => by rw [va_up_ne _ _ (by decide), va_up_ne _ _ (by decide), va_up_ne _ _ (by decide)]
    simp only [e1, e2, e3]
    refine ih (j + 1) k _ (by omega) (by omega) (fun q q1 q2 q3 q4 => ?_) (fun i hi => ?_)
    · rw [va_up_ne _ _ q4, va_up_ne _ _ q3, va_up_ne _ _ q2, va_up_ne _ _ q1]; exact h1 q q1 q2 q3 q4
    · have a1 : ∀ x y z w : Nat → Int32, va_up (va_up (va_up (va_up g8 28 x) 29 y) 30 z) 31 w 28 = x := fun x y z w => by rw [va_up_ne _ _ (by decide), va_up_ne _ _ (by decide), va_up_ne _ _ (by decide), va_up_self]
      have a2 : ∀ x y z w : Nat → Int32, va_up (va_up (va_up (va_up g8 28 x) 29 y) 30 z) 31 w 29 = y := fun x y z w => by rw [va_up_ne _ _ (by decide), va_up_ne _ _ (by decide), va_up_self]
      have a3 : ∀ x y z w : Nat → Int32, va_up (va_up (va_up (va_up g8 28 x) 29 y) 30 z) 31 w 30 = z := fun x y z w => by rw [va_up_ne _ _ (by decide), va_up_self]
      have a4 : ∀ x y z w : Nat → Int32, va_up (va_up (va_up (va_up g8 28 x) 29 y) 30 z) 31 w 31 = w := fun x y z w => va_up_self _ _ _
      rw [a1, a2, a3, a4]
      by_cases c : i = j
      · subst c
        rw [upd_e, upd_e, upd_e, upd_e, h1 4 (by decide) (by decide) (by decide) (by decide)]
        exact ⟨rfl, rfl, rfl, rfl⟩
      · rw [upd_n c, upd_n c, upd_n c, upd_n c]
        exact h2 i (by omega)
theorem begin8 {f8 : xF} {g8 : xG} {n : Nat} (hf : f8 0 = i32 n) (hn : n ≤ 10) : ∃ g81, pX8_begin f8 g8 = some (f8, g81) ∧ (∀ k, k ≠ 28 → k ≠ 29 → k ≠ 30 → k ≠ 31 → g81 k = g8 k) ∧ ∀ i, i < n → g81 28 i = g8 4 i ∧ g81 29 i = 0 ∧ g81 30 i = 0 ∧ g81 31 i = -1 :=
  begin_loop hf hn g8 n 0 5000 g8 (by omega) (by omega) (fun _ _ _ _ _ => rfl) (fun i hi => by omega)
theorem init_loop {η : cx_H} {θ : cx_T} {f : xF} {n : Nat} {h fr to : Int32} (hf : f 2 = i32 n) (hn : n ≤ 10) (G0 : xG) : ∀ (d j K : Nat) (g : xG), j + d = n → d < K → (∀ k, k ≠ 28 → k ≠ 29 → k ≠ 30 → g k = G0 k) → (∀ i, i < j → g 28 i = 0 ∧ g 29 i = 0 ∧ g 30 i = -1) →
    ∃ g1, pX0_runs_3 η θ K f g h fr to (i32 j) = pX0_runs_45 η θ 5000 f g1 h to fr ∧ (∀ k, k ≠ 28 → k ≠ 29 → k ≠ 30 → g1 k = G0 k) ∧ ∀ i, i < n → g1 28 i = 0 ∧ g1 29 i = 0 ∧ g1 30 i = -1 := by
  intro d
  induction d with
  | zero =>
    intro j K g hj hK h1 h2
    obtain ⟨k, rfl⟩ : ∃ k, K = k + 1 := ⟨K - 1, by omega⟩
    refine ⟨g, ?_, h1, fun i hi => h2 i (by omega)⟩
    rw [pX0_runs_3, if_pos (by rw [hf, i32_le (by omega) (by omega)]; omega)]; rfl
  | succ d ih =>
    intro j K g hj hK h1 h2
    obtain ⟨k, rfl⟩ : ∃ k, K = k + 1 := ⟨K - 1, by omega⟩
    have hg : gin (i32 j) 10 = true := gin_i (by omega) (by omega)
    have hcl : (i32 j).toNatClampNeg = j := i32_cl (by omega)
    rw [pX0_runs_3, if_neg (by rw [hf, i32_le (by omega) (by omega)]; omega)]
    simp only [hg, if_true, hcl, i32_succ]
    have e1 : ∀ x : Nat → Int32, va_up g 28 x 29 = g 29 := fun x => va_up_ne _ _ (by decide)
    have e2 : ∀ x y : Nat → Int32, va_up (va_up g 28 x) 29 y 30 = g 30 := fun x y => by rw [va_up_ne _ _ (by decide), va_up_ne _ _ (by decide)]
    simp only [e1, e2]
    refine ih (j + 1) k _ (by omega) (by omega) (fun q q1 q2 q3 => ?_) (fun i hi => ?_)
    · rw [va_up_ne _ _ q3, va_up_ne _ _ q2, va_up_ne _ _ q1]; exact h1 q q1 q2 q3
    · have a1 : ∀ x y z : Nat → Int32, va_up (va_up (va_up g 28 x) 29 y) 30 z 28 = x := fun x y z => by rw [va_up_ne _ _ (by decide), va_up_ne _ _ (by decide), va_up_self]
      have a2 : ∀ x y z : Nat → Int32, va_up (va_up (va_up g 28 x) 29 y) 30 z 29 = y := fun x y z => by rw [va_up_ne _ _ (by decide), va_up_self]
      have a3 : ∀ x y z : Nat → Int32, va_up (va_up (va_up g 28 x) 29 y) 30 z 30 = z := fun x y z => va_up_self _ _ _
      rw [a1, a2, a3]
      by_cases c : i = j
      · subst c
        rw [upd_e, upd_e, upd_e]
        exact ⟨rfl, rfl, rfl⟩
      · rw [upd_n c, upd_n c, upd_n c]
        exact h2 i (by omega)
/-- a whole run, on both sides -/
theorem run_eq {D : xD} {η : cx_H} {θ : cx_T} {n a e : Nat} {f0 : xF} {g0 : xG} {h to : Int32} (Gd : Good D) (H : HR D η) (T : TR D θ) (R : cR D f0 g0) (hn : D.1 0 = i32 n) (hn10 : n ≤ 10) (h0 : 0 ≤ h.toInt) (h1 : h.toInt < (D.1 2).toInt) (hae : a ≤ e) (he : e ≤ 60) (hto : ∀ b, b ≤ e → (to < i32 b ↔ e ≤ b)) (F : Nat → xF → xG → Int32 → Option (xF × xG)) (hF : ∀ k g b, b ≤ e → F (k + 1) D.1 g (i32 b) = if e ≤ b then some (D.1, g) else (pX8_goNight D.1 g h (i32 b)).bind (fun r => F k r.1 r.2 (i32 (b + 1)))) :
    ∃ (f1 : xF) (g1 g81 : xG), pX0_runs η θ f0 g0 h (i32 a) to = some (f1, g1) ∧ (pX8_begin D.1 D.2).bind (fun r => F 5000 r.1 r.2 (i32 a)) = some (D.1, g81) ∧ rs D n f0 g0 (fun _ => 60) f1 g1 g81 := by
  obtain ⟨gB, b1, b2, b3⟩ := begin8 (g8 := D.2) hn hn10
  obtain ⟨gI, i1, i2, i3⟩ := init_loop (η := η) (θ := θ) (h := h) (fr := i32 a) (to := to) (R.stones.trans hn) hn10 g0 n 0 5000 g0 (by omega) (by omega) (fun _ _ _ _ => rfl) (fun i hi => by omega)
  have I : rs D n f0 g0 (fun _ => 0) f0 gI gB := by
    refine ⟨fun k _ k2 k3 k4 k5 => b2 k k2 k3 k4 k5, fun _ _ _ _ => rfl, fun k _ k2 k3 k4 => i2 k k2 k3 k4, fun i _ => by rw [i2 1 (by decide) (by decide) (by decide)], fun i hi => ?_⟩
    obtain ⟨x1, x2, x3, x4⟩ := b3 i hi
    obtain ⟨y1, y2, y3⟩ := i3 i hi
    have hp : 0 ≤ (D.2 4 i).toInt ∧ (D.2 4 i).toInt ≤ 4095 := Gd.2.1 4 i
    rw [i2 1 (by decide) (by decide) (by decide), R.aP, x1, x2, x3, x4, y1, y2, y3]
    exact ⟨rfl, rfl, rfl, rfl, hp, ⟨by decide, Int.le_refl 0⟩, ⟨by decide, Int.le_refl 0⟩, ⟨by decide, by decide⟩⟩
  obtain ⟨f1, g1, g81, q1, q2, q3⟩ := nights_loop Gd H T R hn hn10 h0 h1 he hto F hF (e - a) a 0 5000 5000 f0 gI gB (by omega) (by omega) (by omega) (by omega) I
  refine ⟨f1, g1, g81, ?_, ?_, q3⟩
  · show pX0_runs_3 η θ 5000 f0 g0 h (i32 a) to 0 = _
    rw [show (0 : Int32) = i32 0 from rfl, i1, q1]
  · rw [b1]; exact q2
/-- keeping and laying back -/
def gk27 (g : xG) : xG := va_up g 27 (va_cpy (g 1) (g 27) 0 0 10)
theorem keeps0 {f : xF} {g : xG} : pX0_keeps f g = some (f, gk27 g) := rfl
theorem lays0 {f : xF} {g : xG} : pX0_laysBack f g = some (f, va_up g 1 (va_cpy (g 27) (g 1) 0 0 10)) := rfl
theorem cR.keep {D : xD} {f : xF} {g : xG} (R : cR D f g) : cR D f (gk27 g) := R.sg (by decide) (by decide)
theorem lays_eq {D : xD} {n : Nat} {f : xF} {g : xG} {b : Nat → Nat} {f1 : xF} {g1 g81 : xG} (R : cR D f g) (hn : n ≤ 10) (I : rs D n f (gk27 g) b f1 g1 g81) : cR D f1 (va_up g1 1 (va_cpy (g1 27) (g1 1) 0 0 10)) := by
  have h27 : g1 27 = va_cpy (g 1) (g 27) 0 0 10 := by
    rw [I.2.2.1 27 (by decide) (by decide) (by decide) (by decide)]; exact va_up_self _ _ _
  have h1 : va_cpy (g1 27) (g1 1) 0 0 10 = g 1 := by
    funext i
    unfold va_cpy
    split
    · next c =>
      rw [h27]
      unfold va_cpy
      rw [if_pos (by omega)]
      congr 1; omega
    · next c =>
      rw [I.2.2.2.1 i (by omega)]
      show gk27 g 1 i = _
      unfold gk27
      rw [va_up_ne _ _ (show 1 ≠ 27 by decide)]
  refine R.same (fun p hp => ?_) (fun p hp => ?_) ?_
  · have h : ∀ p ∈ cF, p.1 ≠ 11 ∧ p.1 ≠ 12 ∧ p.1 ≠ 13 := by decide
    exact I.2.1 p.1 (h p hp).1 (h p hp).2.1 (h p hp).2.2
  · have h : ∀ p ∈ cG, p.1 ≠ 28 ∧ p.1 ≠ 29 ∧ p.1 ≠ 30 ∧ p.1 ≠ 27 := by decide
    by_cases c : p.1 = 1
    · rw [c, va_up_self, h1]
    · rw [va_up_ne _ _ c, I.2.2.1 p.1 c (h p hp).1 (h p hp).2.1 (h p hp).2.2.1]
      exact va_up_ne _ _ (h p hp).2.2.2
  · rw [va_up_ne _ _ (by decide), I.2.2.1 18 (by decide) (by decide) (by decide) (by decide)]
    exact va_up_ne _ _ (by decide)
/-- the twin's state after a run -/
theorem rs_good {D : xD} {n : Nat} {f : xF} {g : xG} {b : Nat → Nat} {f1 : xF} {g1 g81 : xG} (Gd : Good D) (I : rs D n f g b f1 g1 g81) : Good (D.1, g81) ∧ off [] [26, 28, 29, 30, 31] D (D.1, g81) := by
  refine ⟨⟨Gd.1, fun k i => ?_, ?_⟩, ⟨fun _ _ => rfl, fun k hk => ?_⟩⟩
  · by_cases k26 : k = 26
    · subst k26; exact ⟨i32_min _, i32_max _⟩
    by_cases k28 : k = 28
    · subst k28; exact ⟨i32_min _, i32_max _⟩
    by_cases k29 : k = 29
    · subst k29; exact ⟨i32_min _, i32_max _⟩
    by_cases k30 : k = 30
    · subst k30; exact ⟨i32_min _, i32_max _⟩
    by_cases k31 : k = 31
    · subst k31; exact ⟨i32_min _, i32_max _⟩
    rw [show (D.1, g81).2 k = D.2 k from I.1 k k26 k28 k29 k30 k31]; exact Gd.2.1 k i
  · have hx := Gd.2.2
    unfold gX at *
    rw [show (D.1, g81).2 33 = D.2 33 from I.1 33 (by decide) (by decide) (by decide) (by decide) (by decide)]
    exact hx
  · simp only [List.mem_cons, List.not_mem_nil, or_false, not_or] at hk
    exact I.1 k hk.1 hk.2.1 hk.2.2.1 hk.2.2.2.1 hk.2.2.2.2
theorem isRow8 {f : xF} {g : xG} {v : Int32} (h0 : 0 ≤ (f 1).toInt) (h1 : (f 1).toInt ≤ 60) : pX8_isRow f g v = some (zi (0 ≤ v.toInt ∧ v.toInt / 100 ≤ v.toInt % 100 ∧ v.toInt % 100 < (f 1).toInt)) := by
  simp only [pX8_isRow, pX8_isRow_0, pX8_isRow_49, pX8_isRow_50, in8, isNi8, Option.bind_some, zi_0, ite_not, Int32.reduceToInt, gbz0, gbz1, if_true, Int32.lt_iff_toInt_lt, one_sub (x := f 1) (lo := 0) h0 (by omega)]
  by_cases c0 : 0 ≤ v.toInt
  case neg => rw [if_neg (by omega), zi_f (by omega)]
  have e1 : (v / 100).toInt = v.toInt / 100 := i32_div (d := 100) c0 (by decide)
  have e2 : (v - v / 100 * 100).toInt = v.toInt % 100 := i32_mod (d := 100) c0 (by decide)
  rw [e1, e2]
  by_cases c1 : (0 : Int) ≤ v.toInt ∧ v.toInt ≤ 5959
  · rw [if_pos c1]
    by_cases c2 : 0 ≤ v.toInt / 100 ∧ v.toInt / 100 ≤ (f 1).toInt - 1
    · rw [if_pos c2]
      by_cases c3 : 0 ≤ v.toInt % 100 ∧ v.toInt % 100 ≤ (f 1).toInt - 1
      · rw [if_pos c3]
        by_cases c4 : v.toInt % 100 < v.toInt / 100
        · rw [if_pos c4, zi_f (by omega)]
        · rw [if_neg c4, zi_t (by omega)]
      · rw [if_neg c3, zi_f (by omega)]
    · rw [if_neg c2, zi_f (by omega)]
  · rw [if_neg c1, zi_f (by omega)]
theorem areNi0 {f : xF} {g : xG} {v : Int32} (h0 : 0 ≤ (f 7).toInt) (h1 : (f 7).toInt ≤ 60) : pX0_areNights f g v = some (zi (0 ≤ v.toInt ∧ v.toInt / 100 ≤ v.toInt % 100 ∧ v.toInt % 100 < (f 7).toInt)) := by
  simp only [pX0_areNights, pX0_areNights_0, pX0_areNights_41, pX0_areNights_42, isNi0, Option.bind_some, zi_0, ite_not, gbz0, gbz1, if_true, Int32.lt_iff_toInt_lt, one_sub (x := f 7) (lo := 0) h0 (by omega), Int32.toInt_zero]
  by_cases c0 : v.toInt < 0
  case pos => rw [if_pos c0, zi_f (by omega)]
  have e1 : (v / 100).toInt = v.toInt / 100 := i32_div (d := 100) (by omega) (by decide)
  have e2 : (v - v / 100 * 100).toInt = v.toInt % 100 := i32_mod (d := 100) (by omega) (by decide)
  rw [if_neg c0, e1, e2]
  by_cases c2 : 0 ≤ v.toInt / 100 ∧ v.toInt / 100 ≤ (f 7).toInt - 1
  · rw [if_pos c2]
    by_cases c3 : 0 ≤ v.toInt % 100 ∧ v.toInt % 100 ≤ (f 7).toInt - 1
    · rw [if_pos c3]
      by_cases c4 : v.toInt % 100 < v.toInt / 100
      · rw [if_pos c4, zi_f (by omega)]
      · rw [if_neg c4, zi_t (by omega)]
    · rw [if_neg c3, zi_f (by omega)]
  · rw [if_neg c2, zi_f (by omega)]
/-- goRow and goAll -/
theorem row_eq {D : xD} {η : cx_H} {θ : cx_T} {n : Nat} {f0 : xF} {g0 : xG} {h v : Int32} (Gd : Good D) (H : HR D η) (T : TR D θ) (R : cR D f0 g0) (hn : D.1 0 = i32 n) (hn10 : n ≤ 10) (h0 : 0 ≤ h.toInt) (h1 : h.toInt < (D.1 2).toInt) (hv : 0 ≤ v.toInt ∧ v.toInt / 100 ≤ v.toInt % 100 ∧ v.toInt % 100 < (D.1 1).toInt) :
    ∃ (f1 : xF) (g1 g81 : xG), pX0_runs η θ f0 g0 h (v / 100) (v - v / 100 * 100) = some (f1, g1) ∧ pX8_goRow D.1 D.2 h v = some (D.1, g81) ∧ rs D n f0 g0 (fun _ => 60) f1 g1 g81 := by
  have hm : (D.1 1).toInt ≤ 60 := (Gd.1 1).2
  have e1 : (v / 100).toInt = v.toInt / 100 := i32_div (d := 100) hv.1 (by decide)
  have e2 : (v - v / 100 * 100).toInt = v.toInt % 100 := i32_mod (d := 100) hv.1 (by decide)
  obtain ⟨a, ha, ea⟩ := i32_ex (x := v / 100) (N := 60) (by omega) (by omega) (by omega)
  have hat : (i32 a).toInt = v.toInt / 100 := by rw [← ea]; exact e1
  rw [i32_toInt (by omega)] at hat
  obtain ⟨f1, g1, g81, q1, q2, q3⟩ := run_eq (a := a) (e := (v.toInt % 100).toNat + 1) (to := v - v / 100 * 100) Gd H T R hn hn10 h0 h1 (by omega) (by omega) (fun b hb => by
    rw [Int32.lt_iff_toInt_lt, e2, i32_toInt (by omega)]; omega) (fun k f g b => pX8_goRow_9 k f g h v b) (fun k g b hb => by
    show pX8_goRow_9 (k + 1) D.1 g h v (i32 b) = _
    rw [pX8_goRow_9, i32_succ]
    have hcmp : ((v - v / 100 * 100) < i32 b) ↔ (v.toInt % 100).toNat + 1 ≤ b := by
      rw [Int32.lt_iff_toInt_lt, e2, i32_toInt (by omega)]; omega
    by_cases c : (v.toInt % 100).toNat + 1 ≤ b
    · rw [if_pos (hcmp.mpr c), if_pos c]
    · rw [if_neg (fun q => c (hcmp.mp q)), if_neg c])
  rw [← ea] at q1 q2
  exact ⟨f1, g1, g81, q1, q2, q3⟩
theorem all_eq {D : xD} {η : cx_H} {θ : cx_T} {n : Nat} {f0 : xF} {g0 : xG} {h : Int32} (Gd : Good D) (H : HR D η) (T : TR D θ) (R : cR D f0 g0) (hn : D.1 0 = i32 n) (hn10 : n ≤ 10) (h0 : 0 ≤ h.toInt) (h1 : h.toInt < (D.1 2).toInt) :
    ∃ (f1 : xF) (g1 g81 : xG), pX0_runs η θ f0 g0 h 0 (f0 7 - 1) = some (f1, g1) ∧ pX8_goAll D.1 D.2 h = some (D.1, g81) ∧ rs D n f0 g0 (fun _ => 60) f1 g1 g81 := by
  obtain ⟨m, hm, em⟩ := i32_ex (x := D.1 1) (N := 60) (Gd.1 1).1 (Gd.1 1).2 (by omega)
  have emt : (D.1 1).toInt = m := by rw [em]; exact i32_toInt (by omega)
  obtain ⟨f1, g1, g81, q1, q2, q3⟩ := run_eq (a := 0) (e := m) (to := f0 7 - 1) Gd H T R hn hn10 h0 h1 (by omega) hm (fun b hb => by
    rw [Int32.lt_iff_toInt_lt, R.nights, one_sub (x := D.1 1) (lo := 0) (by omega) (by omega), emt, i32_toInt (by omega)]; omega) (fun k f g b => pX8_goAll_6 k f g h b) (fun k g b hb => by
    show pX8_goAll_6 (k + 1) D.1 g h (i32 b) = _
    rw [pX8_goAll_6, i32_succ]
    have hcmp : (D.1 1 ≤ i32 b) ↔ m ≤ b := by rw [em, i32_le (by omega) (by omega)]
    by_cases c : m ≤ b
    · rw [if_pos (hcmp.mpr c), if_pos c]
    · rw [if_neg (fun q => c (hcmp.mp q)), if_neg c])
  exact ⟨f1, g1, g81, q1, q2, q3⟩

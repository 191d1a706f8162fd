/-! THE TWIN's LOOP (mine): takesE is the machine -/
theorem sgn_c {c : Int32} (h : sgn c = true) : c = 40 ∨ c = 41 ∨ c = 59 ∨ c = 43 ∨ c = 45 ∨ c = 42 ∨ c = 60 ∨ c = 61 := by
  unfold sgn at h
  simpa using h
theorem tk_c {t : tK} (ht : tkv t) {c : Int32} (hc : sgn c = true) : (tk8 t = c) ↔ mc_sg t c = true := by
  have hk := ht.1
  have h6 : t.2.2.1 = 0 ∨ t.2.2.1 = 1 ∨ t.2.2.1 = 2 ∨ t.2.2.1 = 3 ∨ t.2.2.1 = 4 ∨ t.2.2.1 = 5 := by omega
  unfold tk8 mc_sg
  rw [Bool.and_eq_true, decide_eq_true_eq, decide_eq_true_eq]
  rcases h6 with q | q | q | q | q | q
  · simp only [q, if_true]; exact ⟨fun h => by (rw [← h] at hc; exact absurd hc (by decide)), fun h => by (exact absurd h.1 (by decide))⟩
  · simp only [q, if_true, show ¬ (1 : Nat) = 0 by decide, if_false]; exact ⟨fun h => by (rw [← h] at hc; exact absurd hc (by decide)), fun h => by (exact absurd h.1 (by decide))⟩
  · simp only [q, if_true, show ¬ (2 : Nat) = 0 by decide, show ¬ (2 : Nat) = 1 by decide, if_false]; exact ⟨fun h => by (rw [← h] at hc; exact absurd hc (by decide)), fun h => by (exact absurd h.1 (by decide))⟩
  · simp only [q, if_true, show ¬ (3 : Nat) = 0 by decide, show ¬ (3 : Nat) = 1 by decide, show ¬ (3 : Nat) = 2 by decide, if_false]; exact ⟨fun h => by (rw [← h] at hc; exact absurd hc (by decide)), fun h => by (exact absurd h.1 (by decide))⟩
  · simp only [q, if_true, show ¬ (4 : Nat) = 0 by decide, show ¬ (4 : Nat) = 1 by decide, show ¬ (4 : Nat) = 2 by decide, show ¬ (4 : Nat) = 3 by decide, if_false, true_and]
  · simp only [q, show ¬ (5 : Nat) = 0 by decide, show ¬ (5 : Nat) = 1 by decide, show ¬ (5 : Nat) = 2 by decide, show ¬ (5 : Nat) = 3 by decide, show ¬ (5 : Nat) = 4 by decide, if_false, false_and, iff_false]
    intro h; rw [← h] at hc; exact absurd hc (by decide)
theorem tk_k {t : tK} (ht : tkv t) : ((tk8 t = 1) ↔ t.2.2.1 = 3) ∧ ((tk8 t = 2) ↔ (t.2.2.1 = 1 ∨ t.2.2.1 = 2)) ∧ ((0 ≤ tk8 t) ↔ (¬ t.2.2.1 = 0 ∧ ¬ t.2.2.1 = 5)) ∧ ((tk8 t = -1) ↔ t.2.2.1 = 0) := by
  have hk := ht.1
  have h6 : t.2.2.1 = 0 ∨ t.2.2.1 = 1 ∨ t.2.2.1 = 2 ∨ t.2.2.1 = 3 ∨ t.2.2.1 = 4 ∨ t.2.2.1 = 5 := by omega
  unfold tk8
  rcases h6 with q | q | q | q | q | q
  · simp only [q, if_true]; decide
  · simp only [q, if_true, show ¬ (1 : Nat) = 0 by decide, if_false]; decide
  · simp only [q, if_true, show ¬ (2 : Nat) = 0 by decide, show ¬ (2 : Nat) = 1 by decide, if_false]; decide
  · simp only [q, if_true, show ¬ (3 : Nat) = 0 by decide, show ¬ (3 : Nat) = 1 by decide, show ¬ (3 : Nat) = 2 by decide, if_false]; decide
  · have hs := sgn_c (ht.2.2 q)
    simp only [q, if_true, show ¬ (4 : Nat) = 0 by decide, show ¬ (4 : Nat) = 1 by decide, show ¬ (4 : Nat) = 2 by decide, show ¬ (4 : Nat) = 3 by decide, if_false]
    rcases hs with r | r | r | r | r | r | r | r <;> (rw [r]; decide)
  · simp only [q, show ¬ (5 : Nat) = 0 by decide, show ¬ (5 : Nat) = 1 by decide, show ¬ (5 : Nat) = 2 by decide, show ¬ (5 : Nat) = 3 by decide, show ¬ (5 : Nat) = 4 by decide, if_false]; decide
def nmf (w : Int32) : Int32 := if w = 777297172 then 0 else if w = 23732 then 1 else if w = 9317 then 2 else if w = 763332 then 3 else if w = 492210354 then 4 else if w = 14982420 then 5 else -1
theorem nm8 (f : xF) (g : xG) (w : Int32) : pX8_nameOf f g w = some (nmf w) := by
  unfold pX8_nameOf pX8_nameOf_0 pX8_nameOf_63 nmf
  repeat' split
  all_goals rfl
theorem nm_k : ∀ i, i < 6 → nmf (i32 (cdF (sx_byt.getD (1 + i) []))) = -1 := by decide
theorem nm_n : ∀ i, i < 6 → nmf (i32 (cdF (sx_byt.getD (7 + i) []))) = i32 i := by decide
theorem kc_kk : ∀ i, i < 6 → ∀ q, q < 6 → ((i32 (cdF (sx_byt.getD (1 + i) [])) = i32 (cdF (sx_byt.getD (1 + q) []))) ↔ i = q) := by decide
theorem kc_nk : ∀ i, i < 6 → ∀ q, q < 6 → ¬ (i32 (cdF (sx_byt.getD (7 + i) [])) = i32 (cdF (sx_byt.getD (1 + q) []))) := by decide
theorem isW {f : xF} {g : xG} {t : tK} {q : Nat} (ht : tkv t) (hf : mAt t f) (hq : q < 6) : pX8_isWord f g (i32 (cdF (sx_byt.getD (1 + q) []))) = some (bz (mc_ky t (i32 q))) := by
  have hk := tk_k ht
  unfold pX8_isWord pX8_isWord_0 pX8_isWord_20 pX8_isWord_21
  rw [hf.2.1]
  simp only [gbz0, gbz1, if_true]
  by_cases c : t.2.2.1 = 1 ∨ t.2.2.1 = 2
  · rw [if_pos (hk.2.1.mpr c), hf.2.2.1 (by omega)]
    obtain ⟨i, i6, ei⟩ := ht.2.1 c
    have ec : t.2.2.2.toNatClampNeg = i := by rw [ei]; exact i32_cl (by omega)
    unfold wd8 mc_ky
    rw [ec]
    by_cases c1 : t.2.2.1 = 1
    · rw [if_pos c1, decide_eq_true c1, Bool.true_and]
      by_cases c2 : i = q
      · rw [if_pos ((kc_kk i i6 q hq).mpr c2), decide_eq_true (by rw [ei, c2])]; rfl
      · rw [if_neg (fun h => c2 ((kc_kk i i6 q hq).mp h)), decide_eq_false (by rw [ei]; exact fun h => c2 ((i32_inj (by omega) (by omega)).mp h))]; rfl
    · have c2 : t.2.2.1 = 2 := by omega
      rw [if_neg c1, if_pos c2, if_neg (kc_nk i i6 q hq), decide_eq_false c1]; rfl
  · rw [if_neg (fun h => c (hk.2.1.mp h))]
    unfold mc_ky
    rw [decide_eq_false (fun h => c (Or.inl h))]; rfl
/-- the twin stands at the first of these signs -/
def mSt (B : Nat → Int32) (m : Nat) (f : xF) : List tK → Prop
  | [] => False
  | t :: ts => mAt t f ∧ tkv t ∧ (if t.2.2.1 = 0 ∨ t.2.2.1 = 5 then ts = [] else t.1 < t.2.1 ∧ t.2.1 ≤ m ∧ chn B m t.2.1 ts)
theorem mc_R.fr8 {F : xF} {G : xG} {fr : Nat} {out : xR} {S : List Nat} {f f1 : xF} {g : xG} (h : mc_R F G fr out S f g) (q : fr8 f f1) : mc_R F G fr out S f1 g := by
  obtain ⟨⟨a1, a2, a3⟩, ⟨b1, b2, b3⟩, ⟨c1, c2, c3, c4⟩⟩ := h
  refine ⟨⟨fun k k1 k2 k3 k4 k5 k6 k7 => (q k k1 k2 k3 k4).trans (a1 k k1 k2 k3 k4 k5 k6 k7), a2, a3⟩, ⟨(q 20 (by decide) (by decide) (by decide) (by decide)).trans b1, b2, b3⟩, ⟨(q 19 (by decide) (by decide) (by decide) (by decide)).trans c1, c2, (q 18 (by decide) (by decide) (by decide) (by decide)).trans c3, c4⟩⟩
theorem mc_R.mt {F : xF} {G : xG} {fr : Nat} {out : xR} {S : List Nat} {f : xF} {g : xG} {B : Nat → Int32} {m : Nat} (h : mc_R F G fr out S f g) (hm : mt B m F G) : mt B m f g :=
  ⟨(h.1.1 13 (by decide) (by decide) (by decide) (by decide) (by decide) (by decide) (by decide)).trans hm.1, fun k hk => by rw [h.1.2.1 21 (by decide) (by decide) (by decide)]; exact hm.2 k hk⟩
theorem kp.at {t : tK} {f f1 : xF} (h : mAt t f) (q : kp f f1) : mAt t f1 := ⟨q.1.trans h.1, q.2.1.trans h.2.1, fun k => q.2.2.1.trans (h.2.2.1 k), fun k k2 => q.2.2.2.trans (h.2.2.2 k k2)⟩
theorem kp.st {B : Nat → Int32} {m : Nat} {t : tK} {ts : List tK} {f f1 : xF} (h : mSt B m f (t :: ts)) (q : kp f f1) : mSt B m f1 (t :: ts) := ⟨q.at h.1, h.2⟩
/-- on to the next sign -/
theorem goOn8 {B : Nat → Int32} {m : Nat} {f : xF} {g : xG} {t : tK} {ts : List tK} (hm : mt B m f g) (h : mSt B m f (t :: ts)) (h0 : ¬ t.2.2.1 = 0) (h5 : ¬ t.2.2.1 = 5) : ∃ f1, pX8_goOn f g = some (f1, g) ∧ fr8 f f1 ∧ mSt B m f1 ts := by
  obtain ⟨h1, h2, h3⟩ := h
  rw [if_neg (by omega)] at h3
  obtain ⟨k1, k2, k3⟩ := h3
  cases ts with
  | nil => exact k3.elim
  | cons t2 ts =>
    obtain ⟨q1, q2⟩ := k3
    have e : f 14 + f 17 = i32 t.2.1 := by rw [h1.1, h1.2.2.2 h0 h5, i32_add, show t.1 + (t.2.1 - t.1) = t.2.1 by omega]
    obtain ⟨f1, r1, r2, r3⟩ := q1.2.2.2.2.2 (upd f 14 (f 14 + f 17)) g (mt.fr hm (fr8.u (by omega))) (by rw [upd_e, e])
    refine ⟨f1, ?_, (fr8.u (by omega)).tr r1, r3, q1.2.2.1, ?_⟩
    · unfold pX8_goOn pX8_goOn_0
      rw [r2]; rfl
    · by_cases c : t2.2.2.1 = 0 ∨ t2.2.2.1 = 5
      · rw [if_pos c] at q2 ⊢; exact q2
      · rw [if_neg c] at q2 ⊢
        have := q1.2.2.2.1 (fun h => c (Or.inl h)) (fun h => c (Or.inr h))
        exact ⟨this.1, this.2, q2⟩
theorem bz_or (a b : Bool) : (bz (a || b)) = if bz a = 0 then bz b else 1 := by cases a <;> cases b <;> rfl
/-- the loop's turn, wanting a one -/
theorem E_one {f : xF} {g : xG} {t : tK} {mn : Bool} (k19 : xF → xG → Int32 → Int32 → Option (Int32 × xF × xG)) (ht : tkv t) (hf : mAt t f) : pX8_takesE_75 k19 f g 1 (bz mn) = (pX8_takesOne f g (bz mn)).bind (fun r => if r.1 = 0 then some (0, r.2.1, r.2.2) else (pX8_goOn r.2.1 r.2.2).bind (fun q => k19 q.1 q.2 (if r.1 = 1 then 1 else 0) (bz (mc_ky t 5 || mc_sg t 40)))) := by
  have hw : pX8_isWord f g 14836 = some (bz (mc_ky t 5)) := isW (q := 5) ht hf (by decide)
  have h40 : (f 15 = 40) ↔ mc_sg t 40 = true := by rw [hf.2.1]; exact tk_c ht (by decide)
  unfold pX8_takesE_75
  rw [hw]
  simp only [Option.bind_some, h40]
  have key : ∀ x : Bool, pX8_takesE_98 k19 f g 1 (bz mn) (bz (mc_ky t 5)) (bz x) = (pX8_takesOne f g (bz mn)).bind (fun r => if r.1 = 0 then some (0, r.2.1, r.2.2) else (pX8_goOn r.2.1 r.2.2).bind (fun q => k19 q.1 q.2 (if r.1 = 1 then 1 else 0) (bz (mc_ky t 5 || x)))) := by
    intro x
    unfold pX8_takesE_98 pX8_takesE_113
    have e : ∀ y : Int32, (if (1 : Int32) = 0 then (pX8_takesSign f g).bind (fun r128 => pX8_takesE_131 k19 r128.2.1 r128.2.2 1 (bz (mc_ky t 5)) (bz x) y r128.1) else (pX8_takesOne f g (bz mn)).bind (fun r121 => pX8_takesE_131 k19 r121.2.1 r121.2.2 1 (bz (mc_ky t 5)) (bz x) y r121.1)) = (pX8_takesOne f g (bz mn)).bind (fun r => if r.1 = 0 then some (0, r.2.1, r.2.2) else (pX8_goOn r.2.1 r.2.2).bind (fun q => k19 q.1 q.2 (if r.1 = 1 then 1 else 0) (bz (mc_ky t 5 || x)))) := by
      intro y
      rw [if_neg (by decide)]
      congr 1
      funext r
      unfold pX8_takesE_131 pX8_takesE_154 pX8_takesE_164 pX8_takesE_176
      rw [bz_or, if_neg (show ¬ (1 : Int32) = 0 by decide)]
      by_cases c : r.1 = 0
      · rw [if_pos c, if_pos c]
      · rw [if_neg c, if_neg c]
        by_cases c1 : r.1 = 1
        · simp only [c1, if_true]
          cases mc_ky t 5 <;> cases x <;> rfl
        · simp only [c1, if_false]
          cases mc_ky t 5 <;> cases x <;> rfl
    rw [e, e]
    split <;> rfl
  cases hx : mc_sg t 40
  · rw [if_neg (by decide)]; exact key false
  · rw [if_pos rfl]; exact key true
theorem E_sgn {f : xF} {g : xG} {t : tK} {v : Int32} (k19 : xF → xG → Int32 → Int32 → Option (Int32 × xF × xG)) (ht : tkv t) (hf : mAt t f) : pX8_takesE_75 k19 f g 0 v = (pX8_takesSign f g).bind (fun r => if r.1 = 0 then some (0, r.2.1, r.2.2) else (pX8_goOn r.2.1 r.2.2).bind (fun q => k19 q.1 q.2 (if r.1 = 1 then 1 else 0) (if t.2.2.1 = 1 ∨ t.2.2.1 = 2 then 1 else 0))) := by
  have hw : pX8_isWord f g 14836 = some (bz (mc_ky t 5)) := isW (q := 5) ht hf (by decide)
  have h2 : (f 15 = 2) ↔ (t.2.2.1 = 1 ∨ t.2.2.1 = 2) := by rw [hf.2.1]; exact (tk_k ht).2.1
  unfold pX8_takesE_75
  rw [hw]
  simp only [Option.bind_some]
  have key : ∀ x y : Int32, pX8_takesE_98 k19 f g 0 v x y = (pX8_takesSign f g).bind (fun r => if r.1 = 0 then some (0, r.2.1, r.2.2) else (pX8_goOn r.2.1 r.2.2).bind (fun q => k19 q.1 q.2 (if r.1 = 1 then 1 else 0) (if t.2.2.1 = 1 ∨ t.2.2.1 = 2 then 1 else 0))) := by
    intro x y
    unfold pX8_takesE_98 pX8_takesE_113
    rw [if_pos rfl, if_pos rfl]
    have e : ∀ z : Int32, (pX8_takesSign f g).bind (fun r128 => pX8_takesE_131 k19 r128.2.1 r128.2.2 0 x y z r128.1) = (pX8_takesSign f g).bind (fun r => if r.1 = 0 then some (0, r.2.1, r.2.2) else (pX8_goOn r.2.1 r.2.2).bind (fun q => k19 q.1 q.2 (if r.1 = 1 then 1 else 0) z)) := by
      intro z
      congr 1
      funext r
      unfold pX8_takesE_131 pX8_takesE_164 pX8_takesE_176
      rw [if_pos (show (0 : Int32) = 0 from rfl)]
      by_cases c : r.1 = 0
      · rw [if_pos c, if_pos c]
      · rw [if_neg c, if_neg c]
        by_cases c1 : r.1 = 1
        · simp only [c1, if_true]
        · simp only [c1, if_false]
    by_cases c : t.2.2.1 = 1 ∨ t.2.2.1 = 2
    · rw [if_pos (h2.mpr c), e, if_pos c]
    · rw [if_neg (fun q => c (h2.mp q)), e, if_neg c]
  split
  · exact key _ _
  · exact key _ _
/-! takesOne -/
theorem one_v {F : xF} {G : xG} {fr c : Nat} {out : xR} {S : List Nat} {f : xF} {g : xG} {v : Int32} (hfr : fr ≤ 2720) (h : mc_R F G fr out S f g) (hl : out.length + S.length ≤ 159) (hc : c ≤ 1) : ∃ f1 g1, pX8_takesOne_64 f g (i32 c) v = some (2, f1, g1) ∧ mc_R F G fr (mc_st 7 S (out ++ [(c, v)])).1 (mc_st 7 S (out ++ [(c, v)])).2 f1 g1 ∧ kp f f1 := by
  obtain ⟨f1, g1, p1, p2, p3⟩ := put8 (s := c) (v := v) h hfr (by omega) (by omega)
  obtain ⟨f2, g2, q1, q2, q3⟩ := settleE (k := 7) hfr (by omega) (by omega) p2 (by rw [List.length_append]; show out.length + 1 + S.length ≤ 160; omega)
  refine ⟨f2, g2, ?_, q2, p3.tr q3⟩
  unfold pX8_takesOne_64
  rw [p1]
  simp only [Option.bind_some]
  rw [show (7 : Int32) = i32 7 from rfl, q1]
  rfl
theorem one_3 {F : xF} {G : xG} {fr : Nat} {out : xR} {S : List Nat} {f : xF} {g : xG} {t : tK} {mn : Bool} (hfr : fr ≤ 2720) (ht : tkv t) (hf : mAt t f) (h : mc_R F G fr out S f g) (hl : out.length + S.length ≤ 159) (hk : t.2.2.1 = 3) : ∃ f1 g1, pX8_takesOne f g (bz mn) = some (2, f1, g1) ∧ mc_R F G fr (mc_st 7 S (out ++ [(0, t.2.2.2)])).1 (mc_st 7 S (out ++ [(0, t.2.2.2)])).2 f1 g1 ∧ kp f f1 := by
  have h1 : f 15 = 1 := by rw [hf.2.1]; exact (tk_k ht).1.mpr hk
  have h16 : f 16 = t.2.2.2 := by
    rw [hf.2.2.1 (by omega)]; unfold wd8; rw [if_neg (by omega), if_neg (by omega)]
  obtain ⟨f1, g1, q⟩ := one_v (c := 0) (v := t.2.2.2) hfr h hl (by omega)
  refine ⟨f1, g1, ?_, q.2⟩
  rw [← q.1]
  unfold pX8_takesOne pX8_takesOne_0 pX8_takesOne_27 pX8_takesOne_41
  rw [if_pos h1, if_pos h1, if_pos h1, h16]
  rfl
theorem one_2 {F : xF} {G : xG} {fr : Nat} {out : xR} {S : List Nat} {f : xF} {g : xG} {t : tK} {mn : Bool} (hfr : fr ≤ 2720) (ht : tkv t) (hf : mAt t f) (h : mc_R F G fr out S f g) (hl : out.length + S.length ≤ 159) (hk : t.2.2.1 = 2) : ∃ f1 g1, pX8_takesOne f g (bz mn) = some (2, f1, g1) ∧ mc_R F G fr (mc_st 7 S (out ++ [(1, t.2.2.2)])).1 (mc_st 7 S (out ++ [(1, t.2.2.2)])).2 f1 g1 ∧ kp f f1 := by
  have h2 : f 15 = 2 := by rw [hf.2.1]; exact (tk_k ht).2.1.mpr (Or.inr hk)
  have h1 : ¬ f 15 = 1 := by rw [h2]; decide
  obtain ⟨i, i6, ei⟩ := ht.2.1 (Or.inr hk)
  have h16 : nmf (f 16) = t.2.2.2 := by
    rw [hf.2.2.1 (by omega)]; unfold wd8
    rw [if_neg (by omega), if_pos hk, ei, i32_cl (by omega)]
    exact nm_n i i6
  obtain ⟨f1, g1, q⟩ := one_v (c := 1) (v := t.2.2.2) hfr h hl (by omega)
  refine ⟨f1, g1, ?_, q.2⟩
  rw [← q.1]
  unfold pX8_takesOne pX8_takesOne_0 pX8_takesOne_27 pX8_takesOne_41
  rw [if_neg h1, if_pos h2, nm8, h16]
  simp only [Option.bind_some]
  rw [if_neg (by rw [ei, show (0 : Int32) = i32 0 from rfl, i32_lt (by omega) (by omega)]; omega), if_neg h1, if_neg h1]
  rfl
theorem one_75 {f : xF} {g : xG} {t : tK} {mn : Bool} (ht : tkv t) (hf : mAt t f) (h3 : ¬ t.2.2.1 = 3) (h2 : ¬ t.2.2.1 = 2) : pX8_takesOne f g (bz mn) = pX8_takesOne_75 f g (bz mn) := by
  have hk := tk_k ht
  have k1 : ¬ f 15 = 1 := by rw [hf.2.1]; exact fun q => h3 (hk.1.mp q)
  unfold pX8_takesOne pX8_takesOne_0
  rw [if_neg k1]
  by_cases c : f 15 = 2
  · rw [if_pos c, nm8]
    have c1 : t.2.2.1 = 1 := by
      rw [hf.2.1] at c
      have := hk.2.1.mp c
      omega
    obtain ⟨i, i6, ei⟩ := ht.2.1 (Or.inl c1)
    have e : nmf (f 16) = -1 := by
      rw [hf.2.2.1 (by omega)]; unfold wd8
      rw [if_pos c1, ei, i32_cl (by omega)]
      exact nm_k i i6
    rw [e]
    rfl
  · rw [if_neg c]

/-! TEXT (mine) -/
def tx_lf : List Nat := [11, 13, 14, 15, 16, 17, 18, 19, 20]
def tx_lg : List Nat := [22, 23, 24, 25]
theorem tx_rel {D : xD} {T : Nat} {f fz f1 : xF} {g g1 : xG} (R : cR D f g) (Gd : Good D) (w : tW T D.1 D.2 f1 g1) (hz : fr25 (q_f0 f) fz) : cR (upd f1 13 0, g1) fz g ∧ Good (upd f1 13 0, g1) ∧ off tx_lf tx_lg D (upd f1 13 0, g1) := by
  refine ⟨⟨fun p hp => ?_, fun p hp => ?_, fun i hi => ?_⟩, ⟨fun k => ?_, fun k i => ?_, ?_⟩, ⟨fun k hk => ?_, fun k hk => ?_⟩⟩
  · have h3 : ∀ p ∈ cF, (p.1 ≠ 20 ∧ p.1 ≠ 21 ∧ p.1 ≠ 22 ∧ p.1 ≠ 23 ∧ p.1 ≠ 24 ∧ p.1 ≠ 25) ∧ (p.1 = 19 ↔ p.2 = 13) ∧ (p.2 ≠ 14 ∧ p.2 ≠ 15 ∧ p.2 ≠ 16 ∧ p.2 ≠ 17 ∧ p.2 ≠ 18 ∧ p.2 ≠ 19 ∧ p.2 ≠ 20) := by decide
    obtain ⟨⟨a0, a1, a2, a3, a4, a5⟩, a6, b1, b2, b3, b4, b5, b6, b7⟩ := h3 p hp
    rw [hz p.1 a1 a2 a3 a4 a5]
    show q_f0 f p.1 = upd f1 13 0 p.2
    unfold q_f0
    rw [upd_n a5, upd_n a1]
    by_cases c : p.1 = 19
    · rw [c, upd_e, a6.mp c, upd_e]
    · rw [upd_n c, upd_n a0, upd_n (fun q => c (a6.mpr q)), w.1 p.2 b1 b2 b3 b4 b5 b6 b7]
      exact R.1 p hp
  · have h3 : ∀ p ∈ cG, p.2 ≠ 22 ∧ p.2 ≠ 23 ∧ p.2 ≠ 24 ∧ p.2 ≠ 25 := by decide
    obtain ⟨b1, b2, b3, b4⟩ := h3 p hp
    show g p.1 = g1 p.2
    rw [w.2.1 p.2 b1 b2 b3 b4]; exact R.2.1 p hp
  · have hi : i < (upd f1 13 0 13).toNatClampNeg := hi
    rw [upd_e] at hi
    exact absurd hi (Nat.not_lt_zero i)
  · show sLo k ≤ (upd f1 13 0 k).toInt ∧ (upd f1 13 0 k).toInt ≤ sHi k
    by_cases c : k = 13
    · subst c; rw [upd_e]; exact ⟨by decide, by decide⟩
    rw [upd_n c]
    by_cases c14 : k = 14
    · subst c14; exact ⟨i32_min _, i32_max _⟩
    by_cases c15 : k = 15
    · subst c15; exact ⟨i32_min _, i32_max _⟩
    by_cases c16 : k = 16
    · subst c16; exact ⟨i32_min _, i32_max _⟩
    by_cases c17 : k = 17
    · subst c17; exact ⟨i32_min _, i32_max _⟩
    by_cases c18 : k = 18
    · subst c18; exact ⟨i32_min _, i32_max _⟩
    by_cases c19 : k = 19
    · subst c19; exact ⟨i32_min _, i32_max _⟩
    by_cases c20 : k = 20
    · subst c20; exact ⟨i32_min _, i32_max _⟩
    rw [w.1 k c14 c15 c16 c17 c18 c19 c20]; exact Gd.1 k
  · show aLo k ≤ (g1 k i).toInt ∧ (g1 k i).toInt ≤ aHi k
    by_cases c22 : k = 22
    · subst c22; exact ⟨i32_min _, i32_max _⟩
    by_cases c23 : k = 23
    · subst c23; exact ⟨i32_min _, i32_max _⟩
    by_cases c24 : k = 24
    · subst c24; exact ⟨i32_min _, i32_max _⟩
    by_cases c25 : k = 25
    · subst c25; exact ⟨i32_min _, i32_max _⟩
    rw [w.2.1 k c22 c23 c24 c25]; exact Gd.2.1 k i
  · have hx := Gd.2.2
    unfold gX at *
    have h : ∀ k, k ≠ 13 → k ≠ 14 → k ≠ 15 → k ≠ 16 → k ≠ 17 → k ≠ 18 → k ≠ 19 → k ≠ 20 → upd f1 13 0 k = D.1 k := fun k k0 k1 k2 k3 k4 k5 k6 k7 => (upd_n k0).trans (w.1 k k1 k2 k3 k4 k5 k6 k7)
    show (upd f1 13 0 12).toInt < (upd f1 13 0 11).toInt ∧ (upd f1 13 0 44).toInt < (upd f1 13 0 11).toInt ∧ (upd f1 13 0 43).toInt ≤ (upd f1 13 0 0).toInt ∧ (0 < (upd f1 13 0 0).toInt ∨ ((upd f1 13 0 32).toInt = 0 ∧ (upd f1 13 0 45).toInt = 0)) ∧ ∀ i, (g1 33 i).toInt = 0 ∨ (g1 33 i).toInt < (upd f1 13 0 0).toInt
    rw [h 12 (by decide) (by decide) (by decide) (by decide) (by decide) (by decide) (by decide) (by decide), h 11 (by decide) (by decide) (by decide) (by decide) (by decide) (by decide) (by decide) (by decide), h 44 (by decide) (by decide) (by decide) (by decide) (by decide) (by decide) (by decide) (by decide), h 43 (by decide) (by decide) (by decide) (by decide) (by decide) (by decide) (by decide) (by decide), h 0 (by decide) (by decide) (by decide) (by decide) (by decide) (by decide) (by decide) (by decide), h 32 (by decide) (by decide) (by decide) (by decide) (by decide) (by decide) (by decide) (by decide), h 45 (by decide) (by decide) (by decide) (by decide) (by decide) (by decide) (by decide) (by decide), w.2.1 33 (by decide) (by decide) (by decide) (by decide)]
    exact hx
  · simp only [tx_lf, List.mem_cons, List.not_mem_nil, or_false, not_or] at hk
    obtain ⟨_, k13, k14, k15, k16, k17, k18, k19, k20⟩ := hk
    show upd f1 13 0 k = D.1 k
    rw [upd_n k13]; exact w.1 k k14 k15 k16 k17 k18 k19 k20
  · simp only [tx_lg, List.mem_cons, List.not_mem_nil, or_false, not_or] at hk
    exact w.2.1 k hk.1 hk.2.1 hk.2.2.1 hk.2.2.2
theorem tx_ok_rel {E : xD} {fz : xF} {g : xG} (R : cR E fz g) (Gd : Good E) (h : (E.1 11).toInt ≤ 5) : cR (upd E.1 11 (E.1 11 + 1), E.2) (upd fz 15 (fz 15 + 1)) g ∧ Good (upd E.1 11 (E.1 11 + 1), E.2) ∧ off [11] [] E (upd E.1 11 (E.1 11 + 1), E.2) := by
  have h1 : 1 ≤ (E.1 11).toInt := (Gd.1 11).1
  have hs := one_add h (by decide)
  refine ⟨?_, ⟨gF_u Gd.1 (by rw [hs]; show 1 ≤ _; omega) (by rw [hs]; show _ ≤ 6; omega), Gd.2.1, ?_⟩, (off.rf E).uf (by decide)⟩
  · rw [R.texts]; exact R.uf (k := 15) (k2 := 11) (by decide) (by decide)
  · have hx := Gd.2.2
    unfold gX at *
    simp only [upd_e, upd_n (show 12 ≠ 11 by decide), upd_n (show 44 ≠ 11 by decide), upd_n (show 43 ≠ 11 by decide), upd_n (show 0 ≠ 11 by decide), upd_n (show 32 ≠ 11 by decide), upd_n (show 45 ≠ 11 by decide), hs]
    exact ⟨by omega, by omega, hx.2.2⟩
/-- what text does, on both sides -/
def txR (D : xD) (z : xT) (E : xD) : Prop := cR E z.2.1.1 z.2.1.2 ∧ Good E ∧ off tx_lf tx_lg D E ∧ z.2.2.2 ≤ 170 ∧ (∀ i, (i < 480 * (D.1 11).toNatClampNeg → E.2 22 i = D.2 22 i ∧ E.2 23 i = D.2 23 i) ∧ (i < 3 * (D.1 11).toNatClampNeg → E.2 24 i = D.2 24 i)) ∧
  ((z.2.2.1 = none ∧ E.1 11 = D.1 11) ∨ ∃ r0 r1 r2, z.2.2.1 = some (r0, r1, r2) ∧ z.1 = D.1 11 ∧ (D.1 11).toInt ≤ 5 ∧ E.1 11 = D.1 11 + 1 ∧ rw_ E.2 (D.1 11).toNatClampNeg 0 r0 ∧ rw_ E.2 (D.1 11).toNatClampNeg 1 r1 ∧ rw_ E.2 (D.1 11).toNatClampNeg 2 r2)
theorem chn_ne {B : Nat → Int32} {m p : Nat} {ts : List tK} (h : chn B m p ts) : ∃ t ts2, ts = t :: ts2 := by
  cases ts with
  | nil => exact h.elim
  | cons t ts => exact ⟨t, ts, rfl⟩
theorem bad_part {B : Nat → Int32} {m : Nat} {f : xF} {g : xG} {t : tK} {k : Nat} {T kk code : Int32} (hcode : code = i32 (cdF (sx_byt.getD (1 + k) []))) (hk : k < 6) (h : mSt B m f [t]) (h5 : t.2.2.1 = 5) : pX8_takesPart f g T kk code = some (0, f, g) := by
  unfold pX8_takesPart pX8_takesPart_0
  rw [hcode, isW h.2.1 h.1 hk]
  have : mc_ky t (i32 k) = false := by
    cases hb : mc_ky t (i32 k)
    · rfl
    · have := (ky_k hb).1; omega
  rw [this]
  rfl
theorem text_go {D : xD} {f : xF} {g : xG} (R : cR D f g) (Gd : Good D) (h6 : (D.1 11).toInt ≤ 5) : ∃ z E, q_text (qP 60 0) f g = some z ∧ ((pX8_look (upd D.1 14 0) D.2).bind (fun r18 => (pX8_takesPart r18.1 r18.2 (r18.1 11) 0 1156).bind (fun r30 => if r30.1 = 0 then pX8_text_76 r30.2.1 r30.2.2 else (pX8_takesPart r30.2.1 r30.2.2 (r30.2.1 11) 1 99724).bind (fun r44 => if r44.1 = 0 then pX8_text_76 r44.2.1 r44.2.2 else (pX8_takesPart r44.2.1 r44.2.2 (r44.2.1 11) 2 24627848).bind (fun r58 => if r58.1 = 0 then pX8_text_76 r58.2.1 r58.2.2 else (if (r58.2.1 15) = (-1) then pX8_text_77 r58.2.1 r58.2.2 1 else pX8_text_76 r58.2.1 r58.2.2)))))) = some (z.1, E.1, E.2) ∧ txR D z E := by
  have ht0 : 1 ≤ (D.1 11).toInt := (Gd.1 11).1
  obtain ⟨T, hT5, eT⟩ := i32_ex (x := D.1 11) (N := 5) (by omega) (by omega) (by omega)
  have cT : (D.1 11).toNatClampNeg = T := by rw [eT]; exact i32_cl (by omega)
  obtain ⟨m, hm160, em⟩ := i32_ex (x := D.1 13) (N := 160) (Gd.1 13).1 (Gd.1 13).2 (by omega)
  have hB : tp (D.2 21) m := ⟨hm160, fun k _ => Gd.2.1 21 k⟩
  have hc : ct (D.2 21) m (q_f0 f) g := by
    refine ⟨?_, fun k hk => R.2.2 k (by rw [em, i32_cl (by omega)]; exact hk)⟩
    show f 19 = i32 m
    rw [R.taped, em]
  have hm : mt (D.2 21) m D.1 D.2 := ⟨em, fun _ _ => rfl⟩
  obtain ⟨ts, hch, hlen⟩ := chn_ex hB 160 0 (by omega) (by omega)
  obtain ⟨t, ts, rfl⟩ := chn_ne hch
  have hlen : ts.length + 1 ≤ m - 0 + 1 := hlen
  obtain ⟨hA, hts⟩ := hch
  -- the twin's first sign
  obtain ⟨fa, a1, a2, a3⟩ := hA.2.2.2.2.2 (upd D.1 14 0) D.2 (mt.fr hm (fr8.u (by omega))) upd_e
  have hsta : mSt (D.2 21) m fa (t :: ts) := by
    refine ⟨a3, hA.2.2.1, ?_⟩
    by_cases c : t.2.2.1 = 0 ∨ t.2.2.1 = 5
    · rw [if_pos c] at hts ⊢; exact hts
    · rw [if_neg c] at hts ⊢
      have := hA.2.2.2.1 (fun h => c (Or.inl h)) (fun h => c (Or.inr h))
      exact ⟨this.1, this.2, hts⟩
  have wa : tW T D.1 D.2 fa D.2 := ((fr8.u (by omega)).tr a1).w
  have t11 : ∀ {f1 : xF} {g1 : xG}, tW T D.1 D.2 f1 g1 → f1 11 = i32 T := fun w => by rw [w.1 11 (by decide) (by decide) (by decide) (by decide) (by decide) (by decide) (by decide), eT]
  rw [a2]
  simp only [Option.bind_some]
  rw [t11 wa]
  -- failing, on both sides
  have bad : ∀ (zt : xF × xG) (kk : Nat) (f1 : xF) (g1 : xG), zt.2 = g → fr25 (q_f0 f) zt.1 → tW T D.1 D.2 f1 g1 → zt.1 22 = f1 14 → kk ≤ 170 → ∃ z E, q_bad zt kk = some z ∧ pX8_text_76 f1 g1 = some (z.1, E.1, E.2) ∧ txR D z E := by
    intro zt kk f1 g1 h1 h2 h3 h4 h5
    obtain ⟨r1, r2, r3⟩ := tx_rel R Gd h3 h2
    refine ⟨(-100 - zt.1 22, zt, none, kk), (upd f1 13 0, g1), rfl, ?_, ?_, r2, r3, h5, ?_, Or.inl ⟨rfl, ?_⟩⟩
    · unfold pX8_text_76 pX8_text_77
      rw [if_pos rfl, upd_n (show 14 ≠ 13 by decide), h4]
    · show cR _ zt.1 zt.2
      rw [h1]; exact r1
    · rw [cT]; exact h3.2.2
    · show upd f1 13 0 11 = _
      rw [upd_n (by decide), t11 h3, eT]
  unfold q_text
  obtain ⟨fb, b1, b2⟩ := hA.2.2.2.2.1 (q_f0 f) g hc rfl
  rcases b2 with ⟨b5, b2, b3⟩ | ⟨b5, b2, b3⟩
  case inr =>
    rw [b2]
    simp only [Option.bind_some]
    rw [if_neg (by decide)]
    have htn : ts = [] := by rw [if_pos (Or.inr b5)] at hts; exact hts
    subst htn
    rw [bad_part (k := 0) (code := 1156) (by decide) (by decide) hsta b5]
    exact bad (fb, g) 0 fa D.2 rfl b1.to wa (by show fb 22 = fa 14; rw [b3, a3.1]) (by omega)
  rw [b2]
  simp only [Option.bind_some, if_true]
  have hstc : cSt (D.2 21) m fb (t :: ts) := by
    refine ⟨b3, hA.2.2.1, b5, ?_⟩
    by_cases c : t.2.2.1 = 0
    · rw [if_pos (Or.inl c)] at hts; rw [if_pos c]; exact hts
    · rw [if_neg (fun q => q.elim c b5)] at hts
      rw [if_neg c]
      have := hA.2.2.2.1 c b5
      exact ⟨this.1, this.2, hts⟩
  have hb25 : fb 25 = 0 := b1 25 (by decide) (by decide) (by decide) (by decide)
  -- the first part
  obtain ⟨z0, c0, f0, g0, p1, p2, p3, p4, p5, p6, p7⟩ := part_eq (T := T) (k := 0) (code := 1156) (by omega) (by omega) (by decide) (ct.fr hc b1) (hm.w wa) hstc hsta hb25 (by omega)
  have p1' : q_part (qP 60 0) 0 fb g = some z0 := p1
  have p5' : pX8_takesPart fa D.2 (i32 T) 0 1156 = some (bz c0, f0, g0) := p5
  rw [p1', p5']
  simp only [Option.bind_some]
  have w0 := wa.tr p6
  have fz0 := b1.to.tr p3
  unfold q_t1
  rcases p7 with ⟨e1, e2, e3⟩ | ⟨e1, e2, t4, e3, e4, e5⟩ | ⟨e1, e2, t4, ts4, e3, e4, e5, e6, e7, e8⟩
  · subst e2
    rw [if_neg (by rw [e1]; decide), if_pos (show bz false = 0 from rfl)]
    exact bad z0.2.1 _ f0 g0 p2 fz0 w0 e3 (by omega)
  · subst e2
    rw [if_neg (by rw [e1]; decide), if_neg (show ¬ bz true = 0 by decide), bad_part (k := 1) (code := 99724) (by decide) (by decide) e3 e4]
    exact bad z0.2.1 _ f0 g0 p2 fz0 w0 (by rw [e5, e3.1.1]) (by omega)
  subst e2
  rw [if_pos e1, if_neg (show ¬ bz true = 0 by decide), t11 w0, p2]
  -- the second part
  obtain ⟨z1, c1, f1, g1, q1, q2, q3, q4, q5, q6, q7⟩ := part_eq (T := T) (k := 1) (code := 99724) (by omega) (by omega) (by decide) (ct.fr5 (ct.fr hc b1) p3) ((hm.w wa).w p6) e3 e4 e5 (by omega)
  have q1' : q_part (qP 60 0) 1 z0.2.1.1 g = some z1 := q1
  have q5' : pX8_takesPart f0 g0 (i32 T) 1 99724 = some (bz c1, f1, g1) := q5
  rw [q1', q5']
  simp only [Option.bind_some]
  have w1 := w0.tr q6
  have fz1 := fz0.tr q3
  unfold q_t2
  rcases q7 with ⟨e1b, e2b, e3b⟩ | ⟨e1b, e2b, t5, e3b, e4b, e5b⟩ | ⟨e1b, e2b, t5, ts5, e3b, e4b, e5b, e6b, e7b, e8b⟩
  · subst e2b
    rw [if_neg (by rw [e1b]; decide), if_pos (show bz false = 0 from rfl)]
    exact bad z1.2.1 _ f1 g1 q2 fz1 w1 e3b (by omega)
  · subst e2b
    rw [if_neg (by rw [e1b]; decide), if_neg (show ¬ bz true = 0 by decide), bad_part (k := 2) (code := 24627848) (by decide) (by decide) e3b e4b]
    exact bad z1.2.1 _ f1 g1 q2 fz1 w1 (by rw [e5b, e3b.1.1]) (by omega)
  subst e2b
  rw [if_pos e1b, if_neg (show ¬ bz true = 0 by decide), t11 w1, q2]
  -- the third part
  obtain ⟨z2, c2, f2, g2, r1, r2, r3, r4, r5, r6, r7⟩ := part_eq (T := T) (k := 2) (code := 24627848) (by omega) (by omega) (by decide) (ct.fr5 (ct.fr5 (ct.fr hc b1) p3) q3) (((hm.w wa).w p6).w q6) e3b e4b e5b (by omega)
  have r1' : q_part (qP 60 0) 2 z1.2.1.1 g = some z2 := r1
  have r5' : pX8_takesPart f1 g1 (i32 T) 2 24627848 = some (bz c2, f2, g2) := r5
  rw [r1', r5']
  simp only [Option.bind_some]
  have w2 := w1.tr r6
  have fz2 := fz1.tr r3
  unfold q_t3
  rcases r7 with ⟨e1c, e2c, e3c⟩ | ⟨e1c, e2c, t6, e3c, e4c, e5c⟩ | ⟨e1c, e2c, t6, ts6, e3c, e4c, e5c, e6c, e7c, e8c⟩
  · subst e2c
    rw [if_neg (by rw [e1c]; decide), if_pos (show bz false = 0 from rfl)]
    exact bad z2.2.1 _ f2 g2 r2 fz2 w2 e3c (by omega)
  · subst e2c
    rw [if_neg (by rw [e1c]; decide), if_neg (show ¬ bz true = 0 by decide), if_neg (by rw [e3c.1.2.1, (tk_k e3c.2.1).2.2.2]; omega)]
    exact bad z2.2.1 _ f2 g2 r2 fz2 w2 (by rw [e5c, e3c.1.1]) (by omega)
  subst e2c
  rw [if_pos e1c, if_neg (show ¬ bz true = 0 by decide)]
  have hk6 := e3c.2.1.1
  have z6 : (z2.2.1.1 23 = 0) ↔ t6.2.2.1 = 0 := by rw [e3c.1.2.1]; exact i32_inj (m := 0) (by omega) (by omega)
  by_cases cE : t6.2.2.1 = 0
  case neg =>
    rw [if_neg (fun q => cE (z6.mp q)), if_neg (by rw [e4c.1.2.1, (tk_k e4c.2.1).2.2.2]; exact cE)]
    exact bad z2.2.1 _ f2 g2 r2 fz2 w2 (by rw [e3c.1.1, e4c.1.1]) (by omega)
  obtain ⟨s1, s2, s3⟩ := tx_rel R Gd w2 fz2
  have hE11 : (upd f2 13 0, g2).1 11 = D.1 11 := by show upd f2 13 0 11 = _; rw [upd_n (by decide), t11 w2, eT]
  have h15 : z2.2.1.1 15 = D.1 11 := by rw [← hE11]; exact s1.texts
  rw [if_pos (z6.mpr cE), if_pos (show f2 15 = -1 by rw [e4c.1.2.1, (tk_k e4c.2.1).2.2.2]; exact cE), h15, if_pos (show gin (D.1 11) 6 = true by rw [eT]; exact gin_i (by omega) (by omega))]
  obtain ⟨u1, u2, u3⟩ := tx_ok_rel s1 s2 (by rw [hE11]; omega)
  refine ⟨_, (upd (upd f2 13 0) 11 (upd f2 13 0 11 + 1), g2), rfl, ?_, ?_, u2, ?_, by show z0.2.2.2 + z1.2.2.2 + z2.2.2.2 ≤ 170; omega, ?_, Or.inr ⟨z0.2.2.1, z1.2.2.1, z2.2.2.1, rfl, ?_, h6, ?_, ?_, ?_, ?_⟩⟩
  · unfold pX8_text_77
    rw [if_neg (by decide), upd_e, upd_e, show upd f2 13 0 11 = D.1 11 from hE11]
  · show cR _ (upd z2.2.1.1 15 (D.1 11 + 1)) z2.2.1.2
    rw [r2, ← h15]
    exact u1
  · exact off.tr s3 (u3.mono (by decide) (by decide))
  · rw [cT]; exact w2.2.2
  · show upd z2.2.1.1 15 (D.1 11 + 1) 15 - 1 = D.1 11
    rw [upd_e, Int32.add_sub_cancel]
  · show upd (upd f2 13 0) 11 (upd f2 13 0 11 + 1) 11 = _
    rw [upd_e, show upd f2 13 0 11 = D.1 11 from hE11]
  · rw [cT]; exact e8c 0 (by omega) _ (e8b 0 (by omega) _ e7)
  · rw [cT]; exact e8c 1 (by omega) _ e7b
  · rw [cT]; exact e7c
theorem P_text {D : xD} {f : xF} {g : xG} (R : cR D f g) (Gd : Good D) : ∃ z E, q_txt (qP 60 0) f g = some z ∧ pX8_text D.1 D.2 = some (z.1, E.1, E.2) ∧ txR D z E := by
  unfold q_txt pX8_text pX8_text_0
  rw [R.texts]
  by_cases c : D.1 11 = 6
  · rw [if_pos c, if_pos c]
    exact ⟨(-4, (f, g), none, 0), D, rfl, rfl, R, Gd, off.rf D, Nat.zero_le _, fun _ => ⟨fun _ => ⟨rfl, rfl⟩, fun _ => rfl⟩, Or.inl ⟨rfl, rfl⟩⟩
  · rw [if_neg c, if_neg c]
    have h1 : (D.1 11).toInt ≤ 6 := (Gd.1 11).2
    have h2 : (D.1 11).toInt ≠ 6 := ne_toInt c
    exact text_go R Gd (by omega)

/-! ALL OF THE DESCENT; a text's part on both sides (mine) -/
theorem sg_ne {t : tK} {c d : Int32} (h : mc_sg t c = true) (hd : ¬ d = c) : ¬ mc_sg t d = true := fun r => hd (by rw [← (sg_k r).2, (sg_k h).2])
theorem sg_ky {t : tK} {c d : Int32} (h : mc_sg t c = true) : ¬ mc_ky t d = true := fun r => by have h1 := (sg_k h).1; have h2 := (ky_k r).1; omega
theorem ky_sg {t : tK} {c d : Int32} (h : mc_ky t c = true) : ¬ mc_sg t d = true := fun r => by have h1 := (ky_k h).1; have h2 := (sg_k r).1; omega
theorem ky_ne {t : tK} {c d : Int32} (h : mc_ky t c = true) (hd : ¬ d = c) : ¬ mc_ky t d = true := fun r => hd (by rw [← (ky_k r).2, (ky_k h).2])
theorem o_42 {t : tK} (h : mc_sg t 42 = true) : mc_o t = 9 := by unfold mc_o; rw [if_pos h]
theorem o_43 {t : tK} (h : mc_sg t 43 = true) : mc_o t = 7 := by unfold mc_o; rw [if_neg (sg_ne h (by decide)), if_pos h]
theorem o_45 {t : tK} (h : mc_sg t 45 = true) : mc_o t = 8 := by unfold mc_o; rw [if_neg (sg_ne h (by decide)), if_neg (sg_ne h (by decide)), if_pos h]
theorem o_k4 {t : tK} (h : mc_ky t 4 = true) : mc_o t = 3 := by unfold mc_o; rw [if_neg (ky_sg h), if_neg (ky_sg h), if_neg (ky_sg h), if_neg (ky_sg h), if_neg (ky_sg h), if_pos h]
theorem o_k3 {t : tK} (h : mc_ky t 3 = true) : mc_o t = 2 := by unfold mc_o; rw [if_neg (ky_sg h), if_neg (ky_sg h), if_neg (ky_sg h), if_neg (ky_sg h), if_neg (ky_sg h), if_neg (ky_ne h (by decide)), if_pos h]
theorem dall {B : Nat → Int32} {m : Nat} : ∀ n j, j ≤ 5 → dH B m (qP n j) j n := by
  intro n
  induction n with
  | zero =>
    intro j hj t ts out S mn f g _ _ _ _ _ _ _ _ hn
    omega
  | succ n ih =>
    intro j hj
    have hc : j = 0 ∨ j = 1 ∨ j = 2 ∨ j = 3 ∨ j = 4 ∨ j = 5 := by omega
    rcases hc with rfl | rfl | rfl | rfl | rfl | rfl
    · refine dseq (cnd := q_key 3 124) (sub := qP n 1) (j := 0) rfl (by decide) (by decide) (by decide) (fun _ => by omega) (fun q => by omega) (by omega) (fun t => mc_ky t 3 = true) (fun t f g ht hf => ?_) (fun t X h1 h2 => ⟨fun _ => h1.1 (by omega), fun _ => h1.2.1 (by omega), fun _ => h1.2.2.1 (by omega), fun _ => h1.2.2.2.1 (by omega), fun _ => h2⟩) (ih 1 (by omega))
      unfold q_key
      rw [ky0 ht hf]
      cases h : mc_ky t 3
      · exact Or.inl ⟨by decide, 124, rfl⟩
      · have e := o_k3 h
        refine Or.inr ⟨rfl, 124, rfl, by rw [e]; decide, by rw [e]; decide, Or.inl e, Or.inl (ky_k h).1, ky_sg h, fun _ => (ky_k h).1, fun q => by omega⟩
    · refine dseq (cnd := q_key 4 38) (sub := qP n 2) (j := 1) rfl (by decide) (by decide) (by decide) (fun _ => by omega) (fun q => by omega) (by omega) (fun t => mc_ky t 4 = true) (fun t f g ht hf => ?_) (fun t X h1 h2 => ⟨fun _ => h1.1 (by omega), fun _ => h1.2.1 (by omega), fun _ => h1.2.2.1 (by omega), fun _ => h2, fun q => by omega⟩) (ih 2 (by omega))
      unfold q_key
      rw [ky0 ht hf]
      cases h : mc_ky t 4
      · exact Or.inl ⟨by decide, 38, rfl⟩
      · have e := o_k4 h
        refine Or.inr ⟨rfl, 38, rfl, by rw [e]; decide, by rw [e]; decide, Or.inr (Or.inl e), Or.inl (ky_k h).1, ky_sg h, fun _ => (ky_k h).1, fun q => by omega⟩
    · exact dnot (ih 2 (by omega)) (ih 3 (by omega))
    · refine dseq (cnd := q_or2 43 45) (sub := qP n 4) (j := 3) rfl (by decide) (by decide) (by decide) (fun q => by omega) (fun _ => by omega) (by omega) (fun t => mc_sg t 43 = true ∨ mc_sg t 45 = true) (fun t f g ht hf => ?_) (fun t X h1 h2 => ⟨fun _ => h1.1 (by omega), fun _ => ⟨fun q => h2 (Or.inl q), fun q => h2 (Or.inr q)⟩, fun q => by omega, fun q => by omega, fun q => by omega⟩) (ih 4 (by omega))
      unfold q_or2
      rw [sg0 ht hf, sg0 ht hf]
      cases h : mc_sg t 43
      · cases h2 : mc_sg t 45
        · exact Or.inl ⟨fun q => q.elim (fun q => by cases q) (fun q => by cases q), f 24, rfl⟩
        · have e := o_45 h2
          have h24 : f 24 = 45 := by rw [(hf.2.2 (by rw [(sg_k h2).1]; decide)).1, (sg_k h2).2]
          refine Or.inr ⟨Or.inr rfl, f 24, rfl, by rw [e, h24]; decide, by rw [e]; decide, Or.inr (Or.inr (Or.inr (Or.inl e))), Or.inr (sg_k h2).1, sg_ne h2 (by decide), fun q => by omega, fun _ => by rw [(sg_k h2).1]; decide⟩
      · have e := o_43 h
        have h24 : f 24 = 43 := by rw [(hf.2.2 (by rw [(sg_k h).1]; decide)).1, (sg_k h).2]
        refine Or.inr ⟨Or.inl rfl, f 24, rfl, by rw [e, h24]; decide, by rw [e]; decide, Or.inr (Or.inr (Or.inl e)), Or.inr (sg_k h).1, sg_ne h (by decide), fun q => by omega, fun _ => by rw [(sg_k h).1]; decide⟩
    · refine dseq (cnd := q_sgn 42) (sub := qP n 5) (j := 4) rfl (by decide) (by decide) (by decide) (fun q => by omega) (fun _ => by omega) (by omega) (fun t => mc_sg t 42 = true) (fun t f g ht hf => ?_) (fun t X h1 h2 => ⟨fun _ => h2, fun q => by omega, fun q => by omega, fun q => by omega, fun q => by omega⟩) (ih 5 (by omega))
      unfold q_sgn
      rw [sg0 ht hf]
      cases h : mc_sg t 42
      · exact Or.inl ⟨by decide, 42, rfl⟩
      · have e := o_42 h
        refine Or.inr ⟨rfl, 42, rfl, by rw [e]; decide, by rw [e]; decide, Or.inr (Or.inr (Or.inr (Or.inr e))), Or.inr (sg_k h).1, sg_ne h (by decide), fun q => by omega, fun _ => by rw [(sg_k h).1]; decide⟩
    · exact done_ (ih 5 (by omega)) (ih 0 (by omega))
/-- the twin's numbers and arrays while it reads the text T -/
def tW (T : Nat) (F : xF) (G : xG) (f : xF) (g : xG) : Prop := (∀ k, k ≠ 14 → k ≠ 15 → k ≠ 16 → k ≠ 17 → k ≠ 18 → k ≠ 19 → k ≠ 20 → f k = F k) ∧ (∀ k, k ≠ 22 → k ≠ 23 → k ≠ 24 → k ≠ 25 → g k = G k) ∧ ∀ i, (i < 480 * T → g 22 i = G 22 i ∧ g 23 i = G 23 i) ∧ (i < 3 * T → g 24 i = G 24 i)
theorem tW.tr {T : Nat} {F f1 f2 : xF} {G g1 g2 : xG} (a : tW T F G f1 g1) (b : tW T f1 g1 f2 g2) : tW T F G f2 g2 :=
  ⟨fun k k1 k2 k3 k4 k5 k6 k7 => (b.1 k k1 k2 k3 k4 k5 k6 k7).trans (a.1 k k1 k2 k3 k4 k5 k6 k7), fun k k1 k2 k3 k4 => (b.2.1 k k1 k2 k3 k4).trans (a.2.1 k k1 k2 k3 k4), fun i => ⟨fun h => ⟨((b.2.2 i).1 h).1.trans ((a.2.2 i).1 h).1, ((b.2.2 i).1 h).2.trans ((a.2.2 i).1 h).2⟩, fun h => ((b.2.2 i).2 h).trans ((a.2.2 i).2 h)⟩⟩
/-- a row in the twin's arrays -/
def rw_ (g : xG) (T k : Nat) (r : xR) : Prop := r.length ≤ 160 ∧ g 24 (3 * T + k) = i32 r.length ∧ (∀ i x, r[i]? = some x → g 22 (480 * T + 160 * k + i) = i32 x.1 ∧ g 23 (480 * T + 160 * k + i) = x.2) ∧ ∀ x ∈ r, x.1 ≤ 10
theorem mt.w {B : Nat → Int32} {m T : Nat} {F f : xF} {G g : xG} (h : mt B m F G) (w : tW T F G f g) : mt B m f g :=
  ⟨(w.1 13 (by decide) (by decide) (by decide) (by decide) (by decide) (by decide) (by decide)).trans h.1, fun k hk => by rw [w.2.1 21 (by decide) (by decide) (by decide) (by decide)]; exact h.2 k hk⟩
theorem fr8.w {T : Nat} {f f1 : xF} {g : xG} (h : fr8 f f1) : tW T f g f1 g := ⟨fun k k1 k2 k3 k4 _ _ _ => h k k1 k2 k3 k4, fun _ _ _ _ _ => rfl, fun _ => ⟨fun _ => ⟨rfl, rfl⟩, fun _ => rfl⟩⟩
theorem mc_R.w {T k : Nat} {F f : xF} {G g : xG} {out : xR} {S : List Nat} (h : mc_R F G (480 * T + 160 * k) out S f g) : tW T F G f g :=
  ⟨h.1.1, fun k k1 k2 _ k4 => h.1.2.1 k k1 k2 k4, fun i => ⟨fun hi => h.1.2.2 i (Or.inl (by omega)), fun _ => by rw [h.1.2.1 24 (by decide) (by decide) (by decide)]⟩⟩
theorem part_eq {B : Nat → Int32} {m T k : Nat} {f f8 : xF} {g g8 : xG} {t : tK} {ts : List tK} {code : Int32} (hT : T < 6) (hk : k < 3) (hcode : code = i32 (cdF (sx_byt.getD (1 + k) []))) (hc : ct B m f g) (hm : mt B m f8 g8) (hst : cSt B m f (t :: ts)) (hst8 : mSt B m f8 (t :: ts)) (h25 : f 25 = 0) (hlen : ts.length ≤ 160) :
    ∃ (z : xP) (b : Bool) (f1 : xF) (g1 : xG), q_part (qP 60 0) (i32 k) f g = some z ∧ z.2.1.2 = g ∧ fr25 f z.2.1.1 ∧ z.2.2.2 ≤ ts.length + 1 ∧ pX8_takesPart f8 g8 (i32 T) (i32 k) code = some (bz b, f1, g1) ∧ tW T f8 g8 f1 g1 ∧
      ((z.1 = 1 ∧ b = false ∧ z.2.1.1 22 = f1 14) ∨ (z.1 = 1 ∧ b = true ∧ ∃ t4, mSt B m f1 [t4] ∧ t4.2.2.1 = 5 ∧ z.2.1.1 22 = i32 t4.1) ∨
       (z.1 = 0 ∧ b = true ∧ ∃ t4 ts4, cSt B m z.2.1.1 (t4 :: ts4) ∧ mSt B m f1 (t4 :: ts4) ∧ z.2.1.1 25 = 0 ∧ z.2.2.2 + ts4.length ≤ ts.length ∧ rw_ g1 T k z.2.2.1 ∧ ∀ q, q < k → ∀ r, rw_ g8 T q r → rw_ g1 T q r)) := by
  have h14 : f8 14 = i32 t.1 := hst8.1.1
  unfold q_part pX8_takesPart pX8_takesPart_0
  rw [ky0 hst.2.1 hst.1, hcode, isW hst8.2.1 hst8.1 (show k < 6 by omega)]
  simp only [Option.bind_some]
  cases hky : mc_ky t (i32 k)
  · refine ⟨(1, (f, g), [], 0), false, f8, g8, rfl, rfl, fr25.rf, Nat.zero_le _, rfl, ⟨fun _ _ _ _ _ _ _ _ => rfl, fun _ _ _ _ _ => rfl, fun _ => ⟨fun _ => ⟨rfl, rfl⟩, fun _ => rfl⟩⟩, Or.inl ⟨rfl, rfl, ?_⟩⟩
    show f 22 = f8 14
    rw [hst.1.1, h14]
  have hk1 := ky_k hky
  have e1 : ¬ (bz true = 0) := by decide
  rw [if_neg e1]
  unfold pX0_need pX0_need_0
  rw [if_neg e1]
  obtain ⟨f8a, a1, a2, a3⟩ := goOn8 hm hst8 (by omega) (by omega)
  rw [a1]
  simp only [Option.bind_some]
  have hfrom : ((480 : Int32) * i32 T) + ((160 : Int32) * i32 k) = i32 (480 * T + 160 * k) := by rw [show (480 : Int32) = i32 480 from rfl, show (160 : Int32) = i32 160 from rfl, i32_mulN, i32_mulN, i32_add]
  have h3k : ((3 : Int32) * i32 T) + i32 k = i32 (3 * T + k) := by rw [show (3 : Int32) = i32 3 from rfl, i32_mulN, i32_add]
  rw [hfrom, h3k]
  cases ts with
  | nil => exact a3.elim
  | cons t2 ts2 =>
    have hlen2 : ts2.length + 1 ≤ 160 := hlen
    -- the twin
    have hm8 := hm.w (T := T) a2.w
    have hR : mc_R f8a g8 (480 * T + 160 * k) [] [] (upd (upd (upd f8a 20 (i32 (480 * T + 160 * k))) 19 0) 18 0) g8 := by
      refine ⟨⟨fun k k1 k2 k3 k4 k5 k6 k7 => ?_, fun _ _ _ _ => rfl, fun _ _ => ⟨rfl, rfl⟩⟩, ⟨?_, fun i x hx => ?_, fun x hx => ?_⟩, ⟨?_, trivial, ?_, fun x hx => ?_⟩⟩
      · rw [upd_n k5, upd_n k6, upd_n k7]
      · rw [upd_n (by decide), upd_n (by decide), upd_e]; rfl
      · cases i <;> cases hx
      · cases hx
      · rw [upd_n (by decide), upd_e]; rfl
      · rw [upd_e]; rfl
      · cases hx
    have hst8b : mSt B m (upd (upd (upd f8a 20 (i32 (480 * T + 160 * k))) 19 0) 18 0) (t2 :: ts2) := (((kp.u (by omega)).tr (kp.u (by omega))).tr (kp.u (by omega))).st a3
    obtain ⟨f8b, g8b, E1, ⟨o1, S1, E2⟩, E3, E4⟩ := takesE8 (fr := 480 * T + 160 * k) (by omega) hm8 ts2 t2 [] [] true true _ g8 5000 hst8b hR (by show 0 + 0 + ts2.length ≤ 160; omega) (by decide) (by omega)
    have E1' : pX8_takesE f8a g8 (i32 (480 * T + 160 * k)) = some (i32 (mc_run (t2 :: ts2) [] [] true true).1, f8b, g8b) := E1
    rw [E1']
    simp only [Option.bind_some]
    have hW1 : tW T f8 g8 f8b g8b := (tW.tr a2.w E2.w)
    -- the component
    obtain ⟨fa, n1, n2⟩ := next0 hc hst (by omega)
    rcases n2 with ⟨n3, n4⟩ | ⟨t3, d1, d2, d3, d4⟩
    case inr =>
      rw [d3]
      simp only [Option.bind_some]
      rw [if_neg (show ¬ (1 : Int32) = 0 by decide)]
      have ht23 : t2 = t3 ∧ ts2 = [] := by
        injection d1 with d1 d5
        exact ⟨d1, d5⟩
      obtain ⟨rfl, rfl⟩ := ht23
      rw [mc_bad d2] at E3 ⊢
      refine ⟨(1, (fa, g), [], 0), false, f8b, g8b, rfl, rfl, n1.to, Nat.zero_le _, rfl, hW1, Or.inl ⟨rfl, rfl, ?_⟩⟩
      show fa 22 = f8b 14
      rw [d4, E3.1.1]
    rw [n3]
    simp only [Option.bind_some, if_true]
    obtain ⟨z, z1, z2, z3, z4⟩ := dall (B := B) (m := m) 60 0 (by omega) t2 ts2 [] [] true fa g (ct.fr hc n1) n4 (by rw [n1 25 (by decide) (by decide) (by decide) (by decide), h25]; rfl) (by decide) (by decide) (fun _ => rfl) (fun q => by omega) (by omega) (by decide)
    rw [z1]
    simp only [Option.bind_some]
    rcases z4 with ⟨z0, t3, ts3, X, b1, b2, b3, b4, b5, b6, b7, b8⟩ | ⟨z0, b1, t3, ts3, b2, b3⟩
    case inr =>
      rw [if_neg (by rw [z0]; decide)]
      rw [b2] at E3 ⊢
      refine ⟨(1, z.2.1, [], z.2.2.2), false, f8b, g8b, rfl, z2, n1.to.tr z3, by show z.2.2.2 ≤ ts2.length + 1 + 1; omega, rfl, hW1, Or.inl ⟨rfl, rfl, ?_⟩⟩
      show z.2.1.1 22 = f8b 14
      rw [b3, E3.1.1]
    rw [if_pos z0, sg0 b1.2.1 b1.1]
    simp only [Option.bind_some]
    have b7' : mc_st 1 X.2 X.1 = (z.2.2.1, []) := b7
    rw [b6] at E3 E4 ⊢
    cases h59 : mc_sg t3 59
    · have hstuck : mc_run (t3 :: ts3) X.1 X.2 false false = (0, [], t3 :: ts3) := run_stuck b8 (fun q => by rw [h59] at q; cases q.1) (fun q => by rw [b7'] at q; cases q.2)
      rw [hstuck] at E3 ⊢
      refine ⟨(1, z.2.1, [], z.2.2.2), false, f8b, g8b, rfl, z2, n1.to.tr z3, by show z.2.2.2 ≤ ts2.length + 1 + 1; omega, rfl, hW1, Or.inl ⟨rfl, rfl, ?_⟩⟩
      show z.2.1.1 22 = f8b 14
      rw [b1.1.1, E3.1.1]
    have hacc : mc_run (t3 :: ts3) X.1 X.2 false false = (1, z.2.2.1, t3 :: ts3) := by
      rw [mc_run, if_pos (Or.inl h59), if_pos ⟨by rw [b7'], h59⟩, b7']
    rw [hacc] at E3 E4 ⊢
    have hR2 : mc_R f8a g8 (480 * T + 160 * k) z.2.2.1 [] f8b g8b := E4.elim (fun q => by cases q) (fun q => q.2)
    rw [if_neg e1, if_neg (show ¬ i32 1 = 0 by decide), if_pos (gin_i (show 3 * T + k < 18 by omega) (by omega)), i32_cl (by omega), hR2.2.1.1]
    have hmany : i32 (480 * T + 160 * k + z.2.2.1.length) - i32 (480 * T + 160 * k) = i32 z.2.2.1.length := by
      rw [i32_subN (by omega) (by omega), Nat.add_sub_cancel_left]
    rw [hmany]
    have hk3 := sg_k h59
    have hmB : mt B m f8b (va_up g8b 24 (upd (g8b 24) (3 * T + k) (i32 z.2.2.1.length))) := ⟨(hm.w hW1).1, fun i hi => by rw [va_up_ne _ _ (by decide)]; exact (hm.w hW1).2 i hi⟩
    obtain ⟨f8c, g1, g2, g3⟩ := goOn8 hmB E3 (by omega) (by omega)
    rw [g1]
    have hW2 : tW T f8b g8b f8c (va_up g8b 24 (upd (g8b 24) (3 * T + k) (i32 z.2.2.1.length))) := by
      refine ⟨fun k k1 k2 k3 k4 _ _ _ => g2 k k1 k2 k3 k4, fun k k1 k2 k3 k4 => va_up_ne _ _ k3, fun i => ⟨fun _ => ⟨by rw [va_up_ne _ _ (by decide)], by rw [va_up_ne _ _ (by decide)]⟩, fun hi => by rw [va_up_self, upd_n (by omega)]⟩⟩
    have hrow : rw_ (va_up g8b 24 (upd (g8b 24) (3 * T + k) (i32 z.2.2.1.length))) T k z.2.2.1 := by
      refine ⟨by omega, by rw [va_up_self, upd_e], fun i x hx => ?_, hR2.2.1.2.2⟩
      rw [va_up_ne _ _ (show 22 ≠ 24 by decide), va_up_ne _ _ (show 23 ≠ 24 by decide)]
      exact hR2.2.1.2.1 i x hx
    have hold : ∀ q, q < k → ∀ r, rw_ g8 T q r → rw_ (va_up g8b 24 (upd (g8b 24) (3 * T + k) (i32 z.2.2.1.length))) T q r := by
      intro q hq r hr
      refine ⟨hr.1, ?_, fun i x hx => ?_, hr.2.2.2⟩
      · rw [va_up_self, upd_n (by omega), hR2.1.2.1 24 (by decide) (by decide) (by decide)]; exact hr.2.1
      · have hi : i < 160 := by
          have := (List.getElem?_eq_some_iff.mp hx).1
          have := hr.1
          omega
        rw [va_up_ne _ _ (show 22 ≠ 24 by decide), va_up_ne _ _ (show 23 ≠ 24 by decide), (hR2.1.2.2 (480 * T + 160 * q + i) (Or.inl (by omega))).1, (hR2.1.2.2 (480 * T + 160 * q + i) (Or.inl (by omega))).2]
        exact hr.2.2.1 i x hx
    rw [z2]
    obtain ⟨fb, p1, p2⟩ := next0 (ct.fr5 (ct.fr hc n1) z3) b1 (by omega)
    have hb25 : fb 25 = 0 := by rw [p1 25 (by decide) (by decide) (by decide) (by decide), b2, n1 25 (by decide) (by decide) (by decide) (by decide), h25]
    rcases p2 with ⟨p3, p4⟩ | ⟨t4, d1, d2, d3, d4⟩
    · rw [p3]
      simp only [Option.bind_some, if_true]
      cases ts3 with
      | nil => exact p4.elim
      | cons t4 ts4 =>
        have b3 : z.2.2.2 + (ts4.length + 1) ≤ ts2.length := b3
        refine ⟨(0, (fb, g), z.2.2.1, z.2.2.2), true, f8c, _, rfl, rfl, (n1.to.tr z3).tr p1.to, by show z.2.2.2 ≤ ts2.length + 1 + 1; omega, rfl, hW1.tr hW2, Or.inr (Or.inr ⟨rfl, rfl, t4, ts4, p4, g3, hb25, by show z.2.2.2 + ts4.length ≤ ts2.length + 1; omega, hrow, hold⟩)⟩
    · rw [d3]
      simp only [Option.bind_some]
      rw [if_neg (show ¬ (1 : Int32) = 0 by decide)]
      refine ⟨(1, (fb, g), [], z.2.2.2), true, f8c, _, rfl, rfl, (n1.to.tr z3).tr p1.to, by show z.2.2.2 ≤ ts2.length + 1 + 1; omega, rfl, hW1.tr hW2, Or.inr (Or.inl ⟨rfl, rfl, t4, by rw [← d1]; exact g3, d2, d4⟩)⟩

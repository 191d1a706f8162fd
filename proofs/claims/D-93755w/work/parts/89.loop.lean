/-! takesSign and the loop (mine) -/
theorem mc_o_c (t : tK) : mc_o t = 0 ∨ mc_o t = 2 ∨ mc_o t = 3 ∨ mc_o t = 5 ∨ mc_o t = 6 ∨ mc_o t = 7 ∨ mc_o t = 8 ∨ mc_o t = 9 := by
  unfold mc_o
  repeat' split
  all_goals simp
theorem sgn_98 {f : xF} {g : xG} {t : tK} (ht : tkv t) (hf : mAt t f) : pX8_takesSign f g = pX8_takesSign_98 f g (if mc_o t = 0 then -1 else i32 (mc_o t)) := by
  have h42 : (f 15 = 42) ↔ mc_sg t 42 = true := by rw [hf.2.1]; exact tk_c ht (by decide)
  have h43 : (f 15 = 43) ↔ mc_sg t 43 = true := by rw [hf.2.1]; exact tk_c ht (by decide)
  have h45 : (f 15 = 45) ↔ mc_sg t 45 = true := by rw [hf.2.1]; exact tk_c ht (by decide)
  have h60 : (f 15 = 60) ↔ mc_sg t 60 = true := by rw [hf.2.1]; exact tk_c ht (by decide)
  have h61 : (f 15 = 61) ↔ mc_sg t 61 = true := by rw [hf.2.1]; exact tk_c ht (by decide)
  have w4 : pX8_isWord f g 1476 = some (bz (mc_ky t 4)) := isW (q := 4) ht hf (by decide)
  have w3 : pX8_isWord f g 498 = some (bz (mc_ky t 3)) := isW (q := 3) ht hf (by decide)
  unfold pX8_takesSign pX8_takesSign_0 mc_o
  rw [w4, w3]
  simp only [h42, h43, h45, h60, h61, Option.bind_some, bz_0]
  have e9 : i32 9 = (9 : Int32) := rfl
  have e7 : i32 7 = (7 : Int32) := rfl
  have e8 : i32 8 = (8 : Int32) := rfl
  have e5 : i32 5 = (5 : Int32) := rfl
  have e6 : i32 6 = (6 : Int32) := rfl
  have e3 : i32 3 = (3 : Int32) := rfl
  have e2 : i32 2 = (2 : Int32) := rfl
  cases mc_sg t 42
  case true => simp [e9]
  cases mc_sg t 43
  case true => simp [e7]
  cases mc_sg t 45
  case true => simp [e8]
  cases mc_sg t 60
  case true => simp [e5]
  cases mc_sg t 61
  case true => simp [e6]
  cases mc_ky t 4
  case true => simp [e3]
  cases mc_ky t 3
  case true => simp [e2]
  simp
theorem top8 {F : xF} {G : xG} {fr : Nat} {out : xR} {S : List Nat} {f : xF} {g : xG} (h : mc_R F G fr out S f g) (hl : S.length ≤ 160) : ∃ v, pX8_top f g = some v ∧ pX8_strength f g v = some (i32 (mc_top S)) ∧ ((v = 20) ↔ S.head? = some 20) := by
  obtain ⟨_, _, ⟨c1, c2, c3, c4⟩⟩ := h
  unfold pX8_top pX8_top_0 pX8_top_22
  cases S with
  | nil =>
    refine ⟨-1, ?_, rfl, ?_⟩
    · rw [c1, if_pos (by decide)]
    · exact ⟨fun q => by (exact absurd q (by decide)), fun q => by (cases q)⟩
  | cons s S =>
    have hl : S.length + 1 ≤ 160 := hl
    have c1 : f 19 = i32 (S.length + 1) := c1
    have hs20 : s ≤ 20 := c4 s (List.mem_cons_self ..)
    refine ⟨i32 s, ?_, str8 hs20, ?_⟩
    · have e1 : f 19 - 1 = i32 S.length := by
        rw [c1, show (1 : Int32) = i32 1 from rfl, i32_subN (by omega) (by omega), Nat.add_sub_cancel]
      rw [if_neg (by rw [c1, show (0 : Int32) = i32 0 from rfl, i32_le (by omega) (by omega)]; omega), e1, if_pos (gin_i (by omega) (by omega)), i32_cl (by omega), c2.1]
    · rw [show (20 : Int32) = i32 20 from rfl, i32_inj (by omega) (by omega)]
      show _ ↔ some s = some 20
      exact ⟨fun q => by rw [q], fun q => Option.some.inj q⟩
theorem mc_op_le {k : Nat} : ∀ (S : List Nat) (out : xR), mc_op (mc_st k S out).2 ≤ mc_op S := by
  intro S
  induction S with
  | nil => intro out; exact Nat.le_refl _
  | cons s S ih =>
    intro out
    by_cases c : k ≤ mc_str s
    · rw [mc_pop c]
      have := ih (out ++ [(s, 0)])
      show _ ≤ (if _ then 1 else 0) + mc_op S
      omega
    · have : mc_st k (s :: S) out = (out, s :: S) := if_neg c
      rw [this]; exact Nat.le_refl _
theorem sgn_push {F : xF} {G : xG} {fr o : Nat} {out : xR} {S : List Nat} {f : xF} {g : xG} (h : mc_R F G fr out S f g) (hl : S.length ≤ 160) (ho : o = 2 ∨ o = 3 ∨ o = 5 ∨ o = 6 ∨ o = 7 ∨ o = 8 ∨ o = 9) : ∃ f1 g1, pX8_takesSign_152 f g (i32 o) = some (1, f1, g1) ∧ mc_R F G fr out (o :: S) f1 g1 ∧ kp f f1 := by
  obtain ⟨f1, g1, p1, p2, p3, p4, _⟩ := push8 (s := o) h hl (by omega)
  refine ⟨f1, g1, ?_, p4 ?_, p2⟩
  · unfold pX8_takesSign_152
    rw [p1]; rfl
  · rw [h.2.2.2.2.1]
    show _ = i32 ((if o = 4 ∨ o = 10 ∨ o = 20 then 1 else 0) + mc_op S)
    rw [if_neg (by omega), Nat.zero_add]
theorem sign_op {F : xF} {G : xG} {fr : Nat} {out : xR} {S : List Nat} {f : xF} {g : xG} {t : tK} (hfr : fr ≤ 2720) (ht : tkv t) (hf : mAt t f) (h : mc_R F G fr out S f g) (hl : out.length + S.length ≤ 159) (h0 : ¬ mc_o t = 0) (h56 : ¬ (mc_o t = 5 ∨ mc_o t = 6)) : ∃ f1 g1, pX8_takesSign f g = some (1, f1, g1) ∧ mc_R F G fr (mc_st (mc_str (mc_o t)) S out).1 (mc_o t :: (mc_st (mc_str (mc_o t)) S out).2) f1 g1 ∧ kp f f1 := by
  have hc := mc_o_c t
  have hstr : 1 ≤ mc_str (mc_o t) ∧ mc_str (mc_o t) ≤ 7 := by
    have : mc_o t = 2 ∨ mc_o t = 3 ∨ mc_o t = 7 ∨ mc_o t = 8 ∨ mc_o t = 9 := by omega
    rcases this with q | q | q | q | q <;> (rw [q]; decide)
  obtain ⟨f1, g1, p1, p2, p3⟩ := settleE (k := mc_str (mc_o t)) hfr hstr.1 hstr.2 h (by omega)
  have hlen := mc_len (k := mc_str (mc_o t)) S out
  obtain ⟨f2, g2, q1, q2, q3⟩ := sgn_push (o := mc_o t) p2 (by omega) (by omega)
  refine ⟨f2, g2, ?_, q2, p3.tr q3⟩
  have z5 : (i32 (mc_o t) = 5) ↔ mc_o t = 5 := i32_inj (m := 5) (by omega) (by omega)
  have z6 : (i32 (mc_o t) = 6) ↔ mc_o t = 6 := i32_inj (m := 6) (by omega) (by omega)
  rw [sgn_98 ht hf, if_neg h0]
  unfold pX8_takesSign_98 pX8_takesSign_115 pX8_takesSign_124
  rw [if_neg (by rw [show (0 : Int32) = i32 0 from rfl, i32_lt (by omega) (by omega)]; omega), if_neg (fun q => h56 (Or.inl (z5.mp q))), if_neg (fun q => h56 (Or.inr (z6.mp q))), str8 (by omega)]
  simp only [Option.bind_some]
  rw [p1]
  simp only [Option.bind_some]
  rw [if_neg (fun q => h56 (Or.inl (z5.mp q))), if_neg (fun q => h56 (Or.inr (z6.mp q))), q1]
theorem sign_cmp {F : xF} {G : xG} {fr : Nat} {out : xR} {S : List Nat} {f : xF} {g : xG} {t : tK} (hfr : fr ≤ 2720) (ht : tkv t) (hf : mAt t f) (h : mc_R F G fr out S f g) (hl : out.length + S.length ≤ 159) (h56 : mc_o t = 5 ∨ mc_o t = 6) : (mc_top (mc_st 5 S out).2 = 4 ∧ ∃ f1 g1, pX8_takesSign f g = some (0, f1, g1) ∧ mc_R F G fr (mc_st 5 S out).1 (mc_st 5 S out).2 f1 g1 ∧ kp f f1) ∨ (¬ mc_top (mc_st 5 S out).2 = 4 ∧ ∃ f1 g1, pX8_takesSign f g = some (1, f1, g1) ∧ mc_R F G fr (mc_st 5 S out).1 (mc_o t :: (mc_st 5 S out).2) f1 g1 ∧ kp f f1) := by
  obtain ⟨f1, g1, p1, p2, p3⟩ := settleE (k := 5) hfr (by omega) (by omega) h (by omega)
  have hlen := mc_len (k := 5) S out
  obtain ⟨v, v1, v2, _⟩ := top8 p2 (by omega)
  have z5 : (i32 (mc_o t) = 5) ↔ mc_o t = 5 := i32_inj (m := 5) (by omega) (by omega)
  have z6 : (i32 (mc_o t) = 6) ↔ mc_o t = 6 := i32_inj (m := 6) (by omega) (by omega)
  have htop : mc_top (mc_st 5 S out).2 ≤ 7 := by
    cases (mc_st 5 S out).2 with
    | nil => exact Nat.zero_le _
    | cons s L => show mc_str s ≤ 7; unfold mc_str; repeat' split
                  all_goals omega
  have z4 : (i32 (mc_top (mc_st 5 S out).2) = 4) ↔ mc_top (mc_st 5 S out).2 = 4 := i32_inj (m := 4) (by omega) (by omega)
  have e : pX8_takesSign f g = if i32 (mc_top (mc_st 5 S out).2) = 4 then some (0, f1, g1) else pX8_takesSign_152 f1 g1 (i32 (mc_o t)) := by
    rw [sgn_98 ht hf, if_neg (by omega)]
    have e1 : pX8_takesSign_98 f g (i32 (mc_o t)) = pX8_takesSign_124 f g (i32 (mc_o t)) 5 := by
      unfold pX8_takesSign_98 pX8_takesSign_115
      rw [if_neg (by rw [show (0 : Int32) = i32 0 from rfl, i32_lt (by omega) (by omega)]; omega)]
      rcases h56 with q | q
      · rw [if_pos (z5.mpr q)]
      · rw [if_neg (fun r => by have := z5.mp r; omega), if_pos (z6.mpr q)]
    rw [e1]
    unfold pX8_takesSign_124 pX8_takesSign_138
    rw [show (5 : Int32) = i32 5 from rfl, p1]
    simp only [Option.bind_some]
    rw [v1]
    simp only [Option.bind_some]
    rw [v2]
    simp only [Option.bind_some]
    rcases h56 with q | q
    · rw [if_pos (by rw [q])]
    · rw [if_neg (by rw [q]; decide), if_pos (z6.mpr q)]
  by_cases c : mc_top (mc_st 5 S out).2 = 4
  · exact Or.inl ⟨c, f1, g1, by rw [e, if_pos (z4.mpr c)], p2, p3⟩
  · obtain ⟨f2, g2, q1, q2, q3⟩ := sgn_push (o := mc_o t) p2 (by omega) (by omega)
    exact Or.inr ⟨c, f2, g2, by rw [e, if_neg (fun q => c (z4.mp q)), q1], q2, p3.tr q3⟩
theorem pop20 {F : xF} {G : xG} {fr : Nat} {out : xR} {S : List Nat} {f : xF} {g : xG} (h : mc_R F G fr out (20 :: S) f g) (hl : S.length ≤ 160) : mc_R F G fr out S (upd (upd f 19 (f 19 - 1)) 18 ((upd f 19 (f 19 - 1)) 18 - 1)) g := by
  obtain ⟨⟨a1, a2, a3⟩, ⟨b1, b2, b3⟩, ⟨c1, c2, c3, c4⟩⟩ := h
  have c1 : f 19 = i32 (S.length + 1) := c1
  have c3 : f 18 = i32 (1 + mc_op S) := c3
  have hop : ∀ L : List Nat, mc_op L ≤ L.length := by
    intro L
    induction L with
    | nil => exact Nat.le_refl _
    | cons x L ih => show (if _ then 1 else 0) + mc_op L ≤ L.length + 1; split <;> omega
  have := hop S
  refine ⟨⟨fun k k1 k2 k3 k4 k5 k6 k7 => ?_, a2, a3⟩, ⟨?_, b2, b3⟩, ⟨?_, c2.2, ?_, fun x hx => c4 x (List.mem_cons_of_mem _ hx)⟩⟩
  · rw [upd_n k5, upd_n k6]; exact a1 k k1 k2 k3 k4 k5 k6 k7
  · rw [upd_n (by decide), upd_n (by decide)]; exact b1
  · rw [upd_n (by decide), upd_e, c1, show (1 : Int32) = i32 1 from rfl, i32_subN (by omega) (by omega), Nat.add_sub_cancel]
  · rw [upd_e, upd_n (by decide), c3, show (1 : Int32) = i32 1 from rfl, i32_subN (by omega) (by omega), Nat.add_sub_cancel_left]
theorem sign_41 {F : xF} {G : xG} {fr : Nat} {out : xR} {S : List Nat} {f : xF} {g : xG} {t : tK} (hfr : fr ≤ 2720) (ht : tkv t) (hf : mAt t f) (h : mc_R F G fr out S f g) (hl : out.length + S.length ≤ 159) (h0 : mc_o t = 0) : (mc_sg t 41 = true ∧ (mc_st 1 S out).2.head? = some 20 ∧ ∃ f1 g1, pX8_takesSign f g = some (2, f1, g1) ∧ mc_R F G fr (mc_st 7 (mc_st 1 S out).2.tail (mc_st 1 S out).1).1 (mc_st 7 (mc_st 1 S out).2.tail (mc_st 1 S out).1).2 f1 g1 ∧ kp f f1) ∨ (¬ (mc_sg t 41 = true ∧ (mc_st 1 S out).2.head? = some 20) ∧ ∃ f1 g1 out1 S1, pX8_takesSign f g = some (0, f1, g1) ∧ mc_R F G fr out1 S1 f1 g1 ∧ kp f f1) := by
  have h41 : (f 15 = 41) ↔ mc_sg t 41 = true := by rw [hf.2.1]; exact tk_c ht (by decide)
  rw [sgn_98 ht hf, if_pos h0]
  unfold pX8_takesSign_98
  rw [if_pos (by decide)]
  by_cases c : mc_sg t 41 = true
  case neg =>
    rw [if_neg (fun q => c (h41.mp q))]
    exact Or.inr ⟨fun q => c q.1, f, g, out, S, rfl, h, kp.rf⟩
  rw [if_pos (h41.mpr c)]
  obtain ⟨f1, g1, p1, p2, p3⟩ := settleE (k := 1) hfr (by omega) (by omega) h (by omega)
  have hlen := mc_len (k := 1) S out
  obtain ⟨v, v1, v2, v3⟩ := top8 p2 (by omega)
  rw [show (1 : Int32) = i32 1 from rfl, p1]
  simp only [Option.bind_some]
  rw [v1]
  simp only [Option.bind_some]
  by_cases c2 : (mc_st 1 S out).2.head? = some 20
  · rw [if_pos (v3.mpr c2)]
    have e : (mc_st 1 S out).2 = 20 :: (mc_st 1 S out).2.tail := by
      generalize (mc_st 1 S out).2 = L at c2
      cases L with
      | nil => cases c2
      | cons x L => have := Option.some.inj c2; rw [this]; rfl
    have hlt : (mc_st 1 S out).2.length = (mc_st 1 S out).2.tail.length + 1 := congrArg List.length e
    rw [e] at p2
    have p4 := pop20 p2 (by omega)
    obtain ⟨f2, g2, q1, q2, q3⟩ := settleE (k := 7) hfr (by omega) (by omega) p4 (by omega)
    refine Or.inl ⟨c, c2, f2, g2, ?_, q2, (p3.tr ((kp.u (by omega)).tr (kp.u (by omega)))).tr q3⟩
    rw [show i32 1 = (1 : Int32) from rfl, show (7 : Int32) = i32 7 from rfl, q1]
    rfl
  · rw [if_neg (fun q => c2 (v3.mp q))]
    exact Or.inr ⟨fun q => c2 q.2, f1, g1, _, _, rfl, p2, p3⟩
/-- takesE, sign by sign -/
theorem takesE8 {B : Nat → Int32} {m : Nat} {F : xF} {G : xG} {fr : Nat} (hfr : fr ≤ 2720) (hm : mt B m F G) : ∀ (ts : List tK) (t : tK) (out : xR) (S : List Nat) (w mn : Bool) (f : xF) (g : xG) (K : Nat), mSt B m f (t :: ts) → mc_R F G fr out S f g → out.length + S.length + ts.length ≤ 160 → mc_op S ≤ 5 → ts.length < K →
    ∃ f1 g1, pX8_takesE_19 K f g (bz w) (bz mn) = some (i32 (mc_run (t :: ts) out S w mn).1, f1, g1) ∧ (∃ out1 S1, mc_R F G fr out1 S1 f1 g1) ∧ mSt B m f1 (mc_run (t :: ts) out S w mn).2.2 ∧ ((mc_run (t :: ts) out S w mn).1 = 0 ∨ ((mc_run (t :: ts) out S w mn).1 = 1 ∧ mc_R F G fr (mc_run (t :: ts) out S w mn).2.1 [] f1 g1)) := by
  intro ts
  induction ts with
  | nil =>
    intro t out S w mn f g K hst hR hl ho hK
    obtain ⟨q, rfl⟩ : ∃ q, K = q + 1 := ⟨K - 1, by omega⟩
    obtain ⟨hf, ht, he⟩ := hst
    have hk : t.2.2.1 = 0 ∨ t.2.2.1 = 5 := by
      by_cases c : t.2.2.1 = 0 ∨ t.2.2.1 = 5
      · exact c
      · rw [if_neg c] at he; exact he.2.2.elim
    have hkk := tk_k ht
    have n41 : ¬ f 15 = 41 := by rw [hf.2.1, tk_c ht (by decide)]; unfold mc_sg; rw [Bool.and_eq_true, decide_eq_true_eq]; exact fun q => by have := q.1; omega
    have n59 : ¬ f 15 = 59 := by rw [hf.2.1, tk_c ht (by decide)]; unfold mc_sg; rw [Bool.and_eq_true, decide_eq_true_eq]; exact fun q => by have := q.1; omega
    have nn : ¬ 0 ≤ f 15 := by rw [hf.2.1, hkk.2.2.1]; omega
    have s59 : ¬ mc_sg t 59 = true := by rw [← tk_c ht (by decide), ← hf.2.1]; exact n59
    have s45 : ¬ mc_sg t 45 = true := by unfold mc_sg; rw [Bool.and_eq_true, decide_eq_true_eq]; exact fun q => by have := q.1; omega
    have s40 : ¬ mc_sg t 40 = true := by unfold mc_sg; rw [Bool.and_eq_true, decide_eq_true_eq]; exact fun q => by have := q.1; omega
    have k5 : ¬ mc_ky t 5 = true := by unfold mc_ky; rw [Bool.and_eq_true, decide_eq_true_eq]; exact fun q => by have := q.1; omega
    have hst' : mSt B m f [t] := ⟨hf, ht, he⟩
    cases w with
    | true =>
      have er : mc_run [t] out S true mn = (0, [], [t]) := by
        unfold mc_run
        rw [if_neg (by omega), if_neg (by omega), if_neg s45, if_neg s40, if_neg (fun q => k5 q.1)]
      have n45 : ¬ f 15 = 45 := by rw [hf.2.1, tk_c ht (by decide)]; exact s45
      have n40 : ¬ f 15 = 40 := by rw [hf.2.1, tk_c ht (by decide)]; exact s40
      have e1 : pX8_takesOne f g (bz mn) = some (0, f, g) := by
        rw [one_75 ht hf (by omega) (by omega)]
        unfold pX8_takesOne_75
        rw [if_neg n45, if_neg n40, show pX8_isWord f g 14836 = some (bz (mc_ky t 5)) from isW (q := 5) ht hf (by decide)]
        cases hb : mc_ky t 5
        · rfl
        · exact absurd hb k5
      refine ⟨f, g, ?_, ⟨_, _, hR⟩, ?_, Or.inl ?_⟩
      · rw [pX8_takesE_19, if_neg (by decide), show bz true = (1 : Int32) from rfl, E_one _ ht hf, e1, er]; rfl
      · rw [er]; exact hst'
      · rw [er]
    | false =>
      obtain ⟨f1, g1, p1, p2, p3⟩ := settleE (k := 1) hfr (by omega) (by omega) hR (by show _ ≤ 160; simp at hl; omega)
      have er : mc_run [t] out S false mn = (0, [], [t]) := by
        unfold mc_run
        rw [if_pos (by omega), if_neg (fun q => s59 q.2)]
      refine ⟨f1, g1, ?_, ⟨_, _, p2⟩, ?_, Or.inl ?_⟩
      · rw [pX8_takesE_19, if_pos (show bz false = 0 from rfl), if_neg n41, if_neg n59, if_neg nn, er]
        unfold pX8_takesE_48 pX8_takesE_73 pX8_takesE_74
        rw [show (1 : Int32) = i32 1 from rfl, p1]
        simp only [Option.bind_some]
        rw [p3.2.1, if_neg n59]
        split <;> rfl
      · rw [er]; exact p3.st hst'
      · rw [er]
  | cons t2 ts ih =>
    intro t out S w mn f g K hst hR hl ho hK
    have hl : out.length + S.length + (ts.length + 1) ≤ 160 := hl
    have hK : ts.length + 1 < K := hK
    obtain ⟨q, rfl⟩ : ∃ q, K = q + 1 := ⟨K - 1, by omega⟩
    have hst' := hst
    obtain ⟨hf, ht, he⟩ := hst
    have hk0 : ¬ t.2.2.1 = 0 ∧ ¬ t.2.2.1 = 5 := by
      by_cases c : t.2.2.1 = 0 ∨ t.2.2.1 = 5
      · rw [if_pos c] at he; cases he
      · omega
    have hkk := tk_k ht
    -- one step on
    have step : ∀ (f1 : xF) (g1 : xG) (out1 : xR) (S1 : List Nat) (w1 mn1 : Bool), kp f f1 → mc_R F G fr out1 S1 f1 g1 → out1.length + S1.length ≤ out.length + S.length + 1 → mc_op S1 ≤ 5 →
        ∃ f2 g2, ((pX8_goOn f1 g1).bind (fun r => pX8_takesE_19 q r.1 r.2 (bz w1) (bz mn1))) = some (i32 (mc_run (t2 :: ts) out1 S1 w1 mn1).1, f2, g2) ∧ (∃ out1 S1, mc_R F G fr out1 S1 f2 g2) ∧ mSt B m f2 (mc_run (t2 :: ts) out1 S1 w1 mn1).2.2 ∧ ((mc_run (t2 :: ts) out1 S1 w1 mn1).1 = 0 ∨ ((mc_run (t2 :: ts) out1 S1 w1 mn1).1 = 1 ∧ mc_R F G fr (mc_run (t2 :: ts) out1 S1 w1 mn1).2.1 [] f2 g2)) := by
      intro f1 g1 out1 S1 w1 mn1 hkp hR1 hl1 ho1
      obtain ⟨f2, e1, e2, e3⟩ := goOn8 (hR1.mt hm) (hkp.st hst') hk0.1 hk0.2
      rw [e1]
      exact ih t2 out1 S1 w1 mn1 f2 g1 q e3 (hR1.fr8 e2) (by omega) ho1 (by omega)
    have fail : ∀ (f1 : xF) (g1 : xG) (out1 : xR) (S1 : List Nat), kp f f1 → mc_R F G fr out1 S1 f1 g1 → ∃ f2 g2, (some (0, f1, g1) : Option (Int32 × xF × xG)) = some (i32 0, f2, g2) ∧ (∃ out1 S1, mc_R F G fr out1 S1 f2 g2) ∧ mSt B m f2 (t :: t2 :: ts) ∧ ((0 : Nat) = 0 ∨ ((0 : Nat) = 1 ∧ mc_R F G fr [] [] f2 g2)) := fun f1 g1 out1 S1 hkp h1 => ⟨f1, g1, rfl, ⟨_, _, h1⟩, hkp.st hst', Or.inl rfl⟩
    cases w with
    | true =>
      rw [pX8_takesE_19, if_neg (by decide), show bz true = (1 : Int32) from rfl, E_one _ ht hf]
      unfold mc_run
      by_cases c3 : t.2.2.1 = 3
      · rw [if_pos c3]
        obtain ⟨f1, g1, p1, p2, p3⟩ := one_3 (mn := mn) hfr ht hf hR (by omega) c3
        have hlen := mc_len (k := 7) S (out ++ [(0, t.2.2.2)])
        rw [List.length_append, show ([(0, t.2.2.2)] : xR).length = 1 from rfl] at hlen
        have hop := mc_op_le (k := 7) S (out ++ [(0, t.2.2.2)])
        have := step f1 g1 _ _ false false p3 p2 (by omega) (by omega)
        rw [p1]
        have hmn : (mc_ky t 5 || mc_sg t 40) = false := by unfold mc_ky mc_sg; rw [decide_eq_false (show ¬ t.2.2.1 = 1 by omega), decide_eq_false (show ¬ t.2.2.1 = 4 by omega)]; rfl
        rw [hmn]
        exact this
      rw [if_neg c3]
      by_cases c2 : t.2.2.1 = 2
      · rw [if_pos c2]
        obtain ⟨f1, g1, p1, p2, p3⟩ := one_2 (mn := mn) hfr ht hf hR (by omega) c2
        have hlen := mc_len (k := 7) S (out ++ [(1, t.2.2.2)])
        rw [List.length_append, show ([(1, t.2.2.2)] : xR).length = 1 from rfl] at hlen
        have hop := mc_op_le (k := 7) S (out ++ [(1, t.2.2.2)])
        have := step f1 g1 _ _ false false p3 p2 (by omega) (by omega)
        rw [p1]
        have hmn : (mc_ky t 5 || mc_sg t 40) = false := by unfold mc_ky mc_sg; rw [decide_eq_false (show ¬ t.2.2.1 = 1 by omega), decide_eq_false (show ¬ t.2.2.1 = 4 by omega)]; rfl
        rw [hmn]
        exact this
      rw [if_neg c2, one_75 ht hf c3 c2]
      unfold pX8_takesOne_75
      have h45 : (f 15 = 45) ↔ mc_sg t 45 = true := by rw [hf.2.1]; exact tk_c ht (by decide)
      have h40 : (f 15 = 40) ↔ mc_sg t 40 = true := by rw [hf.2.1]; exact tk_c ht (by decide)
      have w5 : pX8_isWord f g 14836 = some (bz (mc_ky t 5)) := isW (q := 5) ht hf (by decide)
      by_cases c45 : mc_sg t 45 = true
      · rw [if_pos c45, if_pos (h45.mpr c45)]
        have k4 : t.2.2.1 = 4 ∧ t.2.2.2 = 45 := by unfold mc_sg at c45; rw [Bool.and_eq_true, decide_eq_true_eq, decide_eq_true_eq] at c45; exact c45
        have hmn : (mc_ky t 5 || mc_sg t 40) = false := by
          unfold mc_ky mc_sg
          rw [decide_eq_false (show ¬ t.2.2.1 = 1 by omega), k4.2, k4.1]; rfl
        rcases opens8 (s := 10) hR (by omega) (Or.inr (Or.inl rfl)) ho with ⟨o1, o2⟩ | ⟨o1, f1, g1, o2, o3, o4⟩
        · rw [if_pos o1, show (10 : Int32) = i32 10 from rfl, o2]
          exact fail f g _ _ kp.rf hR
        · rw [if_neg o1, show (10 : Int32) = i32 10 from rfl, o2, hmn]
          have hop : mc_op (10 :: S) = 1 + mc_op S := rfl
          exact step f1 g1 _ _ true false o4 o3 (by show out.length + (S.length + 1) ≤ _; omega) (by omega)
      rw [if_neg c45, if_neg (fun q => c45 (h45.mp q))]
      by_cases c40 : mc_sg t 40 = true
      · rw [if_pos c40, if_pos (h40.mpr c40)]
        have hmn : (mc_ky t 5 || mc_sg t 40) = true := by rw [c40, Bool.or_true]
        rcases opens8 (s := 20) hR (by omega) (Or.inr (Or.inr rfl)) ho with ⟨o1, o2⟩ | ⟨o1, f1, g1, o2, o3, o4⟩
        · rw [if_pos o1, show (20 : Int32) = i32 20 from rfl, o2]
          exact fail f g _ _ kp.rf hR
        · rw [if_neg o1, show (20 : Int32) = i32 20 from rfl, o2, hmn]
          have hop : mc_op (20 :: S) = 1 + mc_op S := rfl
          exact step f1 g1 _ _ true true o4 o3 (by show out.length + (S.length + 1) ≤ _; omega) (by omega)
      rw [if_neg c40, if_neg (fun q => c40 (h40.mp q)), w5]
      simp only [Option.bind_some]
      by_cases c5 : mc_ky t 5 = true ∧ mn = true
      · rw [if_pos c5, c5.1, c5.2, if_neg (by decide), if_neg (by decide)]
        have hmn : (true || mc_sg t 40) = true := rfl
        rcases opens8 (s := 4) hR (by omega) (Or.inl rfl) ho with ⟨o1, o2⟩ | ⟨o1, f1, g1, o2, o3, o4⟩
        · rw [if_pos o1, show (4 : Int32) = i32 4 from rfl, o2]
          exact fail f g _ _ kp.rf hR
        · rw [if_neg o1, show (4 : Int32) = i32 4 from rfl, o2, hmn]
          have hop : mc_op (4 :: S) = 1 + mc_op S := rfl
          exact step f1 g1 _ _ true true o4 o3 (by show out.length + (S.length + 1) ≤ _; omega) (by omega)
      · rw [if_neg c5]
        have : (if bz (mc_ky t 5) = 0 then pX8_takesOne_149 f g else if bz mn = 0 then pX8_takesOne_149 f g else (pX8_opens f g 4).bind (fun r139 => if r139.1 = 0 then pX8_takesOne_149 r139.2.1 r139.2.2 else pX8_takesOne_150 r139.2.1 r139.2.2 1)) = some (0, f, g) := by
          cases ha : mc_ky t 5
          · rfl
          · cases hb : mn
            · rfl
            · exact absurd ⟨ha, hb⟩ c5
        rw [this]
        exact fail f g _ _ kp.rf hR
    | false =>
      have h41 : (f 15 = 41) ↔ mc_sg t 41 = true := by rw [hf.2.1]; exact tk_c ht (by decide)
      have h59 : (f 15 = 59) ↔ mc_sg t 59 = true := by rw [hf.2.1]; exact tk_c ht (by decide)
      have nn : 0 ≤ f 15 := by rw [hf.2.1, hkk.2.2.1]; exact hk0
      unfold mc_run
      by_cases c59 : mc_sg t 59 = true
      · have n41 : ¬ f 15 = 41 := by rw [h59.mpr c59]; decide
        rw [if_pos (Or.inl c59), pX8_takesE_19, if_pos (show bz false = 0 from rfl), if_neg n41, if_pos (h59.mpr c59)]
        obtain ⟨f1, g1, p1, p2, p3⟩ := settleE (k := 1) hfr (by omega) (by omega) hR (by omega)
        unfold pX8_takesE_48 pX8_takesE_73 pX8_takesE_74
        rw [show (1 : Int32) = i32 1 from rfl, p1]
        simp only [Option.bind_some]
        have hlen := mc_len (k := 1) S out
        by_cases cS : (mc_st 1 S out).2 = []
        · have e19 : f1 19 = 0 := by rw [p2.2.2.1, cS]; rfl
          rw [if_pos e19, p3.2.1, if_pos (h59.mpr c59), if_pos (show (mc_st 1 S out).2 = [] ∧ mc_sg t 59 = true from ⟨cS, c59⟩)]
          rw [cS] at p2
          exact ⟨f1, g1, rfl, ⟨_, _, p2⟩, p3.st hst', Or.inr ⟨rfl, p2⟩⟩
        · have e19 : ¬ f1 19 = 0 := by
            rw [p2.2.2.1, show (0 : Int32) = i32 0 from rfl, i32_inj (by omega) (by omega)]
            exact fun q => cS (List.eq_nil_of_length_eq_zero q)
          rw [if_neg e19, if_neg (show ¬ ((mc_st 1 S out).2 = [] ∧ mc_sg t 59 = true) from fun q => cS q.1)]
          exact fail f1 g1 _ _ p3 p2
      · have e75 : pX8_takesE_19 (q + 1) f g (bz false) (bz mn) = pX8_takesE_75 (pX8_takesE_19 q) f g 0 (bz mn) := by
          rw [pX8_takesE_19, if_pos (show bz false = 0 from rfl)]
          by_cases c : f 15 = 41
          · rw [if_pos c]; rfl
          · rw [if_neg c, if_neg (fun q => c59 (h59.mp q)), if_pos nn]; rfl
        rw [if_neg (show ¬ (mc_sg t 59 = true ∨ t.2.2.1 = 0 ∨ t.2.2.1 = 5) from fun h => h.elim c59 (fun h => h.elim hk0.1 hk0.2)), e75, E_sgn _ ht hf]
        have hoc := mc_o_c t
        by_cases c0 : mc_o t = 0
        · rw [if_pos c0]
          rcases sign_41 hfr ht hf hR (by omega) c0 with ⟨s1, s2, f1, g1, s3, s4, s5⟩ | ⟨s1, f1, g1, o1, S1, s3, s4, s5⟩
          · rw [if_pos (show mc_sg t 41 = true ∧ (mc_st 1 S out).2.head? = some 20 from ⟨s1, s2⟩), s3]
            have hlen := mc_len (k := 1) S out
            have hlen2 := mc_len (k := 7) (mc_st 1 S out).2.tail (mc_st 1 S out).1
            have htl : (mc_st 1 S out).2.tail.length ≤ (mc_st 1 S out).2.length := by rw [List.length_tail]; omega
            have hop := mc_op_le (k := 1) S out
            have hop2 := mc_op_le (k := 7) (mc_st 1 S out).2.tail (mc_st 1 S out).1
            have hop3 : mc_op (mc_st 1 S out).2.tail ≤ mc_op (mc_st 1 S out).2 := by
              cases (mc_st 1 S out).2 with
              | nil => exact Nat.le_refl _
              | cons x L => show mc_op L ≤ (if _ then 1 else 0) + mc_op L; omega
            have k4 : t.2.2.1 = 4 := by unfold mc_sg at s1; rw [Bool.and_eq_true, decide_eq_true_eq] at s1; exact s1.1
            have := step f1 g1 _ _ false false s5 s4 (by omega) (by omega)
            have em : (if t.2.2.1 = 1 ∨ t.2.2.1 = 2 then (1 : Int32) else 0) = 0 := if_neg (by omega)
            rw [em]
            exact this
          · rw [if_neg s1, s3]
            exact fail f1 g1 _ _ s5 s4
        · rw [if_neg c0]
          by_cases c56 : mc_o t = 5 ∨ mc_o t = 6
          · rw [if_pos c56]
            have k4 : t.2.2.1 = 4 := by
              have : mc_sg t 60 = true ∨ mc_sg t 61 = true := by
                unfold mc_o at c56
                by_cases d1 : mc_sg t 60 = true
                · exact Or.inl d1
                · by_cases d2 : mc_sg t 61 = true
                  · exact Or.inr d2
                  · rw [if_neg d1, if_neg d2] at c56
                    exfalso
                    revert c56
                    repeat' split
                    all_goals decide
              rcases this with q | q <;> (unfold mc_sg at q; rw [Bool.and_eq_true, decide_eq_true_eq] at q; exact q.1)
            rcases sign_cmp hfr ht hf hR (by omega) c56 with ⟨s1, f1, g1, s3, s4, s5⟩ | ⟨s1, f1, g1, s3, s4, s5⟩
            · rw [if_pos s1, s3]
              exact fail f1 g1 _ _ s5 s4
            · rw [if_neg s1, s3]
              have hlen := mc_len (k := 5) S out
              have hop := mc_op_le (k := 5) S out
              have hop2 : mc_op (mc_o t :: (mc_st 5 S out).2) = mc_op (mc_st 5 S out).2 := by
                show (if _ then 1 else 0) + _ = _
                rw [if_neg (by omega), Nat.zero_add]
              have := step f1 g1 _ _ true false s5 s4 (by show _ + (_ + 1) ≤ _; omega) (by omega)
              have em : (if t.2.2.1 = 1 ∨ t.2.2.1 = 2 then (1 : Int32) else 0) = 0 := if_neg (by omega)
              rw [em]
              exact this
          · rw [if_neg c56]
            obtain ⟨f1, g1, s3, s4, s5⟩ := sign_op hfr ht hf hR (by omega) c0 c56
            have hlen := mc_len (k := mc_str (mc_o t)) S out
            have hop := mc_op_le (k := mc_str (mc_o t)) S out
            have hop2 : mc_op (mc_o t :: (mc_st (mc_str (mc_o t)) S out).2) = mc_op (mc_st (mc_str (mc_o t)) S out).2 := by
              show (if _ then 1 else 0) + _ = _
              rw [if_neg (by omega), Nat.zero_add]
            have k2 : ¬ t.2.2.1 = 2 := by
              intro q
              apply c0
              unfold mc_o mc_sg mc_ky
              rw [decide_eq_false (show ¬ t.2.2.1 = 4 by omega), decide_eq_false (show ¬ t.2.2.1 = 1 by omega)]
              rfl
            have := step f1 g1 _ _ true (decide (t.2.2.1 = 1)) s5 s4 (by show _ + (_ + 1) ≤ _; omega) (by omega)
            rw [s3]
            have em : (if t.2.2.1 = 1 ∨ t.2.2.1 = 2 then (1 : Int32) else 0) = bz (decide (t.2.2.1 = 1)) := by
              by_cases c : t.2.2.1 = 1
              · rw [if_pos (Or.inl c), decide_eq_true c]; rfl
              · rw [if_neg (by omega), decide_eq_false c]; rfl
            rw [em]
            exact this

/-! THE TWIN'S MACHINE (mine): signs that wait, signs that are made; over the list of a text's signs -/
def mc_str (s : Nat) : Nat := if s = 2 then 1 else if s = 3 then 2 else if s = 4 then 3 else if s = 5 then 4 else if s = 6 then 4 else if s = 7 then 5 else if s = 8 then 5 else if s = 9 then 6 else if s = 10 then 7 else 0
def mc_st (k : Nat) : List Nat → xR → xR × List Nat
  | [], out => (out, [])
  | s :: S, out => if k ≤ mc_str s then mc_st k S (out ++ [(s, 0)]) else (out, s :: S)
theorem mc_idem {k k2 : Nat} (h : k ≤ k2) : ∀ (S : List Nat) (out : xR), mc_st k (mc_st k2 S out).2 (mc_st k2 S out).1 = mc_st k S out := by
  intro S
  induction S with
  | nil => intro out; rfl
  | cons s S ih =>
    intro out
    by_cases c : k2 ≤ mc_str s
    · have e : mc_st k2 (s :: S) out = mc_st k2 S (out ++ [(s, 0)]) := if_pos c
      have e2 : mc_st k (s :: S) out = mc_st k S (out ++ [(s, 0)]) := if_pos (by omega)
      rw [e, e2, ih]
    · have e : mc_st k2 (s :: S) out = (out, s :: S) := if_neg c
      rw [e]
def mc_top : List Nat → Nat
  | [] => 0
  | s :: _ => mc_str s
theorem mc_id {k : Nat} {S : List Nat} {out : xR} (h : mc_top S < k) : mc_st k S out = (out, S) := by
  cases S with
  | nil => rfl
  | cons s S => exact if_neg (by have : mc_str s < k := h; omega)
theorem mc_pop {k s : Nat} {S : List Nat} {out : xR} (h : k ≤ mc_str s) : mc_st k (s :: S) out = mc_st k S (out ++ [(s, 0)]) := if_pos h
def mc_op : List Nat → Nat
  | [] => 0
  | s :: S => (if s = 4 ∨ s = 10 ∨ s = 20 then 1 else 0) + mc_op S
def mc_sg (t : tK) (c : Int32) : Bool := decide (t.2.2.1 = 4) && decide (t.2.2.2 = c)
def mc_ky (t : tK) (k : Int32) : Bool := decide (t.2.2.1 = 1) && decide (t.2.2.2 = k)
def mc_o (t : tK) : Nat := if mc_sg t 42 = true then 9 else if mc_sg t 43 = true then 7 else if mc_sg t 45 = true then 8 else if mc_sg t 60 = true then 5 else if mc_sg t 61 = true then 6 else if mc_ky t 4 = true then 3 else if mc_ky t 3 = true then 2 else 0
def mc_run : List tK → xR → List Nat → Bool → Bool → Nat × xR × List tK
  | [], _, _, _, _ => (0, [], [])
  | t :: ts, out, S, true, mn =>
    if t.2.2.1 = 3 then mc_run ts (mc_st 7 S (out ++ [(0, t.2.2.2)])).1 (mc_st 7 S (out ++ [(0, t.2.2.2)])).2 false false
    else if t.2.2.1 = 2 then mc_run ts (mc_st 7 S (out ++ [(1, t.2.2.2)])).1 (mc_st 7 S (out ++ [(1, t.2.2.2)])).2 false false
    else if mc_sg t 45 = true then (if mc_op S = 5 then (0, [], t :: ts) else mc_run ts out (10 :: S) true false)
    else if mc_sg t 40 = true then (if mc_op S = 5 then (0, [], t :: ts) else mc_run ts out (20 :: S) true true)
    else if mc_ky t 5 = true ∧ mn = true then (if mc_op S = 5 then (0, [], t :: ts) else mc_run ts out (4 :: S) true true)
    else (0, [], t :: ts)
  | t :: ts, out, S, false, _ =>
    if mc_sg t 59 = true ∨ t.2.2.1 = 0 ∨ t.2.2.1 = 5 then (if (mc_st 1 S out).2 = [] ∧ mc_sg t 59 = true then (1, (mc_st 1 S out).1, t :: ts) else (0, [], t :: ts))
    else if mc_o t = 0 then (if mc_sg t 41 = true ∧ (mc_st 1 S out).2.head? = some 20 then mc_run ts (mc_st 7 (mc_st 1 S out).2.tail (mc_st 1 S out).1).1 (mc_st 7 (mc_st 1 S out).2.tail (mc_st 1 S out).1).2 false false else (0, [], t :: ts))
    else if mc_o t = 5 ∨ mc_o t = 6 then (if mc_top (mc_st 5 S out).2 = 4 then (0, [], t :: ts) else mc_run ts (mc_st 5 S out).1 (mc_o t :: (mc_st 5 S out).2) true false)
    else mc_run ts (mc_st (mc_str (mc_o t)) S out).1 (mc_o t :: (mc_st (mc_str (mc_o t)) S out).2) true (decide (t.2.2.1 = 1))
/-! the twin's numbers and arrays -/
def mc_ps (a : Nat → Int32) : List Nat → Prop
  | [] => True
  | s :: S => a S.length = i32 s ∧ mc_ps a S
theorem mc_ps_up {a : Nat → Int32} {i : Nat} {v : Int32} : ∀ {S : List Nat}, S.length ≤ i → mc_ps a S → mc_ps (upd a i v) S := by
  intro S
  induction S with
  | nil => intro _ _; trivial
  | cons x S ih =>
    intro h hp
    have h : S.length + 1 ≤ i := h
    exact ⟨by rw [upd_n (by omega)]; exact hp.1, ih (by omega) hp.2⟩
def mc_R (F : xF) (G : xG) (fr : Nat) (out : xR) (S : List Nat) (f : xF) (g : xG) : Prop :=
  ((∀ k, k ≠ 14 → k ≠ 15 → k ≠ 16 → k ≠ 17 → k ≠ 18 → k ≠ 19 → k ≠ 20 → f k = F k) ∧ (∀ k, k ≠ 22 → k ≠ 23 → k ≠ 25 → g k = G k) ∧ (∀ i, i < fr ∨ fr + 160 ≤ i → g 22 i = G 22 i ∧ g 23 i = G 23 i)) ∧
  (f 20 = i32 (fr + out.length) ∧ (∀ i x, out[i]? = some x → g 22 (fr + i) = i32 x.1 ∧ g 23 (fr + i) = x.2) ∧ ∀ x ∈ out, x.1 ≤ 10) ∧
  (f 19 = i32 S.length ∧ mc_ps (g 25) S ∧ f 18 = i32 (mc_op S) ∧ ∀ s ∈ S, s ≤ 20)
def kp (f f1 : xF) : Prop := f1 14 = f 14 ∧ f1 15 = f 15 ∧ f1 16 = f 16 ∧ f1 17 = f 17
theorem kp.rf {f : xF} : kp f f := ⟨rfl, rfl, rfl, rfl⟩
theorem kp.tr {f h k : xF} (a : kp f h) (b : kp h k) : kp f k := ⟨b.1.trans a.1, b.2.1.trans a.2.1, b.2.2.1.trans a.2.2.1, b.2.2.2.trans a.2.2.2⟩
theorem kp.u {f : xF} {k : Nat} {v : Int32} (h : 18 ≤ k) : kp f (upd f k v) := ⟨upd_n (by omega), upd_n (by omega), upd_n (by omega), upd_n (by omega)⟩
theorem str8 {f : xF} {g : xG} {s : Nat} (h : s ≤ 20) : pX8_strength f g (i32 s) = some (i32 (mc_str s)) := by
  have z : ∀ r : Nat, r ≤ 20 → ((i32 s = i32 r) ↔ s = r) := fun r hr => i32_inj (by omega) (by omega)
  have z2 := z 2 (by omega)
  have z3 := z 3 (by omega)
  have z4 := z 4 (by omega)
  have z5 := z 5 (by omega)
  have z6 := z 6 (by omega)
  have z7 := z 7 (by omega)
  have z8 := z 8 (by omega)
  have z9 := z 9 (by omega)
  have z10 := z 10 (by omega)
  unfold pX8_strength pX8_strength_0 pX8_strength_38 pX8_strength_54 pX8_strength_81 mc_str
  rw [show (2 : Int32) = i32 2 from rfl, show (3 : Int32) = i32 3 from rfl, show (4 : Int32) = i32 4 from rfl, show (5 : Int32) = i32 5 from rfl, show (6 : Int32) = i32 6 from rfl, show (7 : Int32) = i32 7 from rfl, show (8 : Int32) = i32 8 from rfl, show (9 : Int32) = i32 9 from rfl, show (10 : Int32) = i32 10 from rfl]
  simp only [z2, z3, z4, z5, z6, z7, z8, z9, z10]
  repeat' split
  all_goals rfl
theorem put8 {F : xF} {G : xG} {fr s : Nat} {out : xR} {S : List Nat} {f : xF} {g : xG} {v : Int32} (h : mc_R F G fr out S f g) (hfr : fr ≤ 2720) (ho : out.length < 160) (hs : s ≤ 10) : ∃ f1 g1, pX8_put f g (i32 s) v = some (f1, g1) ∧ mc_R F G fr (out ++ [(s, v)]) S f1 g1 ∧ kp f f1 := by
  obtain ⟨⟨a1, a2, a3⟩, ⟨b1, b2, b3⟩, ⟨c1, c2, c3, c4⟩⟩ := h
  have hg : gin (f 20) 2880 = true := by rw [b1]; exact gin_i (by omega) (by omega)
  have hc : (f 20).toNatClampNeg = fr + out.length := by rw [b1]; exact i32_cl (by omega)
  refine ⟨upd f 20 (f 20 + 1), va_up (va_up g 22 (upd (g 22) (fr + out.length) (i32 s))) 23 (upd (g 23) (fr + out.length) v), ?_, ⟨⟨?_, ?_, ?_⟩, ⟨?_, ?_, ?_⟩, ⟨?_, ?_, ?_, c4⟩⟩, kp.u (by omega)⟩
  · show pX8_put_0 f g (i32 s) v = _
    unfold pX8_put_0
    rw [if_pos hg, if_pos hg, hc, va_up_ne _ _ (show 23 ≠ 22 by decide)]
  · intro k k1 k2 k3 k4 k5 k6 k7
    rw [upd_n k7]; exact a1 k k1 k2 k3 k4 k5 k6 k7
  · intro k k1 k2 k3
    rw [va_up_ne _ _ k2, va_up_ne _ _ k1]; exact a2 k k1 k2 k3
  · intro i hi
    rw [va_up_ne _ _ (show 22 ≠ 23 by decide), va_up_self, va_up_self, upd_n (by omega), upd_n (by omega)]
    exact a3 i hi
  · rw [upd_e, b1, i32_succ, List.length_append]; rfl
  · intro i x hx
    rw [va_up_ne _ _ (show 22 ≠ 23 by decide), va_up_self, va_up_self]
    by_cases c : i < out.length
    · rw [List.getElem?_append_left c] at hx
      rw [upd_n (by omega), upd_n (by omega)]
      exact b2 i x hx
    · rw [List.getElem?_append_right (by omega)] at hx
      have e : i - out.length = 0 := by
        have := (List.getElem?_eq_some_iff.mp hx).1
        have h1 : ([(s, v)] : xR).length = 1 := rfl
        omega
      rw [e] at hx
      have hx : some (s, v) = some x := hx
      cases hx
      rw [show i = out.length by omega, upd_e, upd_e]
      exact ⟨rfl, rfl⟩
  · intro x hx
    rcases List.mem_append.mp hx with q | q
    · exact b3 x q
    · rcases List.mem_singleton.mp q with rfl
      exact hs
  · rw [upd_n (by decide)]; exact c1
  · rw [va_up_ne _ _ (by decide), va_up_ne _ _ (by decide)]; exact c2
  · rw [upd_n (by decide)]; exact c3
theorem settle8 {F : xF} {G : xG} {fr k : Nat} (hfr : fr ≤ 2720) (hk1 : 1 ≤ k) (hk7 : k ≤ 7) : ∀ (S : List Nat) (out : xR) (f : xF) (g : xG) (K : Nat), mc_R F G fr out S f g → out.length + S.length ≤ 160 → S.length < K →
    ∃ f1 g1, pX8_settle_0 K f g (i32 k) = some (f1, g1) ∧ mc_R F G fr (mc_st k S out).1 (mc_st k S out).2 f1 g1 ∧ kp f f1 := by
  intro S
  induction S with
  | nil =>
    intro out f g K h hl hK
    obtain ⟨q, rfl⟩ : ∃ q, K = q + 1 := ⟨K - 1, by omega⟩
    refine ⟨f, g, ?_, h, kp.rf⟩
    rw [pX8_settle_0, h.2.2.1, if_pos (by decide)]; rfl
  | cons s S ih =>
    intro out f g K h hl hK
    have hl : out.length + (S.length + 1) ≤ 160 := hl
    have hK : S.length + 1 < K := hK
    obtain ⟨q, rfl⟩ : ∃ q, K = q + 1 := ⟨K - 1, by omega⟩
    have hR := h
    obtain ⟨⟨a1, a2, a3⟩, ⟨b1, b2, b3⟩, ⟨c1, c2, c3, c4⟩⟩ := h
    have c1 : f 19 = i32 (S.length + 1) := c1
    have hs20 : s ≤ 20 := c4 s (List.mem_cons_self ..)
    have e1 : f 19 - 1 = i32 S.length := by
      rw [c1, show (1 : Int32) = i32 1 from rfl, i32_subN (by omega) (by omega), Nat.add_sub_cancel]
    have htop : pX8_top f g = some (i32 s) := by
      unfold pX8_top pX8_top_0 pX8_top_22
      rw [if_neg (by rw [c1, show (0 : Int32) = i32 0 from rfl, i32_le (by omega) (by omega)]; omega), e1, if_pos (gin_i (by omega) (by omega)), i32_cl (by omega), c2.1]
    rw [pX8_settle_0, if_neg (by rw [c1, show (0 : Int32) = i32 0 from rfl, i32_le (by omega) (by omega)]; omega), htop]
    simp only [Option.bind_some, str8 hs20]
    have hstr : mc_str s ≤ 7 := by unfold mc_str; repeat' split
                                   all_goals omega
    by_cases c : k ≤ mc_str s
    case neg =>
      rw [if_pos (by rw [i32_lt (by omega) (by omega)]; omega)]
      have : mc_st k (s :: S) out = (out, s :: S) := if_neg c
      rw [this]
      exact ⟨f, g, rfl, hR, kp.rf⟩
    rw [if_neg (by rw [i32_lt (by omega) (by omega)]; omega), upd_e, e1, if_pos (gin_i (by omega) (by omega)), i32_cl (by omega), c2.1, mc_pop c]
    have hs10 : s ≤ 10 := by
      by_cases q : s ≤ 10
      · exact q
      · have : mc_str s = 0 := by
          unfold mc_str
          rw [if_neg (by omega), if_neg (by omega), if_neg (by omega), if_neg (by omega), if_neg (by omega), if_neg (by omega), if_neg (by omega), if_neg (by omega), if_neg (by omega)]
        omega
    have z4 : (i32 s = 4) ↔ s = 4 := i32_inj (m := 4) (by omega) (by omega)
    have z10 : (i32 s = 10) ↔ s = 10 := i32_inj (m := 10) (by omega) (by omega)
    rw [upd_n (show 18 ≠ 19 by decide)]
    unfold pX8_settle_55 pX8_settle_60
    have main : ∀ w : Int32, f 18 - w = i32 (mc_op S) → ∃ f1 g1, ((pX8_put (upd (upd f 19 (i32 S.length)) 18 (f 18 - w)) g (i32 s) 0).bind (fun r67 => pX8_settle_0 q r67.1 r67.2 (i32 k))) = some (f1, g1) ∧ mc_R F G fr (mc_st k S (out ++ [(s, 0)])).1 (mc_st k S (out ++ [(s, 0)])).2 f1 g1 ∧ kp f f1 := by
      intro w hw
      have hR2 : mc_R F G fr out S (upd (upd f 19 (i32 S.length)) 18 (f 18 - w)) g := by
        refine ⟨⟨fun k k1 k2 k3 k4 k5 k6 k7 => ?_, a2, a3⟩, ⟨?_, b2, b3⟩, ⟨?_, c2.2, ?_, fun x hx => c4 x (List.mem_cons_of_mem _ hx)⟩⟩
        · rw [upd_n k5, upd_n k6]; exact a1 k k1 k2 k3 k4 k5 k6 k7
        · rw [upd_n (by decide), upd_n (by decide)]; exact b1
        · rw [upd_n (by decide), upd_e]
        · rw [upd_e]; exact hw
      obtain ⟨f1, g1, p1, p2, p3⟩ := put8 (v := 0) hR2 hfr (by omega) hs10
      rw [p1]
      simp only [Option.bind_some]
      obtain ⟨f2, g2, r1, r2, r3⟩ := ih (out ++ [(s, 0)]) f1 g1 q p2 (by rw [List.length_append]; show out.length + 1 + S.length ≤ 160; omega) (by omega)
      exact ⟨f2, g2, r1, r2, (((kp.u (by omega)).tr (kp.u (by omega))).tr p3).tr r3⟩
    have c3 : f 18 = i32 ((if s = 4 ∨ s = 10 ∨ s = 20 then 1 else 0) + mc_op S) := c3
    have hop : mc_op S ≤ S.length := by
      have : ∀ L : List Nat, mc_op L ≤ L.length := by
        intro L
        induction L with
        | nil => exact Nat.le_refl _
        | cons x L ih => show (if _ then 1 else 0) + mc_op L ≤ L.length + 1; split <;> omega
      exact this S
    by_cases c4 : s = 4
    · rw [if_pos (z4.mpr c4)]
      refine main 1 ?_
      rw [c3, if_pos (Or.inl c4), show (1 : Int32) = i32 1 from rfl, i32_subN (by omega) (by omega), Nat.add_sub_cancel_left]
    · rw [if_neg (fun q => c4 (z4.mp q))]
      by_cases c10 : s = 10
      · rw [if_pos (z10.mpr c10)]
        refine main 1 ?_
        rw [c3, if_pos (Or.inr (Or.inl c10)), show (1 : Int32) = i32 1 from rfl, i32_subN (by omega) (by omega), Nat.add_sub_cancel_left]
      · rw [if_neg (fun q => c10 (z10.mp q))]
        refine main 0 ?_
        rw [c3, if_neg (by omega), Nat.zero_add, Int32.sub_zero]
theorem settleE {F : xF} {G : xG} {fr k : Nat} {out : xR} {S : List Nat} {f : xF} {g : xG} (hfr : fr ≤ 2720) (hk1 : 1 ≤ k) (hk7 : k ≤ 7) (h : mc_R F G fr out S f g) (hl : out.length + S.length ≤ 160) : ∃ f1 g1, pX8_settle f g (i32 k) = some (f1, g1) ∧ mc_R F G fr (mc_st k S out).1 (mc_st k S out).2 f1 g1 ∧ kp f f1 :=
  settle8 hfr hk1 hk7 S out f g 5000 h hl (by omega)
theorem mc_len {k : Nat} : ∀ (S : List Nat) (out : xR), (mc_st k S out).1.length + (mc_st k S out).2.length = out.length + S.length := by
  intro S
  induction S with
  | nil => intro out; rfl
  | cons s S ih =>
    intro out
    by_cases c : k ≤ mc_str s
    · rw [mc_pop c, ih, List.length_append]; show out.length + 1 + S.length = out.length + (S.length + 1); omega
    · have : mc_st k (s :: S) out = (out, s :: S) := if_neg c
      rw [this]
theorem push8 {F : xF} {G : xG} {fr s : Nat} {out : xR} {S : List Nat} {f : xF} {g : xG} (h : mc_R F G fr out S f g) (hl : S.length ≤ 160) (hs : s ≤ 20) : ∃ f1 g1, pX8_pushSign f g (i32 s) = some (f1, g1) ∧ kp f f1 ∧ f1 18 = f 18 ∧ (f 18 = i32 (mc_op (s :: S)) → mc_R F G fr out (s :: S) f1 g1) ∧ ∀ v : Int32, v = i32 (mc_op (s :: S)) → mc_R F G fr out (s :: S) (upd f1 18 v) g1 := by
  obtain ⟨⟨a1, a2, a3⟩, ⟨b1, b2, b3⟩, ⟨c1, c2, c3, c4⟩⟩ := h
  have hc : (f 19).toNatClampNeg = S.length := by rw [c1]; exact i32_cl (by omega)
  have key : ∀ v : Int32, v = i32 (mc_op (s :: S)) → mc_R F G fr out (s :: S) (upd (upd f 19 (f 19 + 1)) 18 v) (va_up g 25 (upd (g 25) S.length (i32 s))) := by
    intro v hv
    refine ⟨⟨fun k k1 k2 k3 k4 k5 k6 k7 => ?_, fun k k1 k2 k3 => ?_, fun i hi => ?_⟩, ⟨?_, fun i x hx => ?_, b3⟩, ⟨?_, ?_, ?_, fun x hx => ?_⟩⟩
    · rw [upd_n k5, upd_n k6]; exact a1 k k1 k2 k3 k4 k5 k6 k7
    · rw [va_up_ne _ _ k3]; exact a2 k k1 k2 k3
    · rw [va_up_ne _ _ (by decide), va_up_ne _ _ (by decide)]; exact a3 i hi
    · rw [upd_n (by decide), upd_n (by decide)]; exact b1
    · rw [va_up_ne _ _ (by decide), va_up_ne _ _ (by decide)]; exact b2 i x hx
    · rw [upd_n (by decide), upd_e, c1, i32_succ]; rfl
    · rw [va_up_self]; exact ⟨upd_e, mc_ps_up (Nat.le_refl _) c2⟩
    · rw [upd_e]; exact hv
    · rcases List.mem_cons.mp hx with q | q
      · rw [q]; exact hs
      · exact c4 x q
  refine ⟨upd f 19 (f 19 + 1), va_up g 25 (upd (g 25) S.length (i32 s)), ?_, kp.u (by omega), upd_n (by decide), fun hv => ?_, key⟩
  · unfold pX8_pushSign pX8_pushSign_0
    rw [if_pos (by rw [c1]; exact gin_i (by omega) (by omega)), hc]
  · have := key (f 18) hv
    rw [show upd (upd f 19 (f 19 + 1)) 18 (f 18) = upd f 19 (f 19 + 1) from upd_idv (upd_n (by decide))] at this
    exact this
theorem opens8 {F : xF} {G : xG} {fr s : Nat} {out : xR} {S : List Nat} {f : xF} {g : xG} (h : mc_R F G fr out S f g) (hl : S.length ≤ 160) (hs : s = 4 ∨ s = 10 ∨ s = 20) (ho : mc_op S ≤ 5) : (mc_op S = 5 ∧ pX8_opens f g (i32 s) = some (0, f, g)) ∨ (¬ mc_op S = 5 ∧ ∃ f1 g1, pX8_opens f g (i32 s) = some (1, f1, g1) ∧ mc_R F G fr out (s :: S) f1 g1 ∧ kp f f1) := by
  have z5 : (f 18 = 5) ↔ mc_op S = 5 := by rw [h.2.2.2.2.1]; exact i32_inj (m := 5) (by omega) (by omega)
  unfold pX8_opens pX8_opens_0
  by_cases c : mc_op S = 5
  · exact Or.inl ⟨c, by rw [if_pos (z5.mpr c)]⟩
  · refine Or.inr ⟨c, ?_⟩
    rw [if_neg (fun q => c (z5.mp q))]
    have hR2 : mc_R F G fr out S f g := h
    obtain ⟨⟨a1, a2, a3⟩, ⟨b1, b2, b3⟩, ⟨c1, c2, c3, c4⟩⟩ := h
    have hc : ((upd f 18 (f 18 + 1)) 19).toNatClampNeg = S.length := by rw [upd_n (by decide), c1]; exact i32_cl (by omega)
    refine ⟨upd (upd f 18 (f 18 + 1)) 19 (f 19 + 1), va_up g 25 (upd (g 25) S.length (i32 s)), ?_, ?_, (kp.u (by omega)).tr (kp.u (by omega))⟩
    · unfold pX8_pushSign pX8_pushSign_0
      rw [if_pos (by rw [upd_n (by decide), c1]; exact gin_i (by omega) (by omega)), hc, upd_n (show 19 ≠ 18 by decide)]
      rfl
    · refine ⟨⟨fun k k1 k2 k3 k4 k5 k6 k7 => ?_, fun k k1 k2 k3 => ?_, fun i hi => ?_⟩, ⟨?_, fun i x hx => ?_, b3⟩, ⟨?_, ?_, ?_, fun x hx => ?_⟩⟩
      · rw [upd_n k6, upd_n k5]; exact a1 k k1 k2 k3 k4 k5 k6 k7
      · rw [va_up_ne _ _ k3]; exact a2 k k1 k2 k3
      · rw [va_up_ne _ _ (by decide), va_up_ne _ _ (by decide)]; exact a3 i hi
      · rw [upd_n (by decide), upd_n (by decide)]; exact b1
      · rw [va_up_ne _ _ (by decide), va_up_ne _ _ (by decide)]; exact b2 i x hx
      · rw [upd_e, c1, i32_succ]; rfl
      · rw [va_up_self]; exact ⟨upd_e, mc_ps_up (Nat.le_refl _) c2⟩
      · rw [upd_n (by decide), upd_e, c3, i32_succ]
        show _ = i32 ((if s = 4 ∨ s = 10 ∨ s = 20 then 1 else 0) + mc_op S)
        rw [if_pos hs, Nat.add_comm]
      · rcases List.mem_cons.mp hx with q | q
        · rw [q]; omega
        · exact c4 x q

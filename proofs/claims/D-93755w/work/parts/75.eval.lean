/-! VALUES OF TEXTS (mine): rows of signs by a pile; a node's worth and the twin's tellsRule are the value of the same row -/
def ev_b (s : Nat) (a b : Int32) : Int32 := if s = 2 then (if a = 0 then (if b = 0 then 0 else 1) else 1) else if s = 3 then (if a = 0 then 0 else if b = 0 then 0 else 1) else if s = 5 then (if b ≤ a then 0 else 1) else if s = 6 then (if a = b then 1 else 0) else if s = 7 then a + b else if s = 8 then a - b else if s = 9 then a * b else (if a = 0 then (if b = 0 then 0 else 1) else 1)
def ev_u (s : Nat) (a : Int32) : Int32 := if s = 10 then -a else if a = 0 then 1 else 0
def ev_s (ν : Int32 → Int32) (x : Nat × Int32) (st : List Int32) : Option (List Int32) :=
  if x.1 = 0 then some (x.2 :: st) else if x.1 = 1 then some (ν x.2 :: st) else if x.1 = 4 ∨ x.1 = 10 then (match st with
    | a :: t => some (ev_u x.1 a :: t)
    | _ => none) else (match st with
    | b :: a :: t => some (ev_b x.1 a b :: t)
    | _ => none)
def ev_r (ν : Int32 → Int32) : xR → List Int32 → Option (List Int32)
  | [], st => some st
  | x :: r, st => (ev_s ν x st).bind (ev_r ν r)
theorem ev_app (ν : Int32 → Int32) : ∀ (r q : xR) (st : List Int32), ev_r ν (r ++ q) st = (ev_r ν r st).bind (ev_r ν q) := by
  intro r
  induction r with
  | nil => intro q st; rfl
  | cons x r ih =>
    intro q st
    show (ev_s ν x st).bind (ev_r ν (r ++ q)) = ((ev_s ν x st).bind (ev_r ν r)).bind (ev_r ν q)
    cases ev_s ν x st with
    | none => rfl
    | some st2 => exact ih q st2
def ev_v (ν : Int32 → Int32) (r : xR) : Int32 := match ev_r ν r [] with
  | some (v :: _) => v
  | _ => 0
/-- a row that leaves its one value on the pile -/
def ev_ok (r : xR) : Prop := ∀ (ν : Int32 → Int32) (st : List Int32), ev_r ν r st = some (ev_v ν r :: st)
theorem ev_ok.of {r : xR} (h : ∀ (ν : Int32 → Int32), ∃ v, ∀ st : List Int32, ev_r ν r st = some (v :: st)) : ev_ok r := by
  intro ν st
  obtain ⟨v, hv⟩ := h ν
  have : ev_v ν r = v := by unfold ev_v; rw [hv []]
  rw [this]; exact hv st
theorem ev_v_eq {r : xR} {ν : Int32 → Int32} {v : Int32} (h : ev_r ν r [] = some [v]) : ev_v ν r = v := by unfold ev_v; rw [h]
theorem ev_ok1 (x : Nat × Int32) (h : x.1 = 0 ∨ x.1 = 1) : ev_ok [x] := by
  refine ev_ok.of (fun ν => ?_)
  rcases h with h | h
  · exact ⟨x.2, fun st => by simp [ev_r, ev_s, h]⟩
  · exact ⟨ν x.2, fun st => by simp [ev_r, ev_s, h]⟩
theorem ev_okU {r : xR} {s : Nat} (h : ev_ok r) (hs : s = 4 ∨ s = 10) : ev_ok (r ++ [(s, 0)]) ∧ ∀ ν, ev_v ν (r ++ [(s, 0)]) = ev_u s (ev_v ν r) := by
  have h0 : ¬ s = 0 := by omega
  have h1 : ¬ s = 1 := by omega
  have key : ∀ (ν : Int32 → Int32) (st : List Int32), ev_r ν (r ++ [(s, 0)]) st = some (ev_u s (ev_v ν r) :: st) := by
    intro ν st
    rw [ev_app, h ν st]
    show (ev_s ν (s, 0) (ev_v ν r :: st)).bind (ev_r ν []) = _
    simp only [ev_s, h0, h1, hs, if_false, if_true, Option.bind_some, ev_r]
  exact ⟨ev_ok.of (fun ν => ⟨_, key ν⟩), fun ν => ev_v_eq (key ν [])⟩
theorem ev_okB {r q : xR} {s : Nat} (h : ev_ok r) (hq : ev_ok q) (h0 : ¬ s = 0) (h1 : ¬ s = 1) (h2 : ¬ (s = 4 ∨ s = 10)) : ev_ok (r ++ q ++ [(s, 0)]) ∧ ∀ ν, ev_v ν (r ++ q ++ [(s, 0)]) = ev_b s (ev_v ν r) (ev_v ν q) := by
  have key : ∀ (ν : Int32 → Int32) (st : List Int32), ev_r ν (r ++ q ++ [(s, 0)]) st = some (ev_b s (ev_v ν r) (ev_v ν q) :: st) := by
    intro ν st
    rw [ev_app, ev_app, h ν st]
    show ((ev_r ν q (ev_v ν r :: st)).bind (ev_r ν [(s, 0)])) = _
    rw [hq ν]
    show (ev_s ν (s, 0) (ev_v ν q :: ev_v ν r :: st)).bind (ev_r ν []) = _
    simp only [ev_s, h0, h1, h2, if_false, Option.bind_some, ev_r]
  exact ⟨ev_ok.of (fun ν => ⟨_, key ν⟩), fun ν => ev_v_eq (key ν [])⟩
/-- what the names stand for, in the component -/
def ev_n0 (f : xF) (g : xG) (k : Int32) : Int32 := if k = 0 then f 11 else if k = 1 then g 3 (f 13).toNatClampNeg else if k = 2 then g 4 (f 13).toNatClampNeg else if k = 3 then g 5 (f 13).toNatClampNeg else if k = 4 then f 12 else f 13
theorem ev_n0_eq {f : xF} {g : xG} (h : gin (f 13) 60 = true) (k : Int32) : pX6_worth_0 f g k = some (ev_n0 f g k) := by
  unfold pX6_worth_0 ev_n0
  simp only [h, if_true]
  repeat' split
  all_goals rfl
def ev_uq (L : va_W) : Prop := List.Pairwise (fun p q : Nat × va_E => p.1 ≠ q.1) L
theorem ev_look : ∀ {L : va_W} {a : Nat} {e : va_E}, ev_uq L → (a, e) ∈ L → look L a = some e := by
  intro L
  induction L with
  | nil => intro a e _ h; cases h
  | cons x L ih =>
    intro a e hu hm
    have hu2 := List.pairwise_cons.mp hu
    unfold look
    rw [List.find?_cons]
    rcases List.mem_cons.mp hm with h | h
    · subst h
      simp
    · have hne : x.1 ≠ a := hu2.1 (a, e) h
      have hb : (x.1 == a) = false := by simp [hne]
      rw [hb]
      exact ih hu2.2 h
theorem ev_u4 (v a : Int32) : ev_u (opt v) a = if v = 0 then (if a = 0 then 1 else 0) else -a := by
  unfold opt
  by_cases h : v = 0
  · rw [if_pos h, if_pos h]; rfl
  · rw [if_neg h, if_neg h]; rfl
theorem ev_b7 (f : xF) (g : xG) (wk : Nat → Option Int32) (v : Int32) (x y : Nat) (a b : Int32) (hx : wk x = some a) (hy : wk y = some b) : pX7_worth_0 f g wk v x y = some (ev_b (opc v) a b) := by
  unfold pX7_worth_0 opc
  rw [hx, hy]
  simp only [Option.bind_some]
  by_cases h1 : v = 124
  · subst h1
    simp only [show ¬ (124 : Int32) = 38 by decide, show ¬ (124 : Int32) = 42 by decide, show ¬ (124 : Int32) = 43 by decide, show ¬ (124 : Int32) = 45 by decide, show ¬ (124 : Int32) = 60 by decide, show ¬ (124 : Int32) = 61 by decide, if_false, if_true]
    unfold ev_b
    simp only [if_true]
    split
    · split <;> rfl
    · rfl
  rw [if_neg h1]
  by_cases h2 : v = 38
  · subst h2; rw [if_pos rfl, if_pos rfl]; unfold ev_b
    simp only [show ¬ (3 : Nat) = 2 by decide, if_false, if_true]
    split
    · rfl
    · split <;> rfl
  rw [if_neg h2, if_neg h2]
  by_cases h3 : v = 42
  · subst h3; rfl
  by_cases h4 : v = 43
  · subst h4; rfl
  by_cases h5 : v = 45
  · subst h5; rfl
  by_cases h6 : v = 60
  · subst h6
    show (if b ≤ a then pX7_worth_102 f g wk 60 x y 0 else pX7_worth_102 f g wk 60 x y 1) = some (if b ≤ a then 0 else 1)
    split <;> rfl
  by_cases h7 : v = 61
  · subst h7
    show (if a = b then pX7_worth_113 f g wk 61 x y 1 else pX7_worth_113 f g wk 61 x y 0) = some (if a = b then 1 else 0)
    split <;> rfl
  simp only [h3, h4, h5, h6, h7, if_false]
  show _ = some (if a = 0 then (if b = 0 then 0 else 1) else 1)
  split
  · split <;> rfl
  · rfl
/-- a node's worth is the value of the row that it stands for -/
theorem ev_nd {L : va_W} {o : Nat} (hu : ev_uq L) : ∀ (d a : Nat) (r : xR), nd L o d a r → ev_ok r ∧ ∀ (f : xF) (g : xG), gin (f 13) 60 = true → wv L o f g d a = some (ev_v (ev_n0 f g) r) := by
  intro d
  induction d with
  | zero => intro a r h; exact h.elim
  | succ d ih =>
    intro a r h
    rcases h with ⟨v, hm, rfl⟩ | ⟨v, hm, rfl⟩ | ⟨x, v, rx, hm, hx, rfl⟩ | ⟨v, x, y, rx, ry, hm, hx, hy, rfl⟩
    · refine ⟨ev_ok1 _ (Or.inl rfl), fun f g hf => ?_⟩
      unfold wv
      rw [ev_look hu hm]
      rfl
    · refine ⟨ev_ok1 _ (Or.inr rfl), fun f g hf => ?_⟩
      unfold wv
      rw [ev_look hu hm]
      show (if o = o then pX6_worth_0 f g v else none) = _
      rw [if_pos rfl, ev_n0_eq hf]
      rfl
    · obtain ⟨k1, k2⟩ := ih x rx hx
      have ho : opt v = 4 ∨ opt v = 10 := by unfold opt; split <;> simp
      have hU := ev_okU k1 ho
      refine ⟨hU.1, fun f g hf => ?_⟩
      unfold wv
      rw [ev_look hu hm]
      show pX4_worth_0 f g (wv L o f g d) v x = _
      unfold pX4_worth_0
      rw [k2 f g hf, hU.2, ev_u4]
      simp only [Option.bind_some]
      split
      · split <;> rfl
      · rfl
    · obtain ⟨k1, k2⟩ := ih x rx hx
      obtain ⟨k3, k4⟩ := ih y ry hy
      have ho : ¬ opc v = 0 ∧ ¬ opc v = 1 ∧ ¬ (opc v = 4 ∨ opc v = 10) := by
        unfold opc
        repeat' split
        all_goals decide
      have hB := ev_okB k1 k3 ho.1 ho.2.1 ho.2.2
      refine ⟨hB.1, fun f g hf => ?_⟩
      unfold wv
      rw [ev_look hu hm]
      show pX7_worth_0 f g (wv L o f g d) v x y = _
      rw [ev_b7 f g _ v x y _ _ (k2 f g hf) (k4 f g hf), hB.2]
/-! the twin's pile -/
def ps (a : Nat → Int32) : List Int32 → Prop
  | [] => True
  | x :: st => a st.length = x ∧ ps a st
theorem ps_up {a : Nat → Int32} {i : Nat} {v : Int32} : ∀ {st : List Int32}, st.length ≤ i → ps a st → ps (upd a i v) st := by
  intro st
  induction st with
  | nil => intro _ _; trivial
  | cons x st ih =>
    intro h hp
    have h : st.length + 1 ≤ i := h
    exact ⟨by rw [upd_n (by omega)]; exact hp.1, ih (by omega) hp.2⟩
/-- the row of a text's part in the twin's arrays -/
def rl_at (g : xG) (t k : Nat) : xR := (List.range (g 24 (3 * t + k)).toNatClampNeg).map (fun i => ((g 22 (480 * t + 160 * k + i)).toNatClampNeg, g 23 (480 * t + 160 * k + i)))
def rl_ok (g : xG) (t k : Nat) : Prop := (0 ≤ (g 24 (3 * t + k)).toInt ∧ (g 24 (3 * t + k)).toInt ≤ 160) ∧ ∀ i, i < (g 24 (3 * t + k)).toNatClampNeg → 0 ≤ (g 22 (480 * t + 160 * k + i)).toInt ∧ (g 22 (480 * t + 160 * k + i)).toInt ≤ 10
theorem done8 {f : xF} {g : xG} {s : Nat} {a b : Int32} (h : s ≤ 10) (h4 : ¬ (s = 4 ∨ s = 10)) (h0 : ¬ s = 0) (h1 : ¬ s = 1) : pX8_done f g (i32 s) a b = some (ev_b s a b) := by
  have hs : s = 2 ∨ s = 3 ∨ s = 5 ∨ s = 6 ∨ s = 7 ∨ s = 8 ∨ s = 9 := by omega
  rcases hs with rfl | rfl | rfl | rfl | rfl | rfl | rfl
  · show (if a = 0 then (if b = 0 then pX8_done_57 f g 0 else pX8_done_52 f g) else pX8_done_52 f g) = some (if a = 0 then (if b = 0 then 0 else 1) else 1)
    split
    · split <;> rfl
    · rfl
  · show (if a = 0 then pX8_done_70 f g else (if b = 0 then pX8_done_70 f g else pX8_done_71 f g 1)) = some (if a = 0 then 0 else if b = 0 then 0 else 1)
    split
    · rfl
    · split <;> rfl
  · show (if b ≤ a then pX8_done_82 f g 0 else pX8_done_82 f g 1) = some (if b ≤ a then 0 else 1)
    split <;> rfl
  · show (if a = b then pX8_done_93 f g 1 else pX8_done_93 f g 0) = some (if a = b then 1 else 0)
    split <;> rfl
  · rfl
  · rfl
  · rfl
theorem va_up_n {g : xG} {k j : Nat} {a : Nat → Int32} (h : j ≠ k) : va_up g k a j = g j := va_up_ne _ _ h
theorem i32_mulN (n m : Nat) : i32 n * i32 m = i32 (n * m) := (Int32.ofNat_mul n m).symm
theorem tells_step {f : xF} {g : xG} {n t k c fr i : Nat} {v1 v2 v3 v4 : Int32} {ν : Int32 → Int32} {x : Nat × Int32} {st st2 : List Int32}
    (hv1 : v1 = i32 k) (hr : f 12 = i32 t) (ht : t < 6) (hk : k < 3) (hfr : fr = 480 * t + 160 * k) (hc : g 24 (3 * t + k) = i32 c) (hc2 : c ≤ 160) (hi : i < c) (hx1 : g 22 (fr + i) = i32 x.1) (hx2 : x.1 ≤ 10) (hx3 : g 23 (fr + i) = x.2)
    (hnm : ∀ (p : Nat → Int32) (q : Int32), pX8_nameValue f (va_up g 26 p) q v2 v3 v4 = some (ν q)) (p : Nat → Int32) (hps : ps p st) (hst : st.length ≤ i) (he : ev_s ν x st = some st2) :
    ∃ p2, ps p2 st2 ∧ st2.length ≤ i + 1 ∧ pX8_tellsRule_23 (n + 1) f (va_up g 26 p) v1 v2 v3 v4 (i32 fr) (i32 st.length) (i32 (fr + i)) = pX8_tellsRule_23 n f (va_up g 26 p2) v1 v2 v3 v4 (i32 fr) (i32 st2.length) (i32 (fr + (i + 1))) := by
  have hix : ((3 : Int32) * f 12) + v1 = i32 (3 * t + k) := by rw [hr, hv1, show (3 : Int32) = i32 3 from rfl, i32_mulN, i32_add]
  have hg1 : gin (i32 (3 * t + k)) 18 = true := gin_i (by omega) (by omega)
  have hg2 : gin (i32 (fr + i)) 2880 = true := gin_i (by omega) (by omega)
  have hlt : ¬ (i32 fr + i32 c ≤ i32 (fr + i)) := by rw [i32_add, i32_le (by omega) (by omega)]; omega
  have hG : ∀ (p : Nat → Int32) (j : Nat), j ≠ 26 → va_up g 26 p j = g j := fun p j h => va_up_ne _ _ h
  have hS : va_up g 26 p 26 = p := va_up_self _ _ _
  have e26 : ∀ q : Nat → Int32, va_up (va_up g 26 p) 26 q = va_up g 26 q := fun q => va_up_up
  rw [pX8_tellsRule_23, hix, if_pos hg1, hG p 24 (by decide), i32_cl (by omega), hc, if_neg hlt, if_pos hg2, hG p 22 (by decide), i32_cl (by omega), hx1]
  have z0 : ∀ q : Nat, q ≤ 10 → ∀ r : Nat, r ≤ 10 → (i32 q = i32 r ↔ q = r) := fun q hq r hr => i32_inj (by omega) (by omega)
  have zc0 : (i32 x.1 = 0) ↔ x.1 = 0 := z0 x.1 hx2 0 (by omega)
  have zc1 : (i32 x.1 = 1) ↔ x.1 = 1 := z0 x.1 hx2 1 (by omega)
  have zc4 : (i32 x.1 = 4) ↔ x.1 = 4 := z0 x.1 hx2 4 (by omega)
  have zc10 : (i32 x.1 = 10) ↔ x.1 = 10 := z0 x.1 hx2 10 (by omega)
  have hgm : gin (i32 st.length) 161 = true := gin_i (by omega) (by omega)
  have hcm : (i32 st.length).toNatClampNeg = st.length := i32_cl (by omega)
  unfold ev_s at he
  by_cases c0 : x.1 = 0
  · rw [if_pos c0] at he
    cases he
    refine ⟨upd p st.length x.2, ⟨upd_e, ps_up (Nat.le_refl _) hps⟩, by show st.length + 1 ≤ _; omega, ?_⟩
    rw [if_pos (zc0.mpr c0)]
    unfold pX8_tellsRule_64
    rw [if_pos (zc0.mpr c0), if_pos hg2]
    unfold pX8_tellsRule_100
    rw [if_pos hgm, hcm, hS, e26, hG p 23 (by decide), i32_cl (show fr + i < 2147483648 by omega), hx3]
    unfold pX8_tellsRule_203
    rw [i32_succ, i32_succ]
    rfl
  rw [if_neg c0] at he
  by_cases c1 : x.1 = 1
  · rw [if_pos c1] at he
    cases he
    refine ⟨upd p st.length (ν x.2), ⟨upd_e, ps_up (Nat.le_refl _) hps⟩, by show st.length + 1 ≤ _; omega, ?_⟩
    rw [if_neg (fun q => c0 (zc0.mp q)), if_pos (zc1.mpr c1)]
    unfold pX8_tellsRule_64
    rw [if_neg (fun q => c0 (zc0.mp q)), if_pos hg2, hG p 23 (by decide), i32_cl (show fr + i < 2147483648 by omega), hx3, hnm]
    show pX8_tellsRule_100 _ _ _ _ _ _ _ _ _ _ _ _ = _
    unfold pX8_tellsRule_100
    rw [if_pos hgm, hcm, hS, e26]
    unfold pX8_tellsRule_203
    rw [i32_succ, i32_succ]
    rfl
  rw [if_neg c1] at he
  rw [if_neg (fun q => c0 (zc0.mp q)), if_neg (fun q => c1 (zc1.mp q))]
  by_cases c4 : x.1 = 4 ∨ x.1 = 10
  · rw [if_pos c4] at he
    cases st with
    | nil => cases he
    | cons a st =>
      cases he
      have hl : i32 (List.length (a :: st)) - 1 = i32 st.length := by
        rw [← Int32.toInt_inj, one_sub (x := i32 (List.length (a :: st))) (lo := 0) (by rw [i32_toInt (by show st.length + 1 < _; have : st.length + 1 ≤ i := hst; omega)]; omega) (by omega), i32_toInt (by show st.length + 1 < _; have : st.length + 1 ≤ i := hst; omega), i32_toInt (by have : st.length + 1 ≤ i := hst; omega)]
        show ((st.length + 1 : Nat) : Int) - 1 = _
        omega
      have hl2 : st.length + 1 ≤ i := hst
      have hg3 : gin (i32 st.length) 161 = true := gin_i (by omega) (by omega)
      have hc3 : (i32 st.length).toNatClampNeg = st.length := i32_cl (by omega)
      have hpa : p st.length = a := hps.1
      refine ⟨upd p st.length (ev_u x.1 a), ⟨upd_e, ps_up (Nat.le_refl _) hps.2⟩, by show st.length + 1 ≤ _; omega, ?_⟩
      have key : pX8_tellsRule_120 (pX8_tellsRule_23 n) f (va_up g 26 p) v1 v2 v3 v4 (i32 fr) (i32 (List.length (a :: st))) (i32 (fr + i)) (i32 x.1) = pX8_tellsRule_23 n f (va_up g 26 (upd p st.length (ev_u x.1 a))) v1 v2 v3 v4 (i32 fr) (i32 (List.length (ev_u x.1 a :: st))) (i32 (fr + (i + 1))) := by
        unfold pX8_tellsRule_120
        rw [hl, if_pos hg3, hc3, hS, hpa]
        unfold pX8_tellsRule_165 pX8_tellsRule_203 ev_u
        rw [if_pos hg3, if_pos hg3, if_pos hg3, hc3, hS, e26, e26, e26, i32_succ]
        by_cases c10 : x.1 = 10
        · rw [if_pos (zc10.mpr c10), if_pos c10]; rfl
        · rw [if_neg (fun q => c10 (zc10.mp q)), if_neg c10]
          split <;> rfl
      by_cases c44 : x.1 = 4
      · rw [if_pos (zc4.mpr c44)]; exact key
      · rw [if_neg (fun q => c44 (zc4.mp q)), if_pos (zc10.mpr (by omega))]; exact key
  rw [if_neg c4] at he
  rw [if_neg (fun q => c4 (Or.inl (zc4.mp q))), if_neg (fun q => c4 (Or.inr (zc10.mp q)))]
  cases st with
  | nil => cases he
  | cons b st =>
    cases st with
    | nil => cases he
    | cons a st =>
      cases he
      have hl2 : st.length + 1 + 1 ≤ i := hst
      have hl : i32 (List.length (b :: a :: st)) + -1 = i32 (st.length + 1) := by
        rw [← Int32.toInt_inj, i32_addI (by rw [i32_toInt (by show st.length + 1 + 1 < _; omega)]; show _ ≤ _ + (-1 : Int); omega) (by rw [i32_toInt (by show st.length + 1 + 1 < _; omega)]; show ((st.length + 1 + 1 : Nat) : Int) + (-1 : Int) ≤ _; omega), i32_toInt (by show st.length + 1 + 1 < _; omega), i32_toInt (by omega)]
        show ((st.length + 1 + 1 : Nat) : Int) + (-1 : Int) = _
        omega
      have hl3 : i32 (st.length + 1) - 1 = i32 st.length := by
        rw [← Int32.toInt_inj, one_sub (x := i32 (st.length + 1)) (lo := 0) (by rw [i32_toInt (by omega)]; omega) (by omega), i32_toInt (by omega), i32_toInt (by omega)]
        omega
      have hg3 : gin (i32 st.length) 161 = true := gin_i (by omega) (by omega)
      have hg4 : gin (i32 (st.length + 1)) 161 = true := gin_i (by omega) (by omega)
      have hc3 : (i32 st.length).toNatClampNeg = st.length := i32_cl (by omega)
      have hc4 : (i32 (st.length + 1)).toNatClampNeg = st.length + 1 := i32_cl (by omega)
      have hpb : p (st.length + 1) = b := hps.1
      have hpa : p st.length = a := hps.2.1
      refine ⟨upd p st.length (ev_b x.1 a b), ⟨upd_e, ps_up (Nat.le_refl _) hps.2.2⟩, by show st.length + 1 ≤ _; omega, ?_⟩
      rw [hl, hl3]
      simp only [hg3, hg4, if_true, hc3, hc4, hS, hpa, hpb, done8 hx2 c4 c0 c1, Option.bind_some]
      unfold pX8_tellsRule_203
      rw [e26, i32_succ]
      rfl
theorem tells_all {f : xF} {g : xG} {t k c fr : Nat} {v1 v2 v3 v4 : Int32} {ν : Int32 → Int32} {r : xR} {v : Int32}
    (hv1 : v1 = i32 k) (hr : f 12 = i32 t) (ht : t < 6) (hk : k < 3) (hfr : fr = 480 * t + 160 * k) (hc : g 24 (3 * t + k) = i32 c) (hc2 : c ≤ 160) (hlen : r.length = c) (hx : ∀ i x, r[i]? = some x → g 22 (fr + i) = i32 x.1 ∧ x.1 ≤ 10 ∧ g 23 (fr + i) = x.2)
    (hnm : ∀ (p : Nat → Int32) (q : Int32), pX8_nameValue f (va_up g 26 p) q v2 v3 v4 = some (ν q)) :
    ∀ (q pre : xR) (st : List Int32) (p : Nat → Int32) (K : Nat), pre ++ q = r → q.length < K → ps p st → st.length ≤ pre.length → ev_r ν q st = some [v] →
      ∃ p2, pX8_tellsRule_23 K f (va_up g 26 p) v1 v2 v3 v4 (i32 fr) (i32 st.length) (i32 (fr + pre.length)) = some (v, f, va_up g 26 p2) := by
  intro q
  induction q with
  | nil =>
    intro pre st p K hp hK hps hst he
    obtain ⟨n, rfl⟩ : ∃ n, K = n + 1 := ⟨K - 1, by omega⟩
    have he : some st = some [v] := he
    cases he
    have hpl : pre.length = c := by rw [← hlen, ← hp, List.append_nil]
    have hix : ((3 : Int32) * f 12) + v1 = i32 (3 * t + k) := by rw [hr, hv1, show (3 : Int32) = i32 3 from rfl, i32_mulN, i32_add]
    refine ⟨p, ?_⟩
    rw [pX8_tellsRule_23, hix, if_pos (gin_i (by omega) (by omega)), va_up_ne _ _ (show 24 ≠ 26 by decide), i32_cl (by omega), hc, hpl, if_pos (by rw [i32_add, i32_le (by omega) (by omega)]; omega), if_pos (by decide), va_up_self]
    have : p 0 = v := hps.1
    rw [show (0 : Int32).toNatClampNeg = 0 from rfl, this]
  | cons x q ih =>
    intro pre st p K hp hK hps hst he
    have hK : q.length + 1 < K := hK
    obtain ⟨n, rfl⟩ : ∃ n, K = n + 1 := ⟨K - 1, by omega⟩
    have hlt : pre.length < c := by rw [← hlen, ← hp, List.length_append]; show _ < _ + (q.length + 1); omega
    have hxi : r[pre.length]? = some x := by rw [← hp, List.getElem?_append_right (Nat.le_refl _), Nat.sub_self]; rfl
    obtain ⟨h1, h2, h3⟩ := hx _ _ hxi
    have he : (ev_s ν x st).bind (ev_r ν q) = some [v] := he
    obtain ⟨st2, he1, he2⟩ := obd he
    obtain ⟨p2, k1, k2, k3⟩ := tells_step (n := n) hv1 hr ht hk hfr hc hc2 hlt h1 h2 h3 hnm p hps hst he1
    rw [k3]
    have hp2 : (pre ++ [x]) ++ q = r := by rw [List.append_assoc]; exact hp
    have hl2 : (pre ++ [x]).length = pre.length + 1 := by rw [List.length_append]; rfl
    have := ih (pre ++ [x]) st2 p2 n hp2 (by omega) k1 (by rw [hl2]; exact k2) he2
    rw [hl2] at this
    exact this
theorem tells8 {f : xF} {g : xG} {t k : Nat} {v2 v3 v4 : Int32} {ν : Int32 → Int32} (hr : f 12 = i32 t) (ht : t < 6) (hk : k < 3) (hok : rl_ok g t k) (hev : ev_ok (rl_at g t k))
    (hnm : ∀ (p : Nat → Int32) (q : Int32), pX8_nameValue f (va_up g 26 p) q v2 v3 v4 = some (ν q)) :
    ∃ p2, pX8_tellsRule f g (i32 k) v2 v3 v4 = some (ev_v ν (rl_at g t k), f, va_up g 26 p2) := by
  have hfrom : ((480 : Int32) * f 12) + ((160 : Int32) * i32 k) = i32 (480 * t + 160 * k) := by rw [hr, show (480 : Int32) = i32 480 from rfl, show (160 : Int32) = i32 160 from rfl, i32_mulN, i32_mulN, i32_add]
  have hc := i32_of hok.1.1
  have hcl := cl_of hok.1.1
  have hcb := hok.1.2
  have hlen : (rl_at g t k).length = (g 24 (3 * t + k)).toNatClampNeg := by unfold rl_at; rw [List.length_map, List.length_range]
  have hx : ∀ i x, (rl_at g t k)[i]? = some x → g 22 (480 * t + 160 * k + i) = i32 x.1 ∧ x.1 ≤ 10 ∧ g 23 (480 * t + 160 * k + i) = x.2 := by
    intro i x hi
    unfold rl_at at hi
    rw [List.getElem?_map] at hi
    cases hj : (List.range (g 24 (3 * t + k)).toNatClampNeg)[i]? with
    | none => rw [hj] at hi; cases hi
    | some j =>
      rw [hj] at hi
      have hlt : i < (g 24 (3 * t + k)).toNatClampNeg := by
        have := (List.getElem?_eq_some_iff.mp hj).1
        rw [List.length_range] at this
        exact this
      have hji : j = i := by
        rw [List.getElem?_range hlt] at hj
        exact (Option.some.inj hj).symm
      subst hji
      have hx := Option.some.inj hi
      subst hx
      have hb := hok.2 j hlt
      have hcb := cl_of hb.1
      exact ⟨i32_of hb.1, by show (g 22 _).toNatClampNeg ≤ 10; omega, rfl⟩
  obtain ⟨p2, h⟩ := tells_all (g := g) (v2 := v2) (v3 := v3) (v4 := v4) (v1 := i32 k) (c := (g 24 (3 * t + k)).toNatClampNeg) (fr := 480 * t + 160 * k) (v := ev_v ν (rl_at g t k)) rfl hr ht hk rfl hc (by omega) hlen hx hnm (rl_at g t k) [] [] (g 26) 5000 rfl (by rw [hlen]; omega) trivial (Nat.le_refl _) (hev ν [])
  refine ⟨p2, ?_⟩
  show pX8_tellsRule_23 5000 f g (i32 k) v2 v3 v4 _ 0 _ = _
  rw [hfrom]
  rw [va_up_id] at h
  exact h
/-- the texts on both sides -/
def TR (D : xD) (θ : cx_T) : Prop := ev_uq θ.2.2.2 ∧ ∀ t k, t < (D.1 11).toNatClampNeg → k < 3 → ∃ ra a, θ.2.1 t = some ra ∧ θ.2.2.1 ra k = some a ∧ nd θ.2.2.2 θ.1 200 a (rl_at D.2 t k) ∧ rl_ok D.2 t k
theorem TR.off {lf lg : List Nat} {D E : xD} {θ : cx_T} (h : TR D θ) (ho : off lf lg D E) (h1 : 11 ∉ lf) (h2 : 22 ∉ lg) (h3 : 23 ∉ lg) (h4 : 24 ∉ lg) : TR E θ := by
  refine ⟨h.1, fun t k ht hk => ?_⟩
  unfold rl_at rl_ok
  rw [ho.1 11 h1] at ht
  rw [ho.2 22 h2, ho.2 23 h3, ho.2 24 h4]
  exact h.2 t k ht hk
theorem asks0 {D : xD} {η : cx_H} {θ : cx_T} {f : xF} {g : xG} {t k : Nat} {n w nu lo hi : Int32} (T : TR D θ) (hf : f 26 = i32 t) (ht : t < (D.1 11).toNatClampNeg) (ht6 : t < 6) (hk : k < 3) (hn : gin n 60 = true) : pX0_asks η θ f g (i32 k) n w nu lo hi = some (wmax lo (wmin hi (ev_v (ev_n0 (upd (upd (upd f 13 n) 11 w) 12 nu) g) (rl_at D.2 t k))), upd (upd (upd f 13 n) 11 w) 12 nu, g) := by
  obtain ⟨ra, a, h1, h2, h3, h4⟩ := T.2 t k ht hk
  have e : (upd (upd (upd f 13 n) 11 w) 12 nu) 26 = i32 t := hf
  show pX0_asks_0 η θ f g (i32 k) n w nu lo hi = _
  unfold pX0_asks_0
  rw [e, if_pos (gin_i ht6 (by omega)), i32_cl (by omega), h1]
  show (if gin (i32 k) 3 = true then _ else none) = _
  rw [if_pos (gin_i hk (by omega)), i32_cl (by omega), h2]
  show (wv θ.2.2.2 θ.1 _ g 200 a).bind _ = _
  rw [(ev_nd T.1 200 a _ h3).2 _ g hn]
  rfl

/-! THE LETTERS (mine): both sides read the same signs off the tape -/
def by_ (B : Nat → Int32) (m k : Nat) : Int32 := if m ≤ k then -1 else B k
def tp (B : Nat → Int32) (m : Nat) : Prop := m ≤ 160 ∧ ∀ k, k < m → 0 ≤ (B k).toInt ∧ (B k).toInt ≤ 255
def ct (B : Nat → Int32) (m : Nat) (f : xF) (g : xG) : Prop := f 20 = i32 m ∧ ∀ k, k < m → g 18 k &&& 255 = B k
def mt (B : Nat → Int32) (m : Nat) (f : xF) (g : xG) : Prop := f 13 = i32 m ∧ ∀ k, k < m → g 21 k = B k
theorem by0 {B : Nat → Int32} {m k : Nat} {f : xF} {g : xG} (hB : tp B m) (h : ct B m f g) (hk : k < 2147483648) : pX0_byteAt f g (i32 k) = some (by_ B m k) := by
  have := hB.1
  unfold pX0_byteAt pX0_byteAt_0 pX0_byteAt_22 by_
  rw [h.1]
  by_cases c : m ≤ k
  · rw [if_pos ((i32_le (by omega) hk).mpr c), if_pos c]
  · rw [if_neg (fun q => c ((i32_le (by omega) hk).mp q)), if_neg c, if_pos (gin_i (by omega) (by omega)), i32_cl hk, h.2 k (by omega)]
theorem by8 {B : Nat → Int32} {m k : Nat} {f : xF} {g : xG} (hB : tp B m) (h : mt B m f g) (hk : k < 2147483648) : pX8_byteAt f g (i32 k) = some (by_ B m k) := by
  have := hB.1
  unfold pX8_byteAt pX8_byteAt_0 pX8_byteAt_18 by_
  rw [h.1]
  by_cases c : m ≤ k
  · rw [if_pos ((i32_le (by omega) hk).mpr c), if_pos c]
  · rw [if_neg (fun q => c ((i32_le (by omega) hk).mp q)), if_neg c, if_pos (gin_i (by omega) (by omega)), i32_cl hk, h.2 k (by omega)]
abbrev isL (c : Int32) : Prop := 97 ≤ c.toInt ∧ c.toInt ≤ 122
abbrev isD (c : Int32) : Prop := 48 ≤ c.toInt ∧ c.toInt ≤ 57
theorem let0 (f : xF) (g : xG) (c : Int32) : pX0_isLetter f g c = some (zi (97 ≤ c.toInt ∧ c.toInt ≤ 122)) := by
  simp only [pX0_isLetter, pX0_isLetter_0, in0, Option.bind_some, zi_b, if_true]; rfl
theorem dig0 (f : xF) (g : xG) (c : Int32) : pX0_isDigit f g c = some (zi (48 ≤ c.toInt ∧ c.toInt ≤ 57)) := by
  simp only [pX0_isDigit, pX0_isDigit_0, in0, Option.bind_some, zi_b, if_true]; rfl
theorem let8 (f : xF) (g : xG) (c : Int32) : pX8_isLetter f g c = some (zi (97 ≤ c.toInt ∧ c.toInt ≤ 122)) := by
  simp only [pX8_isLetter, pX8_isLetter_0, in8, Option.bind_some, zi_b, if_true]; rfl
theorem dig8 (f : xF) (g : xG) (c : Int32) : pX8_isDigit f g c = some (zi (48 ≤ c.toInt ∧ c.toInt ≤ 57)) := by
  simp only [pX8_isDigit, pX8_isDigit_0, in8, Option.bind_some, zi_b, if_true]; rfl
def fr0 (f f1 : xF) : Prop := ∀ k, k ≠ 21 → k ≠ 22 → k ≠ 23 → k ≠ 24 → f1 k = f k
def fr8 (f f1 : xF) : Prop := ∀ k, k ≠ 14 → k ≠ 15 → k ≠ 16 → k ≠ 17 → f1 k = f k
theorem ct.fr {B : Nat → Int32} {m : Nat} {f f1 : xF} {g : xG} (h : ct B m f g) (q : fr0 f f1) : ct B m f1 g := ⟨(q 20 (by decide) (by decide) (by decide) (by decide)).trans h.1, h.2⟩
theorem mt.fr {B : Nat → Int32} {m : Nat} {f f1 : xF} {g : xG} (h : mt B m f g) (q : fr8 f f1) : mt B m f1 g := ⟨(q 13 (by decide) (by decide) (by decide) (by decide)).trans h.1, h.2⟩
theorem fr0.rf {f : xF} : fr0 f f := fun _ _ _ _ _ => rfl
theorem fr8.rf {f : xF} : fr8 f f := fun _ _ _ _ _ => rfl
theorem fr0.tr {f h k : xF} (a : fr0 f h) (b : fr0 h k) : fr0 f k := fun i i1 i2 i3 i4 => (b i i1 i2 i3 i4).trans (a i i1 i2 i3 i4)
theorem fr8.tr {f h k : xF} (a : fr8 f h) (b : fr8 h k) : fr8 f k := fun i i1 i2 i3 i4 => (b i i1 i2 i3 i4).trans (a i i1 i2 i3 i4)
theorem fr0.u {f : xF} {k : Nat} {v : Int32} (h : k = 21 ∨ k = 22 ∨ k = 23 ∨ k = 24) : fr0 f (upd f k v) := fun i i1 i2 i3 i4 => upd_n (by rcases h with rfl | rfl | rfl | rfl <;> assumption)
theorem fr8.u {f : xF} {k : Nat} {v : Int32} (h : k = 14 ∨ k = 15 ∨ k = 16 ∨ k = 17) : fr8 f (upd f k v) := fun i i1 i2 i3 i4 => upd_n (by rcases h with rfl | rfl | rfl | rfl <;> assumption)
theorem upd_idv {a : Nat → Int32} {i : Nat} {v : Int32} (h : a i = v) : upd a i v = a := by rw [← h]; exact upd_id
/-- blanks -/
theorem lx_skip {B : Nat → Int32} {m : Nat} (hB : tp B m) : ∀ d p, p + d = m → ∃ s, p ≤ s ∧ s ≤ m ∧ ¬ by_ B m s = 32 ∧ ¬ by_ B m s = 10 ∧ (∀ (f : xF) (g : xG) (K : Nat), ct B m f g → f 21 = i32 p → d < K → pX0_next_0 K f g = pX0_next_39 (upd f 21 (i32 s)) g) ∧ (∀ (f : xF) (g : xG) (K : Nat), mt B m f g → f 14 = i32 p → d < K → pX8_look_0 K f g = pX8_look_39 (upd f 14 (i32 s)) g) := by
  have hm := hB.1
  intro d
  induction d with
  | zero =>
    intro p hp
    have e : by_ B m p = -1 := by unfold by_; rw [if_pos (by omega)]
    refine ⟨p, Nat.le_refl _, by omega, by rw [e]; decide, by rw [e]; decide, fun f g K hc hf hK => ?_, fun f g K hc hf hK => ?_⟩
    · obtain ⟨k, rfl⟩ : ∃ k, K = k + 1 := ⟨K - 1, by omega⟩
      rw [pX0_next_0, hf, by0 hB hc (by omega), e, upd_idv hf]
      rfl
    · obtain ⟨k, rfl⟩ : ∃ k, K = k + 1 := ⟨K - 1, by omega⟩
      rw [pX8_look_0, hf, by8 hB hc (by omega), e, upd_idv hf]
      rfl
  | succ d ih =>
    intro p hp
    by_cases c : by_ B m p = 32 ∨ by_ B m p = 10
    · obtain ⟨s, s1, s2, s3, s4, s5, s6⟩ := ih (p + 1) (by omega)
      refine ⟨s, by omega, s2, s3, s4, fun f g K hc hf hK => ?_, fun f g K hc hf hK => ?_⟩
      · obtain ⟨k, rfl⟩ : ∃ k, K = k + 1 := ⟨K - 1, by omega⟩
        have e : pX0_next_0 (k + 1) f g = pX0_next_0 k (upd f 21 (i32 (p + 1))) g := by
          rw [pX0_next_0, hf, by0 hB hc (by omega)]
          unfold pX0_next_26
          rw [hf, i32_succ]
          simp only [Option.bind_some]
          rcases c with c | c
          · rw [if_pos c]
          · rw [c, if_neg (by decide), if_pos rfl]
        rw [e, s5 (upd f 21 (i32 (p + 1))) g k ⟨hc.1, hc.2⟩ upd_e (by omega), upd_up]
      · obtain ⟨k, rfl⟩ : ∃ k, K = k + 1 := ⟨K - 1, by omega⟩
        have e : pX8_look_0 (k + 1) f g = pX8_look_0 k (upd f 14 (i32 (p + 1))) g := by
          rw [pX8_look_0, hf, by8 hB hc (by omega)]
          unfold pX8_look_26
          rw [hf, i32_succ]
          simp only [Option.bind_some]
          rcases c with c | c
          · rw [if_pos c]
          · rw [c, if_neg (by decide), if_pos rfl]
        rw [e, s6 (upd f 14 (i32 (p + 1))) g k ⟨hc.1, hc.2⟩ upd_e (by omega), upd_up]
    · have c1 : ¬ by_ B m p = 32 := fun q => c (Or.inl q)
      have c2 : ¬ by_ B m p = 10 := fun q => c (Or.inr q)
      refine ⟨p, Nat.le_refl _, by omega, c1, c2, fun f g K hc hf hK => ?_, fun f g K hc hf hK => ?_⟩
      · obtain ⟨k, rfl⟩ : ∃ k, K = k + 1 := ⟨K - 1, by omega⟩
        rw [pX0_next_0, hf, by0 hB hc (by omega), upd_idv hf]
        simp only [Option.bind_some, c1, c2, if_false]
      · obtain ⟨k, rfl⟩ : ∃ k, K = k + 1 := ⟨K - 1, by omega⟩
        rw [pX8_look_0, hf, by8 hB hc (by omega), upd_idv hf]
        simp only [Option.bind_some, c1, c2, if_false]
theorem i32_subN {a b : Nat} (h : b ≤ a) (ha : a < 2147483648) : i32 a - i32 b = i32 (a - b) := by
  rw [← Int32.toInt_inj, i32_sub (by rw [i32_toInt ha, i32_toInt (by omega)]; omega) (by rw [i32_toInt ha, i32_toInt (by omega)]; omega), i32_toInt ha, i32_toInt (by omega), i32_toInt (by omega)]
  omega
/-- digits -/
theorem lx_dig {B : Nat → Int32} {m s : Nat} (hB : tp B m) (hs : s ≤ m) : ∀ (d q : Nat) (v : Int32), q + d = m → s ≤ q → ∃ (e : Nat) (v2 : Int32), q ≤ e ∧ e ≤ m ∧ (isD (by_ B m q) → q < e) ∧
    (∀ (f : xF) (g : xG) (K : Nat), ct B m f g → f 21 = i32 q → f 22 = i32 s → f 24 = v → d < K → ∃ f1, pX0_digits_5 K f g = some (if e - s ≤ 4 then 0 else 1, f1, g) ∧ fr0 f f1 ∧ f1 22 = i32 s ∧ f1 23 = 3 ∧ f1 24 = v2 ∧ f1 21 = i32 e) ∧
    (∀ (f : xF) (g : xG) (K : Nat), mt B m f g → f 14 = i32 s → f 17 = i32 (q - s) → f 16 = v → d < K → ∃ f1, pX8_look_76 K f g = some (f1, g) ∧ fr8 f f1 ∧ f1 14 = i32 s ∧ f1 15 = (if e - s ≤ 4 then 1 else -2) ∧ f1 16 = v2 ∧ f1 17 = i32 (e - s)) := by
  have hm := hB.1
  have stop : ∀ (d q : Nat) (v : Int32), q + d = m → s ≤ q → ¬ isD (by_ B m q) → ∃ (e : Nat) (v2 : Int32), q ≤ e ∧ e ≤ m ∧ (isD (by_ B m q) → q < e) ∧
    (∀ (f : xF) (g : xG) (K : Nat), ct B m f g → f 21 = i32 q → f 22 = i32 s → f 24 = v → d < K → ∃ f1, pX0_digits_5 K f g = some (if e - s ≤ 4 then 0 else 1, f1, g) ∧ fr0 f f1 ∧ f1 22 = i32 s ∧ f1 23 = 3 ∧ f1 24 = v2 ∧ f1 21 = i32 e) ∧
    (∀ (f : xF) (g : xG) (K : Nat), mt B m f g → f 14 = i32 s → f 17 = i32 (q - s) → f 16 = v → d < K → ∃ f1, pX8_look_76 K f g = some (f1, g) ∧ fr8 f f1 ∧ f1 14 = i32 s ∧ f1 15 = (if e - s ≤ 4 then 1 else -2) ∧ f1 16 = v2 ∧ f1 17 = i32 (e - s)) := by
    intro d q v hq hsq hn
    refine ⟨q, v, Nat.le_refl _, by omega, fun h => absurd h hn, fun f g K hc h21 h22 h24 hK => ?_, fun f g K hc h14 h17 h16 hK => ?_⟩
    · obtain ⟨k, rfl⟩ : ∃ k, K = k + 1 := ⟨K - 1, by omega⟩
      refine ⟨upd f 23 3, ?_, fr0.u (by omega), (upd_n (by decide)).trans h22, upd_e, (upd_n (by decide)).trans h24, (upd_n (by decide)).trans h21⟩
      rw [pX0_digits_5, h21, by0 hB hc (by omega)]
      simp only [Option.bind_some, dig0, zi_0]
      rw [if_pos hn]
      unfold pX0_digits_75
      rw [upd_n (show 21 ≠ 23 by decide), upd_n (show 22 ≠ 23 by decide), h21, h22, i32_subN hsq (by omega)]
      have : (i32 (q - s) ≤ 4) ↔ q - s ≤ 4 := i32_le (m := 4) (by omega) (by omega)
      by_cases c : q - s ≤ 4
      · rw [if_pos (this.mpr c), if_pos c]
      · rw [if_neg (fun h => c (this.mp h)), if_neg c]
    · obtain ⟨k, rfl⟩ : ∃ k, K = k + 1 := ⟨K - 1, by omega⟩
      have e : i32 s + i32 (q - s) = i32 q := by rw [i32_add, show s + (q - s) = q by omega]
      refine ⟨upd f 15 (if q - s ≤ 4 then 1 else -2), ?_, fr8.u (by omega), (upd_n (by decide)).trans h14, upd_e, (upd_n (by decide)).trans h16, (upd_n (by decide)).trans h17⟩
      rw [pX8_look_76, h14, h17, e, by8 hB hc (by omega)]
      simp only [Option.bind_some, dig8, zi_0]
      rw [if_pos hn]
      unfold pX8_look_152 pX8_look_167 pX8_look_382
      rw [h17]
      have : (i32 (q - s) ≤ 4) ↔ q - s ≤ 4 := i32_le (m := 4) (by omega) (by omega)
      by_cases c : q - s ≤ 4
      · rw [if_pos (this.mpr c), if_pos c]
      · rw [if_neg (fun h => c (this.mp h)), if_neg c]
  intro d
  induction d with
  | zero =>
    intro q v hq hsq
    refine stop 0 q v hq hsq ?_
    have e : by_ B m q = -1 := by unfold by_; rw [if_pos (by omega)]
    rw [e]
    exact fun h => absurd h.1 (by decide)
  | succ d ih =>
    intro q v hq hsq
    by_cases hn : isD (by_ B m q)
    case neg => exact stop (d + 1) q v hq hsq hn
    have h4 : ((4 : Int32) ≤ i32 (q - s)) ↔ 4 ≤ q - s := i32_le (n := 4) (by omega) (by omega)
    obtain ⟨e, v2, e1, e2, e3, e4, e5⟩ := ih (q + 1) (if 4 ≤ q - s then v else ((10 * v) + by_ B m q) - 48) (by omega) (by omega)
    refine ⟨e, v2, by omega, e2, fun _ => by omega, fun f g K hc h21 h22 h24 hK => ?_, fun f g K hc h14 h17 h16 hK => ?_⟩
    · obtain ⟨k, rfl⟩ : ∃ k, K = k + 1 := ⟨K - 1, by omega⟩
      rw [pX0_digits_5, h21, by0 hB hc (by omega)]
      simp only [Option.bind_some, dig0, zi_0]
      rw [if_neg (fun h => h hn), h22, i32_subN hsq (by omega), h24]
      unfold pX0_digits_59
      have step : ∀ w : Int32, w = (if 4 ≤ q - s then v else ((10 * v) + by_ B m q) - 48) → ∃ f1, pX0_digits_5 k (upd (upd f 24 w) 21 ((upd f 24 w) 21 + 1)) g = some (if e - s ≤ 4 then 0 else 1, f1, g) ∧ fr0 f f1 ∧ f1 22 = i32 s ∧ f1 23 = 3 ∧ f1 24 = v2 ∧ f1 21 = i32 e := by
        intro w hw
        obtain ⟨f1, r1, r2, r3⟩ := e4 (upd (upd f 24 w) 21 ((upd f 24 w) 21 + 1)) g k ⟨hc.1, hc.2⟩ (by rw [upd_e, upd_n (show 21 ≠ 24 by decide), h21, i32_succ]) h22 (by rw [upd_n (show 24 ≠ 21 by decide), upd_e]; exact hw) (by omega)
        exact ⟨f1, r1, ((fr0.u (by omega)).tr (fr0.u (by omega))).tr r2, r3⟩
      by_cases c : 4 ≤ q - s
      · rw [if_pos (h4.mpr c)]; exact step v (by rw [if_pos c])
      · rw [if_neg (fun h => c (h4.mp h))]; exact step _ (by rw [if_neg c])
    · obtain ⟨k, rfl⟩ : ∃ k, K = k + 1 := ⟨K - 1, by omega⟩
      have ee : i32 s + i32 (q - s) = i32 q := by rw [i32_add, show s + (q - s) = q by omega]
      rw [pX8_look_76, h14, h17, ee, by8 hB hc (by omega)]
      simp only [Option.bind_some, dig8, zi_0]
      rw [if_neg (fun h => h hn), h16]
      unfold pX8_look_136
      have step : ∀ w : Int32, w = (if 4 ≤ q - s then v else ((10 * v) + by_ B m q) - 48) → ∃ f1, pX8_look_76 k (upd (upd f 16 w) 17 ((upd f 16 w) 17 + 1)) g = some (f1, g) ∧ fr8 f f1 ∧ f1 14 = i32 s ∧ f1 15 = (if e - s ≤ 4 then 1 else -2) ∧ f1 16 = v2 ∧ f1 17 = i32 (e - s) := by
        intro w hw
        obtain ⟨f1, r1, r2, r3⟩ := e5 (upd (upd f 16 w) 17 ((upd f 16 w) 17 + 1)) g k ⟨hc.1, hc.2⟩ h14 (by rw [upd_e, upd_n (show 17 ≠ 16 by decide), h17, i32_succ, show q - s + 1 = q + 1 - s by omega]) (by rw [upd_n (show 16 ≠ 17 by decide), upd_e]; exact hw) (by omega)
        exact ⟨f1, r1, ((fr8.u (by omega)).tr (fr8.u (by omega))).tr r2, r3⟩
      by_cases c : 4 ≤ q - s
      · rw [if_pos (h4.mpr c)]; exact step v (by rw [if_pos c])
      · rw [if_neg (fun h => c (h4.mp h))]; exact step _ (by rw [if_neg c])
/-! words -/
def cdS (w : Nat) (c : Int32) : Nat := 32 * w + (c.toInt - 96).toNat
def cdF (L : List Int32) : Nat := L.foldl cdS 0
def wf_ (B : Nat → Int32) (m s n : Nat) : List Int32 := (List.range n).map (fun i => by_ B m (s + i))
theorem wf_s (B : Nat → Int32) (m s n : Nat) : wf_ B m s (n + 1) = wf_ B m s n ++ [by_ B m (s + n)] := by
  unfold wf_; rw [List.range_succ, List.map_append]; rfl
theorem cd_s (B : Nat → Int32) (m s n : Nat) : cdF (wf_ B m s (n + 1)) = cdS (cdF (wf_ B m s n)) (by_ B m (s + n)) := by
  unfold cdF; rw [wf_s, List.foldl_append]; rfl
def cdR : List Int32 → Nat
  | [] => 0
  | c :: t => 32 * cdR t + (c.toInt - 96).toNat
theorem cdFR (L : List Int32) : cdF L = cdR L.reverse := by
  unfold cdF
  rw [← List.foldr_reverse]
  generalize L.reverse = r
  induction r with
  | nil => rfl
  | cons c t ih => show cdS _ c = _; rw [ih]; rfl
theorem cdR_inj : ∀ (a b : List Int32), (∀ c ∈ a, isL c) → (∀ c ∈ b, isL c) → cdR a = cdR b → a = b := by
  intro a
  induction a with
  | nil =>
    intro b _ hb h
    cases b with
    | nil => rfl
    | cons c t =>
      have := hb c (List.mem_cons_self ..)
      unfold isL at this
      have h : 0 = 32 * cdR t + (c.toInt - 96).toNat := h
      omega
  | cons x a ih =>
    intro b ha hb h
    have hx := ha x (List.mem_cons_self ..)
    unfold isL at hx
    cases b with
    | nil =>
      have h : 32 * cdR a + (x.toInt - 96).toNat = 0 := h
      omega
    | cons c t =>
      have hc := hb c (List.mem_cons_self ..)
      unfold isL at hc
      have h : 32 * cdR a + (x.toInt - 96).toNat = 32 * cdR t + (c.toInt - 96).toNat := h
      have e1 : cdR a = cdR t := by omega
      have e2 : x = c := by rw [← Int32.toInt_inj]; omega
      rw [e2, ih t (fun z hz => ha z (List.mem_cons_of_mem _ hz)) (fun z hz => hb z (List.mem_cons_of_mem _ hz)) e1]
theorem cdF_inj {a b : List Int32} (ha : ∀ c ∈ a, isL c) (hb : ∀ c ∈ b, isL c) (h : cdF a = cdF b) : a = b := by
  rw [cdFR, cdFR] at h
  have := cdR_inj _ _ (fun c hc => ha c (List.mem_reverse.mp hc)) (fun c hc => hb c (List.mem_reverse.mp hc)) h
  exact List.reverse_inj.mp this
theorem cdR_lt : ∀ (a : List Int32), (∀ c ∈ a, isL c) → cdR a < 32 ^ a.length := by
  intro a
  induction a with
  | nil => intro _; decide
  | cons x a ih =>
    intro h
    have hx := h x (List.mem_cons_self ..)
    unfold isL at hx
    have := ih (fun z hz => h z (List.mem_cons_of_mem _ hz))
    show 32 * cdR a + (x.toInt - 96).toNat < 32 ^ (a.length + 1)
    rw [Nat.pow_succ]
    generalize 32 ^ a.length = P at *
    omega
theorem cdF_lt {a : List Int32} (h : ∀ c ∈ a, isL c) (hl : a.length ≤ 6) : cdF a < 1073741824 := by
  rw [cdFR]
  have h1 := cdR_lt a.reverse (fun c hc => h c (List.mem_reverse.mp hc))
  rw [List.length_reverse] at h1
  have h2 : 32 ^ a.length ≤ 32 ^ 6 := Nat.pow_le_pow_right (by decide) hl
  have h3 : 32 ^ 6 = 1073741824 := rfl
  omega
def wdc (B : Nat → Int32) (m s n : Nat) : Int32 := if n ≤ 6 then i32 (cdF (wf_ B m s n)) else 0
theorem lx_let {B : Nat → Int32} {m s : Nat} (hB : tp B m) (hs : s ≤ m) : ∀ (d q : Nat), q + d = m → s ≤ q → ∃ e : Nat, q ≤ e ∧ e ≤ m ∧ (isL (by_ B m q) → q < e) ∧ (∀ i, q ≤ i → i < e → isL (by_ B m i)) ∧
    (∀ (f : xF) (g : xG) (K : Nat), ct B m f g → f 21 = i32 q → d < K → pX0_word_0 K f g = pX0_word_27 (upd f 21 (i32 e)) g) ∧
    (∀ (f : xF) (g : xG) (K : Nat), mt B m f g → f 14 = i32 s → f 17 = i32 (q - s) → f 16 = wdc B m s (q - s) → d < K → ∃ f1, pX8_look_186 K f g = pX8_look_260 f1 g ∧ fr8 f f1 ∧ f1 14 = i32 s ∧ f1 17 = i32 (e - s) ∧ f1 16 = wdc B m s (e - s)) := by
  have hm := hB.1
  have stop : ∀ (d q : Nat), q + d = m → s ≤ q → ¬ isL (by_ B m q) → ∃ e : Nat, q ≤ e ∧ e ≤ m ∧ (isL (by_ B m q) → q < e) ∧ (∀ i, q ≤ i → i < e → isL (by_ B m i)) ∧
    (∀ (f : xF) (g : xG) (K : Nat), ct B m f g → f 21 = i32 q → d < K → pX0_word_0 K f g = pX0_word_27 (upd f 21 (i32 e)) g) ∧
    (∀ (f : xF) (g : xG) (K : Nat), mt B m f g → f 14 = i32 s → f 17 = i32 (q - s) → f 16 = wdc B m s (q - s) → d < K → ∃ f1, pX8_look_186 K f g = pX8_look_260 f1 g ∧ fr8 f f1 ∧ f1 14 = i32 s ∧ f1 17 = i32 (e - s) ∧ f1 16 = wdc B m s (e - s)) := by
    intro d q hq hsq hn
    refine ⟨q, Nat.le_refl _, by omega, fun h => absurd h hn, fun i h1 h2 => by omega, fun f g K hc h21 hK => ?_, fun f g K hc h14 h17 h16 hK => ?_⟩
    · obtain ⟨k, rfl⟩ : ∃ k, K = k + 1 := ⟨K - 1, by omega⟩
      rw [pX0_word_0, h21, by0 hB hc (by omega), upd_idv h21]
      simp only [Option.bind_some, let0, zi_0]
      rw [if_pos hn]
    · obtain ⟨k, rfl⟩ : ∃ k, K = k + 1 := ⟨K - 1, by omega⟩
      have e : i32 s + i32 (q - s) = i32 q := by rw [i32_add, show s + (q - s) = q by omega]
      refine ⟨f, ?_, fr8.rf, h14, h17, h16⟩
      rw [pX8_look_186, h14, h17, e, by8 hB hc (by omega)]
      simp only [Option.bind_some, let8, zi_0]
      rw [if_pos hn]
  intro d
  induction d with
  | zero =>
    intro q hq hsq
    refine stop 0 q hq hsq ?_
    have e : by_ B m q = -1 := by unfold by_; rw [if_pos (by omega)]
    rw [e]
    exact fun h => absurd h.1 (by decide)
  | succ d ih =>
    intro q hq hsq
    by_cases hn : isL (by_ B m q)
    case neg => exact stop (d + 1) q hq hsq hn
    have h6 : ((6 : Int32) ≤ i32 (q - s)) ↔ 6 ≤ q - s := i32_le (n := 6) (by omega) (by omega)
    obtain ⟨e, e1, e2, e3, e4, e5, e6⟩ := ih (q + 1) (by omega) (by omega)
    refine ⟨e, by omega, e2, fun _ => by omega, fun i h1 h2 => ?_, fun f g K hc h21 hK => ?_, fun f g K hc h14 h17 h16 hK => ?_⟩
    · by_cases c : i = q
      · rw [c]; exact hn
      · exact e4 i (by omega) h2
    · obtain ⟨k, rfl⟩ : ∃ k, K = k + 1 := ⟨K - 1, by omega⟩
      rw [pX0_word_0, h21, by0 hB hc (by omega)]
      simp only [Option.bind_some, let0, zi_0]
      rw [if_neg (fun h => h hn), i32_succ, e5 (upd f 21 (i32 (q + 1))) g k ⟨hc.1, hc.2⟩ upd_e (by omega), upd_up]
    · obtain ⟨k, rfl⟩ : ∃ k, K = k + 1 := ⟨K - 1, by omega⟩
      have ee : i32 s + i32 (q - s) = i32 q := by rw [i32_add, show s + (q - s) = q by omega]
      rw [pX8_look_186, h14, h17, ee, by8 hB hc (by omega)]
      simp only [Option.bind_some, let8, zi_0]
      rw [if_neg (fun h => h hn), h16]
      unfold pX8_look_244
      have step : ∀ w : Int32, w = wdc B m s (q + 1 - s) → ∃ f1, pX8_look_186 k (upd (upd f 16 w) 17 ((upd f 16 w) 17 + 1)) g = pX8_look_260 f1 g ∧ fr8 f f1 ∧ f1 14 = i32 s ∧ f1 17 = i32 (e - s) ∧ f1 16 = wdc B m s (e - s) := by
        intro w hw
        obtain ⟨f1, r1, r2, r3⟩ := e6 (upd (upd f 16 w) 17 ((upd f 16 w) 17 + 1)) g k ⟨hc.1, hc.2⟩ h14 (by rw [upd_e, upd_n (show 17 ≠ 16 by decide), h17, i32_succ, show q - s + 1 = q + 1 - s by omega]) (by rw [upd_n (show 16 ≠ 17 by decide), upd_e]; exact hw) (by omega)
        exact ⟨f1, r1, ((fr8.u (by omega)).tr (fr8.u (by omega))).tr r2, r3⟩
      by_cases c : 6 ≤ q - s
      · rw [if_pos (h6.mpr c)]
        refine step 0 ?_
        unfold wdc
        rw [if_neg (by omega)]
      · rw [if_neg (fun h => c (h6.mp h))]
        refine step _ ?_
        unfold wdc
        rw [if_pos (by omega), if_pos (by omega), show q + 1 - s = (q - s) + 1 by omega, cd_s, show s + (q - s) = q by omega]
        unfold isL at hn
        unfold cdS
        have eb : by_ B m q = i32 ((by_ B m q).toInt - 96).toNat + 96 := by
          rw [← Int32.toInt_inj, i32_addI (by rw [i32_toInt (by omega)]; show _ ≤ _ + (96 : Int); omega) (by rw [i32_toInt (by omega)]; show _ + (96 : Int) ≤ _; omega), i32_toInt (by omega)]
          show _ = _ + (96 : Int)
          omega
        rw [← i32_add, ← i32_mulN]
        generalize i32 (cdF (wf_ B m s (q - s))) = W at *
        generalize i32 ((by_ B m q).toInt - 96).toNat = X at *
        rw [eb, ← Int32.add_assoc, Int32.add_sub_cancel]
        rfl

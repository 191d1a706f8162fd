/-! THE SIGNS OF A TEXT (mine): a sign is (its start, its end, its kind, its value); kinds: 0 end, 1 key, 2 name, 3 number, 4 sign, 5 none such -/
theorem sl_len : ∀ q, q < 13 → sx_len.getD q 0 = (sx_byt.getD q []).length := by decide
theorem sl_let : ∀ q, q < 13 → 1 ≤ q → ∀ c ∈ sx_byt.getD q [], isL c := by decide
theorem sl_6 : ∀ q, q < 13 → 1 ≤ q → (sx_byt.getD q []).length ≤ 6 := by decide
theorem sl_nz : ∀ q, q < 13 → 1 ≤ q → ¬ i32 (cdF (sx_byt.getD q [])) = 0 := by decide
def pixA (base : Nat) (w : List Int32) : Nat → Nat → Int32
  | 0, _ => -1
  | d + 1, j => if sx_byt.getD (base + j) [] = w then i32 j else pixA base w d (j + 1)
def cmpB (B : Nat → Int32) (m s q : Nat) : Nat → Nat → Bool
  | 0, _ => true
  | d + 1, i => decide (sx_c q i = by_ B m (s + i)) && cmpB B m s q d (i + 1)
theorem cmpB_t {B : Nat → Int32} {m s q : Nat} : ∀ (d i : Nat), cmpB B m s q d i = true ↔ ∀ j, i ≤ j → j < i + d → sx_c q j = by_ B m (s + j) := by
  intro d
  induction d with
  | zero => intro i; exact ⟨fun _ j h1 h2 => by omega, fun _ => rfl⟩
  | succ d ih =>
    intro i
    unfold cmpB
    rw [Bool.and_eq_true, decide_eq_true_eq, ih (i + 1)]
    refine ⟨fun h j h1 h2 => ?_, fun h => ⟨h i (Nat.le_refl _) (by omega), fun j h1 h2 => h j (by omega) (by omega)⟩⟩
    by_cases c : j = i
    · rw [c]; exact h.1
    · exact h.2 j (by omega) (by omega)
theorem lit_eq {B : Nat → Int32} {m s q n : Nat} : sx_byt.getD q [] = wf_ B m s n ↔ (sx_byt.getD q []).length = n ∧ cmpB B m s q n 0 = true := by
  rw [cmpB_t]
  have hl : (wf_ B m s n).length = n := by unfold wf_; rw [List.length_map, List.length_range]
  have hget : ∀ i, i < n → (wf_ B m s n)[i]? = some (by_ B m (s + i)) := fun i hi => by
    unfold wf_
    rw [List.getElem?_map, List.getElem?_range hi]; rfl
  refine ⟨fun h => ⟨by rw [h]; exact hl, fun j _ h2 => ?_⟩, fun h => ?_⟩
  · unfold sx_c
    rw [h, List.getD_eq_getElem?_getD, hget j (by omega)]
    rfl
  · apply List.ext_getElem?
    intro i
    by_cases c : i < n
    · rw [hget i c, ← h.2 i (by omega) (by omega)]
      unfold sx_c
      have hlt : i < (sx_byt.getD q []).length := by rw [h.1]; exact c
      generalize sx_byt.getD q [] = L at *
      rw [List.getD_eq_getElem?_getD, List.getElem?_eq_getElem hlt]
      rfl
    · rw [List.getElem?_eq_none (by rw [h.1]; omega), List.getElem?_eq_none (by rw [hl]; omega)]
theorem place35 {B : Nat → Int32} {m s e v1 j : Nat} {f : xF} {g : xG} (k2 : Nat → Int32 → Option Int32) (hB : tp B m) (hc : ct B m f g) (h21 : f 21 = i32 e) (h22 : f 22 = i32 s) (hse : s ≤ e) (hem : e ≤ m) (hv : gkr v1 = true) (hj : j < 6) (hq : kx_b v1 + j < 13) (hlen : sx_len.getD (kx_b v1 + j) 0 = e - s) :
    ∀ (d i K : Nat), i + d = e - s → d < K → pX0_placeIn_35 f g k2 K v1 (i32 j) 1 (i32 i) = pX0_placeIn_87 f g k2 v1 (i32 j) (bz (cmpB B m s (kx_b v1 + j) d i)) := by
  have hm := hB.1
  have ej : (i32 j).toNatClampNeg = j := i32_cl (by omega)
  intro d
  induction d with
  | zero =>
    intro i K hi hK
    obtain ⟨k, rfl⟩ : ∃ k, K = k + 1 := ⟨K - 1, by omega⟩
    rw [pX0_placeIn_35, if_neg (by decide), h21, h22, i32_subN hse (by omega), if_pos (by rw [i32_le (by omega) (by omega)]; omega)]
    rfl
  | succ d ih =>
    intro i K hi hK
    obtain ⟨k, rfl⟩ : ∃ k, K = k + 1 := ⟨K - 1, by omega⟩
    have ei : (i32 i).toNatClampNeg = i := i32_cl (by omega)
    rw [pX0_placeIn_35, if_neg (by decide), h21, h22, i32_subN hse (by omega), if_neg (by rw [i32_le (by omega) (by omega)]; omega), if_pos hv, if_pos (gin_i hj (by omega)), ej, if_pos (show gsx (kx_b v1 + j) = true by unfold gsx; rw [decide_eq_true_eq]; omega), hlen, if_pos (gin_i (by omega) (by omega)), i32_add, by0 hB hc (by omega), ei]
    simp only [Option.bind_some]
    unfold pX0_placeIn_80 cmpB
    rw [i32_succ]
    by_cases c : sx_c (kx_b v1 + j) i = by_ B m (s + i)
    · rw [if_pos c, decide_eq_true c, Bool.true_and]
      exact ih (i + 1) k (by omega) (by omega)
    · rw [if_neg c, decide_eq_false c, Bool.false_and]
      cases k with
      | zero => omega
      | succ k => rw [pX0_placeIn_35, if_pos rfl]; rfl
theorem place0 {B : Nat → Int32} {m s e v1 : Nat} {f : xF} {g : xG} (hB : tp B m) (hc : ct B m f g) (h21 : f 21 = i32 e) (h22 : f 22 = i32 s) (hse : s ≤ e) (hem : e ≤ m) (hv : v1 = 16 ∨ v1 = 17) : pX0_placeIn f g v1 = some (pixA (kx_b v1) (wf_ B m s (e - s)) 6 0) := by
  have hm := hB.1
  have hvk : gkr v1 = true := by rcases hv with rfl | rfl <;> rfl
  have hb : kx_b v1 ≤ 7 := by rcases hv with rfl | rfl <;> decide
  have key : ∀ (d j K : Nat), j + d = 6 → d < K → pX0_placeIn_2 f g K v1 (i32 j) = some (pixA (kx_b v1) (wf_ B m s (e - s)) d j) := by
    intro d
    induction d with
    | zero =>
      intro j K hj hK
      obtain ⟨k, rfl⟩ : ∃ k, K = k + 1 := ⟨K - 1, by omega⟩
      rw [pX0_placeIn_2, if_pos hvk, if_pos (by rw [show (6 : Int32) = i32 6 from rfl, i32_le (by omega) (by omega)]; omega)]
      rfl
    | succ d ih =>
      intro j K hj hK
      obtain ⟨k, rfl⟩ : ∃ k, K = k + 1 := ⟨K - 1, by omega⟩
      have ej : (i32 j).toNatClampNeg = j := i32_cl (by omega)
      have hq : kx_b v1 + j < 13 := by omega
      rw [pX0_placeIn_2, if_pos hvk, if_neg (by rw [show (6 : Int32) = i32 6 from rfl, i32_le (by omega) (by omega)]; omega), if_pos hvk, if_pos (gin_i (by omega) (by omega)), ej, if_pos (show gsx (kx_b v1 + j) = true by unfold gsx; rw [decide_eq_true_eq]; omega), h21, h22, i32_subN hse (by omega)]
      unfold pX0_placeIn_31 pixA
      have hcmp : (sx_n (kx_b v1 + j) = i32 (e - s)) ↔ sx_len.getD (kx_b v1 + j) 0 = e - s := by
        have h6 : ∀ q, q < 13 → sx_len.getD q 0 < 100 := by decide
        have := h6 _ hq
        exact i32_inj (by omega) (by omega)
      by_cases c : sx_len.getD (kx_b v1 + j) 0 = e - s
      · rw [if_pos (hcmp.mpr c)]
        have := place35 (pX0_placeIn_2 f g k) hB hc h21 h22 hse hem hvk (show j < 6 by omega) hq c (e - s) 0 5000 (by omega) (by omega)
        rw [show (0 : Int32) = i32 0 from rfl, this]
        unfold pX0_placeIn_87
        rw [i32_succ, ih (j + 1) k (by omega) (by omega)]
        have hle := lit_eq (B := B) (m := m) (s := s) (q := kx_b v1 + j) (n := e - s)
        rw [← sl_len _ hq] at hle
        cases hb : cmpB B m s (kx_b v1 + j) (e - s) 0
        · rw [if_pos (by decide), if_neg (fun q => by have := (hle.mp q).2; rw [hb] at this; cases this)]
        · rw [if_neg (by decide), if_pos (hle.mpr ⟨c, hb⟩)]
      · rw [if_neg (fun q => c (hcmp.mp q)), if_neg (fun q => c (by rw [sl_len _ hq]; exact (lit_eq.mp q).1)), pX0_placeIn_35, if_pos rfl]
        unfold pX0_placeIn_87
        rw [if_pos rfl, i32_succ]
        exact ih (j + 1) k (by omega) (by omega)
  exact key 6 0 5000 (by omega) (by omega)
theorem pixA_ex {base : Nat} {w : List Int32} : ∀ (d j : Nat), j + d = 6 → (pixA base w d j = -1 ∧ ∀ i, j ≤ i → i < 6 → ¬ sx_byt.getD (base + i) [] = w) ∨ ∃ i, j ≤ i ∧ i < 6 ∧ pixA base w d j = i32 i ∧ sx_byt.getD (base + i) [] = w := by
  intro d
  induction d with
  | zero => intro j hj; exact Or.inl ⟨rfl, fun i h1 h2 => by omega⟩
  | succ d ih =>
    intro j hj
    unfold pixA
    by_cases c : sx_byt.getD (base + j) [] = w
    · rw [if_pos c]; exact Or.inr ⟨j, Nat.le_refl _, by omega, rfl, c⟩
    · rw [if_neg c]
      rcases ih (j + 1) (by omega) with ⟨h1, h2⟩ | ⟨i, h1, h2, h3, h4⟩
      · refine Or.inl ⟨h1, fun i k1 k2 => ?_⟩
        by_cases e : i = j
        · rw [e]; exact c
        · exact h2 i (by omega) k2
      · exact Or.inr ⟨i, by omega, h2, h3, h4⟩
/-- the twin's number of a word tells the word -/
theorem wdc_eq {B : Nat → Int32} {m s n q : Nat} (hq : q < 13) (hq1 : 1 ≤ q) (hL : ∀ i, i < n → isL (by_ B m (s + i))) : (wdc B m s n = i32 (cdF (sx_byt.getD q []))) ↔ sx_byt.getD q [] = wf_ B m s n := by
  have hl : (wf_ B m s n).length = n := by unfold wf_; rw [List.length_map, List.length_range]
  have hW : ∀ c ∈ wf_ B m s n, isL c := fun c hc => by
    unfold wf_ at hc
    obtain ⟨i, hi, rfl⟩ := List.mem_map.mp hc
    exact hL i (List.mem_range.mp hi)
  unfold wdc
  by_cases c : n ≤ 6
  · rw [if_pos c]
    have h1 := cdF_lt hW (by rw [hl]; exact c)
    have h2 := cdF_lt (sl_let q hq hq1) (sl_6 q hq hq1)
    refine ⟨fun h => ?_, fun h => by rw [h]⟩
    have h := (i32_inj (by omega) (by omega)).mp h
    exact (cdF_inj hW (sl_let q hq hq1) h).symm
  · rw [if_neg c]
    refine ⟨fun h => absurd h.symm (sl_nz q hq hq1), fun h => ?_⟩
    have := sl_6 q hq hq1
    rw [h, hl] at this
    exact absurd this c
theorem name8w {B : Nat → Int32} {m s n : Nat} (f : xF) (g : xG) (hL : ∀ i, i < n → isL (by_ B m (s + i))) : pX8_nameOf f g (wdc B m s n) = some (pixA 7 (wf_ B m s n) 6 0) := by
  have h := fun q (hq : q < 13) (hq1 : 1 ≤ q) => wdc_eq (B := B) (m := m) (s := s) (n := n) hq hq1 hL
  have e7 : i32 (cdF (sx_byt.getD 7 [])) = 777297172 := by decide
  have e8 : i32 (cdF (sx_byt.getD 8 [])) = 23732 := by decide
  have e9 : i32 (cdF (sx_byt.getD 9 [])) = 9317 := by decide
  have e10 : i32 (cdF (sx_byt.getD 10 [])) = 763332 := by decide
  have e11 : i32 (cdF (sx_byt.getD 11 [])) = 492210354 := by decide
  have e12 : i32 (cdF (sx_byt.getD 12 [])) = 14982420 := by decide
  have h7 := h 7 (by decide) (by decide)
  have h8 := h 8 (by decide) (by decide)
  have h9 := h 9 (by decide) (by decide)
  have h10 := h 10 (by decide) (by decide)
  have h11 := h 11 (by decide) (by decide)
  have h12 := h 12 (by decide) (by decide)
  rw [e7] at h7
  rw [e8] at h8
  rw [e9] at h9
  rw [e10] at h10
  rw [e11] at h11
  rw [e12] at h12
  unfold pX8_nameOf pX8_nameOf_0 pX8_nameOf_63
  simp only [h7, h8, h9, h10, h11, h12]
  show _ = some (if sx_byt.getD 7 [] = wf_ B m s n then i32 0 else if sx_byt.getD 8 [] = wf_ B m s n then i32 1 else if sx_byt.getD 9 [] = wf_ B m s n then i32 2 else if sx_byt.getD 10 [] = wf_ B m s n then i32 3 else if sx_byt.getD 11 [] = wf_ B m s n then i32 4 else if sx_byt.getD 12 [] = wf_ B m s n then i32 5 else -1)
  repeat' split
  all_goals rfl
theorem key8w {B : Nat → Int32} {m s n : Nat} (f : xF) (g : xG) (hL : ∀ i, i < n → isL (by_ B m (s + i))) : pX8_isKey f g (wdc B m s n) = some (if pixA 1 (wf_ B m s n) 6 0 = -1 then 0 else 1) := by
  have h := fun q (hq : q < 13) (hq1 : 1 ≤ q) => wdc_eq (B := B) (m := m) (s := s) (n := n) hq hq1 hL
  have e1 : i32 (cdF (sx_byt.getD 1 [])) = 1156 := by decide
  have e2 : i32 (cdF (sx_byt.getD 2 [])) = 99724 := by decide
  have e3 : i32 (cdF (sx_byt.getD 3 [])) = 24627848 := by decide
  have e4 : i32 (cdF (sx_byt.getD 4 [])) = 498 := by decide
  have e5 : i32 (cdF (sx_byt.getD 5 [])) = 1476 := by decide
  have e6 : i32 (cdF (sx_byt.getD 6 [])) = 14836 := by decide
  have h1 := h 1 (by decide) (by decide)
  have h2 := h 2 (by decide) (by decide)
  have h3 := h 3 (by decide) (by decide)
  have h4 := h 4 (by decide) (by decide)
  have h5 := h 5 (by decide) (by decide)
  have h6 := h 6 (by decide) (by decide)
  rw [e1] at h1
  rw [e2] at h2
  rw [e3] at h3
  rw [e4] at h4
  rw [e5] at h5
  rw [e6] at h6
  unfold pX8_isKey pX8_isKey_0 pX8_isKey_40 pX8_isKey_45
  simp only [h1, h2, h3, h4, h5, h6, gbz0, gbz1, if_true]
  show _ = some (if (if sx_byt.getD 1 [] = wf_ B m s n then i32 0 else if sx_byt.getD 2 [] = wf_ B m s n then i32 1 else if sx_byt.getD 3 [] = wf_ B m s n then i32 2 else if sx_byt.getD 4 [] = wf_ B m s n then i32 3 else if sx_byt.getD 5 [] = wf_ B m s n then i32 4 else if sx_byt.getD 6 [] = wf_ B m s n then i32 5 else -1) = -1 then 0 else 1)
  repeat' split
  all_goals first | rfl | (rename_i q; exact absurd q (by decide)) | skip
  all_goals (rename_i q; exact absurd rfl q)
abbrev tK : Type := Nat × Nat × Nat × Int32
def tk8 (t : tK) : Int32 := if t.2.2.1 = 0 then -1 else if t.2.2.1 = 1 then 2 else if t.2.2.1 = 2 then 2 else if t.2.2.1 = 3 then 1 else if t.2.2.1 = 4 then t.2.2.2 else -2
def wd8 (t : tK) : Int32 := if t.2.2.1 = 1 then i32 (cdF (sx_byt.getD (1 + t.2.2.2.toNatClampNeg) [])) else if t.2.2.1 = 2 then i32 (cdF (sx_byt.getD (7 + t.2.2.2.toNatClampNeg) [])) else t.2.2.2
def sgn (c : Int32) : Bool := [40, 41, 59, 43, 45, 42, 60, 61].contains c
/-- what a sign may be -/
def tkv (t : tK) : Prop := t.2.2.1 ≤ 5 ∧ ((t.2.2.1 = 1 ∨ t.2.2.1 = 2) → ∃ i, i < 6 ∧ t.2.2.2 = i32 i) ∧ (t.2.2.1 = 4 → sgn t.2.2.2 = true)
/-- the component stands at the sign t -/
def cAt (t : tK) (f : xF) : Prop := f 22 = i32 t.1 ∧ f 23 = i32 t.2.2.1 ∧ (t.2.2.1 ≠ 0 → f 24 = t.2.2.2 ∧ f 21 = i32 t.2.1)
/-- the twin stands at the sign t -/
def mAt (t : tK) (f : xF) : Prop := f 14 = i32 t.1 ∧ f 15 = tk8 t ∧ ((t.2.2.1 = 1 ∨ t.2.2.1 = 2 ∨ t.2.2.1 = 3) → f 16 = wd8 t) ∧ (t.2.2.1 ≠ 0 → t.2.2.1 ≠ 5 → f 17 = i32 (t.2.1 - t.1))
/-- from the place p on, both read the sign t -/
def tAt (B : Nat → Int32) (m p : Nat) (t : tK) : Prop :=
  p ≤ t.1 ∧ t.1 ≤ m ∧ tkv t ∧ (t.2.2.1 ≠ 0 → t.2.2.1 ≠ 5 → t.1 < t.2.1 ∧ t.2.1 ≤ m) ∧
  (∀ (f : xF) (g : xG), ct B m f g → f 21 = i32 p → ∃ f1, fr0 f f1 ∧ ((t.2.2.1 ≠ 5 ∧ pX0_next f g = some (0, f1, g) ∧ cAt t f1) ∨ (t.2.2.1 = 5 ∧ pX0_next f g = some (1, f1, g) ∧ f1 22 = i32 t.1))) ∧
  (∀ (f : xF) (g : xG), mt B m f g → f 14 = i32 p → ∃ f1, fr8 f f1 ∧ pX8_look f g = some (f1, g) ∧ mAt t f1)
theorem ixo_s : ∀ n, n < 256 → (decide (0 ≤ sx_ixo 0 (i32 n)) = sgn (i32 n)) := by decide +kernel
theorem word27 {B : Nat → Int32} {m s e : Nat} {f : xF} {g : xG} (hB : tp B m) (hc : ct B m f g) (h21 : f 21 = i32 e) (h22 : f 22 = i32 s) (hse : s ≤ e) (hem : e ≤ m) : pX0_word_27 f g = if pixA 1 (wf_ B m s (e - s)) 6 0 = -1 then (if pixA 7 (wf_ B m s (e - s)) 6 0 = -1 then some (1, upd (upd f 23 2) 24 (pixA 7 (wf_ B m s (e - s)) 6 0), g) else some (0, upd (upd f 23 2) 24 (pixA 7 (wf_ B m s (e - s)) 6 0), g)) else some (0, upd (upd f 23 1) 24 (pixA 1 (wf_ B m s (e - s)) 6 0), g) := by
  have P1 := place0 (v1 := 16) hB hc h21 h22 hse hem (Or.inl rfl)
  have P2 := fun x : Int32 => place0 (f := upd f 23 x) (v1 := 17) hB (ct.fr hc (fr0.u (by omega))) ((upd_n (by decide)).trans h21) ((upd_n (by decide)).trans h22) hse hem (Or.inr rfl)
  unfold pX0_word_27 pX0_word_47 pX0_word_68
  rw [P1, P2, P2]
  simp only [Option.bind_some, upd_e, show kx_b 16 = 1 from rfl, show kx_b 17 = 7 from rfl]
  by_cases c : pixA 1 (wf_ B m s (e - s)) 6 0 = -1
  · simp only [c, if_true]
  · simp only [c, if_false]
theorem look260 {B : Nat → Int32} {m s n : Nat} {f : xF} {g : xG} (hn : n ≤ 160) (h17 : f 17 = i32 n) (h16 : f 16 = wdc B m s n) (hL : ∀ i, i < n → isL (by_ B m (s + i))) : pX8_look_260 f g = some (upd f 15 (if pixA 1 (wf_ B m s n) 6 0 = -1 ∧ pixA 7 (wf_ B m s n) 6 0 = -1 then -2 else 2), g) := by
  have e : pX8_look_260 f g = pX8_look_278 f g (wdc B m s n) := by
    unfold pX8_look_260
    rw [h17, h16]
    by_cases c : n ≤ 6
    · rw [if_pos (show i32 n ≤ 6 by rw [show (6 : Int32) = i32 6 from rfl, i32_le (by omega) (by omega)]; exact c)]
    · rw [if_neg (show ¬ i32 n ≤ 6 by rw [show (6 : Int32) = i32 6 from rfl, i32_le (by omega) (by omega)]; exact c)]
      unfold wdc
      rw [if_neg c]
  rw [e]
  unfold pX8_look_278 pX8_look_304 pX8_look_310 pX8_look_382
  rw [upd_idv h16, h16, name8w f g hL, key8w f g hL]
  simp only [Option.bind_some]
  rcases pixA_ex (base := 7) (w := wf_ B m s n) 6 0 (by omega) with ⟨q1, _⟩ | ⟨i, _, q2, q1, _⟩
  · rw [q1, if_neg (by decide)]
    rcases pixA_ex (base := 1) (w := wf_ B m s n) 6 0 (by omega) with ⟨r1, _⟩ | ⟨j, _, r2, r1, _⟩
    · rw [r1]; rfl
    · have : ¬ i32 j = -1 := fun q => by have := congrArg Int32.toInt q; rw [i32_toInt (by omega), show (-1 : Int32).toInt = -1 from rfl] at this; omega
      rw [r1, if_neg this, if_neg (by decide), if_neg (fun q => this q.1)]
  · have : ¬ i32 i = -1 := fun q => by have := congrArg Int32.toInt q; rw [i32_toInt (by omega), show (-1 : Int32).toInt = -1 from rfl] at this; omega
    rw [q1, if_pos (by rw [show (0 : Int32) = i32 0 from rfl, i32_le (by omega) (by omega)]; omega), if_neg (fun q => this q.2)]
theorem chain {α : Type} (c : Int32) (A Z : α) : (if c = 40 then A else if c = 41 then A else if c = 59 then A else if c = 43 then A else if c = 45 then A else if c = 42 then A else if c = 60 then A else if c = 61 then A else Z) = if sgn c = true then A else Z := by
  by_cases h1 : c = 40
  · subst h1; rfl
  by_cases h2 : c = 41
  · subst h2; rfl
  by_cases h3 : c = 59
  · subst h3; rfl
  by_cases h4 : c = 43
  · subst h4; rfl
  by_cases h5 : c = 45
  · subst h5; rfl
  by_cases h6 : c = 42
  · subst h6; rfl
  by_cases h7 : c = 60
  · subst h7; rfl
  by_cases h8 : c = 61
  · subst h8; rfl
  have hs : ¬ sgn c = true := by
    unfold sgn
    simp [h1, h2, h3, h4, h5, h6, h7, h8]
  rw [if_neg hs]
  simp only [h1, h2, h3, h4, h5, h6, h7, h8, if_false]
theorem tok_ex {B : Nat → Int32} {m p : Nat} (hB : tp B m) (hp : p ≤ m) : ∃ t, tAt B m p t := by
  have hm := hB.1
  obtain ⟨s, s1, s2, s3, s4, s5, s6⟩ := lx_skip hB (m - p) p (by omega)
  have S0 : ∀ (f : xF) (g : xG), ct B m f g → f 21 = i32 p → pX0_next f g = pX0_next_39 (upd f 21 (i32 s)) g := fun f g hc h => s5 f g 5000 hc h (by omega)
  have S8 : ∀ (f : xF) (g : xG), mt B m f g → f 14 = i32 p → pX8_look f g = pX8_look_39 (upd f 14 (i32 s)) g := fun f g hc h => s6 f g 5000 hc h (by omega)
  by_cases cE : m ≤ s
  · -- the end
    have hb : by_ B m s = -1 := by unfold by_; rw [if_pos cE]
    refine ⟨(s, s, 0, 0), s1, s2, ⟨Nat.zero_le _, fun h => by (simp at h), fun h => by (simp at h)⟩, fun h => absurd rfl h, fun f g hc h21 => ?_, fun f g hc h14 => ?_⟩
    · refine ⟨upd (upd (upd f 21 (i32 s)) 22 (i32 s)) 23 0, ((fr0.u (by omega)).tr (fr0.u (by omega))).tr (fr0.u (by omega)), Or.inl ⟨fun h => by (cases h), ?_, ⟨by rw [upd_n (by decide), upd_e], by rw [upd_e]; rfl, fun h => absurd rfl h⟩⟩⟩
      rw [S0 f g hc h21]
      unfold pX0_next_39 pX0_next_131
      rw [upd_e, upd_n (show 21 ≠ 22 by decide), upd_e, by0 hB (ct.fr hc ((fr0.u (by omega)).tr (fr0.u (by omega)))) (by omega), hb]
      rfl
    · refine ⟨upd (upd (upd (upd f 14 (i32 s)) 17 1) 16 0) 15 (-1), (((fr8.u (by omega)).tr (fr8.u (by omega))).tr (fr8.u (by omega))).tr (fr8.u (by omega)), ?_, ⟨by rw [upd_n (by decide), upd_n (by decide), upd_n (by decide), upd_e], by rw [upd_e]; rfl, fun h => by (simp at h), fun h => absurd rfl h⟩⟩
      rw [S8 f g hc h14]
      unfold pX8_look_39
      rw [upd_e, by8 hB (mt.fr hc (fr8.u (by omega))) (by omega), hb]
      simp only [Option.bind_some, dig8, let8, zi_0]
      rw [if_pos (by decide), if_pos (by decide), chain, if_neg (by decide), if_neg (by decide)]
      rfl
  have hbs : 0 ≤ (by_ B m s).toInt ∧ (by_ B m s).toInt ≤ 255 := by unfold by_; rw [if_neg cE]; exact hB.2 s (by omega)
  have hbn : ¬ by_ B m s = -1 := fun q => by rw [q] at hbs; exact absurd hbs.1 (by decide)
  have hnn : 0 ≤ by_ B m s := by rw [Int32.le_iff_toInt_le, Int32.toInt_zero]; exact hbs.1
  by_cases cL : isL (by_ B m s)
  · -- a word
    have cD : ¬ isD (by_ B m s) := fun q => by have h1 := q.2; have h2 := cL.1; omega
    obtain ⟨e, e1, e2, e3, e4, e5, e6⟩ := lx_let hB s2 (m - s) s (by omega) (Nat.le_refl _)
    have hlt := e3 cL
    have hLet : ∀ i, i < e - s → isL (by_ B m (s + i)) := fun i hi => e4 (s + i) (by omega) (by omega)
    have W0 : ∀ (f : xF) (g : xG), ct B m f g → f 21 = i32 p → ∃ f1, fr0 f f1 ∧ f1 21 = i32 e ∧ f1 22 = i32 s ∧ pX0_next f g = if pixA 1 (wf_ B m s (e - s)) 6 0 = -1 then (if pixA 7 (wf_ B m s (e - s)) 6 0 = -1 then some (1, upd (upd f1 23 2) 24 (pixA 7 (wf_ B m s (e - s)) 6 0), g) else some (0, upd (upd f1 23 2) 24 (pixA 7 (wf_ B m s (e - s)) 6 0), g)) else some (0, upd (upd f1 23 1) 24 (pixA 1 (wf_ B m s (e - s)) 6 0), g) := by
      intro f g hc h21
      refine ⟨upd (upd (upd f 21 (i32 s)) 22 (i32 s)) 21 (i32 e), ((fr0.u (by omega)).tr (fr0.u (by omega))).tr (fr0.u (by omega)), upd_e, by rw [upd_n (by decide), upd_e], ?_⟩
      rw [S0 f g hc h21]
      unfold pX0_next_39 pX0_next_131
      have hc2 := ct.fr hc ((fr0.u (f := f) (k := 21) (v := i32 s) (by omega)).tr (fr0.u (k := 22) (v := i32 s) (by omega)))
      rw [upd_e, upd_n (show 21 ≠ 22 by decide), upd_e, by0 hB hc2 (by omega)]
      simp only [Option.bind_some, let0, zi_0]
      rw [if_neg hbn, if_neg (fun h => h cL), show pX0_word (upd (upd f 21 (i32 s)) 22 (i32 s)) g = pX0_word_27 (upd (upd (upd f 21 (i32 s)) 22 (i32 s)) 21 (i32 e)) g from e5 _ g 5000 hc2 (by rw [upd_n (show 21 ≠ 22 by decide), upd_e]) (by omega), word27 hB (ct.fr hc2 (fr0.u (by omega))) upd_e (by rw [upd_n (by decide), upd_e]) (by omega) e2]
      by_cases c1 : pixA 1 (wf_ B m s (e - s)) 6 0 = -1
      · rw [if_pos c1]
        by_cases c2 : pixA 7 (wf_ B m s (e - s)) 6 0 = -1
        · rw [if_pos c2]; rfl
        · rw [if_neg c2]; rfl
      · rw [if_neg c1]; rfl
    have W8 : ∀ (f : xF) (g : xG), mt B m f g → f 14 = i32 p → ∃ f1, fr8 f f1 ∧ f1 14 = i32 s ∧ f1 17 = i32 (e - s) ∧ f1 16 = wdc B m s (e - s) ∧ pX8_look f g = some (upd f1 15 (if pixA 1 (wf_ B m s (e - s)) 6 0 = -1 ∧ pixA 7 (wf_ B m s (e - s)) 6 0 = -1 then -2 else 2), g) := by
      intro f g hc h14
      have hc2 := mt.fr hc ((((fr8.u (f := f) (k := 14) (v := i32 s) (by omega)).tr (fr8.u (k := 17) (v := 1) (by omega))).tr (fr8.u (k := 16) (v := 0) (by omega))).tr (fr8.u (k := 17) (v := 0) (by omega)))
      obtain ⟨f1, r1, r2, r3, r4, r5⟩ := e6 (upd (upd (upd (upd f 14 (i32 s)) 17 1) 16 0) 17 0) g 5000 hc2 (by rw [upd_n (by decide), upd_n (by decide), upd_n (by decide), upd_e]) (by rw [upd_e, Nat.sub_self]; rfl) (by rw [upd_n (by decide), upd_e, Nat.sub_self]; rfl) (by omega)
      refine ⟨f1, ((((fr8.u (by omega)).tr (fr8.u (by omega))).tr (fr8.u (by omega))).tr (fr8.u (by omega))).tr r2, r3, r4, r5, ?_⟩
      rw [S8 f g hc h14]
      unfold pX8_look_39
      rw [upd_e, by8 hB (mt.fr hc (fr8.u (by omega))) (by omega)]
      simp only [Option.bind_some, dig8, let8, zi_0]
      rw [if_pos cD, if_neg (fun h => h cL), r1, look260 (by omega) r4 r5 hLet]
    have ni : ∀ i, i < 6 → ¬ i32 i = -1 := fun i hi q => by have := congrArg Int32.toInt q; rw [i32_toInt (by omega), show (-1 : Int32).toInt = -1 from rfl] at this; omega
    rcases pixA_ex (base := 1) (w := wf_ B m s (e - s)) 6 0 (by omega) with ⟨q1, _⟩ | ⟨i, _, i6, q1, q2⟩
    · rcases pixA_ex (base := 7) (w := wf_ B m s (e - s)) 6 0 (by omega) with ⟨r1, _⟩ | ⟨i, _, i6, r1, r2⟩
      · refine ⟨(s, e, 5, 0), s1, s2, ⟨Nat.le_refl 5, fun h => by (simp at h), fun h => by (simp at h)⟩, fun _ h => absurd rfl h, fun f g hc h21 => ?_, fun f g hc h14 => ?_⟩
        · obtain ⟨f1, a1, a2, a3, a4⟩ := W0 f g hc h21
          rw [q1, r1, if_pos rfl, if_pos rfl] at a4
          exact ⟨_, (a1.tr (fr0.u (by omega))).tr (fr0.u (by omega)), Or.inr ⟨rfl, a4, by rw [upd_n (by decide), upd_n (by decide)]; exact a3⟩⟩
        · obtain ⟨f1, a1, a2, a3, a4, a5⟩ := W8 f g hc h14
          rw [q1, r1, if_pos ⟨rfl, rfl⟩] at a5
          exact ⟨_, a1.tr (fr8.u (by omega)), a5, ⟨by rw [upd_n (by decide)]; exact a2, by rw [upd_e]; rfl, fun h => by (simp at h), fun _ h => absurd rfl h⟩⟩
      · refine ⟨(s, e, 2, i32 i), s1, s2, ⟨by show 2 ≤ 5; omega, fun _ => ⟨i, i6, rfl⟩, fun h => by (simp at h)⟩, fun _ _ => ⟨hlt, e2⟩, fun f g hc h21 => ?_, fun f g hc h14 => ?_⟩
        · obtain ⟨f1, a1, a2, a3, a4⟩ := W0 f g hc h21
          rw [q1, r1, if_pos rfl, if_neg (ni i i6)] at a4
          exact ⟨_, (a1.tr (fr0.u (by omega))).tr (fr0.u (by omega)), Or.inl ⟨fun h => by (cases h), a4, ⟨by rw [upd_n (by decide), upd_n (by decide)]; exact a3, by rw [upd_n (by decide), upd_e]; rfl, fun _ => ⟨upd_e, by rw [upd_n (by decide), upd_n (by decide)]; exact a2⟩⟩⟩⟩
        · obtain ⟨f1, a1, a2, a3, a4, a5⟩ := W8 f g hc h14
          rw [q1, r1, if_neg (fun h => ni i i6 h.2)] at a5
          refine ⟨_, a1.tr (fr8.u (by omega)), a5, ⟨by rw [upd_n (by decide)]; exact a2, by rw [upd_e]; rfl, fun _ => ?_, fun _ _ => by rw [upd_n (by decide)]; exact a3⟩⟩
          rw [upd_n (by decide), a4]
          have := (wdc_eq (q := 7 + i) (by omega) (by omega) hLet).mpr r2
          rw [this]
          show _ = i32 (cdF (sx_byt.getD (7 + (i32 i).toNatClampNeg) []))
          rw [i32_cl (by omega)]
    · refine ⟨(s, e, 1, i32 i), s1, s2, ⟨by show 1 ≤ 5; omega, fun _ => ⟨i, i6, rfl⟩, fun h => by (simp at h)⟩, fun _ _ => ⟨hlt, e2⟩, fun f g hc h21 => ?_, fun f g hc h14 => ?_⟩
      · obtain ⟨f1, a1, a2, a3, a4⟩ := W0 f g hc h21
        rw [q1, if_neg (ni i i6)] at a4
        exact ⟨_, (a1.tr (fr0.u (by omega))).tr (fr0.u (by omega)), Or.inl ⟨fun h => by (cases h), a4, ⟨by rw [upd_n (by decide), upd_n (by decide)]; exact a3, by rw [upd_n (by decide), upd_e]; rfl, fun _ => ⟨upd_e, by rw [upd_n (by decide), upd_n (by decide)]; exact a2⟩⟩⟩⟩
      · obtain ⟨f1, a1, a2, a3, a4, a5⟩ := W8 f g hc h14
        rw [q1, if_neg (fun h => ni i i6 h.1)] at a5
        refine ⟨_, a1.tr (fr8.u (by omega)), a5, ⟨by rw [upd_n (by decide)]; exact a2, by rw [upd_e]; rfl, fun _ => ?_, fun _ _ => by rw [upd_n (by decide)]; exact a3⟩⟩
        rw [upd_n (by decide), a4]
        have := (wdc_eq (q := 1 + i) (by omega) (by omega) hLet).mpr q2
        rw [this]
        show _ = i32 (cdF (sx_byt.getD (1 + (i32 i).toNatClampNeg) []))
        rw [i32_cl (by omega)]
  by_cases cD : isD (by_ B m s)
  · -- a number
    obtain ⟨e, v2, e1, e2, e3, e4, e5⟩ := lx_dig hB s2 (m - s) s 0 (by omega) (Nat.le_refl _)
    have hlt := e3 cD
    have N0 : ∀ (f : xF) (g : xG), ct B m f g → f 21 = i32 p → ∃ f1, fr0 f f1 ∧ f1 22 = i32 s ∧ f1 23 = 3 ∧ f1 24 = v2 ∧ f1 21 = i32 e ∧ pX0_next f g = some (if e - s ≤ 4 then 0 else 1, f1, g) := by
      intro f g hc h21
      have hc2 := ct.fr hc (((fr0.u (f := f) (k := 21) (v := i32 s) (by omega)).tr (fr0.u (k := 22) (v := i32 s) (by omega))).tr (fr0.u (k := 24) (v := 0) (by omega)))
      obtain ⟨f1, r1, r2, r3, r4, r5, r6⟩ := e4 (upd (upd (upd f 21 (i32 s)) 22 (i32 s)) 24 0) g 5000 hc2 (by rw [upd_n (by decide), upd_n (by decide), upd_e]) (by rw [upd_n (by decide), upd_e]) upd_e (by omega)
      refine ⟨f1, (((fr0.u (by omega)).tr (fr0.u (by omega))).tr (fr0.u (by omega))).tr r2, r3, r4, r5, r6, ?_⟩
      rw [S0 f g hc h21]
      unfold pX0_next_39 pX0_next_131
      rw [upd_e, upd_n (show 21 ≠ 22 by decide), upd_e, by0 hB (ct.fr hc ((fr0.u (by omega)).tr (fr0.u (by omega)))) (by omega)]
      simp only [Option.bind_some, let0, dig0, zi_0]
      rw [if_neg hbn, if_pos cL, if_neg (fun h => h cD), show pX0_digits (upd (upd f 21 (i32 s)) 22 (i32 s)) g = pX0_digits_5 5000 (upd (upd (upd f 21 (i32 s)) 22 (i32 s)) 24 0) g from rfl, r1]
      simp only [Option.bind_some]
      by_cases c : e - s ≤ 4
      · simp only [c, if_true]
      · simp only [c, if_false, show ¬ (1 : Int32) = 0 by decide]
    have N8 : ∀ (f : xF) (g : xG), mt B m f g → f 14 = i32 p → ∃ f1, fr8 f f1 ∧ f1 14 = i32 s ∧ f1 15 = (if e - s ≤ 4 then 1 else -2) ∧ f1 16 = v2 ∧ f1 17 = i32 (e - s) ∧ pX8_look f g = some (f1, g) := by
      intro f g hc h14
      have hc2 := mt.fr hc (((((fr8.u (f := f) (k := 14) (v := i32 s) (by omega)).tr (fr8.u (k := 17) (v := 1) (by omega))).tr (fr8.u (k := 16) (v := 0) (by omega))).tr (fr8.u (k := 15) (v := 1) (by omega))).tr (fr8.u (k := 17) (v := 0) (by omega)))
      obtain ⟨f1, r1, r2, r3, r4, r5, r6⟩ := e5 (upd (upd (upd (upd (upd f 14 (i32 s)) 17 1) 16 0) 15 1) 17 0) g 5000 hc2 (by rw [upd_n (by decide), upd_n (by decide), upd_n (by decide), upd_n (by decide), upd_e]) (by rw [upd_e, Nat.sub_self]; rfl) (by rw [upd_n (by decide), upd_n (by decide), upd_e]) (by omega)
      refine ⟨f1, (((((fr8.u (by omega)).tr (fr8.u (by omega))).tr (fr8.u (by omega))).tr (fr8.u (by omega))).tr (fr8.u (by omega))).tr r2, r3, r4, r5, r6, ?_⟩
      rw [S8 f g hc h14]
      unfold pX8_look_39
      rw [upd_e, by8 hB (mt.fr hc (fr8.u (by omega))) (by omega)]
      simp only [Option.bind_some, dig8, let8, zi_0]
      rw [if_neg (fun h => h cD), r1]
    by_cases c : e - s ≤ 4
    · refine ⟨(s, e, 3, v2), s1, s2, ⟨by show 3 ≤ 5; omega, fun h => by (simp at h), fun h => by (simp at h)⟩, fun _ _ => ⟨hlt, e2⟩, fun f g hc h21 => ?_, fun f g hc h14 => ?_⟩
      · obtain ⟨f1, a1, a2, a3, a4, a5, a6⟩ := N0 f g hc h21
        rw [if_pos c] at a6
        exact ⟨f1, a1, Or.inl ⟨fun h => by (cases h), a6, ⟨a2, a3, fun _ => ⟨a4, a5⟩⟩⟩⟩
      · obtain ⟨f1, a1, a2, a3, a4, a5, a6⟩ := N8 f g hc h14
        rw [if_pos c] at a3
        exact ⟨f1, a1, a6, ⟨a2, a3, fun _ => a4, fun _ _ => a5⟩⟩
    · refine ⟨(s, e, 5, 0), s1, s2, ⟨Nat.le_refl 5, fun h => by (simp at h), fun h => by (simp at h)⟩, fun _ h => absurd rfl h, fun f g hc h21 => ?_, fun f g hc h14 => ?_⟩
      · obtain ⟨f1, a1, a2, a3, a4, a5, a6⟩ := N0 f g hc h21
        rw [if_neg c] at a6
        exact ⟨f1, a1, Or.inr ⟨rfl, a6, a2⟩⟩
      · obtain ⟨f1, a1, a2, a3, a4, a5, a6⟩ := N8 f g hc h14
        rw [if_neg c] at a3
        exact ⟨f1, a1, a6, ⟨a2, a3, fun h => by (simp at h), fun _ h => absurd rfl h⟩⟩
  -- a sign
  obtain ⟨n, hn, en⟩ := i32_ex (x := by_ B m s) (N := 255) hbs.1 hbs.2 (by omega)
  have hix : (0 ≤ sx_ixo 0 (by_ B m s)) ↔ sgn (by_ B m s) = true := by
    have := ixo_s n (by omega)
    rw [← en] at this
    rw [← this, decide_eq_true_eq]
  have G0 : ∀ (f : xF) (g : xG), ct B m f g → f 21 = i32 p → pX0_next f g = some (if sgn (by_ B m s) = true then 0 else 1, upd (upd (upd (upd (upd f 21 (i32 s)) 22 (i32 s)) 23 4) 24 (by_ B m s)) 21 (i32 (s + 1)), g) := by
    intro f g hc h21
    rw [S0 f g hc h21]
    unfold pX0_next_39 pX0_next_131
    rw [upd_e, upd_n (show 21 ≠ 22 by decide), upd_e, by0 hB (ct.fr hc ((fr0.u (by omega)).tr (fr0.u (by omega)))) (by omega)]
    simp only [Option.bind_some, let0, dig0, zi_0]
    rw [if_neg hbn, if_pos cL, if_pos cD, if_pos (by decide), upd_n (show 21 ≠ 24 by decide), upd_n (show 21 ≠ 23 by decide), upd_n (show 21 ≠ 22 by decide), upd_e, i32_succ]
    by_cases c : sgn (by_ B m s) = true
    · rw [if_pos (hix.mpr c), if_pos c]
    · rw [if_neg (fun h => c (hix.mp h)), if_neg c]
  have G8 : ∀ (f : xF) (g : xG), mt B m f g → f 14 = i32 p → pX8_look f g = some (upd (upd (upd (upd f 14 (i32 s)) 17 1) 16 0) 15 (if sgn (by_ B m s) = true then by_ B m s else -2), g) := by
    intro f g hc h14
    rw [S8 f g hc h14]
    unfold pX8_look_39
    rw [upd_e, by8 hB (mt.fr hc (fr8.u (by omega))) (by omega)]
    simp only [Option.bind_some, dig8, let8, zi_0]
    rw [if_pos cD, if_pos cL, chain, if_pos hnn]
    unfold pX8_look_365 pX8_look_379 pX8_look_382
    by_cases c : sgn (by_ B m s) = true
    · rw [if_pos c, if_pos c]
    · rw [if_neg c, if_neg c]
  by_cases c : sgn (by_ B m s) = true
  · refine ⟨(s, s + 1, 4, by_ B m s), s1, s2, ⟨by show 4 ≤ 5; omega, fun h => by (simp at h), fun _ => c⟩, fun _ _ => ⟨by show s < s + 1; omega, by show s + 1 ≤ m; omega⟩, fun f g hc h21 => ?_, fun f g hc h14 => ?_⟩
    · have := G0 f g hc h21
      rw [if_pos c] at this
      refine ⟨_, ((((fr0.u (by omega)).tr (fr0.u (by omega))).tr (fr0.u (by omega))).tr (fr0.u (by omega))).tr (fr0.u (by omega)), Or.inl ⟨fun h => by (cases h), this, ⟨by rw [upd_n (by decide), upd_n (by decide), upd_n (by decide), upd_e], by rw [upd_n (by decide), upd_n (by decide), upd_e]; rfl, fun _ => ⟨by rw [upd_n (by decide), upd_e], upd_e⟩⟩⟩⟩
    · have := G8 f g hc h14
      rw [if_pos c] at this
      refine ⟨_, (((fr8.u (by omega)).tr (fr8.u (by omega))).tr (fr8.u (by omega))).tr (fr8.u (by omega)), this, ⟨by rw [upd_n (by decide), upd_n (by decide), upd_n (by decide), upd_e], by rw [upd_e]; rfl, fun h => by (simp at h), fun _ _ => ?_⟩⟩
      rw [upd_n (by decide), upd_n (by decide), upd_e]
      show _ = i32 (s + 1 - s)
      rw [Nat.add_sub_cancel_left]
      rfl
  · refine ⟨(s, s + 1, 5, 0), s1, s2, ⟨Nat.le_refl 5, fun h => by (simp at h), fun h => by (simp at h)⟩, fun _ h => absurd rfl h, fun f g hc h21 => ?_, fun f g hc h14 => ?_⟩
    · have := G0 f g hc h21
      rw [if_neg c] at this
      exact ⟨_, ((((fr0.u (by omega)).tr (fr0.u (by omega))).tr (fr0.u (by omega))).tr (fr0.u (by omega))).tr (fr0.u (by omega)), Or.inr ⟨rfl, this, by rw [upd_n (by decide), upd_n (by decide), upd_n (by decide), upd_e]⟩⟩
    · have := G8 f g hc h14
      rw [if_neg c] at this
      exact ⟨_, (((fr8.u (by omega)).tr (fr8.u (by omega))).tr (fr8.u (by omega))).tr (fr8.u (by omega)), this, ⟨by rw [upd_n (by decide), upd_n (by decide), upd_n (by decide), upd_e], by rw [upd_e]; rfl, fun h => by (simp at h), fun _ h => absurd rfl h⟩⟩
/-- all signs from a place on: the last one is the end, or none such -/
def chn (B : Nat → Int32) (m : Nat) : Nat → List tK → Prop
  | _, [] => False
  | p, t :: ts => tAt B m p t ∧ (if t.2.2.1 = 0 ∨ t.2.2.1 = 5 then ts = [] else chn B m t.2.1 ts)
theorem chn_ex {B : Nat → Int32} {m : Nat} (hB : tp B m) : ∀ (d p : Nat), p ≤ m → m - p ≤ d → ∃ ts, chn B m p ts ∧ ts.length ≤ m - p + 1 := by
  intro d
  induction d with
  | zero =>
    intro p hp hd
    obtain ⟨t, ht⟩ := tok_ex hB hp
    refine ⟨[t], ⟨ht, ?_⟩, by show 1 ≤ _; omega⟩
    by_cases c : t.2.2.1 = 0 ∨ t.2.2.1 = 5
    · rw [if_pos c]
    · have := ht.2.2.2.1 (fun q => c (Or.inl q)) (fun q => c (Or.inr q))
      have h2 := ht.1
      omega
  | succ d ih =>
    intro p hp hd
    obtain ⟨t, ht⟩ := tok_ex hB hp
    by_cases c : t.2.2.1 = 0 ∨ t.2.2.1 = 5
    · refine ⟨[t], ⟨ht, by rw [if_pos c]⟩, by show 1 ≤ _; omega⟩
    · have h1 := ht.2.2.2.1 (fun q => c (Or.inl q)) (fun q => c (Or.inr q))
      have h2 := ht.1
      obtain ⟨ts, k1, k2⟩ := ih t.2.1 h1.2 (by omega)
      exact ⟨t :: ts, ⟨ht, by rw [if_neg c]; exact k1⟩, by show ts.length + 1 ≤ _; omega⟩

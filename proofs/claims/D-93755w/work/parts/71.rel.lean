/-! THE RELATION (mine; printed by pure/mk71.py): D is the model's numbers and arrays; the component's numbers and arrays beside them -/
abbrev xD : Type := xF × xG
def cF : List (Nat × Nat) := [(2, 0), (7, 1), (9, 2), (15, 11), (26, 12), (19, 13), (34, 32), (36, 37), (39, 39), (41, 42), (42, 43), (43, 45), (44, 46), (45, 47), (46, 44)]
def cG : List (Nat × Nat) := [(0, 3), (1, 4), (3, 5), (4, 6), (5, 7), (6, 8), (31, 33), (32, 34), (33, 35), (35, 38), (37, 40), (38, 41), (47, 48)]
def cR (D : xD) (f : xF) (g : xG) : Prop := (∀ p ∈ cF, f p.1 = D.1 p.2) ∧ (∀ p ∈ cG, g p.1 = D.2 p.2) ∧ (∀ i, i < (D.1 13).toNatClampNeg → g 18 i &&& 255 = D.2 21 i)
theorem cR.stones {D : xD} {f : xF} {g : xG} (R : cR D f g) : f 2 = D.1 0 := R.1 (2, 0) (by decide)
theorem cR.nights {D : xD} {f : xF} {g : xG} (R : cR D f g) : f 7 = D.1 1 := R.1 (7, 1) (by decide)
theorem cR.hows {D : xD} {f : xF} {g : xG} (R : cR D f g) : f 9 = D.1 2 := R.1 (9, 2) (by decide)
theorem cR.texts {D : xD} {f : xF} {g : xG} (R : cR D f g) : f 15 = D.1 11 := R.1 (15, 11) (by decide)
theorem cR.rule {D : xD} {f : xF} {g : xG} (R : cR D f g) : f 26 = D.1 12 := R.1 (26, 12) (by decide)
theorem cR.taped {D : xD} {f : xF} {g : xG} (R : cR D f g) : f 19 = D.1 13 := R.1 (19, 13) (by decide)
theorem cR.tracks {D : xD} {f : xF} {g : xG} (R : cR D f g) : f 34 = D.1 32 := R.1 (34, 32) (by decide)
theorem cR.pegs {D : xD} {f : xF} {g : xG} (R : cR D f g) : f 36 = D.1 37 := R.1 (36, 37) (by decide)
theorem cR.crosses {D : xD} {f : xF} {g : xG} (R : cR D f g) : f 39 = D.1 39 := R.1 (39, 39) (by decide)
theorem cR.hasI {D : xD} {f : xF} {g : xG} (R : cR D f g) : f 41 = D.1 42 := R.1 (41, 42) (by decide)
theorem cR.iSt {D : xD} {f : xF} {g : xG} (R : cR D f g) : f 42 = D.1 43 := R.1 (42, 43) (by decide)
theorem cR.iTr {D : xD} {f : xF} {g : xG} (R : cR D f g) : f 43 = D.1 45 := R.1 (43, 45) (by decide)
theorem cR.iCr {D : xD} {f : xF} {g : xG} (R : cR D f g) : f 44 = D.1 46 := R.1 (44, 46) (by decide)
theorem cR.iPe {D : xD} {f : xF} {g : xG} (R : cR D f g) : f 45 = D.1 47 := R.1 (45, 47) (by decide)
theorem cR.iRu {D : xD} {f : xF} {g : xG} (R : cR D f g) : f 46 = D.1 44 := R.1 (46, 44) (by decide)
theorem cR.aW {D : xD} {f : xF} {g : xG} (R : cR D f g) : g 0 = D.2 3 := R.2.1 (0, 3) (by decide)
theorem cR.aP {D : xD} {f : xF} {g : xG} (R : cR D f g) : g 1 = D.2 4 := R.2.1 (1, 4) (by decide)
theorem cR.aWet {D : xD} {f : xF} {g : xG} (R : cR D f g) : g 3 = D.2 5 := R.2.1 (3, 5) (by decide)
theorem cR.aIce {D : xD} {f : xF} {g : xG} (R : cR D f g) : g 4 = D.2 6 := R.2.1 (4, 6) (by decide)
theorem cR.aWind {D : xD} {f : xF} {g : xG} (R : cR D f g) : g 5 = D.2 7 := R.2.1 (5, 7) (by decide)
theorem cR.aWay {D : xD} {f : xF} {g : xG} (R : cR D f g) : g 6 = D.2 8 := R.2.1 (6, 8) (by decide)
theorem cR.aTs {D : xD} {f : xF} {g : xG} (R : cR D f g) : g 31 = D.2 33 := R.2.1 (31, 33) (by decide)
theorem cR.aTl {D : xD} {f : xF} {g : xG} (R : cR D f g) : g 32 = D.2 34 := R.2.1 (32, 34) (by decide)
theorem cR.aTt {D : xD} {f : xF} {g : xG} (R : cR D f g) : g 33 = D.2 35 := R.2.1 (33, 35) (by decide)
theorem cR.aPeg {D : xD} {f : xF} {g : xG} (R : cR D f g) : g 35 = D.2 38 := R.2.1 (35, 38) (by decide)
theorem cR.aOv {D : xD} {f : xF} {g : xG} (R : cR D f g) : g 37 = D.2 40 := R.2.1 (37, 40) (by decide)
theorem cR.aUn {D : xD} {f : xF} {g : xG} (R : cR D f g) : g 38 = D.2 41 := R.2.1 (38, 41) (by decide)
theorem cR.aIm {D : xD} {f : xF} {g : xG} (R : cR D f g) : g 47 = D.2 48 := R.2.1 (47, 48) (by decide)
def sLo (k : Nat) : Int := match k with
  | 0 => 0
  | 1 => 0
  | 2 => 0
  | 11 => 1
  | 12 => 0
  | 13 => 0
  | 27 => -1
  | 32 => 0
  | 37 => 0
  | 39 => 0
  | 42 => 0
  | 43 => 0
  | 44 => 0
  | 45 => 0
  | 46 => 0
  | 47 => 0
  | _ => -2147483648
def sHi (k : Nat) : Int := match k with
  | 0 => 10
  | 1 => 60
  | 2 => 8
  | 11 => 6
  | 12 => 5
  | 13 => 160
  | 27 => -1
  | 32 => 24
  | 37 => 8
  | 39 => 20
  | 42 => 1
  | 43 => 10
  | 44 => 5
  | 45 => 24
  | 46 => 20
  | 47 => 8
  | _ => 2147483647
def aLo (k : Nat) : Int := match k with
  | 3 => 0
  | 4 => 0
  | 5 => 0
  | 6 => 0
  | 7 => 0
  | 8 => 0
  | 9 => 0
  | 10 => 0
  | 21 => 0
  | 33 => 0
  | 34 => 0
  | 35 => 0
  | 38 => 0
  | 40 => 0
  | 41 => 0
  | 48 => 0
  | 49 => -1
  | 50 => 0
  | _ => -2147483648
def aHi (k : Nat) : Int := match k with
  | 3 => 99
  | 4 => 4095
  | 5 => 9
  | 6 => 9
  | 7 => 99
  | 8 => 3
  | 9 => 5
  | 10 => 20
  | 21 => 255
  | 33 => 9
  | 34 => 999
  | 35 => 99
  | 38 => 4095
  | 40 => 23
  | 41 => 23
  | 48 => 4095
  | 49 => 2
  | 50 => 40
  | _ => 2147483647
def gF (f : xF) : Prop := ∀ k, sLo k ≤ (f k).toInt ∧ (f k).toInt ≤ sHi k
def gA (g : xG) : Prop := ∀ k i, aLo k ≤ (g k i).toInt ∧ (g k i).toInt ≤ aHi k
def gX (D : xD) : Prop := (D.1 12).toInt < (D.1 11).toInt ∧ (D.1 44).toInt < (D.1 11).toInt ∧ (D.1 43).toInt ≤ (D.1 0).toInt ∧ (0 < (D.1 0).toInt ∨ ((D.1 32).toInt = 0 ∧ (D.1 45).toInt = 0)) ∧ ∀ i, (D.2 33 i).toInt = 0 ∨ (D.2 33 i).toInt < (D.1 0).toInt
def Good (D : xD) : Prop := gF D.1 ∧ gA D.2 ∧ gX D
theorem gF_u {f : xF} {k : Nat} {v : Int32} (h : gF f) (h1 : sLo k ≤ v.toInt) (h2 : v.toInt ≤ sHi k) : gF (upd f k v) := by
  intro j
  by_cases hj : j = k
  · subst hj; rw [upd_e]; exact ⟨h1, h2⟩
  · rw [upd_n hj]; exact h j
theorem gA_r {g : xG} {k : Nat} {a : Nat → Int32} (h : gA g) (h1 : ∀ i, aLo k ≤ (a i).toInt ∧ (a i).toInt ≤ aHi k) : gA (va_up g k a) := by
  intro j i
  by_cases hj : j = k
  · subst hj; rw [va_up_self]; exact h1 i
  · rw [va_up_ne _ _ hj]; exact h j i
theorem gA_u {g : xG} {k i : Nat} {v : Int32} (h : gA g) (h1 : aLo k ≤ v.toInt) (h2 : v.toInt ≤ aHi k) : gA (va_up g k (upd (g k) i v)) := by
  refine gA_r h (fun j => ?_)
  by_cases hj : j = i
  · subst hj; rw [upd_e]; exact ⟨h1, h2⟩
  · rw [upd_n hj]; exact h k j
theorem i32_min (x : Int32) : -2147483648 ≤ x.toInt := x.le_toInt
theorem i32_max (x : Int32) : x.toInt ≤ 2147483647 := by have := x.toInt_lt; omega
/-- D' is D but for these numbers and arrays -/
def off (lf lg : List Nat) (D D' : xD) : Prop := (∀ k, k ∉ lf → D'.1 k = D.1 k) ∧ (∀ k, k ∉ lg → D'.2 k = D.2 k)
theorem off.rf {lf lg : List Nat} (D : xD) : off lf lg D D := ⟨fun _ _ => rfl, fun _ _ => rfl⟩
theorem off.tr {lf lg : List Nat} {D E F : xD} (h1 : off lf lg D E) (h2 : off lf lg E F) : off lf lg D F := ⟨fun k h => (h2.1 k h).trans (h1.1 k h), fun k h => (h2.2 k h).trans (h1.2 k h)⟩
theorem off.uf {lf lg : List Nat} {D : xD} {E : xD} {k : Nat} {v : Int32} (h : off lf lg D E) (hk : k ∈ lf) : off lf lg D (upd E.1 k v, E.2) := ⟨fun j hj => (upd_n (fun (q : j = k) => hj (by rw [q]; exact hk))).trans (h.1 j hj), h.2⟩
theorem off.ug {lf lg : List Nat} {D : xD} {E : xD} {k : Nat} {a : Nat → Int32} (h : off lf lg D E) (hk : k ∈ lg) : off lf lg D (E.1, va_up E.2 k a) := ⟨h.1, fun j hj => (va_up_ne _ _ (fun (q : j = k) => hj (by rw [q]; exact hk))).trans (h.2 j hj)⟩
theorem off.mono {lf lg lf2 lg2 : List Nat} {D E : xD} (h : off lf lg D E) (h1 : ∀ k ∈ lf, k ∈ lf2) (h2 : ∀ k ∈ lg, k ∈ lg2) : off lf2 lg2 D E := ⟨fun k hk => h.1 k (fun q => hk (h1 k q)), fun k hk => h.2 k (fun q => hk (h2 k q))⟩
theorem cR.off {lf lg : List Nat} {D E : xD} {f : xF} {g : xG} (R : cR D f g) (h : off lf lg D E) (h1 : ∀ p ∈ cF, p.2 ∉ lf) (h2 : ∀ p ∈ cG, p.2 ∉ lg) (h3 : 21 ∉ lg) : cR E f g := by
  refine ⟨fun p hp => (R.1 p hp).trans (h.1 _ (h1 p hp)).symm, fun p hp => (R.2.1 p hp).trans (h.2 _ (h2 p hp)).symm, fun i hi => ?_⟩
  rw [h.2 21 h3]
  rw [h.1 13 (h1 (19, 13) (by decide))] at hi
  exact R.2.2 i hi
/-- the component's numbers and arrays that nothing is asked of -/
theorem cR.same {D : xD} {f f1 : xF} {g g1 : xG} (R : cR D f g) (h1 : ∀ p ∈ cF, f1 p.1 = f p.1) (h2 : ∀ p ∈ cG, g1 p.1 = g p.1) (h3 : g1 18 = g 18) : cR D f1 g1 :=
  ⟨fun p hp => (h1 p hp).trans (R.1 p hp), fun p hp => (h2 p hp).trans (R.2.1 p hp), fun i hi => by rw [h3]; exact R.2.2 i hi⟩
theorem cR.sf {D : xD} {f : xF} {g : xG} {k : Nat} {v : Int32} (R : cR D f g) (h : ∀ p ∈ cF, p.1 ≠ k) : cR D (upd f k v) g := R.same (fun p hp => upd_n (h p hp)) (fun _ _ => rfl) rfl
theorem cR.sg {D : xD} {f : xF} {g : xG} {k : Nat} {a : Nat → Int32} (R : cR D f g) (h : ∀ p ∈ cG, p.1 ≠ k) (h2 : 18 ≠ k) : cR D f (va_up g k a) := R.same (fun _ _ => rfl) (fun p hp => va_up_ne _ _ (h p hp)) (va_up_ne _ _ h2)
theorem cR.uf {D : xD} {f : xF} {g : xG} {k k2 : Nat} {v : Int32} (R : cR D f g) (h : ∀ p ∈ cF, p.1 = k ↔ p.2 = k2) (h2 : 13 ≠ k2) : cR (upd D.1 k2 v, D.2) (upd f k v) g := by
  refine ⟨fun p hp => ?_, R.2.1, fun i hi => R.2.2 i (by rw [show (upd D.1 k2 v, D.2).1 13 = D.1 13 from upd_n h2] at hi; exact hi)⟩
  show _ = upd D.1 k2 v p.2
  by_cases hk : p.1 = k
  · rw [hk, (h p hp).mp hk, upd_e, upd_e]
  · rw [upd_n hk, upd_n (fun q => hk ((h p hp).mpr q))]; exact R.1 p hp
theorem cR.ug {D : xD} {f : xF} {g : xG} {k k2 : Nat} {a : Nat → Int32} (R : cR D f g) (h : ∀ p ∈ cG, p.1 = k ↔ p.2 = k2) (h2 : 21 ≠ k2) (h3 : 18 ≠ k) : cR (D.1, va_up D.2 k2 a) f (va_up g k a) := by
  refine ⟨R.1, fun p hp => ?_, fun i hi => by rw [va_up_ne _ _ h3, show (D.1, va_up D.2 k2 a).2 21 = D.2 21 from va_up_ne _ _ h2]; exact R.2.2 i hi⟩
  show _ = va_up D.2 k2 a p.2
  by_cases hk : p.1 = k
  · rw [hk, (h p hp).mp hk, va_up_self, va_up_self]
  · rw [va_up_ne _ _ hk, va_up_ne _ _ (fun q => hk ((h p hp).mpr q))]; exact R.2.1 p hp
/-- both answer the same and stay alike -/
def Sim {α : Type} (D : xD) (lf lg : List Nat) (p0 p8 : Option (α × xF × xG)) : Prop := ∃ (v : α) (f1 : xF) (g1 : xG) (E : xD), p0 = some (v, f1, g1) ∧ p8 = some (v, E.1, E.2) ∧ cR E f1 g1 ∧ Good E ∧ off lf lg D E
theorem Sim.same {α : Type} {D : xD} {lf lg : List Nat} {f : xF} {g : xG} {v : α} (R : cR D f g) (Gd : Good D) : Sim D lf lg (some (v, f, g)) (some (v, D.1, D.2)) := ⟨v, f, g, D, rfl, rfl, R, Gd, off.rf D⟩
def rd {α : Type} (f : xF) (g : xG) (p : Option α) : Option (α × xF × xG) := p.bind (fun v => some (v, f, g))
theorem one_sub {x : Int32} {lo : Int} (h : lo ≤ x.toInt) (hl : -2147483647 ≤ lo) : (x - 1).toInt = x.toInt - 1 := by
  have h2 := i32_max x
  rw [Int32.toInt_sub, show (1 : Int32).toInt = 1 from rfl]
  exact Int.bmod_eq_of_le (by omega) (by omega)
theorem one_add {x : Int32} {hi : Int} (h : x.toInt ≤ hi) (hl : hi ≤ 2147483646) : (x + 1).toInt = x.toInt + 1 := by
  have h2 := i32_min x
  rw [Int32.toInt_add, show (1 : Int32).toInt = 1 from rfl]
  exact Int.bmod_eq_of_le (by omega) (by omega)
theorem isSt0 (f : xF) (g : xG) (v : Int32) : pX0_isStone f g v = some (zi (0 ≤ v.toInt ∧ v.toInt ≤ (f 2 - 1).toInt)) := by
  simp only [pX0_isStone, pX0_isStone_0, in0, Option.bind_some, zi_b, if_true, Int32.toInt_toInt64]; rfl
theorem isNi0 (f : xF) (g : xG) (v : Int32) : pX0_isNight f g v = some (zi (0 ≤ v.toInt ∧ v.toInt ≤ (f 7 - 1).toInt)) := by
  simp only [pX0_isNight, pX0_isNight_0, in0, Option.bind_some, zi_b, if_true, Int32.toInt_toInt64]; rfl
theorem isHo0 (f : xF) (g : xG) (v : Int32) : pX0_isHow f g v = some (zi (0 ≤ v.toInt ∧ v.toInt ≤ (f 9 - 1).toInt)) := by
  simp only [pX0_isHow, pX0_isHow_0, in0, Option.bind_some, zi_b, if_true, Int32.toInt_toInt64]; rfl
theorem isTr0 (f : xF) (g : xG) (v : Int32) : pX0_isTrack f g v = some (zi (0 ≤ v.toInt ∧ v.toInt ≤ (f 34 - 1).toInt)) := by
  simp only [pX0_isTrack, pX0_isTrack_0, in0, Option.bind_some, zi_b, if_true, Int32.toInt_toInt64]; rfl
theorem isTe0 (f : xF) (g : xG) (v : Int32) : pX0_isText f g v = some (zi (0 ≤ v.toInt ∧ v.toInt ≤ (f 15 - 1).toInt)) := by
  simp only [pX0_isText, pX0_isText_0, in0, Option.bind_some, zi_b, if_true, Int32.toInt_toInt64]; rfl
theorem isPl0 (f : xF) (g : xG) (v : Int32) : pX0_isPlace f g v = some (zi (0 ≤ v.toInt ∧ v.toInt ≤ 4095)) := by
  simp only [pX0_isPlace, pX0_isPlace_0, in0, Option.bind_some, zi_b, if_true]; rfl
theorem isSt8 (f : xF) (g : xG) (v : Int32) : pX8_isStone f g v = some (zi (0 ≤ v.toInt ∧ v.toInt ≤ (f 0 - 1).toInt)) := by
  simp only [pX8_isStone, pX8_isStone_0, in8, Option.bind_some, zi_b, if_true]; rfl
theorem isNi8 (f : xF) (g : xG) (v : Int32) : pX8_isNight f g v = some (zi (0 ≤ v.toInt ∧ v.toInt ≤ (f 1 - 1).toInt)) := by
  simp only [pX8_isNight, pX8_isNight_0, in8, Option.bind_some, zi_b, if_true]; rfl
theorem isHo8 (f : xF) (g : xG) (v : Int32) : pX8_isHow f g v = some (zi (0 ≤ v.toInt ∧ v.toInt ≤ (f 2 - 1).toInt)) := by
  simp only [pX8_isHow, pX8_isHow_0, in8, Option.bind_some, zi_b, if_true]; rfl
theorem isTr8 (f : xF) (g : xG) (v : Int32) : pX8_isTrack f g v = some (zi (0 ≤ v.toInt ∧ v.toInt ≤ (f 32 - 1).toInt)) := by
  simp only [pX8_isTrack, pX8_isTrack_0, in8, Option.bind_some, zi_b, if_true]; rfl
/-- a law of counts: n things lie, one is asked -/
theorem cnt_lt {x v : Int32} (h : 0 ≤ x.toInt) (h1 : v.toInt ≤ (x - 1).toInt) : v.toInt < x.toInt := by
  rw [one_sub h (by omega)] at h1; omega


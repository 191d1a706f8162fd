/-! THE DESCENT (mine): the component's descent and the twin's machine read a text alike -/
def cSt (B : Nat → Int32) (m : Nat) (f : xF) : List tK → Prop
  | [] => False
  | t :: ts => cAt t f ∧ tkv t ∧ ¬ t.2.2.1 = 5 ∧ (if t.2.2.1 = 0 then ts = [] else t.1 < t.2.1 ∧ t.2.1 ≤ m ∧ chn B m t.2.1 ts)
def fr25 (f f1 : xF) : Prop := ∀ k, k ≠ 21 → k ≠ 22 → k ≠ 23 → k ≠ 24 → k ≠ 25 → f1 k = f k
theorem fr25.rf {f : xF} : fr25 f f := fun _ _ _ _ _ _ => rfl
theorem fr25.tr {f h k : xF} (a : fr25 f h) (b : fr25 h k) : fr25 f k := fun i i1 i2 i3 i4 i5 => (b i i1 i2 i3 i4 i5).trans (a i i1 i2 i3 i4 i5)
theorem fr0.to {f h : xF} (a : fr0 f h) : fr25 f h := fun i i1 i2 i3 i4 _ => a i i1 i2 i3 i4
theorem fr25.u {f : xF} {v : Int32} : fr25 f (upd f 25 v) := fun i _ _ _ _ i5 => upd_n i5
theorem ct.fr5 {B : Nat → Int32} {m : Nat} {f f1 : xF} {g : xG} (h : ct B m f g) (q : fr25 f f1) : ct B m f1 g := ⟨(q 20 (by decide) (by decide) (by decide) (by decide) (by decide)).trans h.1, h.2⟩
theorem cSt.u {B : Nat → Int32} {m : Nat} {f : xF} {v : Int32} : ∀ {ts : List tK}, cSt B m f ts → cSt B m (upd f 25 v) ts := by
  intro ts
  cases ts with
  | nil => exact id
  | cons t ts => exact fun h => ⟨⟨(upd_n (by decide)).trans h.1.1, (upd_n (by decide)).trans h.1.2.1, fun k => ⟨(upd_n (by decide)).trans (h.1.2.2 k).1, (upd_n (by decide)).trans (h.1.2.2 k).2⟩⟩, h.2⟩
theorem sg0 {f : xF} {g : xG} {t : tK} {c : Int32} (ht : tkv t) (h : cAt t f) : pX0_isSign f g c = some (bz (mc_sg t c)) := by
  have hk := ht.1
  have z : (f 23 = 4) ↔ t.2.2.1 = 4 := by rw [h.2.1]; exact i32_inj (m := 4) (by omega) (by omega)
  unfold pX0_isSign pX0_isSign_0 pX0_isSign_20 pX0_isSign_21 mc_sg
  simp only [gbz0, gbz1, if_true]
  by_cases c1 : t.2.2.1 = 4
  · rw [if_pos (z.mpr c1), (h.2.2 (by omega)).1, decide_eq_true c1, Bool.true_and]
    by_cases c2 : t.2.2.2 = c
    · rw [if_pos c2, decide_eq_true c2]; rfl
    · rw [if_neg c2, decide_eq_false c2]; rfl
  · rw [if_neg (fun q => c1 (z.mp q)), decide_eq_false c1]; rfl
theorem ky0 {f : xF} {g : xG} {t : tK} {c : Int32} (ht : tkv t) (h : cAt t f) : pX0_isKey f g c = some (bz (mc_ky t c)) := by
  have hk := ht.1
  have z : (f 23 = 1) ↔ t.2.2.1 = 1 := by rw [h.2.1]; exact i32_inj (m := 1) (by omega) (by omega)
  unfold pX0_isKey pX0_isKey_0 pX0_isKey_20 pX0_isKey_21 mc_ky
  simp only [gbz0, gbz1, if_true]
  by_cases c1 : t.2.2.1 = 1
  · rw [if_pos (z.mpr c1), (h.2.2 (by omega)).1, decide_eq_true c1, Bool.true_and]
    by_cases c2 : t.2.2.2 = c
    · rw [if_pos c2, decide_eq_true c2]; rfl
    · rw [if_neg c2, decide_eq_false c2]; rfl
  · rw [if_neg (fun q => c1 (z.mp q)), decide_eq_false c1]; rfl
theorem next0 {B : Nat → Int32} {m : Nat} {f : xF} {g : xG} {t : tK} {ts : List tK} (hc : ct B m f g) (h : cSt B m f (t :: ts)) (h0 : ¬ t.2.2.1 = 0) : ∃ f1, fr0 f f1 ∧ ((pX0_next f g = some (0, f1, g) ∧ cSt B m f1 ts) ∨ ∃ t2, ts = [t2] ∧ t2.2.2.1 = 5 ∧ pX0_next f g = some (1, f1, g) ∧ f1 22 = i32 t2.1) := by
  obtain ⟨h1, h2, h3, h4⟩ := h
  rw [if_neg h0] at h4
  obtain ⟨k1, k2, k3⟩ := h4
  cases ts with
  | nil => exact k3.elim
  | cons t2 ts =>
    obtain ⟨q1, q2⟩ := k3
    obtain ⟨f1, r1, r2⟩ := q1.2.2.2.2.1 f g hc (h1.2.2 h0).2
    refine ⟨f1, r1, ?_⟩
    rcases r2 with ⟨a1, a2, a3⟩ | ⟨a1, a2, a3⟩
    · refine Or.inl ⟨a2, a3, q1.2.2.1, a1, ?_⟩
      by_cases c : t2.2.2.1 = 0
      · rw [if_pos (Or.inl c)] at q2; rw [if_pos c]; exact q2
      · rw [if_neg (fun q => q.elim c a1)] at q2
        rw [if_neg c]
        have := q1.2.2.2.1 c a1
        exact ⟨this.1, this.2, q2⟩
    · rw [if_pos (Or.inr a1)] at q2
      exact Or.inr ⟨t2, by rw [q2], a1, a2, a3⟩
theorem sg_k {t : tK} {c : Int32} (h : mc_sg t c = true) : t.2.2.1 = 4 ∧ t.2.2.2 = c := by
  unfold mc_sg at h; rw [Bool.and_eq_true, decide_eq_true_eq, decide_eq_true_eq] at h; exact h
theorem ky_k {t : tK} {c : Int32} (h : mc_ky t c = true) : t.2.2.1 = 1 ∧ t.2.2.2 = c := by
  unfold mc_ky at h; rw [Bool.and_eq_true, decide_eq_true_eq, decide_eq_true_eq] at h; exact h
theorem mc_bad {t : tK} {ts : List tK} {out : xR} {S : List Nat} {w mn : Bool} (h : t.2.2.1 = 5) : mc_run (t :: ts) out S w mn = (0, [], t :: ts) := by
  have n : ∀ c, ¬ mc_sg t c = true := fun c q => by have := (sg_k q).1; omega
  have k : ∀ c, ¬ mc_ky t c = true := fun c q => by have := (ky_k q).1; omega
  cases w with
  | true =>
    unfold mc_run
    rw [if_neg (by omega), if_neg (by omega), if_neg (n _), if_neg (n _), if_neg (fun q => k _ q.1)]
  | false =>
    unfold mc_run
    rw [if_pos (Or.inr (Or.inr h)), if_neg (fun q => n _ q.2)]
def mc_f (r : Nat × xR × List tK) (s : Int32) : Prop := ∃ t ts, r = (0, [], t :: ts) ∧ s = i32 t.1
def dE (j : Nat) (t : tK) (X : xR × List Nat) : Prop := (j ≤ 4 → ¬ mc_sg t 42 = true) ∧ (j ≤ 3 → ¬ mc_sg t 43 = true ∧ ¬ mc_sg t 45 = true) ∧ (j ≤ 2 → (mc_sg t 60 = true ∨ mc_sg t 61 = true) → mc_top (mc_st 5 X.2 X.1).2 = 4) ∧ (j ≤ 1 → ¬ mc_ky t 4 = true) ∧ (j ≤ 0 → ¬ mc_ky t 3 = true)
def bd (j : Nat) : Nat := if j = 0 then 1 else if j = 1 then 2 else if j = 2 then 4 else if j = 3 then 5 else if j = 4 then 6 else 8
def lv (j : Nat) : Nat := if j = 0 then 1 else if j = 1 then 2 else if j = 2 then 3 else if j = 3 then 5 else if j = 4 then 6 else 7
/-- a text read by P, and by the machine -/
def dC (B : Nat → Int32) (m : Nat) (P : xPF) (j : Nat) (t : tK) (ts : List tK) (out : xR) (S : List Nat) (mn : Bool) (f : xF) (g : xG) : Prop :=
  ∃ z : xP, P f g = some z ∧ z.2.1.2 = g ∧ fr25 f z.2.1.1 ∧
    ((z.1 = 0 ∧ ∃ (t2 : tK) (ts2 : List tK) (X : xR × List Nat), cSt B m z.2.1.1 (t2 :: ts2) ∧ z.2.1.1 25 = f 25 ∧ z.2.2.2 + ts2.length ≤ ts.length ∧ ts2.length < ts.length ∧ z.2.2.1.length = z.2.2.2 ∧ mc_run (t :: ts) out S true mn = mc_run (t2 :: ts2) X.1 X.2 false false ∧ mc_st (lv j) X.2 X.1 = mc_st (lv j) S (out ++ z.2.2.1) ∧ dE j t2 X) ∨
     (z.1 = 1 ∧ z.2.2.2 ≤ ts.length + 1 ∧ mc_f (mc_run (t :: ts) out S true mn) (z.2.1.1 22)))
def dH (B : Nat → Int32) (m : Nat) (P : xPF) (j n : Nat) : Prop :=
  ∀ (t : tK) (ts : List tK) (out : xR) (S : List Nat) (mn : Bool) (f : xF) (g : xG), ct B m f g → cSt B m f (t :: ts) → f 25 = i32 (mc_op S) → mc_op S ≤ 5 → mc_top S < bd j → (j ≤ 2 → mn = true) → (3 ≤ j → mn = false ∨ ¬ mc_ky t 5 = true) → ts.length ≤ 160 → 6 * (5 - mc_op S) + (6 - j) ≤ n → dC B m P j t ts out S mn f g
theorem run_op {t : tK} {ts : List tK} {X : xR × List Nat} (h0 : ¬ mc_o t = 0) (h56 : ¬ (mc_o t = 5 ∨ mc_o t = 6)) (hk : t.2.2.1 = 1 ∨ t.2.2.1 = 4) (h59 : ¬ mc_sg t 59 = true) : mc_run (t :: ts) X.1 X.2 false false = mc_run ts (mc_st (mc_str (mc_o t)) X.2 X.1).1 (mc_o t :: (mc_st (mc_str (mc_o t)) X.2 X.1).2) true (decide (t.2.2.1 = 1)) := by
  rw [mc_run, if_neg (fun q => q.elim h59 (fun q => by omega)), if_neg h0, if_neg h56]
/-- the loops of the descent -/
theorem dloop {B : Nat → Int32} {m j : Nat} {cnd : xF → xG → Option (Int32 × Int32)} {sub : xPF} {out : xR} {S : List Nat} {g : xG} (hj : lv j = bd j) (hj1 : lv j ≤ lv (j + 1)) (hjb : lv j < bd (j + 1)) (ho : mc_op S ≤ 5) (hS : mc_top S < bd j)
    (isop : tK → Prop) (hcnd : ∀ (t : tK) (f : xF), tkv t → cAt t f → (¬ isop t ∧ ∃ sg, cnd f g = some (0, sg)) ∨ (isop t ∧ ∃ sg, cnd f g = some (1, sg) ∧ opc sg = mc_o t ∧ mc_str (mc_o t) = lv j ∧ (mc_o t = 2 ∨ mc_o t = 3 ∨ mc_o t = 7 ∨ mc_o t = 8 ∨ mc_o t = 9) ∧ (t.2.2.1 = 1 ∨ t.2.2.1 = 4) ∧ ¬ mc_sg t 59 = true ∧ (j + 1 ≤ 2 → t.2.2.1 = 1) ∧ (3 ≤ j + 1 → ¬ t.2.2.1 = 1)))
    (hE : ∀ (t : tK) (X : xR × List Nat), dE (j + 1) t X → ¬ isop t → dE j t X)
    (hsub : ∀ (t : tK) (ts : List tK) (out : xR) (S2 : List Nat) (mn : Bool) (f : xF), ct B m f g → cSt B m f (t :: ts) → f 25 = i32 (mc_op S2) → mc_op S2 ≤ 5 → mc_op S2 = mc_op S → mc_top S2 < bd (j + 1) → (j + 1 ≤ 2 → mn = true) → (3 ≤ j + 1 → mn = false ∨ ¬ mc_ky t 5 = true) → ts.length ≤ 160 → dC B m sub (j + 1) t ts out S2 mn f g) :
    ∀ (N : Nat) (t : tK) (ts : List tK) (X : xR × List Nat) (f : xF) (r : xR) (k K : Nat), ts.length ≤ N → N < K → N ≤ 160 → ct B m f g → cSt B m f (t :: ts) → f 25 = i32 (mc_op S) → mc_st (lv j) X.2 X.1 = (out ++ r, S) → dE (j + 1) t X → r.length = k →
      ∃ z : xP, q_loop cnd sub K f g r k = some z ∧ z.2.1.2 = g ∧ fr25 f z.2.1.1 ∧
        ((z.1 = 0 ∧ ∃ (t2 : tK) (ts2 : List tK) (X2 : xR × List Nat), cSt B m z.2.1.1 (t2 :: ts2) ∧ z.2.1.1 25 = f 25 ∧ z.2.2.2 + ts2.length ≤ k + ts.length ∧ ts2.length ≤ ts.length ∧ z.2.2.1.length = z.2.2.2 ∧ mc_run (t :: ts) X.1 X.2 false false = mc_run (t2 :: ts2) X2.1 X2.2 false false ∧ mc_st (lv j) X2.2 X2.1 = (out ++ z.2.2.1, S) ∧ dE j t2 X2) ∨
         (z.1 = 1 ∧ z.2.2.2 ≤ k + ts.length + 1 ∧ mc_f (mc_run (t :: ts) X.1 X.2 false false) (z.2.1.1 22))) := by
  intro N
  induction N with
  | zero =>
    intro t ts X f r k K hN hK hN160 hc hst h25 hX hdE hr
    obtain ⟨q, rfl⟩ : ∃ q, K = q + 1 := ⟨K - 1, by omega⟩
    rw [q_loop]
    rcases hcnd t f hst.2.1 hst.1 with ⟨a1, sg, a2⟩ | ⟨a1, sg, a2, a3, a4, a5, a6, a7, a8, a9⟩
    · rw [a2]
      refine ⟨(0, (f, g), r, k), rfl, rfl, fr25.rf, Or.inl ⟨rfl, t, ts, X, hst, rfl, Nat.le_refl _, Nat.le_refl _, hr, rfl, hX, hE t X hdE a1⟩⟩
    · have hts : ts = [] := List.eq_nil_of_length_eq_zero (by omega)
      subst hts
      have := hst.2.2.2
      rw [if_neg (by omega)] at this
      exact this.2.2.elim
  | succ N ih =>
    intro t ts X f r k K hN hK hN160 hc hst h25 hX hdE hr
    obtain ⟨q, rfl⟩ : ∃ q, K = q + 1 := ⟨K - 1, by omega⟩
    rw [q_loop]
    rcases hcnd t f hst.2.1 hst.1 with ⟨a1, sg, a2⟩ | ⟨a1, sg, a2, a3, a4, a5, a6, a7, a8, a9⟩
    · rw [a2]
      refine ⟨(0, (f, g), r, k), rfl, rfl, fr25.rf, Or.inl ⟨rfl, t, ts, X, hst, rfl, Nat.le_refl _, Nat.le_refl _, hr, rfl, hX, hE t X hdE a1⟩⟩
    rw [a2]
    simp only [Option.bind_some]
    rw [if_neg (by decide)]
    have hrun := run_op (t := t) (ts := ts) (X := X) (by omega) (by omega) a6 a7
    rw [a4, hX] at hrun
    obtain ⟨f1, n1, n2⟩ := next0 hc hst (by omega)
    unfold q_two
    have hop : mc_op (mc_o t :: S) = mc_op S := by
      show (if _ then 1 else 0) + _ = _
      rw [if_neg (by omega), Nat.zero_add]
    rcases n2 with ⟨n3, n4⟩ | ⟨t2, e1, e2, e3, e4⟩
    · rw [n3]
      simp only [Option.bind_some, if_true]
      cases ts with
      | nil => exact n4.elim
      | cons t2 ts2 =>
        have hlen : ts2.length + 1 ≤ N + 1 := hN
        have h25' : f1 25 = i32 (mc_op (mc_o t :: S)) := by rw [hop, n1 25 (by decide) (by decide) (by decide) (by decide)]; exact h25
        obtain ⟨z, z1, z2, z3, z4⟩ := hsub t2 ts2 (out ++ r) (mc_o t :: S) (decide (t.2.2.1 = 1)) f1 (ct.fr hc n1) n4 h25' (by omega) hop (by show mc_str (mc_o t) < _; omega) (fun q => decide_eq_true (a8 q)) (fun q => Or.inl (decide_eq_false (a9 q))) (by omega)
        rw [z1]
        simp only [Option.bind_some]
        rcases z4 with ⟨z0, t3, ts3, X2, b1, b2, b3, b4, b5, b6, b7, b8⟩ | ⟨z0, b1, b2⟩
        · rw [if_pos z0]
          have hX2 : mc_st (lv j) X2.2 X2.1 = (out ++ (r ++ z.2.2.1 ++ [(opc sg, 0)]), S) := by
            rw [← mc_idem hj1 X2.2 X2.1, b7, mc_idem hj1, mc_pop (by omega), mc_id (by omega), a3, List.append_assoc, List.append_assoc, List.append_assoc]
          rw [z2]
          obtain ⟨y, y1, y2, y3, y4⟩ := ih t3 ts3 X2 z.2.1.1 (r ++ z.2.2.1 ++ [(opc sg, 0)]) (k + 1 + z.2.2.2) q (by omega) (by omega) (by omega) (ct.fr5 (ct.fr hc n1) z3) b1 (by rw [b2, h25', hop]) hX2 b8 (by rw [List.length_append, List.length_append, b5, hr]; show k + z.2.2.2 + 1 = _; omega)
          refine ⟨y, y1, y2, (n1.to.tr z3).tr y3, ?_⟩
          rw [hrun, b6]
          rcases y4 with ⟨y0, t4, ts4, X3, c1, c2, c3, c4, c5, c6, c7, c8⟩ | ⟨y0, c1, c2⟩
          · refine Or.inl ⟨y0, t4, ts4, X3, c1, by rw [c2, b2, n1 25 (by decide) (by decide) (by decide) (by decide)], ?_, ?_, c5, c6, c7, c8⟩
            · show _ ≤ k + (ts2.length + 1); omega
            · show _ ≤ ts2.length + 1; omega
          · exact Or.inr ⟨y0, by show _ ≤ k + (ts2.length + 1) + 1; omega, c2⟩
        · rw [if_neg (by rw [z0]; decide)]
          refine ⟨(1, z.2.1, [], k + 1 + z.2.2.2), rfl, z2, n1.to.tr z3, Or.inr ⟨rfl, by show k + 1 + z.2.2.2 ≤ k + (ts2.length + 1) + 1; omega, ?_⟩⟩
          rw [hrun]; exact b2
    · rw [e3]
      simp only [Option.bind_some]
      rw [if_neg (by decide)]
      refine ⟨(1, (f1, g), [], k), rfl, rfl, n1.to, Or.inr ⟨rfl, by show k ≤ _; omega, ?_⟩⟩
      rw [hrun, e1, mc_bad e2]
      exact ⟨t2, [], rfl, e4⟩
theorem dseq {B : Nat → Int32} {m j n : Nat} {cnd : xF → xG → Option (Int32 × Int32)} {sub : xPF} (hj : lv j = bd j) (hj1 : lv j ≤ lv (j + 1)) (hjb : lv j < bd (j + 1)) (hbb : bd j ≤ bd (j + 1)) (hj2 : j + 1 ≤ 2 → j ≤ 2) (hj3 : 3 ≤ j + 1 → 3 ≤ j) (hj5 : j ≤ 4)
    (isop : tK → Prop) (hcnd : ∀ (t : tK) (f : xF) (g : xG), tkv t → cAt t f → (¬ isop t ∧ ∃ sg, cnd f g = some (0, sg)) ∨ (isop t ∧ ∃ sg, cnd f g = some (1, sg) ∧ opc sg = mc_o t ∧ mc_str (mc_o t) = lv j ∧ (mc_o t = 2 ∨ mc_o t = 3 ∨ mc_o t = 7 ∨ mc_o t = 8 ∨ mc_o t = 9) ∧ (t.2.2.1 = 1 ∨ t.2.2.1 = 4) ∧ ¬ mc_sg t 59 = true ∧ (j + 1 ≤ 2 → t.2.2.1 = 1) ∧ (3 ≤ j + 1 → ¬ t.2.2.1 = 1)))
    (hE : ∀ (t : tK) (X : xR × List Nat), dE (j + 1) t X → ¬ isop t → dE j t X) (hsub : dH B m sub (j + 1) n) : dH B m (q_seq cnd sub) j (n + 1) := by
  intro t ts out S mn f g hc hst h25 ho hS hm1 hm2 hlen hn
  obtain ⟨z, z1, z2, z3, z4⟩ := hsub t ts out S mn f g hc hst h25 ho (by omega) (fun q => hm1 (hj2 q)) (fun q => hm2 (hj3 q)) hlen (by omega)
  unfold dC q_seq
  rw [z1]
  simp only [Option.bind_some]
  rcases z4 with ⟨z0, t3, ts3, X2, b1, b2, b3, b4, b5, b6, b7, b8⟩ | ⟨z0, b1, b2⟩
  · rw [if_pos z0]
    have hX2 : mc_st (lv j) X2.2 X2.1 = (out ++ z.2.2.1, S) := by
      rw [← mc_idem hj1 X2.2 X2.1, b7, mc_idem hj1, mc_id (by omega)]
    rw [z2]
    obtain ⟨y, y1, y2, y3, y4⟩ := dloop (B := B) (m := m) (j := j) (cnd := cnd) (sub := sub) (out := out) (S := S) (g := g) hj hj1 hjb ho hS isop (fun t f h1 h2 => hcnd t f g h1 h2) hE (fun t ts out S2 mn f h1 h2 h3 h4 h5 h6 h7 h8 h9 => hsub t ts out S2 mn f g h1 h2 h3 h4 h6 h7 h8 h9 (by rw [h5]; omega)) ts3.length t3 ts3 X2 z.2.1.1 z.2.2.1 z.2.2.2 5000 (Nat.le_refl _) (by omega) (by omega) (ct.fr5 hc z3) b1 (by rw [b2, h25]) hX2 b8 b5
    refine ⟨y, y1, y2, z3.tr y3, ?_⟩
    rw [b6]
    rcases y4 with ⟨y0, t4, ts4, X3, c1, c2, c3, c4, c5, c6, c7, c8⟩ | ⟨y0, c1, c2⟩
    · refine Or.inl ⟨y0, t4, ts4, X3, c1, by rw [c2, b2], by omega, by omega, c5, c6, ?_, c8⟩
      rw [c7, mc_id (by omega)]
    · exact Or.inr ⟨y0, by omega, c2⟩
  · rw [if_neg (by rw [z0]; decide)]
    exact ⟨(1, z.2.1, [], z.2.2.2), rfl, z2, z3, Or.inr ⟨rfl, b1, b2⟩⟩

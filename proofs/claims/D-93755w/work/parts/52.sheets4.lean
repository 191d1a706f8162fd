/-! came, nights (mine; printed by gen/sheets4.py) -/
set_option maxRecDepth 100000
/-- the state of came: (status, answer, numbers, arrays) -/
abbrev xCm : Type := Nat × Int32 × xF × xG
def q_cml (sr : xS) (sort from_ n : Int32) : Nat → Int32 → Int32 → xF → xG → Option xCm
  | 0, _, _, _, _ => none
  | q + 1, k, acc, f, g => if n ≤ k then some (0, acc, f, g) else if (q_item sr sort (from_ + k)).1 = 0 then (pX0_night f g (q_item sr sort (from_ + k)).2).bind (fun z => if z.1 < 0 then q_cml sr sort from_ n q (k + 1) (acc + 0) z.2.1 z.2.2 else q_cml sr sort from_ n q (k + 1) (acc + 1) z.2.1 z.2.2) else some ((q_item sr sort (from_ + k)).1, 0, f, g)
def q_came (sr : xS) (sort from_ n : Int32) (f : xF) (g : xG) : Option xCm := if (q_len sr sort).1 = 0 then q_cml sr sort from_ n 21 0 0 f g else some ((q_len sr sort).1, 0, f, g)
abbrev rmC : Room := { frames := 14, cells := 66, slots := 26620, locals := 10600 }
theorem len_0 {sr : xS} {k : Int32} (h : (q_len sr k).1 = 0) : ∃ x, sr = some x := by
  cases sr with
  | none => exact absurd h (by simp [q_len])
  | some x => exact ⟨x, rfl⟩
theorem lp_came {p : Program} {l : Launch} {e : Env} {s : State} {m : MethodId} {as : Array Value} {below : List Frame} {meth : Method} {c : Code} {A : Nat → Prop} {γ : wx_G} {o : Nat} {ad : Nat → Nat} {ρ : va_W} {b t n0 : Nat} {hh : Nat → Int32} {sort from_ n : Int32} {z : xCm} (XO : ex_ok γ l) (G : cx_ok γ) (NC : nc_ok γ) (hin : ∀ (f : xF) (g : xG), sr_in γ (cw γ o ad f g ρ) (some (b, t, n0, hh))) (C : CallFix p m c cX0_came 8 s as lw_all RX0) (K : wx_C γ A s) (hr : meth.sig.returnType = some .int) (hlocks : meth.locks = false) (htab : c.exceptionTable.isEmpty = true) : ∀ (q : Nat) (k acc : Int32) (f : xF) (g : xG) (H : Heap) (locs : List Loc) (ls : Array Slot), q ≤ 21 → q_cml (some (b, t, n0, hh)) sort from_ n q k acc f g = some z → wx_w γ A s H locs (cw γ o ad f g ρ) → lv_has ls 8 [(7, .int k), (6, .int acc), (0, .ref o), (1, .ref b), (2, .int sort), (3, .int from_), (4, .int n)] → W p l e rmC s m as below meth c H locs (3 * (22 - q)) (1210 * (22 - q)) (wx_QX γ (fun v ws => z.1 = 0 ∧ v = some (.int z.2.1) ∧ ws = cw γ o ad z.2.2.1 z.2.2.2 ρ) (fun x ws => z.1 ≠ 0 ∧ ws = (x, .inr (z.1, [])) :: cw γ o ad z.2.2.1 z.2.2.2 ρ) A as s below 66 26620) (F0 m 13 ls []) := by
  have hx := C.1
  have hb := C.2.1
  intro q
  induction q with
  | zero =>
    intro k acc f g H locs ls _ hF
    have hF : (none : Option xCm) = some z := hF
    cases hF
  | succ q ih =>
    intro k acc f g H locs ls hq hF w hl
    rw [q_cml] at hF
    refine lv_iload hx hb dX0_came_13 (lv_at hl 0 rfl) ?_
    refine lv_iload hx hb dX0_came_15 (lv_at hl 6 rfl) ?_
    refine lv_icmp_ge (tgt := 52) hx hb dX0_came_17 (by decide) (fun cn => ?_) (fun cn => ?_)
    · have hF := Option.some.inj ((if_pos cn).symm.trans hF)
      subst hF
      refine lv_iload hx hb dX0_came_52 (lv_at hl 1 rfl) ?_
      refine W.widen (k := 66) (n := 26620) (by omega) (by omega) ?_
      exact W.mono (fun t h => wx_QX.of h) (wx_iret C hr hlocks w ⟨rfl, rfl, rfl⟩ dX0_came_54)
    · have hF := (if_neg cn).symm.trans hF
      refine lv_iload hx hb dX0_came_20 (lv_at hl 1 rfl) ?_
      refine lv_aload_n hx hb dX0_came_22 rfl (lv_at hl 2 rfl) ?_
      refine lv_aload_n hx hb dX0_came_23 rfl (lv_at hl 3 rfl) ?_
      refine lv_iload_n hx hb dX0_came_24 rfl (lv_at hl 4 rfl) ?_
      refine lv_iload_n hx hb dX0_came_25 rfl (lv_at hl 5 rfl) ?_
      refine lv_iload hx hb dX0_came_26 (lv_at hl 0 rfl) ?_
      refine lv_iadd hx hb dX0_came_28 ?_
      refine wx_callST (n := 3) C K w (mX0_item (l := l) (k := sort) (i := from_ + k) (sr := some (b, t, n0, hh)) XO G NC (hin f g)) q1106 q1107 q106 q1108 rfl rfl (by decide +kernel) rfl rfl ⟨Nat.le_of_ble_eq_true rfl, Nat.le_of_ble_eq_true rfl⟩ hl.1 (Nat.le_of_ble_eq_true rfl) ⟨by show 3 * (22 - (q + 1)) + 3 ≤ 66; omega, by show 1210 * (22 - (q + 1)) + 1210 ≤ 26620; omega⟩ dX0_came_29 (fun r ws2 H1 locs1 hp w2 => ?_) (fun x ws2 H1 locs1 hp w2 => ?_)
      · obtain ⟨h0, rfl, rfl⟩ := hp
        have hF := (if_pos h0).symm.trans hF
        obtain ⟨y, hy, hF⟩ := obd hF
        refine rX0_night G C K w2 hy hl.1 ⟨Nat.le_of_ble_eq_true rfl, Nat.le_of_ble_eq_true rfl⟩ (Nat.le_of_ble_eq_true rfl) dX0_came_32 (fun H locs w => ?_) ⟨by show 3 * (22 - (q + 1)) + 3 ≤ 66; omega, by show 1210 * (22 - (q + 1)) + 1210 ≤ 26620; omega⟩
        have fin : ∀ (v : Int32) (ls : Array Slot), q_cml (some (b, t, n0, hh)) sort from_ n q (k + 1) (acc + v) y.2.1 y.2.2 = some z → lv_has ls 8 [(7, .int k), (6, .int acc), (0, .ref o), (1, .ref b), (2, .int sort), (3, .int from_), (4, .int n)] → W p l e rmC s m as below meth c H locs (3 * (22 - (q + 1)) + 3) (1210 * (22 - (q + 1)) + 1210) (wx_QX γ (fun v ws => z.1 = 0 ∧ v = some (.int z.2.1) ∧ ws = cw γ o ad z.2.2.1 z.2.2.2 ρ) (fun x ws => z.1 ≠ 0 ∧ ws = (x, .inr (z.1, [])) :: cw γ o ad z.2.2.1 z.2.2.2 ρ) A as s below 66 26620) (F0 m 43 ls [.int v, .int acc]) := by
          intro v ls hF hl
          refine lv_iadd hx hb dX0_came_43 ?_
          refine lv_istore (lv' := [(6, .int (acc + v)), (7, .int k), (0, .ref o), (1, .ref b), (2, .int sort), (3, .int from_), (4, .int n)]) hx hb dX0_came_44 hl (by decide) rfl (fun ls hl => ?_)
          refine lv_iinc (v := k + 1) (lv' := [(7, .int (k + 1)), (6, .int (acc + v)), (0, .ref o), (1, .ref b), (2, .int sort), (3, .int from_), (4, .int n)]) hx hb dX0_came_46 hl (k := 1) rfl rfl (by decide) rfl (fun ls hl => ?_)
          refine lv_goto (tgt := 13) hx hb dX0_came_49 (by decide) ?_
          refine W.widen (k := 3 * (22 - q)) (n := 1210 * (22 - q)) (by omega) (by omega) ?_
          exact ih _ _ _ _ _ _ _ (by omega) hF w hl
        refine lv_if_lt (tgt := 42) hx hb dX0_came_35 (by decide) (fun c => ?_) (fun c => ?_)
        · refine lv_iconst (v := (0 : Int32)) hx hb dX0_came_42 (by decide) ?_
          exact fin 0 ls ((if_pos c).symm.trans hF) hl
        · refine lv_iconst (v := (1 : Int32)) hx hb dX0_came_38 (by decide) ?_
          refine lv_goto (tgt := 43) hx hb dX0_came_39 (by decide) ?_
          exact fin 1 ls ((if_neg c).symm.trans hF) hl
      · obtain ⟨h0, rfl⟩ := hp
        have hF := Option.some.inj ((if_neg h0).symm.trans hF)
        subst hF
        exact WT.widen (by omega) (by omega) (wx_thrown rfl rfl rfl hlocks (wx_none htab _) w2 ⟨h0, rfl⟩)
theorem mX0_came {l : Launch} {γ : wx_G} {o : Nat} {ad : Nat → Nat} {ρ : va_W} {f : xF} {g : xG} {sr : xS} {sort from_ n : Int32} {z : xCm} (XO : ex_ok γ l) (G : cx_ok γ) (NC : nc_ok γ) (hin : ∀ (f : xF) (g : xG), sr_in γ (cw γ o ad f g ρ) sr) (hF : q_came sr sort from_ n f g = some z) : wx_MX γ l yX0_came (ws_ yX0_came cX0_came 8 (some .int)) rmC [.ref o, sr_v sr, .int sort, .int from_, .int n] (cw γ o ad f g ρ) (fun v ws => z.1 = 0 ∧ v = some (.int z.2.1) ∧ ws = cw γ o ad z.2.2.1 z.2.2.2 ρ) (fun x ws => z.1 ≠ 0 ∧ ws = (x, .inr (z.1, [])) :: cw γ o ad z.2.2.1 z.2.2.2 ρ) 66 26620 := by
  unfold q_came at hF
  cases sr with
  | none =>
    have h0 : ¬ (q_len none sort).1 = 0 := by simp [q_len]
    have hF := Option.some.inj ((if_neg h0).symm.trans hF)
    subst hF
    refine wx_MX.of (by decide) (Nat.le_of_ble_eq_true rfl) ?_
    intro p e s m as below meth c A ls C K w hr hlocks htab hl
    have hx := C.1
    have hb := C.2.1
    refine lv_aload_nN hx hb dX0_came_0 rfl (lv_at hl 1 rfl) ?_
    refine lv_iload_n hx hb dX0_came_1 rfl (lv_at hl 2 rfl) ?_
    refine wx_callST (n := 2) C K w (mX0_lengthOf (l := l) (k := sort) (sr := none) XO G NC (hin f g)) q1098 q1099 q106 q1100 rfl rfl (by decide +kernel) rfl rfl ⟨Nat.le_of_ble_eq_true rfl, Nat.le_of_ble_eq_true rfl⟩ hl.1 (Nat.le_of_ble_eq_true rfl) ⟨Nat.le_of_ble_eq_true rfl, Nat.le_of_ble_eq_true rfl⟩ dX0_came_2 (fun r ws2 H1 locs1 hp w2 => absurd hp.1 h0) (fun x ws2 H1 locs1 hp w2 => ?_)
    obtain ⟨-, rfl⟩ := hp
    exact WT.widen (by decide) (by decide) (wx_thrown rfl rfl rfl hlocks (wx_none htab _) w2 ⟨h0, rfl⟩)
  | some r =>
    obtain ⟨b, t, n0, hh⟩ := r
    refine wx_MX.of (by decide) (Nat.le_of_ble_eq_true rfl) ?_
    intro p e s m as below meth c A ls C K w hr hlocks htab hl
    have hx := C.1
    have hb := C.2.1
    refine lv_aload_n hx hb dX0_came_0 rfl (lv_at hl 1 rfl) ?_
    refine lv_iload_n hx hb dX0_came_1 rfl (lv_at hl 2 rfl) ?_
    refine wx_callST (n := 2) C K w (mX0_lengthOf (l := l) (k := sort) (sr := some (b, t, n0, hh)) XO G NC (hin f g)) q1098 q1099 q106 q1100 rfl rfl (by decide +kernel) rfl rfl ⟨Nat.le_of_ble_eq_true rfl, Nat.le_of_ble_eq_true rfl⟩ hl.1 (Nat.le_of_ble_eq_true rfl) ⟨Nat.le_of_ble_eq_true rfl, Nat.le_of_ble_eq_true rfl⟩ dX0_came_2 (fun r ws2 H1 locs1 hp w2 => ?_) (fun x ws2 H1 locs1 hp w2 => ?_)
    · obtain ⟨h0, rfl, rfl⟩ := hp
      have hF := (if_pos h0).symm.trans hF
      refine lv_istore (lv' := [(5, .int (q_len (some (b, t, n0, hh)) sort).2), (0, .ref o), (1, .ref b), (2, .int sort), (3, .int from_), (4, .int n)]) hx hb dX0_came_5 hl (by decide) rfl (fun ls hl => ?_)
      refine lv_iconst (v := (0 : Int32)) hx hb dX0_came_7 (by decide) ?_
      refine lv_istore (lv' := [(6, .int 0), (5, .int (q_len (some (b, t, n0, hh)) sort).2), (0, .ref o), (1, .ref b), (2, .int sort), (3, .int from_), (4, .int n)]) hx hb dX0_came_8 hl (by decide) rfl (fun ls hl => ?_)
      refine lv_iconst (v := (0 : Int32)) hx hb dX0_came_10 (by decide) ?_
      refine lv_istore (lv' := [(7, .int 0), (6, .int 0), (5, .int (q_len (some (b, t, n0, hh)) sort).2), (0, .ref o), (1, .ref b), (2, .int sort), (3, .int from_), (4, .int n)]) hx hb dX0_came_11 hl (by decide) rfl (fun ls hl => ?_)
      exact lp_came XO G NC hin C K hr hlocks htab 21 0 0 f g _ _ _ (Nat.le_refl _) hF w2 (lv_sub hl [0, 1, 3, 4, 5, 6, 7] rfl)
    · obtain ⟨h0, rfl⟩ := hp
      have hF := Option.some.inj ((if_neg h0).symm.trans hF)
      subst hF
      exact WT.widen (by decide) (by decide) (wx_thrown rfl rfl rfl hlocks (wx_none htab _) w2 ⟨h0, rfl⟩)
def q_nret (z : xCm) : Int32 := if z.1 = 0 then z.2.1 else if z.1 = 17 then -13 else if z.1 = 14 then -11 else -12
def q_nights (σ : Nat → xS) (f : xF) (g : xG) (i sort from_ n : Int32) : Option (Int32 × xF × xG) := (pX0_isSheet f g i).bind (fun b => if b = 0 then some (-2, f, g) else (pX0_in f g sort.toInt64 0 2).bind (fun b => if b = 0 then some (-2, f, g) else (pX0_in f g n.toInt64 0 20).bind (fun b => if b = 0 then some (-2, f, g) else if gin i 4 = true then (q_came (σ i.toNatClampNeg) sort from_ n f g).bind (fun z => some (q_nret z, z.2.2)) else none)))
theorem len_st (sr : xS) (k : Int32) : (q_len sr k).1 = 0 ∨ (q_len sr k).1 = 17 ∨ (q_len sr k).1 = 14 := by
  cases sr with
  | none => exact Or.inr (Or.inr rfl)
  | some x =>
    unfold q_len
    by_cases h : x.2.1 = srt k
    · simp [h]
    · simp [h]
theorem item_st (sr : xS) (k i : Int32) : (q_item sr k i).1 = 0 ∨ (q_item sr k i).1 = 17 ∨ (q_item sr k i).1 = 14 ∨ (q_item sr k i).1 = 15 := by
  cases sr with
  | none => exact Or.inr (Or.inr (Or.inl rfl))
  | some x =>
    unfold q_item
    by_cases h : x.2.1 = srt k
    · by_cases h2 : i < 0 ∨ Int32.ofNat x.2.2.1 ≤ i
      · simp [h, h2]
      · simp [h, h2]
    · simp [h]
theorem cml_st {sr : xS} {sort from_ n : Int32} {z : xCm} : ∀ (q : Nat) (k acc : Int32) (f : xF) (g : xG), q_cml sr sort from_ n q k acc f g = some z → z.1 = 0 ∨ z.1 = 17 ∨ z.1 = 14 ∨ z.1 = 15 := by
  intro q
  induction q with
  | zero =>
    intro k acc f g hF
    have hF : (none : Option xCm) = some z := hF
    cases hF
  | succ q ih =>
    intro k acc f g hF
    rw [q_cml] at hF
    by_cases c : n ≤ k
    · have hF := Option.some.inj ((if_pos c).symm.trans hF)
      exact Or.inl (by rw [← hF])
    · have hF := (if_neg c).symm.trans hF
      by_cases c2 : (q_item sr sort (from_ + k)).1 = 0
      · obtain ⟨y, -, hF⟩ := obd ((if_pos c2).symm.trans hF)
        by_cases c3 : y.1 < 0
        · exact ih _ _ _ _ ((if_pos c3).symm.trans hF)
        · exact ih _ _ _ _ ((if_neg c3).symm.trans hF)
      · have hF := Option.some.inj ((if_neg c2).symm.trans hF)
        rw [← hF]
        exact item_st _ _ _
theorem came_st {sr : xS} {sort from_ n : Int32} {f : xF} {g : xG} {z : xCm} (hF : q_came sr sort from_ n f g = some z) : z.1 = 0 ∨ z.1 = 17 ∨ z.1 = 14 ∨ z.1 = 15 := by
  unfold q_came at hF
  by_cases c : (q_len sr sort).1 = 0
  · exact cml_st _ _ _ _ _ ((if_pos c).symm.trans hF)
  · have hF := Option.some.inj ((if_neg c).symm.trans hF)
    rw [← hF]
    rcases len_st sr sort with h | h | h
    · exact Or.inl h
    · exact Or.inr (Or.inl h)
    · exact Or.inr (Or.inr (Or.inl h))
theorem mX0_nights {l : Launch} {γ : wx_G} {o : Nat} {ad sa : Nat → Nat} {σ : Nat → xS} {f : xF} {g : xG} {ρ : va_W} {i sort from_ n : Int32} {z : Int32 × xF × xG} (XO : ex_ok γ l) (G : cx_ok γ) (NC : nc_ok γ) (hok : sr_ok (σ i.toNatClampNeg)) (hF : q_nights σ f g i sort from_ n = some z) : wx_M γ l yX0_nights (wsW_ yX0_nights cX0_nights 6 (some .int) [(35, 52, 53, 540), (35, 52, 58, 518), (35, 52, 63, 520)]) { frames := 16, cells := 66, slots := 26620, locals := 10700 } [.ref o, .int i, .int sort, .int from_, .int n] (cw γ o ad f g (shw γ ad sa σ ++ ρ)) (fun r ws => r = some (.int z.1) ∧ ws = cw γ o ad z.2.1 z.2.2 (shw γ ad sa σ ++ ρ)) 66 26620 := by
  unfold q_nights at hF
  obtain ⟨b0, hr0, hF⟩ := obd hF
  refine wx_MH.of (by decide) (Nat.le_of_ble_eq_true rfl) ?_
  intro p e s m as below meth c A ls C K w hr hlocks htab hl
  have hx := C.1
  have hb := C.2.1
  refine lv_iload_n hx hb dX0_nights_0 rfl (lv_at hl 1 rfl) ?_
  refine rX0_isSheet G C K w hr0 hl.1 ⟨Nat.le_of_ble_eq_true rfl, Nat.le_of_ble_eq_true rfl⟩ (Nat.le_of_ble_eq_true rfl) dX0_nights_1 (fun H locs w => ?_) ⟨Nat.le_of_ble_eq_true rfl, Nat.le_of_ble_eq_true rfl⟩
  refine lv_if_eq (tgt := 32) hx hb dX0_nights_4 (by decide) (fun c => ?_) (fun c => ?_)
  · have hF := Option.some.inj ((if_pos c).symm.trans hF)
    subst hF
    refine lv_bipush (v := (-2 : Int32)) hx hb dX0_nights_32 (by decide) ?_
    refine W.widen (k := 66) (n := 26620) (by decide) (by decide) ?_
    exact wx_iret C hr hlocks w ⟨rfl, rfl⟩ dX0_nights_34
  have hF := (if_neg c).symm.trans hF
  obtain ⟨b1, hr1, hF⟩ := obd hF
  refine lv_iload_n hx hb dX0_nights_7 rfl (lv_at hl 2 rfl) ?_
  refine lv_i2l hx hb dX0_nights_8 rfl ?_
  refine lv_lconst (v := (0 : Int64)) hx hb dX0_nights_9 (by decide) ?_
  refine lv_ldc2 (v := (2 : Int64)) hx hb C.2.2.2.1 (C.2.2.2.2 _ q274) dX0_nights_10 ?_
  refine rX0_in G C K w hr1 hl.1 ⟨Nat.le_of_ble_eq_true rfl, Nat.le_of_ble_eq_true rfl⟩ (Nat.le_of_ble_eq_true rfl) dX0_nights_13 (fun H locs w => ?_) ⟨Nat.le_of_ble_eq_true rfl, Nat.le_of_ble_eq_true rfl⟩
  refine lv_if_eq (tgt := 32) hx hb dX0_nights_16 (by decide) (fun c => ?_) (fun c => ?_)
  · have hF := Option.some.inj ((if_pos c).symm.trans hF)
    subst hF
    refine lv_bipush (v := (-2 : Int32)) hx hb dX0_nights_32 (by decide) ?_
    refine W.widen (k := 66) (n := 26620) (by decide) (by decide) ?_
    exact wx_iret C hr hlocks w ⟨rfl, rfl⟩ dX0_nights_34
  have hF := (if_neg c).symm.trans hF
  obtain ⟨b2, hr2, hF⟩ := obd hF
  refine lv_iload hx hb dX0_nights_19 (lv_at hl 4 rfl) ?_
  refine lv_i2l hx hb dX0_nights_21 rfl ?_
  refine lv_lconst (v := (0 : Int64)) hx hb dX0_nights_22 (by decide) ?_
  refine lv_ldc2 (v := (20 : Int64)) hx hb C.2.2.2.1 (C.2.2.2.2 _ q170) dX0_nights_23 ?_
  refine rX0_in G C K w hr2 hl.1 ⟨Nat.le_of_ble_eq_true rfl, Nat.le_of_ble_eq_true rfl⟩ (Nat.le_of_ble_eq_true rfl) dX0_nights_26 (fun H locs w => ?_) ⟨Nat.le_of_ble_eq_true rfl, Nat.le_of_ble_eq_true rfl⟩
  refine lv_if_ne (tgt := 35) hx hb dX0_nights_29 (by decide) (fun c => ?_) (fun c => ?_)
  · have hF := (if_neg c).symm.trans hF
    obtain ⟨hi, hF⟩ := gin_if hF
    have hj : i.toNatClampNeg < 4 := Nat.not_le.mp fun q => hi (Or.inr q)
    obtain ⟨y, hy, hF⟩ := obd hF
    have hF := Option.some.inj hF
    refine lv_aload_n hx hb dX0_nights_35 rfl (lv_at hl 0 rfl) ?_
    refine lv_aload_n hx hb dX0_nights_36 rfl (lv_at hl 0 rfl) ?_
    refine cget_48 C K w dX0_nights_37 ?_
    refine lv_iload_n hx hb dX0_nights_40 rfl (lv_at hl 1 rfl) ?_
    refine c_shs C K w hi dX0_nights_41 ?_
    refine c_shr G C K w hj dX0_nights_42 ?_
    refine lv_iload_n hx hb dX0_nights_45 rfl (lv_at hl 2 rfl) ?_
    refine lv_iload_n hx hb dX0_nights_46 rfl (lv_at hl 3 rfl) ?_
    refine lv_iload hx hb dX0_nights_47 (lv_at hl 4 rfl) ?_
    refine wx_callVX (n := 4) (Cn := "WalkingStones") C K w (mX0_came (l := l) XO G NC (fun f g => sh_in hj hok) hy) q1267 q1269 qs48 q106 q1270 rfl rfl (by decide +kernel) (va_recv K.1.1 w.1 (ci := 1) (q0 := 0) rfl rfl) rfl (by rfl) ⟨Nat.le_of_ble_eq_true rfl, Nat.le_of_ble_eq_true rfl⟩ hl.1 (Nat.le_of_ble_eq_true rfl) ⟨Nat.le_of_ble_eq_true rfl, Nat.le_of_ble_eq_true rfl⟩ dX0_nights_49 (fun r ws2 H1 locs1 hp w2 => ?_) (fun x ws2 H1 locs1 hp w2 => ?_)
    · obtain ⟨h0, rfl, rfl⟩ := hp
      subst hF
      exact wx_iret C hr hlocks w2 ⟨by simp [q_nret, h0], rfl⟩ dX0_nights_52
    · obtain ⟨h0, rfl⟩ := hp
      rcases came_st hy with h1 | h1 | h1 | h1
      · exact absurd h1 h0
      · have w3 := w2
        rw [h1] at w3
        subst hF
        refine wx_exc (Cn := "java/lang/ClassCastException") (ci := 17) (h := 53) C K w3 rfl htab (Or.inr ⟨⟨by decide, by decide⟩, by decide, "java/lang/ClassCastException", γ.1.1 17, (K.1.1.1 17 _ rfl).2.1, C.2.2.2.2 _ q1253, Or.inl ⟨wx_self _ _, rfl⟩⟩) ?_
        refine lv_astore (lv' := [(5, .ref x), (0, .ref o), (1, .int i), (2, .int sort), (3, .int from_), (4, .int n)]) hx hb dX0_nights_53 hl (by decide) rfl (fun ls hl => ?_)
        refine lv_bipush (v := (-13 : Int32)) hx hb dX0_nights_55 (by decide) ?_
        exact wx_iret C hr hlocks (wx_w.drop (N := [(x, .inr (17, []))]) w3) ⟨by simp [q_nret, h1], rfl⟩ dX0_nights_57
      · have w3 := w2
        rw [h1] at w3
        subst hF
        refine wx_exc (Cn := "java/lang/NullPointerException") (ci := 14) (h := 58) C K w3 rfl htab (Or.inr ⟨⟨by decide, by decide⟩, by decide, "java/lang/ClassCastException", γ.1.1 17, (K.1.1.1 17 _ rfl).2.1, C.2.2.2.2 _ q1253, Or.inr ⟨nc_use NC K (X := "java/lang/NullPointerException") (Y := "java/lang/ClassCastException") (by decide) (K.1.1.1 14 _ rfl).2.1 (K.1.1.1 17 _ rfl).2.1, Or.inr ⟨⟨by decide, by decide⟩, by decide, "java/lang/NullPointerException", γ.1.1 14, (K.1.1.1 14 _ rfl).2.1, C.2.2.2.2 _ q1205, Or.inl ⟨wx_self _ _, rfl⟩⟩⟩⟩) ?_
        refine lv_astore (lv' := [(5, .ref x), (0, .ref o), (1, .int i), (2, .int sort), (3, .int from_), (4, .int n)]) hx hb dX0_nights_58 hl (by decide) rfl (fun ls hl => ?_)
        refine lv_bipush (v := (-11 : Int32)) hx hb dX0_nights_60 (by decide) ?_
        exact wx_iret C hr hlocks (wx_w.drop (N := [(x, .inr (14, []))]) w3) ⟨by simp [q_nret, h1], rfl⟩ dX0_nights_62
      · have w3 := w2
        rw [h1] at w3
        subst hF
        refine wx_exc (Cn := "java/lang/IndexOutOfBoundsException") (ci := 15) (h := 63) C K w3 rfl htab (Or.inr ⟨⟨by decide, by decide⟩, by decide, "java/lang/ClassCastException", γ.1.1 17, (K.1.1.1 17 _ rfl).2.1, C.2.2.2.2 _ q1253, Or.inr ⟨nc_use NC K (X := "java/lang/IndexOutOfBoundsException") (Y := "java/lang/ClassCastException") (by decide) (K.1.1.1 15 _ rfl).2.1 (K.1.1.1 17 _ rfl).2.1, Or.inr ⟨⟨by decide, by decide⟩, by decide, "java/lang/NullPointerException", γ.1.1 14, (K.1.1.1 14 _ rfl).2.1, C.2.2.2.2 _ q1205, Or.inr ⟨nc_use NC K (X := "java/lang/IndexOutOfBoundsException") (Y := "java/lang/NullPointerException") (by decide) (K.1.1.1 15 _ rfl).2.1 (K.1.1.1 14 _ rfl).2.1, Or.inr ⟨⟨by decide, by decide⟩, by decide, "java/lang/IndexOutOfBoundsException", γ.1.1 15, (K.1.1.1 15 _ rfl).2.1, C.2.2.2.2 _ q1112, Or.inl ⟨wx_self _ _, rfl⟩⟩⟩⟩⟩⟩) ?_
        refine lv_astore (lv' := [(5, .ref x), (0, .ref o), (1, .int i), (2, .int sort), (3, .int from_), (4, .int n)]) hx hb dX0_nights_63 hl (by decide) rfl (fun ls hl => ?_)
        refine lv_bipush (v := (-12 : Int32)) hx hb dX0_nights_65 (by decide) ?_
        exact wx_iret C hr hlocks (wx_w.drop (N := [(x, .inr (15, []))]) w3) ⟨by simp [q_nret, h1], rfl⟩ dX0_nights_67
  · have hF := Option.some.inj ((if_pos c).symm.trans hF)
    subst hF
    refine lv_bipush (v := (-2 : Int32)) hx hb dX0_nights_32 (by decide) ?_
    refine W.widen (k := 66) (n := 26620) (by decide) (by decide) ?_
    exact wx_iret C hr hlocks w ⟨rfl, rfl⟩ dX0_nights_34

/-! copy (mine; printed by gen/sheets5.py) -/
set_option maxRecDepth 100000
def tty (t : Nat) : FieldType := if t = 0 then .byte else if t = 1 then .short else .int
/-- what is copied fits its sort -/
def gft (t : Nat) (h : Nat → Int32) (a n : Int32) : Bool := (List.range n.toNatClampNeg).all (fun i => fits (tty t) (.int (h (a.toNatClampNeg + i))))
theorem gft_if {α : Type} {t : Nat} {h : Nat → Int32} {a n : Int32} {B : Option α} {z : α} (hF : (if gft t h a n = true then B else none) = some z) : (∀ i, i < n.toNatClampNeg → fits (tty t) (.int (h (a.toNatClampNeg + i))) = true) ∧ B = some z := by
  by_cases c : gft t h a n = true
  · rw [if_pos c] at hF
    exact ⟨fun i hi => List.all_eq_true.mp c i (List.mem_range.mpr hi), hF⟩
  · rw [if_neg c] at hF
    cases hF
def q_cp2 (σ : Nat → xS) (j : Nat) (x y : Nat × Nat × Nat × (Nat → Int32)) (a b n : Int32) : Option (Int32 × (Nat → xS)) := if Int32.ofNat x.2.1 = Int32.ofNat y.2.1 then (if n < 0 then some (-12, σ) else if a < 0 then some (-12, σ) else if b < 0 then some (-12, σ) else if Int32.ofNat x.2.2.1 < a then some (-12, σ) else if Int32.ofNat y.2.2.1 < b then some (-12, σ) else if Int32.ofNat x.2.2.1 - a < n then some (-12, σ) else if n ≤ Int32.ofNat y.2.2.1 - b then (if gcp a b n x.2.2.1 y.2.2.1 = true then (if gft x.2.1 x.2.2.2 a n = true then some (n, va_up σ j (some (y.1, y.2.1, y.2.2.1, va_cpy x.2.2.2 y.2.2.2 a.toNatClampNeg b.toNatClampNeg n.toNatClampNeg))) else none) else none) else some (-12, σ)) else some (-13, σ)
def q_cp1 (σ : Nat → xS) (i j a b n : Int32) : Option (Int32 × (Nat → xS)) := match σ i.toNatClampNeg with
  | none => some (-11, σ)
  | some x => match σ j.toNatClampNeg with
    | none => some (-11, σ)
    | some y => q_cp2 σ j.toNatClampNeg x y a b n
def q_copy (σ : Nat → xS) (f : xF) (g : xG) (i a j b n : Int32) : Option (Int32 × (Nat → xS)) := (pX0_isSheet f g i).bind (fun b0 => if b0 = 0 then some (-2, σ) else (pX0_isSheet f g j).bind (fun b1 => if b1 = 0 then some (-2, σ) else if gin i 4 = true then (if gin j 4 = true then q_cp1 σ i j a b n else none) else none))
theorem ofN_inj {t u : Nat} (ht : t < 3) (hu : u < 3) (h : Int32.ofNat t = Int32.ofNat u) : t = u := by
  rcases (show t = 0 ∨ t = 1 ∨ t = 2 by omega) with rfl | rfl | rfl <;> rcases (show u = 0 ∨ u = 1 ∨ u = 2 by omega) with rfl | rfl | rfl <;> first | rfl | exact absurd h (by decide)
theorem tty_at {γ : wx_G} {t : Nat} (ht : t < 3) : (wx_tys γ)[rti t]? = some (γ.2.1 (rti t), tty t) := by
  rcases (show t = 0 ∨ t = 1 ∨ t = 2 by omega) with rfl | rfl | rfl <;> rfl
theorem tty_p {t : Nat} (ht : t < 3) : refKind (tty t) = false := by
  rcases (show t = 0 ∨ t = 1 ∨ t = 2 by omega) with rfl | rfl | rfl <;> rfl
theorem mX0_copy {l : Launch} {γ : wx_G} {o : Nat} {ad sa : Nat → Nat} {σ : Nat → xS} {f : xF} {g : xG} {ρ : va_W} {i a j b n : Int32} {z : Int32 × (Nat → xS)} (XO : ex_ok γ l) (G : cx_ok γ) (NC : nc_ok γ) (hok1 : sr_ok (σ i.toNatClampNeg)) (hok2 : sr_ok (σ j.toNatClampNeg)) (hF : q_copy σ f g i a j b n = some z) : wx_M γ l yX0_copy (ws_ yX0_copy cX0_copy 10 (some .int)) { frames := 15, cells := 6, slots := 2420, locals := 10600 } [.ref o, .int i, .int a, .int j, .int b, .int n] (cw γ o ad f g (shw γ ad sa σ ++ ρ)) (fun r ws => r = some (.int z.1) ∧ ws = cw γ o ad f g (shw γ ad sa z.2 ++ ρ)) 6 2420 := by
  unfold q_copy at hF
  obtain ⟨b0, hr0, hF⟩ := obd hF
  refine wx_M.of (by decide) (Nat.le_of_ble_eq_true rfl) ?_
  intro p e s m as below meth c A ls C K w hr hlocks _ hl
  have hx := C.1
  have hb := C.2.1
  refine lv_iload_n hx hb dX0_copy_0 rfl (lv_at hl 1 rfl) ?_
  refine rX0_isSheet G C K w hr0 hl.1 ⟨Nat.le_of_ble_eq_true rfl, Nat.le_of_ble_eq_true rfl⟩ (Nat.le_of_ble_eq_true rfl) dX0_copy_1 (fun H locs w => ?_) ⟨Nat.le_of_ble_eq_true rfl, Nat.le_of_ble_eq_true rfl⟩
  refine lv_if_eq (tgt := 14) hx hb dX0_copy_4 (by decide) (fun ch => ?_) (fun ch => ?_)
  · have hF := Option.some.inj ((if_pos ch).symm.trans hF)
    subst hF
    refine lv_bipush (v := (-2 : Int32)) hx hb dX0_copy_14 (by decide) ?_
    refine W.widen (k := 6) (n := 2420) (by decide) (by decide) ?_
    exact wx_iret C hr hlocks w ⟨rfl, rfl⟩ dX0_copy_16
  have hF := (if_neg ch).symm.trans hF
  obtain ⟨b1, hr1, hF⟩ := obd hF
  refine lv_iload_n hx hb dX0_copy_7 rfl (lv_at hl 3 rfl) ?_
  refine rX0_isSheet G C K w hr1 hl.1 ⟨Nat.le_of_ble_eq_true rfl, Nat.le_of_ble_eq_true rfl⟩ (Nat.le_of_ble_eq_true rfl) dX0_copy_8 (fun H locs w => ?_) ⟨Nat.le_of_ble_eq_true rfl, Nat.le_of_ble_eq_true rfl⟩
  refine lv_if_ne (tgt := 17) hx hb dX0_copy_11 (by decide) (fun ch => ?_) (fun ch => ?_)
  · have hF := (if_neg ch).symm.trans hF
    obtain ⟨hi, hF⟩ := gin_if hF
    obtain ⟨hi2, hF⟩ := gin_if hF
    have hj : i.toNatClampNeg < 4 := Nat.not_le.mp fun q => hi (Or.inr q)
    have hj2 : j.toNatClampNeg < 4 := Nat.not_le.mp fun q => hi2 (Or.inr q)
    refine lv_aload_n hx hb dX0_copy_17 rfl (lv_at hl 0 rfl) ?_
    refine cget_48 C K w dX0_copy_18 ?_
    refine lv_iload_n hx hb dX0_copy_21 rfl (lv_at hl 1 rfl) ?_
    refine c_shs C K w hi dX0_copy_22 ?_
    refine c_shr G C K w hj dX0_copy_23 ?_
    unfold q_cp1 at hF
    cases hs : σ i.toNatClampNeg with
    | none =>
      rw [hs] at hF
      have hF := Option.some.inj hF
      subst hF
      refine lv_astoreN (lv' := [(6, .null), (0, .ref o), (1, .int i), (2, .int a), (3, .int j), (4, .int b), (5, .int n)]) hx hb dX0_copy_26 hl (by decide) rfl (fun ls hl => ?_)
      refine lv_aload_n hx hb dX0_copy_28 rfl (lv_at hl 1 rfl) ?_
      refine cget_48 C K w dX0_copy_29 ?_
      refine lv_iload_n hx hb dX0_copy_32 rfl (lv_at hl 4 rfl) ?_
      refine c_shs C K w hi2 dX0_copy_33 ?_
      refine c_shr G C K w hj2 dX0_copy_34 ?_
      have fin : ∀ ls : Array Slot, W p l e { frames := 15, cells := 6, slots := 2420, locals := 10600 } s m as below meth c H locs 0 0 (wx_Q γ (fun r ws => r = some (.int (-11, σ).1) ∧ ws = cw γ o ad f g (shw γ ad sa (-11, σ).2 ++ ρ)) A as s below 6 2420) (F0 m 49 ls []) := by
        intro ls
        refine lv_bipush (v := (-11 : Int32)) hx hb dX0_copy_49 (by decide) ?_
        refine W.widen (k := 6) (n := 2420) (by decide) (by decide) ?_
        exact wx_iret C hr hlocks w ⟨rfl, rfl⟩ dX0_copy_51
      cases hs2 : σ j.toNatClampNeg with
      | none =>
        refine lv_astoreN (lv' := [(7, .null), (6, .null), (0, .ref o), (1, .int i), (2, .int a), (3, .int j), (4, .int b), (5, .int n)]) hx hb dX0_copy_37 hl (by decide) rfl (fun ls hl => ?_)
        refine lv_aloadN hx hb dX0_copy_39 (lv_at hl 1 rfl) ?_
        refine lv_ifnullN (tgt := 49) hx hb dX0_copy_41 (by decide) ?_
        exact fin _
      | some y =>
        obtain ⟨by_, ty, ny, hy⟩ := y
        refine lv_astore (lv' := [(7, .ref by_), (6, .null), (0, .ref o), (1, .int i), (2, .int a), (3, .int j), (4, .int b), (5, .int n)]) hx hb dX0_copy_37 hl (by decide) rfl (fun ls hl => ?_)
        refine lv_aloadN hx hb dX0_copy_39 (lv_at hl 1 rfl) ?_
        refine lv_ifnullN (tgt := 49) hx hb dX0_copy_41 (by decide) ?_
        exact fin _
    | some x =>
      rw [hs] at hF
      have in1 := sh_in (γ := γ) (o := o) (ad := ad) (sa := sa) (f := f) (g := g) (ρ := ρ) hj hok1
      rw [hs] at in1
      obtain ⟨bx, tx, nx, hx0⟩ := x
      obtain ⟨⟨q0, hq⟩, ht, hn⟩ := id in1
      have ht : tx < 3 := ht
      have hn : nx ≤ 40 := hn
      refine lv_astore (lv' := [(6, .ref bx), (0, .ref o), (1, .int i), (2, .int a), (3, .int j), (4, .int b), (5, .int n)]) hx hb dX0_copy_26 hl (by decide) rfl (fun ls hl => ?_)
      refine lv_aload_n hx hb dX0_copy_28 rfl (lv_at hl 1 rfl) ?_
      refine cget_48 C K w dX0_copy_29 ?_
      refine lv_iload_n hx hb dX0_copy_32 rfl (lv_at hl 4 rfl) ?_
      refine c_shs C K w hi2 dX0_copy_33 ?_
      refine c_shr G C K w hj2 dX0_copy_34 ?_
      cases hs2 : σ j.toNatClampNeg with
      | none =>
        rw [hs2] at hF
        have hF := Option.some.inj hF
        subst hF
        refine lv_astoreN (lv' := [(7, .null), (6, .ref bx), (0, .ref o), (1, .int i), (2, .int a), (3, .int j), (4, .int b), (5, .int n)]) hx hb dX0_copy_37 hl (by decide) rfl (fun ls hl => ?_)
        refine lv_aload hx hb dX0_copy_39 (lv_at hl 1 rfl) ?_
        refine lv_ifnull hx hb dX0_copy_41 ?_
        refine lv_aloadN hx hb dX0_copy_44 (lv_at hl 0 rfl) ?_
        refine lv_ifnonnullN hx hb dX0_copy_46 ?_
        refine lv_bipush (v := (-11 : Int32)) hx hb dX0_copy_49 (by decide) ?_
        refine W.widen (k := 6) (n := 2420) (by decide) (by decide) ?_
        exact wx_iret C hr hlocks w ⟨rfl, rfl⟩ dX0_copy_51
      | some y =>
        rw [hs2] at hF
        have in2 := sh_in (γ := γ) (o := o) (ad := ad) (sa := sa) (f := f) (g := g) (ρ := ρ) hj2 hok2
        rw [hs2] at in2
        obtain ⟨by_, ty, ny, hy⟩ := y
        obtain ⟨⟨q1, hq1⟩, ht2, hn2⟩ := id in2
        have ht2 : ty < 3 := ht2
        have hn2 : ny ≤ 40 := hn2
        refine lv_astore (lv' := [(7, .ref by_), (6, .ref bx), (0, .ref o), (1, .int i), (2, .int a), (3, .int j), (4, .int b), (5, .int n)]) hx hb dX0_copy_37 hl (by decide) rfl (fun ls hl => ?_)
        refine lv_aload hx hb dX0_copy_39 (lv_at hl 1 rfl) ?_
        refine lv_ifnull hx hb dX0_copy_41 ?_
        refine lv_aload hx hb dX0_copy_44 (lv_at hl 0 rfl) ?_
        refine lv_ifnonnull (tgt := 52) hx hb dX0_copy_46 (by decide) ?_
        refine lv_aload hx hb dX0_copy_52 (lv_at hl 1 rfl) ?_
        refine wx_callS (n := 1) C K w (mX0_sortOf (l := l) NC ht hq) q1093 q1094 q106 q1095 rfl rfl (by decide +kernel) rfl rfl ⟨Nat.le_of_ble_eq_true rfl, Nat.le_of_ble_eq_true rfl⟩ hl.1 (Nat.le_of_ble_eq_true rfl) ⟨Nat.le_of_ble_eq_true rfl, Nat.le_of_ble_eq_true rfl⟩ dX0_copy_54 (fun r ws2 H locs hp w1 => ?_)
        obtain ⟨rfl, rfl⟩ := hp
        refine lv_aload hx hb dX0_copy_57 (lv_at hl 0 rfl) ?_
        refine wx_callS (n := 1) C K w1 (mX0_sortOf (l := l) NC ht2 hq1) q1093 q1094 q106 q1095 rfl rfl (by decide +kernel) rfl rfl ⟨Nat.le_of_ble_eq_true rfl, Nat.le_of_ble_eq_true rfl⟩ hl.1 (Nat.le_of_ble_eq_true rfl) ⟨Nat.le_of_ble_eq_true rfl, Nat.le_of_ble_eq_true rfl⟩ dX0_copy_59 (fun r ws2 H locs hp w2 => ?_)
        obtain ⟨rfl, rfl⟩ := hp
        unfold q_cp2 at hF
        refine lv_icmp_eq (tgt := 68) hx hb dX0_copy_62 (by decide) (fun ch => ?_) (fun ch => ?_)
        · have hF := (if_pos ch).symm.trans hF
          have htt := ofN_inj ht ht2 ch
          refine lv_aload hx hb dX0_copy_68 (lv_at hl 1 rfl) ?_
          refine lv_aload hx hb dX0_copy_70 (lv_at hl 1 rfl) ?_
          refine wx_callS (n := 1) C K w2 (mX0_sortOf (l := l) NC ht hq) q1093 q1094 q106 q1095 rfl rfl (by decide +kernel) rfl rfl ⟨Nat.le_of_ble_eq_true rfl, Nat.le_of_ble_eq_true rfl⟩ hl.1 (Nat.le_of_ble_eq_true rfl) ⟨Nat.le_of_ble_eq_true rfl, Nat.le_of_ble_eq_true rfl⟩ dX0_copy_72 (fun r ws2 H locs hp w3 => ?_)
          obtain ⟨rfl, rfl⟩ := hp
          refine wx_callST (n := 2) C K w3 (mX0_lengthOf (l := l) (k := Int32.ofNat tx) (sr := some (bx, tx, nx, hx0)) XO G NC in1) q1098 q1099 q106 q1100 rfl rfl (by decide +kernel) rfl rfl ⟨Nat.le_of_ble_eq_true rfl, Nat.le_of_ble_eq_true rfl⟩ hl.1 (Nat.le_of_ble_eq_true rfl) ⟨Nat.le_of_ble_eq_true rfl, Nat.le_of_ble_eq_true rfl⟩ dX0_copy_75 (fun r ws2 H locs hp w4 => ?_) (fun x ws2 H locs hp w9 => absurd (by simp [q_len, srt_of ht]) hp.1)
          obtain ⟨-, rfl, rfl⟩ := hp
          rw [show (q_len (some (bx, tx, nx, hx0)) (Int32.ofNat tx)).2 = Int32.ofNat nx from by simp [q_len, srt_of ht]]
          refine lv_istore (lv' := [(8, .int (Int32.ofNat nx)), (7, .ref by_), (6, .ref bx), (0, .ref o), (1, .int i), (2, .int a), (3, .int j), (4, .int b), (5, .int n)]) hx hb dX0_copy_78 hl (by decide) rfl (fun ls hl => ?_)
          refine lv_aload hx hb dX0_copy_80 (lv_at hl 1 rfl) ?_
          refine lv_aload hx hb dX0_copy_82 (lv_at hl 1 rfl) ?_
          refine wx_callS (n := 1) C K w4 (mX0_sortOf (l := l) NC ht2 hq1) q1093 q1094 q106 q1095 rfl rfl (by decide +kernel) rfl rfl ⟨Nat.le_of_ble_eq_true rfl, Nat.le_of_ble_eq_true rfl⟩ hl.1 (Nat.le_of_ble_eq_true rfl) ⟨Nat.le_of_ble_eq_true rfl, Nat.le_of_ble_eq_true rfl⟩ dX0_copy_84 (fun r ws2 H locs hp w5 => ?_)
          obtain ⟨rfl, rfl⟩ := hp
          refine wx_callST (n := 2) C K w5 (mX0_lengthOf (l := l) (k := Int32.ofNat ty) (sr := some (by_, ty, ny, hy)) XO G NC in2) q1098 q1099 q106 q1100 rfl rfl (by decide +kernel) rfl rfl ⟨Nat.le_of_ble_eq_true rfl, Nat.le_of_ble_eq_true rfl⟩ hl.1 (Nat.le_of_ble_eq_true rfl) ⟨Nat.le_of_ble_eq_true rfl, Nat.le_of_ble_eq_true rfl⟩ dX0_copy_87 (fun r ws2 H locs hp w6 => ?_) (fun x ws2 H locs hp w9 => absurd (by simp [q_len, srt_of ht2]) hp.1)
          obtain ⟨-, rfl, rfl⟩ := hp
          rw [show (q_len (some (by_, ty, ny, hy)) (Int32.ofNat ty)).2 = Int32.ofNat ny from by simp [q_len, srt_of ht2]]
          refine lv_istore (lv' := [(9, .int (Int32.ofNat ny)), (8, .int (Int32.ofNat nx)), (7, .ref by_), (6, .ref bx), (0, .ref o), (1, .int i), (2, .int a), (3, .int j), (4, .int b), (5, .int n)]) hx hb dX0_copy_90 hl (by decide) rfl (fun ls hl => ?_)
          have fin : some (-12, σ) = some z → W p l e { frames := 15, cells := 6, slots := 2420, locals := 10600 } s m as below meth c H locs (0 + 0 + 0 + 0 + 3 + 0 + 3) (0 + 0 + 0 + 0 + 1210 + 0 + 1210) (wx_Q γ (fun r ws => r = some (.int z.1) ∧ ws = cw γ o ad f g (shw γ ad sa z.2 ++ ρ)) A as s below 6 2420) (F0 m 138 ls []) := by
            intro hF
            have hF := Option.some.inj hF
            subst hF
            refine lv_bipush (v := (-12 : Int32)) hx hb dX0_copy_138 (by decide) ?_
            exact wx_iret C hr hlocks w6 ⟨rfl, rfl⟩ dX0_copy_140
          refine lv_iload hx hb dX0_copy_92 (lv_at hl 9 rfl) ?_
          refine lv_if_lt (tgt := 138) hx hb dX0_copy_94 (by decide) (fun c1 => fin ((if_pos c1).symm.trans hF)) (fun c1 => ?_)
          have hF := (if_neg c1).symm.trans hF
          refine lv_iload_n hx hb dX0_copy_97 rfl (lv_at hl 6 rfl) ?_
          refine lv_if_lt (tgt := 138) hx hb dX0_copy_98 (by decide) (fun c2 => fin ((if_pos c2).symm.trans hF)) (fun c2 => ?_)
          have hF := (if_neg c2).symm.trans hF
          refine lv_iload hx hb dX0_copy_101 (lv_at hl 8 rfl) ?_
          refine lv_if_lt (tgt := 138) hx hb dX0_copy_103 (by decide) (fun c3 => fin ((if_pos c3).symm.trans hF)) (fun c3 => ?_)
          have hF := (if_neg c3).symm.trans hF
          refine lv_iload_n hx hb dX0_copy_106 rfl (lv_at hl 6 rfl) ?_
          refine lv_iload hx hb dX0_copy_107 (lv_at hl 1 rfl) ?_
          refine lv_icmp_gt (tgt := 138) hx hb dX0_copy_109 (by decide) (fun c4 => fin ((if_pos c4).symm.trans hF)) (fun c4 => ?_)
          have hF := (if_neg c4).symm.trans hF
          refine lv_iload hx hb dX0_copy_112 (lv_at hl 8 rfl) ?_
          refine lv_iload hx hb dX0_copy_114 (lv_at hl 0 rfl) ?_
          refine lv_icmp_gt (tgt := 138) hx hb dX0_copy_116 (by decide) (fun c5 => fin ((if_pos c5).symm.trans hF)) (fun c5 => ?_)
          have hF := (if_neg c5).symm.trans hF
          refine lv_iload hx hb dX0_copy_119 (lv_at hl 9 rfl) ?_
          refine lv_iload hx hb dX0_copy_121 (lv_at hl 1 rfl) ?_
          refine lv_iload_n hx hb dX0_copy_123 rfl (lv_at hl 6 rfl) ?_
          refine lv_isub hx hb dX0_copy_124 ?_
          refine lv_icmp_gt (tgt := 138) hx hb dX0_copy_125 (by decide) (fun c6 => fin ((if_pos c6).symm.trans hF)) (fun c6 => ?_)
          have hF := (if_neg c6).symm.trans hF
          refine lv_iload hx hb dX0_copy_128 (lv_at hl 9 rfl) ?_
          refine lv_iload hx hb dX0_copy_130 (lv_at hl 0 rfl) ?_
          refine lv_iload hx hb dX0_copy_132 (lv_at hl 8 rfl) ?_
          refine lv_isub hx hb dX0_copy_134 ?_
          refine lv_icmp_le (tgt := 141) hx hb dX0_copy_135 (by decide) (fun c7 => ?_) (fun c7 => fin ((if_neg c7).symm.trans hF))
          have hF := (if_pos c7).symm.trans hF
          obtain ⟨hgc, hF⟩ := gcp_if hF
          obtain ⟨hft, hF⟩ := gft_if hF
          have hF := Option.some.inj hF
          subst hF
          simp only [gcp, Bool.and_eq_true, decide_eq_true_eq] at hgc
          obtain ⟨⟨⟨⟨g1, g2⟩, g3⟩, g4⟩, g5⟩ := hgc
          refine lv_aload hx hb dX0_copy_141 (lv_at hl 3 rfl) ?_
          refine lv_iload_n hx hb dX0_copy_143 rfl (lv_at hl 6 rfl) ?_
          refine lv_aload hx hb dX0_copy_144 (lv_at hl 2 rfl) ?_
          refine lv_iload hx hb dX0_copy_146 (lv_at hl 8 rfl) ?_
          refine lv_iload hx hb dX0_copy_148 (lv_at hl 9 rfl) ?_
          have hP := (sh_head (γ := γ) (o := o) (ad := ad) (sa := sa) (σ := σ) (f := f) (g := g) (ρ := ρ) hj2).trans List.perm_middle.symm
          rw [hs2] at hP
          have w7 := w6.perm hP
          obtain ⟨q2, hq2⟩ := List.getElem?_of_mem (hP.mem_iff.mp (List.mem_of_getElem? hq))
          subst htt
          refine va_copyi (ty := tty tx) C.1 C.2.1 (C.2.2.1.trans hl.1.symm) C.2.2.2.1 (C.2.2.2.2 _ q938) (C.2.2.2.2 _ q940) (C.2.2.2.2 _ q939) (C.2.2.2.2 _ q130) K.1.1 w7.1 w7.2.1 w7.2.2 q2 0 (rti tx) (rti tx) hq2 rfl (tty_at ht) (tty_at ht) (tty_p ht) g1 g2 g3 g4 g5 hft (Nat.le_of_ble_eq_true rfl) (Nat.le_of_ble_eq_true rfl) dX0_copy_150 (fun H1 locs1 hP1 hD1 hS1 => ?_)
          have w8 : wx_w γ A s H1 locs1 ((by_, e_sr γ tx ny (va_cpy hx0 hy a.toNatClampNeg b.toNatClampNeg n.toNatClampNeg)) :: (sa j.toNatClampNeg, .inr (12, [.ref by_])) :: cw γ o ad f g (shr γ ad sa σ j.toNatClampNeg ++ ρ)) := ⟨hP1, hD1, hS1⟩
          have w9 : wx_w γ A s H1 locs1 (cw γ o ad f g (shw γ ad sa (va_up σ j.toNatClampNeg (some (by_, tx, ny, va_cpy hx0 hy a.toNatClampNeg b.toNatClampNeg n.toNatClampNeg))) ++ ρ)) := by
            refine wx_w.perm ?_ (sh_head hj2).symm
            rw [sh_up, show shc γ sa (va_up σ j.toNatClampNeg (some (by_, tx, ny, va_cpy hx0 hy a.toNatClampNeg b.toNatClampNeg n.toNatClampNeg))) j.toNatClampNeg = [(sa j.toNatClampNeg, .inr (12, [.ref by_])), (by_, e_sr γ tx ny (va_cpy hx0 hy a.toNatClampNeg b.toNatClampNeg n.toNatClampNeg))] from by simp [shc, va_up, sr_v, rowc]]
            exact w8.perm (List.Perm.swap _ _ _)
          refine lv_iload hx hb dX0_copy_153 (lv_at hl 9 rfl) ?_
          exact wx_iret C hr hlocks w9 ⟨rfl, rfl⟩ dX0_copy_155
        · have hF := Option.some.inj ((if_neg ch).symm.trans hF)
          subst hF
          refine lv_bipush (v := (-13 : Int32)) hx hb dX0_copy_65 (by decide) ?_
          refine W.widen (k := 6) (n := 2420) (by decide) (by decide) ?_
          exact wx_iret C hr hlocks w2 ⟨rfl, rfl⟩ dX0_copy_67
  · have hF := Option.some.inj ((if_pos ch).symm.trans hF)
    subst hF
    refine lv_bipush (v := (-2 : Int32)) hx hb dX0_copy_14 (by decide) ?_
    refine W.widen (k := 6) (n := 2420) (by decide) (by decide) ?_
    exact wx_iret C hr hlocks w ⟨rfl, rfl⟩ dX0_copy_16

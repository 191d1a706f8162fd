/-! taken (mine; printed by gen/taken.py) -/
set_option maxRecDepth 100000
def q_taken (η : cx_H) (f : xF) (g : xG) (h k : Int32) : Option Int32 := (pX0_in f g k.toInt64 0 5).bind (fun b => if b = 0 then some (-2) else (pX0_isHow f g h).bind (fun b => if b = 0 then some (-11) else if gin h 8 = true then (if gk η h [0, 1, 2, 3, 4, 5] = true then some (if q_und (hki η h) k = true then hnu η h else -13) else none) else none))
abbrev rmT : Room := { frames := 15, cells := 4, slots := 1218, locals := 10600 }
theorem mX0_taken {l : Launch} {γ : wx_G} {o : Nat} {ad : Nat → Nat} {η : cx_H} {f : xF} {g : xG} {τ : va_W} {h k z : Int32} (XO : ex_ok γ l) (G : cx_ok γ) (NC : nc_ok γ) (hF : q_taken η f g h k = some z) : wx_M γ l yX0_taken (wsW_ yX0_taken cX0_taken 4 (some .int) [(15, 40, 41, 518), (15, 40, 45, 540)]) rmT [.ref o, .int h, .int k] (cw γ o ad f g (hr γ o ad η ++ τ)) (fun r ws => r = some (.int z) ∧ ws = (cw γ o ad f g (hr γ o ad η ++ τ))) 4 1218 := by
  unfold q_taken at hF
  obtain ⟨b0, hr0, hF⟩ := obd hF
  refine wx_MH.of (by decide) (Nat.le_of_ble_eq_true rfl) ?_
  intro p e s m as below meth c A ls C K w hret hlocks htab hl
  have hx := C.1
  have hb := C.2.1
  refine lv_iload_n hx hb dX0_taken_0 rfl (lv_at hl 2 rfl) ?_
  refine lv_i2l hx hb dX0_taken_1 rfl ?_
  refine lv_lconst (v := (0 : Int64)) hx hb dX0_taken_2 (by decide) ?_
  refine lv_ldc2 (v := (5 : Int64)) hx hb C.2.2.2.1 (C.2.2.2.2 _ q169) dX0_taken_3 ?_
  refine rX0_in G C K w hr0 hl.1 ⟨Nat.le_of_ble_eq_true rfl, Nat.le_of_ble_eq_true rfl⟩ (Nat.le_of_ble_eq_true rfl) dX0_taken_6 (fun H locs w => ?_) ⟨Nat.le_of_ble_eq_true rfl, Nat.le_of_ble_eq_true rfl⟩
  refine lv_if_ne (tgt := 15) hx hb dX0_taken_9 (by decide) (fun ch => ?_) (fun ch => ?_)
  · have hF := (if_neg ch).symm.trans hF
    obtain ⟨b1, hr1, hF⟩ := obd hF
    refine lv_aload_n hx hb dX0_taken_15 rfl (lv_at hl 0 rfl) ?_
    refine lv_iload_n hx hb dX0_taken_16 rfl (lv_at hl 1 rfl) ?_
    refine rX0_isHow G C K w hr1 hl.1 ⟨Nat.le_of_ble_eq_true rfl, Nat.le_of_ble_eq_true rfl⟩ (Nat.le_of_ble_eq_true rfl) dX0_taken_17 (fun H locs w => ?_) ⟨Nat.le_of_ble_eq_true rfl, Nat.le_of_ble_eq_true rfl⟩
    refine lv_if_eq (tgt := 32) hx hb dX0_taken_20 (by decide) (fun c1 => ?_) (fun c1 => ?_)
    · have hF := Option.some.inj ((if_pos c1).symm.trans hF)
      subst hF
      refine lv_null hx hb dX0_taken_32 ?_
      refine lv_iload_n hx hb dX0_taken_33 rfl (lv_at hl 2 rfl) ?_
      refine wx_callST (n := 2) C K w (mX0_asN (l := l) (k := k)) q1276 q1277 q106 q1278 rfl rfl (by decide +kernel) rfl rfl ⟨Nat.le_of_ble_eq_true rfl, Nat.le_of_ble_eq_true rfl⟩ hl.1 (Nat.le_of_ble_eq_true rfl) ⟨Nat.le_of_ble_eq_true rfl, Nat.le_of_ble_eq_true rfl⟩ dX0_taken_34 (fun r ws2 H1 locs1 hp w2 => ?_) (fun x ws2 H1 locs1 hp w2 => hp.elim)
      obtain ⟨rfl, rfl⟩ := hp
      intro T hT X
      subst hT
      obtain ⟨hS, hfc, kC, hkC, hkind⟩ := K.1.1.1 2 (RX9, TX9, 2) rfl
      obtain ⟨cf, kf0, fi, fd, hi, hsl⟩ := hS 0 (by decide)
      have hst := (u_facts hfc hkC (u_lays C.2.2.2.2 in_X9 (by decide)) hi).1
      obtain ⟨vm1, X1, st1⟩ := X.getfieldNull C.1 C.2.2.2.1 (C.2.2.2.2 _ q194) hi hst (g := F0 m 37 ls [.null]) rfl rfl (by rw [C.2.1]; exact dX0_taken_37)
      obtain ⟨U2, locs2, X2, w3, st2⟩ := wx_npeT (g := F0 m 37 ls []) X1 XO G C K w2 rfl hl.1 ⟨Nat.le_of_ble_eq_true rfl, Nat.le_of_ble_eq_true rfl⟩ ⟨Nat.le_of_ble_eq_true rfl, Nat.le_of_ble_eq_true rfl⟩
      have hWT : WT p l e rmT s m as below meth c U2.heap locs2 (0 + 3 + 1) (0 + 1210 + 8) (wx_Q γ (fun r ws => r = some (.int (-11)) ∧ ws = (cw γ o ad f g (hr γ o ad η ++ τ))) A as s below 4 1218) (F0 m 37 ls []) T.heap.size := by
        refine wx_exc (Cn := "java/lang/NullPointerException") (ci := 14) (h := 41) C K w3 rfl htab (Or.inr ⟨⟨by decide, by decide⟩, by decide, "java/lang/NullPointerException", γ.1.1 14, (K.1.1.1 14 _ rfl).2.1, C.2.2.2.2 _ q1205, Or.inl ⟨wx_self _ _, rfl⟩⟩) ?_
        refine lv_astore_n (lv' := [(3, .ref T.heap.size), (0, .ref o), (1, .int h), (2, .int k)]) hx hb dX0_taken_41 rfl hl (by decide) rfl (fun ls hl => ?_)
        refine lv_bipush (v := (-11 : Int32)) hx hb dX0_taken_42 (by decide) ?_
        exact wx_iret C hret hlocks (wx_w.drop (N := [(T.heap.size, .inr (14, []))]) w3) ⟨rfl, rfl⟩ dX0_taken_44
      obtain ⟨t, a1, b1⟩ := hWT U2 rfl X2
      exact ⟨t, st1 _ (st2 _ a1), b1⟩
    · have hF := (if_neg c1).symm.trans hF
      obtain ⟨hi, hF⟩ := gin_if hF
      obtain ⟨hgk, hF⟩ := gk_if hF
      have hF := Option.some.inj hF
      have hd : hki η h < 6 := by
        have h1 := gk_in hgk
        simp only [List.mem_cons, List.not_mem_nil, or_false] at h1
        omega
      refine lv_aload_n hx hb dX0_taken_23 rfl (lv_at hl 0 rfl) ?_
      refine cget_8 C K w dX0_taken_24 ?_
      refine lv_iload_n hx hb dX0_taken_27 rfl (lv_at hl 1 rfl) ?_
      refine c_how C K w hi hgk dX0_taken_28 ?_
      refine lv_goto (tgt := 33) hx hb dX0_taken_29 (by decide) ?_
      refine lv_iload_n hx hb dX0_taken_33 rfl (lv_at hl 2 rfl) ?_
      refine wx_callST (n := 2) C K w (mX0_as (l := l) (k := k) XO G NC hd (cwh_of hgk rfl)) q1276 q1277 q106 q1278 rfl rfl (by decide +kernel) rfl rfl ⟨Nat.le_of_ble_eq_true rfl, Nat.le_of_ble_eq_true rfl⟩ hl.1 (Nat.le_of_ble_eq_true rfl) ⟨Nat.le_of_ble_eq_true rfl, Nat.le_of_ble_eq_true rfl⟩ dX0_taken_34 (fun r ws2 H1 locs1 hp w2 => ?_) (fun x ws2 H1 locs1 hp w2 => ?_)
      · obtain ⟨hu, rfl, rfl⟩ := hp
        rw [if_pos hu] at hF
        subst hF
        refine hn_X0 C K w2 hgk dX0_taken_37 ?_
        refine W.widen (k := 4) (n := 1218) (by decide) (by decide) ?_
        exact wx_iret C hret hlocks w2 ⟨rfl, rfl⟩ dX0_taken_40
      · obtain ⟨hu, rfl⟩ := hp
        rw [if_neg (by rw [hu]; decide)] at hF
        subst hF
        refine wx_exc (Cn := "java/lang/ClassCastException") (ci := 17) (h := 45) C K w2 rfl htab (Or.inr ⟨⟨by decide, by decide⟩, by decide, "java/lang/NullPointerException", γ.1.1 14, (K.1.1.1 14 _ rfl).2.1, C.2.2.2.2 _ q1205, Or.inr ⟨nc_use NC K (X := "java/lang/ClassCastException") (Y := "java/lang/NullPointerException") (by decide) (K.1.1.1 17 _ rfl).2.1 (K.1.1.1 14 _ rfl).2.1, Or.inr ⟨⟨by decide, by decide⟩, by decide, "java/lang/ClassCastException", γ.1.1 17, (K.1.1.1 17 _ rfl).2.1, C.2.2.2.2 _ q1253, Or.inl ⟨wx_self _ _, rfl⟩⟩⟩⟩) ?_
        refine lv_astore_n (lv' := [(3, .ref x), (0, .ref o), (1, .int h), (2, .int k)]) hx hb dX0_taken_45 rfl hl (by decide) rfl (fun ls hl => ?_)
        refine lv_bipush (v := (-13 : Int32)) hx hb dX0_taken_46 (by decide) ?_
        refine W.widen (k := 4) (n := 1218) (by decide) (by decide) ?_
        exact wx_iret C hret hlocks (wx_w.drop (N := [(x, .inr (17, []))]) w2) ⟨rfl, rfl⟩ dX0_taken_48
  · have hF := Option.some.inj ((if_pos ch).symm.trans hF)
    subst hF
    refine lv_bipush (v := (-2 : Int32)) hx hb dX0_taken_12 (by decide) ?_
    refine W.widen (k := 4) (n := 1218) (by decide) (by decide) ?_
    exact wx_iret C hret hlocks w ⟨rfl, rfl⟩ dX0_taken_14

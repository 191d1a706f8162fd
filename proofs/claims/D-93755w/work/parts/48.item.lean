/-! lengthOf, item (mine; printed by gen/cast.py) -/
set_option maxRecDepth 100000
theorem mX0_lengthOf {l : Launch} {γ : wx_G} {ws : va_W} {k : Int32} {sr : xS} (XO : ex_ok γ l) (G : cx_ok γ) (NC : nc_ok γ) (hw : sr_in γ ws sr) : wx_MX γ l yX0_lengthOf (ws_ yX0_lengthOf cX0_lengthOf 2 (some .int)) rmI [sr_v sr, .int k] ws (fun v ws2 => (q_len sr k).1 = 0 ∧ v = some (.int (q_len sr k).2) ∧ ws2 = ws) (fun x ws2 => (q_len sr k).1 ≠ 0 ∧ ws2 = (x, .inr ((q_len sr k).1, [])) :: ws) 3 1210 := by
  cases sr with
  | none =>
    refine wx_MX.of (by decide) (Nat.le_of_ble_eq_true rfl) ?_
    intro p e s m as below meth c A ls C K w hr hlocks htab hl
    have hx := C.1
    have hb := C.2.1
    obtain ⟨h1, h2, h3⟩ := rt_fc K
    refine lv_iload_n hx hb dX0_lengthOf_0 rfl (lv_at hl 1 rfl) ?_
    by_cases c0 : k = (0 : Int32)
    · refine lv_lookup (off := 27) (tgt := 28) hx hb dX0_lengthOf_1 (by decide) (by rw [c0]; decide) (by decide) ?_
      refine lv_aload_nN hx hb dX0_lengthOf_28 rfl (lv_at hl 0 rfl) ?_
      refine wx_cast0 C dX0_lengthOf_29 ?_
      exact wx_npeOut (g := F0 m 32 ls []) XO G C K w hlocks htab rfl hl.1 rfl rfl (fun T X => X.arraylengthNull C.1 (g := F0 m 32 ls [.null]) rfl (rest := []) rfl (by rw [C.2.1]; exact dX0_lengthOf_32)) ⟨Nat.le_of_ble_eq_true rfl, Nat.le_of_ble_eq_true rfl⟩ ⟨Nat.le_of_ble_eq_true rfl, Nat.le_of_ble_eq_true rfl⟩ ⟨by decide, by decide⟩ (fun x => ⟨by simp [q_len], rfl⟩)
    by_cases c1 : k = (1 : Int32)
    · refine lv_lookup (off := 33) (tgt := 34) hx hb dX0_lengthOf_1 (by decide) (by rw [c1]; decide) (by decide) ?_
      refine lv_aload_nN hx hb dX0_lengthOf_34 rfl (lv_at hl 0 rfl) ?_
      refine wx_cast0 C dX0_lengthOf_35 ?_
      exact wx_npeOut (g := F0 m 38 ls []) XO G C K w hlocks htab rfl hl.1 rfl rfl (fun T X => X.arraylengthNull C.1 (g := F0 m 38 ls [.null]) rfl (rest := []) rfl (by rw [C.2.1]; exact dX0_lengthOf_38)) ⟨Nat.le_of_ble_eq_true rfl, Nat.le_of_ble_eq_true rfl⟩ ⟨Nat.le_of_ble_eq_true rfl, Nat.le_of_ble_eq_true rfl⟩ ⟨by decide, by decide⟩ (fun x => ⟨by simp [q_len], rfl⟩)
    have n0 := wx_ne c0 (k := 0) (by decide)
    have n1 := wx_ne c1 (k := 1) (by decide)
    refine lv_lookup (off := 39) (tgt := 40) hx hb dX0_lengthOf_1 (by decide) (by simp [Op.lookupswitch.offset, n0, Ne.symm n0, n1, Ne.symm n1]) (by decide) ?_
    refine lv_aload_nN hx hb dX0_lengthOf_40 rfl (lv_at hl 0 rfl) ?_
    refine wx_cast0 C dX0_lengthOf_41 ?_
    exact wx_npeOut (g := F0 m 44 ls []) XO G C K w hlocks htab rfl hl.1 rfl rfl (fun T X => X.arraylengthNull C.1 (g := F0 m 44 ls [.null]) rfl (rest := []) rfl (by rw [C.2.1]; exact dX0_lengthOf_44)) ⟨Nat.le_of_ble_eq_true rfl, Nat.le_of_ble_eq_true rfl⟩ ⟨Nat.le_of_ble_eq_true rfl, Nat.le_of_ble_eq_true rfl⟩ ⟨by decide, by decide⟩ (fun x => ⟨by simp [q_len], rfl⟩)
  | some r =>
    obtain ⟨b, t, n, hh⟩ := r
    obtain ⟨⟨q0, hq⟩, ht, hn⟩ := hw
    have ht : t < 3 := ht
    have hn : n ≤ 40 := hn
    refine wx_MX.of (by decide) (Nat.le_of_ble_eq_true rfl) ?_
    intro p e s m as below meth c A ls C K w hr hlocks htab hl
    have hx := C.1
    have hb := C.2.1
    obtain ⟨h1, h2, h3⟩ := rt_fc K
    have hcell : s.heap[b]? = some (vp_cell (γ.2.1 (rti t)) (n, .inl hh)) := w.1 q0 _ hq
    refine lv_iload_n hx hb dX0_lengthOf_0 rfl (lv_at hl 1 rfl) ?_
    by_cases c0 : k = (0 : Int32)
    · refine lv_lookup (off := 27) (tgt := 28) hx hb dX0_lengthOf_1 (by decide) (by rw [c0]; decide) (by decide) ?_
      refine lv_aload_n hx hb dX0_lengthOf_28 rfl (lv_at hl 0 rfl) ?_
      have hs : srt k = 0 := by simp [srt, c0]
      rcases (show t = 0 ∨ t = 1 ∨ t = 2 by omega) with rfl | rfl | rfl
      · have hz : q_len (some (b, 0, n, hh)) k = (0, Int32.ofNat n) := by simp [q_len, hs]
        rw [hz]
        refine wx_castY C hcell rfl q1096 h1 (wx_self _ _) dX0_lengthOf_29 ?_
        refine va_alen (v := Int32.ofNat n) C.1 C.2.1 K.1.1 w.1 q0 1 hq rfl rfl dX0_lengthOf_32 ?_
        refine W.widen (k := 3) (n := 1210) (by decide) (by decide) ?_
        exact W.mono (fun t h => wx_QX.of h) (wx_iret C hr hlocks w ⟨rfl, rfl, rfl⟩ dX0_lengthOf_33)
      · have hz : q_len (some (b, 1, n, hh)) k = (17, 0) := by simp [q_len, hs]
        rw [hz]
        exact wx_cceOut (X := "[S") (Y := "[B") XO G C K w hlocks htab hl.1 hcell rfl q1096 h2 h1 (nc_use NC K (X := "[S") (Y := "[B") (by decide) h2 h1) ccp_10 cck_10 ⟨Nat.le_of_ble_eq_true rfl, Nat.le_of_ble_eq_true rfl⟩ ⟨Nat.le_of_ble_eq_true rfl, Nat.le_of_ble_eq_true rfl⟩ ⟨Nat.le_refl _, Nat.le_refl _⟩ (fun x => ⟨by decide, rfl⟩) dX0_lengthOf_29
      · have hz : q_len (some (b, 2, n, hh)) k = (17, 0) := by simp [q_len, hs]
        rw [hz]
        exact wx_cceOut (X := "[I") (Y := "[B") XO G C K w hlocks htab hl.1 hcell rfl q1096 h3 h1 (nc_use NC K (X := "[I") (Y := "[B") (by decide) h3 h1) ccp_20 cck_20 ⟨Nat.le_of_ble_eq_true rfl, Nat.le_of_ble_eq_true rfl⟩ ⟨Nat.le_of_ble_eq_true rfl, Nat.le_of_ble_eq_true rfl⟩ ⟨Nat.le_refl _, Nat.le_refl _⟩ (fun x => ⟨by decide, rfl⟩) dX0_lengthOf_29
    by_cases c1 : k = (1 : Int32)
    · refine lv_lookup (off := 33) (tgt := 34) hx hb dX0_lengthOf_1 (by decide) (by rw [c1]; decide) (by decide) ?_
      refine lv_aload_n hx hb dX0_lengthOf_34 rfl (lv_at hl 0 rfl) ?_
      have hs : srt k = 1 := by simp [srt, c0, c1]
      rcases (show t = 0 ∨ t = 1 ∨ t = 2 by omega) with rfl | rfl | rfl
      · have hz : q_len (some (b, 0, n, hh)) k = (17, 0) := by simp [q_len, hs]
        rw [hz]
        exact wx_cceOut (X := "[B") (Y := "[S") XO G C K w hlocks htab hl.1 hcell rfl q1097 h1 h2 (nc_use NC K (X := "[B") (Y := "[S") (by decide) h1 h2) ccp_01 cck_01 ⟨Nat.le_of_ble_eq_true rfl, Nat.le_of_ble_eq_true rfl⟩ ⟨Nat.le_of_ble_eq_true rfl, Nat.le_of_ble_eq_true rfl⟩ ⟨Nat.le_refl _, Nat.le_refl _⟩ (fun x => ⟨by decide, rfl⟩) dX0_lengthOf_35
      · have hz : q_len (some (b, 1, n, hh)) k = (0, Int32.ofNat n) := by simp [q_len, hs]
        rw [hz]
        refine wx_castY C hcell rfl q1097 h2 (wx_self _ _) dX0_lengthOf_35 ?_
        refine va_alen (v := Int32.ofNat n) C.1 C.2.1 K.1.1 w.1 q0 2 hq rfl rfl dX0_lengthOf_38 ?_
        refine W.widen (k := 3) (n := 1210) (by decide) (by decide) ?_
        exact W.mono (fun t h => wx_QX.of h) (wx_iret C hr hlocks w ⟨rfl, rfl, rfl⟩ dX0_lengthOf_39)
      · have hz : q_len (some (b, 2, n, hh)) k = (17, 0) := by simp [q_len, hs]
        rw [hz]
        exact wx_cceOut (X := "[I") (Y := "[S") XO G C K w hlocks htab hl.1 hcell rfl q1097 h3 h2 (nc_use NC K (X := "[I") (Y := "[S") (by decide) h3 h2) ccp_21 cck_21 ⟨Nat.le_of_ble_eq_true rfl, Nat.le_of_ble_eq_true rfl⟩ ⟨Nat.le_of_ble_eq_true rfl, Nat.le_of_ble_eq_true rfl⟩ ⟨Nat.le_refl _, Nat.le_refl _⟩ (fun x => ⟨by decide, rfl⟩) dX0_lengthOf_35
    have n0 := wx_ne c0 (k := 0) (by decide)
    have n1 := wx_ne c1 (k := 1) (by decide)
    refine lv_lookup (off := 39) (tgt := 40) hx hb dX0_lengthOf_1 (by decide) (by simp [Op.lookupswitch.offset, n0, Ne.symm n0, n1, Ne.symm n1]) (by decide) ?_
    refine lv_aload_n hx hb dX0_lengthOf_40 rfl (lv_at hl 0 rfl) ?_
    have hs : srt k = 2 := by simp [srt, c0, c1]
    rcases (show t = 0 ∨ t = 1 ∨ t = 2 by omega) with rfl | rfl | rfl
    · have hz : q_len (some (b, 0, n, hh)) k = (17, 0) := by simp [q_len, hs]
      rw [hz]
      exact wx_cceOut (X := "[B") (Y := "[I") XO G C K w hlocks htab hl.1 hcell rfl q1101 h1 h3 (nc_use NC K (X := "[B") (Y := "[I") (by decide) h1 h3) ccp_02 cck_02 ⟨Nat.le_of_ble_eq_true rfl, Nat.le_of_ble_eq_true rfl⟩ ⟨Nat.le_of_ble_eq_true rfl, Nat.le_of_ble_eq_true rfl⟩ ⟨Nat.le_refl _, Nat.le_refl _⟩ (fun x => ⟨by decide, rfl⟩) dX0_lengthOf_41
    · have hz : q_len (some (b, 1, n, hh)) k = (17, 0) := by simp [q_len, hs]
      rw [hz]
      exact wx_cceOut (X := "[S") (Y := "[I") XO G C K w hlocks htab hl.1 hcell rfl q1101 h2 h3 (nc_use NC K (X := "[S") (Y := "[I") (by decide) h2 h3) ccp_12 cck_12 ⟨Nat.le_of_ble_eq_true rfl, Nat.le_of_ble_eq_true rfl⟩ ⟨Nat.le_of_ble_eq_true rfl, Nat.le_of_ble_eq_true rfl⟩ ⟨Nat.le_refl _, Nat.le_refl _⟩ (fun x => ⟨by decide, rfl⟩) dX0_lengthOf_41
    · have hz : q_len (some (b, 2, n, hh)) k = (0, Int32.ofNat n) := by simp [q_len, hs]
      rw [hz]
      refine wx_castY C hcell rfl q1101 h3 (wx_self _ _) dX0_lengthOf_41 ?_
      refine va_alen (v := Int32.ofNat n) C.1 C.2.1 K.1.1 w.1 q0 0 hq rfl rfl dX0_lengthOf_44 ?_
      refine W.widen (k := 3) (n := 1210) (by decide) (by decide) ?_
      exact W.mono (fun t h => wx_QX.of h) (wx_iret C hr hlocks w ⟨rfl, rfl, rfl⟩ dX0_lengthOf_45)
theorem vp_of {i : Int32} {n : Nat} (hn : n ≤ 40) (h : ¬ (i < 0 ∨ Int32.ofNat n ≤ i)) : vp_in i n := by
  intro hq
  rcases hq with hq | hq
  · exact h (Or.inl hq)
  · apply h
    right
    have e := nI_toInt (n := n) (by omega)
    rw [Int32.le_iff_toInt_le]
    show (nI n).toInt ≤ i.toInt
    rw [e]
    have h0 : ¬ i < 0 := fun h2 => h (Or.inl h2)
    rw [Int32.lt_iff_toInt_lt, Int32.toInt_zero] at h0
    have h1 : i.toNatClampNeg = i.toInt.toNat := rfl
    omega
theorem mX0_item {l : Launch} {γ : wx_G} {ws : va_W} {k i : Int32} {sr : xS} (XO : ex_ok γ l) (G : cx_ok γ) (NC : nc_ok γ) (hw : sr_in γ ws sr) : wx_MX γ l yX0_item (ws_ yX0_item cX0_item 3 (some .int)) rmI [sr_v sr, .int k, .int i] ws (fun v ws2 => (q_item sr k i).1 = 0 ∧ v = some (.int (q_item sr k i).2) ∧ ws2 = ws) (fun x ws2 => (q_item sr k i).1 ≠ 0 ∧ ws2 = (x, .inr ((q_item sr k i).1, [])) :: ws) 3 1210 := by
  cases sr with
  | none =>
    refine wx_MX.of (by decide) (Nat.le_of_ble_eq_true rfl) ?_
    intro p e s m as below meth c A ls C K w hr hlocks htab hl
    have hx := C.1
    have hb := C.2.1
    obtain ⟨h1, h2, h3⟩ := rt_fc K
    refine lv_iload_n hx hb dX0_item_0 rfl (lv_at hl 1 rfl) ?_
    by_cases c0 : k = (0 : Int32)
    · refine lv_lookup (off := 27) (tgt := 28) hx hb dX0_item_1 (by decide) (by rw [c0]; decide) (by decide) ?_
      refine lv_iload_n hx hb dX0_item_28 rfl (lv_at hl 2 rfl) ?_
      refine lv_aload_nN hx hb dX0_item_29 rfl (lv_at hl 0 rfl) ?_
      refine wx_cast0 C dX0_item_30 ?_
      exact wx_npeOut (g := F0 m 33 ls [.int i]) XO G C K w hlocks htab rfl hl.1 rfl rfl (fun T X => X.arraylengthNull C.1 (g := F0 m 33 ls [.null, .int i]) rfl (rest := [.int i]) rfl (by rw [C.2.1]; exact dX0_item_33)) ⟨Nat.le_of_ble_eq_true rfl, Nat.le_of_ble_eq_true rfl⟩ ⟨Nat.le_of_ble_eq_true rfl, Nat.le_of_ble_eq_true rfl⟩ ⟨by decide, by decide⟩ (fun x => ⟨by simp [q_item], rfl⟩)
    by_cases c1 : k = (1 : Int32)
    · refine lv_lookup (off := 43) (tgt := 44) hx hb dX0_item_1 (by decide) (by rw [c1]; decide) (by decide) ?_
      refine lv_iload_n hx hb dX0_item_44 rfl (lv_at hl 2 rfl) ?_
      refine lv_aload_nN hx hb dX0_item_45 rfl (lv_at hl 0 rfl) ?_
      refine wx_cast0 C dX0_item_46 ?_
      exact wx_npeOut (g := F0 m 49 ls [.int i]) XO G C K w hlocks htab rfl hl.1 rfl rfl (fun T X => X.arraylengthNull C.1 (g := F0 m 49 ls [.null, .int i]) rfl (rest := [.int i]) rfl (by rw [C.2.1]; exact dX0_item_49)) ⟨Nat.le_of_ble_eq_true rfl, Nat.le_of_ble_eq_true rfl⟩ ⟨Nat.le_of_ble_eq_true rfl, Nat.le_of_ble_eq_true rfl⟩ ⟨by decide, by decide⟩ (fun x => ⟨by simp [q_item], rfl⟩)
    have n0 := wx_ne c0 (k := 0) (by decide)
    have n1 := wx_ne c1 (k := 1) (by decide)
    refine lv_lookup (off := 59) (tgt := 60) hx hb dX0_item_1 (by decide) (by simp [Op.lookupswitch.offset, n0, Ne.symm n0, n1, Ne.symm n1]) (by decide) ?_
    refine lv_iload_n hx hb dX0_item_60 rfl (lv_at hl 2 rfl) ?_
    refine lv_aload_nN hx hb dX0_item_61 rfl (lv_at hl 0 rfl) ?_
    refine wx_cast0 C dX0_item_62 ?_
    exact wx_npeOut (g := F0 m 65 ls [.int i]) XO G C K w hlocks htab rfl hl.1 rfl rfl (fun T X => X.arraylengthNull C.1 (g := F0 m 65 ls [.null, .int i]) rfl (rest := [.int i]) rfl (by rw [C.2.1]; exact dX0_item_65)) ⟨Nat.le_of_ble_eq_true rfl, Nat.le_of_ble_eq_true rfl⟩ ⟨Nat.le_of_ble_eq_true rfl, Nat.le_of_ble_eq_true rfl⟩ ⟨by decide, by decide⟩ (fun x => ⟨by simp [q_item], rfl⟩)
  | some r =>
    obtain ⟨b, t, n, hh⟩ := r
    obtain ⟨⟨q0, hq⟩, ht, hn⟩ := hw
    have ht : t < 3 := ht
    have hn : n ≤ 40 := hn
    refine wx_MX.of (by decide) (Nat.le_of_ble_eq_true rfl) ?_
    intro p e s m as below meth c A ls C K w hr hlocks htab hl
    have hx := C.1
    have hb := C.2.1
    obtain ⟨h1, h2, h3⟩ := rt_fc K
    have hcell : s.heap[b]? = some (vp_cell (γ.2.1 (rti t)) (n, .inl hh)) := w.1 q0 _ hq
    refine lv_iload_n hx hb dX0_item_0 rfl (lv_at hl 1 rfl) ?_
    by_cases c0 : k = (0 : Int32)
    · refine lv_lookup (off := 27) (tgt := 28) hx hb dX0_item_1 (by decide) (by rw [c0]; decide) (by decide) ?_
      refine lv_iload_n hx hb dX0_item_28 rfl (lv_at hl 2 rfl) ?_
      refine lv_aload_n hx hb dX0_item_29 rfl (lv_at hl 0 rfl) ?_
      have hs : srt k = 0 := by simp [srt, c0]
      rcases (show t = 0 ∨ t = 1 ∨ t = 2 by omega) with rfl | rfl | rfl
      · refine wx_castY C hcell rfl q1096 h1 (wx_self _ _) dX0_item_30 ?_
        refine va_alen (v := Int32.ofNat n) C.1 C.2.1 K.1.1 w.1 q0 1 hq rfl rfl dX0_item_33 ?_
        refine wx_callST (n := 2) C K w (mX0_asksPlace (l := l) (i := i) (n := Int32.ofNat n) XO G) q1109 q1110 q106 q1111 rfl rfl (by decide +kernel) rfl rfl ⟨Nat.le_of_ble_eq_true rfl, Nat.le_of_ble_eq_true rfl⟩ hl.1 (Nat.le_of_ble_eq_true rfl) ⟨Nat.le_of_ble_eq_true rfl, Nat.le_of_ble_eq_true rfl⟩ dX0_item_34 (fun v ws2 H1 locs1 hp w2 => ?_) (fun x ws2 H1 locs1 hp w2 => ?_)
        · obtain ⟨hin, rfl, rfl⟩ := hp
          have hz : q_item (some (b, 0, n, hh)) k i = (0, hh i.toNatClampNeg) := by simp only [q_item, hs, if_true]; rw [if_neg hin]
          rw [hz]
          have hcell : H1[b]? = some (vp_cell (γ.2.1 (rti 0)) (n, .inl hh)) := w2.1 q0 _ hq
          refine lv_aload_n hx hb dX0_item_37 rfl (lv_at hl 0 rfl) ?_
          refine wx_castY C hcell rfl q1096 h1 (wx_self _ _) dX0_item_38 ?_
          refine lv_iload_n hx hb dX0_item_41 rfl (lv_at hl 2 rfl) ?_
          refine va_bald C.1 C.2.1 K.1.1 w2.1 q0 1 hq rfl (vp_of hn hin) dX0_item_42 ?_
          refine W.widen (k := 3) (n := 1210) (by decide) (by decide) ?_
          exact W.mono (fun t h => wx_QX.of h) (wx_iret C hr hlocks w2 ⟨rfl, rfl, rfl⟩ dX0_item_43)
        · obtain ⟨hin, rfl⟩ := hp
          have hz : q_item (some (b, 0, n, hh)) k i = (15, 0) := by simp only [q_item, hs, if_true]; rw [if_pos hin]
          rw [hz]
          exact WT.widen (by decide) (by decide) (wx_thrown rfl rfl rfl hlocks (wx_none htab _) w2 ⟨by decide, rfl⟩)
      · have hz : q_item (some (b, 1, n, hh)) k i = (17, 0) := by simp [q_item, hs]
        rw [hz]
        exact wx_cceOut (X := "[S") (Y := "[B") XO G C K w hlocks htab hl.1 hcell rfl q1096 h2 h1 (nc_use NC K (X := "[S") (Y := "[B") (by decide) h2 h1) ccp_10 cck_10 ⟨Nat.le_of_ble_eq_true rfl, Nat.le_of_ble_eq_true rfl⟩ ⟨Nat.le_of_ble_eq_true rfl, Nat.le_of_ble_eq_true rfl⟩ ⟨Nat.le_refl _, Nat.le_refl _⟩ (fun x => ⟨by decide, rfl⟩) dX0_item_30
      · have hz : q_item (some (b, 2, n, hh)) k i = (17, 0) := by simp [q_item, hs]
        rw [hz]
        exact wx_cceOut (X := "[I") (Y := "[B") XO G C K w hlocks htab hl.1 hcell rfl q1096 h3 h1 (nc_use NC K (X := "[I") (Y := "[B") (by decide) h3 h1) ccp_20 cck_20 ⟨Nat.le_of_ble_eq_true rfl, Nat.le_of_ble_eq_true rfl⟩ ⟨Nat.le_of_ble_eq_true rfl, Nat.le_of_ble_eq_true rfl⟩ ⟨Nat.le_refl _, Nat.le_refl _⟩ (fun x => ⟨by decide, rfl⟩) dX0_item_30
    by_cases c1 : k = (1 : Int32)
    · refine lv_lookup (off := 43) (tgt := 44) hx hb dX0_item_1 (by decide) (by rw [c1]; decide) (by decide) ?_
      refine lv_iload_n hx hb dX0_item_44 rfl (lv_at hl 2 rfl) ?_
      refine lv_aload_n hx hb dX0_item_45 rfl (lv_at hl 0 rfl) ?_
      have hs : srt k = 1 := by simp [srt, c0, c1]
      rcases (show t = 0 ∨ t = 1 ∨ t = 2 by omega) with rfl | rfl | rfl
      · have hz : q_item (some (b, 0, n, hh)) k i = (17, 0) := by simp [q_item, hs]
        rw [hz]
        exact wx_cceOut (X := "[B") (Y := "[S") XO G C K w hlocks htab hl.1 hcell rfl q1097 h1 h2 (nc_use NC K (X := "[B") (Y := "[S") (by decide) h1 h2) ccp_01 cck_01 ⟨Nat.le_of_ble_eq_true rfl, Nat.le_of_ble_eq_true rfl⟩ ⟨Nat.le_of_ble_eq_true rfl, Nat.le_of_ble_eq_true rfl⟩ ⟨Nat.le_refl _, Nat.le_refl _⟩ (fun x => ⟨by decide, rfl⟩) dX0_item_46
      · refine wx_castY C hcell rfl q1097 h2 (wx_self _ _) dX0_item_46 ?_
        refine va_alen (v := Int32.ofNat n) C.1 C.2.1 K.1.1 w.1 q0 2 hq rfl rfl dX0_item_49 ?_
        refine wx_callST (n := 2) C K w (mX0_asksPlace (l := l) (i := i) (n := Int32.ofNat n) XO G) q1109 q1110 q106 q1111 rfl rfl (by decide +kernel) rfl rfl ⟨Nat.le_of_ble_eq_true rfl, Nat.le_of_ble_eq_true rfl⟩ hl.1 (Nat.le_of_ble_eq_true rfl) ⟨Nat.le_of_ble_eq_true rfl, Nat.le_of_ble_eq_true rfl⟩ dX0_item_50 (fun v ws2 H1 locs1 hp w2 => ?_) (fun x ws2 H1 locs1 hp w2 => ?_)
        · obtain ⟨hin, rfl, rfl⟩ := hp
          have hz : q_item (some (b, 1, n, hh)) k i = (0, hh i.toNatClampNeg) := by simp only [q_item, hs, if_true]; rw [if_neg hin]
          rw [hz]
          have hcell : H1[b]? = some (vp_cell (γ.2.1 (rti 1)) (n, .inl hh)) := w2.1 q0 _ hq
          refine lv_aload_n hx hb dX0_item_53 rfl (lv_at hl 0 rfl) ?_
          refine wx_castY C hcell rfl q1097 h2 (wx_self _ _) dX0_item_54 ?_
          refine lv_iload_n hx hb dX0_item_57 rfl (lv_at hl 2 rfl) ?_
          refine va_sald C.1 C.2.1 K.1.1 w2.1 q0 2 hq rfl (vp_of hn hin) dX0_item_58 ?_
          refine W.widen (k := 3) (n := 1210) (by decide) (by decide) ?_
          exact W.mono (fun t h => wx_QX.of h) (wx_iret C hr hlocks w2 ⟨rfl, rfl, rfl⟩ dX0_item_59)
        · obtain ⟨hin, rfl⟩ := hp
          have hz : q_item (some (b, 1, n, hh)) k i = (15, 0) := by simp only [q_item, hs, if_true]; rw [if_pos hin]
          rw [hz]
          exact WT.widen (by decide) (by decide) (wx_thrown rfl rfl rfl hlocks (wx_none htab _) w2 ⟨by decide, rfl⟩)
      · have hz : q_item (some (b, 2, n, hh)) k i = (17, 0) := by simp [q_item, hs]
        rw [hz]
        exact wx_cceOut (X := "[I") (Y := "[S") XO G C K w hlocks htab hl.1 hcell rfl q1097 h3 h2 (nc_use NC K (X := "[I") (Y := "[S") (by decide) h3 h2) ccp_21 cck_21 ⟨Nat.le_of_ble_eq_true rfl, Nat.le_of_ble_eq_true rfl⟩ ⟨Nat.le_of_ble_eq_true rfl, Nat.le_of_ble_eq_true rfl⟩ ⟨Nat.le_refl _, Nat.le_refl _⟩ (fun x => ⟨by decide, rfl⟩) dX0_item_46
    have n0 := wx_ne c0 (k := 0) (by decide)
    have n1 := wx_ne c1 (k := 1) (by decide)
    refine lv_lookup (off := 59) (tgt := 60) hx hb dX0_item_1 (by decide) (by simp [Op.lookupswitch.offset, n0, Ne.symm n0, n1, Ne.symm n1]) (by decide) ?_
    refine lv_iload_n hx hb dX0_item_60 rfl (lv_at hl 2 rfl) ?_
    refine lv_aload_n hx hb dX0_item_61 rfl (lv_at hl 0 rfl) ?_
    have hs : srt k = 2 := by simp [srt, c0, c1]
    rcases (show t = 0 ∨ t = 1 ∨ t = 2 by omega) with rfl | rfl | rfl
    · have hz : q_item (some (b, 0, n, hh)) k i = (17, 0) := by simp [q_item, hs]
      rw [hz]
      exact wx_cceOut (X := "[B") (Y := "[I") XO G C K w hlocks htab hl.1 hcell rfl q1101 h1 h3 (nc_use NC K (X := "[B") (Y := "[I") (by decide) h1 h3) ccp_02 cck_02 ⟨Nat.le_of_ble_eq_true rfl, Nat.le_of_ble_eq_true rfl⟩ ⟨Nat.le_of_ble_eq_true rfl, Nat.le_of_ble_eq_true rfl⟩ ⟨Nat.le_refl _, Nat.le_refl _⟩ (fun x => ⟨by decide, rfl⟩) dX0_item_62
    · have hz : q_item (some (b, 1, n, hh)) k i = (17, 0) := by simp [q_item, hs]
      rw [hz]
      exact wx_cceOut (X := "[S") (Y := "[I") XO G C K w hlocks htab hl.1 hcell rfl q1101 h2 h3 (nc_use NC K (X := "[S") (Y := "[I") (by decide) h2 h3) ccp_12 cck_12 ⟨Nat.le_of_ble_eq_true rfl, Nat.le_of_ble_eq_true rfl⟩ ⟨Nat.le_of_ble_eq_true rfl, Nat.le_of_ble_eq_true rfl⟩ ⟨Nat.le_refl _, Nat.le_refl _⟩ (fun x => ⟨by decide, rfl⟩) dX0_item_62
    · refine wx_castY C hcell rfl q1101 h3 (wx_self _ _) dX0_item_62 ?_
      refine va_alen (v := Int32.ofNat n) C.1 C.2.1 K.1.1 w.1 q0 0 hq rfl rfl dX0_item_65 ?_
      refine wx_callST (n := 2) C K w (mX0_asksPlace (l := l) (i := i) (n := Int32.ofNat n) XO G) q1109 q1110 q106 q1111 rfl rfl (by decide +kernel) rfl rfl ⟨Nat.le_of_ble_eq_true rfl, Nat.le_of_ble_eq_true rfl⟩ hl.1 (Nat.le_of_ble_eq_true rfl) ⟨Nat.le_of_ble_eq_true rfl, Nat.le_of_ble_eq_true rfl⟩ dX0_item_66 (fun v ws2 H1 locs1 hp w2 => ?_) (fun x ws2 H1 locs1 hp w2 => ?_)
      · obtain ⟨hin, rfl, rfl⟩ := hp
        have hz : q_item (some (b, 2, n, hh)) k i = (0, hh i.toNatClampNeg) := by simp only [q_item, hs, if_true]; rw [if_neg hin]
        rw [hz]
        have hcell : H1[b]? = some (vp_cell (γ.2.1 (rti 2)) (n, .inl hh)) := w2.1 q0 _ hq
        refine lv_aload_n hx hb dX0_item_69 rfl (lv_at hl 0 rfl) ?_
        refine wx_castY C hcell rfl q1101 h3 (wx_self _ _) dX0_item_70 ?_
        refine lv_iload_n hx hb dX0_item_73 rfl (lv_at hl 2 rfl) ?_
        refine va_iald C.1 C.2.1 K.1.1 w2.1 q0 0 hq rfl (vp_of hn hin) dX0_item_74 ?_
        refine W.widen (k := 3) (n := 1210) (by decide) (by decide) ?_
        exact W.mono (fun t h => wx_QX.of h) (wx_iret C hr hlocks w2 ⟨rfl, rfl, rfl⟩ dX0_item_75)
      · obtain ⟨hin, rfl⟩ := hp
        have hz : q_item (some (b, 2, n, hh)) k i = (15, 0) := by simp only [q_item, hs, if_true]; rw [if_pos hin]
        rw [hz]
        exact WT.widen (by decide) (by decide) (wx_thrown rfl rfl rfl hlocks (wx_none htab _) w2 ⟨by decide, rfl⟩)

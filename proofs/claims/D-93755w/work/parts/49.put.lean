/-! put, rowOf; THE SHEETS' WORLD (mine; printed by gen/put.py) -/
set_option maxRecDepth 100000
def snar (t : Nat) (v : Int32) : Int32 := if t = 0 then vp_nar .byte v.toInt8.toInt32 else if t = 1 then vp_nar .short v.toInt16.toInt32 else v
def q_put (sr : xS) (i v : Int32) : Nat × xS := match sr with
  | none => (14, none)
  | some x => if i < 0 ∨ Int32.ofNat x.2.2.1 ≤ i then (15, some x) else (0, some (x.1, x.2.1, x.2.2.1, upd x.2.2.2 i.toNatClampNeg (snar x.2.1 v)))
def rowc (γ : wx_G) (sr : xS) : va_W := match sr with
  | none => []
  | some x => [(x.1, e_sr γ x.2.1 x.2.2.1 x.2.2.2)]
def sr_ok (sr : xS) : Prop := ∀ x, sr = some x → x.2.1 < 3 ∧ x.2.2.1 ≤ 40
theorem mX0_put {l : Launch} {γ : wx_G} {ws : va_W} {i v : Int32} {sr : xS} (XO : ex_ok γ l) (G : cx_ok γ) (NC : nc_ok γ) (hw : sr_ok sr) : wx_MX γ l yX0_put (ws_ yX0_put cX0_put 3 (some .int)) rmI [sr_v sr, .int i, .int v] (rowc γ sr ++ ws) (fun r ws2 => (q_put sr i v).1 = 0 ∧ r = some (.int 1) ∧ ws2 = rowc γ (q_put sr i v).2 ++ ws) (fun x ws2 => (q_put sr i v).1 ≠ 0 ∧ ws2 = (x, .inr ((q_put sr i v).1, [])) :: (rowc γ (q_put sr i v).2 ++ ws)) 3 1210 := by
  cases sr with
  | none =>
    refine wx_MX.of (by decide) (Nat.le_of_ble_eq_true rfl) ?_
    intro p e s m as below meth c A ls C K w hr hlocks htab hl
    have hx := C.1
    have hb := C.2.1
    obtain ⟨h1, h2, h3⟩ := rt_fc K
    refine lv_aload_nN hx hb dX0_put_0 rfl (lv_at hl 0 rfl) ?_
    refine wx_inst0 C dX0_put_1 ?_
    refine lv_if_eq (tgt := 27) hx hb dX0_put_4 (by decide) (fun c => ?_) (fun c => absurd rfl c)
    refine lv_aload_nN hx hb dX0_put_27 rfl (lv_at hl 0 rfl) ?_
    refine wx_inst0 C dX0_put_28 ?_
    refine lv_if_eq (tgt := 54) hx hb dX0_put_31 (by decide) (fun c => ?_) (fun c => absurd rfl c)
    refine lv_iload_n hx hb dX0_put_54 rfl (lv_at hl 1 rfl) ?_
    refine lv_aload_nN hx hb dX0_put_55 rfl (lv_at hl 0 rfl) ?_
    refine wx_cast0 C dX0_put_56 ?_
    exact wx_npeOut (g := F0 m 59 ls [.int i]) XO G C K w hlocks htab rfl hl.1 rfl rfl (fun T X => X.arraylengthNull C.1 (g := F0 m 59 ls [.null, .int i]) rfl (rest := [.int i]) rfl (by rw [C.2.1]; exact dX0_put_59)) ⟨Nat.le_of_ble_eq_true rfl, Nat.le_of_ble_eq_true rfl⟩ ⟨Nat.le_of_ble_eq_true rfl, Nat.le_of_ble_eq_true rfl⟩ ⟨by decide, by decide⟩ (fun x => ⟨by simp [q_put], rfl⟩)
  | some r =>
    obtain ⟨b, t, n, hh⟩ := r
    obtain ⟨ht, hn⟩ := hw _ rfl
    have ht : t < 3 := ht
    have hn : n ≤ 40 := hn
    refine wx_MX.of (by decide) (Nat.le_of_ble_eq_true rfl) ?_
    intro p e s m as below meth c A ls C K w hr hlocks htab hl
    have hx := C.1
    have hb := C.2.1
    obtain ⟨h1, h2, h3⟩ := rt_fc K
    obtain ⟨ks, hks⟩ := rt_kl K ht
    have hcell : s.heap[b]? = some (vp_cell (γ.2.1 (rti t)) (n, .inl hh)) := w.1 0 _ rfl
    refine lv_aload_n hx hb dX0_put_0 rfl (lv_at hl 0 rfl) ?_
    rcases (show t = 0 ∨ t = 1 ∨ t = 2 by omega) with rfl | rfl | rfl
    · refine wx_instY C hcell rfl q1096 h1 (wx_self _ _) dX0_put_1 ?_
      refine lv_if_eq (tgt := 27) hx hb dX0_put_4 (by decide) (fun c => absurd c (by decide)) (fun c => ?_)
      refine lv_iload_n hx hb dX0_put_7 rfl (lv_at hl 1 rfl) ?_
      refine lv_aload_n hx hb dX0_put_8 rfl (lv_at hl 0 rfl) ?_
      refine wx_castY C hcell rfl q1096 h1 (wx_self _ _) dX0_put_9 ?_
      refine va_alen (v := Int32.ofNat n) C.1 C.2.1 K.1.1 w.1 0 1 rfl rfl rfl dX0_put_12 ?_
      refine wx_callST (n := 2) C K w (mX0_asksPlace (l := l) (i := i) (n := Int32.ofNat n) XO G) q1109 q1110 q106 q1111 rfl rfl (by decide +kernel) rfl rfl ⟨Nat.le_of_ble_eq_true rfl, Nat.le_of_ble_eq_true rfl⟩ hl.1 (Nat.le_of_ble_eq_true rfl) ⟨Nat.le_of_ble_eq_true rfl, Nat.le_of_ble_eq_true rfl⟩ dX0_put_13 (fun r ws2 H1 locs1 hp w2 => ?_) (fun x ws2 H1 locs1 hp w2 => ?_)
      · obtain ⟨hin, rfl, rfl⟩ := hp
        have hz : q_put (some (b, 0, n, hh)) i v = (0, some (b, 0, n, upd hh i.toNatClampNeg (snar 0 v))) := by simp only [q_put]; rw [if_neg hin]
        rw [hz]
        have hcell : H1[b]? = some (vp_cell (γ.2.1 (rti 0)) (n, .inl hh)) := w2.1 0 _ rfl
        refine lv_aload_n hx hb dX0_put_16 rfl (lv_at hl 0 rfl) ?_
        refine wx_castY C hcell rfl q1096 h1 (wx_self _ _) dX0_put_17 ?_
        refine lv_iload_n hx hb dX0_put_20 rfl (lv_at hl 1 rfl) ?_
        refine lv_iload_n hx hb dX0_put_21 rfl (lv_at hl 2 rfl) ?_
        refine lv_i2b hx hb dX0_put_22 rfl ?_
        refine va_bast C.1 C.2.1 K.1.1 w2.1 w2.2.1 w2.2.2 0 1 rfl rfl (vp_of hn hin) dX0_put_23 (fun H2 locs2 hP hD hS => ?_)
        refine lv_goto (tgt := 70) hx hb dX0_put_24 (by decide) ?_
        refine lv_iconst (v := (1 : Int32)) hx hb dX0_put_70 (by decide) ?_
        refine W.widen (k := 3) (n := 1210) (by decide) (by decide) ?_
        exact W.mono (fun t h => wx_QX.of h) (wx_iret C hr hlocks (ws := (b, e_sr γ 0 n (upd hh i.toNatClampNeg (snar 0 v))) :: ws) ⟨hP, hD, hS⟩ ⟨rfl, rfl, rfl⟩ dX0_put_71)
      · obtain ⟨hin, rfl⟩ := hp
        have hz : q_put (some (b, 0, n, hh)) i v = (15, some (b, 0, n, hh)) := by simp only [q_put]; rw [if_pos hin]
        rw [hz]
        exact WT.widen (by decide) (by decide) (wx_thrown rfl rfl rfl hlocks (wx_none htab _) w2 ⟨by simp, rfl⟩)
    · refine wx_instN C hcell rfl hks q1096 h1 (nc_use NC K (X := "[S") (Y := "[B") (by decide) h2 h1) dX0_put_1 ?_
      refine lv_if_eq (tgt := 27) hx hb dX0_put_4 (by decide) (fun c => ?_) (fun c => absurd rfl c)
      refine lv_aload_n hx hb dX0_put_27 rfl (lv_at hl 0 rfl) ?_
      refine wx_instY C hcell rfl q1097 h2 (wx_self _ _) dX0_put_28 ?_
      refine lv_if_eq (tgt := 54) hx hb dX0_put_31 (by decide) (fun c => absurd c (by decide)) (fun c => ?_)
      refine lv_iload_n hx hb dX0_put_34 rfl (lv_at hl 1 rfl) ?_
      refine lv_aload_n hx hb dX0_put_35 rfl (lv_at hl 0 rfl) ?_
      refine wx_castY C hcell rfl q1097 h2 (wx_self _ _) dX0_put_36 ?_
      refine va_alen (v := Int32.ofNat n) C.1 C.2.1 K.1.1 w.1 0 2 rfl rfl rfl dX0_put_39 ?_
      refine wx_callST (n := 2) C K w (mX0_asksPlace (l := l) (i := i) (n := Int32.ofNat n) XO G) q1109 q1110 q106 q1111 rfl rfl (by decide +kernel) rfl rfl ⟨Nat.le_of_ble_eq_true rfl, Nat.le_of_ble_eq_true rfl⟩ hl.1 (Nat.le_of_ble_eq_true rfl) ⟨Nat.le_of_ble_eq_true rfl, Nat.le_of_ble_eq_true rfl⟩ dX0_put_40 (fun r ws2 H1 locs1 hp w2 => ?_) (fun x ws2 H1 locs1 hp w2 => ?_)
      · obtain ⟨hin, rfl, rfl⟩ := hp
        have hz : q_put (some (b, 1, n, hh)) i v = (0, some (b, 1, n, upd hh i.toNatClampNeg (snar 1 v))) := by simp only [q_put]; rw [if_neg hin]
        rw [hz]
        have hcell : H1[b]? = some (vp_cell (γ.2.1 (rti 1)) (n, .inl hh)) := w2.1 0 _ rfl
        refine lv_aload_n hx hb dX0_put_43 rfl (lv_at hl 0 rfl) ?_
        refine wx_castY C hcell rfl q1097 h2 (wx_self _ _) dX0_put_44 ?_
        refine lv_iload_n hx hb dX0_put_47 rfl (lv_at hl 1 rfl) ?_
        refine lv_iload_n hx hb dX0_put_48 rfl (lv_at hl 2 rfl) ?_
        refine lv_i2s hx hb dX0_put_49 rfl ?_
        refine va_sast C.1 C.2.1 K.1.1 w2.1 w2.2.1 w2.2.2 0 2 rfl rfl (vp_of hn hin) dX0_put_50 (fun H2 locs2 hP hD hS => ?_)
        refine lv_goto (tgt := 70) hx hb dX0_put_51 (by decide) ?_
        refine lv_iconst (v := (1 : Int32)) hx hb dX0_put_70 (by decide) ?_
        refine W.widen (k := 3) (n := 1210) (by decide) (by decide) ?_
        exact W.mono (fun t h => wx_QX.of h) (wx_iret C hr hlocks (ws := (b, e_sr γ 1 n (upd hh i.toNatClampNeg (snar 1 v))) :: ws) ⟨hP, hD, hS⟩ ⟨rfl, rfl, rfl⟩ dX0_put_71)
      · obtain ⟨hin, rfl⟩ := hp
        have hz : q_put (some (b, 1, n, hh)) i v = (15, some (b, 1, n, hh)) := by simp only [q_put]; rw [if_pos hin]
        rw [hz]
        exact WT.widen (by decide) (by decide) (wx_thrown rfl rfl rfl hlocks (wx_none htab _) w2 ⟨by simp, rfl⟩)
    · refine wx_instN C hcell rfl hks q1096 h1 (nc_use NC K (X := "[I") (Y := "[B") (by decide) h3 h1) dX0_put_1 ?_
      refine lv_if_eq (tgt := 27) hx hb dX0_put_4 (by decide) (fun c => ?_) (fun c => absurd rfl c)
      refine lv_aload_n hx hb dX0_put_27 rfl (lv_at hl 0 rfl) ?_
      refine wx_instN C hcell rfl hks q1097 h2 (nc_use NC K (X := "[I") (Y := "[S") (by decide) h3 h2) dX0_put_28 ?_
      refine lv_if_eq (tgt := 54) hx hb dX0_put_31 (by decide) (fun c => ?_) (fun c => absurd rfl c)
      refine lv_iload_n hx hb dX0_put_54 rfl (lv_at hl 1 rfl) ?_
      refine lv_aload_n hx hb dX0_put_55 rfl (lv_at hl 0 rfl) ?_
      refine wx_castY C hcell rfl q1101 h3 (wx_self _ _) dX0_put_56 ?_
      refine va_alen (v := Int32.ofNat n) C.1 C.2.1 K.1.1 w.1 0 0 rfl rfl rfl dX0_put_59 ?_
      refine wx_callST (n := 2) C K w (mX0_asksPlace (l := l) (i := i) (n := Int32.ofNat n) XO G) q1109 q1110 q106 q1111 rfl rfl (by decide +kernel) rfl rfl ⟨Nat.le_of_ble_eq_true rfl, Nat.le_of_ble_eq_true rfl⟩ hl.1 (Nat.le_of_ble_eq_true rfl) ⟨Nat.le_of_ble_eq_true rfl, Nat.le_of_ble_eq_true rfl⟩ dX0_put_60 (fun r ws2 H1 locs1 hp w2 => ?_) (fun x ws2 H1 locs1 hp w2 => ?_)
      · obtain ⟨hin, rfl, rfl⟩ := hp
        have hz : q_put (some (b, 2, n, hh)) i v = (0, some (b, 2, n, upd hh i.toNatClampNeg (snar 2 v))) := by simp only [q_put]; rw [if_neg hin]
        rw [hz]
        have hcell : H1[b]? = some (vp_cell (γ.2.1 (rti 2)) (n, .inl hh)) := w2.1 0 _ rfl
        refine lv_aload_n hx hb dX0_put_63 rfl (lv_at hl 0 rfl) ?_
        refine wx_castY C hcell rfl q1101 h3 (wx_self _ _) dX0_put_64 ?_
        refine lv_iload_n hx hb dX0_put_67 rfl (lv_at hl 1 rfl) ?_
        refine lv_iload_n hx hb dX0_put_68 rfl (lv_at hl 2 rfl) ?_
        refine va_iast C.1 C.2.1 K.1.1 w2.1 w2.2.1 w2.2.2 0 0 rfl rfl (vp_of hn hin) dX0_put_69 (fun H2 locs2 hP hD hS => ?_)
        refine lv_iconst (v := (1 : Int32)) hx hb dX0_put_70 (by decide) ?_
        refine W.widen (k := 3) (n := 1210) (by decide) (by decide) ?_
        exact W.mono (fun t h => wx_QX.of h) (wx_iret C hr hlocks (ws := (b, e_sr γ 2 n (upd hh i.toNatClampNeg (snar 2 v))) :: ws) ⟨hP, hD, hS⟩ ⟨rfl, rfl, rfl⟩ dX0_put_71)
      · obtain ⟨hin, rfl⟩ := hp
        have hz : q_put (some (b, 2, n, hh)) i v = (15, some (b, 2, n, hh)) := by simp only [q_put]; rw [if_pos hin]
        rw [hz]
        exact WT.widen (by decide) (by decide) (wx_thrown rfl rfl rfl hlocks (wx_none htab _) w2 ⟨by simp, rfl⟩)
theorem mX0_rowOf {l : Launch} {γ : wx_G} {ws : va_W} {k n : Int32} (XO : ex_ok γ l) (G : cx_ok γ) (hn40 : n ≤ 40) : wx_MX γ l yX0_rowOf (ws_ yX0_rowOf cX0_rowOf 2 (some (.object "java/lang/Object"))) rmI [.int k, .int n] ws (fun r ws2 => ¬ n < 0 ∧ ∃ b : Nat, r = some (.ref b) ∧ ws2 = (b, e_sr γ (srt k) n.toNatClampNeg (fun _ => 0)) :: ws) (fun x ws2 => n < 0 ∧ ws2 = (x, .inr (16, [])) :: ws) 3 1210 := by
  refine wx_MX.of (by decide) (Nat.le_of_ble_eq_true rfl) ?_
  intro p e s m as below meth c A ls C K w hr hlocks htab hl
  have hx := C.1
  have hb := C.2.1
  have hN : n.toNatClampNeg ≤ 40 := by
    rw [Int32.le_iff_toInt_le] at hn40
    have h1 : n.toNatClampNeg = n.toInt.toNat := rfl
    have h2 : (40 : Int32).toInt = 40 := rfl
    omega
  refine lv_iload_n hx hb dX0_rowOf_0 rfl (lv_at hl 0 rfl) ?_
  by_cases c0 : k = (0 : Int32)
  · refine lv_lookup (off := 27) (tgt := 28) hx hb dX0_rowOf_1 (by decide) (by rw [c0]; decide) (by decide) ?_
    have hs : srt k = 0 := by simp [srt, c0]
    rw [hs]
    refine lv_iload_n hx hb dX0_rowOf_28 rfl (lv_at hl 1 rfl) ?_
    by_cases hn : n < 0
    · obtain ⟨t1, t2⟩ := wneg hn
      exact wx_msgOut (ci := 16) (g := F0 m 29 ls []) XO rfl ⟨by decide, by decide, by decide⟩ (ex_neg XO G C K) C K w hlocks htab rfl hl.1 rfl rfl t2 t1 (fun T X => X.newarrayNegative C.1 (g := F0 m 29 ls [.int n]) rfl hn (rest := []) rfl (atype := .byte) (by rw [C.2.1]; exact dX0_rowOf_29)) ⟨Nat.le_of_ble_eq_true rfl, Nat.le_of_ble_eq_true rfl⟩ ⟨Nat.le_of_ble_eq_true rfl, Nat.le_of_ble_eq_true rfl⟩ ⟨Nat.le_refl _, Nat.le_refl _⟩ (fun x => ⟨hn, rfl⟩)
    · refine wx_newa (atype := .byte) (ty := .byte) (N := n.toNatClampNeg) 1 C K w q582 rfl rfl (fun _ h => h) rfl hn rfl (by show _ * 1 ≤ _; omega) (by decide) (by show 0 + _ ≤ 1210; omega) dX0_rowOf_29 (fun b H w2 => ?_)
      refine W.widen (k := 3) (n := 1210) (by decide) (by omega) ?_
      exact W.mono (fun t h => wx_QX.of h) (wx_aret C hr (Or.inl ⟨_, rfl⟩) hlocks (w2.perm (List.perm_append_singleton _ _)) ⟨hn, b, rfl, rfl⟩ dX0_rowOf_31)
  by_cases c1 : k = (1 : Int32)
  · refine lv_lookup (off := 31) (tgt := 32) hx hb dX0_rowOf_1 (by decide) (by rw [c1]; decide) (by decide) ?_
    have hs : srt k = 1 := by simp [srt, c0, c1]
    rw [hs]
    refine lv_iload_n hx hb dX0_rowOf_32 rfl (lv_at hl 1 rfl) ?_
    by_cases hn : n < 0
    · obtain ⟨t1, t2⟩ := wneg hn
      exact wx_msgOut (ci := 16) (g := F0 m 33 ls []) XO rfl ⟨by decide, by decide, by decide⟩ (ex_neg XO G C K) C K w hlocks htab rfl hl.1 rfl rfl t2 t1 (fun T X => X.newarrayNegative C.1 (g := F0 m 33 ls [.int n]) rfl hn (rest := []) rfl (atype := .short) (by rw [C.2.1]; exact dX0_rowOf_33)) ⟨Nat.le_of_ble_eq_true rfl, Nat.le_of_ble_eq_true rfl⟩ ⟨Nat.le_of_ble_eq_true rfl, Nat.le_of_ble_eq_true rfl⟩ ⟨Nat.le_refl _, Nat.le_refl _⟩ (fun x => ⟨hn, rfl⟩)
    · refine wx_newa (atype := .short) (ty := .short) (N := n.toNatClampNeg) 2 C K w q1200 rfl rfl (fun _ h => h) rfl hn rfl (by show _ * 2 ≤ _; omega) (by decide) (by show 0 + _ ≤ 1210; omega) dX0_rowOf_33 (fun b H w2 => ?_)
      refine W.widen (k := 3) (n := 1210) (by decide) (by omega) ?_
      exact W.mono (fun t h => wx_QX.of h) (wx_aret C hr (Or.inl ⟨_, rfl⟩) hlocks (w2.perm (List.perm_append_singleton _ _)) ⟨hn, b, rfl, rfl⟩ dX0_rowOf_35)
  have n0 := wx_ne c0 (k := 0) (by decide)
  have n1 := wx_ne c1 (k := 1) (by decide)
  refine lv_lookup (off := 35) (tgt := 36) hx hb dX0_rowOf_1 (by decide) (by simp [Op.lookupswitch.offset, n0, Ne.symm n0, n1, Ne.symm n1]) (by decide) ?_
  have hs : srt k = 2 := by simp [srt, c0, c1]
  rw [hs]
  refine lv_iload_n hx hb dX0_rowOf_36 rfl (lv_at hl 1 rfl) ?_
  by_cases hn : n < 0
  · obtain ⟨t1, t2⟩ := wneg hn
    exact wx_msgOut (ci := 16) (g := F0 m 37 ls []) XO rfl ⟨by decide, by decide, by decide⟩ (ex_neg XO G C K) C K w hlocks htab rfl hl.1 rfl rfl t2 t1 (fun T X => X.newarrayNegative C.1 (g := F0 m 37 ls [.int n]) rfl hn (rest := []) rfl (atype := .int) (by rw [C.2.1]; exact dX0_rowOf_37)) ⟨Nat.le_of_ble_eq_true rfl, Nat.le_of_ble_eq_true rfl⟩ ⟨Nat.le_of_ble_eq_true rfl, Nat.le_of_ble_eq_true rfl⟩ ⟨Nat.le_refl _, Nat.le_refl _⟩ (fun x => ⟨hn, rfl⟩)
  · refine wx_newa (atype := .int) (ty := .int) (N := n.toNatClampNeg) 0 C K w q725 rfl rfl (fun _ h => h) rfl hn rfl (by show _ * 4 ≤ _; omega) (by decide) (by show 0 + _ ≤ 1210; omega) dX0_rowOf_37 (fun b H w2 => ?_)
    refine W.widen (k := 3) (n := 1210) (by decide) (by omega) ?_
    exact W.mono (fun t h => wx_QX.of h) (wx_aret C hr (Or.inl ⟨_, rfl⟩) hlocks (w2.perm (List.perm_append_singleton _ _)) ⟨hn, b, rfl, rfl⟩ dX0_rowOf_39)
/-! the sheets' world: their array (field 48), four objects at the addresses sa, their rows -/
abbrev e_sha (γ : wx_G) (sa : Nat → Nat) : va_E := .inl (γ.2.1 7, 4, .inr (.inr (.inr (.inr (fun j => some (sa j))))))
def shc (γ : wx_G) (sa : Nat → Nat) (σ : Nat → xS) (j : Nat) : va_W := (sa j, .inr (12, [sr_v (σ j)])) :: rowc γ (σ j)
def shw (γ : wx_G) (ad sa : Nat → Nat) (σ : Nat → xS) : va_W := (ad 48, e_sha γ sa) :: [0, 1, 2, 3].flatMap (shc γ sa σ)
def oth (i : Nat) : List Nat := [0, 1, 2, 3].filter (fun j => j != i)
def shr (γ : wx_G) (ad sa : Nat → Nat) (σ : Nat → xS) (i : Nat) : va_W := (ad 48, e_sha γ sa) :: (oth i).flatMap (shc γ sa σ)
theorem sh_at {γ : wx_G} {ad sa : Nat → Nat} {σ : Nat → xS} {i : Nat} (hi : i < 4) : List.Perm (shw γ ad sa σ) (shc γ sa σ i ++ shr γ ad sa σ i) := by
  refine List.Perm.trans ?_ List.perm_middle.symm
  refine List.Perm.cons _ ?_
  rcases (show i = 0 ∨ i = 1 ∨ i = 2 ∨ i = 3 by omega) with rfl | rfl | rfl | rfl
  · exact List.Perm.refl _
  · rw [show oth 1 = [0, 2, 3] from by decide]
    simp only [List.flatMap_cons, List.flatMap_nil, List.append_nil]
    exact List.perm_append_comm_assoc _ _ _
  · rw [show oth 2 = [0, 1, 3] from by decide]
    simp only [List.flatMap_cons, List.flatMap_nil, List.append_nil]
    exact (List.Perm.append_left _ (List.perm_append_comm_assoc _ _ _)).trans (List.perm_append_comm_assoc _ _ _)
  · rw [show oth 3 = [0, 1, 2] from by decide]
    simp only [List.flatMap_cons, List.flatMap_nil, List.append_nil]
    exact ((List.Perm.append_left _ (List.Perm.append_left _ List.perm_append_comm)).trans (List.Perm.append_left _ (List.perm_append_comm_assoc _ _ _))).trans (List.perm_append_comm_assoc _ _ _)
theorem sh_up {γ : wx_G} {ad sa : Nat → Nat} {σ : Nat → xS} {i : Nat} {sr : xS} : shr γ ad sa (va_up σ i sr) i = shr γ ad sa σ i := by
  unfold shr
  rw [List.flatMap_def, List.flatMap_def]
  refine congrArg _ (congrArg _ (List.map_congr_left (fun j hj => ?_)))
  have hne : j ≠ i := by
    have h := (List.mem_filter.mp hj).2
    simpa using h
  simp [shc, va_up, hne]
/-- the world may forget cells -/
theorem wx_w.drop {γ : wx_G} {A : Nat → Prop} {s : State} {H : Heap} {locs : List Loc} {N ws : va_W} (w : wx_w γ A s H locs (N ++ ws)) : wx_w γ A s H locs ws := by
  have hk : ∀ (k : Nat) (q : Nat × va_E), ws[k]? = some q → (N ++ ws)[N.length + k]? = some q := by
    intro k q h
    rw [List.getElem?_append_right (Nat.le_add_right _ _), Nat.add_sub_cancel_left]
    exact h
  refine ⟨fun k q h => w.1 _ q (hk k q h), ⟨fun i j p q hi hj e => ?_, fun k q h => w.2.1.2 _ q (hk k q h)⟩, w.2.2⟩
  have := w.2.1.1 _ _ p q (hk i p hi) (hk j q hj) e
  omega

/-! as (mine; printed by gen/as_.py) -/
set_option maxRecDepth 100000
theorem hw_cast {s : State} {X Y : String} {cx cy : ClassId} (h : va_Nw (.castable X Y) s) (hX : s.vm.findClass X = some cx) (hY : s.vm.findClass Y = some cy) : s.vm.assignable cx cy = true := by
  obtain ⟨a, b, f1, f2, f3⟩ := Cond.castable_spec (va_Nw.use (A := #[]) rfl h)
  cases f1.symm.trans hX
  cases f2.symm.trans hY
  exact f3
theorem mX0_asN {l : Launch} {γ : wx_G} {ws : va_W} {k : Int32} : wx_MX γ l yX0_as (ws_ yX0_as cX0_as 2 (some (.object "WalkingStones$How"))) rmI [.null, .int k] ws (fun v ws2 => v = some .null ∧ ws2 = ws) (fun _ _ => False) 3 1210 := by
  refine wx_MX.of (by decide) (Nat.le_of_ble_eq_true rfl) ?_
  intro p e s m as below meth c A ls C K w hr hlocks htab hl
  have hx := C.1
  have hb := C.2.1
  refine lv_iload_n hx hb dX0_as_0 rfl (lv_at hl 1 rfl) ?_
  by_cases c1 : k = (1 : Int32)
  · refine lv_tableIn (off := 35) (tgt := 36) hx hb dX0_as_1 (by rw [c1]; decide) (by rw [c1]; decide) (by rw [c1]; rfl) (by decide) ?_
    refine lv_aload_nN hx hb dX0_as_36 rfl (lv_at hl 0 rfl) ?_
    refine wx_cast0 C dX0_as_37 ?_
    refine W.widen (k := 3) (n := 1210) (by decide) (by decide) ?_
    exact W.mono (fun t h => wx_QX.of h) (W.aret C.1 C.2.1 hr (Or.inl ⟨_, rfl⟩) (Or.inl rfl) (fun t ht hW => ⟨⟨_, ws, rfl, ⟨rfl, rfl⟩, by rw [ht]; exact w.1, w.2.1⟩, w.2.2.F ht⟩) w.2.2.2.2 dX0_as_40 hlocks)
  by_cases c2 : k = (2 : Int32)
  · refine lv_tableIn (off := 40) (tgt := 41) hx hb dX0_as_1 (by rw [c2]; decide) (by rw [c2]; decide) (by rw [c2]; rfl) (by decide) ?_
    refine lv_aload_nN hx hb dX0_as_41 rfl (lv_at hl 0 rfl) ?_
    refine wx_cast0 C dX0_as_42 ?_
    refine W.widen (k := 3) (n := 1210) (by decide) (by decide) ?_
    exact W.mono (fun t h => wx_QX.of h) (W.aret C.1 C.2.1 hr (Or.inl ⟨_, rfl⟩) (Or.inl rfl) (fun t ht hW => ⟨⟨_, ws, rfl, ⟨rfl, rfl⟩, by rw [ht]; exact w.1, w.2.1⟩, w.2.2.F ht⟩) w.2.2.2.2 dX0_as_45 hlocks)
  by_cases c3 : k = (3 : Int32)
  · refine lv_tableIn (off := 45) (tgt := 46) hx hb dX0_as_1 (by rw [c3]; decide) (by rw [c3]; decide) (by rw [c3]; rfl) (by decide) ?_
    refine lv_aload_nN hx hb dX0_as_46 rfl (lv_at hl 0 rfl) ?_
    refine wx_cast0 C dX0_as_47 ?_
    refine W.widen (k := 3) (n := 1210) (by decide) (by decide) ?_
    exact W.mono (fun t h => wx_QX.of h) (W.aret C.1 C.2.1 hr (Or.inl ⟨_, rfl⟩) (Or.inl rfl) (fun t ht hW => ⟨⟨_, ws, rfl, ⟨rfl, rfl⟩, by rw [ht]; exact w.1, w.2.1⟩, w.2.2.F ht⟩) w.2.2.2.2 dX0_as_50 hlocks)
  by_cases c4 : k = (4 : Int32)
  · refine lv_tableIn (off := 50) (tgt := 51) hx hb dX0_as_1 (by rw [c4]; decide) (by rw [c4]; decide) (by rw [c4]; rfl) (by decide) ?_
    refine lv_aload_nN hx hb dX0_as_51 rfl (lv_at hl 0 rfl) ?_
    refine wx_cast0 C dX0_as_52 ?_
    refine W.widen (k := 3) (n := 1210) (by decide) (by decide) ?_
    exact W.mono (fun t h => wx_QX.of h) (W.aret C.1 C.2.1 hr (Or.inl ⟨_, rfl⟩) (Or.inl rfl) (fun t ht hW => ⟨⟨_, ws, rfl, ⟨rfl, rfl⟩, by rw [ht]; exact w.1, w.2.1⟩, w.2.2.F ht⟩) w.2.2.2.2 dX0_as_55 hlocks)
  by_cases c5 : k = (5 : Int32)
  · refine lv_tableIn (off := 55) (tgt := 56) hx hb dX0_as_1 (by rw [c5]; decide) (by rw [c5]; decide) (by rw [c5]; rfl) (by decide) ?_
    refine lv_aload_nN hx hb dX0_as_56 rfl (lv_at hl 0 rfl) ?_
    refine wx_cast0 C dX0_as_57 ?_
    refine W.widen (k := 3) (n := 1210) (by decide) (by decide) ?_
    exact W.mono (fun t h => wx_QX.of h) (W.aret C.1 C.2.1 hr (Or.inl ⟨_, rfl⟩) (Or.inl rfl) (fun t ht hW => ⟨⟨_, ws, rfl, ⟨rfl, rfl⟩, by rw [ht]; exact w.1, w.2.1⟩, w.2.2.F ht⟩) w.2.2.2.2 dX0_as_60 hlocks)
  have n1 := wx_ne c1 (k := 1) (by decide)
  have n2 := wx_ne c2 (k := 2) (by decide)
  have n3 := wx_ne c3 (k := 3) (by decide)
  have n4 := wx_ne c4 (k := 4) (by decide)
  have n5 := wx_ne c5 (k := 5) (by decide)
  refine lv_tableOut (tgt := 61) hx hb dX0_as_1 (by omega) (by decide) ?_
  refine lv_aload_nN hx hb dX0_as_61 rfl (lv_at hl 0 rfl) ?_
  refine W.widen (k := 3) (n := 1210) (by decide) (by decide) ?_
  exact W.mono (fun t h => wx_QX.of h) (W.aret C.1 C.2.1 hr (Or.inl ⟨_, rfl⟩) (Or.inl rfl) (fun t ht hW => ⟨⟨_, ws, rfl, ⟨rfl, rfl⟩, by rw [ht]; exact w.1, w.2.1⟩, w.2.2.F ht⟩) w.2.2.2.2 dX0_as_62 hlocks)
theorem mX0_as {l : Launch} {γ : wx_G} {ws : va_W} {k : Int32} {b d q0 : Nat} {fs : List Value} (XO : ex_ok γ l) (G : cx_ok γ) (NC : nc_ok γ) (hd : d < 6) (hq : ws[q0]? = some (b, .inr (2 + d, fs))) : wx_MX γ l yX0_as (ws_ yX0_as cX0_as 2 (some (.object "WalkingStones$How"))) rmI [.ref b, .int k] ws (fun v ws2 => q_und d k = true ∧ v = some (.ref b) ∧ ws2 = ws) (fun x ws2 => q_und d k = false ∧ ws2 = (x, .inr (17, [])) :: ws) 3 1210 := by
  refine wx_MX.of (by decide) (Nat.le_of_ble_eq_true rfl) ?_
  intro p e s m as below meth c A ls C K w hr hlocks htab hl
  have hx := C.1
  have hb := C.2.1
  refine lv_iload_n hx hb dX0_as_0 rfl (lv_at hl 1 rfl) ?_
  obtain ⟨as0, h0⟩ := G.1
  obtain ⟨r, hr1, cell, e1, e2, e3, e4⟩ := w.1 q0 _ hq
  have hobj : cell.vm.isStatics = false := by rw [e3]; rfl
  by_cases c1 : k = (1 : Int32)
  · refine lv_tableIn (off := 35) (tgt := 36) hx hb dX0_as_1 (by rw [c1]; decide) (by rw [c1]; decide) (by rw [c1]; rfl) (by decide) ?_
    refine lv_aload_n hx hb dX0_as_36 rfl (lv_at hl 0 rfl) ?_
    rcases (show d = 0 ∨ d = 1 ∨ d = 2 ∨ d = 3 ∨ d = 4 ∨ d = 5 by omega) with rfl | rfl | rfl | rfl | rfl | rfl
    · exact wx_cceOut (X := "WalkingStones$How") (Y := "WalkingStones$Gust") XO G C K w hlocks htab hl.1 e1 hobj q175 (by rw [e2]; exact (K.1.1.1 2 _ rfl).2.1) (K.1.1.1 3 _ rfl).2.1 (by rw [e2]; exact nc_use NC K (X := "WalkingStones$How") (Y := "WalkingStones$Gust") (by decide) (K.1.1.1 2 _ rfl).2.1 (K.1.1.1 3 _ rfl).2.1) ⟨cch_p "How" (by decide), cch_p "Gust" (by decide)⟩ cch_01 ⟨Nat.le_of_ble_eq_true rfl, Nat.le_of_ble_eq_true rfl⟩ ⟨Nat.le_of_ble_eq_true rfl, Nat.le_of_ble_eq_true rfl⟩ ⟨Nat.le_refl _, Nat.le_refl _⟩ (fun x => ⟨by rw [c1]; rfl, rfl⟩) dX0_as_37
    · refine wx_castY C e1 hobj q175 (K.1.1.1 3 _ rfl).2.1 (by rw [e2]; exact wx_self _ _) dX0_as_37 ?_
      refine W.widen (k := 3) (n := 1210) (by decide) (by decide) ?_
      exact W.mono (fun t h => wx_QX.of h) (wx_aret C hr (Or.inl ⟨_, rfl⟩) hlocks w ⟨by rw [c1]; rfl, rfl, rfl⟩ dX0_as_40)
    · refine wx_castY C e1 hobj q175 (K.1.1.1 3 _ rfl).2.1 (by rw [e2]; exact hw_cast (va_Nw.warmC K.1.2 (va_Nw.of rfl (h0 _ q1831))) (K.1.1.1 4 _ rfl).2.1 (K.1.1.1 3 _ rfl).2.1) dX0_as_37 ?_
      refine W.widen (k := 3) (n := 1210) (by decide) (by decide) ?_
      exact W.mono (fun t h => wx_QX.of h) (wx_aret C hr (Or.inl ⟨_, rfl⟩) hlocks w ⟨by rw [c1]; rfl, rfl, rfl⟩ dX0_as_40)
    · refine wx_castY C e1 hobj q175 (K.1.1.1 3 _ rfl).2.1 (by rw [e2]; exact hw_cast (va_Nw.warmC K.1.2 (va_Nw.of rfl (h0 _ q1832))) (K.1.1.1 5 _ rfl).2.1 (K.1.1.1 3 _ rfl).2.1) dX0_as_37 ?_
      refine W.widen (k := 3) (n := 1210) (by decide) (by decide) ?_
      exact W.mono (fun t h => wx_QX.of h) (wx_aret C hr (Or.inl ⟨_, rfl⟩) hlocks w ⟨by rw [c1]; rfl, rfl, rfl⟩ dX0_as_40)
    · refine wx_castY C e1 hobj q175 (K.1.1.1 3 _ rfl).2.1 (by rw [e2]; exact hw_cast (va_Nw.warmC K.1.2 (va_Nw.of rfl (h0 _ q1830))) (K.1.1.1 6 _ rfl).2.1 (K.1.1.1 3 _ rfl).2.1) dX0_as_37 ?_
      refine W.widen (k := 3) (n := 1210) (by decide) (by decide) ?_
      exact W.mono (fun t h => wx_QX.of h) (wx_aret C hr (Or.inl ⟨_, rfl⟩) hlocks w ⟨by rw [c1]; rfl, rfl, rfl⟩ dX0_as_40)
    · exact wx_cceOut (X := "WalkingStones$Slope") (Y := "WalkingStones$Gust") XO G C K w hlocks htab hl.1 e1 hobj q175 (by rw [e2]; exact (K.1.1.1 7 _ rfl).2.1) (K.1.1.1 3 _ rfl).2.1 (by rw [e2]; exact nc_use NC K (X := "WalkingStones$Slope") (Y := "WalkingStones$Gust") (by decide) (K.1.1.1 7 _ rfl).2.1 (K.1.1.1 3 _ rfl).2.1) ⟨cch_p "Slope" (by decide), cch_p "Gust" (by decide)⟩ cch_51 ⟨Nat.le_of_ble_eq_true rfl, Nat.le_of_ble_eq_true rfl⟩ ⟨Nat.le_of_ble_eq_true rfl, Nat.le_of_ble_eq_true rfl⟩ ⟨Nat.le_refl _, Nat.le_refl _⟩ (fun x => ⟨by rw [c1]; rfl, rfl⟩) dX0_as_37
  by_cases c2 : k = (2 : Int32)
  · refine lv_tableIn (off := 40) (tgt := 41) hx hb dX0_as_1 (by rw [c2]; decide) (by rw [c2]; decide) (by rw [c2]; rfl) (by decide) ?_
    refine lv_aload_n hx hb dX0_as_41 rfl (lv_at hl 0 rfl) ?_
    rcases (show d = 0 ∨ d = 1 ∨ d = 2 ∨ d = 3 ∨ d = 4 ∨ d = 5 by omega) with rfl | rfl | rfl | rfl | rfl | rfl
    · exact wx_cceOut (X := "WalkingStones$How") (Y := "WalkingStones$Raft") XO G C K w hlocks htab hl.1 e1 hobj q203 (by rw [e2]; exact (K.1.1.1 2 _ rfl).2.1) (K.1.1.1 4 _ rfl).2.1 (by rw [e2]; exact nc_use NC K (X := "WalkingStones$How") (Y := "WalkingStones$Raft") (by decide) (K.1.1.1 2 _ rfl).2.1 (K.1.1.1 4 _ rfl).2.1) ⟨cch_p "How" (by decide), cch_p "Raft" (by decide)⟩ cch_02 ⟨Nat.le_of_ble_eq_true rfl, Nat.le_of_ble_eq_true rfl⟩ ⟨Nat.le_of_ble_eq_true rfl, Nat.le_of_ble_eq_true rfl⟩ ⟨Nat.le_refl _, Nat.le_refl _⟩ (fun x => ⟨by rw [c2]; rfl, rfl⟩) dX0_as_42
    · exact wx_cceOut (X := "WalkingStones$Gust") (Y := "WalkingStones$Raft") XO G C K w hlocks htab hl.1 e1 hobj q203 (by rw [e2]; exact (K.1.1.1 3 _ rfl).2.1) (K.1.1.1 4 _ rfl).2.1 (by rw [e2]; exact nc_use NC K (X := "WalkingStones$Gust") (Y := "WalkingStones$Raft") (by decide) (K.1.1.1 3 _ rfl).2.1 (K.1.1.1 4 _ rfl).2.1) ⟨cch_p "Gust" (by decide), cch_p "Raft" (by decide)⟩ cch_12 ⟨Nat.le_of_ble_eq_true rfl, Nat.le_of_ble_eq_true rfl⟩ ⟨Nat.le_of_ble_eq_true rfl, Nat.le_of_ble_eq_true rfl⟩ ⟨Nat.le_refl _, Nat.le_refl _⟩ (fun x => ⟨by rw [c2]; rfl, rfl⟩) dX0_as_42
    · refine wx_castY C e1 hobj q203 (K.1.1.1 4 _ rfl).2.1 (by rw [e2]; exact wx_self _ _) dX0_as_42 ?_
      refine W.widen (k := 3) (n := 1210) (by decide) (by decide) ?_
      exact W.mono (fun t h => wx_QX.of h) (wx_aret C hr (Or.inl ⟨_, rfl⟩) hlocks w ⟨by rw [c2]; rfl, rfl, rfl⟩ dX0_as_45)
    · refine wx_castY C e1 hobj q203 (K.1.1.1 4 _ rfl).2.1 (by rw [e2]; exact hw_cast (va_Nw.warmC K.1.2 (va_Nw.of rfl (h0 _ q1834))) (K.1.1.1 5 _ rfl).2.1 (K.1.1.1 4 _ rfl).2.1) dX0_as_42 ?_
      refine W.widen (k := 3) (n := 1210) (by decide) (by decide) ?_
      exact W.mono (fun t h => wx_QX.of h) (wx_aret C hr (Or.inl ⟨_, rfl⟩) hlocks w ⟨by rw [c2]; rfl, rfl, rfl⟩ dX0_as_45)
    · refine wx_castY C e1 hobj q203 (K.1.1.1 4 _ rfl).2.1 (by rw [e2]; exact hw_cast (va_Nw.warmC K.1.2 (va_Nw.of rfl (h0 _ q1833))) (K.1.1.1 6 _ rfl).2.1 (K.1.1.1 4 _ rfl).2.1) dX0_as_42 ?_
      refine W.widen (k := 3) (n := 1210) (by decide) (by decide) ?_
      exact W.mono (fun t h => wx_QX.of h) (wx_aret C hr (Or.inl ⟨_, rfl⟩) hlocks w ⟨by rw [c2]; rfl, rfl, rfl⟩ dX0_as_45)
    · exact wx_cceOut (X := "WalkingStones$Slope") (Y := "WalkingStones$Raft") XO G C K w hlocks htab hl.1 e1 hobj q203 (by rw [e2]; exact (K.1.1.1 7 _ rfl).2.1) (K.1.1.1 4 _ rfl).2.1 (by rw [e2]; exact nc_use NC K (X := "WalkingStones$Slope") (Y := "WalkingStones$Raft") (by decide) (K.1.1.1 7 _ rfl).2.1 (K.1.1.1 4 _ rfl).2.1) ⟨cch_p "Slope" (by decide), cch_p "Raft" (by decide)⟩ cch_52 ⟨Nat.le_of_ble_eq_true rfl, Nat.le_of_ble_eq_true rfl⟩ ⟨Nat.le_of_ble_eq_true rfl, Nat.le_of_ble_eq_true rfl⟩ ⟨Nat.le_refl _, Nat.le_refl _⟩ (fun x => ⟨by rw [c2]; rfl, rfl⟩) dX0_as_42
  by_cases c3 : k = (3 : Int32)
  · refine lv_tableIn (off := 45) (tgt := 46) hx hb dX0_as_1 (by rw [c3]; decide) (by rw [c3]; decide) (by rw [c3]; rfl) (by decide) ?_
    refine lv_aload_n hx hb dX0_as_46 rfl (lv_at hl 0 rfl) ?_
    rcases (show d = 0 ∨ d = 1 ∨ d = 2 ∨ d = 3 ∨ d = 4 ∨ d = 5 by omega) with rfl | rfl | rfl | rfl | rfl | rfl
    · exact wx_cceOut (X := "WalkingStones$How") (Y := "WalkingStones$Whole") XO G C K w hlocks htab hl.1 e1 hobj q216 (by rw [e2]; exact (K.1.1.1 2 _ rfl).2.1) (K.1.1.1 5 _ rfl).2.1 (by rw [e2]; exact nc_use NC K (X := "WalkingStones$How") (Y := "WalkingStones$Whole") (by decide) (K.1.1.1 2 _ rfl).2.1 (K.1.1.1 5 _ rfl).2.1) ⟨cch_p "How" (by decide), cch_p "Whole" (by decide)⟩ cch_03 ⟨Nat.le_of_ble_eq_true rfl, Nat.le_of_ble_eq_true rfl⟩ ⟨Nat.le_of_ble_eq_true rfl, Nat.le_of_ble_eq_true rfl⟩ ⟨Nat.le_refl _, Nat.le_refl _⟩ (fun x => ⟨by rw [c3]; rfl, rfl⟩) dX0_as_47
    · exact wx_cceOut (X := "WalkingStones$Gust") (Y := "WalkingStones$Whole") XO G C K w hlocks htab hl.1 e1 hobj q216 (by rw [e2]; exact (K.1.1.1 3 _ rfl).2.1) (K.1.1.1 5 _ rfl).2.1 (by rw [e2]; exact nc_use NC K (X := "WalkingStones$Gust") (Y := "WalkingStones$Whole") (by decide) (K.1.1.1 3 _ rfl).2.1 (K.1.1.1 5 _ rfl).2.1) ⟨cch_p "Gust" (by decide), cch_p "Whole" (by decide)⟩ cch_13 ⟨Nat.le_of_ble_eq_true rfl, Nat.le_of_ble_eq_true rfl⟩ ⟨Nat.le_of_ble_eq_true rfl, Nat.le_of_ble_eq_true rfl⟩ ⟨Nat.le_refl _, Nat.le_refl _⟩ (fun x => ⟨by rw [c3]; rfl, rfl⟩) dX0_as_47
    · exact wx_cceOut (X := "WalkingStones$Raft") (Y := "WalkingStones$Whole") XO G C K w hlocks htab hl.1 e1 hobj q216 (by rw [e2]; exact (K.1.1.1 4 _ rfl).2.1) (K.1.1.1 5 _ rfl).2.1 (by rw [e2]; exact nc_use NC K (X := "WalkingStones$Raft") (Y := "WalkingStones$Whole") (by decide) (K.1.1.1 4 _ rfl).2.1 (K.1.1.1 5 _ rfl).2.1) ⟨cch_p "Raft" (by decide), cch_p "Whole" (by decide)⟩ cch_23 ⟨Nat.le_of_ble_eq_true rfl, Nat.le_of_ble_eq_true rfl⟩ ⟨Nat.le_of_ble_eq_true rfl, Nat.le_of_ble_eq_true rfl⟩ ⟨Nat.le_refl _, Nat.le_refl _⟩ (fun x => ⟨by rw [c3]; rfl, rfl⟩) dX0_as_47
    · refine wx_castY C e1 hobj q216 (K.1.1.1 5 _ rfl).2.1 (by rw [e2]; exact wx_self _ _) dX0_as_47 ?_
      refine W.widen (k := 3) (n := 1210) (by decide) (by decide) ?_
      exact W.mono (fun t h => wx_QX.of h) (wx_aret C hr (Or.inl ⟨_, rfl⟩) hlocks w ⟨by rw [c3]; rfl, rfl, rfl⟩ dX0_as_50)
    · exact wx_cceOut (X := "WalkingStones$Panes") (Y := "WalkingStones$Whole") XO G C K w hlocks htab hl.1 e1 hobj q216 (by rw [e2]; exact (K.1.1.1 6 _ rfl).2.1) (K.1.1.1 5 _ rfl).2.1 (by rw [e2]; exact nc_use NC K (X := "WalkingStones$Panes") (Y := "WalkingStones$Whole") (by decide) (K.1.1.1 6 _ rfl).2.1 (K.1.1.1 5 _ rfl).2.1) ⟨cch_p "Panes" (by decide), cch_p "Whole" (by decide)⟩ cch_43 ⟨Nat.le_of_ble_eq_true rfl, Nat.le_of_ble_eq_true rfl⟩ ⟨Nat.le_of_ble_eq_true rfl, Nat.le_of_ble_eq_true rfl⟩ ⟨Nat.le_refl _, Nat.le_refl _⟩ (fun x => ⟨by rw [c3]; rfl, rfl⟩) dX0_as_47
    · exact wx_cceOut (X := "WalkingStones$Slope") (Y := "WalkingStones$Whole") XO G C K w hlocks htab hl.1 e1 hobj q216 (by rw [e2]; exact (K.1.1.1 7 _ rfl).2.1) (K.1.1.1 5 _ rfl).2.1 (by rw [e2]; exact nc_use NC K (X := "WalkingStones$Slope") (Y := "WalkingStones$Whole") (by decide) (K.1.1.1 7 _ rfl).2.1 (K.1.1.1 5 _ rfl).2.1) ⟨cch_p "Slope" (by decide), cch_p "Whole" (by decide)⟩ cch_53 ⟨Nat.le_of_ble_eq_true rfl, Nat.le_of_ble_eq_true rfl⟩ ⟨Nat.le_of_ble_eq_true rfl, Nat.le_of_ble_eq_true rfl⟩ ⟨Nat.le_refl _, Nat.le_refl _⟩ (fun x => ⟨by rw [c3]; rfl, rfl⟩) dX0_as_47
  by_cases c4 : k = (4 : Int32)
  · refine lv_tableIn (off := 50) (tgt := 51) hx hb dX0_as_1 (by rw [c4]; decide) (by rw [c4]; decide) (by rw [c4]; rfl) (by decide) ?_
    refine lv_aload_n hx hb dX0_as_51 rfl (lv_at hl 0 rfl) ?_
    rcases (show d = 0 ∨ d = 1 ∨ d = 2 ∨ d = 3 ∨ d = 4 ∨ d = 5 by omega) with rfl | rfl | rfl | rfl | rfl | rfl
    · exact wx_cceOut (X := "WalkingStones$How") (Y := "WalkingStones$Panes") XO G C K w hlocks htab hl.1 e1 hobj q230 (by rw [e2]; exact (K.1.1.1 2 _ rfl).2.1) (K.1.1.1 6 _ rfl).2.1 (by rw [e2]; exact nc_use NC K (X := "WalkingStones$How") (Y := "WalkingStones$Panes") (by decide) (K.1.1.1 2 _ rfl).2.1 (K.1.1.1 6 _ rfl).2.1) ⟨cch_p "How" (by decide), cch_p "Panes" (by decide)⟩ cch_04 ⟨Nat.le_of_ble_eq_true rfl, Nat.le_of_ble_eq_true rfl⟩ ⟨Nat.le_of_ble_eq_true rfl, Nat.le_of_ble_eq_true rfl⟩ ⟨Nat.le_refl _, Nat.le_refl _⟩ (fun x => ⟨by rw [c4]; rfl, rfl⟩) dX0_as_52
    · exact wx_cceOut (X := "WalkingStones$Gust") (Y := "WalkingStones$Panes") XO G C K w hlocks htab hl.1 e1 hobj q230 (by rw [e2]; exact (K.1.1.1 3 _ rfl).2.1) (K.1.1.1 6 _ rfl).2.1 (by rw [e2]; exact nc_use NC K (X := "WalkingStones$Gust") (Y := "WalkingStones$Panes") (by decide) (K.1.1.1 3 _ rfl).2.1 (K.1.1.1 6 _ rfl).2.1) ⟨cch_p "Gust" (by decide), cch_p "Panes" (by decide)⟩ cch_14 ⟨Nat.le_of_ble_eq_true rfl, Nat.le_of_ble_eq_true rfl⟩ ⟨Nat.le_of_ble_eq_true rfl, Nat.le_of_ble_eq_true rfl⟩ ⟨Nat.le_refl _, Nat.le_refl _⟩ (fun x => ⟨by rw [c4]; rfl, rfl⟩) dX0_as_52
    · exact wx_cceOut (X := "WalkingStones$Raft") (Y := "WalkingStones$Panes") XO G C K w hlocks htab hl.1 e1 hobj q230 (by rw [e2]; exact (K.1.1.1 4 _ rfl).2.1) (K.1.1.1 6 _ rfl).2.1 (by rw [e2]; exact nc_use NC K (X := "WalkingStones$Raft") (Y := "WalkingStones$Panes") (by decide) (K.1.1.1 4 _ rfl).2.1 (K.1.1.1 6 _ rfl).2.1) ⟨cch_p "Raft" (by decide), cch_p "Panes" (by decide)⟩ cch_24 ⟨Nat.le_of_ble_eq_true rfl, Nat.le_of_ble_eq_true rfl⟩ ⟨Nat.le_of_ble_eq_true rfl, Nat.le_of_ble_eq_true rfl⟩ ⟨Nat.le_refl _, Nat.le_refl _⟩ (fun x => ⟨by rw [c4]; rfl, rfl⟩) dX0_as_52
    · exact wx_cceOut (X := "WalkingStones$Whole") (Y := "WalkingStones$Panes") XO G C K w hlocks htab hl.1 e1 hobj q230 (by rw [e2]; exact (K.1.1.1 5 _ rfl).2.1) (K.1.1.1 6 _ rfl).2.1 (by rw [e2]; exact nc_use NC K (X := "WalkingStones$Whole") (Y := "WalkingStones$Panes") (by decide) (K.1.1.1 5 _ rfl).2.1 (K.1.1.1 6 _ rfl).2.1) ⟨cch_p "Whole" (by decide), cch_p "Panes" (by decide)⟩ cch_34 ⟨Nat.le_of_ble_eq_true rfl, Nat.le_of_ble_eq_true rfl⟩ ⟨Nat.le_of_ble_eq_true rfl, Nat.le_of_ble_eq_true rfl⟩ ⟨Nat.le_refl _, Nat.le_refl _⟩ (fun x => ⟨by rw [c4]; rfl, rfl⟩) dX0_as_52
    · refine wx_castY C e1 hobj q230 (K.1.1.1 6 _ rfl).2.1 (by rw [e2]; exact wx_self _ _) dX0_as_52 ?_
      refine W.widen (k := 3) (n := 1210) (by decide) (by decide) ?_
      exact W.mono (fun t h => wx_QX.of h) (wx_aret C hr (Or.inl ⟨_, rfl⟩) hlocks w ⟨by rw [c4]; rfl, rfl, rfl⟩ dX0_as_55)
    · exact wx_cceOut (X := "WalkingStones$Slope") (Y := "WalkingStones$Panes") XO G C K w hlocks htab hl.1 e1 hobj q230 (by rw [e2]; exact (K.1.1.1 7 _ rfl).2.1) (K.1.1.1 6 _ rfl).2.1 (by rw [e2]; exact nc_use NC K (X := "WalkingStones$Slope") (Y := "WalkingStones$Panes") (by decide) (K.1.1.1 7 _ rfl).2.1 (K.1.1.1 6 _ rfl).2.1) ⟨cch_p "Slope" (by decide), cch_p "Panes" (by decide)⟩ cch_54 ⟨Nat.le_of_ble_eq_true rfl, Nat.le_of_ble_eq_true rfl⟩ ⟨Nat.le_of_ble_eq_true rfl, Nat.le_of_ble_eq_true rfl⟩ ⟨Nat.le_refl _, Nat.le_refl _⟩ (fun x => ⟨by rw [c4]; rfl, rfl⟩) dX0_as_52
  by_cases c5 : k = (5 : Int32)
  · refine lv_tableIn (off := 55) (tgt := 56) hx hb dX0_as_1 (by rw [c5]; decide) (by rw [c5]; decide) (by rw [c5]; rfl) (by decide) ?_
    refine lv_aload_n hx hb dX0_as_56 rfl (lv_at hl 0 rfl) ?_
    rcases (show d = 0 ∨ d = 1 ∨ d = 2 ∨ d = 3 ∨ d = 4 ∨ d = 5 by omega) with rfl | rfl | rfl | rfl | rfl | rfl
    · exact wx_cceOut (X := "WalkingStones$How") (Y := "WalkingStones$Slope") XO G C K w hlocks htab hl.1 e1 hobj q244 (by rw [e2]; exact (K.1.1.1 2 _ rfl).2.1) (K.1.1.1 7 _ rfl).2.1 (by rw [e2]; exact nc_use NC K (X := "WalkingStones$How") (Y := "WalkingStones$Slope") (by decide) (K.1.1.1 2 _ rfl).2.1 (K.1.1.1 7 _ rfl).2.1) ⟨cch_p "How" (by decide), cch_p "Slope" (by decide)⟩ cch_05 ⟨Nat.le_of_ble_eq_true rfl, Nat.le_of_ble_eq_true rfl⟩ ⟨Nat.le_of_ble_eq_true rfl, Nat.le_of_ble_eq_true rfl⟩ ⟨Nat.le_refl _, Nat.le_refl _⟩ (fun x => ⟨by rw [c5]; rfl, rfl⟩) dX0_as_57
    · exact wx_cceOut (X := "WalkingStones$Gust") (Y := "WalkingStones$Slope") XO G C K w hlocks htab hl.1 e1 hobj q244 (by rw [e2]; exact (K.1.1.1 3 _ rfl).2.1) (K.1.1.1 7 _ rfl).2.1 (by rw [e2]; exact nc_use NC K (X := "WalkingStones$Gust") (Y := "WalkingStones$Slope") (by decide) (K.1.1.1 3 _ rfl).2.1 (K.1.1.1 7 _ rfl).2.1) ⟨cch_p "Gust" (by decide), cch_p "Slope" (by decide)⟩ cch_15 ⟨Nat.le_of_ble_eq_true rfl, Nat.le_of_ble_eq_true rfl⟩ ⟨Nat.le_of_ble_eq_true rfl, Nat.le_of_ble_eq_true rfl⟩ ⟨Nat.le_refl _, Nat.le_refl _⟩ (fun x => ⟨by rw [c5]; rfl, rfl⟩) dX0_as_57
    · exact wx_cceOut (X := "WalkingStones$Raft") (Y := "WalkingStones$Slope") XO G C K w hlocks htab hl.1 e1 hobj q244 (by rw [e2]; exact (K.1.1.1 4 _ rfl).2.1) (K.1.1.1 7 _ rfl).2.1 (by rw [e2]; exact nc_use NC K (X := "WalkingStones$Raft") (Y := "WalkingStones$Slope") (by decide) (K.1.1.1 4 _ rfl).2.1 (K.1.1.1 7 _ rfl).2.1) ⟨cch_p "Raft" (by decide), cch_p "Slope" (by decide)⟩ cch_25 ⟨Nat.le_of_ble_eq_true rfl, Nat.le_of_ble_eq_true rfl⟩ ⟨Nat.le_of_ble_eq_true rfl, Nat.le_of_ble_eq_true rfl⟩ ⟨Nat.le_refl _, Nat.le_refl _⟩ (fun x => ⟨by rw [c5]; rfl, rfl⟩) dX0_as_57
    · exact wx_cceOut (X := "WalkingStones$Whole") (Y := "WalkingStones$Slope") XO G C K w hlocks htab hl.1 e1 hobj q244 (by rw [e2]; exact (K.1.1.1 5 _ rfl).2.1) (K.1.1.1 7 _ rfl).2.1 (by rw [e2]; exact nc_use NC K (X := "WalkingStones$Whole") (Y := "WalkingStones$Slope") (by decide) (K.1.1.1 5 _ rfl).2.1 (K.1.1.1 7 _ rfl).2.1) ⟨cch_p "Whole" (by decide), cch_p "Slope" (by decide)⟩ cch_35 ⟨Nat.le_of_ble_eq_true rfl, Nat.le_of_ble_eq_true rfl⟩ ⟨Nat.le_of_ble_eq_true rfl, Nat.le_of_ble_eq_true rfl⟩ ⟨Nat.le_refl _, Nat.le_refl _⟩ (fun x => ⟨by rw [c5]; rfl, rfl⟩) dX0_as_57
    · exact wx_cceOut (X := "WalkingStones$Panes") (Y := "WalkingStones$Slope") XO G C K w hlocks htab hl.1 e1 hobj q244 (by rw [e2]; exact (K.1.1.1 6 _ rfl).2.1) (K.1.1.1 7 _ rfl).2.1 (by rw [e2]; exact nc_use NC K (X := "WalkingStones$Panes") (Y := "WalkingStones$Slope") (by decide) (K.1.1.1 6 _ rfl).2.1 (K.1.1.1 7 _ rfl).2.1) ⟨cch_p "Panes" (by decide), cch_p "Slope" (by decide)⟩ cch_45 ⟨Nat.le_of_ble_eq_true rfl, Nat.le_of_ble_eq_true rfl⟩ ⟨Nat.le_of_ble_eq_true rfl, Nat.le_of_ble_eq_true rfl⟩ ⟨Nat.le_refl _, Nat.le_refl _⟩ (fun x => ⟨by rw [c5]; rfl, rfl⟩) dX0_as_57
    · refine wx_castY C e1 hobj q244 (K.1.1.1 7 _ rfl).2.1 (by rw [e2]; exact wx_self _ _) dX0_as_57 ?_
      refine W.widen (k := 3) (n := 1210) (by decide) (by decide) ?_
      exact W.mono (fun t h => wx_QX.of h) (wx_aret C hr (Or.inl ⟨_, rfl⟩) hlocks w ⟨by rw [c5]; rfl, rfl, rfl⟩ dX0_as_60)
  have n1 := wx_ne c1 (k := 1) (by decide)
  have n2 := wx_ne c2 (k := 2) (by decide)
  have n3 := wx_ne c3 (k := 3) (by decide)
  have n4 := wx_ne c4 (k := 4) (by decide)
  have n5 := wx_ne c5 (k := 5) (by decide)
  refine lv_tableOut (tgt := 61) hx hb dX0_as_1 (by omega) (by decide) ?_
  refine lv_aload_n hx hb dX0_as_61 rfl (lv_at hl 0 rfl) ?_
  refine W.widen (k := 3) (n := 1210) (by decide) (by decide) ?_
  exact W.mono (fun t h => wx_QX.of h) (wx_aret C hr (Or.inl ⟨_, rfl⟩) hlocks w ⟨by simp [q_und, c1, c2, c3, c4, c5], rfl, rfl⟩ dX0_as_62)

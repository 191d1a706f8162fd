/-! sheet, cell (mine; printed by gen/sheets3.py) -/
set_option maxRecDepth 100000
theorem cw_out {γ : wx_G} {o : Nat} {ad : Nat → Nat} {f : xF} {g : xG} {N ρ : va_W} : List.Perm (cw γ o ad f g (N ++ ρ)) (N ++ cw γ o ad f g ρ) := by
  unfold cw
  rw [← List.cons_append, ← List.cons_append]
  exact List.perm_append_comm_assoc _ _ _
theorem sh_head {γ : wx_G} {o : Nat} {ad sa : Nat → Nat} {σ : Nat → xS} {f : xF} {g : xG} {ρ : va_W} {j : Nat} (hj : j < 4) : List.Perm (cw γ o ad f g (shw γ ad sa σ ++ ρ)) (shc γ sa σ j ++ cw γ o ad f g (shr γ ad sa σ j ++ ρ)) := by
  refine (cw_perm (List.Perm.append_right ρ (sh_at hj))).trans ?_
  rw [List.append_assoc]
  exact cw_out
/-- an exception is caught -/
theorem wx_exc {p : Program} {l : Launch} {e : Env} {R : Room} {s : State} {m : MethodId} {as : Array Value} {below : List Frame} {meth : Method} {c : Code} {H : Heap} {locs : List Loc} {cells slots : Nat} {Q : State → Prop} {cc : ByteArray} {nL pc : Nat} {ls : Array Slot} {γ : wx_G} {A : Nat → Prop} {x ci h : Nat} {ws : va_W} {Cn : String} {hh : List (Nat × Nat × Nat × Nat)} {st : List Value} (C : CallFix p m c cc nL s as lw_all RX0) (K : wx_C γ A s) (w : wx_w γ A s H locs ((x, .inr (ci, [])) :: ws)) (hcl : wx_cl[ci]? = some (Cn, TX1, 0)) (htab : c.exceptionTable.toList.map (fun h => (h.startPc, h.endPc, h.handlerPc, h.catchType)) = hh) (hit : wx_hitH s as RX0 (γ.1.1 ci) pc h hh) (k : W p l e R s m as below meth c H locs cells slots Q (F0 m h ls [.ref x])) : WT p l e R s m as below meth c H locs cells slots Q (F0 m pc ls st) x := by
  obtain ⟨r, h1, cell, q1, q2, q3, q4⟩ := w.1 0 _ rfl
  obtain ⟨hS, hfc, kC, hkC, hkind⟩ := K.1.1.1 ci _ hcl
  refine wx_caught (own := RX0) (h := h) C.2.2.2.1 rfl q1 (by rw [q3]; rfl) ⟨kC, by rw [q2]; exact hkC⟩ (wx_hit_of _ _ htab (by rw [q2]; exact hit)) ?_
  exact W.eq (g2 := F0 m h ls [.ref x]) rfl k
theorem c_shp {p : Program} {l : Launch} {e : Env} {R : Room} {s : State} {m : MethodId} {as : Array Value} {below : List Frame} {meth : Method} {c : Code} {H : Heap} {locs : List Loc} {cells slots : Nat} {Q : State → Prop} {cc : ByteArray} {nL pc : Nat} {ls : Array Slot} {rest : List Value} {γ : wx_G} {A : Nat → Prop} {u v : Value} {a : Nat} {ws : va_W} (G : cx_ok γ) (C : CallFix p m c cc nL s as lw_all RX0) (K : wx_C γ A s) (w : wx_w γ A s H locs ((a, .inr (12, [u])) :: ws)) (hv : v = .null ∨ ∃ b, v = .ref b) (d : decode cc pc = .ok (.putfield 496, 3)) (kk : ∀ (H : Heap) (locs : List Loc), wx_w γ A s H locs ((a, .inr (12, [v])) :: ws) → W p l e R s m as below meth c H locs cells slots Q (F0 m (pc + 3) ls rest)) : W p l e R s m as below meth c H locs cells slots Q (F0 m pc ls (v :: .ref a :: rest)) := by
  have he : ((a, .inr (12, [u])) :: ws : va_W)[0]? = some (a, .inr (12, [u])) := rfl
  refine va_putN (ci := 12) (C := RX2) (T := TX2) (N := 1) (ty := .object "java/lang/Object") C.1 C.2.1 C.2.2.2.2 in_X2 tyX2 tyX2_ok (by decide +kernel) C.2.2.2.1 K.1.1 w.1 w.2.1 w.2.2 0 he rfl 0 (by decide) (wx_nw G K q749) (fun _ h => h) rfl (by decide +kernel) ?_ ?_ Nat.zero_lt_one d (fun H1 locs1 hP hD hS => kk H1 locs1 ⟨hP, hD, hS⟩)
  · rcases hv with rfl | ⟨b, rfl⟩ <;> rfl
  · rcases hv with rfl | ⟨b, rfl⟩ <;> rfl
/-- what sheet(..) does: its answer; none: nothing, else the new row (none: null) -/
abbrev xA : Type := Int32 × Option (Option (Nat × Nat))
def q_sheet (f : xF) (g : xG) (i sort n : Int32) : Option xA := (pX0_isSheet f g i).bind (fun b => if b = 0 then some (-2, none) else (pX0_in f g sort.toInt64 (-1) 2).bind (fun b2 => if b2 = 0 then some (-2, none) else if sort = -1 then (if gin i 4 = true then some (1, some none) else none) else if n ≤ 40 then (if gin i 4 = true then (if n < 0 then some (-14, none) else some (1, some (some (srt sort, n.toNatClampNeg)))) else none) else some (-2, none)))
def q_sig (σ : Nat → xS) (i : Nat) (act : Option (Option (Nat × Nat))) (b : Nat) : Nat → xS := match act with
  | none => σ
  | some none => va_up σ i none
  | some (some x) => va_up σ i (some (b, x.1, x.2, fun _ => 0))
abbrev rmY : Room := { frames := 15, cells := 6, slots := 2420, locals := 10600 }
theorem mX0_sheet {l : Launch} {γ : wx_G} {o : Nat} {ad sa : Nat → Nat} {σ : Nat → xS} {f : xF} {g : xG} {ρ : va_W} {i sort n : Int32} {z : xA} (XO : ex_ok γ l) (G : cx_ok γ) (hF : q_sheet f g i sort n = some z) : wx_M γ l yX0_sheet (wsW_ yX0_sheet cX0_sheet 5 (some .int) [(52, 67, 68, 504)]) { frames := 14, cells := 3, slots := 1210, locals := 10500 } [.ref o, .int i, .int sort, .int n] (cw γ o ad f g (shw γ ad sa σ ++ ρ)) (fun v ws => v = some (.int z.1) ∧ ∃ b : Nat, ws = cw γ o ad f g (shw γ ad sa (q_sig σ i.toNatClampNeg z.2 b) ++ ρ)) 3 1210 := by
  unfold q_sheet at hF
  obtain ⟨b0, hr0, hF⟩ := obd hF
  refine wx_MH.of (by decide) (Nat.le_of_ble_eq_true rfl) ?_
  intro p e s m as below meth c A ls C K w hr hlocks htab hl
  have hx := C.1
  have hb := C.2.1
  refine lv_iload_n hx hb dX0_sheet_0 rfl (lv_at hl 1 rfl) ?_
  refine rX0_isSheet G C K w hr0 hl.1 ⟨Nat.le_of_ble_eq_true rfl, Nat.le_of_ble_eq_true rfl⟩ (Nat.le_of_ble_eq_true rfl) dX0_sheet_1 (fun H locs w => ?_) ⟨Nat.le_of_ble_eq_true rfl, Nat.le_of_ble_eq_true rfl⟩
  refine lv_if_eq (tgt := 32) hx hb dX0_sheet_4 (by decide) (fun c => ?_) (fun c => ?_)
  · have hF := Option.some.inj ((if_pos c).symm.trans hF)
    subst hF
    refine lv_bipush (v := (-2 : Int32)) hx hb dX0_sheet_32 (by decide) ?_
    refine W.widen (k := 3) (n := 1210) (by decide) (by decide) ?_
    exact wx_iret C hr hlocks w ⟨rfl, 0, rfl⟩ dX0_sheet_34
  have hF := (if_neg c).symm.trans hF
  obtain ⟨b1, hr1, hF⟩ := obd hF
  refine lv_iload_n hx hb dX0_sheet_7 rfl (lv_at hl 2 rfl) ?_
  refine lv_i2l hx hb dX0_sheet_8 rfl ?_
  refine lv_ldc2 (v := (-1 : Int64)) hx hb C.2.2.2.1 (C.2.2.2.2 _ q1196) dX0_sheet_9 ?_
  refine lv_ldc2 (v := (2 : Int64)) hx hb C.2.2.2.1 (C.2.2.2.2 _ q274) dX0_sheet_12 ?_
  refine rX0_in G C K w hr1 hl.1 ⟨Nat.le_of_ble_eq_true rfl, Nat.le_of_ble_eq_true rfl⟩ (Nat.le_of_ble_eq_true rfl) dX0_sheet_15 (fun H locs w => ?_) ⟨Nat.le_of_ble_eq_true rfl, Nat.le_of_ble_eq_true rfl⟩
  refine lv_if_eq (tgt := 32) hx hb dX0_sheet_18 (by decide) (fun c => ?_) (fun c => ?_)
  · have hF := Option.some.inj ((if_pos c).symm.trans hF)
    subst hF
    refine lv_bipush (v := (-2 : Int32)) hx hb dX0_sheet_32 (by decide) ?_
    refine W.widen (k := 3) (n := 1210) (by decide) (by decide) ?_
    exact wx_iret C hr hlocks w ⟨rfl, 0, rfl⟩ dX0_sheet_34
  have hF := (if_neg c).symm.trans hF
  refine lv_iload_n hx hb dX0_sheet_21 rfl (lv_at hl 2 rfl) ?_
  refine lv_iconst (v := (-1 : Int32)) hx hb dX0_sheet_22 (by decide) ?_
  refine lv_icmp_eq (tgt := 35) hx hb dX0_sheet_23 (by decide) (fun c1 => ?_) (fun c1 => ?_)
  · have hF := (if_pos c1).symm.trans hF
    obtain ⟨hi, hF⟩ := gin_if hF
    have hj : i.toNatClampNeg < 4 := Nat.not_le.mp fun q => hi (Or.inr q)
    have hF := Option.some.inj hF
    subst hF
    refine lv_iload_n hx hb dX0_sheet_35 rfl (lv_at hl 2 rfl) ?_
    refine lv_iconst (v := (-1 : Int32)) hx hb dX0_sheet_36 (by decide) ?_
    refine lv_icmp_ne (tgt := 52) hx hb dX0_sheet_37 (by decide) (fun c2 => absurd c1 c2) (fun c2 => ?_)
    refine lv_aload_n hx hb dX0_sheet_40 rfl (lv_at hl 0 rfl) ?_
    refine cget_48 C K w dX0_sheet_41 ?_
    refine lv_iload_n hx hb dX0_sheet_44 rfl (lv_at hl 1 rfl) ?_
    refine c_shs C K w hi dX0_sheet_45 ?_
    refine lv_null hx hb dX0_sheet_46 ?_
    have w := w.perm (sh_head hj)
    refine c_shp G C K w (Or.inl rfl) dX0_sheet_47 (fun H locs w => ?_)
    have w := (w.perm List.perm_middle.symm).drop
    have w : wx_w γ A s H locs (shc γ sa (va_up σ i.toNatClampNeg none) i.toNatClampNeg ++ cw γ o ad f g (shr γ ad sa (va_up σ i.toNatClampNeg none) i.toNatClampNeg ++ ρ)) := by
      rw [sh_up, show shc γ sa (va_up σ i.toNatClampNeg none) i.toNatClampNeg = [(sa i.toNatClampNeg, .inr (12, [.null]))] from by simp [shc, va_up, sr_v, rowc]]
      exact w
    have w := w.perm (sh_head hj).symm
    refine lv_iconst (v := (1 : Int32)) hx hb dX0_sheet_50 (by decide) ?_
    refine W.widen (k := 3) (n := 1210) (by decide) (by decide) ?_
    exact wx_iret C hr hlocks w ⟨rfl, 0, rfl⟩ dX0_sheet_51
  have hF := (if_neg c1).symm.trans hF
  refine lv_iload_n hx hb dX0_sheet_26 rfl (lv_at hl 3 rfl) ?_
  refine lv_bipush (v := (40 : Int32)) hx hb dX0_sheet_27 (by decide) ?_
  refine lv_icmp_le (tgt := 35) hx hb dX0_sheet_29 (by decide) (fun c2 => ?_) (fun c2 => ?_)
  · have hF := (if_pos c2).symm.trans hF
    obtain ⟨hi, hF⟩ := gin_if hF
    have hj : i.toNatClampNeg < 4 := Nat.not_le.mp fun q => hi (Or.inr q)
    refine lv_iload_n hx hb dX0_sheet_35 rfl (lv_at hl 2 rfl) ?_
    refine lv_iconst (v := (-1 : Int32)) hx hb dX0_sheet_36 (by decide) ?_
    refine lv_icmp_ne (tgt := 52) hx hb dX0_sheet_37 (by decide) (fun c3 => ?_) (fun c3 => absurd c3 c1)
    refine lv_aload_n hx hb dX0_sheet_52 rfl (lv_at hl 0 rfl) ?_
    refine cget_48 C K w dX0_sheet_53 ?_
    refine lv_iload_n hx hb dX0_sheet_56 rfl (lv_at hl 1 rfl) ?_
    refine c_shs C K w hi dX0_sheet_57 ?_
    refine lv_iload_n hx hb dX0_sheet_58 rfl (lv_at hl 2 rfl) ?_
    refine lv_iload_n hx hb dX0_sheet_59 rfl (lv_at hl 3 rfl) ?_
    refine wx_callST (n := 2) C K w (mX0_rowOf (l := l) (k := sort) (n := n) XO G c2) q1197 q1198 q106 q1199 rfl rfl (by decide +kernel) rfl rfl ⟨Nat.le_of_ble_eq_true rfl, Nat.le_of_ble_eq_true rfl⟩ hl.1 (Nat.le_of_ble_eq_true rfl) ⟨Nat.le_of_ble_eq_true rfl, Nat.le_of_ble_eq_true rfl⟩ dX0_sheet_60 (fun r ws2 H1 locs1 hp w2 => ?_) (fun x ws2 H1 locs1 hp w2 => ?_)
    · obtain ⟨hn, b, rfl, rfl⟩ := hp
      have hF := Option.some.inj ((if_neg hn).symm.trans hF)
      subst hF
      have w3 := w2.perm ((List.Perm.cons _ (sh_head hj)).trans (List.Perm.swap _ _ _))
      refine c_shp G C K w3 (Or.inr ⟨b, rfl⟩) dX0_sheet_63 (fun H locs w => ?_)
      have w := (w.perm (List.perm_middle (l₁ := rowc γ (σ i.toNatClampNeg)) (a := (b, e_sr γ (srt sort) n.toNatClampNeg (fun _ => 0))) |>.symm |> List.Perm.cons _ |>.trans List.perm_middle.symm)).drop
      have w : wx_w γ A s H locs (shc γ sa (va_up σ i.toNatClampNeg (some (b, srt sort, n.toNatClampNeg, fun _ => 0))) i.toNatClampNeg ++ cw γ o ad f g (shr γ ad sa (va_up σ i.toNatClampNeg (some (b, srt sort, n.toNatClampNeg, fun _ => 0))) i.toNatClampNeg ++ ρ)) := by
        rw [sh_up, show shc γ sa (va_up σ i.toNatClampNeg (some (b, srt sort, n.toNatClampNeg, fun _ => 0))) i.toNatClampNeg = [(sa i.toNatClampNeg, .inr (12, [.ref b])), (b, e_sr γ (srt sort) n.toNatClampNeg (fun _ => 0))] from by simp [shc, va_up, sr_v, rowc]]
        exact w
      have w := w.perm (sh_head hj).symm
      refine lv_iconst (v := (1 : Int32)) hx hb dX0_sheet_66 (by decide) ?_
      refine W.widen (k := 3) (n := 1210) (by decide) (by decide) ?_
      exact wx_iret C hr hlocks w ⟨rfl, b, rfl⟩ dX0_sheet_67
    · obtain ⟨hn, rfl⟩ := hp
      have hF := Option.some.inj ((if_pos hn).symm.trans hF)
      subst hF
      refine wx_exc (Cn := "java/lang/NegativeArraySizeException") (h := 68) C K w2 rfl htab (Or.inr ⟨⟨by decide, by decide⟩, by decide, "java/lang/NegativeArraySizeException", γ.1.1 16, (K.1.1.1 16 _ rfl).2.1, C.2.2.2.2 _ q1169, Or.inl ⟨wx_self _ _, rfl⟩⟩) ?_
      have w3 := wx_w.drop (N := [(x, .inr (16, []))]) w2
      refine lv_astore (lv' := [(4, .ref x), (0, .ref o), (1, .int i), (2, .int sort), (3, .int n)]) hx hb dX0_sheet_68 hl (by decide) rfl (fun ls hl => ?_)
      refine lv_bipush (v := (-14 : Int32)) hx hb dX0_sheet_70 (by decide) ?_
      refine W.widen (k := 3) (n := 1210) (by decide) (by decide) ?_
      exact wx_iret C hr hlocks w3 ⟨rfl, 0, rfl⟩ dX0_sheet_72
  have hF := Option.some.inj ((if_neg c2).symm.trans hF)
  subst hF
  refine lv_bipush (v := (-2 : Int32)) hx hb dX0_sheet_32 (by decide) ?_
  refine W.widen (k := 3) (n := 1210) (by decide) (by decide) ?_
  exact wx_iret C hr hlocks w ⟨rfl, 0, rfl⟩ dX0_sheet_34
theorem put_v (sr : xS) (i v : Int32) : sr_v (q_put sr i v).2 = sr_v sr := by
  cases sr with
  | none => rfl
  | some x =>
    unfold q_put
    by_cases h : i < 0 ∨ Int32.ofNat x.2.2.1 ≤ i
    · simp only [h, if_true]
    · simp only [h, if_false]
      rfl
def q_cell (σ : Nat → xS) (f : xF) (g : xG) (i k v : Int32) : Option (Int32 × (Nat → xS)) := (pX0_isSheet f g i).bind (fun b => if b = 0 then some (-2, σ) else if gin i 4 = true then some (if (q_put (σ i.toNatClampNeg) k v).1 = 0 then 1 else if (q_put (σ i.toNatClampNeg) k v).1 = 14 then -11 else -12, va_up σ i.toNatClampNeg (q_put (σ i.toNatClampNeg) k v).2) else none)
theorem put_st (sr : xS) (i v : Int32) : (q_put sr i v).1 = 0 ∨ (q_put sr i v).1 = 14 ∨ (q_put sr i v).1 = 15 := by
  cases sr with
  | none => exact Or.inr (Or.inl rfl)
  | some x =>
    unfold q_put
    by_cases h : i < 0 ∨ Int32.ofNat x.2.2.1 ≤ i
    · simp [h]
    · simp [h]
theorem mX0_cell {l : Launch} {γ : wx_G} {o : Nat} {ad sa : Nat → Nat} {σ : Nat → xS} {f : xF} {g : xG} {ρ : va_W} {i k v : Int32} {z : Int32 × (Nat → xS)} (XO : ex_ok γ l) (G : cx_ok γ) (NC : nc_ok γ) (hok : sr_ok (σ i.toNatClampNeg)) (hF : q_cell σ f g i k v = some z) : wx_M γ l yX0_cell (wsW_ yX0_cell cX0_cell 5 (some .int) [(10, 24, 25, 518), (10, 24, 30, 520)]) { frames := 14, cells := 3, slots := 1210, locals := 10500 } [.ref o, .int i, .int k, .int v] (cw γ o ad f g (shw γ ad sa σ ++ ρ)) (fun r ws => r = some (.int z.1) ∧ ws = cw γ o ad f g (shw γ ad sa z.2 ++ ρ)) 3 1210 := by
  unfold q_cell at hF
  obtain ⟨b0, hr0, hF⟩ := obd hF
  refine wx_MH.of (by decide) (Nat.le_of_ble_eq_true rfl) ?_
  intro p e s m as below meth c A ls C K w hr hlocks htab hl
  have hx := C.1
  have hb := C.2.1
  refine lv_iload_n hx hb dX0_cell_0 rfl (lv_at hl 1 rfl) ?_
  refine rX0_isSheet G C K w hr0 hl.1 ⟨Nat.le_of_ble_eq_true rfl, Nat.le_of_ble_eq_true rfl⟩ (Nat.le_of_ble_eq_true rfl) dX0_cell_1 (fun H locs w => ?_) ⟨Nat.le_of_ble_eq_true rfl, Nat.le_of_ble_eq_true rfl⟩
  refine lv_if_ne (tgt := 10) hx hb dX0_cell_4 (by decide) (fun c => ?_) (fun c => ?_)
  · have hF := (if_neg c).symm.trans hF
    obtain ⟨hi, hF⟩ := gin_if hF
    have hj : i.toNatClampNeg < 4 := Nat.not_le.mp fun q => hi (Or.inr q)
    have hF := Option.some.inj hF
    refine lv_aload_n hx hb dX0_cell_10 rfl (lv_at hl 0 rfl) ?_
    refine cget_48 C K w dX0_cell_11 ?_
    refine lv_iload_n hx hb dX0_cell_14 rfl (lv_at hl 1 rfl) ?_
    refine c_shs C K w hi dX0_cell_15 ?_
    refine c_shr G C K w hj dX0_cell_16 ?_
    refine lv_iload_n hx hb dX0_cell_19 rfl (lv_at hl 2 rfl) ?_
    refine lv_iload_n hx hb dX0_cell_20 rfl (lv_at hl 3 rfl) ?_
    have w := (w.perm (sh_head hj)).perm List.perm_middle.symm
    have back : ∀ (H : Heap) (locs : List Loc), wx_w γ A s H locs (rowc γ (q_put (σ i.toNatClampNeg) k v).2 ++ (sa i.toNatClampNeg, .inr (12, [sr_v (σ i.toNatClampNeg)])) :: cw γ o ad f g (shr γ ad sa σ i.toNatClampNeg ++ ρ)) → wx_w γ A s H locs (cw γ o ad f g (shw γ ad sa (va_up σ i.toNatClampNeg (q_put (σ i.toNatClampNeg) k v).2) ++ ρ)) := by
      intro H locs w
      have w := w.perm List.perm_middle
      refine wx_w.perm ?_ (sh_head hj).symm
      rw [sh_up, show shc γ sa (va_up σ i.toNatClampNeg (q_put (σ i.toNatClampNeg) k v).2) i.toNatClampNeg = (sa i.toNatClampNeg, .inr (12, [sr_v (σ i.toNatClampNeg)])) :: rowc γ (q_put (σ i.toNatClampNeg) k v).2 from by simp [shc, va_up, put_v]]
      exact w
    have hno : ∀ (H : Heap) (locs : List Loc) (x : Nat) (y : va_W), wx_w γ A s H locs ((x, .inr ((q_put (σ i.toNatClampNeg) k v).1, [])) :: y) → wx_w γ A s H locs y := fun H locs x y w => wx_w.drop (N := [(x, .inr ((q_put (σ i.toNatClampNeg) k v).1, []))]) w
    refine wx_callST (n := 3) C K w (mX0_put (l := l) (i := k) (v := v) XO G NC hok) q1242 q1243 q106 q1244 rfl rfl (by decide +kernel) rfl (by rfl) ⟨Nat.le_of_ble_eq_true rfl, Nat.le_of_ble_eq_true rfl⟩ hl.1 (Nat.le_of_ble_eq_true rfl) ⟨Nat.le_of_ble_eq_true rfl, Nat.le_of_ble_eq_true rfl⟩ dX0_cell_21 (fun r ws2 H1 locs1 hp w2 => ?_) (fun x ws2 H1 locs1 hp w2 => ?_)
    · obtain ⟨h0, rfl, rfl⟩ := hp
      rw [if_pos h0] at hF
      subst hF
      exact wx_iret C hr hlocks (back _ _ w2) ⟨rfl, rfl⟩ dX0_cell_24
    · obtain ⟨h0, rfl⟩ := hp
      rw [if_neg h0] at hF
      rcases put_st (σ i.toNatClampNeg) k v with h1 | h1 | h1
      · exact absurd h1 h0
      · rw [if_pos h1] at hF
        subst hF
        have w3 := w2
        rw [h1] at w3
        refine wx_exc (Cn := "java/lang/NullPointerException") (ci := 14) (h := 25) C K w3 rfl htab (Or.inr ⟨⟨by decide, by decide⟩, by decide, "java/lang/NullPointerException", γ.1.1 14, (K.1.1.1 14 _ rfl).2.1, C.2.2.2.2 _ q1205, Or.inl ⟨wx_self _ _, rfl⟩⟩) ?_
        refine lv_astore (lv' := [(4, .ref x), (0, .ref o), (1, .int i), (2, .int k), (3, .int v)]) hx hb dX0_cell_25 hl (by decide) rfl (fun ls hl => ?_)
        refine lv_bipush (v := (-11 : Int32)) hx hb dX0_cell_27 (by decide) ?_
        exact wx_iret C hr hlocks (back _ _ (hno _ _ _ _ w2)) ⟨rfl, rfl⟩ dX0_cell_29
      · rw [if_neg (by rw [h1]; decide)] at hF
        subst hF
        have w3 := w2
        rw [h1] at w3
        refine wx_exc (Cn := "java/lang/IndexOutOfBoundsException") (ci := 15) (h := 30) C K w3 rfl htab (Or.inr ⟨⟨by decide, by decide⟩, by decide, "java/lang/NullPointerException", γ.1.1 14, (K.1.1.1 14 _ rfl).2.1, C.2.2.2.2 _ q1205, Or.inr ⟨nc_use NC K (X := "java/lang/IndexOutOfBoundsException") (Y := "java/lang/NullPointerException") (by decide) (K.1.1.1 15 _ rfl).2.1 (K.1.1.1 14 _ rfl).2.1, Or.inr ⟨⟨by decide, by decide⟩, by decide, "java/lang/IndexOutOfBoundsException", γ.1.1 15, (K.1.1.1 15 _ rfl).2.1, C.2.2.2.2 _ q1112, Or.inl ⟨wx_self _ _, rfl⟩⟩⟩⟩) ?_
        refine lv_astore (lv' := [(4, .ref x), (0, .ref o), (1, .int i), (2, .int k), (3, .int v)]) hx hb dX0_cell_30 hl (by decide) rfl (fun ls hl => ?_)
        refine lv_bipush (v := (-12 : Int32)) hx hb dX0_cell_32 (by decide) ?_
        exact wx_iret C hr hlocks (back _ _ (hno _ _ _ _ w2)) ⟨rfl, rfl⟩ dX0_cell_34
  · have hF := Option.some.inj ((if_pos c).symm.trans hF)
    subst hF
    refine lv_bipush (v := (-2 : Int32)) hx hb dX0_cell_7 (by decide) ?_
    refine W.widen (k := 3) (n := 1210) (by decide) (by decide) ?_
    exact wx_iret C hr hlocks w ⟨rfl, rfl⟩ dX0_cell_9

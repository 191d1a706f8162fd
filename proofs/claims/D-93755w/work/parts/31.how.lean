/-! how(kind, number) (mine; printed by gen/how.py) -/
set_option maxRecDepth 100000
def hadd (η : cx_H) (q k : Nat) (n : Int32) : cx_H := (η.1 + 1, va_up η.2.1 η.1 q, va_up η.2.2.1 η.1 k, va_up η.2.2.2 η.1 n)
theorem hadd_hc {o : Nat} {η : cx_H} {q k : Nat} {n : Int32} : (List.range (η.1 + 1)).map (hc o (hadd η q k n)) = (List.range η.1).map (hc o η) ++ [(q, .inr (2 + k, hfs o k n))] := by
  rw [List.range_succ, List.map_append]
  congr 1
  · refine List.map_congr_left (fun j hj => ?_)
    have hj : j ≠ η.1 := Nat.ne_of_lt (List.mem_range.mp hj)
    simp [hc, hadd, va_up, hj]
  · simp [hc, hadd, va_up]
theorem hadd_harr {η : cx_H} {q k : Nat} {n : Int32} : va_up (harr η) η.1 (some q) = harr (hadd η q k n) := by
  funext j
  unfold va_up harr hadd
  by_cases h : j = η.1
  · simp [h, va_up]
  · by_cases h2 : j < η.1
    · have h3 : j < η.1 + 1 := by omega
      simp [h, h2, h3, va_up]
    · have h3 : ¬ j < η.1 + 1 := by omega
      simp [h, h2, h3]
/-- the new how's cell goes to its place -/
theorem hadd_perm {γ : wx_G} {o : Nat} {ad : Nat → Nat} {f : xF} {g : xG} {η : cx_H} {τ : va_W} {q k : Nat} {n : Int32} : List.Perm (((q, .inr (2 + k, hfs o k n)) :: cw γ o ad f g (hr γ o ad η ++ τ) : va_W).set 21 (ad 8, .inl (γ.2.1 3, 8, .inr (.inr (.inr (.inr (va_up (harr η) η.1 (some q)))))))) (cw γ o ad f g (hr γ o ad (hadd η q k n) ++ τ)) := by
  have e1 : (((q, .inr (2 + k, hfs o k n)) :: cw γ o ad f g (hr γ o ad η ++ τ) : va_W).set 21 (ad 8, .inl (γ.2.1 3, 8, .inr (.inr (.inr (.inr (va_up (harr η) η.1 (some q)))))))) = (q, .inr (2 + k, hfs o k n)) :: (((o, .inr (1, (List.range 49).map (cw_v ad f))) :: (cw_al.map (cw_a γ ad g) ++ ((ad 8, .inl (γ.2.1 3, 8, .inr (.inr (.inr (.inr (harr (hadd η q k n))))))) :: (List.range η.1).map (hc o η)))) ++ τ) := by
    rw [hadd_harr (k := k) (n := n)]
    simp only [cw, hr, cw_al, List.map_cons, List.map_nil, List.cons_append, List.nil_append, List.set_cons_succ, List.set_cons_zero]
  have e2 : cw γ o ad f g (hr γ o ad (hadd η q k n) ++ τ) = ((o, .inr (1, (List.range 49).map (cw_v ad f))) :: (cw_al.map (cw_a γ ad g) ++ ((ad 8, .inl (γ.2.1 3, 8, .inr (.inr (.inr (.inr (harr (hadd η q k n))))))) :: (List.range η.1).map (hc o η)))) ++ (q, .inr (2 + k, hfs o k n)) :: τ := by
    have h1 : (hadd η q k n).1 = η.1 + 1 := rfl
    unfold cw hr
    rw [h1, hadd_hc]
    simp only [List.cons_append, List.append_assoc, List.nil_append]
  rw [e1, e2]
  exact List.perm_middle.symm
abbrev rmX0_how : Room := { frames := 6, cells := 1, slots := 5, locals := 300 }
theorem c_sthow {p : Program} {l : Launch} {e : Env} {R : Room} {s : State} {m : MethodId} {as : Array Value} {below : List Frame} {meth : Method} {c : Code} {H : Heap} {locs : List Loc} {cells slots : Nat} {Q : State → Prop} {cc : ByteArray} {nL pc : Nat} {ls : Array Slot} {rest : List Value} {γ : wx_G} {A : Nat → Prop} {o : Nat} {ad : Nat → Nat} {f : xF} {g : xG} {η : cx_H} {τ : va_W} {i n : Int32} {q k : Nat} (G : cx_ok γ) (C : CallFix p m c cc nL s as lw_all RX0) (K : wx_C γ A s) (hk : k < 6) (w : wx_w γ A s H locs ((q, .inr (2 + k, hfs o k n)) :: cw γ o ad f g (hr γ o ad η ++ τ))) (hi : vp_in i 8) (hin : i.toNatClampNeg = η.1) (d : decode cc pc = .ok (.aastore, 1)) (kk : ∀ (H : Heap) (locs : List Loc), wx_w γ A s H locs (cw γ o ad f g (hr γ o ad (hadd η q k n) ++ τ)) → W p l e R s m as below meth c H locs cells slots Q (F0 m (pc + 1) ls rest)) : W p l e R s m as below meth c H locs cells slots Q (F0 m pc ls (.ref q :: .int i :: .ref (ad 8) :: rest)) := by
  have ha : ((q, .inr (2 + k, hfs o k n)) :: cw γ o ad f g (hr γ o ad η ++ τ) : va_W)[21]? = some (ad 8, .inl (γ.2.1 3, 8, .inr (.inr (.inr (.inr (harr η)))))) := rfl
  have hv : ((q, .inr (2 + k, hfs o k n)) :: cw γ o ad f g (hr γ o ad η ++ τ) : va_W)[0]? = some (q, .inr (2 + k, hfs o k n)) := rfl
  obtain ⟨as0, h0⟩ := G.1
  have fin : ∀ (H1 : Heap) (locs1 : List Loc), va_P γ.1 wx_cl (((q, .inr (2 + k, hfs o k n)) :: cw γ o ad f g (hr γ o ad η ++ τ) : va_W).set 21 (ad 8, .inl (γ.2.1 3, 8, .inr (.inr (.inr (.inr (va_up (harr η) i.toNatClampNeg (some q)))))))) H1 → va_D A (((q, .inr (2 + k, hfs o k n)) :: cw γ o ad f g (hr γ o ad η ++ τ) : va_W).set 21 (ad 8, .inl (γ.2.1 3, 8, .inr (.inr (.inr (.inr (va_up (harr η) i.toNatClampNeg (some q)))))))) → va_S A s.heap H1 locs1 → W p l e R s m as below meth c H1 locs1 cells slots Q (F0 m (pc + 1) ls rest) := by
    intro H1 locs1 hP hD hS
    rw [hin] at hP hD
    exact kk H1 locs1 (wx_w.perm ⟨hP, hD, hS⟩ hadd_perm)
  rcases (show k = 0 ∨ k = 1 ∨ k = 2 ∨ k = 3 ∨ k = 4 ∨ k = 5 by omega) with rfl | rfl | rfl | rfl | rfl | rfl
  · exact va_astq (r := (RX9, TX9, 2)) C.1 C.2.1 K.1.1 w.1 w.2.1 w.2.2 21 3 0 2 ha rfl hv rfl hi d fin
  · exact va_astqO (r := (RX10, TX10, 3)) (E := "WalkingStones$How") C.1 C.2.1 K.1.1 w.1 w.2.1 w.2.2 21 3 0 3 ha rfl (va_Nw.warmC K.1.2 (va_Nw.of rfl (h0 _ q1839))) hv rfl hi d fin
  · exact va_astqO (r := (RX11, TX11, 4)) (E := "WalkingStones$How") C.1 C.2.1 K.1.1 w.1 w.2.1 w.2.2 21 3 0 4 ha rfl (va_Nw.warmC K.1.2 (va_Nw.of rfl (h0 _ q1840))) hv rfl hi d fin
  · exact va_astqO (r := (RX12, TX12, 5)) (E := "WalkingStones$How") C.1 C.2.1 K.1.1 w.1 w.2.1 w.2.2 21 3 0 5 ha rfl (va_Nw.warmC K.1.2 (va_Nw.of rfl (h0 _ q1841))) hv rfl hi d fin
  · exact va_astqO (r := (RX13, TX13, 5)) (E := "WalkingStones$How") C.1 C.2.1 K.1.1 w.1 w.2.1 w.2.2 21 3 0 6 ha rfl (va_Nw.warmC K.1.2 (va_Nw.of rfl (h0 _ q1842))) hv rfl hi d fin
  · exact va_astqO (r := (RX14, TX14, 3)) (E := "WalkingStones$How") C.1 C.2.1 K.1.1 w.1 w.2.1 w.2.2 21 3 0 7 ha rfl (va_Nw.warmC K.1.2 (va_Nw.of rfl (h0 _ q1843))) hv rfl hi d fin
theorem mk_k_lt (k : Int32) : mk_k k < 6 := by
  unfold mk_k
  split
  · omega
  · split
    · omega
    · split
      · omega
      · split
        · omega
        · split <;> omega
/-- how: r1, r2: whether kind and number lie in their ranges -/
theorem mX0_how {l : Launch} {γ : wx_G} {o : Nat} {ad : Nat → Nat} {η : cx_H} {τ : va_W} {f : xF} {g : xG} {v1 v2 r1 r2 : Int32} (G : cx_ok γ) (h1 : pX0_in f g v1.toInt64 (0 : Int64) (5 : Int64) = some r1) (h2 : pX0_in f g v2.toInt64 (0 : Int64) (20 : Int64) = some r2) (hn : f 9 = nI η.1) (hn8 : η.1 ≤ 8) : wx_M γ l yX0_how (ws_ yX0_how cX0_how 3 (some .int)) rmX0_how [.ref o, .int v1, .int v2] (cw γ o ad f g (hr γ o ad η ++ τ)) (fun v ws => ((r1 = 0 ∨ r2 = 0) ∧ v = some (.int (-2)) ∧ ws = cw γ o ad f g (hr γ o ad η ++ τ)) ∨ (¬ r1 = 0 ∧ ¬ r2 = 0 ∧ f 9 = 8 ∧ v = some (.int (-4)) ∧ ws = cw γ o ad f g (hr γ o ad η ++ τ)) ∨ (¬ r1 = 0 ∧ ¬ r2 = 0 ∧ ¬ f 9 = 8 ∧ v = some (.int (f 9 + 1 - 1)) ∧ ∃ q : Nat, ws = cw γ o ad (upd f 9 (f 9 + 1)) g (hr γ o ad (hadd η q (mk_k v1) v2) ++ τ))) 1 5 := by
  refine wx_M.of (by decide) (Nat.le_of_ble_eq_true rfl) ?_
  intro p e s m as below meth c A ls C K w hret hlocks _ hl
  have hx := C.1
  have hb := C.2.1
  refine lv_iload_n hx hb dX0_how_0 rfl (lv_at hl 1 rfl) ?_
  refine lv_i2l hx hb dX0_how_1 rfl ?_
  refine lv_lconst (v := (0 : Int64)) hx hb dX0_how_2 (by decide) ?_
  refine lv_ldc2 (v := (5 : Int64)) hx hb C.2.2.2.1 (C.2.2.2.2 _ q169) dX0_how_3 ?_
  refine rX0_in G C K w h1 hl.1 ⟨Nat.le_of_ble_eq_true rfl, Nat.le_of_ble_eq_true rfl⟩ (Nat.le_of_ble_eq_true rfl) dX0_how_6 (fun H locs w => ?_)
  refine lv_if_eq (tgt := 24) hx hb dX0_how_9 (by decide) (fun c1 => ?_) (fun c1 => ?_)
  · refine lv_bipush (v := (-2 : Int32)) hx hb dX0_how_24 (by decide) ?_
    refine W.widen (k := 1) (n := 5) (Nat.le_of_ble_eq_true rfl) (Nat.le_of_ble_eq_true rfl) ?_
    exact wx_iret C hret hlocks w (Or.inl ⟨Or.inl c1, rfl, rfl⟩) dX0_how_26
  · refine lv_iload_n hx hb dX0_how_12 rfl (lv_at hl 2 rfl) ?_
    refine lv_i2l hx hb dX0_how_13 rfl ?_
    refine lv_lconst (v := (0 : Int64)) hx hb dX0_how_14 (by decide) ?_
    refine lv_ldc2 (v := (20 : Int64)) hx hb C.2.2.2.1 (C.2.2.2.2 _ q170) dX0_how_15 ?_
    refine rX0_in G C K w h2 hl.1 ⟨Nat.le_of_ble_eq_true rfl, Nat.le_of_ble_eq_true rfl⟩ (Nat.le_of_ble_eq_true rfl) dX0_how_18 (fun H locs w => ?_)
    refine lv_if_ne (tgt := 27) hx hb dX0_how_21 (by decide) (fun c2 => ?_) (fun c2 => ?_)
    · refine lv_aload_n hx hb dX0_how_27 rfl (lv_at hl 0 rfl) ?_
      refine cget_9 C K w dX0_how_28 ?_
      refine lv_bipush (v := (8 : Int32)) hx hb dX0_how_31 (by decide) ?_
      refine lv_icmp_ne (tgt := 39) hx hb dX0_how_33 (by decide) (fun c3 => ?_) (fun c3 => ?_)
      · have hlt : η.1 < 8 := by
          rcases Nat.lt_or_ge η.1 8 with h | h
          · exact h
          · exact absurd (by rw [hn, show η.1 = 8 by omega]; rfl) c3
        refine lv_aload_n hx hb dX0_how_39 rfl (lv_at hl 0 rfl) ?_
        refine cget_8 C K w dX0_how_40 ?_
        refine lv_aload_n hx hb dX0_how_43 rfl (lv_at hl 0 rfl) ?_
        refine cget_9 C K w dX0_how_44 ?_
        refine lv_aload_n hx hb dX0_how_47 rfl (lv_at hl 0 rfl) ?_
        refine lv_iload_n hx hb dX0_how_48 rfl (lv_at hl 1 rfl) ?_
        refine lv_iload_n hx hb dX0_how_49 rfl (lv_at hl 2 rfl) ?_
        refine wx_callV (n := 2) C K w (mX0_made (l := l) (v1 := v1) (v2 := v2)) q171 q173 qs2 q106 q174 rfl rfl (by decide +kernel) (va_recv K.1.1 w.1 (ci := 1) (q0 := 0) rfl rfl) rfl rfl ⟨Nat.le_of_ble_eq_true rfl, Nat.le_of_ble_eq_true rfl⟩ hl.1 (Nat.le_of_ble_eq_true rfl) ⟨Nat.le_of_ble_eq_true rfl, Nat.le_of_ble_eq_true rfl⟩ dX0_how_50 (fun v ws H locs hp w => ?_)
        obtain ⟨q, rfl, rfl⟩ := hp
        refine c_sthow G C K (mk_k_lt v1) w (by rw [hn]; exact vp_in_nI hlt (by decide)) (by rw [hn]; exact nI_clamp (by omega)) dX0_how_53 (fun H locs w => ?_)
        refine lv_aload_n hx hb dX0_how_54 rfl (lv_at hl 0 rfl) ?_
        refine lv_dup hx hb dX0_how_55 rfl ?_
        refine cget_9 C K w dX0_how_56 ?_
        refine lv_iconst (v := (1 : Int32)) hx hb dX0_how_59 (by decide) ?_
        refine lv_iadd hx hb dX0_how_60 ?_
        refine cput_9 C K w dX0_how_61 (fun H locs w => ?_)
        refine lv_aload_n hx hb dX0_how_64 rfl (lv_at hl 0 rfl) ?_
        refine cget_9 C K w dX0_how_65 ?_
        refine lv_iconst (v := (1 : Int32)) hx hb dX0_how_68 (by decide) ?_
        refine lv_isub hx hb dX0_how_69 ?_
        exact wx_iret C hret hlocks w (Or.inr (Or.inr ⟨c1, c2, c3, rfl, q, rfl⟩)) dX0_how_70
      · refine lv_bipush (v := (-4 : Int32)) hx hb dX0_how_36 (by decide) ?_
        refine W.widen (k := 1) (n := 5) (Nat.le_of_ble_eq_true rfl) (Nat.le_of_ble_eq_true rfl) ?_
        exact wx_iret C hret hlocks w (Or.inr (Or.inl ⟨c1, c2, c3, rfl, rfl⟩)) dX0_how_38
    · refine lv_bipush (v := (-2 : Int32)) hx hb dX0_how_24 (by decide) ?_
      refine W.widen (k := 1) (n := 5) (Nat.le_of_ble_eq_true rfl) (Nat.le_of_ble_eq_true rfl) ?_
      exact wx_iret C hret hlocks w (Or.inl ⟨Or.inr c2, rfl, rfl⟩) dX0_how_26

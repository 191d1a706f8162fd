/-! FAULTY'S AND SHEET'S CONSTRUCTORS (mine; printed by gen/faulty.py) -/
set_option maxRecDepth 100000
theorem ft_put {p : Program} {l : Launch} {e : Env} {R : Room} {s : State} {m : MethodId} {as : Array Value} {below : List Frame} {meth : Method} {c : Code} {H : Heap} {locs : List Loc} {cells slots : Nat} {Q : State → Prop} {cc : ByteArray} {nL pc : Nat} {ls : Array Slot} {rest : List Value} {γ : wx_G} {A : Nat → Prop} {h k idx : Nat} {fs : List Value} {ws0 : va_W} {v : Value} {ty : FieldType} (C : CallFix p m c cc nL s as lw_all "java/lang/Throwable") (K : wx_C γ A s) (w : wx_w γ A s H locs ((h, .inr (13, fs)) :: ws0)) (hl : fs.length = 6) (hk : k < 6) (q : Cond.fieldLink "java/lang/Throwable" idx (TX1 k).1 (TX1 k).2.1 (TX1 k).2.2.1 ∈ lw_all) (hfin : (TX1 k).2.2.2 = false) (hd : parseFieldDescriptor (TX1 k).2.2.1 = some ty) (hn : narrow ty v = v) (hfit : fits ty v = true) (d : decode cc pc = .ok (.putfield idx, 3)) (kk : ∀ (H : Heap) (locs : List Loc), wx_w γ A s H locs ((h, .inr (13, fs.set k v)) :: ws0) → W p l e R s m as below meth c H locs cells slots Q (F0 m (pc + 3) ls rest)) : W p l e R s m as below meth c H locs cells slots Q (F0 m pc ls (v :: .ref h :: rest)) := by
  have he : ((h, .inr (13, fs)) :: ws0 : va_W)[0]? = some (h, .inr (13, fs)) := rfl
  exact va_put (ci := 13) (C := RX1) (T := TX1) (N := 6) C.1 C.2.1 C.2.2.2.2 in_X1 tyX1 tyX1_ok (by decide +kernel) C.2.2.2.1 K.1.1 w.1 w.2.1 w.2.2 0 he rfl k hk (C.2.2.2.2 _ q) (fun _ h => h) hfin hd hn hfit (by rw [hl]; exact hk) d (fun H1 locs1 hP hD hS => kk H1 locs1 ⟨hP, hD, hS⟩)
def ftP (h : Nat) (ws0 : va_W) (v : Option Value) (ws : va_W) : Prop := v = none ∧ ∃ fs2 : List Value, ws = (h, .inr (13, fs2)) :: ws0
theorem mJ0_init4 {l : Launch} {γ : wx_G} {h : Nat} {fs : List Value} {ws0 : va_W} (XO : ex_ok γ l) (hfs : fs.length = 6) : wx_M γ l yJ0_init_2 (ws_ yJ0_init_2 cJ0_init_2 5 none) { frames := 1, cells := 0, slots := 0, locals := 30 } [.ref h, .null, .null, .int 0, .int 0] ((h, .inr (13, fs)) :: ws0) (ftP h ws0) 0 0 := by
  refine wx_M.of (by decide) (Nat.le_of_ble_eq_true rfl) ?_
  intro p e s m as below meth c A ls C K w hr hlocks _ hl
  have hx := C.1
  have hb := C.2.1
  obtain ⟨u1, hZ1⟩ := XO.2.2.1
  obtain ⟨u2, hZ2⟩ := XO.2.2.2
  refine lv_aload_n hx hb dJ0_init_2_0 rfl (lv_at hl 0 rfl) ?_
  refine W.objInit hx hb C.2.2.2.1 (C.2.2.2.2 _ q668) (C.2.2.2.2 _ q184) (C.2.2.2.2 _ q185) rfl (by rw [C.2.2.1]; exact hl.1) rfl dJ0_init_2_1 (Nat.le_of_ble_eq_true rfl) (Nat.le_of_ble_eq_true rfl) ?_
  refine W.eq (g2 := F0 m 4 ls []) rfl ?_
  refine lv_aload_n hx hb dJ0_init_2_4 rfl (lv_at hl 0 rfl) ?_
  refine lv_aload_n hx hb dJ0_init_2_5 rfl (lv_at hl 0 rfl) ?_
  refine ft_put (k := 0) (ty := .object "java/lang/Throwable") C K w hfs (by decide) q714 rfl (by decide +kernel) rfl rfl dJ0_init_2_6 (fun H locs w => ?_)
  refine lv_aload_n hx hb dJ0_init_2_9 rfl (lv_at hl 0 rfl) ?_
  refine va_gets hx hb (wx_Zs K hZ1) w.2.2 C.2.2.2.1 (C.2.2.2.2 _ q669) (fun _ h => h) dJ0_init_2_10 ?_
  refine ft_put (k := 1) (ty := .array (.object "java/lang/StackTraceElement")) C K w (by rw [List.length_set, hfs]) (by decide) q715 rfl (by decide +kernel) (narrow_refV _ u1) (fits_refV_array _ u1) dJ0_init_2_13 (fun H locs w => ?_)
  refine lv_aload_n hx hb dJ0_init_2_16 rfl (lv_at hl 0 rfl) ?_
  refine va_gets hx hb (wx_Zs K hZ2) w.2.2 C.2.2.2.1 (C.2.2.2.2 _ q671) (fun _ h => h) dJ0_init_2_17 ?_
  refine ft_put (k := 2) (ty := .object "java/util/List") C K w (by rw [List.length_set, List.length_set, hfs]) (by decide) q716 rfl (by decide +kernel) (narrow_refV _ u2) (fits_refV_object _ u2) dJ0_init_2_20 (fun H locs w => ?_)
  refine lv_iload hx hb dJ0_init_2_23 (lv_at hl 4 rfl) ?_
  refine lv_if_eq (tgt := 36) hx hb dJ0_init_2_25 (by decide) (fun c => ?_) (fun c => absurd rfl c)
  refine lv_aload_n hx hb dJ0_init_2_36 rfl (lv_at hl 0 rfl) ?_
  refine lv_null hx hb dJ0_init_2_37 ?_
  refine ft_put (k := 1) (ty := .array (.object "java/lang/StackTraceElement")) C K w (by rw [List.length_set, List.length_set, List.length_set, hfs]) (by decide) q715 rfl (by decide +kernel) rfl rfl dJ0_init_2_38 (fun H locs w => ?_)
  refine lv_aload_n hx hb dJ0_init_2_41 rfl (lv_at hl 0 rfl) ?_
  refine lv_aload_nN hx hb dJ0_init_2_42 rfl (lv_at hl 1 rfl) ?_
  refine ft_put (k := 3) (ty := .object "java/lang/String") C K w (by rw [List.length_set, List.length_set, List.length_set, List.length_set, hfs]) (by decide) q713 rfl (by decide +kernel) rfl rfl dJ0_init_2_43 (fun H locs w => ?_)
  refine lv_aload_n hx hb dJ0_init_2_46 rfl (lv_at hl 0 rfl) ?_
  refine lv_aload_nN hx hb dJ0_init_2_47 rfl (lv_at hl 2 rfl) ?_
  refine ft_put (k := 0) (ty := .object "java/lang/Throwable") C K w (by rw [List.length_set, List.length_set, List.length_set, List.length_set, List.length_set, hfs]) (by decide) q714 rfl (by decide +kernel) rfl rfl dJ0_init_2_48 (fun H locs w => ?_)
  refine lv_iload_n hx hb dJ0_init_2_51 rfl (lv_at hl 3 rfl) ?_
  refine lv_if_ne (tgt := 60) hx hb dJ0_init_2_52 (by decide) (fun c => absurd rfl c) (fun c => ?_)
  refine lv_aload_n hx hb dJ0_init_2_55 rfl (lv_at hl 0 rfl) ?_
  refine lv_null hx hb dJ0_init_2_56 ?_
  refine ft_put (k := 2) (ty := .object "java/util/List") C K w (by rw [List.length_set, List.length_set, List.length_set, List.length_set, List.length_set, List.length_set, hfs]) (by decide) q716 rfl (by decide +kernel) rfl rfl dJ0_init_2_57 (fun H locs w => ?_)
  exact wx_vret C hr hlocks w ⟨rfl, _, rfl⟩ dJ0_init_2_60
theorem mJ1_init4 {l : Launch} {γ : wx_G} {h : Nat} {fs : List Value} {ws0 : va_W} (XO : ex_ok γ l) (hfs : fs.length = 6) : wx_M γ l yJ1_init (ws_ yJ1_init cJ1_init 5 none) { frames := 2, cells := 0, slots := 0, locals := 60 } [.ref h, .null, .null, .int 0, .int 0] ((h, .inr (13, fs)) :: ws0) (ftP h ws0) 0 0 := by
  refine wx_M.of (by decide) (Nat.le_of_ble_eq_true rfl) ?_
  intro p e s m as below meth c A ls C K w hr hlocks _ hl
  have hx := C.1
  have hb := C.2.1
  refine lv_aload_n hx hb dJ1_init_0 rfl (lv_at hl 0 rfl) ?_
  refine lv_aload_nN hx hb dJ1_init_1 rfl (lv_at hl 1 rfl) ?_
  refine lv_aload_nN hx hb dJ1_init_2 rfl (lv_at hl 2 rfl) ?_
  refine lv_iload_n hx hb dJ1_init_3 rfl (lv_at hl 3 rfl) ?_
  refine lv_iload hx hb dJ1_init_4 (lv_at hl 4 rfl) ?_
  refine wx_callI (n := 4) C K w (mJ0_init4 (l := l) XO hfs) q709 q710 q107 q711 rfl rfl rfl (by decide +kernel) ⟨Nat.le_of_ble_eq_true rfl, Nat.le_of_ble_eq_true rfl⟩ rfl rfl hl.1 (Nat.le_of_ble_eq_true rfl) ⟨Nat.le_of_ble_eq_true rfl, Nat.le_of_ble_eq_true rfl⟩ dJ1_init_6 (fun v ws H locs hp w => ?_)
  have hv := hp.1
  subst hv
  exact wx_vret C hr hlocks w hp dJ1_init_9
theorem mJ2_init4 {l : Launch} {γ : wx_G} {h : Nat} {fs : List Value} {ws0 : va_W} (XO : ex_ok γ l) (hfs : fs.length = 6) : wx_M γ l yJ2_init (ws_ yJ2_init cJ2_init 5 none) { frames := 3, cells := 0, slots := 0, locals := 90 } [.ref h, .null, .null, .int 0, .int 0] ((h, .inr (13, fs)) :: ws0) (ftP h ws0) 0 0 := by
  refine wx_M.of (by decide) (Nat.le_of_ble_eq_true rfl) ?_
  intro p e s m as below meth c A ls C K w hr hlocks _ hl
  have hx := C.1
  have hb := C.2.1
  refine lv_aload_n hx hb dJ2_init_0 rfl (lv_at hl 0 rfl) ?_
  refine lv_aload_nN hx hb dJ2_init_1 rfl (lv_at hl 1 rfl) ?_
  refine lv_aload_nN hx hb dJ2_init_2 rfl (lv_at hl 2 rfl) ?_
  refine lv_iload_n hx hb dJ2_init_3 rfl (lv_at hl 3 rfl) ?_
  refine lv_iload hx hb dJ2_init_4 (lv_at hl 4 rfl) ?_
  refine wx_callI (n := 4) C K w (mJ1_init4 (l := l) XO hfs) q706 q707 q108 q708 rfl rfl rfl (by decide +kernel) ⟨Nat.le_of_ble_eq_true rfl, Nat.le_of_ble_eq_true rfl⟩ rfl rfl hl.1 (Nat.le_of_ble_eq_true rfl) ⟨Nat.le_of_ble_eq_true rfl, Nat.le_of_ble_eq_true rfl⟩ dJ2_init_6 (fun v ws H locs hp w => ?_)
  have hv := hp.1
  subst hv
  exact wx_vret C hr hlocks w hp dJ2_init_9
theorem mX1_init {l : Launch} {γ : wx_G} {h : Nat} {fs : List Value} {ws0 : va_W} (XO : ex_ok γ l) (hfs : fs.length = 6) : wx_M γ l yX1_init (ws_ yX1_init cX1_init 1 none) { frames := 4, cells := 0, slots := 0, locals := 120 } [.ref h] ((h, .inr (13, fs)) :: ws0) (ftP h ws0) 0 0 := by
  refine wx_M.of (by decide) (Nat.le_of_ble_eq_true rfl) ?_
  intro p e s m as below meth c A ls C K w hr hlocks _ hl
  have hx := C.1
  have hb := C.2.1
  refine lv_aload_n hx hb dX1_init_0 rfl (lv_at hl 0 rfl) ?_
  refine lv_null hx hb dX1_init_1 ?_
  refine lv_null hx hb dX1_init_2 ?_
  refine lv_iconst (v := (0 : Int32)) hx hb dX1_init_3 (by decide) ?_
  refine lv_iconst (v := (0 : Int32)) hx hb dX1_init_4 (by decide) ?_
  refine wx_callI (n := 4) C K w (mJ2_init4 (l := l) XO hfs) q703 q704 q109 q705 rfl rfl rfl (by decide +kernel) ⟨Nat.le_of_ble_eq_true rfl, Nat.le_of_ble_eq_true rfl⟩ rfl rfl hl.1 (Nat.le_of_ble_eq_true rfl) ⟨Nat.le_of_ble_eq_true rfl, Nat.le_of_ble_eq_true rfl⟩ dX1_init_5 (fun v ws H locs hp w => ?_)
  have hv := hp.1
  subst hv
  exact wx_vret C hr hlocks w hp dX1_init_8
theorem mX2_init {l : Launch} {γ : wx_G} {h : Nat} {ws0 : va_W} : wx_M γ l yX2_init (ws_ yX2_init cX2_init 1 none) rmX3_init [.ref h] ws0 (fun v ws => v = none ∧ ws = ws0) 0 0 := by
  refine wx_M.of (by decide) (Nat.le_of_ble_eq_true rfl) ?_
  intro p e s m as below meth c A ls C K w hr hlocks hin hl
  have hx := C.1
  have hb := C.2.1
  refine lv_aload_n hx hb dX2_init_0 rfl (lv_at hl 0 rfl) ?_
  refine W.objInit hx hb C.2.2.2.1 (C.2.2.2.2 _ q748) (C.2.2.2.2 _ q184) (C.2.2.2.2 _ q185) rfl (by rw [C.2.2.1]; exact hl.1) rfl dX2_init_1 (Nat.le_of_ble_eq_true rfl) (Nat.le_of_ble_eq_true rfl) ?_
  refine W.eq (g2 := F0 m 4 ls []) rfl ?_
  exact wx_vret C hr hlocks w ⟨rfl, rfl⟩ dX2_init_4

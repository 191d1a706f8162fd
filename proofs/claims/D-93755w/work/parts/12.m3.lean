/-! the model's methods: pure block functions p.., block lemmas b.., contracts m.., call rows r.. (printed by gen/allm.py) -/
set_option maxRecDepth 100000
/-! WalkingStonesModel.fitting(I)I -/
abbrev rmX8_fitting : Room := { frames := 1, cells := 0, slots := 0, locals := 22 }
def pX8_fitting_56 (f : xF) (g : xG) (t0 : Int32) : Option (Int32) := some (t0)

def pX8_fitting_0 (f : xF) (g : xG) (v1 : Int32) : Option (Int32) := if gin v1 24 = true then if gin v1 24 = true then if gin (g 33 v1.toNatClampNeg) 10 = true then (pX8_apart f g (g 34 v1.toNatClampNeg) (g 29 (g 33 v1.toNatClampNeg).toNatClampNeg)).bind (fun r22 => if gin v1 24 = true then if gin (g 33 v1.toNatClampNeg) 10 = true then (pX8_apart f g (g 35 v1.toNatClampNeg) (g 30 (g 33 v1.toNatClampNeg).toNatClampNeg)).bind (fun r40 => if (1 : Int32) ≤ (((9 : Int32) - r22) - ((3 : Int32) * r40)) then pX8_fitting_56 f g (((9 : Int32) - r22) - ((3 : Int32) * r40)) else pX8_fitting_56 f g (1 : Int32)) else none else none) else none else none else none

abbrev pX8_fitting (f : xF) (g : xG) (v1 : Int32) : Option (Int32) := pX8_fitting_0 f g v1
theorem bX8_fitting_56 {p : Program} {l : Launch} {e : Env} {s : State} {m : MethodId} {as : Array Value} {below : List Frame} {meth : Method} {c : Code} {A : Nat → Prop} {Q : State → Prop} {γ : wx_G} {o : Nat} {ad : Nat → Nat} {z : Int32} {f : xF} {g : xG} (C : CallFix p m c cX8_fitting 4 s as lw_all RX8) (K : wx_C γ A s) (E : ∀ (H : Heap) (locs : List Loc) (ls : Array Slot) (pc : Nat), wx_w γ A s H locs (mw γ o ad f g) → decode cX8_fitting pc = .ok (.ireturn, 1) → W p l e rmX8_fitting s m as below meth c H locs 0 0 Q (F0 m pc ls [.int z])) {t0 : Int32} {H : Heap} {locs : List Loc} {ls : Array Slot} (w : wx_w γ A s H locs (mw γ o ad f g)) (hl : lv_has ls 4 []) (hF : pX8_fitting_56 f g t0 = some z) : W p l e rmX8_fitting s m as below meth c H locs 0 0 Q (F0 m 56 ls [.int t0]) := by
  have hx := C.1
  have hb := C.2.1
  unfold pX8_fitting_56 at hF
  have hF := Option.some.inj hF
  subst hF
  exact E _ _ _ _ w dX8_fitting_56

theorem bX8_fitting_0 {p : Program} {l : Launch} {e : Env} {s : State} {m : MethodId} {as : Array Value} {below : List Frame} {meth : Method} {c : Code} {A : Nat → Prop} {Q : State → Prop} {γ : wx_G} {o : Nat} {ad : Nat → Nat} {z : Int32} {f : xF} {g : xG} (C : CallFix p m c cX8_fitting 4 s as lw_all RX8) (K : wx_C γ A s) (E : ∀ (H : Heap) (locs : List Loc) (ls : Array Slot) (pc : Nat), wx_w γ A s H locs (mw γ o ad f g) → decode cX8_fitting pc = .ok (.ireturn, 1) → W p l e rmX8_fitting s m as below meth c H locs 0 0 Q (F0 m pc ls [.int z])) {v1 : Int32} {H : Heap} {locs : List Loc} {ls : Array Slot} (w : wx_w γ A s H locs (mw γ o ad f g)) (hl : lv_has ls 4 [(0, .ref o), (1, .int v1)]) (hF : pX8_fitting_0 f g v1 = some z) : W p l e rmX8_fitting s m as below meth c H locs 0 0 Q (F0 m 0 ls []) := by
  have hx := C.1
  have hb := C.2.1
  unfold pX8_fitting_0 at hF
  refine lv_aload_n hx hb dX8_fitting_0 rfl (lv_at hl 0 rfl) ?_
  refine mget_33 C K w dX8_fitting_1 ?_
  refine lv_iload_n hx hb dX8_fitting_4 rfl (lv_at hl 1 rfl) ?_
  obtain ⟨hi, hF⟩ := gin_if hF
  refine mald_33 C K w hi dX8_fitting_5 ?_
  refine lv_istore_n (lv' := [(2, .int (g 33 v1.toNatClampNeg)), (0, .ref o), (1, .int v1)]) hx hb dX8_fitting_6 rfl hl (by decide) rfl (fun ls hl => ?_)
  refine lv_bipush (v := (9 : Int32)) hx hb dX8_fitting_7 (by decide) ?_
  refine lv_aload_n hx hb dX8_fitting_9 rfl (lv_at hl 1 rfl) ?_
  refine lv_aload_n hx hb dX8_fitting_10 rfl (lv_at hl 1 rfl) ?_
  refine mget_34 C K w dX8_fitting_11 ?_
  refine lv_iload_n hx hb dX8_fitting_14 rfl (lv_at hl 2 rfl) ?_
  obtain ⟨hi, hF⟩ := gin_if hF
  refine mald_34 C K w hi dX8_fitting_15 ?_
  refine lv_aload_n hx hb dX8_fitting_16 rfl (lv_at hl 1 rfl) ?_
  refine mget_29 C K w dX8_fitting_17 ?_
  refine lv_iload_n hx hb dX8_fitting_20 rfl (lv_at hl 0 rfl) ?_
  obtain ⟨hi, hF⟩ := gin_if hF
  refine mald_29 C K w hi dX8_fitting_21 ?_
  obtain ⟨r22, hr, hF⟩ := obd hF
  refine rX8_apart C K w hr hl.1 ⟨Nat.le_of_ble_eq_true rfl, Nat.le_of_ble_eq_true rfl⟩ (Nat.le_of_ble_eq_true rfl) dX8_fitting_22 (fun H locs w => ?_)
  refine lv_isub hx hb dX8_fitting_25 ?_
  refine lv_iconst (v := (3 : Int32)) hx hb dX8_fitting_26 (by decide) ?_
  refine lv_aload_n hx hb dX8_fitting_27 rfl (lv_at hl 1 rfl) ?_
  refine lv_aload_n hx hb dX8_fitting_28 rfl (lv_at hl 1 rfl) ?_
  refine mget_35 C K w dX8_fitting_29 ?_
  refine lv_iload_n hx hb dX8_fitting_32 rfl (lv_at hl 2 rfl) ?_
  obtain ⟨hi, hF⟩ := gin_if hF
  refine mald_35 C K w hi dX8_fitting_33 ?_
  refine lv_aload_n hx hb dX8_fitting_34 rfl (lv_at hl 1 rfl) ?_
  refine mget_30 C K w dX8_fitting_35 ?_
  refine lv_iload_n hx hb dX8_fitting_38 rfl (lv_at hl 0 rfl) ?_
  obtain ⟨hi, hF⟩ := gin_if hF
  refine mald_30 C K w hi dX8_fitting_39 ?_
  obtain ⟨r40, hr, hF⟩ := obd hF
  refine rX8_apart C K w hr hl.1 ⟨Nat.le_of_ble_eq_true rfl, Nat.le_of_ble_eq_true rfl⟩ (Nat.le_of_ble_eq_true rfl) dX8_fitting_40 (fun H locs w => ?_)
  refine lv_imul hx hb dX8_fitting_43 ?_
  refine lv_isub hx hb dX8_fitting_44 ?_
  refine lv_istore_n (lv' := [(3, .int (((9 : Int32) - r22) - ((3 : Int32) * r40))), (2, .int (g 33 v1.toNatClampNeg)), (0, .ref o), (1, .int v1)]) hx hb dX8_fitting_45 rfl hl (by decide) rfl (fun ls hl => ?_)
  refine lv_iload_n hx hb dX8_fitting_46 rfl (lv_at hl 0 rfl) ?_
  refine lv_iconst (v := (1 : Int32)) hx hb dX8_fitting_47 (by decide) ?_
  refine lv_icmp_ge (tgt := 55) hx hb dX8_fitting_48 (by decide) (fun c => ?_) (fun c => ?_)
  · have hF := (if_pos c).symm.trans hF
    refine lv_iload_n hx hb dX8_fitting_55 rfl (lv_at hl 0 rfl) ?_
    exact bX8_fitting_56 C K E w (lv_sub hl [] rfl) hF
  · have hF := (if_neg c).symm.trans hF
    refine lv_iconst (v := (1 : Int32)) hx hb dX8_fitting_51 (by decide) ?_
    refine lv_goto (tgt := 56) hx hb dX8_fitting_52 (by decide) ?_
    exact bX8_fitting_56 C K E w (lv_sub hl [] rfl) hF

theorem mX8_fitting {l : Launch} {γ : wx_G} {o : Nat} {ad : Nat → Nat} {f : xF} {g : xG} {v1 : Int32} {z : Int32} (hF : pX8_fitting f g v1 = some z) : wx_M γ l yX8_fitting (ws_ yX8_fitting cX8_fitting 4 (some .int)) rmX8_fitting [.ref o, .int v1] (mw γ o ad f g) (fun v ws => v = some (.int z) ∧ ws = (mw γ o ad f g)) 0 0 := by
  refine wx_M.of (by decide) (Nat.le_of_ble_eq_true rfl) ?_
  intro p e s m as below meth c A ls C K w hr hlocks _ hl
  exact bX8_fitting_0 C K (fun H locs ls pc w d => wx_iret C hr hlocks w ⟨rfl, rfl⟩ d) w hl hF
theorem rX8_fitting {p : Program} {l : Launch} {e : Env} {R : Room} {s : State} {m : MethodId} {as : Array Value} {below : List Frame} {meth : Method} {c : Code} {H : Heap} {locs : List Loc} {cells slots : Nat} {Q : State → Prop} {cc : ByteArray} {nL pc : Nat} {ls : Array Slot} {rest : List Value} {γ : wx_G} {A : Nat → Prop} {o : Nat} {ad : Nat → Nat} {f : xF} {g : xG} {v1 : Int32} {z : Int32} (C : CallFix p m c cc nL s as lw_all RX8) (K : wx_C γ A s) (w : wx_w γ A s H locs (mw γ o ad f g)) (hF : pX8_fitting f g v1 = some z) (hls : ls.size = nL) (hR : rmX8_fitting.frames + 1 ≤ R.frames ∧ 8 + (4 + 11) + rmX8_fitting.locals ≤ R.locals) (hW : (rest.map fun v => v.category).sum ≤ 8) (d : decode cc pc = .ok (.invokevirtual 323, 3)) (kk : ∀ (H : Heap) (locs : List Loc), wx_w γ A s H locs (mw γ o ad f g) → W p l e R s m as below meth c H locs cells slots Q (F0 m (pc + 3) ls (.int z :: rest))) (hf : cells ≤ R.cells ∧ slots ≤ R.slots := by exact ⟨Nat.le_of_ble_eq_true rfl, Nat.le_of_ble_eq_true rfl⟩) : W p l e R s m as below meth c H locs cells slots Q (F0 m pc ls (.int v1 :: .ref o :: rest)) :=
  wx_callV (n := 1) C K w (mX8_fitting (l := l) hF) q1688 q1690 qs92 q123 q1691 rfl rfl (by decide +kernel) (va_recv K.1.1 w.1 (ci := 0) (q0 := 0) rfl rfl) rfl rfl hR hls hW hf d (fun v ws H1 locs1 hp w => by obtain ⟨rfl, rfl⟩ := hp; exact kk H1 locs1 w)

/-! WalkingStonesModel.fits(II)I -/
abbrev rmX8_fits : Room := { frames := 6, cells := 0, slots := 0, locals := 147 }
def pX8_fits_16 (f : xF) (g : xG) : Option (Int32 × xF × xG) := some ((-2 : Int32), f, g)

def pX8_fits_0 (f : xF) (g : xG) (v1 : Int32) (v2 : Int32) : Option (Int32 × xF × xG) := (pX8_isTrack f g v1).bind (fun r2 => if r2 = 0 then pX8_fits_16 f g else (pX8_isHow f g v2).bind (fun r10 => if r10 = 0 then pX8_fits_16 f g else (pX8_goAll f g v2).bind (fun r21 => (pX8_fitting r21.1 r21.2 v1).bind (fun r26 => some (r26, r21.1, r21.2)))))

abbrev pX8_fits (f : xF) (g : xG) (v1 : Int32) (v2 : Int32) : Option (Int32 × xF × xG) := pX8_fits_0 f g v1 v2
theorem bX8_fits_16 {p : Program} {l : Launch} {e : Env} {s : State} {m : MethodId} {as : Array Value} {below : List Frame} {meth : Method} {c : Code} {A : Nat → Prop} {Q : State → Prop} {γ : wx_G} {o : Nat} {ad : Nat → Nat} {z : Int32 × xF × xG} (C : CallFix p m c cX8_fits 3 s as lw_all RX8) (K : wx_C γ A s) (E : ∀ (H : Heap) (locs : List Loc) (ls : Array Slot) (pc : Nat), wx_w γ A s H locs (mw γ o ad z.2.1 z.2.2) → decode cX8_fits pc = .ok (.ireturn, 1) → W p l e rmX8_fits s m as below meth c H locs 0 0 Q (F0 m pc ls [.int z.1])) {f : xF} {g : xG} {H : Heap} {locs : List Loc} {ls : Array Slot} (w : wx_w γ A s H locs (mw γ o ad f g)) (hl : lv_has ls 3 []) (hF : pX8_fits_16 f g = some z) : W p l e rmX8_fits s m as below meth c H locs 0 0 Q (F0 m 16 ls []) := by
  have hx := C.1
  have hb := C.2.1
  unfold pX8_fits_16 at hF
  refine lv_bipush (v := (-2 : Int32)) hx hb dX8_fits_16 (by decide) ?_
  have hF := Option.some.inj hF
  subst hF
  exact E _ _ _ _ w dX8_fits_18

theorem bX8_fits_0 {p : Program} {l : Launch} {e : Env} {s : State} {m : MethodId} {as : Array Value} {below : List Frame} {meth : Method} {c : Code} {A : Nat → Prop} {Q : State → Prop} {γ : wx_G} {o : Nat} {ad : Nat → Nat} {z : Int32 × xF × xG} (C : CallFix p m c cX8_fits 3 s as lw_all RX8) (K : wx_C γ A s) (E : ∀ (H : Heap) (locs : List Loc) (ls : Array Slot) (pc : Nat), wx_w γ A s H locs (mw γ o ad z.2.1 z.2.2) → decode cX8_fits pc = .ok (.ireturn, 1) → W p l e rmX8_fits s m as below meth c H locs 0 0 Q (F0 m pc ls [.int z.1])) {f : xF} {g : xG} {v1 : Int32} {v2 : Int32} {H : Heap} {locs : List Loc} {ls : Array Slot} (w : wx_w γ A s H locs (mw γ o ad f g)) (hl : lv_has ls 3 [(0, .ref o), (1, .int v1), (2, .int v2)]) (hF : pX8_fits_0 f g v1 v2 = some z) : W p l e rmX8_fits s m as below meth c H locs 0 0 Q (F0 m 0 ls []) := by
  have hx := C.1
  have hb := C.2.1
  unfold pX8_fits_0 at hF
  refine lv_aload_n hx hb dX8_fits_0 rfl (lv_at hl 0 rfl) ?_
  refine lv_iload_n hx hb dX8_fits_1 rfl (lv_at hl 1 rfl) ?_
  obtain ⟨r2, hr, hF⟩ := obd hF
  refine rX8_isTrack C K w hr hl.1 ⟨Nat.le_of_ble_eq_true rfl, Nat.le_of_ble_eq_true rfl⟩ (Nat.le_of_ble_eq_true rfl) dX8_fits_2 (fun H locs w => ?_)
  refine lv_if_eq (tgt := 16) hx hb dX8_fits_5 (by decide) (fun c => ?_) (fun c => ?_)
  · have hF := (if_pos c).symm.trans hF
    exact bX8_fits_16 C K E w (lv_sub hl [] rfl) hF
  · have hF := (if_neg c).symm.trans hF
    refine lv_aload_n hx hb dX8_fits_8 rfl (lv_at hl 0 rfl) ?_
    refine lv_iload_n hx hb dX8_fits_9 rfl (lv_at hl 2 rfl) ?_
    obtain ⟨r10, hr, hF⟩ := obd hF
    refine rX8_isHow C K w hr hl.1 ⟨Nat.le_of_ble_eq_true rfl, Nat.le_of_ble_eq_true rfl⟩ (Nat.le_of_ble_eq_true rfl) dX8_fits_10 (fun H locs w => ?_)
    refine lv_if_ne (tgt := 19) hx hb dX8_fits_13 (by decide) (fun c => ?_) (fun c => ?_)
    · have hF := (if_neg c).symm.trans hF
      refine lv_aload_n hx hb dX8_fits_19 rfl (lv_at hl 0 rfl) ?_
      refine lv_iload_n hx hb dX8_fits_20 rfl (lv_at hl 2 rfl) ?_
      obtain ⟨r21, hr, hF⟩ := obd hF
      refine rX8_goAll C K w hr hl.1 ⟨Nat.le_of_ble_eq_true rfl, Nat.le_of_ble_eq_true rfl⟩ (Nat.le_of_ble_eq_true rfl) dX8_fits_21 (fun H locs w => ?_)
      refine lv_aload_n hx hb dX8_fits_24 rfl (lv_at hl 0 rfl) ?_
      refine lv_iload_n hx hb dX8_fits_25 rfl (lv_at hl 1 rfl) ?_
      obtain ⟨r26, hr, hF⟩ := obd hF
      refine rX8_fitting C K w hr hl.1 ⟨Nat.le_of_ble_eq_true rfl, Nat.le_of_ble_eq_true rfl⟩ (Nat.le_of_ble_eq_true rfl) dX8_fits_26 (fun H locs w => ?_)
      have hF := Option.some.inj hF
      subst hF
      exact E _ _ _ _ w dX8_fits_29
    · have hF := (if_pos c).symm.trans hF
      exact bX8_fits_16 C K E w (lv_sub hl [] rfl) hF

theorem mX8_fits {l : Launch} {γ : wx_G} {o : Nat} {ad : Nat → Nat} {f : xF} {g : xG} {v1 : Int32} {v2 : Int32} {z : Int32 × xF × xG} (hF : pX8_fits f g v1 v2 = some z) : wx_M γ l yX8_fits (ws_ yX8_fits cX8_fits 3 (some .int)) rmX8_fits [.ref o, .int v1, .int v2] (mw γ o ad f g) (fun v ws => v = some (.int z.1) ∧ ws = (mw γ o ad z.2.1 z.2.2)) 0 0 := by
  refine wx_M.of (by decide) (Nat.le_of_ble_eq_true rfl) ?_
  intro p e s m as below meth c A ls C K w hr hlocks _ hl
  exact bX8_fits_0 C K (fun H locs ls pc w d => wx_iret C hr hlocks w ⟨rfl, rfl⟩ d) w hl hF

/-! WalkingStonesModel.product(II)J -/
abbrev rmX8_product : Room := { frames := 6, cells := 0, slots := 0, locals := 147 }
def pX8_product_56 (f : xF) (g : xG) (v3 : Int64) : Option (Int64 × xF × xG) := some (v3, f, g)

def pX8_product_48 (k10 : xF → xG → Int32 → Int64 → Int32 → Option (Int64 × xF × xG)) (f : xF) (g : xG) (v2 : Int32) (v5 : Int32) (t0 : Int64) (t1 : Int64) : Option (Int64 × xF × xG) := k10 f g v2 (t0 * t1) (v5 + 1)

def pX8_product_10 : Nat → xF → xG → Int32 → Int64 → Int32 → Option (Int64 × xF × xG)
  | 0, _, _, _, _, _ => none
  | n + 1, f, g, v2, v3, v5 => if (f 32) ≤ v5 then pX8_product_56 f g v3 else (if (16 : Int32) ≤ v5 then pX8_product_56 f g v3 else (if ((v2 >>> (v5 &&& 31)) &&& (1 : Int32)) = (1 : Int32) then (pX8_fitting f g v5).bind (fun r40 => pX8_product_48 (pX8_product_10 n) f g v2 v5 v3 r40.toInt64) else pX8_product_48 (pX8_product_10 n) f g v2 v5 v3 (1 : Int64)))

def pX8_product_0 (f : xF) (g : xG) (v1 : Int32) (v2 : Int32) : Option (Int64 × xF × xG) := (pX8_goAll f g v1).bind (fun r2 => pX8_product_10 5000 r2.1 r2.2 v2 (1 : Int64) (0 : Int32))

abbrev pX8_product (f : xF) (g : xG) (v1 : Int32) (v2 : Int32) : Option (Int64 × xF × xG) := pX8_product_0 f g v1 v2
theorem bX8_product_56 {p : Program} {l : Launch} {e : Env} {s : State} {m : MethodId} {as : Array Value} {below : List Frame} {meth : Method} {c : Code} {A : Nat → Prop} {Q : State → Prop} {γ : wx_G} {o : Nat} {ad : Nat → Nat} {z : Int64 × xF × xG} (C : CallFix p m c cX8_product 6 s as lw_all RX8) (K : wx_C γ A s) (E : ∀ (H : Heap) (locs : List Loc) (ls : Array Slot) (pc : Nat), wx_w γ A s H locs (mw γ o ad z.2.1 z.2.2) → decode cX8_product pc = .ok (.lreturn, 1) → W p l e rmX8_product s m as below meth c H locs 0 0 Q (F0 m pc ls [.long z.1])) {f : xF} {g : xG} {v3 : Int64} {H : Heap} {locs : List Loc} {ls : Array Slot} (w : wx_w γ A s H locs (mw γ o ad f g)) (hl : lv_has ls 6 [(3, .long v3)]) (hF : pX8_product_56 f g v3 = some z) : W p l e rmX8_product s m as below meth c H locs 0 0 Q (F0 m 56 ls []) := by
  have hx := C.1
  have hb := C.2.1
  unfold pX8_product_56 at hF
  refine lv_lload_n hx hb dX8_product_56 rfl (lv_at hl 0 rfl) ?_
  have hF := Option.some.inj hF
  subst hF
  exact E _ _ _ _ w dX8_product_57

theorem bX8_product_48 {p : Program} {l : Launch} {e : Env} {s : State} {m : MethodId} {as : Array Value} {below : List Frame} {meth : Method} {c : Code} {A : Nat → Prop} {Q : State → Prop} {γ : wx_G} {o : Nat} {ad : Nat → Nat} {z : Int64 × xF × xG} (C : CallFix p m c cX8_product 6 s as lw_all RX8) (K : wx_C γ A s) (E : ∀ (H : Heap) (locs : List Loc) (ls : Array Slot) (pc : Nat), wx_w γ A s H locs (mw γ o ad z.2.1 z.2.2) → decode cX8_product pc = .ok (.lreturn, 1) → W p l e rmX8_product s m as below meth c H locs 0 0 Q (F0 m pc ls [.long z.1])) {k10 : xF → xG → Int32 → Int64 → Int32 → Option (Int64 × xF × xG)} (hk10 : ∀ (f : xF) (g : xG) (v2 : Int32) (v3 : Int64) (v5 : Int32) (H : Heap) (locs : List Loc) (ls : Array Slot), k10 f g v2 v3 v5 = some z → wx_w γ A s H locs (mw γ o ad f g) → lv_has ls 6 [(0, .ref o), (2, .int v2), (3, .long v3), (5, .int v5)] → W p l e rmX8_product s m as below meth c H locs 0 0 Q (F0 m 10 ls [])) {f : xF} {g : xG} {v2 : Int32} {v5 : Int32} {t0 : Int64} {t1 : Int64} {H : Heap} {locs : List Loc} {ls : Array Slot} (w : wx_w γ A s H locs (mw γ o ad f g)) (hl : lv_has ls 6 [(0, .ref o), (2, .int v2), (5, .int v5)]) (hF : pX8_product_48 k10 f g v2 v5 t0 t1 = some z) : W p l e rmX8_product s m as below meth c H locs 0 0 Q (F0 m 48 ls [.long t1, .long t0]) := by
  have hx := C.1
  have hb := C.2.1
  unfold pX8_product_48 at hF
  refine lv_lmul hx hb dX8_product_48 ?_
  refine lv_lstore_n (lv' := [(3, .long (t0 * t1)), (0, .ref o), (2, .int v2), (5, .int v5)]) hx hb dX8_product_49 rfl hl (by decide) rfl (fun ls hl => ?_)
  refine lv_iinc (v := v5 + 1) (lv' := [(5, .int (v5 + 1)), (3, .long (t0 * t1)), (0, .ref o), (2, .int v2)]) hx hb dX8_product_50 hl (k := 3) rfl rfl (by decide) rfl (fun ls hl => ?_)
  refine lv_goto (tgt := 10) hx hb dX8_product_53 (by decide) ?_
  exact hk10 _ _ _ _ _ _ _ _ hF w (lv_sub hl [2, 3, 1, 0] rfl)

theorem bX8_product_10 {p : Program} {l : Launch} {e : Env} {s : State} {m : MethodId} {as : Array Value} {below : List Frame} {meth : Method} {c : Code} {A : Nat → Prop} {Q : State → Prop} {γ : wx_G} {o : Nat} {ad : Nat → Nat} {z : Int64 × xF × xG} (C : CallFix p m c cX8_product 6 s as lw_all RX8) (K : wx_C γ A s) (E : ∀ (H : Heap) (locs : List Loc) (ls : Array Slot) (pc : Nat), wx_w γ A s H locs (mw γ o ad z.2.1 z.2.2) → decode cX8_product pc = .ok (.lreturn, 1) → W p l e rmX8_product s m as below meth c H locs 0 0 Q (F0 m pc ls [.long z.1])) : ∀ (n : Nat) (f : xF) (g : xG) (v2 : Int32) (v3 : Int64) (v5 : Int32) (H : Heap) (locs : List Loc) (ls : Array Slot), pX8_product_10 n f g v2 v3 v5 = some z → wx_w γ A s H locs (mw γ o ad f g) → lv_has ls 6 [(0, .ref o), (2, .int v2), (3, .long v3), (5, .int v5)] → W p l e rmX8_product s m as below meth c H locs 0 0 Q (F0 m 10 ls []) := by
  have hx := C.1
  have hb := C.2.1
  intro n
  induction n with
  | zero =>
    intro f g v2 v3 v5 H locs ls hF w hl
    have hF : (none : Option (Int64 × xF × xG)) = some z := hF
    cases hF
  | succ n ih =>
    intro f g v2 v3 v5 H locs ls hF w hl
    rw [pX8_product_10] at hF
    refine lv_iload hx hb dX8_product_10 (lv_at hl 3 rfl) ?_
    refine lv_aload_n hx hb dX8_product_12 rfl (lv_at hl 0 rfl) ?_
    refine mget_32 C K w dX8_product_13 ?_
    refine lv_icmp_ge (tgt := 56) hx hb dX8_product_16 (by decide) (fun c => ?_) (fun c => ?_)
    · have hF := (if_pos c).symm.trans hF
      exact bX8_product_56 C K E w (lv_sub hl [2] rfl) hF
    · have hF := (if_neg c).symm.trans hF
      refine lv_iload hx hb dX8_product_19 (lv_at hl 3 rfl) ?_
      refine lv_bipush (v := (16 : Int32)) hx hb dX8_product_21 (by decide) ?_
      refine lv_icmp_ge (tgt := 56) hx hb dX8_product_23 (by decide) (fun c => ?_) (fun c => ?_)
      · have hF := (if_pos c).symm.trans hF
        exact bX8_product_56 C K E w (lv_sub hl [2] rfl) hF
      · have hF := (if_neg c).symm.trans hF
        refine lv_lload_n hx hb dX8_product_26 rfl (lv_at hl 2 rfl) ?_
        refine lv_iload_n hx hb dX8_product_27 rfl (lv_at hl 1 rfl) ?_
        refine lv_iload hx hb dX8_product_28 (lv_at hl 3 rfl) ?_
        refine lv_ishr hx hb dX8_product_30 ?_
        refine lv_iconst (v := (1 : Int32)) hx hb dX8_product_31 (by decide) ?_
        refine lv_iand hx hb dX8_product_32 ?_
        refine lv_iconst (v := (1 : Int32)) hx hb dX8_product_33 (by decide) ?_
        refine lv_icmp_ne (tgt := 47) hx hb dX8_product_34 (by decide) (fun c => ?_) (fun c => ?_)
        · have hF := (if_neg c).symm.trans hF
          refine lv_lconst (v := (1 : Int64)) hx hb dX8_product_47 (by decide) ?_
          exact bX8_product_48 C K E ih w (lv_sub hl [0, 1, 3] rfl) hF
        · have hF := (if_pos c).symm.trans hF
          refine lv_aload_n hx hb dX8_product_37 rfl (lv_at hl 0 rfl) ?_
          refine lv_iload hx hb dX8_product_38 (lv_at hl 3 rfl) ?_
          obtain ⟨r40, hr, hF⟩ := obd hF
          refine rX8_fitting C K w hr hl.1 ⟨Nat.le_of_ble_eq_true rfl, Nat.le_of_ble_eq_true rfl⟩ (Nat.le_of_ble_eq_true rfl) dX8_product_40 (fun H locs w => ?_)
          refine lv_i2l hx hb dX8_product_43 rfl ?_
          refine lv_goto (tgt := 48) hx hb dX8_product_44 (by decide) ?_
          exact bX8_product_48 C K E ih w (lv_sub hl [0, 1, 3] rfl) hF

theorem bX8_product_0 {p : Program} {l : Launch} {e : Env} {s : State} {m : MethodId} {as : Array Value} {below : List Frame} {meth : Method} {c : Code} {A : Nat → Prop} {Q : State → Prop} {γ : wx_G} {o : Nat} {ad : Nat → Nat} {z : Int64 × xF × xG} (C : CallFix p m c cX8_product 6 s as lw_all RX8) (K : wx_C γ A s) (E : ∀ (H : Heap) (locs : List Loc) (ls : Array Slot) (pc : Nat), wx_w γ A s H locs (mw γ o ad z.2.1 z.2.2) → decode cX8_product pc = .ok (.lreturn, 1) → W p l e rmX8_product s m as below meth c H locs 0 0 Q (F0 m pc ls [.long z.1])) {f : xF} {g : xG} {v1 : Int32} {v2 : Int32} {H : Heap} {locs : List Loc} {ls : Array Slot} (w : wx_w γ A s H locs (mw γ o ad f g)) (hl : lv_has ls 6 [(0, .ref o), (1, .int v1), (2, .int v2)]) (hF : pX8_product_0 f g v1 v2 = some z) : W p l e rmX8_product s m as below meth c H locs 0 0 Q (F0 m 0 ls []) := by
  have hx := C.1
  have hb := C.2.1
  unfold pX8_product_0 at hF
  refine lv_aload_n hx hb dX8_product_0 rfl (lv_at hl 0 rfl) ?_
  refine lv_iload_n hx hb dX8_product_1 rfl (lv_at hl 1 rfl) ?_
  obtain ⟨r2, hr, hF⟩ := obd hF
  refine rX8_goAll C K w hr hl.1 ⟨Nat.le_of_ble_eq_true rfl, Nat.le_of_ble_eq_true rfl⟩ (Nat.le_of_ble_eq_true rfl) dX8_product_2 (fun H locs w => ?_)
  refine lv_lconst (v := (1 : Int64)) hx hb dX8_product_5 (by decide) ?_
  refine lv_lstore_n (lv' := [(3, .long (1 : Int64)), (0, .ref o), (1, .int v1), (2, .int v2)]) hx hb dX8_product_6 rfl hl (by decide) rfl (fun ls hl => ?_)
  refine lv_iconst (v := (0 : Int32)) hx hb dX8_product_7 (by decide) ?_
  refine lv_istore (lv' := [(5, .int (0 : Int32)), (3, .long (1 : Int64)), (0, .ref o), (1, .int v1), (2, .int v2)]) hx hb dX8_product_8 hl (by decide) rfl (fun ls hl => ?_)
  exact bX8_product_10 C K E 5000 _ _ _ _ _ _ _ _ hF w (lv_sub hl [2, 4, 1, 0] rfl)

theorem mX8_product {l : Launch} {γ : wx_G} {o : Nat} {ad : Nat → Nat} {f : xF} {g : xG} {v1 : Int32} {v2 : Int32} {z : Int64 × xF × xG} (hF : pX8_product f g v1 v2 = some z) : wx_M γ l yX8_product (ws_ yX8_product cX8_product 6 (some .long)) rmX8_product [.ref o, .int v1, .int v2] (mw γ o ad f g) (fun v ws => v = some (.long z.1) ∧ ws = (mw γ o ad z.2.1 z.2.2)) 0 0 := by
  refine wx_M.of (by decide) (Nat.le_of_ble_eq_true rfl) ?_
  intro p e s m as below meth c A ls C K w hr hlocks _ hl
  exact bX8_product_0 C K (fun H locs ls pc w d => wx_lret C hr hlocks w ⟨rfl, rfl⟩ d) w hl hF
theorem rX8_product {p : Program} {l : Launch} {e : Env} {R : Room} {s : State} {m : MethodId} {as : Array Value} {below : List Frame} {meth : Method} {c : Code} {H : Heap} {locs : List Loc} {cells slots : Nat} {Q : State → Prop} {cc : ByteArray} {nL pc : Nat} {ls : Array Slot} {rest : List Value} {γ : wx_G} {A : Nat → Prop} {o : Nat} {ad : Nat → Nat} {f : xF} {g : xG} {v1 : Int32} {v2 : Int32} {z : Int64 × xF × xG} (C : CallFix p m c cc nL s as lw_all RX8) (K : wx_C γ A s) (w : wx_w γ A s H locs (mw γ o ad f g)) (hF : pX8_product f g v1 v2 = some z) (hls : ls.size = nL) (hR : rmX8_product.frames + 1 ≤ R.frames ∧ 8 + (6 + 11) + rmX8_product.locals ≤ R.locals) (hW : (rest.map fun v => v.category).sum ≤ 8) (d : decode cc pc = .ok (.invokevirtual 328, 3)) (kk : ∀ (H : Heap) (locs : List Loc), wx_w γ A s H locs (mw γ o ad z.2.1 z.2.2) → W p l e R s m as below meth c H locs cells slots Q (F0 m (pc + 3) ls (.long z.1 :: rest))) (hf : cells ≤ R.cells ∧ slots ≤ R.slots := by exact ⟨Nat.le_of_ble_eq_true rfl, Nat.le_of_ble_eq_true rfl⟩) : W p l e R s m as below meth c H locs cells slots Q (F0 m pc ls (.int v2 :: .int v1 :: .ref o :: rest)) :=
  wx_callV (n := 2) C K w (mX8_product (l := l) hF) q1697 q1699 qs93 q123 q1700 rfl rfl (by decide +kernel) (va_recv K.1.1 w.1 (ci := 0) (q0 := 0) rfl rfl) rfl rfl hR hls hW hf d (fun v ws H1 locs1 hp w => by obtain ⟨rfl, rfl⟩ := hp; exact kk H1 locs1 w)

/-! WalkingStonesModel.divisor(JJ)J -/
abbrev rmX8_divisor : Room := { frames := 0, cells := 0, slots := 0, locals := 0 }
def pX8_divisor_6 (f : xF) (g : xG) : Nat → Int64 → Int64 → Option (Int64)
  | 0, _, _ => none
  | n + 1, v5, v7 => if (lg_cmp v7 (0 : Int64)) = 0 then some (v5) else (if v7 = 0 then none else pX8_divisor_6 f g n v7 (v5 - v5 / v7 * v7))

def pX8_divisor_0 (f : xF) (g : xG) (v1 : Int64) (v3 : Int64) : Option (Int64) := pX8_divisor_6 f g 5000 v1 v3

abbrev pX8_divisor (f : xF) (g : xG) (v1 : Int64) (v3 : Int64) : Option (Int64) := pX8_divisor_0 f g v1 v3
theorem bX8_divisor_6 {p : Program} {l : Launch} {e : Env} {s : State} {m : MethodId} {as : Array Value} {below : List Frame} {meth : Method} {c : Code} {A : Nat → Prop} {Q : State → Prop} {γ : wx_G} {o : Nat} {ad : Nat → Nat} {z : Int64} {f : xF} {g : xG} (C : CallFix p m c cX8_divisor 11 s as lw_all RX8) (K : wx_C γ A s) (E : ∀ (H : Heap) (locs : List Loc) (ls : Array Slot) (pc : Nat), wx_w γ A s H locs (mw γ o ad f g) → decode cX8_divisor pc = .ok (.lreturn, 1) → W p l e rmX8_divisor s m as below meth c H locs 0 0 Q (F0 m pc ls [.long z])) : ∀ (n : Nat) (v5 : Int64) (v7 : Int64) (H : Heap) (locs : List Loc) (ls : Array Slot), pX8_divisor_6 f g n v5 v7 = some z → wx_w γ A s H locs (mw γ o ad f g) → lv_has ls 11 [(5, .long v5), (7, .long v7)] → W p l e rmX8_divisor s m as below meth c H locs 0 0 Q (F0 m 6 ls []) := by
  have hx := C.1
  have hb := C.2.1
  intro n
  induction n with
  | zero =>
    intro v5 v7 H locs ls hF w hl
    have hF : (none : Option (Int64)) = some z := hF
    cases hF
  | succ n ih =>
    intro v5 v7 H locs ls hF w hl
    rw [pX8_divisor_6] at hF
    refine lv_lload hx hb dX8_divisor_6 (lv_at hl 1 rfl) ?_
    refine lv_lconst (v := (0 : Int64)) hx hb dX8_divisor_8 (by decide) ?_
    refine W.lcmp hx hb dX8_divisor_9 ?_
    refine lv_if_eq (tgt := 31) hx hb dX8_divisor_10 (by decide) (fun c => ?_) (fun c => ?_)
    · have hF := (if_pos c).symm.trans hF
      refine lv_lload hx hb dX8_divisor_31 (lv_at hl 0 rfl) ?_
      have hF := Option.some.inj hF
      subst hF
      exact E _ _ _ _ w dX8_divisor_33
    · have hF := (if_neg c).symm.trans hF
      refine lv_lload hx hb dX8_divisor_13 (lv_at hl 0 rfl) ?_
      refine lv_lload hx hb dX8_divisor_15 (lv_at hl 1 rfl) ?_
      obtain ⟨hne, hF⟩ := gnz_if hF
      refine lv_lrem hx hb dX8_divisor_17 hne ?_
      refine lv_lstore (lv' := [(9, .long (v5 - v5 / v7 * v7)), (5, .long v5), (7, .long v7)]) hx hb dX8_divisor_18 hl (by decide) rfl (fun ls hl => ?_)
      refine lv_lload hx hb dX8_divisor_20 (lv_at hl 2 rfl) ?_
      refine lv_lstore (lv' := [(5, .long v7), (9, .long (v5 - v5 / v7 * v7)), (7, .long v7)]) hx hb dX8_divisor_22 hl (by decide) rfl (fun ls hl => ?_)
      refine lv_lload hx hb dX8_divisor_24 (lv_at hl 1 rfl) ?_
      refine lv_lstore (lv' := [(7, .long (v5 - v5 / v7 * v7)), (5, .long v7), (9, .long (v5 - v5 / v7 * v7))]) hx hb dX8_divisor_26 hl (by decide) rfl (fun ls hl => ?_)
      refine lv_goto (tgt := 6) hx hb dX8_divisor_28 (by decide) ?_
      exact ih _ _ _ _ _ hF w (lv_sub hl [1, 0] rfl)

theorem bX8_divisor_0 {p : Program} {l : Launch} {e : Env} {s : State} {m : MethodId} {as : Array Value} {below : List Frame} {meth : Method} {c : Code} {A : Nat → Prop} {Q : State → Prop} {γ : wx_G} {o : Nat} {ad : Nat → Nat} {z : Int64} {f : xF} {g : xG} (C : CallFix p m c cX8_divisor 11 s as lw_all RX8) (K : wx_C γ A s) (E : ∀ (H : Heap) (locs : List Loc) (ls : Array Slot) (pc : Nat), wx_w γ A s H locs (mw γ o ad f g) → decode cX8_divisor pc = .ok (.lreturn, 1) → W p l e rmX8_divisor s m as below meth c H locs 0 0 Q (F0 m pc ls [.long z])) {v1 : Int64} {v3 : Int64} {H : Heap} {locs : List Loc} {ls : Array Slot} (w : wx_w γ A s H locs (mw γ o ad f g)) (hl : lv_has ls 11 [(0, .ref o), (1, .long v1), (3, .long v3)]) (hF : pX8_divisor_0 f g v1 v3 = some z) : W p l e rmX8_divisor s m as below meth c H locs 0 0 Q (F0 m 0 ls []) := by
  have hx := C.1
  have hb := C.2.1
  unfold pX8_divisor_0 at hF
  refine lv_lload_n hx hb dX8_divisor_0 rfl (lv_at hl 1 rfl) ?_
  refine lv_lstore (lv' := [(5, .long v1), (0, .ref o), (1, .long v1), (3, .long v3)]) hx hb dX8_divisor_1 hl (by decide) rfl (fun ls hl => ?_)
  refine lv_lload_n hx hb dX8_divisor_3 rfl (lv_at hl 3 rfl) ?_
  refine lv_lstore (lv' := [(7, .long v3), (5, .long v1), (0, .ref o), (1, .long v1), (3, .long v3)]) hx hb dX8_divisor_4 hl (by decide) rfl (fun ls hl => ?_)
  exact bX8_divisor_6 C K E 5000 _ _ _ _ _ hF w (lv_sub hl [1, 0] rfl)

theorem mX8_divisor {l : Launch} {γ : wx_G} {o : Nat} {ad : Nat → Nat} {f : xF} {g : xG} {v1 : Int64} {v3 : Int64} {z : Int64} (hF : pX8_divisor f g v1 v3 = some z) : wx_M γ l yX8_divisor (ws_ yX8_divisor cX8_divisor 11 (some .long)) rmX8_divisor [.ref o, .long v1, .long v3] (mw γ o ad f g) (fun v ws => v = some (.long z) ∧ ws = (mw γ o ad f g)) 0 0 := by
  refine wx_M.of (by decide) (Nat.le_of_ble_eq_true rfl) ?_
  intro p e s m as below meth c A ls C K w hr hlocks _ hl
  exact bX8_divisor_0 C K (fun H locs ls pc w d => wx_lret C hr hlocks w ⟨rfl, rfl⟩ d) w hl hF
theorem rX8_divisor {p : Program} {l : Launch} {e : Env} {R : Room} {s : State} {m : MethodId} {as : Array Value} {below : List Frame} {meth : Method} {c : Code} {H : Heap} {locs : List Loc} {cells slots : Nat} {Q : State → Prop} {cc : ByteArray} {nL pc : Nat} {ls : Array Slot} {rest : List Value} {γ : wx_G} {A : Nat → Prop} {o : Nat} {ad : Nat → Nat} {f : xF} {g : xG} {v1 : Int64} {v3 : Int64} {z : Int64} (C : CallFix p m c cc nL s as lw_all RX8) (K : wx_C γ A s) (w : wx_w γ A s H locs (mw γ o ad f g)) (hF : pX8_divisor f g v1 v3 = some z) (hls : ls.size = nL) (hR : rmX8_divisor.frames + 1 ≤ R.frames ∧ 8 + (11 + 11) + rmX8_divisor.locals ≤ R.locals) (hW : (rest.map fun v => v.category).sum ≤ 8) (d : decode cc pc = .ok (.invokevirtual 332, 3)) (kk : ∀ (H : Heap) (locs : List Loc), wx_w γ A s H locs (mw γ o ad f g) → W p l e R s m as below meth c H locs cells slots Q (F0 m (pc + 3) ls (.long z :: rest))) (hf : cells ≤ R.cells ∧ slots ≤ R.slots := by exact ⟨Nat.le_of_ble_eq_true rfl, Nat.le_of_ble_eq_true rfl⟩) : W p l e R s m as below meth c H locs cells slots Q (F0 m pc ls (.long v3 :: .long v1 :: .ref o :: rest)) :=
  wx_callV (n := 2) C K w (mX8_divisor (l := l) hF) q1701 q1703 qs94 q123 q1704 rfl rfl (by decide +kernel) (va_recv K.1.1 w.1 (ci := 0) (q0 := 0) rfl rfl) rfl rfl hR hls hW hf d (fun v ws H1 locs1 hp w => by obtain ⟨rfl, rfl⟩ := hp; exact kk H1 locs1 w)

/-! WalkingStonesModel.odds(III)J -/
abbrev rmX8_odds : Room := { frames := 7, cells := 0, slots := 0, locals := 172 }
def pX8_odds_53 (f : xF) (g : xG) : Option (Int64 × xF × xG) := some ((-4611686018427387904 : Int64), f, g)

def pX8_odds_125 (f : xF) (g : xG) (t0 : Int64) : Option (Int64 × xF × xG) := some (t0, f, g)

def pX8_odds_90 (f : xF) (g : xG) (v1 : Int32) (v2 : Int32) (v3 : Int32) (v5 : Int64) : Option (Int64 × xF × xG) := (pX8_product f g v1 v2).bind (fun r93 => (pX8_divisor r93.2.1 r93.2.2 r93.1 v5).bind (fun r103 => if v3 = 0 then (if r103 = 0 then none else pX8_odds_125 r93.2.1 r93.2.2 (r93.1 / r103)) else (if r103 = 0 then none else pX8_odds_125 r93.2.1 r93.2.2 (v5 / r103))))

def pX8_odds_63 : Nat → xF → xG → Int32 → Int32 → Int32 → Int64 → Int32 → Option (Int64 × xF × xG)
  | 0, _, _, _, _, _, _, _ => none
  | n + 1, f, g, v1, v2, v3, v5, v7 => if (f 2) ≤ v7 then pX8_odds_90 f g v1 v2 v3 v5 else (pX8_product f g v7 v2).bind (fun r78 => pX8_odds_63 n r78.2.1 r78.2.2 v1 v2 v3 (v5 + r78.1) (v7 + 1))

def pX8_odds_18 (f : xF) (g : xG) (v1 : Int32) (v2 : Int32) (v3 : Int32) (t0 : Int32) : Option (Int64 × xF × xG) := (pX8_isHow f g v1).bind (fun r22 => if r22 = 0 then pX8_odds_53 f g else (pX8_in f g v2 (0 : Int32) (((1 : Int32) <<< (t0 &&& 31)) - (1 : Int32))).bind (fun r37 => if r37 = 0 then pX8_odds_53 f g else (pX8_in f g v3 (0 : Int32) (1 : Int32)).bind (fun r47 => if r47 = 0 then pX8_odds_53 f g else pX8_odds_63 5000 f g v1 v2 v3 (0 : Int64) (0 : Int32))))

def pX8_odds_0 (f : xF) (g : xG) (v1 : Int32) (v2 : Int32) (v3 : Int32) : Option (Int64 × xF × xG) := if (16 : Int32) ≤ (f 32) then pX8_odds_18 f g v1 v2 v3 (16 : Int32) else pX8_odds_18 f g v1 v2 v3 (f 32)

abbrev pX8_odds (f : xF) (g : xG) (v1 : Int32) (v2 : Int32) (v3 : Int32) : Option (Int64 × xF × xG) := pX8_odds_0 f g v1 v2 v3
theorem bX8_odds_53 {p : Program} {l : Launch} {e : Env} {s : State} {m : MethodId} {as : Array Value} {below : List Frame} {meth : Method} {c : Code} {A : Nat → Prop} {Q : State → Prop} {γ : wx_G} {o : Nat} {ad : Nat → Nat} {z : Int64 × xF × xG} (C : CallFix p m c cX8_odds 11 s as lw_all RX8) (K : wx_C γ A s) (E : ∀ (H : Heap) (locs : List Loc) (ls : Array Slot) (pc : Nat), wx_w γ A s H locs (mw γ o ad z.2.1 z.2.2) → decode cX8_odds pc = .ok (.lreturn, 1) → W p l e rmX8_odds s m as below meth c H locs 0 0 Q (F0 m pc ls [.long z.1])) {f : xF} {g : xG} {H : Heap} {locs : List Loc} {ls : Array Slot} (w : wx_w γ A s H locs (mw γ o ad f g)) (hl : lv_has ls 11 []) (hF : pX8_odds_53 f g = some z) : W p l e rmX8_odds s m as below meth c H locs 0 0 Q (F0 m 53 ls []) := by
  have hx := C.1
  have hb := C.2.1
  unfold pX8_odds_53 at hF
  refine lv_ldc2 (v := (-4611686018427387904 : Int64)) hx hb C.2.2.2.1 (C.2.2.2.2 _ q1696) dX8_odds_53 ?_
  have hF := Option.some.inj hF
  subst hF
  exact E _ _ _ _ w dX8_odds_56

theorem bX8_odds_125 {p : Program} {l : Launch} {e : Env} {s : State} {m : MethodId} {as : Array Value} {below : List Frame} {meth : Method} {c : Code} {A : Nat → Prop} {Q : State → Prop} {γ : wx_G} {o : Nat} {ad : Nat → Nat} {z : Int64 × xF × xG} (C : CallFix p m c cX8_odds 11 s as lw_all RX8) (K : wx_C γ A s) (E : ∀ (H : Heap) (locs : List Loc) (ls : Array Slot) (pc : Nat), wx_w γ A s H locs (mw γ o ad z.2.1 z.2.2) → decode cX8_odds pc = .ok (.lreturn, 1) → W p l e rmX8_odds s m as below meth c H locs 0 0 Q (F0 m pc ls [.long z.1])) {f : xF} {g : xG} {t0 : Int64} {H : Heap} {locs : List Loc} {ls : Array Slot} (w : wx_w γ A s H locs (mw γ o ad f g)) (hl : lv_has ls 11 []) (hF : pX8_odds_125 f g t0 = some z) : W p l e rmX8_odds s m as below meth c H locs 0 0 Q (F0 m 125 ls [.long t0]) := by
  have hx := C.1
  have hb := C.2.1
  unfold pX8_odds_125 at hF
  have hF := Option.some.inj hF
  subst hF
  exact E _ _ _ _ w dX8_odds_125

theorem bX8_odds_90 {p : Program} {l : Launch} {e : Env} {s : State} {m : MethodId} {as : Array Value} {below : List Frame} {meth : Method} {c : Code} {A : Nat → Prop} {Q : State → Prop} {γ : wx_G} {o : Nat} {ad : Nat → Nat} {z : Int64 × xF × xG} (C : CallFix p m c cX8_odds 11 s as lw_all RX8) (K : wx_C γ A s) (E : ∀ (H : Heap) (locs : List Loc) (ls : Array Slot) (pc : Nat), wx_w γ A s H locs (mw γ o ad z.2.1 z.2.2) → decode cX8_odds pc = .ok (.lreturn, 1) → W p l e rmX8_odds s m as below meth c H locs 0 0 Q (F0 m pc ls [.long z.1])) {f : xF} {g : xG} {v1 : Int32} {v2 : Int32} {v3 : Int32} {v5 : Int64} {H : Heap} {locs : List Loc} {ls : Array Slot} (w : wx_w γ A s H locs (mw γ o ad f g)) (hl : lv_has ls 11 [(0, .ref o), (1, .int v1), (2, .int v2), (3, .int v3), (5, .long v5)]) (hF : pX8_odds_90 f g v1 v2 v3 v5 = some z) : W p l e rmX8_odds s m as below meth c H locs 0 0 Q (F0 m 90 ls []) := by
  have hx := C.1
  have hb := C.2.1
  unfold pX8_odds_90 at hF
  refine lv_aload_n hx hb dX8_odds_90 rfl (lv_at hl 0 rfl) ?_
  refine lv_iload_n hx hb dX8_odds_91 rfl (lv_at hl 1 rfl) ?_
  refine lv_iload_n hx hb dX8_odds_92 rfl (lv_at hl 2 rfl) ?_
  obtain ⟨r93, hr, hF⟩ := obd hF
  refine rX8_product C K w hr hl.1 ⟨Nat.le_of_ble_eq_true rfl, Nat.le_of_ble_eq_true rfl⟩ (Nat.le_of_ble_eq_true rfl) dX8_odds_93 (fun H locs w => ?_)
  refine lv_lstore (lv' := [(7, .long r93.1), (0, .ref o), (1, .int v1), (2, .int v2), (3, .int v3), (5, .long v5)]) hx hb dX8_odds_96 hl (by decide) rfl (fun ls hl => ?_)
  refine lv_aload_n hx hb dX8_odds_98 rfl (lv_at hl 1 rfl) ?_
  refine lv_lload hx hb dX8_odds_99 (lv_at hl 0 rfl) ?_
  refine lv_lload hx hb dX8_odds_101 (lv_at hl 5 rfl) ?_
  obtain ⟨r103, hr, hF⟩ := obd hF
  refine rX8_divisor C K w hr hl.1 ⟨Nat.le_of_ble_eq_true rfl, Nat.le_of_ble_eq_true rfl⟩ (Nat.le_of_ble_eq_true rfl) dX8_odds_103 (fun H locs w => ?_)
  refine lv_lstore (lv' := [(9, .long r103), (7, .long r93.1), (0, .ref o), (1, .int v1), (2, .int v2), (3, .int v3), (5, .long v5)]) hx hb dX8_odds_106 hl (by decide) rfl (fun ls hl => ?_)
  refine lv_iload_n hx hb dX8_odds_108 rfl (lv_at hl 5 rfl) ?_
  refine lv_if_ne (tgt := 120) hx hb dX8_odds_109 (by decide) (fun c => ?_) (fun c => ?_)
  · have hF := (if_neg c).symm.trans hF
    refine lv_lload hx hb dX8_odds_120 (lv_at hl 6 rfl) ?_
    refine lv_lload hx hb dX8_odds_122 (lv_at hl 0 rfl) ?_
    obtain ⟨hne, hF⟩ := gnz_if hF
    refine lv_ldiv hx hb dX8_odds_124 hne ?_
    exact bX8_odds_125 C K E w (lv_sub hl [] rfl) hF
  · have hF := (if_pos c).symm.trans hF
    refine lv_lload hx hb dX8_odds_112 (lv_at hl 1 rfl) ?_
    refine lv_lload hx hb dX8_odds_114 (lv_at hl 0 rfl) ?_
    obtain ⟨hne, hF⟩ := gnz_if hF
    refine lv_ldiv hx hb dX8_odds_116 hne ?_
    refine lv_goto (tgt := 125) hx hb dX8_odds_117 (by decide) ?_
    exact bX8_odds_125 C K E w (lv_sub hl [] rfl) hF

theorem bX8_odds_63 {p : Program} {l : Launch} {e : Env} {s : State} {m : MethodId} {as : Array Value} {below : List Frame} {meth : Method} {c : Code} {A : Nat → Prop} {Q : State → Prop} {γ : wx_G} {o : Nat} {ad : Nat → Nat} {z : Int64 × xF × xG} (C : CallFix p m c cX8_odds 11 s as lw_all RX8) (K : wx_C γ A s) (E : ∀ (H : Heap) (locs : List Loc) (ls : Array Slot) (pc : Nat), wx_w γ A s H locs (mw γ o ad z.2.1 z.2.2) → decode cX8_odds pc = .ok (.lreturn, 1) → W p l e rmX8_odds s m as below meth c H locs 0 0 Q (F0 m pc ls [.long z.1])) : ∀ (n : Nat) (f : xF) (g : xG) (v1 : Int32) (v2 : Int32) (v3 : Int32) (v5 : Int64) (v7 : Int32) (H : Heap) (locs : List Loc) (ls : Array Slot), pX8_odds_63 n f g v1 v2 v3 v5 v7 = some z → wx_w γ A s H locs (mw γ o ad f g) → lv_has ls 11 [(0, .ref o), (1, .int v1), (2, .int v2), (3, .int v3), (5, .long v5), (7, .int v7)] → W p l e rmX8_odds s m as below meth c H locs 0 0 Q (F0 m 63 ls []) := by
  have hx := C.1
  have hb := C.2.1
  intro n
  induction n with
  | zero =>
    intro f g v1 v2 v3 v5 v7 H locs ls hF w hl
    have hF : (none : Option (Int64 × xF × xG)) = some z := hF
    cases hF
  | succ n ih =>
    intro f g v1 v2 v3 v5 v7 H locs ls hF w hl
    rw [pX8_odds_63] at hF
    refine lv_iload hx hb dX8_odds_63 (lv_at hl 5 rfl) ?_
    refine lv_aload_n hx hb dX8_odds_65 rfl (lv_at hl 0 rfl) ?_
    refine mget_2 C K w dX8_odds_66 ?_
    refine lv_icmp_ge (tgt := 90) hx hb dX8_odds_69 (by decide) (fun c => ?_) (fun c => ?_)
    · have hF := (if_pos c).symm.trans hF
      exact bX8_odds_90 C K E w (lv_sub hl [0, 1, 2, 3, 4] rfl) hF
    · have hF := (if_neg c).symm.trans hF
      refine lv_lload hx hb dX8_odds_72 (lv_at hl 4 rfl) ?_
      refine lv_aload_n hx hb dX8_odds_74 rfl (lv_at hl 0 rfl) ?_
      refine lv_iload hx hb dX8_odds_75 (lv_at hl 5 rfl) ?_
      refine lv_iload_n hx hb dX8_odds_77 rfl (lv_at hl 2 rfl) ?_
      obtain ⟨r78, hr, hF⟩ := obd hF
      refine rX8_product C K w hr hl.1 ⟨Nat.le_of_ble_eq_true rfl, Nat.le_of_ble_eq_true rfl⟩ (Nat.le_of_ble_eq_true rfl) dX8_odds_78 (fun H locs w => ?_)
      refine lv_ladd hx hb dX8_odds_81 ?_
      refine lv_lstore (lv' := [(5, .long (v5 + r78.1)), (0, .ref o), (1, .int v1), (2, .int v2), (3, .int v3), (7, .int v7)]) hx hb dX8_odds_82 hl (by decide) rfl (fun ls hl => ?_)
      refine lv_iinc (v := v7 + 1) (lv' := [(7, .int (v7 + 1)), (5, .long (v5 + r78.1)), (0, .ref o), (1, .int v1), (2, .int v2), (3, .int v3)]) hx hb dX8_odds_84 hl (k := 5) rfl rfl (by decide) rfl (fun ls hl => ?_)
      refine lv_goto (tgt := 63) hx hb dX8_odds_87 (by decide) ?_
      exact ih _ _ _ _ _ _ _ _ _ _ hF w (lv_sub hl [2, 3, 4, 5, 1, 0] rfl)

theorem bX8_odds_18 {p : Program} {l : Launch} {e : Env} {s : State} {m : MethodId} {as : Array Value} {below : List Frame} {meth : Method} {c : Code} {A : Nat → Prop} {Q : State → Prop} {γ : wx_G} {o : Nat} {ad : Nat → Nat} {z : Int64 × xF × xG} (C : CallFix p m c cX8_odds 11 s as lw_all RX8) (K : wx_C γ A s) (E : ∀ (H : Heap) (locs : List Loc) (ls : Array Slot) (pc : Nat), wx_w γ A s H locs (mw γ o ad z.2.1 z.2.2) → decode cX8_odds pc = .ok (.lreturn, 1) → W p l e rmX8_odds s m as below meth c H locs 0 0 Q (F0 m pc ls [.long z.1])) {f : xF} {g : xG} {v1 : Int32} {v2 : Int32} {v3 : Int32} {t0 : Int32} {H : Heap} {locs : List Loc} {ls : Array Slot} (w : wx_w γ A s H locs (mw γ o ad f g)) (hl : lv_has ls 11 [(0, .ref o), (1, .int v1), (2, .int v2), (3, .int v3)]) (hF : pX8_odds_18 f g v1 v2 v3 t0 = some z) : W p l e rmX8_odds s m as below meth c H locs 0 0 Q (F0 m 18 ls [.int t0]) := by
  have hx := C.1
  have hb := C.2.1
  unfold pX8_odds_18 at hF
  refine lv_istore (lv' := [(4, .int t0), (0, .ref o), (1, .int v1), (2, .int v2), (3, .int v3)]) hx hb dX8_odds_18 hl (by decide) rfl (fun ls hl => ?_)
  refine lv_aload_n hx hb dX8_odds_20 rfl (lv_at hl 1 rfl) ?_
  refine lv_iload_n hx hb dX8_odds_21 rfl (lv_at hl 2 rfl) ?_
  obtain ⟨r22, hr, hF⟩ := obd hF
  refine rX8_isHow C K w hr hl.1 ⟨Nat.le_of_ble_eq_true rfl, Nat.le_of_ble_eq_true rfl⟩ (Nat.le_of_ble_eq_true rfl) dX8_odds_22 (fun H locs w => ?_)
  refine lv_if_eq (tgt := 53) hx hb dX8_odds_25 (by decide) (fun c => ?_) (fun c => ?_)
  · have hF := (if_pos c).symm.trans hF
    exact bX8_odds_53 C K E w (lv_sub hl [] rfl) hF
  · have hF := (if_neg c).symm.trans hF
    refine lv_aload_n hx hb dX8_odds_28 rfl (lv_at hl 1 rfl) ?_
    refine lv_iload_n hx hb dX8_odds_29 rfl (lv_at hl 3 rfl) ?_
    refine lv_iconst (v := (0 : Int32)) hx hb dX8_odds_30 (by decide) ?_
    refine lv_iconst (v := (1 : Int32)) hx hb dX8_odds_31 (by decide) ?_
    refine lv_iload hx hb dX8_odds_32 (lv_at hl 0 rfl) ?_
    refine lv_ishl hx hb dX8_odds_34 ?_
    refine lv_iconst (v := (1 : Int32)) hx hb dX8_odds_35 (by decide) ?_
    refine lv_isub hx hb dX8_odds_36 ?_
    obtain ⟨r37, hr, hF⟩ := obd hF
    refine rX8_in C K w hr hl.1 ⟨Nat.le_of_ble_eq_true rfl, Nat.le_of_ble_eq_true rfl⟩ (Nat.le_of_ble_eq_true rfl) dX8_odds_37 (fun H locs w => ?_)
    refine lv_if_eq (tgt := 53) hx hb dX8_odds_40 (by decide) (fun c => ?_) (fun c => ?_)
    · have hF := (if_pos c).symm.trans hF
      exact bX8_odds_53 C K E w (lv_sub hl [] rfl) hF
    · have hF := (if_neg c).symm.trans hF
      refine lv_aload_n hx hb dX8_odds_43 rfl (lv_at hl 1 rfl) ?_
      refine lv_iload_n hx hb dX8_odds_44 rfl (lv_at hl 4 rfl) ?_
      refine lv_iconst (v := (0 : Int32)) hx hb dX8_odds_45 (by decide) ?_
      refine lv_iconst (v := (1 : Int32)) hx hb dX8_odds_46 (by decide) ?_
      obtain ⟨r47, hr, hF⟩ := obd hF
      refine rX8_in C K w hr hl.1 ⟨Nat.le_of_ble_eq_true rfl, Nat.le_of_ble_eq_true rfl⟩ (Nat.le_of_ble_eq_true rfl) dX8_odds_47 (fun H locs w => ?_)
      refine lv_if_ne (tgt := 57) hx hb dX8_odds_50 (by decide) (fun c => ?_) (fun c => ?_)
      · have hF := (if_neg c).symm.trans hF
        refine lv_lconst (v := (0 : Int64)) hx hb dX8_odds_57 (by decide) ?_
        refine lv_lstore (lv' := [(5, .long (0 : Int64)), (4, .int t0), (0, .ref o), (1, .int v1), (2, .int v2), (3, .int v3)]) hx hb dX8_odds_58 hl (by decide) rfl (fun ls hl => ?_)
        refine lv_iconst (v := (0 : Int32)) hx hb dX8_odds_60 (by decide) ?_
        refine lv_istore (lv' := [(7, .int (0 : Int32)), (5, .long (0 : Int64)), (4, .int t0), (0, .ref o), (1, .int v1), (2, .int v2), (3, .int v3)]) hx hb dX8_odds_61 hl (by decide) rfl (fun ls hl => ?_)
        exact bX8_odds_63 C K E 5000 _ _ _ _ _ _ _ _ _ _ hF w (lv_sub hl [3, 4, 5, 6, 1, 0] rfl)
      · have hF := (if_pos c).symm.trans hF
        exact bX8_odds_53 C K E w (lv_sub hl [] rfl) hF

theorem bX8_odds_0 {p : Program} {l : Launch} {e : Env} {s : State} {m : MethodId} {as : Array Value} {below : List Frame} {meth : Method} {c : Code} {A : Nat → Prop} {Q : State → Prop} {γ : wx_G} {o : Nat} {ad : Nat → Nat} {z : Int64 × xF × xG} (C : CallFix p m c cX8_odds 11 s as lw_all RX8) (K : wx_C γ A s) (E : ∀ (H : Heap) (locs : List Loc) (ls : Array Slot) (pc : Nat), wx_w γ A s H locs (mw γ o ad z.2.1 z.2.2) → decode cX8_odds pc = .ok (.lreturn, 1) → W p l e rmX8_odds s m as below meth c H locs 0 0 Q (F0 m pc ls [.long z.1])) {f : xF} {g : xG} {v1 : Int32} {v2 : Int32} {v3 : Int32} {H : Heap} {locs : List Loc} {ls : Array Slot} (w : wx_w γ A s H locs (mw γ o ad f g)) (hl : lv_has ls 11 [(0, .ref o), (1, .int v1), (2, .int v2), (3, .int v3)]) (hF : pX8_odds_0 f g v1 v2 v3 = some z) : W p l e rmX8_odds s m as below meth c H locs 0 0 Q (F0 m 0 ls []) := by
  have hx := C.1
  have hb := C.2.1
  unfold pX8_odds_0 at hF
  refine lv_aload_n hx hb dX8_odds_0 rfl (lv_at hl 0 rfl) ?_
  refine mget_32 C K w dX8_odds_1 ?_
  refine lv_bipush (v := (16 : Int32)) hx hb dX8_odds_4 (by decide) ?_
  refine lv_icmp_ge (tgt := 16) hx hb dX8_odds_6 (by decide) (fun c => ?_) (fun c => ?_)
  · have hF := (if_pos c).symm.trans hF
    refine lv_bipush (v := (16 : Int32)) hx hb dX8_odds_16 (by decide) ?_
    exact bX8_odds_18 C K E w hl hF
  · have hF := (if_neg c).symm.trans hF
    refine lv_aload_n hx hb dX8_odds_9 rfl (lv_at hl 0 rfl) ?_
    refine mget_32 C K w dX8_odds_10 ?_
    refine lv_goto (tgt := 18) hx hb dX8_odds_13 (by decide) ?_
    exact bX8_odds_18 C K E w hl hF

theorem mX8_odds {l : Launch} {γ : wx_G} {o : Nat} {ad : Nat → Nat} {f : xF} {g : xG} {v1 : Int32} {v2 : Int32} {v3 : Int32} {z : Int64 × xF × xG} (hF : pX8_odds f g v1 v2 v3 = some z) : wx_M γ l yX8_odds (ws_ yX8_odds cX8_odds 11 (some .long)) rmX8_odds [.ref o, .int v1, .int v2, .int v3] (mw γ o ad f g) (fun v ws => v = some (.long z.1) ∧ ws = (mw γ o ad z.2.1 z.2.2)) 0 0 := by
  refine wx_M.of (by decide) (Nat.le_of_ble_eq_true rfl) ?_
  intro p e s m as below meth c A ls C K w hr hlocks _ hl
  exact bX8_odds_0 C K (fun H locs ls pc w d => wx_lret C hr hlocks w ⟨rfl, rfl⟩ d) w hl hF

/-! WalkingStonesModel.peg(I)I -/
abbrev rmX8_peg : Room := { frames := 1, cells := 0, slots := 0, locals := 23 }
def pX8_peg_0 (f : xF) (g : xG) (v1 : Int32) : Option (Int32 × xF × xG) := (pX8_in f g v1 (0 : Int32) (4095 : Int32)).bind (fun r6 => if r6 = 0 then some ((-2 : Int32), f, g) else (if (f 37) = (8 : Int32) then some ((-4 : Int32), f, g) else (if gin (f 37) 8 = true then some ((upd f 37 ((f 37) + (1 : Int32))) 37, upd f 37 ((f 37) + (1 : Int32)), va_up g 38 (upd (g 38) (f 37).toNatClampNeg v1)) else none)))

abbrev pX8_peg (f : xF) (g : xG) (v1 : Int32) : Option (Int32 × xF × xG) := pX8_peg_0 f g v1
theorem bX8_peg_0 {p : Program} {l : Launch} {e : Env} {s : State} {m : MethodId} {as : Array Value} {below : List Frame} {meth : Method} {c : Code} {A : Nat → Prop} {Q : State → Prop} {γ : wx_G} {o : Nat} {ad : Nat → Nat} {z : Int32 × xF × xG} (C : CallFix p m c cX8_peg 2 s as lw_all RX8) (K : wx_C γ A s) (E : ∀ (H : Heap) (locs : List Loc) (ls : Array Slot) (pc : Nat), wx_w γ A s H locs (mw γ o ad z.2.1 z.2.2) → decode cX8_peg pc = .ok (.ireturn, 1) → W p l e rmX8_peg s m as below meth c H locs 0 0 Q (F0 m pc ls [.int z.1])) {f : xF} {g : xG} {v1 : Int32} {H : Heap} {locs : List Loc} {ls : Array Slot} (w : wx_w γ A s H locs (mw γ o ad f g)) (hl : lv_has ls 2 [(0, .ref o), (1, .int v1)]) (hF : pX8_peg_0 f g v1 = some z) : W p l e rmX8_peg s m as below meth c H locs 0 0 Q (F0 m 0 ls []) := by
  have hx := C.1
  have hb := C.2.1
  unfold pX8_peg_0 at hF
  refine lv_aload_n hx hb dX8_peg_0 rfl (lv_at hl 0 rfl) ?_
  refine lv_iload_n hx hb dX8_peg_1 rfl (lv_at hl 1 rfl) ?_
  refine lv_iconst (v := (0 : Int32)) hx hb dX8_peg_2 (by decide) ?_
  refine lv_sipush (v := (4095 : Int32)) hx hb dX8_peg_3 (by decide) ?_
  obtain ⟨r6, hr, hF⟩ := obd hF
  refine rX8_in C K w hr hl.1 ⟨Nat.le_of_ble_eq_true rfl, Nat.le_of_ble_eq_true rfl⟩ (Nat.le_of_ble_eq_true rfl) dX8_peg_6 (fun H locs w => ?_)
  refine lv_if_ne (tgt := 15) hx hb dX8_peg_9 (by decide) (fun c => ?_) (fun c => ?_)
  · have hF := (if_neg c).symm.trans hF
    refine lv_aload_n hx hb dX8_peg_15 rfl (lv_at hl 0 rfl) ?_
    refine mget_37 C K w dX8_peg_16 ?_
    refine lv_bipush (v := (8 : Int32)) hx hb dX8_peg_19 (by decide) ?_
    refine lv_icmp_ne (tgt := 27) hx hb dX8_peg_21 (by decide) (fun c => ?_) (fun c => ?_)
    · have hF := (if_neg c).symm.trans hF
      refine lv_aload_n hx hb dX8_peg_27 rfl (lv_at hl 0 rfl) ?_
      refine mget_38 C K w dX8_peg_28 ?_
      refine lv_aload_n hx hb dX8_peg_31 rfl (lv_at hl 0 rfl) ?_
      refine mget_37 C K w dX8_peg_32 ?_
      refine lv_iload_n hx hb dX8_peg_35 rfl (lv_at hl 1 rfl) ?_
      obtain ⟨hi, hF⟩ := gin_if hF
      refine mast_38 C K w hi dX8_peg_36 (fun H locs w => ?_)
      refine lv_aload_n hx hb dX8_peg_37 rfl (lv_at hl 0 rfl) ?_
      refine lv_dup hx hb dX8_peg_38 rfl ?_
      refine mget_37 C K w dX8_peg_39 ?_
      refine lv_iconst (v := (1 : Int32)) hx hb dX8_peg_42 (by decide) ?_
      refine lv_iadd hx hb dX8_peg_43 ?_
      refine mput_37 C K w dX8_peg_44 (fun H locs w => ?_)
      refine lv_aload_n hx hb dX8_peg_47 rfl (lv_at hl 0 rfl) ?_
      refine mget_37 C K w dX8_peg_48 ?_
      have hF := Option.some.inj hF
      subst hF
      exact E _ _ _ _ w dX8_peg_51
    · have hF := (if_pos c).symm.trans hF
      refine lv_bipush (v := (-4 : Int32)) hx hb dX8_peg_24 (by decide) ?_
      have hF := Option.some.inj hF
      subst hF
      exact E _ _ _ _ w dX8_peg_26
  · have hF := (if_pos c).symm.trans hF
    refine lv_bipush (v := (-2 : Int32)) hx hb dX8_peg_12 (by decide) ?_
    have hF := Option.some.inj hF
    subst hF
    exact E _ _ _ _ w dX8_peg_14

theorem mX8_peg {l : Launch} {γ : wx_G} {o : Nat} {ad : Nat → Nat} {f : xF} {g : xG} {v1 : Int32} {z : Int32 × xF × xG} (hF : pX8_peg f g v1 = some z) : wx_M γ l yX8_peg (ws_ yX8_peg cX8_peg 2 (some .int)) rmX8_peg [.ref o, .int v1] (mw γ o ad f g) (fun v ws => v = some (.int z.1) ∧ ws = (mw γ o ad z.2.1 z.2.2)) 0 0 := by
  refine wx_M.of (by decide) (Nat.le_of_ble_eq_true rfl) ?_
  intro p e s m as below meth c A ls C K w hr hlocks _ hl
  exact bX8_peg_0 C K (fun H locs ls pc w d => wx_iret C hr hlocks w ⟨rfl, rfl⟩ d) w hl hF

/-! WalkingStonesModel.isHeld(II)Z -/
abbrev rmX8_isHeld : Room := { frames := 1, cells := 0, slots := 0, locals := 23 }
def pX8_isHeld_189 (f : xF) (g : xG) (t0 : Int32) : Option (Int32) := if gbz t0 = true then some (t0) else none

def pX8_isHeld_188 (f : xF) (g : xG) : Option (Int32) := pX8_isHeld_189 f g (0 : Int32)

def pX8_isHeld_165 (f : xF) (g : xG) (v3 : Int32) (v4 : Int32) (v5 : Int32) (v6 : Int32) : Option (Int32) := if v3 = 0 then pX8_isHeld_188 f g else (if v4 = 0 then pX8_isHeld_188 f g else (if v5 = 0 then pX8_isHeld_188 f g else (if v6 = 0 then pX8_isHeld_188 f g else pX8_isHeld_189 f g (1 : Int32))))

def pX8_isHeld_157 (f : xF) (g : xG) (k14 : Int32 → Int32 → Int32 → Int32 → Int32 → Int32 → Int32 → Option (Int32)) (v1 : Int32) (v2 : Int32) (v3 : Int32) (v4 : Int32) (v5 : Int32) (v7 : Int32) (t0 : Int32) : Option (Int32) := k14 v1 v2 v3 v4 v5 t0 (v7 + 1)

def pX8_isHeld_152 (f : xF) (g : xG) (k14 : Int32 → Int32 → Int32 → Int32 → Int32 → Int32 → Int32 → Option (Int32)) (v1 : Int32) (v2 : Int32) (v3 : Int32) (v4 : Int32) (v5 : Int32) (v7 : Int32) : Option (Int32) := pX8_isHeld_157 f g k14 v1 v2 v3 v4 v5 v7 (1 : Int32)

def pX8_isHeld_134 (f : xF) (g : xG) (k14 : Int32 → Int32 → Int32 → Int32 → Int32 → Int32 → Int32 → Option (Int32)) (v1 : Int32) (v2 : Int32) (v3 : Int32) (v4 : Int32) (v6 : Int32) (v7 : Int32) (v9 : Int32) (t0 : Int32) : Option (Int32) := if v6 = 0 then (pX8_in f g v9 (1 : Int32) v2).bind (fun r146 => if r146 = 0 then pX8_isHeld_157 f g k14 v1 v2 v3 v4 t0 v7 (0 : Int32) else pX8_isHeld_152 f g k14 v1 v2 v3 v4 t0 v7) else pX8_isHeld_152 f g k14 v1 v2 v3 v4 t0 v7

def pX8_isHeld_129 (f : xF) (g : xG) (k14 : Int32 → Int32 → Int32 → Int32 → Int32 → Int32 → Int32 → Option (Int32)) (v1 : Int32) (v2 : Int32) (v3 : Int32) (v4 : Int32) (v6 : Int32) (v7 : Int32) (v9 : Int32) : Option (Int32) := pX8_isHeld_134 f g k14 v1 v2 v3 v4 v6 v7 v9 (1 : Int32)

def pX8_isHeld_110 (f : xF) (g : xG) (k14 : Int32 → Int32 → Int32 → Int32 → Int32 → Int32 → Int32 → Option (Int32)) (v1 : Int32) (v2 : Int32) (v3 : Int32) (v5 : Int32) (v6 : Int32) (v7 : Int32) (v9 : Int32) (t0 : Int32) : Option (Int32) := if v5 = 0 then (pX8_in f g (-v9) (1 : Int32) v2).bind (fun r123 => if r123 = 0 then pX8_isHeld_134 f g k14 v1 v2 v3 t0 v6 v7 v9 (0 : Int32) else pX8_isHeld_129 f g k14 v1 v2 v3 t0 v6 v7 v9) else pX8_isHeld_129 f g k14 v1 v2 v3 t0 v6 v7 v9

def pX8_isHeld_105 (f : xF) (g : xG) (k14 : Int32 → Int32 → Int32 → Int32 → Int32 → Int32 → Int32 → Option (Int32)) (v1 : Int32) (v2 : Int32) (v3 : Int32) (v5 : Int32) (v6 : Int32) (v7 : Int32) (v9 : Int32) : Option (Int32) := pX8_isHeld_110 f g k14 v1 v2 v3 v5 v6 v7 v9 (1 : Int32)

def pX8_isHeld_88 (f : xF) (g : xG) (k14 : Int32 → Int32 → Int32 → Int32 → Int32 → Int32 → Int32 → Option (Int32)) (v1 : Int32) (v2 : Int32) (v4 : Int32) (v5 : Int32) (v6 : Int32) (v7 : Int32) (v8 : Int32) (v9 : Int32) (t0 : Int32) : Option (Int32) := if v4 = 0 then (pX8_in f g v8 (1 : Int32) v2).bind (fun r99 => if r99 = 0 then pX8_isHeld_110 f g k14 v1 v2 t0 v5 v6 v7 v9 (0 : Int32) else pX8_isHeld_105 f g k14 v1 v2 t0 v5 v6 v7 v9) else pX8_isHeld_105 f g k14 v1 v2 t0 v5 v6 v7 v9

def pX8_isHeld_83 (f : xF) (g : xG) (k14 : Int32 → Int32 → Int32 → Int32 → Int32 → Int32 → Int32 → Option (Int32)) (v1 : Int32) (v2 : Int32) (v4 : Int32) (v5 : Int32) (v6 : Int32) (v7 : Int32) (v8 : Int32) (v9 : Int32) : Option (Int32) := pX8_isHeld_88 f g k14 v1 v2 v4 v5 v6 v7 v8 v9 (1 : Int32)

def pX8_isHeld_14 (f : xF) (g : xG) : Nat → Int32 → Int32 → Int32 → Int32 → Int32 → Int32 → Int32 → Option (Int32)
  | 0, _, _, _, _, _, _, _ => none
  | n + 1, v1, v2, v3, v4, v5, v6, v7 => if (f 37) ≤ v7 then pX8_isHeld_165 f g v3 v4 v5 v6 else (if gin v7 8 = true then if gin v1 10 = true then if gin v7 8 = true then if gin v1 10 = true then if v3 = 0 then (pX8_in f g (-(((g 38 v7.toNatClampNeg) - (g 38 v7.toNatClampNeg) / (64 : Int32) * (64 : Int32)) - ((g 4 v1.toNatClampNeg) - (g 4 v1.toNatClampNeg) / (64 : Int32) * (64 : Int32)))) (1 : Int32) v2).bind (fun r77 => if r77 = 0 then pX8_isHeld_88 f g (pX8_isHeld_14 f g n) v1 v2 v4 v5 v6 v7 (((g 38 v7.toNatClampNeg) - (g 38 v7.toNatClampNeg) / (64 : Int32) * (64 : Int32)) - ((g 4 v1.toNatClampNeg) - (g 4 v1.toNatClampNeg) / (64 : Int32) * (64 : Int32))) (((g 38 v7.toNatClampNeg) / (64 : Int32)) - ((g 4 v1.toNatClampNeg) / (64 : Int32))) (0 : Int32) else pX8_isHeld_83 f g (pX8_isHeld_14 f g n) v1 v2 v4 v5 v6 v7 (((g 38 v7.toNatClampNeg) - (g 38 v7.toNatClampNeg) / (64 : Int32) * (64 : Int32)) - ((g 4 v1.toNatClampNeg) - (g 4 v1.toNatClampNeg) / (64 : Int32) * (64 : Int32))) (((g 38 v7.toNatClampNeg) / (64 : Int32)) - ((g 4 v1.toNatClampNeg) / (64 : Int32)))) else pX8_isHeld_83 f g (pX8_isHeld_14 f g n) v1 v2 v4 v5 v6 v7 (((g 38 v7.toNatClampNeg) - (g 38 v7.toNatClampNeg) / (64 : Int32) * (64 : Int32)) - ((g 4 v1.toNatClampNeg) - (g 4 v1.toNatClampNeg) / (64 : Int32) * (64 : Int32))) (((g 38 v7.toNatClampNeg) / (64 : Int32)) - ((g 4 v1.toNatClampNeg) / (64 : Int32))) else none else none else none else none)

def pX8_isHeld_0 (f : xF) (g : xG) (v1 : Int32) (v2 : Int32) : Option (Int32) := pX8_isHeld_14 f g 5000 v1 v2 (0 : Int32) (0 : Int32) (0 : Int32) (0 : Int32) (0 : Int32)

abbrev pX8_isHeld (f : xF) (g : xG) (v1 : Int32) (v2 : Int32) : Option (Int32) := pX8_isHeld_0 f g v1 v2
theorem bX8_isHeld_189 {p : Program} {l : Launch} {e : Env} {s : State} {m : MethodId} {as : Array Value} {below : List Frame} {meth : Method} {c : Code} {A : Nat → Prop} {Q : State → Prop} {γ : wx_G} {o : Nat} {ad : Nat → Nat} {z : Int32} {f : xF} {g : xG} (C : CallFix p m c cX8_isHeld 10 s as lw_all RX8) (K : wx_C γ A s) (E : ∀ (H : Heap) (locs : List Loc) (ls : Array Slot) (pc : Nat), narrow .boolean (.int z) = .int z → wx_w γ A s H locs (mw γ o ad f g) → decode cX8_isHeld pc = .ok (.ireturn, 1) → W p l e rmX8_isHeld s m as below meth c H locs 0 0 Q (F0 m pc ls [.int z])) {t0 : Int32} {H : Heap} {locs : List Loc} {ls : Array Slot} (w : wx_w γ A s H locs (mw γ o ad f g)) (hl : lv_has ls 10 []) (hF : pX8_isHeld_189 f g t0 = some z) : W p l e rmX8_isHeld s m as below meth c H locs 0 0 Q (F0 m 189 ls [.int t0]) := by
  have hx := C.1
  have hb := C.2.1
  unfold pX8_isHeld_189 at hF
  obtain ⟨hz, hF⟩ := gbz_if hF
  have hF := Option.some.inj hF
  subst hF
  exact E _ _ _ _ hz w dX8_isHeld_189

theorem bX8_isHeld_188 {p : Program} {l : Launch} {e : Env} {s : State} {m : MethodId} {as : Array Value} {below : List Frame} {meth : Method} {c : Code} {A : Nat → Prop} {Q : State → Prop} {γ : wx_G} {o : Nat} {ad : Nat → Nat} {z : Int32} {f : xF} {g : xG} (C : CallFix p m c cX8_isHeld 10 s as lw_all RX8) (K : wx_C γ A s) (E : ∀ (H : Heap) (locs : List Loc) (ls : Array Slot) (pc : Nat), narrow .boolean (.int z) = .int z → wx_w γ A s H locs (mw γ o ad f g) → decode cX8_isHeld pc = .ok (.ireturn, 1) → W p l e rmX8_isHeld s m as below meth c H locs 0 0 Q (F0 m pc ls [.int z])) {H : Heap} {locs : List Loc} {ls : Array Slot} (w : wx_w γ A s H locs (mw γ o ad f g)) (hl : lv_has ls 10 []) (hF : pX8_isHeld_188 f g = some z) : W p l e rmX8_isHeld s m as below meth c H locs 0 0 Q (F0 m 188 ls []) := by
  have hx := C.1
  have hb := C.2.1
  unfold pX8_isHeld_188 at hF
  refine lv_iconst (v := (0 : Int32)) hx hb dX8_isHeld_188 (by decide) ?_
  exact bX8_isHeld_189 C K E w hl hF

theorem bX8_isHeld_165 {p : Program} {l : Launch} {e : Env} {s : State} {m : MethodId} {as : Array Value} {below : List Frame} {meth : Method} {c : Code} {A : Nat → Prop} {Q : State → Prop} {γ : wx_G} {o : Nat} {ad : Nat → Nat} {z : Int32} {f : xF} {g : xG} (C : CallFix p m c cX8_isHeld 10 s as lw_all RX8) (K : wx_C γ A s) (E : ∀ (H : Heap) (locs : List Loc) (ls : Array Slot) (pc : Nat), narrow .boolean (.int z) = .int z → wx_w γ A s H locs (mw γ o ad f g) → decode cX8_isHeld pc = .ok (.ireturn, 1) → W p l e rmX8_isHeld s m as below meth c H locs 0 0 Q (F0 m pc ls [.int z])) {v3 : Int32} {v4 : Int32} {v5 : Int32} {v6 : Int32} {H : Heap} {locs : List Loc} {ls : Array Slot} (w : wx_w γ A s H locs (mw γ o ad f g)) (hl : lv_has ls 10 [(3, .int v3), (4, .int v4), (5, .int v5), (6, .int v6)]) (hF : pX8_isHeld_165 f g v3 v4 v5 v6 = some z) : W p l e rmX8_isHeld s m as below meth c H locs 0 0 Q (F0 m 165 ls []) := by
  have hx := C.1
  have hb := C.2.1
  unfold pX8_isHeld_165 at hF
  refine lv_iload_n hx hb dX8_isHeld_165 rfl (lv_at hl 0 rfl) ?_
  refine lv_if_eq (tgt := 188) hx hb dX8_isHeld_166 (by decide) (fun c => ?_) (fun c => ?_)
  · have hF := (if_pos c).symm.trans hF
    exact bX8_isHeld_188 C K E w (lv_sub hl [] rfl) hF
  · have hF := (if_neg c).symm.trans hF
    refine lv_iload hx hb dX8_isHeld_169 (lv_at hl 1 rfl) ?_
    refine lv_if_eq (tgt := 188) hx hb dX8_isHeld_171 (by decide) (fun c => ?_) (fun c => ?_)
    · have hF := (if_pos c).symm.trans hF
      exact bX8_isHeld_188 C K E w (lv_sub hl [] rfl) hF
    · have hF := (if_neg c).symm.trans hF
      refine lv_iload hx hb dX8_isHeld_174 (lv_at hl 2 rfl) ?_
      refine lv_if_eq (tgt := 188) hx hb dX8_isHeld_176 (by decide) (fun c => ?_) (fun c => ?_)
      · have hF := (if_pos c).symm.trans hF
        exact bX8_isHeld_188 C K E w (lv_sub hl [] rfl) hF
      · have hF := (if_neg c).symm.trans hF
        refine lv_iload hx hb dX8_isHeld_179 (lv_at hl 3 rfl) ?_
        refine lv_if_eq (tgt := 188) hx hb dX8_isHeld_181 (by decide) (fun c => ?_) (fun c => ?_)
        · have hF := (if_pos c).symm.trans hF
          exact bX8_isHeld_188 C K E w (lv_sub hl [] rfl) hF
        · have hF := (if_neg c).symm.trans hF
          refine lv_iconst (v := (1 : Int32)) hx hb dX8_isHeld_184 (by decide) ?_
          refine lv_goto (tgt := 189) hx hb dX8_isHeld_185 (by decide) ?_
          exact bX8_isHeld_189 C K E w (lv_sub hl [] rfl) hF

theorem bX8_isHeld_157 {p : Program} {l : Launch} {e : Env} {s : State} {m : MethodId} {as : Array Value} {below : List Frame} {meth : Method} {c : Code} {A : Nat → Prop} {Q : State → Prop} {γ : wx_G} {o : Nat} {ad : Nat → Nat} {z : Int32} {f : xF} {g : xG} (C : CallFix p m c cX8_isHeld 10 s as lw_all RX8) (K : wx_C γ A s) (E : ∀ (H : Heap) (locs : List Loc) (ls : Array Slot) (pc : Nat), narrow .boolean (.int z) = .int z → wx_w γ A s H locs (mw γ o ad f g) → decode cX8_isHeld pc = .ok (.ireturn, 1) → W p l e rmX8_isHeld s m as below meth c H locs 0 0 Q (F0 m pc ls [.int z])) {k14 : Int32 → Int32 → Int32 → Int32 → Int32 → Int32 → Int32 → Option (Int32)} (hk14 : ∀ (v1 : Int32) (v2 : Int32) (v3 : Int32) (v4 : Int32) (v5 : Int32) (v6 : Int32) (v7 : Int32) (H : Heap) (locs : List Loc) (ls : Array Slot), k14 v1 v2 v3 v4 v5 v6 v7 = some z → wx_w γ A s H locs (mw γ o ad f g) → lv_has ls 10 [(0, .ref o), (1, .int v1), (2, .int v2), (3, .int v3), (4, .int v4), (5, .int v5), (6, .int v6), (7, .int v7)] → W p l e rmX8_isHeld s m as below meth c H locs 0 0 Q (F0 m 14 ls [])) {v1 : Int32} {v2 : Int32} {v3 : Int32} {v4 : Int32} {v5 : Int32} {v7 : Int32} {t0 : Int32} {H : Heap} {locs : List Loc} {ls : Array Slot} (w : wx_w γ A s H locs (mw γ o ad f g)) (hl : lv_has ls 10 [(0, .ref o), (1, .int v1), (2, .int v2), (3, .int v3), (4, .int v4), (5, .int v5), (7, .int v7)]) (hF : pX8_isHeld_157 f g k14 v1 v2 v3 v4 v5 v7 t0 = some z) : W p l e rmX8_isHeld s m as below meth c H locs 0 0 Q (F0 m 157 ls [.int t0]) := by
  have hx := C.1
  have hb := C.2.1
  unfold pX8_isHeld_157 at hF
  refine lv_istore (lv' := [(6, .int t0), (0, .ref o), (1, .int v1), (2, .int v2), (3, .int v3), (4, .int v4), (5, .int v5), (7, .int v7)]) hx hb dX8_isHeld_157 hl (by decide) rfl (fun ls hl => ?_)
  refine lv_iinc (v := v7 + 1) (lv' := [(7, .int (v7 + 1)), (6, .int t0), (0, .ref o), (1, .int v1), (2, .int v2), (3, .int v3), (4, .int v4), (5, .int v5)]) hx hb dX8_isHeld_159 hl (k := 7) rfl rfl (by decide) rfl (fun ls hl => ?_)
  refine lv_goto (tgt := 14) hx hb dX8_isHeld_162 (by decide) ?_
  exact hk14 _ _ _ _ _ _ _ _ _ _ hF w (lv_sub hl [2, 3, 4, 5, 6, 7, 1, 0] rfl)

theorem bX8_isHeld_152 {p : Program} {l : Launch} {e : Env} {s : State} {m : MethodId} {as : Array Value} {below : List Frame} {meth : Method} {c : Code} {A : Nat → Prop} {Q : State → Prop} {γ : wx_G} {o : Nat} {ad : Nat → Nat} {z : Int32} {f : xF} {g : xG} (C : CallFix p m c cX8_isHeld 10 s as lw_all RX8) (K : wx_C γ A s) (E : ∀ (H : Heap) (locs : List Loc) (ls : Array Slot) (pc : Nat), narrow .boolean (.int z) = .int z → wx_w γ A s H locs (mw γ o ad f g) → decode cX8_isHeld pc = .ok (.ireturn, 1) → W p l e rmX8_isHeld s m as below meth c H locs 0 0 Q (F0 m pc ls [.int z])) {k14 : Int32 → Int32 → Int32 → Int32 → Int32 → Int32 → Int32 → Option (Int32)} (hk14 : ∀ (v1 : Int32) (v2 : Int32) (v3 : Int32) (v4 : Int32) (v5 : Int32) (v6 : Int32) (v7 : Int32) (H : Heap) (locs : List Loc) (ls : Array Slot), k14 v1 v2 v3 v4 v5 v6 v7 = some z → wx_w γ A s H locs (mw γ o ad f g) → lv_has ls 10 [(0, .ref o), (1, .int v1), (2, .int v2), (3, .int v3), (4, .int v4), (5, .int v5), (6, .int v6), (7, .int v7)] → W p l e rmX8_isHeld s m as below meth c H locs 0 0 Q (F0 m 14 ls [])) {v1 : Int32} {v2 : Int32} {v3 : Int32} {v4 : Int32} {v5 : Int32} {v7 : Int32} {H : Heap} {locs : List Loc} {ls : Array Slot} (w : wx_w γ A s H locs (mw γ o ad f g)) (hl : lv_has ls 10 [(0, .ref o), (1, .int v1), (2, .int v2), (3, .int v3), (4, .int v4), (5, .int v5), (7, .int v7)]) (hF : pX8_isHeld_152 f g k14 v1 v2 v3 v4 v5 v7 = some z) : W p l e rmX8_isHeld s m as below meth c H locs 0 0 Q (F0 m 152 ls []) := by
  have hx := C.1
  have hb := C.2.1
  unfold pX8_isHeld_152 at hF
  refine lv_iconst (v := (1 : Int32)) hx hb dX8_isHeld_152 (by decide) ?_
  refine lv_goto (tgt := 157) hx hb dX8_isHeld_153 (by decide) ?_
  exact bX8_isHeld_157 C K E hk14 w hl hF

theorem bX8_isHeld_134 {p : Program} {l : Launch} {e : Env} {s : State} {m : MethodId} {as : Array Value} {below : List Frame} {meth : Method} {c : Code} {A : Nat → Prop} {Q : State → Prop} {γ : wx_G} {o : Nat} {ad : Nat → Nat} {z : Int32} {f : xF} {g : xG} (C : CallFix p m c cX8_isHeld 10 s as lw_all RX8) (K : wx_C γ A s) (E : ∀ (H : Heap) (locs : List Loc) (ls : Array Slot) (pc : Nat), narrow .boolean (.int z) = .int z → wx_w γ A s H locs (mw γ o ad f g) → decode cX8_isHeld pc = .ok (.ireturn, 1) → W p l e rmX8_isHeld s m as below meth c H locs 0 0 Q (F0 m pc ls [.int z])) {k14 : Int32 → Int32 → Int32 → Int32 → Int32 → Int32 → Int32 → Option (Int32)} (hk14 : ∀ (v1 : Int32) (v2 : Int32) (v3 : Int32) (v4 : Int32) (v5 : Int32) (v6 : Int32) (v7 : Int32) (H : Heap) (locs : List Loc) (ls : Array Slot), k14 v1 v2 v3 v4 v5 v6 v7 = some z → wx_w γ A s H locs (mw γ o ad f g) → lv_has ls 10 [(0, .ref o), (1, .int v1), (2, .int v2), (3, .int v3), (4, .int v4), (5, .int v5), (6, .int v6), (7, .int v7)] → W p l e rmX8_isHeld s m as below meth c H locs 0 0 Q (F0 m 14 ls [])) {v1 : Int32} {v2 : Int32} {v3 : Int32} {v4 : Int32} {v6 : Int32} {v7 : Int32} {v9 : Int32} {t0 : Int32} {H : Heap} {locs : List Loc} {ls : Array Slot} (w : wx_w γ A s H locs (mw γ o ad f g)) (hl : lv_has ls 10 [(0, .ref o), (1, .int v1), (2, .int v2), (3, .int v3), (4, .int v4), (6, .int v6), (7, .int v7), (9, .int v9)]) (hF : pX8_isHeld_134 f g k14 v1 v2 v3 v4 v6 v7 v9 t0 = some z) : W p l e rmX8_isHeld s m as below meth c H locs 0 0 Q (F0 m 134 ls [.int t0]) := by
  have hx := C.1
  have hb := C.2.1
  unfold pX8_isHeld_134 at hF
  refine lv_istore (lv' := [(5, .int t0), (0, .ref o), (1, .int v1), (2, .int v2), (3, .int v3), (4, .int v4), (6, .int v6), (7, .int v7), (9, .int v9)]) hx hb dX8_isHeld_134 hl (by decide) rfl (fun ls hl => ?_)
  refine lv_iload hx hb dX8_isHeld_136 (lv_at hl 6 rfl) ?_
  refine lv_if_ne (tgt := 152) hx hb dX8_isHeld_138 (by decide) (fun c => ?_) (fun c => ?_)
  · have hF := (if_neg c).symm.trans hF
    exact bX8_isHeld_152 C K E hk14 w (lv_sub hl [1, 2, 3, 4, 5, 0, 7] rfl) hF
  · have hF := (if_pos c).symm.trans hF
    refine lv_aload_n hx hb dX8_isHeld_141 rfl (lv_at hl 1 rfl) ?_
    refine lv_iload hx hb dX8_isHeld_142 (lv_at hl 8 rfl) ?_
    refine lv_iconst (v := (1 : Int32)) hx hb dX8_isHeld_144 (by decide) ?_
    refine lv_iload_n hx hb dX8_isHeld_145 rfl (lv_at hl 3 rfl) ?_
    obtain ⟨r146, hr, hF⟩ := obd hF
    refine rX8_in C K w hr hl.1 ⟨Nat.le_of_ble_eq_true rfl, Nat.le_of_ble_eq_true rfl⟩ (Nat.le_of_ble_eq_true rfl) dX8_isHeld_146 (fun H locs w => ?_)
    refine lv_if_eq (tgt := 156) hx hb dX8_isHeld_149 (by decide) (fun c => ?_) (fun c => ?_)
    · have hF := (if_pos c).symm.trans hF
      refine lv_iconst (v := (0 : Int32)) hx hb dX8_isHeld_156 (by decide) ?_
      exact bX8_isHeld_157 C K E hk14 w (lv_sub hl [1, 2, 3, 4, 5, 0, 7] rfl) hF
    · have hF := (if_neg c).symm.trans hF
      exact bX8_isHeld_152 C K E hk14 w (lv_sub hl [1, 2, 3, 4, 5, 0, 7] rfl) hF

theorem bX8_isHeld_129 {p : Program} {l : Launch} {e : Env} {s : State} {m : MethodId} {as : Array Value} {below : List Frame} {meth : Method} {c : Code} {A : Nat → Prop} {Q : State → Prop} {γ : wx_G} {o : Nat} {ad : Nat → Nat} {z : Int32} {f : xF} {g : xG} (C : CallFix p m c cX8_isHeld 10 s as lw_all RX8) (K : wx_C γ A s) (E : ∀ (H : Heap) (locs : List Loc) (ls : Array Slot) (pc : Nat), narrow .boolean (.int z) = .int z → wx_w γ A s H locs (mw γ o ad f g) → decode cX8_isHeld pc = .ok (.ireturn, 1) → W p l e rmX8_isHeld s m as below meth c H locs 0 0 Q (F0 m pc ls [.int z])) {k14 : Int32 → Int32 → Int32 → Int32 → Int32 → Int32 → Int32 → Option (Int32)} (hk14 : ∀ (v1 : Int32) (v2 : Int32) (v3 : Int32) (v4 : Int32) (v5 : Int32) (v6 : Int32) (v7 : Int32) (H : Heap) (locs : List Loc) (ls : Array Slot), k14 v1 v2 v3 v4 v5 v6 v7 = some z → wx_w γ A s H locs (mw γ o ad f g) → lv_has ls 10 [(0, .ref o), (1, .int v1), (2, .int v2), (3, .int v3), (4, .int v4), (5, .int v5), (6, .int v6), (7, .int v7)] → W p l e rmX8_isHeld s m as below meth c H locs 0 0 Q (F0 m 14 ls [])) {v1 : Int32} {v2 : Int32} {v3 : Int32} {v4 : Int32} {v6 : Int32} {v7 : Int32} {v9 : Int32} {H : Heap} {locs : List Loc} {ls : Array Slot} (w : wx_w γ A s H locs (mw γ o ad f g)) (hl : lv_has ls 10 [(0, .ref o), (1, .int v1), (2, .int v2), (3, .int v3), (4, .int v4), (6, .int v6), (7, .int v7), (9, .int v9)]) (hF : pX8_isHeld_129 f g k14 v1 v2 v3 v4 v6 v7 v9 = some z) : W p l e rmX8_isHeld s m as below meth c H locs 0 0 Q (F0 m 129 ls []) := by
  have hx := C.1
  have hb := C.2.1
  unfold pX8_isHeld_129 at hF
  refine lv_iconst (v := (1 : Int32)) hx hb dX8_isHeld_129 (by decide) ?_
  refine lv_goto (tgt := 134) hx hb dX8_isHeld_130 (by decide) ?_
  exact bX8_isHeld_134 C K E hk14 w hl hF

theorem bX8_isHeld_110 {p : Program} {l : Launch} {e : Env} {s : State} {m : MethodId} {as : Array Value} {below : List Frame} {meth : Method} {c : Code} {A : Nat → Prop} {Q : State → Prop} {γ : wx_G} {o : Nat} {ad : Nat → Nat} {z : Int32} {f : xF} {g : xG} (C : CallFix p m c cX8_isHeld 10 s as lw_all RX8) (K : wx_C γ A s) (E : ∀ (H : Heap) (locs : List Loc) (ls : Array Slot) (pc : Nat), narrow .boolean (.int z) = .int z → wx_w γ A s H locs (mw γ o ad f g) → decode cX8_isHeld pc = .ok (.ireturn, 1) → W p l e rmX8_isHeld s m as below meth c H locs 0 0 Q (F0 m pc ls [.int z])) {k14 : Int32 → Int32 → Int32 → Int32 → Int32 → Int32 → Int32 → Option (Int32)} (hk14 : ∀ (v1 : Int32) (v2 : Int32) (v3 : Int32) (v4 : Int32) (v5 : Int32) (v6 : Int32) (v7 : Int32) (H : Heap) (locs : List Loc) (ls : Array Slot), k14 v1 v2 v3 v4 v5 v6 v7 = some z → wx_w γ A s H locs (mw γ o ad f g) → lv_has ls 10 [(0, .ref o), (1, .int v1), (2, .int v2), (3, .int v3), (4, .int v4), (5, .int v5), (6, .int v6), (7, .int v7)] → W p l e rmX8_isHeld s m as below meth c H locs 0 0 Q (F0 m 14 ls [])) {v1 : Int32} {v2 : Int32} {v3 : Int32} {v5 : Int32} {v6 : Int32} {v7 : Int32} {v9 : Int32} {t0 : Int32} {H : Heap} {locs : List Loc} {ls : Array Slot} (w : wx_w γ A s H locs (mw γ o ad f g)) (hl : lv_has ls 10 [(0, .ref o), (1, .int v1), (2, .int v2), (3, .int v3), (5, .int v5), (6, .int v6), (7, .int v7), (9, .int v9)]) (hF : pX8_isHeld_110 f g k14 v1 v2 v3 v5 v6 v7 v9 t0 = some z) : W p l e rmX8_isHeld s m as below meth c H locs 0 0 Q (F0 m 110 ls [.int t0]) := by
  have hx := C.1
  have hb := C.2.1
  unfold pX8_isHeld_110 at hF
  refine lv_istore (lv' := [(4, .int t0), (0, .ref o), (1, .int v1), (2, .int v2), (3, .int v3), (5, .int v5), (6, .int v6), (7, .int v7), (9, .int v9)]) hx hb dX8_isHeld_110 hl (by decide) rfl (fun ls hl => ?_)
  refine lv_iload hx hb dX8_isHeld_112 (lv_at hl 5 rfl) ?_
  refine lv_if_ne (tgt := 129) hx hb dX8_isHeld_114 (by decide) (fun c => ?_) (fun c => ?_)
  · have hF := (if_neg c).symm.trans hF
    exact bX8_isHeld_129 C K E hk14 w (lv_sub hl [1, 2, 3, 4, 0, 6, 7, 8] rfl) hF
  · have hF := (if_pos c).symm.trans hF
    refine lv_aload_n hx hb dX8_isHeld_117 rfl (lv_at hl 1 rfl) ?_
    refine lv_iload hx hb dX8_isHeld_118 (lv_at hl 8 rfl) ?_
    refine lv_ineg hx hb dX8_isHeld_120 ?_
    refine lv_iconst (v := (1 : Int32)) hx hb dX8_isHeld_121 (by decide) ?_
    refine lv_iload_n hx hb dX8_isHeld_122 rfl (lv_at hl 3 rfl) ?_
    obtain ⟨r123, hr, hF⟩ := obd hF
    refine rX8_in C K w hr hl.1 ⟨Nat.le_of_ble_eq_true rfl, Nat.le_of_ble_eq_true rfl⟩ (Nat.le_of_ble_eq_true rfl) dX8_isHeld_123 (fun H locs w => ?_)
    refine lv_if_eq (tgt := 133) hx hb dX8_isHeld_126 (by decide) (fun c => ?_) (fun c => ?_)
    · have hF := (if_pos c).symm.trans hF
      refine lv_iconst (v := (0 : Int32)) hx hb dX8_isHeld_133 (by decide) ?_
      exact bX8_isHeld_134 C K E hk14 w (lv_sub hl [1, 2, 3, 4, 0, 6, 7, 8] rfl) hF
    · have hF := (if_neg c).symm.trans hF
      exact bX8_isHeld_129 C K E hk14 w (lv_sub hl [1, 2, 3, 4, 0, 6, 7, 8] rfl) hF

theorem bX8_isHeld_105 {p : Program} {l : Launch} {e : Env} {s : State} {m : MethodId} {as : Array Value} {below : List Frame} {meth : Method} {c : Code} {A : Nat → Prop} {Q : State → Prop} {γ : wx_G} {o : Nat} {ad : Nat → Nat} {z : Int32} {f : xF} {g : xG} (C : CallFix p m c cX8_isHeld 10 s as lw_all RX8) (K : wx_C γ A s) (E : ∀ (H : Heap) (locs : List Loc) (ls : Array Slot) (pc : Nat), narrow .boolean (.int z) = .int z → wx_w γ A s H locs (mw γ o ad f g) → decode cX8_isHeld pc = .ok (.ireturn, 1) → W p l e rmX8_isHeld s m as below meth c H locs 0 0 Q (F0 m pc ls [.int z])) {k14 : Int32 → Int32 → Int32 → Int32 → Int32 → Int32 → Int32 → Option (Int32)} (hk14 : ∀ (v1 : Int32) (v2 : Int32) (v3 : Int32) (v4 : Int32) (v5 : Int32) (v6 : Int32) (v7 : Int32) (H : Heap) (locs : List Loc) (ls : Array Slot), k14 v1 v2 v3 v4 v5 v6 v7 = some z → wx_w γ A s H locs (mw γ o ad f g) → lv_has ls 10 [(0, .ref o), (1, .int v1), (2, .int v2), (3, .int v3), (4, .int v4), (5, .int v5), (6, .int v6), (7, .int v7)] → W p l e rmX8_isHeld s m as below meth c H locs 0 0 Q (F0 m 14 ls [])) {v1 : Int32} {v2 : Int32} {v3 : Int32} {v5 : Int32} {v6 : Int32} {v7 : Int32} {v9 : Int32} {H : Heap} {locs : List Loc} {ls : Array Slot} (w : wx_w γ A s H locs (mw γ o ad f g)) (hl : lv_has ls 10 [(0, .ref o), (1, .int v1), (2, .int v2), (3, .int v3), (5, .int v5), (6, .int v6), (7, .int v7), (9, .int v9)]) (hF : pX8_isHeld_105 f g k14 v1 v2 v3 v5 v6 v7 v9 = some z) : W p l e rmX8_isHeld s m as below meth c H locs 0 0 Q (F0 m 105 ls []) := by
  have hx := C.1
  have hb := C.2.1
  unfold pX8_isHeld_105 at hF
  refine lv_iconst (v := (1 : Int32)) hx hb dX8_isHeld_105 (by decide) ?_
  refine lv_goto (tgt := 110) hx hb dX8_isHeld_106 (by decide) ?_
  exact bX8_isHeld_110 C K E hk14 w hl hF

theorem bX8_isHeld_88 {p : Program} {l : Launch} {e : Env} {s : State} {m : MethodId} {as : Array Value} {below : List Frame} {meth : Method} {c : Code} {A : Nat → Prop} {Q : State → Prop} {γ : wx_G} {o : Nat} {ad : Nat → Nat} {z : Int32} {f : xF} {g : xG} (C : CallFix p m c cX8_isHeld 10 s as lw_all RX8) (K : wx_C γ A s) (E : ∀ (H : Heap) (locs : List Loc) (ls : Array Slot) (pc : Nat), narrow .boolean (.int z) = .int z → wx_w γ A s H locs (mw γ o ad f g) → decode cX8_isHeld pc = .ok (.ireturn, 1) → W p l e rmX8_isHeld s m as below meth c H locs 0 0 Q (F0 m pc ls [.int z])) {k14 : Int32 → Int32 → Int32 → Int32 → Int32 → Int32 → Int32 → Option (Int32)} (hk14 : ∀ (v1 : Int32) (v2 : Int32) (v3 : Int32) (v4 : Int32) (v5 : Int32) (v6 : Int32) (v7 : Int32) (H : Heap) (locs : List Loc) (ls : Array Slot), k14 v1 v2 v3 v4 v5 v6 v7 = some z → wx_w γ A s H locs (mw γ o ad f g) → lv_has ls 10 [(0, .ref o), (1, .int v1), (2, .int v2), (3, .int v3), (4, .int v4), (5, .int v5), (6, .int v6), (7, .int v7)] → W p l e rmX8_isHeld s m as below meth c H locs 0 0 Q (F0 m 14 ls [])) {v1 : Int32} {v2 : Int32} {v4 : Int32} {v5 : Int32} {v6 : Int32} {v7 : Int32} {v8 : Int32} {v9 : Int32} {t0 : Int32} {H : Heap} {locs : List Loc} {ls : Array Slot} (w : wx_w γ A s H locs (mw γ o ad f g)) (hl : lv_has ls 10 [(0, .ref o), (1, .int v1), (2, .int v2), (4, .int v4), (5, .int v5), (6, .int v6), (7, .int v7), (8, .int v8), (9, .int v9)]) (hF : pX8_isHeld_88 f g k14 v1 v2 v4 v5 v6 v7 v8 v9 t0 = some z) : W p l e rmX8_isHeld s m as below meth c H locs 0 0 Q (F0 m 88 ls [.int t0]) := by
  have hx := C.1
  have hb := C.2.1
  unfold pX8_isHeld_88 at hF
  refine lv_istore_n (lv' := [(3, .int t0), (0, .ref o), (1, .int v1), (2, .int v2), (4, .int v4), (5, .int v5), (6, .int v6), (7, .int v7), (8, .int v8), (9, .int v9)]) hx hb dX8_isHeld_88 rfl hl (by decide) rfl (fun ls hl => ?_)
  refine lv_iload hx hb dX8_isHeld_89 (lv_at hl 4 rfl) ?_
  refine lv_if_ne (tgt := 105) hx hb dX8_isHeld_91 (by decide) (fun c => ?_) (fun c => ?_)
  · have hF := (if_neg c).symm.trans hF
    exact bX8_isHeld_105 C K E hk14 w (lv_sub hl [1, 2, 3, 0, 5, 6, 7, 9] rfl) hF
  · have hF := (if_pos c).symm.trans hF
    refine lv_aload_n hx hb dX8_isHeld_94 rfl (lv_at hl 1 rfl) ?_
    refine lv_iload hx hb dX8_isHeld_95 (lv_at hl 8 rfl) ?_
    refine lv_iconst (v := (1 : Int32)) hx hb dX8_isHeld_97 (by decide) ?_
    refine lv_iload_n hx hb dX8_isHeld_98 rfl (lv_at hl 3 rfl) ?_
    obtain ⟨r99, hr, hF⟩ := obd hF
    refine rX8_in C K w hr hl.1 ⟨Nat.le_of_ble_eq_true rfl, Nat.le_of_ble_eq_true rfl⟩ (Nat.le_of_ble_eq_true rfl) dX8_isHeld_99 (fun H locs w => ?_)
    refine lv_if_eq (tgt := 109) hx hb dX8_isHeld_102 (by decide) (fun c => ?_) (fun c => ?_)
    · have hF := (if_pos c).symm.trans hF
      refine lv_iconst (v := (0 : Int32)) hx hb dX8_isHeld_109 (by decide) ?_
      exact bX8_isHeld_110 C K E hk14 w (lv_sub hl [1, 2, 3, 0, 5, 6, 7, 9] rfl) hF
    · have hF := (if_neg c).symm.trans hF
      exact bX8_isHeld_105 C K E hk14 w (lv_sub hl [1, 2, 3, 0, 5, 6, 7, 9] rfl) hF

theorem bX8_isHeld_83 {p : Program} {l : Launch} {e : Env} {s : State} {m : MethodId} {as : Array Value} {below : List Frame} {meth : Method} {c : Code} {A : Nat → Prop} {Q : State → Prop} {γ : wx_G} {o : Nat} {ad : Nat → Nat} {z : Int32} {f : xF} {g : xG} (C : CallFix p m c cX8_isHeld 10 s as lw_all RX8) (K : wx_C γ A s) (E : ∀ (H : Heap) (locs : List Loc) (ls : Array Slot) (pc : Nat), narrow .boolean (.int z) = .int z → wx_w γ A s H locs (mw γ o ad f g) → decode cX8_isHeld pc = .ok (.ireturn, 1) → W p l e rmX8_isHeld s m as below meth c H locs 0 0 Q (F0 m pc ls [.int z])) {k14 : Int32 → Int32 → Int32 → Int32 → Int32 → Int32 → Int32 → Option (Int32)} (hk14 : ∀ (v1 : Int32) (v2 : Int32) (v3 : Int32) (v4 : Int32) (v5 : Int32) (v6 : Int32) (v7 : Int32) (H : Heap) (locs : List Loc) (ls : Array Slot), k14 v1 v2 v3 v4 v5 v6 v7 = some z → wx_w γ A s H locs (mw γ o ad f g) → lv_has ls 10 [(0, .ref o), (1, .int v1), (2, .int v2), (3, .int v3), (4, .int v4), (5, .int v5), (6, .int v6), (7, .int v7)] → W p l e rmX8_isHeld s m as below meth c H locs 0 0 Q (F0 m 14 ls [])) {v1 : Int32} {v2 : Int32} {v4 : Int32} {v5 : Int32} {v6 : Int32} {v7 : Int32} {v8 : Int32} {v9 : Int32} {H : Heap} {locs : List Loc} {ls : Array Slot} (w : wx_w γ A s H locs (mw γ o ad f g)) (hl : lv_has ls 10 [(0, .ref o), (1, .int v1), (2, .int v2), (4, .int v4), (5, .int v5), (6, .int v6), (7, .int v7), (8, .int v8), (9, .int v9)]) (hF : pX8_isHeld_83 f g k14 v1 v2 v4 v5 v6 v7 v8 v9 = some z) : W p l e rmX8_isHeld s m as below meth c H locs 0 0 Q (F0 m 83 ls []) := by
  have hx := C.1
  have hb := C.2.1
  unfold pX8_isHeld_83 at hF
  refine lv_iconst (v := (1 : Int32)) hx hb dX8_isHeld_83 (by decide) ?_
  refine lv_goto (tgt := 88) hx hb dX8_isHeld_84 (by decide) ?_
  exact bX8_isHeld_88 C K E hk14 w hl hF

theorem bX8_isHeld_14 {p : Program} {l : Launch} {e : Env} {s : State} {m : MethodId} {as : Array Value} {below : List Frame} {meth : Method} {c : Code} {A : Nat → Prop} {Q : State → Prop} {γ : wx_G} {o : Nat} {ad : Nat → Nat} {z : Int32} {f : xF} {g : xG} (C : CallFix p m c cX8_isHeld 10 s as lw_all RX8) (K : wx_C γ A s) (E : ∀ (H : Heap) (locs : List Loc) (ls : Array Slot) (pc : Nat), narrow .boolean (.int z) = .int z → wx_w γ A s H locs (mw γ o ad f g) → decode cX8_isHeld pc = .ok (.ireturn, 1) → W p l e rmX8_isHeld s m as below meth c H locs 0 0 Q (F0 m pc ls [.int z])) : ∀ (n : Nat) (v1 : Int32) (v2 : Int32) (v3 : Int32) (v4 : Int32) (v5 : Int32) (v6 : Int32) (v7 : Int32) (H : Heap) (locs : List Loc) (ls : Array Slot), pX8_isHeld_14 f g n v1 v2 v3 v4 v5 v6 v7 = some z → wx_w γ A s H locs (mw γ o ad f g) → lv_has ls 10 [(0, .ref o), (1, .int v1), (2, .int v2), (3, .int v3), (4, .int v4), (5, .int v5), (6, .int v6), (7, .int v7)] → W p l e rmX8_isHeld s m as below meth c H locs 0 0 Q (F0 m 14 ls []) := by
  have hx := C.1
  have hb := C.2.1
  intro n
  induction n with
  | zero =>
    intro v1 v2 v3 v4 v5 v6 v7 H locs ls hF w hl
    have hF : (none : Option (Int32)) = some z := hF
    cases hF
  | succ n ih =>
    intro v1 v2 v3 v4 v5 v6 v7 H locs ls hF w hl
    rw [pX8_isHeld_14] at hF
    refine lv_iload hx hb dX8_isHeld_14 (lv_at hl 7 rfl) ?_
    refine lv_aload_n hx hb dX8_isHeld_16 rfl (lv_at hl 0 rfl) ?_
    refine mget_37 C K w dX8_isHeld_17 ?_
    refine lv_icmp_ge (tgt := 165) hx hb dX8_isHeld_20 (by decide) (fun c => ?_) (fun c => ?_)
    · have hF := (if_pos c).symm.trans hF
      exact bX8_isHeld_165 C K E w (lv_sub hl [3, 4, 5, 6] rfl) hF
    · have hF := (if_neg c).symm.trans hF
      refine lv_aload_n hx hb dX8_isHeld_23 rfl (lv_at hl 0 rfl) ?_
      refine mget_38 C K w dX8_isHeld_24 ?_
      refine lv_iload hx hb dX8_isHeld_27 (lv_at hl 7 rfl) ?_
      obtain ⟨hi, hF⟩ := gin_if hF
      refine mald_38 C K w hi dX8_isHeld_29 ?_
      refine lv_bipush (v := (64 : Int32)) hx hb dX8_isHeld_30 (by decide) ?_
      refine lv_irem hx hb dX8_isHeld_32 (by decide) ?_
      refine lv_aload_n hx hb dX8_isHeld_33 rfl (lv_at hl 0 rfl) ?_
      refine mget_4 C K w dX8_isHeld_34 ?_
      refine lv_iload_n hx hb dX8_isHeld_37 rfl (lv_at hl 1 rfl) ?_
      obtain ⟨hi, hF⟩ := gin_if hF
      refine mald_4 C K w hi dX8_isHeld_38 ?_
      refine lv_bipush (v := (64 : Int32)) hx hb dX8_isHeld_39 (by decide) ?_
      refine lv_irem hx hb dX8_isHeld_41 (by decide) ?_
      refine lv_isub hx hb dX8_isHeld_42 ?_
      refine lv_istore (lv' := [(8, .int (((g 38 v7.toNatClampNeg) - (g 38 v7.toNatClampNeg) / (64 : Int32) * (64 : Int32)) - ((g 4 v1.toNatClampNeg) - (g 4 v1.toNatClampNeg) / (64 : Int32) * (64 : Int32)))), (0, .ref o), (1, .int v1), (2, .int v2), (3, .int v3), (4, .int v4), (5, .int v5), (6, .int v6), (7, .int v7)]) hx hb dX8_isHeld_43 hl (by decide) rfl (fun ls hl => ?_)
      refine lv_aload_n hx hb dX8_isHeld_45 rfl (lv_at hl 1 rfl) ?_
      refine mget_38 C K w dX8_isHeld_46 ?_
      refine lv_iload hx hb dX8_isHeld_49 (lv_at hl 8 rfl) ?_
      obtain ⟨hi, hF⟩ := gin_if hF
      refine mald_38 C K w hi dX8_isHeld_51 ?_
      refine lv_bipush (v := (64 : Int32)) hx hb dX8_isHeld_52 (by decide) ?_
      refine lv_idiv hx hb dX8_isHeld_54 (by decide) ?_
      refine lv_aload_n hx hb dX8_isHeld_55 rfl (lv_at hl 1 rfl) ?_
      refine mget_4 C K w dX8_isHeld_56 ?_
      refine lv_iload_n hx hb dX8_isHeld_59 rfl (lv_at hl 2 rfl) ?_
      obtain ⟨hi, hF⟩ := gin_if hF
      refine mald_4 C K w hi dX8_isHeld_60 ?_
      refine lv_bipush (v := (64 : Int32)) hx hb dX8_isHeld_61 (by decide) ?_
      refine lv_idiv hx hb dX8_isHeld_63 (by decide) ?_
      refine lv_isub hx hb dX8_isHeld_64 ?_
      refine lv_istore (lv' := [(9, .int (((g 38 v7.toNatClampNeg) / (64 : Int32)) - ((g 4 v1.toNatClampNeg) / (64 : Int32)))), (8, .int (((g 38 v7.toNatClampNeg) - (g 38 v7.toNatClampNeg) / (64 : Int32) * (64 : Int32)) - ((g 4 v1.toNatClampNeg) - (g 4 v1.toNatClampNeg) / (64 : Int32) * (64 : Int32)))), (0, .ref o), (1, .int v1), (2, .int v2), (3, .int v3), (4, .int v4), (5, .int v5), (6, .int v6), (7, .int v7)]) hx hb dX8_isHeld_65 hl (by decide) rfl (fun ls hl => ?_)
      refine lv_iload_n hx hb dX8_isHeld_67 rfl (lv_at hl 5 rfl) ?_
      refine lv_if_ne (tgt := 83) hx hb dX8_isHeld_68 (by decide) (fun c => ?_) (fun c => ?_)
      · have hF := (if_neg c).symm.trans hF
        exact bX8_isHeld_83 C K E ih w (lv_sub hl [2, 3, 4, 6, 7, 8, 9, 1, 0] rfl) hF
      · have hF := (if_pos c).symm.trans hF
        refine lv_aload_n hx hb dX8_isHeld_71 rfl (lv_at hl 2 rfl) ?_
        refine lv_iload hx hb dX8_isHeld_72 (lv_at hl 1 rfl) ?_
        refine lv_ineg hx hb dX8_isHeld_74 ?_
        refine lv_iconst (v := (1 : Int32)) hx hb dX8_isHeld_75 (by decide) ?_
        refine lv_iload_n hx hb dX8_isHeld_76 rfl (lv_at hl 4 rfl) ?_
        obtain ⟨r77, hr, hF⟩ := obd hF
        refine rX8_in C K w hr hl.1 ⟨Nat.le_of_ble_eq_true rfl, Nat.le_of_ble_eq_true rfl⟩ (Nat.le_of_ble_eq_true rfl) dX8_isHeld_77 (fun H locs w => ?_)
        refine lv_if_eq (tgt := 87) hx hb dX8_isHeld_80 (by decide) (fun c => ?_) (fun c => ?_)
        · have hF := (if_pos c).symm.trans hF
          refine lv_iconst (v := (0 : Int32)) hx hb dX8_isHeld_87 (by decide) ?_
          exact bX8_isHeld_88 C K E ih w (lv_sub hl [2, 3, 4, 6, 7, 8, 9, 1, 0] rfl) hF
        · have hF := (if_neg c).symm.trans hF
          exact bX8_isHeld_83 C K E ih w (lv_sub hl [2, 3, 4, 6, 7, 8, 9, 1, 0] rfl) hF

theorem bX8_isHeld_0 {p : Program} {l : Launch} {e : Env} {s : State} {m : MethodId} {as : Array Value} {below : List Frame} {meth : Method} {c : Code} {A : Nat → Prop} {Q : State → Prop} {γ : wx_G} {o : Nat} {ad : Nat → Nat} {z : Int32} {f : xF} {g : xG} (C : CallFix p m c cX8_isHeld 10 s as lw_all RX8) (K : wx_C γ A s) (E : ∀ (H : Heap) (locs : List Loc) (ls : Array Slot) (pc : Nat), narrow .boolean (.int z) = .int z → wx_w γ A s H locs (mw γ o ad f g) → decode cX8_isHeld pc = .ok (.ireturn, 1) → W p l e rmX8_isHeld s m as below meth c H locs 0 0 Q (F0 m pc ls [.int z])) {v1 : Int32} {v2 : Int32} {H : Heap} {locs : List Loc} {ls : Array Slot} (w : wx_w γ A s H locs (mw γ o ad f g)) (hl : lv_has ls 10 [(0, .ref o), (1, .int v1), (2, .int v2)]) (hF : pX8_isHeld_0 f g v1 v2 = some z) : W p l e rmX8_isHeld s m as below meth c H locs 0 0 Q (F0 m 0 ls []) := by
  have hx := C.1
  have hb := C.2.1
  unfold pX8_isHeld_0 at hF
  refine lv_iconst (v := (0 : Int32)) hx hb dX8_isHeld_0 (by decide) ?_
  refine lv_istore_n (lv' := [(3, .int (0 : Int32)), (0, .ref o), (1, .int v1), (2, .int v2)]) hx hb dX8_isHeld_1 rfl hl (by decide) rfl (fun ls hl => ?_)
  refine lv_iconst (v := (0 : Int32)) hx hb dX8_isHeld_2 (by decide) ?_
  refine lv_istore (lv' := [(4, .int (0 : Int32)), (3, .int (0 : Int32)), (0, .ref o), (1, .int v1), (2, .int v2)]) hx hb dX8_isHeld_3 hl (by decide) rfl (fun ls hl => ?_)
  refine lv_iconst (v := (0 : Int32)) hx hb dX8_isHeld_5 (by decide) ?_
  refine lv_istore (lv' := [(5, .int (0 : Int32)), (4, .int (0 : Int32)), (3, .int (0 : Int32)), (0, .ref o), (1, .int v1), (2, .int v2)]) hx hb dX8_isHeld_6 hl (by decide) rfl (fun ls hl => ?_)
  refine lv_iconst (v := (0 : Int32)) hx hb dX8_isHeld_8 (by decide) ?_
  refine lv_istore (lv' := [(6, .int (0 : Int32)), (5, .int (0 : Int32)), (4, .int (0 : Int32)), (3, .int (0 : Int32)), (0, .ref o), (1, .int v1), (2, .int v2)]) hx hb dX8_isHeld_9 hl (by decide) rfl (fun ls hl => ?_)
  refine lv_iconst (v := (0 : Int32)) hx hb dX8_isHeld_11 (by decide) ?_
  refine lv_istore (lv' := [(7, .int (0 : Int32)), (6, .int (0 : Int32)), (5, .int (0 : Int32)), (4, .int (0 : Int32)), (3, .int (0 : Int32)), (0, .ref o), (1, .int v1), (2, .int v2)]) hx hb dX8_isHeld_12 hl (by decide) rfl (fun ls hl => ?_)
  exact bX8_isHeld_14 C K E 5000 _ _ _ _ _ _ _ _ _ _ hF w (lv_sub hl [5, 6, 7, 4, 3, 2, 1, 0] rfl)

theorem mX8_isHeld {l : Launch} {γ : wx_G} {o : Nat} {ad : Nat → Nat} {f : xF} {g : xG} {v1 : Int32} {v2 : Int32} {z : Int32} (hF : pX8_isHeld f g v1 v2 = some z) : wx_M γ l yX8_isHeld (ws_ yX8_isHeld cX8_isHeld 10 (some .boolean)) rmX8_isHeld [.ref o, .int v1, .int v2] (mw γ o ad f g) (fun v ws => v = some (.int z) ∧ ws = (mw γ o ad f g)) 0 0 := by
  refine wx_M.of (by decide) (Nat.le_of_ble_eq_true rfl) ?_
  intro p e s m as below meth c A ls C K w hr hlocks _ hl
  exact bX8_isHeld_0 C K (fun H locs ls pc hz w d => wx_zret C hr hlocks hz w ⟨rfl, rfl⟩ d) w hl hF
theorem rX8_isHeld {p : Program} {l : Launch} {e : Env} {R : Room} {s : State} {m : MethodId} {as : Array Value} {below : List Frame} {meth : Method} {c : Code} {H : Heap} {locs : List Loc} {cells slots : Nat} {Q : State → Prop} {cc : ByteArray} {nL pc : Nat} {ls : Array Slot} {rest : List Value} {γ : wx_G} {A : Nat → Prop} {o : Nat} {ad : Nat → Nat} {f : xF} {g : xG} {v1 : Int32} {v2 : Int32} {z : Int32} (C : CallFix p m c cc nL s as lw_all RX8) (K : wx_C γ A s) (w : wx_w γ A s H locs (mw γ o ad f g)) (hF : pX8_isHeld f g v1 v2 = some z) (hls : ls.size = nL) (hR : rmX8_isHeld.frames + 1 ≤ R.frames ∧ 8 + (10 + 11) + rmX8_isHeld.locals ≤ R.locals) (hW : (rest.map fun v => v.category).sum ≤ 8) (d : decode cc pc = .ok (.invokevirtual 336, 3)) (kk : ∀ (H : Heap) (locs : List Loc), wx_w γ A s H locs (mw γ o ad f g) → W p l e R s m as below meth c H locs cells slots Q (F0 m (pc + 3) ls (.int z :: rest))) (hf : cells ≤ R.cells ∧ slots ≤ R.slots := by exact ⟨Nat.le_of_ble_eq_true rfl, Nat.le_of_ble_eq_true rfl⟩) : W p l e R s m as below meth c H locs cells slots Q (F0 m pc ls (.int v2 :: .int v1 :: .ref o :: rest)) :=
  wx_callV (n := 2) C K w (mX8_isHeld (l := l) hF) q1713 q1715 qs95 q123 q1716 rfl rfl (by decide +kernel) (va_recv K.1.1 w.1 (ci := 0) (q0 := 0) rfl rfl) rfl rfl hR hls hW hf d (fun v ws H1 locs1 hp w => by obtain ⟨rfl, rfl⟩ := hp; exact kk H1 locs1 w)

/-! WalkingStonesModel.holds(II)I -/
abbrev rmX8_holds : Room := { frames := 2, cells := 0, slots := 0, locals := 52 }
def pX8_holds_19 (f : xF) (g : xG) : Option (Int32) := some ((-2 : Int32))

def pX8_holds_36 (f : xF) (g : xG) (t0 : Int32) : Option (Int32) := some (t0)

def pX8_holds_0 (f : xF) (g : xG) (v1 : Int32) (v2 : Int32) : Option (Int32) := (pX8_isStone f g v1).bind (fun r2 => if r2 = 0 then pX8_holds_19 f g else (pX8_in f g v2 (0 : Int32) (63 : Int32)).bind (fun r13 => if r13 = 0 then pX8_holds_19 f g else (pX8_isHeld f g v1 v2).bind (fun r25 => if r25 = 0 then pX8_holds_36 f g (0 : Int32) else pX8_holds_36 f g (1 : Int32))))

abbrev pX8_holds (f : xF) (g : xG) (v1 : Int32) (v2 : Int32) : Option (Int32) := pX8_holds_0 f g v1 v2
theorem bX8_holds_19 {p : Program} {l : Launch} {e : Env} {s : State} {m : MethodId} {as : Array Value} {below : List Frame} {meth : Method} {c : Code} {A : Nat → Prop} {Q : State → Prop} {γ : wx_G} {o : Nat} {ad : Nat → Nat} {z : Int32} {f : xF} {g : xG} (C : CallFix p m c cX8_holds 3 s as lw_all RX8) (K : wx_C γ A s) (E : ∀ (H : Heap) (locs : List Loc) (ls : Array Slot) (pc : Nat), wx_w γ A s H locs (mw γ o ad f g) → decode cX8_holds pc = .ok (.ireturn, 1) → W p l e rmX8_holds s m as below meth c H locs 0 0 Q (F0 m pc ls [.int z])) {H : Heap} {locs : List Loc} {ls : Array Slot} (w : wx_w γ A s H locs (mw γ o ad f g)) (hl : lv_has ls 3 []) (hF : pX8_holds_19 f g = some z) : W p l e rmX8_holds s m as below meth c H locs 0 0 Q (F0 m 19 ls []) := by
  have hx := C.1
  have hb := C.2.1
  unfold pX8_holds_19 at hF
  refine lv_bipush (v := (-2 : Int32)) hx hb dX8_holds_19 (by decide) ?_
  have hF := Option.some.inj hF
  subst hF
  exact E _ _ _ _ w dX8_holds_21

theorem bX8_holds_36 {p : Program} {l : Launch} {e : Env} {s : State} {m : MethodId} {as : Array Value} {below : List Frame} {meth : Method} {c : Code} {A : Nat → Prop} {Q : State → Prop} {γ : wx_G} {o : Nat} {ad : Nat → Nat} {z : Int32} {f : xF} {g : xG} (C : CallFix p m c cX8_holds 3 s as lw_all RX8) (K : wx_C γ A s) (E : ∀ (H : Heap) (locs : List Loc) (ls : Array Slot) (pc : Nat), wx_w γ A s H locs (mw γ o ad f g) → decode cX8_holds pc = .ok (.ireturn, 1) → W p l e rmX8_holds s m as below meth c H locs 0 0 Q (F0 m pc ls [.int z])) {t0 : Int32} {H : Heap} {locs : List Loc} {ls : Array Slot} (w : wx_w γ A s H locs (mw γ o ad f g)) (hl : lv_has ls 3 []) (hF : pX8_holds_36 f g t0 = some z) : W p l e rmX8_holds s m as below meth c H locs 0 0 Q (F0 m 36 ls [.int t0]) := by
  have hx := C.1
  have hb := C.2.1
  unfold pX8_holds_36 at hF
  have hF := Option.some.inj hF
  subst hF
  exact E _ _ _ _ w dX8_holds_36

theorem bX8_holds_0 {p : Program} {l : Launch} {e : Env} {s : State} {m : MethodId} {as : Array Value} {below : List Frame} {meth : Method} {c : Code} {A : Nat → Prop} {Q : State → Prop} {γ : wx_G} {o : Nat} {ad : Nat → Nat} {z : Int32} {f : xF} {g : xG} (C : CallFix p m c cX8_holds 3 s as lw_all RX8) (K : wx_C γ A s) (E : ∀ (H : Heap) (locs : List Loc) (ls : Array Slot) (pc : Nat), wx_w γ A s H locs (mw γ o ad f g) → decode cX8_holds pc = .ok (.ireturn, 1) → W p l e rmX8_holds s m as below meth c H locs 0 0 Q (F0 m pc ls [.int z])) {v1 : Int32} {v2 : Int32} {H : Heap} {locs : List Loc} {ls : Array Slot} (w : wx_w γ A s H locs (mw γ o ad f g)) (hl : lv_has ls 3 [(0, .ref o), (1, .int v1), (2, .int v2)]) (hF : pX8_holds_0 f g v1 v2 = some z) : W p l e rmX8_holds s m as below meth c H locs 0 0 Q (F0 m 0 ls []) := by
  have hx := C.1
  have hb := C.2.1
  unfold pX8_holds_0 at hF
  refine lv_aload_n hx hb dX8_holds_0 rfl (lv_at hl 0 rfl) ?_
  refine lv_iload_n hx hb dX8_holds_1 rfl (lv_at hl 1 rfl) ?_
  obtain ⟨r2, hr, hF⟩ := obd hF
  refine rX8_isStone C K w hr hl.1 ⟨Nat.le_of_ble_eq_true rfl, Nat.le_of_ble_eq_true rfl⟩ (Nat.le_of_ble_eq_true rfl) dX8_holds_2 (fun H locs w => ?_)
  refine lv_if_eq (tgt := 19) hx hb dX8_holds_5 (by decide) (fun c => ?_) (fun c => ?_)
  · have hF := (if_pos c).symm.trans hF
    exact bX8_holds_19 C K E w (lv_sub hl [] rfl) hF
  · have hF := (if_neg c).symm.trans hF
    refine lv_aload_n hx hb dX8_holds_8 rfl (lv_at hl 0 rfl) ?_
    refine lv_iload_n hx hb dX8_holds_9 rfl (lv_at hl 2 rfl) ?_
    refine lv_iconst (v := (0 : Int32)) hx hb dX8_holds_10 (by decide) ?_
    refine lv_bipush (v := (63 : Int32)) hx hb dX8_holds_11 (by decide) ?_
    obtain ⟨r13, hr, hF⟩ := obd hF
    refine rX8_in C K w hr hl.1 ⟨Nat.le_of_ble_eq_true rfl, Nat.le_of_ble_eq_true rfl⟩ (Nat.le_of_ble_eq_true rfl) dX8_holds_13 (fun H locs w => ?_)
    refine lv_if_ne (tgt := 22) hx hb dX8_holds_16 (by decide) (fun c => ?_) (fun c => ?_)
    · have hF := (if_neg c).symm.trans hF
      refine lv_aload_n hx hb dX8_holds_22 rfl (lv_at hl 0 rfl) ?_
      refine lv_iload_n hx hb dX8_holds_23 rfl (lv_at hl 1 rfl) ?_
      refine lv_iload_n hx hb dX8_holds_24 rfl (lv_at hl 2 rfl) ?_
      obtain ⟨r25, hr, hF⟩ := obd hF
      refine rX8_isHeld C K w hr hl.1 ⟨Nat.le_of_ble_eq_true rfl, Nat.le_of_ble_eq_true rfl⟩ (Nat.le_of_ble_eq_true rfl) dX8_holds_25 (fun H locs w => ?_)
      refine lv_if_eq (tgt := 35) hx hb dX8_holds_28 (by decide) (fun c => ?_) (fun c => ?_)
      · have hF := (if_pos c).symm.trans hF
        refine lv_iconst (v := (0 : Int32)) hx hb dX8_holds_35 (by decide) ?_
        exact bX8_holds_36 C K E w (lv_sub hl [] rfl) hF
      · have hF := (if_neg c).symm.trans hF
        refine lv_iconst (v := (1 : Int32)) hx hb dX8_holds_31 (by decide) ?_
        refine lv_goto (tgt := 36) hx hb dX8_holds_32 (by decide) ?_
        exact bX8_holds_36 C K E w (lv_sub hl [] rfl) hF
    · have hF := (if_pos c).symm.trans hF
      exact bX8_holds_19 C K E w (lv_sub hl [] rfl) hF

theorem mX8_holds {l : Launch} {γ : wx_G} {o : Nat} {ad : Nat → Nat} {f : xF} {g : xG} {v1 : Int32} {v2 : Int32} {z : Int32} (hF : pX8_holds f g v1 v2 = some z) : wx_M γ l yX8_holds (ws_ yX8_holds cX8_holds 3 (some .int)) rmX8_holds [.ref o, .int v1, .int v2] (mw γ o ad f g) (fun v ws => v = some (.int z) ∧ ws = (mw γ o ad f g)) 0 0 := by
  refine wx_M.of (by decide) (Nat.le_of_ble_eq_true rfl) ?_
  intro p e s m as below meth c A ls C K w hr hlocks _ hl
  exact bX8_holds_0 C K (fun H locs ls pc w d => wx_iret C hr hlocks w ⟨rfl, rfl⟩ d) w hl hF

/-! WalkingStonesModel.isOut(I)Z -/
abbrev rmX8_isOut : Room := { frames := 0, cells := 0, slots := 0, locals := 0 }
def pX8_isOut_163 (f : xF) (g : xG) (t0 : Int32) : Option (Int32) := if gbz t0 = true then some (t0) else none

def pX8_isOut_158 (f : xF) (g : xG) : Option (Int32) := pX8_isOut_163 f g (1 : Int32)

def pX8_isOut_140 (f : xF) (g : xG) (v2 : Int32) (v3 : Int32) (v4 : Int32) (v5 : Int32) : Option (Int32) := if v2 = 0 then (if v3 = 0 then (if v4 = 0 then (if v5 = 0 then pX8_isOut_163 f g (0 : Int32) else pX8_isOut_158 f g) else pX8_isOut_158 f g) else pX8_isOut_158 f g) else pX8_isOut_158 f g

def pX8_isOut_132 (f : xF) (g : xG) (k13 : Int32 → Int32 → Int32 → Int32 → Int32 → Int32 → Option (Int32)) (v1 : Int32) (v2 : Int32) (v3 : Int32) (v4 : Int32) (v6 : Int32) (t0 : Int32) : Option (Int32) := k13 v1 v2 v3 v4 t0 (v6 + 1)

def pX8_isOut_131 (f : xF) (g : xG) (k13 : Int32 → Int32 → Int32 → Int32 → Int32 → Int32 → Option (Int32)) (v1 : Int32) (v2 : Int32) (v3 : Int32) (v4 : Int32) (v6 : Int32) : Option (Int32) := pX8_isOut_132 f g k13 v1 v2 v3 v4 v6 (0 : Int32)

def pX8_isOut_103 (f : xF) (g : xG) (k13 : Int32 → Int32 → Int32 → Int32 → Int32 → Int32 → Option (Int32)) (v1 : Int32) (v2 : Int32) (v3 : Int32) (v5 : Int32) (v6 : Int32) (t0 : Int32) : Option (Int32) := if v5 = 0 then pX8_isOut_131 f g k13 v1 v2 v3 t0 v6 else (if gin v6 8 = true then if (v1 / (64 : Int32)) ≤ ((g 38 v6.toNatClampNeg) / (64 : Int32)) then pX8_isOut_131 f g k13 v1 v2 v3 t0 v6 else pX8_isOut_132 f g k13 v1 v2 v3 t0 v6 (1 : Int32) else none)

def pX8_isOut_102 (f : xF) (g : xG) (k13 : Int32 → Int32 → Int32 → Int32 → Int32 → Int32 → Option (Int32)) (v1 : Int32) (v2 : Int32) (v3 : Int32) (v5 : Int32) (v6 : Int32) : Option (Int32) := pX8_isOut_103 f g k13 v1 v2 v3 v5 v6 (0 : Int32)

def pX8_isOut_75 (f : xF) (g : xG) (k13 : Int32 → Int32 → Int32 → Int32 → Int32 → Int32 → Option (Int32)) (v1 : Int32) (v2 : Int32) (v4 : Int32) (v5 : Int32) (v6 : Int32) (t0 : Int32) : Option (Int32) := if v4 = 0 then pX8_isOut_102 f g k13 v1 v2 t0 v5 v6 else (if gin v6 8 = true then if ((g 38 v6.toNatClampNeg) / (64 : Int32)) ≤ (v1 / (64 : Int32)) then pX8_isOut_102 f g k13 v1 v2 t0 v5 v6 else pX8_isOut_103 f g k13 v1 v2 t0 v5 v6 (1 : Int32) else none)

def pX8_isOut_74 (f : xF) (g : xG) (k13 : Int32 → Int32 → Int32 → Int32 → Int32 → Int32 → Option (Int32)) (v1 : Int32) (v2 : Int32) (v4 : Int32) (v5 : Int32) (v6 : Int32) : Option (Int32) := pX8_isOut_75 f g k13 v1 v2 v4 v5 v6 (0 : Int32)

def pX8_isOut_48 (f : xF) (g : xG) (k13 : Int32 → Int32 → Int32 → Int32 → Int32 → Int32 → Option (Int32)) (v1 : Int32) (v3 : Int32) (v4 : Int32) (v5 : Int32) (v6 : Int32) (t0 : Int32) : Option (Int32) := if v3 = 0 then pX8_isOut_74 f g k13 v1 t0 v4 v5 v6 else (if gin v6 8 = true then if (v1 - v1 / (64 : Int32) * (64 : Int32)) ≤ ((g 38 v6.toNatClampNeg) - (g 38 v6.toNatClampNeg) / (64 : Int32) * (64 : Int32)) then pX8_isOut_74 f g k13 v1 t0 v4 v5 v6 else pX8_isOut_75 f g k13 v1 t0 v4 v5 v6 (1 : Int32) else none)

def pX8_isOut_47 (f : xF) (g : xG) (k13 : Int32 → Int32 → Int32 → Int32 → Int32 → Int32 → Option (Int32)) (v1 : Int32) (v3 : Int32) (v4 : Int32) (v5 : Int32) (v6 : Int32) : Option (Int32) := pX8_isOut_48 f g k13 v1 v3 v4 v5 v6 (0 : Int32)

def pX8_isOut_13 (f : xF) (g : xG) : Nat → Int32 → Int32 → Int32 → Int32 → Int32 → Int32 → Option (Int32)
  | 0, _, _, _, _, _, _ => none
  | n + 1, v1, v2, v3, v4, v5, v6 => if (f 37) ≤ v6 then pX8_isOut_140 f g v2 v3 v4 v5 else (if v2 = 0 then pX8_isOut_47 f g (pX8_isOut_13 f g n) v1 v3 v4 v5 v6 else (if gin v6 8 = true then if ((g 38 v6.toNatClampNeg) - (g 38 v6.toNatClampNeg) / (64 : Int32) * (64 : Int32)) ≤ (v1 - v1 / (64 : Int32) * (64 : Int32)) then pX8_isOut_47 f g (pX8_isOut_13 f g n) v1 v3 v4 v5 v6 else pX8_isOut_48 f g (pX8_isOut_13 f g n) v1 v3 v4 v5 v6 (1 : Int32) else none))

def pX8_isOut_0 (f : xF) (g : xG) (v1 : Int32) : Option (Int32) := pX8_isOut_13 f g 5000 v1 (1 : Int32) (1 : Int32) (1 : Int32) (1 : Int32) (0 : Int32)

abbrev pX8_isOut (f : xF) (g : xG) (v1 : Int32) : Option (Int32) := pX8_isOut_0 f g v1
theorem bX8_isOut_163 {p : Program} {l : Launch} {e : Env} {s : State} {m : MethodId} {as : Array Value} {below : List Frame} {meth : Method} {c : Code} {A : Nat → Prop} {Q : State → Prop} {γ : wx_G} {o : Nat} {ad : Nat → Nat} {z : Int32} {f : xF} {g : xG} (C : CallFix p m c cX8_isOut 7 s as lw_all RX8) (K : wx_C γ A s) (E : ∀ (H : Heap) (locs : List Loc) (ls : Array Slot) (pc : Nat), narrow .boolean (.int z) = .int z → wx_w γ A s H locs (mw γ o ad f g) → decode cX8_isOut pc = .ok (.ireturn, 1) → W p l e rmX8_isOut s m as below meth c H locs 0 0 Q (F0 m pc ls [.int z])) {t0 : Int32} {H : Heap} {locs : List Loc} {ls : Array Slot} (w : wx_w γ A s H locs (mw γ o ad f g)) (hl : lv_has ls 7 []) (hF : pX8_isOut_163 f g t0 = some z) : W p l e rmX8_isOut s m as below meth c H locs 0 0 Q (F0 m 163 ls [.int t0]) := by
  have hx := C.1
  have hb := C.2.1
  unfold pX8_isOut_163 at hF
  obtain ⟨hz, hF⟩ := gbz_if hF
  have hF := Option.some.inj hF
  subst hF
  exact E _ _ _ _ hz w dX8_isOut_163

theorem bX8_isOut_158 {p : Program} {l : Launch} {e : Env} {s : State} {m : MethodId} {as : Array Value} {below : List Frame} {meth : Method} {c : Code} {A : Nat → Prop} {Q : State → Prop} {γ : wx_G} {o : Nat} {ad : Nat → Nat} {z : Int32} {f : xF} {g : xG} (C : CallFix p m c cX8_isOut 7 s as lw_all RX8) (K : wx_C γ A s) (E : ∀ (H : Heap) (locs : List Loc) (ls : Array Slot) (pc : Nat), narrow .boolean (.int z) = .int z → wx_w γ A s H locs (mw γ o ad f g) → decode cX8_isOut pc = .ok (.ireturn, 1) → W p l e rmX8_isOut s m as below meth c H locs 0 0 Q (F0 m pc ls [.int z])) {H : Heap} {locs : List Loc} {ls : Array Slot} (w : wx_w γ A s H locs (mw γ o ad f g)) (hl : lv_has ls 7 []) (hF : pX8_isOut_158 f g = some z) : W p l e rmX8_isOut s m as below meth c H locs 0 0 Q (F0 m 158 ls []) := by
  have hx := C.1
  have hb := C.2.1
  unfold pX8_isOut_158 at hF
  refine lv_iconst (v := (1 : Int32)) hx hb dX8_isOut_158 (by decide) ?_
  refine lv_goto (tgt := 163) hx hb dX8_isOut_159 (by decide) ?_
  exact bX8_isOut_163 C K E w hl hF

theorem bX8_isOut_140 {p : Program} {l : Launch} {e : Env} {s : State} {m : MethodId} {as : Array Value} {below : List Frame} {meth : Method} {c : Code} {A : Nat → Prop} {Q : State → Prop} {γ : wx_G} {o : Nat} {ad : Nat → Nat} {z : Int32} {f : xF} {g : xG} (C : CallFix p m c cX8_isOut 7 s as lw_all RX8) (K : wx_C γ A s) (E : ∀ (H : Heap) (locs : List Loc) (ls : Array Slot) (pc : Nat), narrow .boolean (.int z) = .int z → wx_w γ A s H locs (mw γ o ad f g) → decode cX8_isOut pc = .ok (.ireturn, 1) → W p l e rmX8_isOut s m as below meth c H locs 0 0 Q (F0 m pc ls [.int z])) {v2 : Int32} {v3 : Int32} {v4 : Int32} {v5 : Int32} {H : Heap} {locs : List Loc} {ls : Array Slot} (w : wx_w γ A s H locs (mw γ o ad f g)) (hl : lv_has ls 7 [(2, .int v2), (3, .int v3), (4, .int v4), (5, .int v5)]) (hF : pX8_isOut_140 f g v2 v3 v4 v5 = some z) : W p l e rmX8_isOut s m as below meth c H locs 0 0 Q (F0 m 140 ls []) := by
  have hx := C.1
  have hb := C.2.1
  unfold pX8_isOut_140 at hF
  refine lv_iload_n hx hb dX8_isOut_140 rfl (lv_at hl 0 rfl) ?_
  refine lv_if_ne (tgt := 158) hx hb dX8_isOut_141 (by decide) (fun c => ?_) (fun c => ?_)
  · have hF := (if_neg c).symm.trans hF
    exact bX8_isOut_158 C K E w (lv_sub hl [] rfl) hF
  · have hF := (if_pos c).symm.trans hF
    refine lv_iload_n hx hb dX8_isOut_144 rfl (lv_at hl 1 rfl) ?_
    refine lv_if_ne (tgt := 158) hx hb dX8_isOut_145 (by decide) (fun c => ?_) (fun c => ?_)
    · have hF := (if_neg c).symm.trans hF
      exact bX8_isOut_158 C K E w (lv_sub hl [] rfl) hF
    · have hF := (if_pos c).symm.trans hF
      refine lv_iload hx hb dX8_isOut_148 (lv_at hl 2 rfl) ?_
      refine lv_if_ne (tgt := 158) hx hb dX8_isOut_150 (by decide) (fun c => ?_) (fun c => ?_)
      · have hF := (if_neg c).symm.trans hF
        exact bX8_isOut_158 C K E w (lv_sub hl [] rfl) hF
      · have hF := (if_pos c).symm.trans hF
        refine lv_iload hx hb dX8_isOut_153 (lv_at hl 3 rfl) ?_
        refine lv_if_eq (tgt := 162) hx hb dX8_isOut_155 (by decide) (fun c => ?_) (fun c => ?_)
        · have hF := (if_pos c).symm.trans hF
          refine lv_iconst (v := (0 : Int32)) hx hb dX8_isOut_162 (by decide) ?_
          exact bX8_isOut_163 C K E w (lv_sub hl [] rfl) hF
        · have hF := (if_neg c).symm.trans hF
          exact bX8_isOut_158 C K E w (lv_sub hl [] rfl) hF

theorem bX8_isOut_132 {p : Program} {l : Launch} {e : Env} {s : State} {m : MethodId} {as : Array Value} {below : List Frame} {meth : Method} {c : Code} {A : Nat → Prop} {Q : State → Prop} {γ : wx_G} {o : Nat} {ad : Nat → Nat} {z : Int32} {f : xF} {g : xG} (C : CallFix p m c cX8_isOut 7 s as lw_all RX8) (K : wx_C γ A s) (E : ∀ (H : Heap) (locs : List Loc) (ls : Array Slot) (pc : Nat), narrow .boolean (.int z) = .int z → wx_w γ A s H locs (mw γ o ad f g) → decode cX8_isOut pc = .ok (.ireturn, 1) → W p l e rmX8_isOut s m as below meth c H locs 0 0 Q (F0 m pc ls [.int z])) {k13 : Int32 → Int32 → Int32 → Int32 → Int32 → Int32 → Option (Int32)} (hk13 : ∀ (v1 : Int32) (v2 : Int32) (v3 : Int32) (v4 : Int32) (v5 : Int32) (v6 : Int32) (H : Heap) (locs : List Loc) (ls : Array Slot), k13 v1 v2 v3 v4 v5 v6 = some z → wx_w γ A s H locs (mw γ o ad f g) → lv_has ls 7 [(0, .ref o), (1, .int v1), (2, .int v2), (3, .int v3), (4, .int v4), (5, .int v5), (6, .int v6)] → W p l e rmX8_isOut s m as below meth c H locs 0 0 Q (F0 m 13 ls [])) {v1 : Int32} {v2 : Int32} {v3 : Int32} {v4 : Int32} {v6 : Int32} {t0 : Int32} {H : Heap} {locs : List Loc} {ls : Array Slot} (w : wx_w γ A s H locs (mw γ o ad f g)) (hl : lv_has ls 7 [(0, .ref o), (1, .int v1), (2, .int v2), (3, .int v3), (4, .int v4), (6, .int v6)]) (hF : pX8_isOut_132 f g k13 v1 v2 v3 v4 v6 t0 = some z) : W p l e rmX8_isOut s m as below meth c H locs 0 0 Q (F0 m 132 ls [.int t0]) := by
  have hx := C.1
  have hb := C.2.1
  unfold pX8_isOut_132 at hF
  refine lv_istore (lv' := [(5, .int t0), (0, .ref o), (1, .int v1), (2, .int v2), (3, .int v3), (4, .int v4), (6, .int v6)]) hx hb dX8_isOut_132 hl (by decide) rfl (fun ls hl => ?_)
  refine lv_iinc (v := v6 + 1) (lv' := [(6, .int (v6 + 1)), (5, .int t0), (0, .ref o), (1, .int v1), (2, .int v2), (3, .int v3), (4, .int v4)]) hx hb dX8_isOut_134 hl (k := 6) rfl rfl (by decide) rfl (fun ls hl => ?_)
  refine lv_goto (tgt := 13) hx hb dX8_isOut_137 (by decide) ?_
  exact hk13 _ _ _ _ _ _ _ _ _ hF w (lv_sub hl [2, 3, 4, 5, 6, 1, 0] rfl)

theorem bX8_isOut_131 {p : Program} {l : Launch} {e : Env} {s : State} {m : MethodId} {as : Array Value} {below : List Frame} {meth : Method} {c : Code} {A : Nat → Prop} {Q : State → Prop} {γ : wx_G} {o : Nat} {ad : Nat → Nat} {z : Int32} {f : xF} {g : xG} (C : CallFix p m c cX8_isOut 7 s as lw_all RX8) (K : wx_C γ A s) (E : ∀ (H : Heap) (locs : List Loc) (ls : Array Slot) (pc : Nat), narrow .boolean (.int z) = .int z → wx_w γ A s H locs (mw γ o ad f g) → decode cX8_isOut pc = .ok (.ireturn, 1) → W p l e rmX8_isOut s m as below meth c H locs 0 0 Q (F0 m pc ls [.int z])) {k13 : Int32 → Int32 → Int32 → Int32 → Int32 → Int32 → Option (Int32)} (hk13 : ∀ (v1 : Int32) (v2 : Int32) (v3 : Int32) (v4 : Int32) (v5 : Int32) (v6 : Int32) (H : Heap) (locs : List Loc) (ls : Array Slot), k13 v1 v2 v3 v4 v5 v6 = some z → wx_w γ A s H locs (mw γ o ad f g) → lv_has ls 7 [(0, .ref o), (1, .int v1), (2, .int v2), (3, .int v3), (4, .int v4), (5, .int v5), (6, .int v6)] → W p l e rmX8_isOut s m as below meth c H locs 0 0 Q (F0 m 13 ls [])) {v1 : Int32} {v2 : Int32} {v3 : Int32} {v4 : Int32} {v6 : Int32} {H : Heap} {locs : List Loc} {ls : Array Slot} (w : wx_w γ A s H locs (mw γ o ad f g)) (hl : lv_has ls 7 [(0, .ref o), (1, .int v1), (2, .int v2), (3, .int v3), (4, .int v4), (6, .int v6)]) (hF : pX8_isOut_131 f g k13 v1 v2 v3 v4 v6 = some z) : W p l e rmX8_isOut s m as below meth c H locs 0 0 Q (F0 m 131 ls []) := by
  have hx := C.1
  have hb := C.2.1
  unfold pX8_isOut_131 at hF
  refine lv_iconst (v := (0 : Int32)) hx hb dX8_isOut_131 (by decide) ?_
  exact bX8_isOut_132 C K E hk13 w hl hF

theorem bX8_isOut_103 {p : Program} {l : Launch} {e : Env} {s : State} {m : MethodId} {as : Array Value} {below : List Frame} {meth : Method} {c : Code} {A : Nat → Prop} {Q : State → Prop} {γ : wx_G} {o : Nat} {ad : Nat → Nat} {z : Int32} {f : xF} {g : xG} (C : CallFix p m c cX8_isOut 7 s as lw_all RX8) (K : wx_C γ A s) (E : ∀ (H : Heap) (locs : List Loc) (ls : Array Slot) (pc : Nat), narrow .boolean (.int z) = .int z → wx_w γ A s H locs (mw γ o ad f g) → decode cX8_isOut pc = .ok (.ireturn, 1) → W p l e rmX8_isOut s m as below meth c H locs 0 0 Q (F0 m pc ls [.int z])) {k13 : Int32 → Int32 → Int32 → Int32 → Int32 → Int32 → Option (Int32)} (hk13 : ∀ (v1 : Int32) (v2 : Int32) (v3 : Int32) (v4 : Int32) (v5 : Int32) (v6 : Int32) (H : Heap) (locs : List Loc) (ls : Array Slot), k13 v1 v2 v3 v4 v5 v6 = some z → wx_w γ A s H locs (mw γ o ad f g) → lv_has ls 7 [(0, .ref o), (1, .int v1), (2, .int v2), (3, .int v3), (4, .int v4), (5, .int v5), (6, .int v6)] → W p l e rmX8_isOut s m as below meth c H locs 0 0 Q (F0 m 13 ls [])) {v1 : Int32} {v2 : Int32} {v3 : Int32} {v5 : Int32} {v6 : Int32} {t0 : Int32} {H : Heap} {locs : List Loc} {ls : Array Slot} (w : wx_w γ A s H locs (mw γ o ad f g)) (hl : lv_has ls 7 [(0, .ref o), (1, .int v1), (2, .int v2), (3, .int v3), (5, .int v5), (6, .int v6)]) (hF : pX8_isOut_103 f g k13 v1 v2 v3 v5 v6 t0 = some z) : W p l e rmX8_isOut s m as below meth c H locs 0 0 Q (F0 m 103 ls [.int t0]) := by
  have hx := C.1
  have hb := C.2.1
  unfold pX8_isOut_103 at hF
  refine lv_istore (lv' := [(4, .int t0), (0, .ref o), (1, .int v1), (2, .int v2), (3, .int v3), (5, .int v5), (6, .int v6)]) hx hb dX8_isOut_103 hl (by decide) rfl (fun ls hl => ?_)
  refine lv_iload hx hb dX8_isOut_105 (lv_at hl 5 rfl) ?_
  refine lv_if_eq (tgt := 131) hx hb dX8_isOut_107 (by decide) (fun c => ?_) (fun c => ?_)
  · have hF := (if_pos c).symm.trans hF
    exact bX8_isOut_131 C K E hk13 w (lv_sub hl [1, 2, 3, 4, 0, 6] rfl) hF
  · have hF := (if_neg c).symm.trans hF
    refine lv_iload_n hx hb dX8_isOut_110 rfl (lv_at hl 2 rfl) ?_
    refine lv_bipush (v := (64 : Int32)) hx hb dX8_isOut_111 (by decide) ?_
    refine lv_idiv hx hb dX8_isOut_113 (by decide) ?_
    refine lv_aload_n hx hb dX8_isOut_114 rfl (lv_at hl 1 rfl) ?_
    refine mget_38 C K w dX8_isOut_115 ?_
    refine lv_iload hx hb dX8_isOut_118 (lv_at hl 6 rfl) ?_
    obtain ⟨hi, hF⟩ := gin_if hF
    refine mald_38 C K w hi dX8_isOut_120 ?_
    refine lv_bipush (v := (64 : Int32)) hx hb dX8_isOut_121 (by decide) ?_
    refine lv_idiv hx hb dX8_isOut_123 (by decide) ?_
    refine lv_icmp_le (tgt := 131) hx hb dX8_isOut_124 (by decide) (fun c => ?_) (fun c => ?_)
    · have hF := (if_pos c).symm.trans hF
      exact bX8_isOut_131 C K E hk13 w (lv_sub hl [1, 2, 3, 4, 0, 6] rfl) hF
    · have hF := (if_neg c).symm.trans hF
      refine lv_iconst (v := (1 : Int32)) hx hb dX8_isOut_127 (by decide) ?_
      refine lv_goto (tgt := 132) hx hb dX8_isOut_128 (by decide) ?_
      exact bX8_isOut_132 C K E hk13 w (lv_sub hl [1, 2, 3, 4, 0, 6] rfl) hF

theorem bX8_isOut_102 {p : Program} {l : Launch} {e : Env} {s : State} {m : MethodId} {as : Array Value} {below : List Frame} {meth : Method} {c : Code} {A : Nat → Prop} {Q : State → Prop} {γ : wx_G} {o : Nat} {ad : Nat → Nat} {z : Int32} {f : xF} {g : xG} (C : CallFix p m c cX8_isOut 7 s as lw_all RX8) (K : wx_C γ A s) (E : ∀ (H : Heap) (locs : List Loc) (ls : Array Slot) (pc : Nat), narrow .boolean (.int z) = .int z → wx_w γ A s H locs (mw γ o ad f g) → decode cX8_isOut pc = .ok (.ireturn, 1) → W p l e rmX8_isOut s m as below meth c H locs 0 0 Q (F0 m pc ls [.int z])) {k13 : Int32 → Int32 → Int32 → Int32 → Int32 → Int32 → Option (Int32)} (hk13 : ∀ (v1 : Int32) (v2 : Int32) (v3 : Int32) (v4 : Int32) (v5 : Int32) (v6 : Int32) (H : Heap) (locs : List Loc) (ls : Array Slot), k13 v1 v2 v3 v4 v5 v6 = some z → wx_w γ A s H locs (mw γ o ad f g) → lv_has ls 7 [(0, .ref o), (1, .int v1), (2, .int v2), (3, .int v3), (4, .int v4), (5, .int v5), (6, .int v6)] → W p l e rmX8_isOut s m as below meth c H locs 0 0 Q (F0 m 13 ls [])) {v1 : Int32} {v2 : Int32} {v3 : Int32} {v5 : Int32} {v6 : Int32} {H : Heap} {locs : List Loc} {ls : Array Slot} (w : wx_w γ A s H locs (mw γ o ad f g)) (hl : lv_has ls 7 [(0, .ref o), (1, .int v1), (2, .int v2), (3, .int v3), (5, .int v5), (6, .int v6)]) (hF : pX8_isOut_102 f g k13 v1 v2 v3 v5 v6 = some z) : W p l e rmX8_isOut s m as below meth c H locs 0 0 Q (F0 m 102 ls []) := by
  have hx := C.1
  have hb := C.2.1
  unfold pX8_isOut_102 at hF
  refine lv_iconst (v := (0 : Int32)) hx hb dX8_isOut_102 (by decide) ?_
  exact bX8_isOut_103 C K E hk13 w hl hF

theorem bX8_isOut_75 {p : Program} {l : Launch} {e : Env} {s : State} {m : MethodId} {as : Array Value} {below : List Frame} {meth : Method} {c : Code} {A : Nat → Prop} {Q : State → Prop} {γ : wx_G} {o : Nat} {ad : Nat → Nat} {z : Int32} {f : xF} {g : xG} (C : CallFix p m c cX8_isOut 7 s as lw_all RX8) (K : wx_C γ A s) (E : ∀ (H : Heap) (locs : List Loc) (ls : Array Slot) (pc : Nat), narrow .boolean (.int z) = .int z → wx_w γ A s H locs (mw γ o ad f g) → decode cX8_isOut pc = .ok (.ireturn, 1) → W p l e rmX8_isOut s m as below meth c H locs 0 0 Q (F0 m pc ls [.int z])) {k13 : Int32 → Int32 → Int32 → Int32 → Int32 → Int32 → Option (Int32)} (hk13 : ∀ (v1 : Int32) (v2 : Int32) (v3 : Int32) (v4 : Int32) (v5 : Int32) (v6 : Int32) (H : Heap) (locs : List Loc) (ls : Array Slot), k13 v1 v2 v3 v4 v5 v6 = some z → wx_w γ A s H locs (mw γ o ad f g) → lv_has ls 7 [(0, .ref o), (1, .int v1), (2, .int v2), (3, .int v3), (4, .int v4), (5, .int v5), (6, .int v6)] → W p l e rmX8_isOut s m as below meth c H locs 0 0 Q (F0 m 13 ls [])) {v1 : Int32} {v2 : Int32} {v4 : Int32} {v5 : Int32} {v6 : Int32} {t0 : Int32} {H : Heap} {locs : List Loc} {ls : Array Slot} (w : wx_w γ A s H locs (mw γ o ad f g)) (hl : lv_has ls 7 [(0, .ref o), (1, .int v1), (2, .int v2), (4, .int v4), (5, .int v5), (6, .int v6)]) (hF : pX8_isOut_75 f g k13 v1 v2 v4 v5 v6 t0 = some z) : W p l e rmX8_isOut s m as below meth c H locs 0 0 Q (F0 m 75 ls [.int t0]) := by
  have hx := C.1
  have hb := C.2.1
  unfold pX8_isOut_75 at hF
  refine lv_istore_n (lv' := [(3, .int t0), (0, .ref o), (1, .int v1), (2, .int v2), (4, .int v4), (5, .int v5), (6, .int v6)]) hx hb dX8_isOut_75 rfl hl (by decide) rfl (fun ls hl => ?_)
  refine lv_iload hx hb dX8_isOut_76 (lv_at hl 4 rfl) ?_
  refine lv_if_eq (tgt := 102) hx hb dX8_isOut_78 (by decide) (fun c => ?_) (fun c => ?_)
  · have hF := (if_pos c).symm.trans hF
    exact bX8_isOut_102 C K E hk13 w (lv_sub hl [1, 2, 3, 0, 5, 6] rfl) hF
  · have hF := (if_neg c).symm.trans hF
    refine lv_iload_n hx hb dX8_isOut_81 rfl (lv_at hl 2 rfl) ?_
    refine lv_bipush (v := (64 : Int32)) hx hb dX8_isOut_82 (by decide) ?_
    refine lv_idiv hx hb dX8_isOut_84 (by decide) ?_
    refine lv_aload_n hx hb dX8_isOut_85 rfl (lv_at hl 1 rfl) ?_
    refine mget_38 C K w dX8_isOut_86 ?_
    refine lv_iload hx hb dX8_isOut_89 (lv_at hl 6 rfl) ?_
    obtain ⟨hi, hF⟩ := gin_if hF
    refine mald_38 C K w hi dX8_isOut_91 ?_
    refine lv_bipush (v := (64 : Int32)) hx hb dX8_isOut_92 (by decide) ?_
    refine lv_idiv hx hb dX8_isOut_94 (by decide) ?_
    refine lv_icmp_ge (tgt := 102) hx hb dX8_isOut_95 (by decide) (fun c => ?_) (fun c => ?_)
    · have hF := (if_pos c).symm.trans hF
      exact bX8_isOut_102 C K E hk13 w (lv_sub hl [1, 2, 3, 0, 5, 6] rfl) hF
    · have hF := (if_neg c).symm.trans hF
      refine lv_iconst (v := (1 : Int32)) hx hb dX8_isOut_98 (by decide) ?_
      refine lv_goto (tgt := 103) hx hb dX8_isOut_99 (by decide) ?_
      exact bX8_isOut_103 C K E hk13 w (lv_sub hl [1, 2, 3, 0, 5, 6] rfl) hF

theorem bX8_isOut_74 {p : Program} {l : Launch} {e : Env} {s : State} {m : MethodId} {as : Array Value} {below : List Frame} {meth : Method} {c : Code} {A : Nat → Prop} {Q : State → Prop} {γ : wx_G} {o : Nat} {ad : Nat → Nat} {z : Int32} {f : xF} {g : xG} (C : CallFix p m c cX8_isOut 7 s as lw_all RX8) (K : wx_C γ A s) (E : ∀ (H : Heap) (locs : List Loc) (ls : Array Slot) (pc : Nat), narrow .boolean (.int z) = .int z → wx_w γ A s H locs (mw γ o ad f g) → decode cX8_isOut pc = .ok (.ireturn, 1) → W p l e rmX8_isOut s m as below meth c H locs 0 0 Q (F0 m pc ls [.int z])) {k13 : Int32 → Int32 → Int32 → Int32 → Int32 → Int32 → Option (Int32)} (hk13 : ∀ (v1 : Int32) (v2 : Int32) (v3 : Int32) (v4 : Int32) (v5 : Int32) (v6 : Int32) (H : Heap) (locs : List Loc) (ls : Array Slot), k13 v1 v2 v3 v4 v5 v6 = some z → wx_w γ A s H locs (mw γ o ad f g) → lv_has ls 7 [(0, .ref o), (1, .int v1), (2, .int v2), (3, .int v3), (4, .int v4), (5, .int v5), (6, .int v6)] → W p l e rmX8_isOut s m as below meth c H locs 0 0 Q (F0 m 13 ls [])) {v1 : Int32} {v2 : Int32} {v4 : Int32} {v5 : Int32} {v6 : Int32} {H : Heap} {locs : List Loc} {ls : Array Slot} (w : wx_w γ A s H locs (mw γ o ad f g)) (hl : lv_has ls 7 [(0, .ref o), (1, .int v1), (2, .int v2), (4, .int v4), (5, .int v5), (6, .int v6)]) (hF : pX8_isOut_74 f g k13 v1 v2 v4 v5 v6 = some z) : W p l e rmX8_isOut s m as below meth c H locs 0 0 Q (F0 m 74 ls []) := by
  have hx := C.1
  have hb := C.2.1
  unfold pX8_isOut_74 at hF
  refine lv_iconst (v := (0 : Int32)) hx hb dX8_isOut_74 (by decide) ?_
  exact bX8_isOut_75 C K E hk13 w hl hF

theorem bX8_isOut_48 {p : Program} {l : Launch} {e : Env} {s : State} {m : MethodId} {as : Array Value} {below : List Frame} {meth : Method} {c : Code} {A : Nat → Prop} {Q : State → Prop} {γ : wx_G} {o : Nat} {ad : Nat → Nat} {z : Int32} {f : xF} {g : xG} (C : CallFix p m c cX8_isOut 7 s as lw_all RX8) (K : wx_C γ A s) (E : ∀ (H : Heap) (locs : List Loc) (ls : Array Slot) (pc : Nat), narrow .boolean (.int z) = .int z → wx_w γ A s H locs (mw γ o ad f g) → decode cX8_isOut pc = .ok (.ireturn, 1) → W p l e rmX8_isOut s m as below meth c H locs 0 0 Q (F0 m pc ls [.int z])) {k13 : Int32 → Int32 → Int32 → Int32 → Int32 → Int32 → Option (Int32)} (hk13 : ∀ (v1 : Int32) (v2 : Int32) (v3 : Int32) (v4 : Int32) (v5 : Int32) (v6 : Int32) (H : Heap) (locs : List Loc) (ls : Array Slot), k13 v1 v2 v3 v4 v5 v6 = some z → wx_w γ A s H locs (mw γ o ad f g) → lv_has ls 7 [(0, .ref o), (1, .int v1), (2, .int v2), (3, .int v3), (4, .int v4), (5, .int v5), (6, .int v6)] → W p l e rmX8_isOut s m as below meth c H locs 0 0 Q (F0 m 13 ls [])) {v1 : Int32} {v3 : Int32} {v4 : Int32} {v5 : Int32} {v6 : Int32} {t0 : Int32} {H : Heap} {locs : List Loc} {ls : Array Slot} (w : wx_w γ A s H locs (mw γ o ad f g)) (hl : lv_has ls 7 [(0, .ref o), (1, .int v1), (3, .int v3), (4, .int v4), (5, .int v5), (6, .int v6)]) (hF : pX8_isOut_48 f g k13 v1 v3 v4 v5 v6 t0 = some z) : W p l e rmX8_isOut s m as below meth c H locs 0 0 Q (F0 m 48 ls [.int t0]) := by
  have hx := C.1
  have hb := C.2.1
  unfold pX8_isOut_48 at hF
  refine lv_istore_n (lv' := [(2, .int t0), (0, .ref o), (1, .int v1), (3, .int v3), (4, .int v4), (5, .int v5), (6, .int v6)]) hx hb dX8_isOut_48 rfl hl (by decide) rfl (fun ls hl => ?_)
  refine lv_iload_n hx hb dX8_isOut_49 rfl (lv_at hl 3 rfl) ?_
  refine lv_if_eq (tgt := 74) hx hb dX8_isOut_50 (by decide) (fun c => ?_) (fun c => ?_)
  · have hF := (if_pos c).symm.trans hF
    exact bX8_isOut_74 C K E hk13 w (lv_sub hl [1, 2, 0, 4, 5, 6] rfl) hF
  · have hF := (if_neg c).symm.trans hF
    refine lv_iload_n hx hb dX8_isOut_53 rfl (lv_at hl 2 rfl) ?_
    refine lv_bipush (v := (64 : Int32)) hx hb dX8_isOut_54 (by decide) ?_
    refine lv_irem hx hb dX8_isOut_56 (by decide) ?_
    refine lv_aload_n hx hb dX8_isOut_57 rfl (lv_at hl 1 rfl) ?_
    refine mget_38 C K w dX8_isOut_58 ?_
    refine lv_iload hx hb dX8_isOut_61 (lv_at hl 6 rfl) ?_
    obtain ⟨hi, hF⟩ := gin_if hF
    refine mald_38 C K w hi dX8_isOut_63 ?_
    refine lv_bipush (v := (64 : Int32)) hx hb dX8_isOut_64 (by decide) ?_
    refine lv_irem hx hb dX8_isOut_66 (by decide) ?_
    refine lv_icmp_le (tgt := 74) hx hb dX8_isOut_67 (by decide) (fun c => ?_) (fun c => ?_)
    · have hF := (if_pos c).symm.trans hF
      exact bX8_isOut_74 C K E hk13 w (lv_sub hl [1, 2, 0, 4, 5, 6] rfl) hF
    · have hF := (if_neg c).symm.trans hF
      refine lv_iconst (v := (1 : Int32)) hx hb dX8_isOut_70 (by decide) ?_
      refine lv_goto (tgt := 75) hx hb dX8_isOut_71 (by decide) ?_
      exact bX8_isOut_75 C K E hk13 w (lv_sub hl [1, 2, 0, 4, 5, 6] rfl) hF

theorem bX8_isOut_47 {p : Program} {l : Launch} {e : Env} {s : State} {m : MethodId} {as : Array Value} {below : List Frame} {meth : Method} {c : Code} {A : Nat → Prop} {Q : State → Prop} {γ : wx_G} {o : Nat} {ad : Nat → Nat} {z : Int32} {f : xF} {g : xG} (C : CallFix p m c cX8_isOut 7 s as lw_all RX8) (K : wx_C γ A s) (E : ∀ (H : Heap) (locs : List Loc) (ls : Array Slot) (pc : Nat), narrow .boolean (.int z) = .int z → wx_w γ A s H locs (mw γ o ad f g) → decode cX8_isOut pc = .ok (.ireturn, 1) → W p l e rmX8_isOut s m as below meth c H locs 0 0 Q (F0 m pc ls [.int z])) {k13 : Int32 → Int32 → Int32 → Int32 → Int32 → Int32 → Option (Int32)} (hk13 : ∀ (v1 : Int32) (v2 : Int32) (v3 : Int32) (v4 : Int32) (v5 : Int32) (v6 : Int32) (H : Heap) (locs : List Loc) (ls : Array Slot), k13 v1 v2 v3 v4 v5 v6 = some z → wx_w γ A s H locs (mw γ o ad f g) → lv_has ls 7 [(0, .ref o), (1, .int v1), (2, .int v2), (3, .int v3), (4, .int v4), (5, .int v5), (6, .int v6)] → W p l e rmX8_isOut s m as below meth c H locs 0 0 Q (F0 m 13 ls [])) {v1 : Int32} {v3 : Int32} {v4 : Int32} {v5 : Int32} {v6 : Int32} {H : Heap} {locs : List Loc} {ls : Array Slot} (w : wx_w γ A s H locs (mw γ o ad f g)) (hl : lv_has ls 7 [(0, .ref o), (1, .int v1), (3, .int v3), (4, .int v4), (5, .int v5), (6, .int v6)]) (hF : pX8_isOut_47 f g k13 v1 v3 v4 v5 v6 = some z) : W p l e rmX8_isOut s m as below meth c H locs 0 0 Q (F0 m 47 ls []) := by
  have hx := C.1
  have hb := C.2.1
  unfold pX8_isOut_47 at hF
  refine lv_iconst (v := (0 : Int32)) hx hb dX8_isOut_47 (by decide) ?_
  exact bX8_isOut_48 C K E hk13 w hl hF

theorem bX8_isOut_13 {p : Program} {l : Launch} {e : Env} {s : State} {m : MethodId} {as : Array Value} {below : List Frame} {meth : Method} {c : Code} {A : Nat → Prop} {Q : State → Prop} {γ : wx_G} {o : Nat} {ad : Nat → Nat} {z : Int32} {f : xF} {g : xG} (C : CallFix p m c cX8_isOut 7 s as lw_all RX8) (K : wx_C γ A s) (E : ∀ (H : Heap) (locs : List Loc) (ls : Array Slot) (pc : Nat), narrow .boolean (.int z) = .int z → wx_w γ A s H locs (mw γ o ad f g) → decode cX8_isOut pc = .ok (.ireturn, 1) → W p l e rmX8_isOut s m as below meth c H locs 0 0 Q (F0 m pc ls [.int z])) : ∀ (n : Nat) (v1 : Int32) (v2 : Int32) (v3 : Int32) (v4 : Int32) (v5 : Int32) (v6 : Int32) (H : Heap) (locs : List Loc) (ls : Array Slot), pX8_isOut_13 f g n v1 v2 v3 v4 v5 v6 = some z → wx_w γ A s H locs (mw γ o ad f g) → lv_has ls 7 [(0, .ref o), (1, .int v1), (2, .int v2), (3, .int v3), (4, .int v4), (5, .int v5), (6, .int v6)] → W p l e rmX8_isOut s m as below meth c H locs 0 0 Q (F0 m 13 ls []) := by
  have hx := C.1
  have hb := C.2.1
  intro n
  induction n with
  | zero =>
    intro v1 v2 v3 v4 v5 v6 H locs ls hF w hl
    have hF : (none : Option (Int32)) = some z := hF
    cases hF
  | succ n ih =>
    intro v1 v2 v3 v4 v5 v6 H locs ls hF w hl
    rw [pX8_isOut_13] at hF
    refine lv_iload hx hb dX8_isOut_13 (lv_at hl 6 rfl) ?_
    refine lv_aload_n hx hb dX8_isOut_15 rfl (lv_at hl 0 rfl) ?_
    refine mget_37 C K w dX8_isOut_16 ?_
    refine lv_icmp_ge (tgt := 140) hx hb dX8_isOut_19 (by decide) (fun c => ?_) (fun c => ?_)
    · have hF := (if_pos c).symm.trans hF
      exact bX8_isOut_140 C K E w (lv_sub hl [2, 3, 4, 5] rfl) hF
    · have hF := (if_neg c).symm.trans hF
      refine lv_iload_n hx hb dX8_isOut_22 rfl (lv_at hl 2 rfl) ?_
      refine lv_if_eq (tgt := 47) hx hb dX8_isOut_23 (by decide) (fun c => ?_) (fun c => ?_)
      · have hF := (if_pos c).symm.trans hF
        exact bX8_isOut_47 C K E ih w (lv_sub hl [0, 1, 3, 4, 5, 6] rfl) hF
      · have hF := (if_neg c).symm.trans hF
        refine lv_iload_n hx hb dX8_isOut_26 rfl (lv_at hl 1 rfl) ?_
        refine lv_bipush (v := (64 : Int32)) hx hb dX8_isOut_27 (by decide) ?_
        refine lv_irem hx hb dX8_isOut_29 (by decide) ?_
        refine lv_aload_n hx hb dX8_isOut_30 rfl (lv_at hl 0 rfl) ?_
        refine mget_38 C K w dX8_isOut_31 ?_
        refine lv_iload hx hb dX8_isOut_34 (lv_at hl 6 rfl) ?_
        obtain ⟨hi, hF⟩ := gin_if hF
        refine mald_38 C K w hi dX8_isOut_36 ?_
        refine lv_bipush (v := (64 : Int32)) hx hb dX8_isOut_37 (by decide) ?_
        refine lv_irem hx hb dX8_isOut_39 (by decide) ?_
        refine lv_icmp_ge (tgt := 47) hx hb dX8_isOut_40 (by decide) (fun c => ?_) (fun c => ?_)
        · have hF := (if_pos c).symm.trans hF
          exact bX8_isOut_47 C K E ih w (lv_sub hl [0, 1, 3, 4, 5, 6] rfl) hF
        · have hF := (if_neg c).symm.trans hF
          refine lv_iconst (v := (1 : Int32)) hx hb dX8_isOut_43 (by decide) ?_
          refine lv_goto (tgt := 48) hx hb dX8_isOut_44 (by decide) ?_
          exact bX8_isOut_48 C K E ih w (lv_sub hl [0, 1, 3, 4, 5, 6] rfl) hF

theorem bX8_isOut_0 {p : Program} {l : Launch} {e : Env} {s : State} {m : MethodId} {as : Array Value} {below : List Frame} {meth : Method} {c : Code} {A : Nat → Prop} {Q : State → Prop} {γ : wx_G} {o : Nat} {ad : Nat → Nat} {z : Int32} {f : xF} {g : xG} (C : CallFix p m c cX8_isOut 7 s as lw_all RX8) (K : wx_C γ A s) (E : ∀ (H : Heap) (locs : List Loc) (ls : Array Slot) (pc : Nat), narrow .boolean (.int z) = .int z → wx_w γ A s H locs (mw γ o ad f g) → decode cX8_isOut pc = .ok (.ireturn, 1) → W p l e rmX8_isOut s m as below meth c H locs 0 0 Q (F0 m pc ls [.int z])) {v1 : Int32} {H : Heap} {locs : List Loc} {ls : Array Slot} (w : wx_w γ A s H locs (mw γ o ad f g)) (hl : lv_has ls 7 [(0, .ref o), (1, .int v1)]) (hF : pX8_isOut_0 f g v1 = some z) : W p l e rmX8_isOut s m as below meth c H locs 0 0 Q (F0 m 0 ls []) := by
  have hx := C.1
  have hb := C.2.1
  unfold pX8_isOut_0 at hF
  refine lv_iconst (v := (1 : Int32)) hx hb dX8_isOut_0 (by decide) ?_
  refine lv_istore_n (lv' := [(2, .int (1 : Int32)), (0, .ref o), (1, .int v1)]) hx hb dX8_isOut_1 rfl hl (by decide) rfl (fun ls hl => ?_)
  refine lv_iconst (v := (1 : Int32)) hx hb dX8_isOut_2 (by decide) ?_
  refine lv_istore_n (lv' := [(3, .int (1 : Int32)), (2, .int (1 : Int32)), (0, .ref o), (1, .int v1)]) hx hb dX8_isOut_3 rfl hl (by decide) rfl (fun ls hl => ?_)
  refine lv_iconst (v := (1 : Int32)) hx hb dX8_isOut_4 (by decide) ?_
  refine lv_istore (lv' := [(4, .int (1 : Int32)), (3, .int (1 : Int32)), (2, .int (1 : Int32)), (0, .ref o), (1, .int v1)]) hx hb dX8_isOut_5 hl (by decide) rfl (fun ls hl => ?_)
  refine lv_iconst (v := (1 : Int32)) hx hb dX8_isOut_7 (by decide) ?_
  refine lv_istore (lv' := [(5, .int (1 : Int32)), (4, .int (1 : Int32)), (3, .int (1 : Int32)), (2, .int (1 : Int32)), (0, .ref o), (1, .int v1)]) hx hb dX8_isOut_8 hl (by decide) rfl (fun ls hl => ?_)
  refine lv_iconst (v := (0 : Int32)) hx hb dX8_isOut_10 (by decide) ?_
  refine lv_istore (lv' := [(6, .int (0 : Int32)), (5, .int (1 : Int32)), (4, .int (1 : Int32)), (3, .int (1 : Int32)), (2, .int (1 : Int32)), (0, .ref o), (1, .int v1)]) hx hb dX8_isOut_11 hl (by decide) rfl (fun ls hl => ?_)
  exact bX8_isOut_13 C K E 5000 _ _ _ _ _ _ _ _ _ hF w (lv_sub hl [5, 6, 4, 3, 2, 1, 0] rfl)

theorem mX8_isOut {l : Launch} {γ : wx_G} {o : Nat} {ad : Nat → Nat} {f : xF} {g : xG} {v1 : Int32} {z : Int32} (hF : pX8_isOut f g v1 = some z) : wx_M γ l yX8_isOut (ws_ yX8_isOut cX8_isOut 7 (some .boolean)) rmX8_isOut [.ref o, .int v1] (mw γ o ad f g) (fun v ws => v = some (.int z) ∧ ws = (mw γ o ad f g)) 0 0 := by
  refine wx_M.of (by decide) (Nat.le_of_ble_eq_true rfl) ?_
  intro p e s m as below meth c A ls C K w hr hlocks _ hl
  exact bX8_isOut_0 C K (fun H locs ls pc hz w d => wx_zret C hr hlocks hz w ⟨rfl, rfl⟩ d) w hl hF
theorem rX8_isOut {p : Program} {l : Launch} {e : Env} {R : Room} {s : State} {m : MethodId} {as : Array Value} {below : List Frame} {meth : Method} {c : Code} {H : Heap} {locs : List Loc} {cells slots : Nat} {Q : State → Prop} {cc : ByteArray} {nL pc : Nat} {ls : Array Slot} {rest : List Value} {γ : wx_G} {A : Nat → Prop} {o : Nat} {ad : Nat → Nat} {f : xF} {g : xG} {v1 : Int32} {z : Int32} (C : CallFix p m c cc nL s as lw_all RX8) (K : wx_C γ A s) (w : wx_w γ A s H locs (mw γ o ad f g)) (hF : pX8_isOut f g v1 = some z) (hls : ls.size = nL) (hR : rmX8_isOut.frames + 1 ≤ R.frames ∧ 8 + (7 + 11) + rmX8_isOut.locals ≤ R.locals) (hW : (rest.map fun v => v.category).sum ≤ 8) (d : decode cc pc = .ok (.invokevirtual 339, 3)) (kk : ∀ (H : Heap) (locs : List Loc), wx_w γ A s H locs (mw γ o ad f g) → W p l e R s m as below meth c H locs cells slots Q (F0 m (pc + 3) ls (.int z :: rest))) (hf : cells ≤ R.cells ∧ slots ≤ R.slots := by exact ⟨Nat.le_of_ble_eq_true rfl, Nat.le_of_ble_eq_true rfl⟩) : W p l e R s m as below meth c H locs cells slots Q (F0 m pc ls (.int v1 :: .ref o :: rest)) :=
  wx_callV (n := 1) C K w (mX8_isOut (l := l) hF) q1721 q1723 qs96 q123 q1724 rfl rfl (by decide +kernel) (va_recv K.1.1 w.1 (ci := 0) (q0 := 0) rfl rfl) rfl rfl hR hls hW hf d (fun v ws H1 locs1 hp w => by obtain ⟨rfl, rfl⟩ := hp; exact kk H1 locs1 w)

/-! WalkingStonesModel.bars(II)I -/
abbrev rmX8_bars : Room := { frames := 6, cells := 0, slots := 0, locals := 147 }
def pX8_bars_19 (f : xF) (g : xG) : Option (Int32 × xF × xG) := some ((-2 : Int32), f, g)

def pX8_bars_71 (k32 : xF → xG → Int32 → Int32 → Int32 → Option (Int32 × xF × xG)) (f : xF) (g : xG) (v2 : Int32) (v4 : Int32) (t0 : Int32) (t1 : Int32) : Option (Int32 × xF × xG) := k32 f g v2 (t0 + t1) (v4 + 1)

def pX8_bars_70 (k32 : xF → xG → Int32 → Int32 → Int32 → Option (Int32 × xF × xG)) (f : xF) (g : xG) (v2 : Int32) (v4 : Int32) (t0 : Int32) : Option (Int32 × xF × xG) := pX8_bars_71 k32 f g v2 v4 t0 (0 : Int32)

def pX8_bars_32 : Nat → xF → xG → Int32 → Int32 → Int32 → Option (Int32 × xF × xG)
  | 0, _, _, _, _, _ => none
  | n + 1, f, g, v2, v3, v4 => if (f 0) ≤ v4 then some (v3, f, g) else (pX8_isHeld f g v4 v2).bind (fun r46 => if r46 = 0 then pX8_bars_70 (pX8_bars_32 n) f g v2 v4 v3 else (if gin v4 10 = true then (pX8_isOut f g (g 28 v4.toNatClampNeg)).bind (fun r60 => if r60 = 0 then pX8_bars_70 (pX8_bars_32 n) f g v2 v4 v3 else pX8_bars_71 (pX8_bars_32 n) f g v2 v4 v3 (1 : Int32)) else none))

def pX8_bars_0 (f : xF) (g : xG) (v1 : Int32) (v2 : Int32) : Option (Int32 × xF × xG) := (pX8_isHow f g v1).bind (fun r2 => if r2 = 0 then pX8_bars_19 f g else (pX8_in f g v2 (0 : Int32) (63 : Int32)).bind (fun r13 => if r13 = 0 then pX8_bars_19 f g else (pX8_goAll f g v1).bind (fun r24 => pX8_bars_32 5000 r24.1 r24.2 v2 (0 : Int32) (0 : Int32))))

abbrev pX8_bars (f : xF) (g : xG) (v1 : Int32) (v2 : Int32) : Option (Int32 × xF × xG) := pX8_bars_0 f g v1 v2
theorem bX8_bars_19 {p : Program} {l : Launch} {e : Env} {s : State} {m : MethodId} {as : Array Value} {below : List Frame} {meth : Method} {c : Code} {A : Nat → Prop} {Q : State → Prop} {γ : wx_G} {o : Nat} {ad : Nat → Nat} {z : Int32 × xF × xG} (C : CallFix p m c cX8_bars 5 s as lw_all RX8) (K : wx_C γ A s) (E : ∀ (H : Heap) (locs : List Loc) (ls : Array Slot) (pc : Nat), wx_w γ A s H locs (mw γ o ad z.2.1 z.2.2) → decode cX8_bars pc = .ok (.ireturn, 1) → W p l e rmX8_bars s m as below meth c H locs 0 0 Q (F0 m pc ls [.int z.1])) {f : xF} {g : xG} {H : Heap} {locs : List Loc} {ls : Array Slot} (w : wx_w γ A s H locs (mw γ o ad f g)) (hl : lv_has ls 5 []) (hF : pX8_bars_19 f g = some z) : W p l e rmX8_bars s m as below meth c H locs 0 0 Q (F0 m 19 ls []) := by
  have hx := C.1
  have hb := C.2.1
  unfold pX8_bars_19 at hF
  refine lv_bipush (v := (-2 : Int32)) hx hb dX8_bars_19 (by decide) ?_
  have hF := Option.some.inj hF
  subst hF
  exact E _ _ _ _ w dX8_bars_21

theorem bX8_bars_71 {p : Program} {l : Launch} {e : Env} {s : State} {m : MethodId} {as : Array Value} {below : List Frame} {meth : Method} {c : Code} {A : Nat → Prop} {Q : State → Prop} {γ : wx_G} {o : Nat} {ad : Nat → Nat} {z : Int32 × xF × xG} (C : CallFix p m c cX8_bars 5 s as lw_all RX8) (K : wx_C γ A s) (E : ∀ (H : Heap) (locs : List Loc) (ls : Array Slot) (pc : Nat), wx_w γ A s H locs (mw γ o ad z.2.1 z.2.2) → decode cX8_bars pc = .ok (.ireturn, 1) → W p l e rmX8_bars s m as below meth c H locs 0 0 Q (F0 m pc ls [.int z.1])) {k32 : xF → xG → Int32 → Int32 → Int32 → Option (Int32 × xF × xG)} (hk32 : ∀ (f : xF) (g : xG) (v2 : Int32) (v3 : Int32) (v4 : Int32) (H : Heap) (locs : List Loc) (ls : Array Slot), k32 f g v2 v3 v4 = some z → wx_w γ A s H locs (mw γ o ad f g) → lv_has ls 5 [(0, .ref o), (2, .int v2), (3, .int v3), (4, .int v4)] → W p l e rmX8_bars s m as below meth c H locs 0 0 Q (F0 m 32 ls [])) {f : xF} {g : xG} {v2 : Int32} {v4 : Int32} {t0 : Int32} {t1 : Int32} {H : Heap} {locs : List Loc} {ls : Array Slot} (w : wx_w γ A s H locs (mw γ o ad f g)) (hl : lv_has ls 5 [(0, .ref o), (2, .int v2), (4, .int v4)]) (hF : pX8_bars_71 k32 f g v2 v4 t0 t1 = some z) : W p l e rmX8_bars s m as below meth c H locs 0 0 Q (F0 m 71 ls [.int t1, .int t0]) := by
  have hx := C.1
  have hb := C.2.1
  unfold pX8_bars_71 at hF
  refine lv_iadd hx hb dX8_bars_71 ?_
  refine lv_istore_n (lv' := [(3, .int (t0 + t1)), (0, .ref o), (2, .int v2), (4, .int v4)]) hx hb dX8_bars_72 rfl hl (by decide) rfl (fun ls hl => ?_)
  refine lv_iinc (v := v4 + 1) (lv' := [(4, .int (v4 + 1)), (3, .int (t0 + t1)), (0, .ref o), (2, .int v2)]) hx hb dX8_bars_73 hl (k := 3) rfl rfl (by decide) rfl (fun ls hl => ?_)
  refine lv_goto (tgt := 32) hx hb dX8_bars_76 (by decide) ?_
  exact hk32 _ _ _ _ _ _ _ _ hF w (lv_sub hl [2, 3, 1, 0] rfl)

theorem bX8_bars_70 {p : Program} {l : Launch} {e : Env} {s : State} {m : MethodId} {as : Array Value} {below : List Frame} {meth : Method} {c : Code} {A : Nat → Prop} {Q : State → Prop} {γ : wx_G} {o : Nat} {ad : Nat → Nat} {z : Int32 × xF × xG} (C : CallFix p m c cX8_bars 5 s as lw_all RX8) (K : wx_C γ A s) (E : ∀ (H : Heap) (locs : List Loc) (ls : Array Slot) (pc : Nat), wx_w γ A s H locs (mw γ o ad z.2.1 z.2.2) → decode cX8_bars pc = .ok (.ireturn, 1) → W p l e rmX8_bars s m as below meth c H locs 0 0 Q (F0 m pc ls [.int z.1])) {k32 : xF → xG → Int32 → Int32 → Int32 → Option (Int32 × xF × xG)} (hk32 : ∀ (f : xF) (g : xG) (v2 : Int32) (v3 : Int32) (v4 : Int32) (H : Heap) (locs : List Loc) (ls : Array Slot), k32 f g v2 v3 v4 = some z → wx_w γ A s H locs (mw γ o ad f g) → lv_has ls 5 [(0, .ref o), (2, .int v2), (3, .int v3), (4, .int v4)] → W p l e rmX8_bars s m as below meth c H locs 0 0 Q (F0 m 32 ls [])) {f : xF} {g : xG} {v2 : Int32} {v4 : Int32} {t0 : Int32} {H : Heap} {locs : List Loc} {ls : Array Slot} (w : wx_w γ A s H locs (mw γ o ad f g)) (hl : lv_has ls 5 [(0, .ref o), (2, .int v2), (4, .int v4)]) (hF : pX8_bars_70 k32 f g v2 v4 t0 = some z) : W p l e rmX8_bars s m as below meth c H locs 0 0 Q (F0 m 70 ls [.int t0]) := by
  have hx := C.1
  have hb := C.2.1
  unfold pX8_bars_70 at hF
  refine lv_iconst (v := (0 : Int32)) hx hb dX8_bars_70 (by decide) ?_
  exact bX8_bars_71 C K E hk32 w hl hF

theorem bX8_bars_32 {p : Program} {l : Launch} {e : Env} {s : State} {m : MethodId} {as : Array Value} {below : List Frame} {meth : Method} {c : Code} {A : Nat → Prop} {Q : State → Prop} {γ : wx_G} {o : Nat} {ad : Nat → Nat} {z : Int32 × xF × xG} (C : CallFix p m c cX8_bars 5 s as lw_all RX8) (K : wx_C γ A s) (E : ∀ (H : Heap) (locs : List Loc) (ls : Array Slot) (pc : Nat), wx_w γ A s H locs (mw γ o ad z.2.1 z.2.2) → decode cX8_bars pc = .ok (.ireturn, 1) → W p l e rmX8_bars s m as below meth c H locs 0 0 Q (F0 m pc ls [.int z.1])) : ∀ (n : Nat) (f : xF) (g : xG) (v2 : Int32) (v3 : Int32) (v4 : Int32) (H : Heap) (locs : List Loc) (ls : Array Slot), pX8_bars_32 n f g v2 v3 v4 = some z → wx_w γ A s H locs (mw γ o ad f g) → lv_has ls 5 [(0, .ref o), (2, .int v2), (3, .int v3), (4, .int v4)] → W p l e rmX8_bars s m as below meth c H locs 0 0 Q (F0 m 32 ls []) := by
  have hx := C.1
  have hb := C.2.1
  intro n
  induction n with
  | zero =>
    intro f g v2 v3 v4 H locs ls hF w hl
    have hF : (none : Option (Int32 × xF × xG)) = some z := hF
    cases hF
  | succ n ih =>
    intro f g v2 v3 v4 H locs ls hF w hl
    rw [pX8_bars_32] at hF
    refine lv_iload hx hb dX8_bars_32 (lv_at hl 3 rfl) ?_
    refine lv_aload_n hx hb dX8_bars_34 rfl (lv_at hl 0 rfl) ?_
    refine mget_0 C K w dX8_bars_35 ?_
    refine lv_icmp_ge (tgt := 79) hx hb dX8_bars_38 (by decide) (fun c => ?_) (fun c => ?_)
    · have hF := (if_pos c).symm.trans hF
      refine lv_iload_n hx hb dX8_bars_79 rfl (lv_at hl 2 rfl) ?_
      have hF := Option.some.inj hF
      subst hF
      exact E _ _ _ _ w dX8_bars_80
    · have hF := (if_neg c).symm.trans hF
      refine lv_iload_n hx hb dX8_bars_41 rfl (lv_at hl 2 rfl) ?_
      refine lv_aload_n hx hb dX8_bars_42 rfl (lv_at hl 0 rfl) ?_
      refine lv_iload hx hb dX8_bars_43 (lv_at hl 3 rfl) ?_
      refine lv_iload_n hx hb dX8_bars_45 rfl (lv_at hl 1 rfl) ?_
      obtain ⟨r46, hr, hF⟩ := obd hF
      refine rX8_isHeld C K w hr hl.1 ⟨Nat.le_of_ble_eq_true rfl, Nat.le_of_ble_eq_true rfl⟩ (Nat.le_of_ble_eq_true rfl) dX8_bars_46 (fun H locs w => ?_)
      refine lv_if_eq (tgt := 70) hx hb dX8_bars_49 (by decide) (fun c => ?_) (fun c => ?_)
      · have hF := (if_pos c).symm.trans hF
        exact bX8_bars_70 C K E ih w (lv_sub hl [0, 1, 3] rfl) hF
      · have hF := (if_neg c).symm.trans hF
        refine lv_aload_n hx hb dX8_bars_52 rfl (lv_at hl 0 rfl) ?_
        refine lv_aload_n hx hb dX8_bars_53 rfl (lv_at hl 0 rfl) ?_
        refine mget_28 C K w dX8_bars_54 ?_
        refine lv_iload hx hb dX8_bars_57 (lv_at hl 3 rfl) ?_
        obtain ⟨hi, hF⟩ := gin_if hF
        refine mald_28 C K w hi dX8_bars_59 ?_
        obtain ⟨r60, hr, hF⟩ := obd hF
        refine rX8_isOut C K w hr hl.1 ⟨Nat.le_of_ble_eq_true rfl, Nat.le_of_ble_eq_true rfl⟩ (Nat.le_of_ble_eq_true rfl) dX8_bars_60 (fun H locs w => ?_)
        refine lv_if_eq (tgt := 70) hx hb dX8_bars_63 (by decide) (fun c => ?_) (fun c => ?_)
        · have hF := (if_pos c).symm.trans hF
          exact bX8_bars_70 C K E ih w (lv_sub hl [0, 1, 3] rfl) hF
        · have hF := (if_neg c).symm.trans hF
          refine lv_iconst (v := (1 : Int32)) hx hb dX8_bars_66 (by decide) ?_
          refine lv_goto (tgt := 71) hx hb dX8_bars_67 (by decide) ?_
          exact bX8_bars_71 C K E ih w (lv_sub hl [0, 1, 3] rfl) hF

theorem bX8_bars_0 {p : Program} {l : Launch} {e : Env} {s : State} {m : MethodId} {as : Array Value} {below : List Frame} {meth : Method} {c : Code} {A : Nat → Prop} {Q : State → Prop} {γ : wx_G} {o : Nat} {ad : Nat → Nat} {z : Int32 × xF × xG} (C : CallFix p m c cX8_bars 5 s as lw_all RX8) (K : wx_C γ A s) (E : ∀ (H : Heap) (locs : List Loc) (ls : Array Slot) (pc : Nat), wx_w γ A s H locs (mw γ o ad z.2.1 z.2.2) → decode cX8_bars pc = .ok (.ireturn, 1) → W p l e rmX8_bars s m as below meth c H locs 0 0 Q (F0 m pc ls [.int z.1])) {f : xF} {g : xG} {v1 : Int32} {v2 : Int32} {H : Heap} {locs : List Loc} {ls : Array Slot} (w : wx_w γ A s H locs (mw γ o ad f g)) (hl : lv_has ls 5 [(0, .ref o), (1, .int v1), (2, .int v2)]) (hF : pX8_bars_0 f g v1 v2 = some z) : W p l e rmX8_bars s m as below meth c H locs 0 0 Q (F0 m 0 ls []) := by
  have hx := C.1
  have hb := C.2.1
  unfold pX8_bars_0 at hF
  refine lv_aload_n hx hb dX8_bars_0 rfl (lv_at hl 0 rfl) ?_
  refine lv_iload_n hx hb dX8_bars_1 rfl (lv_at hl 1 rfl) ?_
  obtain ⟨r2, hr, hF⟩ := obd hF
  refine rX8_isHow C K w hr hl.1 ⟨Nat.le_of_ble_eq_true rfl, Nat.le_of_ble_eq_true rfl⟩ (Nat.le_of_ble_eq_true rfl) dX8_bars_2 (fun H locs w => ?_)
  refine lv_if_eq (tgt := 19) hx hb dX8_bars_5 (by decide) (fun c => ?_) (fun c => ?_)
  · have hF := (if_pos c).symm.trans hF
    exact bX8_bars_19 C K E w (lv_sub hl [] rfl) hF
  · have hF := (if_neg c).symm.trans hF
    refine lv_aload_n hx hb dX8_bars_8 rfl (lv_at hl 0 rfl) ?_
    refine lv_iload_n hx hb dX8_bars_9 rfl (lv_at hl 2 rfl) ?_
    refine lv_iconst (v := (0 : Int32)) hx hb dX8_bars_10 (by decide) ?_
    refine lv_bipush (v := (63 : Int32)) hx hb dX8_bars_11 (by decide) ?_
    obtain ⟨r13, hr, hF⟩ := obd hF
    refine rX8_in C K w hr hl.1 ⟨Nat.le_of_ble_eq_true rfl, Nat.le_of_ble_eq_true rfl⟩ (Nat.le_of_ble_eq_true rfl) dX8_bars_13 (fun H locs w => ?_)
    refine lv_if_ne (tgt := 22) hx hb dX8_bars_16 (by decide) (fun c => ?_) (fun c => ?_)
    · have hF := (if_neg c).symm.trans hF
      refine lv_aload_n hx hb dX8_bars_22 rfl (lv_at hl 0 rfl) ?_
      refine lv_iload_n hx hb dX8_bars_23 rfl (lv_at hl 1 rfl) ?_
      obtain ⟨r24, hr, hF⟩ := obd hF
      refine rX8_goAll C K w hr hl.1 ⟨Nat.le_of_ble_eq_true rfl, Nat.le_of_ble_eq_true rfl⟩ (Nat.le_of_ble_eq_true rfl) dX8_bars_24 (fun H locs w => ?_)
      refine lv_iconst (v := (0 : Int32)) hx hb dX8_bars_27 (by decide) ?_
      refine lv_istore_n (lv' := [(3, .int (0 : Int32)), (0, .ref o), (1, .int v1), (2, .int v2)]) hx hb dX8_bars_28 rfl hl (by decide) rfl (fun ls hl => ?_)
      refine lv_iconst (v := (0 : Int32)) hx hb dX8_bars_29 (by decide) ?_
      refine lv_istore (lv' := [(4, .int (0 : Int32)), (3, .int (0 : Int32)), (0, .ref o), (1, .int v1), (2, .int v2)]) hx hb dX8_bars_30 hl (by decide) rfl (fun ls hl => ?_)
      exact bX8_bars_32 C K E 5000 _ _ _ _ _ _ _ _ hF w (lv_sub hl [2, 4, 1, 0] rfl)
    · have hF := (if_pos c).symm.trans hF
      exact bX8_bars_19 C K E w (lv_sub hl [] rfl) hF

theorem mX8_bars {l : Launch} {γ : wx_G} {o : Nat} {ad : Nat → Nat} {f : xF} {g : xG} {v1 : Int32} {v2 : Int32} {z : Int32 × xF × xG} (hF : pX8_bars f g v1 v2 = some z) : wx_M γ l yX8_bars (ws_ yX8_bars cX8_bars 5 (some .int)) rmX8_bars [.ref o, .int v1, .int v2] (mw γ o ad f g) (fun v ws => v = some (.int z.1) ∧ ws = (mw γ o ad z.2.1 z.2.2)) 0 0 := by
  refine wx_M.of (by decide) (Nat.le_of_ble_eq_true rfl) ?_
  intro p e s m as below meth c A ls C K w hr hlocks _ hl
  exact bX8_bars_0 C K (fun H locs ls pc w d => wx_iret C hr hlocks w ⟨rfl, rfl⟩ d) w hl hF

/-! WalkingStonesModel.pushesSome(II)Z -/
abbrev rmX8_pushesSome : Room := { frames := 4, cells := 0, slots := 0, locals := 98 }
def pX8_pushesSome_2 : Nat → xF → xG → Int32 → Int32 → Int32 → Option (Int32 × xF × xG)
  | 0, _, _, _, _, _ => none
  | n + 1, f, g, v1, v2, v3 => if (f 0) ≤ v3 then some ((0 : Int32), f, g) else (pX8_pushes f g v1 v3 v2).bind (fun r14 => if r14.1 ≤ 0 then pX8_pushesSome_2 n r14.2.1 r14.2.2 v1 v2 (v3 + 1) else some ((1 : Int32), r14.2.1, r14.2.2))

def pX8_pushesSome_0 (f : xF) (g : xG) (v1 : Int32) (v2 : Int32) : Option (Int32 × xF × xG) := pX8_pushesSome_2 5000 f g v1 v2 (0 : Int32)

abbrev pX8_pushesSome (f : xF) (g : xG) (v1 : Int32) (v2 : Int32) : Option (Int32 × xF × xG) := pX8_pushesSome_0 f g v1 v2
theorem bX8_pushesSome_2 {p : Program} {l : Launch} {e : Env} {s : State} {m : MethodId} {as : Array Value} {below : List Frame} {meth : Method} {c : Code} {A : Nat → Prop} {Q : State → Prop} {γ : wx_G} {o : Nat} {ad : Nat → Nat} {z : Int32 × xF × xG} (C : CallFix p m c cX8_pushesSome 4 s as lw_all RX8) (K : wx_C γ A s) (E : ∀ (H : Heap) (locs : List Loc) (ls : Array Slot) (pc : Nat), narrow .boolean (.int z.1) = .int z.1 → wx_w γ A s H locs (mw γ o ad z.2.1 z.2.2) → decode cX8_pushesSome pc = .ok (.ireturn, 1) → W p l e rmX8_pushesSome s m as below meth c H locs 0 0 Q (F0 m pc ls [.int z.1])) : ∀ (n : Nat) (f : xF) (g : xG) (v1 : Int32) (v2 : Int32) (v3 : Int32) (H : Heap) (locs : List Loc) (ls : Array Slot), pX8_pushesSome_2 n f g v1 v2 v3 = some z → wx_w γ A s H locs (mw γ o ad f g) → lv_has ls 4 [(0, .ref o), (1, .int v1), (2, .int v2), (3, .int v3)] → W p l e rmX8_pushesSome s m as below meth c H locs 0 0 Q (F0 m 2 ls []) := by
  have hx := C.1
  have hb := C.2.1
  intro n
  induction n with
  | zero =>
    intro f g v1 v2 v3 H locs ls hF w hl
    have hF : (none : Option (Int32 × xF × xG)) = some z := hF
    cases hF
  | succ n ih =>
    intro f g v1 v2 v3 H locs ls hF w hl
    rw [pX8_pushesSome_2] at hF
    refine lv_iload_n hx hb dX8_pushesSome_2 rfl (lv_at hl 3 rfl) ?_
    refine lv_aload_n hx hb dX8_pushesSome_3 rfl (lv_at hl 0 rfl) ?_
    refine mget_0 C K w dX8_pushesSome_4 ?_
    refine lv_icmp_ge (tgt := 28) hx hb dX8_pushesSome_7 (by decide) (fun c => ?_) (fun c => ?_)
    · have hF := (if_pos c).symm.trans hF
      refine lv_iconst (v := (0 : Int32)) hx hb dX8_pushesSome_28 (by decide) ?_
      have hF := Option.some.inj hF
      subst hF
      exact E _ _ _ _ wx_nz0 w dX8_pushesSome_29
    · have hF := (if_neg c).symm.trans hF
      refine lv_aload_n hx hb dX8_pushesSome_10 rfl (lv_at hl 0 rfl) ?_
      refine lv_iload_n hx hb dX8_pushesSome_11 rfl (lv_at hl 1 rfl) ?_
      refine lv_iload_n hx hb dX8_pushesSome_12 rfl (lv_at hl 3 rfl) ?_
      refine lv_iload_n hx hb dX8_pushesSome_13 rfl (lv_at hl 2 rfl) ?_
      obtain ⟨r14, hr, hF⟩ := obd hF
      refine rX8_pushes C K w hr hl.1 ⟨Nat.le_of_ble_eq_true rfl, Nat.le_of_ble_eq_true rfl⟩ (Nat.le_of_ble_eq_true rfl) dX8_pushesSome_14 (fun H locs w => ?_)
      refine lv_if_le (tgt := 22) hx hb dX8_pushesSome_17 (by decide) (fun c => ?_) (fun c => ?_)
      · have hF := (if_pos c).symm.trans hF
        refine lv_iinc (v := v3 + 1) (lv' := [(3, .int (v3 + 1)), (0, .ref o), (1, .int v1), (2, .int v2)]) hx hb dX8_pushesSome_22 hl (k := 3) rfl rfl (by decide) rfl (fun ls hl => ?_)
        refine lv_goto (tgt := 2) hx hb dX8_pushesSome_25 (by decide) ?_
        exact ih _ _ _ _ _ _ _ _ hF w (lv_sub hl [1, 2, 3, 0] rfl)
      · have hF := (if_neg c).symm.trans hF
        refine lv_iconst (v := (1 : Int32)) hx hb dX8_pushesSome_20 (by decide) ?_
        have hF := Option.some.inj hF
        subst hF
        exact E _ _ _ _ wx_nz1 w dX8_pushesSome_21

theorem bX8_pushesSome_0 {p : Program} {l : Launch} {e : Env} {s : State} {m : MethodId} {as : Array Value} {below : List Frame} {meth : Method} {c : Code} {A : Nat → Prop} {Q : State → Prop} {γ : wx_G} {o : Nat} {ad : Nat → Nat} {z : Int32 × xF × xG} (C : CallFix p m c cX8_pushesSome 4 s as lw_all RX8) (K : wx_C γ A s) (E : ∀ (H : Heap) (locs : List Loc) (ls : Array Slot) (pc : Nat), narrow .boolean (.int z.1) = .int z.1 → wx_w γ A s H locs (mw γ o ad z.2.1 z.2.2) → decode cX8_pushesSome pc = .ok (.ireturn, 1) → W p l e rmX8_pushesSome s m as below meth c H locs 0 0 Q (F0 m pc ls [.int z.1])) {f : xF} {g : xG} {v1 : Int32} {v2 : Int32} {H : Heap} {locs : List Loc} {ls : Array Slot} (w : wx_w γ A s H locs (mw γ o ad f g)) (hl : lv_has ls 4 [(0, .ref o), (1, .int v1), (2, .int v2)]) (hF : pX8_pushesSome_0 f g v1 v2 = some z) : W p l e rmX8_pushesSome s m as below meth c H locs 0 0 Q (F0 m 0 ls []) := by
  have hx := C.1
  have hb := C.2.1
  unfold pX8_pushesSome_0 at hF
  refine lv_iconst (v := (0 : Int32)) hx hb dX8_pushesSome_0 (by decide) ?_
  refine lv_istore_n (lv' := [(3, .int (0 : Int32)), (0, .ref o), (1, .int v1), (2, .int v2)]) hx hb dX8_pushesSome_1 rfl hl (by decide) rfl (fun ls hl => ?_)
  exact bX8_pushesSome_2 C K E 5000 _ _ _ _ _ _ _ _ hF w (lv_sub hl [1, 2, 3, 0] rfl)

theorem mX8_pushesSome {l : Launch} {γ : wx_G} {o : Nat} {ad : Nat → Nat} {f : xF} {g : xG} {v1 : Int32} {v2 : Int32} {z : Int32 × xF × xG} (hF : pX8_pushesSome f g v1 v2 = some z) : wx_M γ l yX8_pushesSome (ws_ yX8_pushesSome cX8_pushesSome 4 (some .boolean)) rmX8_pushesSome [.ref o, .int v1, .int v2] (mw γ o ad f g) (fun v ws => v = some (.int z.1) ∧ ws = (mw γ o ad z.2.1 z.2.2)) 0 0 := by
  refine wx_M.of (by decide) (Nat.le_of_ble_eq_true rfl) ?_
  intro p e s m as below meth c A ls C K w hr hlocks _ hl
  exact bX8_pushesSome_0 C K (fun H locs ls pc hz w d => wx_zret C hr hlocks hz w ⟨rfl, rfl⟩ d) w hl hF
theorem rX8_pushesSome {p : Program} {l : Launch} {e : Env} {R : Room} {s : State} {m : MethodId} {as : Array Value} {below : List Frame} {meth : Method} {c : Code} {H : Heap} {locs : List Loc} {cells slots : Nat} {Q : State → Prop} {cc : ByteArray} {nL pc : Nat} {ls : Array Slot} {rest : List Value} {γ : wx_G} {A : Nat → Prop} {o : Nat} {ad : Nat → Nat} {f : xF} {g : xG} {v1 : Int32} {v2 : Int32} {z : Int32 × xF × xG} (C : CallFix p m c cc nL s as lw_all RX8) (K : wx_C γ A s) (w : wx_w γ A s H locs (mw γ o ad f g)) (hF : pX8_pushesSome f g v1 v2 = some z) (hls : ls.size = nL) (hR : rmX8_pushesSome.frames + 1 ≤ R.frames ∧ 8 + (4 + 11) + rmX8_pushesSome.locals ≤ R.locals) (hW : (rest.map fun v => v.category).sum ≤ 8) (d : decode cc pc = .ok (.invokevirtual 342, 3)) (kk : ∀ (H : Heap) (locs : List Loc), wx_w γ A s H locs (mw γ o ad z.2.1 z.2.2) → W p l e R s m as below meth c H locs cells slots Q (F0 m (pc + 3) ls (.int z.1 :: rest))) (hf : cells ≤ R.cells ∧ slots ≤ R.slots := by exact ⟨Nat.le_of_ble_eq_true rfl, Nat.le_of_ble_eq_true rfl⟩) : W p l e R s m as below meth c H locs cells slots Q (F0 m pc ls (.int v2 :: .int v1 :: .ref o :: rest)) :=
  wx_callV (n := 2) C K w (mX8_pushesSome (l := l) hF) q1729 q1731 qs97 q123 q1732 rfl rfl (by decide +kernel) (va_recv K.1.1 w.1 (ci := 0) (q0 := 0) rfl rfl) rfl rfl hR hls hW hf d (fun v ws H1 locs1 hp w => by obtain ⟨rfl, rfl⟩ := hp; exact kk H1 locs1 w)

/-! WalkingStonesModel.lightest()I -/
abbrev rmX8_lightest : Room := { frames := 0, cells := 0, slots := 0, locals := 0 }
def pX8_lightest_36 (f : xF) (g : xG) (k4 : Int32 → Int32 → Option (Int32)) (v2 : Int32) (t0 : Int32) : Option (Int32) := k4 t0 (v2 + 1)

def pX8_lightest_26 (f : xF) (g : xG) (k4 : Int32 → Int32 → Option (Int32)) (v2 : Int32) : Option (Int32) := if gin v2 10 = true then pX8_lightest_36 f g k4 v2 (g 3 v2.toNatClampNeg) else none

def pX8_lightest_4 (f : xF) (g : xG) : Nat → Int32 → Int32 → Option (Int32)
  | 0, _, _ => none
  | n + 1, v1, v2 => if (f 0) ≤ v2 then some (v1) else (if v1 = 0 then pX8_lightest_26 f g (pX8_lightest_4 f g n) v2 else (if gin v2 10 = true then if v1 ≤ (g 3 v2.toNatClampNeg) then pX8_lightest_36 f g (pX8_lightest_4 f g n) v2 v1 else pX8_lightest_26 f g (pX8_lightest_4 f g n) v2 else none))

def pX8_lightest_0 (f : xF) (g : xG) : Option (Int32) := pX8_lightest_4 f g 5000 (0 : Int32) (0 : Int32)

abbrev pX8_lightest (f : xF) (g : xG) : Option (Int32) := pX8_lightest_0 f g
theorem bX8_lightest_36 {p : Program} {l : Launch} {e : Env} {s : State} {m : MethodId} {as : Array Value} {below : List Frame} {meth : Method} {c : Code} {A : Nat → Prop} {Q : State → Prop} {γ : wx_G} {o : Nat} {ad : Nat → Nat} {z : Int32} {f : xF} {g : xG} (C : CallFix p m c cX8_lightest 3 s as lw_all RX8) (K : wx_C γ A s) (E : ∀ (H : Heap) (locs : List Loc) (ls : Array Slot) (pc : Nat), wx_w γ A s H locs (mw γ o ad f g) → decode cX8_lightest pc = .ok (.ireturn, 1) → W p l e rmX8_lightest s m as below meth c H locs 0 0 Q (F0 m pc ls [.int z])) {k4 : Int32 → Int32 → Option (Int32)} (hk4 : ∀ (v1 : Int32) (v2 : Int32) (H : Heap) (locs : List Loc) (ls : Array Slot), k4 v1 v2 = some z → wx_w γ A s H locs (mw γ o ad f g) → lv_has ls 3 [(0, .ref o), (1, .int v1), (2, .int v2)] → W p l e rmX8_lightest s m as below meth c H locs 0 0 Q (F0 m 4 ls [])) {v2 : Int32} {t0 : Int32} {H : Heap} {locs : List Loc} {ls : Array Slot} (w : wx_w γ A s H locs (mw γ o ad f g)) (hl : lv_has ls 3 [(0, .ref o), (2, .int v2)]) (hF : pX8_lightest_36 f g k4 v2 t0 = some z) : W p l e rmX8_lightest s m as below meth c H locs 0 0 Q (F0 m 36 ls [.int t0]) := by
  have hx := C.1
  have hb := C.2.1
  unfold pX8_lightest_36 at hF
  refine lv_istore_n (lv' := [(1, .int t0), (0, .ref o), (2, .int v2)]) hx hb dX8_lightest_36 rfl hl (by decide) rfl (fun ls hl => ?_)
  refine lv_iinc (v := v2 + 1) (lv' := [(2, .int (v2 + 1)), (1, .int t0), (0, .ref o)]) hx hb dX8_lightest_37 hl (k := 2) rfl rfl (by decide) rfl (fun ls hl => ?_)
  refine lv_goto (tgt := 4) hx hb dX8_lightest_40 (by decide) ?_
  exact hk4 _ _ _ _ _ hF w (lv_sub hl [2, 1, 0] rfl)

theorem bX8_lightest_26 {p : Program} {l : Launch} {e : Env} {s : State} {m : MethodId} {as : Array Value} {below : List Frame} {meth : Method} {c : Code} {A : Nat → Prop} {Q : State → Prop} {γ : wx_G} {o : Nat} {ad : Nat → Nat} {z : Int32} {f : xF} {g : xG} (C : CallFix p m c cX8_lightest 3 s as lw_all RX8) (K : wx_C γ A s) (E : ∀ (H : Heap) (locs : List Loc) (ls : Array Slot) (pc : Nat), wx_w γ A s H locs (mw γ o ad f g) → decode cX8_lightest pc = .ok (.ireturn, 1) → W p l e rmX8_lightest s m as below meth c H locs 0 0 Q (F0 m pc ls [.int z])) {k4 : Int32 → Int32 → Option (Int32)} (hk4 : ∀ (v1 : Int32) (v2 : Int32) (H : Heap) (locs : List Loc) (ls : Array Slot), k4 v1 v2 = some z → wx_w γ A s H locs (mw γ o ad f g) → lv_has ls 3 [(0, .ref o), (1, .int v1), (2, .int v2)] → W p l e rmX8_lightest s m as below meth c H locs 0 0 Q (F0 m 4 ls [])) {v2 : Int32} {H : Heap} {locs : List Loc} {ls : Array Slot} (w : wx_w γ A s H locs (mw γ o ad f g)) (hl : lv_has ls 3 [(0, .ref o), (2, .int v2)]) (hF : pX8_lightest_26 f g k4 v2 = some z) : W p l e rmX8_lightest s m as below meth c H locs 0 0 Q (F0 m 26 ls []) := by
  have hx := C.1
  have hb := C.2.1
  unfold pX8_lightest_26 at hF
  refine lv_aload_n hx hb dX8_lightest_26 rfl (lv_at hl 0 rfl) ?_
  refine mget_3 C K w dX8_lightest_27 ?_
  refine lv_iload_n hx hb dX8_lightest_30 rfl (lv_at hl 1 rfl) ?_
  obtain ⟨hi, hF⟩ := gin_if hF
  refine mald_3 C K w hi dX8_lightest_31 ?_
  refine lv_goto (tgt := 36) hx hb dX8_lightest_32 (by decide) ?_
  exact bX8_lightest_36 C K E hk4 w hl hF

theorem bX8_lightest_4 {p : Program} {l : Launch} {e : Env} {s : State} {m : MethodId} {as : Array Value} {below : List Frame} {meth : Method} {c : Code} {A : Nat → Prop} {Q : State → Prop} {γ : wx_G} {o : Nat} {ad : Nat → Nat} {z : Int32} {f : xF} {g : xG} (C : CallFix p m c cX8_lightest 3 s as lw_all RX8) (K : wx_C γ A s) (E : ∀ (H : Heap) (locs : List Loc) (ls : Array Slot) (pc : Nat), wx_w γ A s H locs (mw γ o ad f g) → decode cX8_lightest pc = .ok (.ireturn, 1) → W p l e rmX8_lightest s m as below meth c H locs 0 0 Q (F0 m pc ls [.int z])) : ∀ (n : Nat) (v1 : Int32) (v2 : Int32) (H : Heap) (locs : List Loc) (ls : Array Slot), pX8_lightest_4 f g n v1 v2 = some z → wx_w γ A s H locs (mw γ o ad f g) → lv_has ls 3 [(0, .ref o), (1, .int v1), (2, .int v2)] → W p l e rmX8_lightest s m as below meth c H locs 0 0 Q (F0 m 4 ls []) := by
  have hx := C.1
  have hb := C.2.1
  intro n
  induction n with
  | zero =>
    intro v1 v2 H locs ls hF w hl
    have hF : (none : Option (Int32)) = some z := hF
    cases hF
  | succ n ih =>
    intro v1 v2 H locs ls hF w hl
    rw [pX8_lightest_4] at hF
    refine lv_iload_n hx hb dX8_lightest_4 rfl (lv_at hl 2 rfl) ?_
    refine lv_aload_n hx hb dX8_lightest_5 rfl (lv_at hl 0 rfl) ?_
    refine mget_0 C K w dX8_lightest_6 ?_
    refine lv_icmp_ge (tgt := 43) hx hb dX8_lightest_9 (by decide) (fun c => ?_) (fun c => ?_)
    · have hF := (if_pos c).symm.trans hF
      refine lv_iload_n hx hb dX8_lightest_43 rfl (lv_at hl 1 rfl) ?_
      have hF := Option.some.inj hF
      subst hF
      exact E _ _ _ _ w dX8_lightest_44
    · have hF := (if_neg c).symm.trans hF
      refine lv_iload_n hx hb dX8_lightest_12 rfl (lv_at hl 1 rfl) ?_
      refine lv_if_eq (tgt := 26) hx hb dX8_lightest_13 (by decide) (fun c => ?_) (fun c => ?_)
      · have hF := (if_pos c).symm.trans hF
        exact bX8_lightest_26 C K E ih w (lv_sub hl [0, 2] rfl) hF
      · have hF := (if_neg c).symm.trans hF
        refine lv_aload_n hx hb dX8_lightest_16 rfl (lv_at hl 0 rfl) ?_
        refine mget_3 C K w dX8_lightest_17 ?_
        refine lv_iload_n hx hb dX8_lightest_20 rfl (lv_at hl 2 rfl) ?_
        obtain ⟨hi, hF⟩ := gin_if hF
        refine mald_3 C K w hi dX8_lightest_21 ?_
        refine lv_iload_n hx hb dX8_lightest_22 rfl (lv_at hl 1 rfl) ?_
        refine lv_icmp_ge (tgt := 35) hx hb dX8_lightest_23 (by decide) (fun c => ?_) (fun c => ?_)
        · have hF := (if_pos c).symm.trans hF
          refine lv_iload_n hx hb dX8_lightest_35 rfl (lv_at hl 1 rfl) ?_
          exact bX8_lightest_36 C K E ih w (lv_sub hl [0, 2] rfl) hF
        · have hF := (if_neg c).symm.trans hF
          exact bX8_lightest_26 C K E ih w (lv_sub hl [0, 2] rfl) hF

theorem bX8_lightest_0 {p : Program} {l : Launch} {e : Env} {s : State} {m : MethodId} {as : Array Value} {below : List Frame} {meth : Method} {c : Code} {A : Nat → Prop} {Q : State → Prop} {γ : wx_G} {o : Nat} {ad : Nat → Nat} {z : Int32} {f : xF} {g : xG} (C : CallFix p m c cX8_lightest 3 s as lw_all RX8) (K : wx_C γ A s) (E : ∀ (H : Heap) (locs : List Loc) (ls : Array Slot) (pc : Nat), wx_w γ A s H locs (mw γ o ad f g) → decode cX8_lightest pc = .ok (.ireturn, 1) → W p l e rmX8_lightest s m as below meth c H locs 0 0 Q (F0 m pc ls [.int z])) {H : Heap} {locs : List Loc} {ls : Array Slot} (w : wx_w γ A s H locs (mw γ o ad f g)) (hl : lv_has ls 3 [(0, .ref o)]) (hF : pX8_lightest_0 f g = some z) : W p l e rmX8_lightest s m as below meth c H locs 0 0 Q (F0 m 0 ls []) := by
  have hx := C.1
  have hb := C.2.1
  unfold pX8_lightest_0 at hF
  refine lv_iconst (v := (0 : Int32)) hx hb dX8_lightest_0 (by decide) ?_
  refine lv_istore_n (lv' := [(1, .int (0 : Int32)), (0, .ref o)]) hx hb dX8_lightest_1 rfl hl (by decide) rfl (fun ls hl => ?_)
  refine lv_iconst (v := (0 : Int32)) hx hb dX8_lightest_2 (by decide) ?_
  refine lv_istore_n (lv' := [(2, .int (0 : Int32)), (1, .int (0 : Int32)), (0, .ref o)]) hx hb dX8_lightest_3 rfl hl (by decide) rfl (fun ls hl => ?_)
  exact bX8_lightest_4 C K E 5000 _ _ _ _ _ hF w (lv_sub hl [2, 1, 0] rfl)

theorem mX8_lightest {l : Launch} {γ : wx_G} {o : Nat} {ad : Nat → Nat} {f : xF} {g : xG} {z : Int32} (hF : pX8_lightest f g = some z) : wx_M γ l yX8_lightest (ws_ yX8_lightest cX8_lightest 3 (some .int)) rmX8_lightest [.ref o] (mw γ o ad f g) (fun v ws => v = some (.int z) ∧ ws = (mw γ o ad f g)) 0 0 := by
  refine wx_M.of (by decide) (Nat.le_of_ble_eq_true rfl) ?_
  intro p e s m as below meth c A ls C K w hr hlocks _ hl
  exact bX8_lightest_0 C K (fun H locs ls pc w d => wx_iret C hr hlocks w ⟨rfl, rfl⟩ d) w hl hF
theorem rX8_lightest {p : Program} {l : Launch} {e : Env} {R : Room} {s : State} {m : MethodId} {as : Array Value} {below : List Frame} {meth : Method} {c : Code} {H : Heap} {locs : List Loc} {cells slots : Nat} {Q : State → Prop} {cc : ByteArray} {nL pc : Nat} {ls : Array Slot} {rest : List Value} {γ : wx_G} {A : Nat → Prop} {o : Nat} {ad : Nat → Nat} {f : xF} {g : xG} {z : Int32} (C : CallFix p m c cc nL s as lw_all RX8) (K : wx_C γ A s) (w : wx_w γ A s H locs (mw γ o ad f g)) (hF : pX8_lightest f g = some z) (hls : ls.size = nL) (hR : rmX8_lightest.frames + 1 ≤ R.frames ∧ 8 + (3 + 11) + rmX8_lightest.locals ≤ R.locals) (hW : (rest.map fun v => v.category).sum ≤ 8) (d : decode cc pc = .ok (.invokevirtual 345, 3)) (kk : ∀ (H : Heap) (locs : List Loc), wx_w γ A s H locs (mw γ o ad f g) → W p l e R s m as below meth c H locs cells slots Q (F0 m (pc + 3) ls (.int z :: rest))) (hf : cells ≤ R.cells ∧ slots ≤ R.slots := by exact ⟨Nat.le_of_ble_eq_true rfl, Nat.le_of_ble_eq_true rfl⟩) : W p l e R s m as below meth c H locs cells slots Q (F0 m pc ls (.ref o :: rest)) :=
  wx_callV (n := 0) C K w (mX8_lightest (l := l) hF) q1733 q1735 qs98 q123 q1736 rfl rfl (by decide +kernel) (va_recv K.1.1 w.1 (ci := 0) (q0 := 0) rfl rfl) rfl rfl hR hls hW hf d (fun v ws H1 locs1 hp w => by obtain ⟨rfl, rfl⟩ := hp; exact kk H1 locs1 w)

/-! WalkingStonesModel.seldom(II)J -/
abbrev rmX8_seldom : Room := { frames := 5, cells := 0, slots := 0, locals := 121 }
def pX8_seldom_18 (f : xF) (g : xG) : Option (Int64 × xF × xG) := some ((-4611686018427387904 : Int64), f, g)

def pX8_seldom_189 (f : xF) (g : xG) (v2 : Int32) (v3 : Int32) (v5 : Int32) (v6 : Int32) (v7 : Int32) (v8 : Int64) (t0 : Int64) : Option (Int64 × xF × xG) := (pX8_divisor f g v8 t0).bind (fun r196 => if v2 = (0 : Int32) then some (v3.toInt64, f, g) else if v2 = (1 : Int32) then some (v5.toInt64, f, g) else if v2 = (2 : Int32) then (if r196 = 0 then none else some (v8 / r196, f, g)) else if v2 = (3 : Int32) then (if r196 = 0 then none else some (t0 / r196, f, g)) else if v2 = (4 : Int32) then some (v6.toInt64, f, g) else some (v7.toInt64, f, g))

def pX8_seldom_177 (f : xF) (g : xG) (v2 : Int32) (v3 : Int32) (v5 : Int32) (v6 : Int32) (v7 : Int32) (t0 : Int64) : Option (Int64 × xF × xG) := if v3 = 0 then pX8_seldom_189 f g v2 v3 v5 v6 v7 t0 (1 : Int64) else pX8_seldom_189 f g v2 v3 v5 v6 v7 t0 v3.toInt64

def pX8_seldom_164 (f : xF) (g : xG) (v2 : Int32) (v3 : Int32) (v5 : Int32) (v6 : Int32) (v7 : Int32) : Option (Int64 × xF × xG) := if v3 = 0 then pX8_seldom_177 f g v2 v3 v5 v6 v7 (0 : Int64) else pX8_seldom_177 f g v2 v3 v5 v6 v7 ((f 1).toInt64)

def pX8_seldom_155 (k39 : xF → xG → Int32 → Int32 → Int32 → Int32 → Int32 → Int32 → Int32 → Int32 → Option (Int64 × xF × xG)) (f : xF) (g : xG) (v1 : Int32) (v2 : Int32) (v3 : Int32) (v4 : Int32) (v5 : Int32) (v6 : Int32) (v8 : Int32) (t0 : Int32) (t1 : Int32) : Option (Int64 × xF × xG) := k39 f g v1 v2 v3 v4 v5 v6 (t0 + t1) (v8 + 1)

def pX8_seldom_154 (k39 : xF → xG → Int32 → Int32 → Int32 → Int32 → Int32 → Int32 → Int32 → Int32 → Option (Int64 × xF × xG)) (f : xF) (g : xG) (v1 : Int32) (v2 : Int32) (v3 : Int32) (v4 : Int32) (v5 : Int32) (v6 : Int32) (v8 : Int32) (t0 : Int32) : Option (Int64 × xF × xG) := pX8_seldom_155 k39 f g v1 v2 v3 v4 v5 v6 v8 t0 (0 : Int32)

def pX8_seldom_135 (k39 : xF → xG → Int32 → Int32 → Int32 → Int32 → Int32 → Int32 → Int32 → Int32 → Option (Int64 × xF × xG)) (f : xF) (g : xG) (v1 : Int32) (v2 : Int32) (v3 : Int32) (v4 : Int32) (v5 : Int32) (v7 : Int32) (v8 : Int32) (v9 : Int32) (v10 : Int32) (t0 : Int32) (t1 : Int32) : Option (Int64 × xF × xG) := if v10 = 0 then pX8_seldom_154 k39 f g v1 v2 v3 v4 v5 (t0 + t1) v8 v7 else (if v9 = 0 then pX8_seldom_154 k39 f g v1 v2 v3 v4 v5 (t0 + t1) v8 v7 else pX8_seldom_155 k39 f g v1 v2 v3 v4 v5 (t0 + t1) v8 v7 (1 : Int32))

def pX8_seldom_121 (k39 : xF → xG → Int32 → Int32 → Int32 → Int32 → Int32 → Int32 → Int32 → Int32 → Option (Int64 × xF × xG)) (f : xF) (g : xG) (v1 : Int32) (v2 : Int32) (v3 : Int32) (v4 : Int32) (v6 : Int32) (v7 : Int32) (v8 : Int32) (v9 : Int32) (v10 : Int32) (t0 : Int32) : Option (Int64 × xF × xG) := if v10 = 0 then pX8_seldom_135 k39 f g v1 v2 v3 v4 t0 v7 v8 v9 v10 v6 (0 : Int32) else pX8_seldom_135 k39 f g v1 v2 v3 v4 t0 v7 v8 v9 v10 v6 (1 : Int32)

def pX8_seldom_105 (k39 : xF → xG → Int32 → Int32 → Int32 → Int32 → Int32 → Int32 → Int32 → Int32 → Option (Int64 × xF × xG)) (f : xF) (g : xG) (v1 : Int32) (v2 : Int32) (v3 : Int32) (v5 : Int32) (v6 : Int32) (v7 : Int32) (v8 : Int32) (v9 : Int32) (v10 : Int32) (t0 : Int32) : Option (Int64 × xF × xG) := if t0 ≤ v5 then pX8_seldom_121 k39 f g v1 v2 v3 t0 v6 v7 v8 v9 v10 v5 else pX8_seldom_121 k39 f g v1 v2 v3 t0 v6 v7 v8 v9 v10 t0

def pX8_seldom_90 (k39 : xF → xG → Int32 → Int32 → Int32 → Int32 → Int32 → Int32 → Int32 → Int32 → Option (Int64 × xF × xG)) (f : xF) (g : xG) (v1 : Int32) (v2 : Int32) (v4 : Int32) (v5 : Int32) (v6 : Int32) (v7 : Int32) (v8 : Int32) (v9 : Int32) (v10 : Int32) (t0 : Int32) (t1 : Int32) : Option (Int64 × xF × xG) := if v9 = 0 then pX8_seldom_105 k39 f g v1 v2 (t0 + t1) v5 v6 v7 v8 v9 v10 (v4 + (1 : Int32)) else pX8_seldom_105 k39 f g v1 v2 (t0 + t1) v5 v6 v7 v8 v9 v10 (0 : Int32)

def pX8_seldom_77 (k39 : xF → xG → Int32 → Int32 → Int32 → Int32 → Int32 → Int32 → Int32 → Int32 → Option (Int64 × xF × xG)) (f : xF) (g : xG) (v1 : Int32) (v2 : Int32) (v3 : Int32) (v4 : Int32) (v5 : Int32) (v6 : Int32) (v7 : Int32) (v8 : Int32) (v9 : Int32) (t0 : Int32) : Option (Int64 × xF × xG) := if v9 = 0 then pX8_seldom_90 k39 f g v1 v2 v4 v5 v6 v7 v8 v9 t0 v3 (0 : Int32) else pX8_seldom_90 k39 f g v1 v2 v4 v5 v6 v7 v8 v9 t0 v3 (1 : Int32)

def pX8_seldom_39 : Nat → xF → xG → Int32 → Int32 → Int32 → Int32 → Int32 → Int32 → Int32 → Int32 → Option (Int64 × xF × xG)
  | 0, _, _, _, _, _, _, _, _, _, _ => none
  | n + 1, f, g, v1, v2, v3, v4, v5, v6, v7, v8 => if (f 1) ≤ v8 then pX8_seldom_164 f g v2 v3 v5 v6 v7 else (pX8_pushesSome f g v1 v8).bind (fun r52 => (pX8_lightest r52.2.1 r52.2.2).bind (fun r60 => (pX8_tellsRule r52.2.1 r52.2.2 (1 : Int32) r60 v8 v1).bind (fun r66 => if r66.1 = 0 then pX8_seldom_77 (pX8_seldom_39 n) r66.2.1 r66.2.2 v1 v2 v3 v4 v5 v6 v7 v8 r52.1 (0 : Int32) else pX8_seldom_77 (pX8_seldom_39 n) r66.2.1 r66.2.2 v1 v2 v3 v4 v5 v6 v7 v8 r52.1 (1 : Int32))))

def pX8_seldom_0 (f : xF) (g : xG) (v1 : Int32) (v2 : Int32) : Option (Int64 × xF × xG) := (pX8_isHow f g v1).bind (fun r2 => if r2 = 0 then pX8_seldom_18 f g else (pX8_in f g v2 (0 : Int32) (5 : Int32)).bind (fun r12 => if r12 = 0 then pX8_seldom_18 f g else pX8_seldom_39 5000 f g v1 v2 (0 : Int32) (0 : Int32) (0 : Int32) (0 : Int32) (0 : Int32) (0 : Int32)))

abbrev pX8_seldom (f : xF) (g : xG) (v1 : Int32) (v2 : Int32) : Option (Int64 × xF × xG) := pX8_seldom_0 f g v1 v2
theorem bX8_seldom_18 {p : Program} {l : Launch} {e : Env} {s : State} {m : MethodId} {as : Array Value} {below : List Frame} {meth : Method} {c : Code} {A : Nat → Prop} {Q : State → Prop} {γ : wx_G} {o : Nat} {ad : Nat → Nat} {z : Int64 × xF × xG} (C : CallFix p m c cX8_seldom 14 s as lw_all RX8) (K : wx_C γ A s) (E : ∀ (H : Heap) (locs : List Loc) (ls : Array Slot) (pc : Nat), wx_w γ A s H locs (mw γ o ad z.2.1 z.2.2) → decode cX8_seldom pc = .ok (.lreturn, 1) → W p l e rmX8_seldom s m as below meth c H locs 0 0 Q (F0 m pc ls [.long z.1])) {f : xF} {g : xG} {H : Heap} {locs : List Loc} {ls : Array Slot} (w : wx_w γ A s H locs (mw γ o ad f g)) (hl : lv_has ls 14 []) (hF : pX8_seldom_18 f g = some z) : W p l e rmX8_seldom s m as below meth c H locs 0 0 Q (F0 m 18 ls []) := by
  have hx := C.1
  have hb := C.2.1
  unfold pX8_seldom_18 at hF
  refine lv_ldc2 (v := (-4611686018427387904 : Int64)) hx hb C.2.2.2.1 (C.2.2.2.2 _ q1696) dX8_seldom_18 ?_
  have hF := Option.some.inj hF
  subst hF
  exact E _ _ _ _ w dX8_seldom_21

theorem bX8_seldom_189 {p : Program} {l : Launch} {e : Env} {s : State} {m : MethodId} {as : Array Value} {below : List Frame} {meth : Method} {c : Code} {A : Nat → Prop} {Q : State → Prop} {γ : wx_G} {o : Nat} {ad : Nat → Nat} {z : Int64 × xF × xG} (C : CallFix p m c cX8_seldom 14 s as lw_all RX8) (K : wx_C γ A s) (E : ∀ (H : Heap) (locs : List Loc) (ls : Array Slot) (pc : Nat), wx_w γ A s H locs (mw γ o ad z.2.1 z.2.2) → decode cX8_seldom pc = .ok (.lreturn, 1) → W p l e rmX8_seldom s m as below meth c H locs 0 0 Q (F0 m pc ls [.long z.1])) {f : xF} {g : xG} {v2 : Int32} {v3 : Int32} {v5 : Int32} {v6 : Int32} {v7 : Int32} {v8 : Int64} {t0 : Int64} {H : Heap} {locs : List Loc} {ls : Array Slot} (w : wx_w γ A s H locs (mw γ o ad f g)) (hl : lv_has ls 14 [(0, .ref o), (2, .int v2), (3, .int v3), (5, .int v5), (6, .int v6), (7, .int v7), (8, .long v8)]) (hF : pX8_seldom_189 f g v2 v3 v5 v6 v7 v8 t0 = some z) : W p l e rmX8_seldom s m as below meth c H locs 0 0 Q (F0 m 189 ls [.long t0]) := by
  have hx := C.1
  have hb := C.2.1
  unfold pX8_seldom_189 at hF
  refine lv_lstore (lv' := [(10, .long t0), (0, .ref o), (2, .int v2), (3, .int v3), (5, .int v5), (6, .int v6), (7, .int v7), (8, .long v8)]) hx hb dX8_seldom_189 hl (by decide) rfl (fun ls hl => ?_)
  refine lv_aload_n hx hb dX8_seldom_191 rfl (lv_at hl 1 rfl) ?_
  refine lv_lload hx hb dX8_seldom_192 (lv_at hl 7 rfl) ?_
  refine lv_lload hx hb dX8_seldom_194 (lv_at hl 0 rfl) ?_
  obtain ⟨r196, hr, hF⟩ := obd hF
  refine rX8_divisor C K w hr hl.1 ⟨Nat.le_of_ble_eq_true rfl, Nat.le_of_ble_eq_true rfl⟩ (Nat.le_of_ble_eq_true rfl) dX8_seldom_196 (fun H locs w => ?_)
  refine lv_lstore (lv' := [(12, .long r196), (10, .long t0), (0, .ref o), (2, .int v2), (3, .int v3), (5, .int v5), (6, .int v6), (7, .int v7), (8, .long v8)]) hx hb dX8_seldom_199 hl (by decide) rfl (fun ls hl => ?_)
  refine lv_iload_n hx hb dX8_seldom_201 rfl (lv_at hl 3 rfl) ?_
  by_cases c0 : v2 = (0 : Int32)
  · have hF := (if_pos c0).symm.trans hF
    refine lv_tableIn (off := 34) (tgt := 236) hx hb dX8_seldom_202 (by rw [c0]; decide) (by rw [c0]; decide) (by rw [c0]; rfl) (by decide) ?_
    refine lv_iload_n hx hb dX8_seldom_236 rfl (lv_at hl 4 rfl) ?_
    refine lv_i2l hx hb dX8_seldom_237 rfl ?_
    have hF := Option.some.inj hF
    subst hF
    exact E _ _ _ _ w dX8_seldom_238
  have hF := (if_neg c0).symm.trans hF
  by_cases c1 : v2 = (1 : Int32)
  · have hF := (if_pos c1).symm.trans hF
    refine lv_tableIn (off := 37) (tgt := 239) hx hb dX8_seldom_202 (by rw [c1]; decide) (by rw [c1]; decide) (by rw [c1]; rfl) (by decide) ?_
    refine lv_iload hx hb dX8_seldom_239 (lv_at hl 5 rfl) ?_
    refine lv_i2l hx hb dX8_seldom_241 rfl ?_
    have hF := Option.some.inj hF
    subst hF
    exact E _ _ _ _ w dX8_seldom_242
  have hF := (if_neg c1).symm.trans hF
  by_cases c2 : v2 = (2 : Int32)
  · have hF := (if_pos c2).symm.trans hF
    refine lv_tableIn (off := 41) (tgt := 243) hx hb dX8_seldom_202 (by rw [c2]; decide) (by rw [c2]; decide) (by rw [c2]; rfl) (by decide) ?_
    refine lv_lload hx hb dX8_seldom_243 (lv_at hl 8 rfl) ?_
    refine lv_lload hx hb dX8_seldom_245 (lv_at hl 0 rfl) ?_
    obtain ⟨hne, hF⟩ := gnz_if hF
    refine lv_ldiv hx hb dX8_seldom_247 hne ?_
    have hF := Option.some.inj hF
    subst hF
    exact E _ _ _ _ w dX8_seldom_248
  have hF := (if_neg c2).symm.trans hF
  by_cases c3 : v2 = (3 : Int32)
  · have hF := (if_pos c3).symm.trans hF
    refine lv_tableIn (off := 47) (tgt := 249) hx hb dX8_seldom_202 (by rw [c3]; decide) (by rw [c3]; decide) (by rw [c3]; rfl) (by decide) ?_
    refine lv_lload hx hb dX8_seldom_249 (lv_at hl 1 rfl) ?_
    refine lv_lload hx hb dX8_seldom_251 (lv_at hl 0 rfl) ?_
    obtain ⟨hne, hF⟩ := gnz_if hF
    refine lv_ldiv hx hb dX8_seldom_253 hne ?_
    have hF := Option.some.inj hF
    subst hF
    exact E _ _ _ _ w dX8_seldom_254
  have hF := (if_neg c3).symm.trans hF
  by_cases c4 : v2 = (4 : Int32)
  · have hF := (if_pos c4).symm.trans hF
    refine lv_tableIn (off := 53) (tgt := 255) hx hb dX8_seldom_202 (by rw [c4]; decide) (by rw [c4]; decide) (by rw [c4]; rfl) (by decide) ?_
    refine lv_iload hx hb dX8_seldom_255 (lv_at hl 6 rfl) ?_
    refine lv_i2l hx hb dX8_seldom_257 rfl ?_
    have hF := Option.some.inj hF
    subst hF
    exact E _ _ _ _ w dX8_seldom_258
  have hF := (if_neg c4).symm.trans hF
  have n0 := wx_ne c0 (k := 0) (by decide)
  have n1 := wx_ne c1 (k := 1) (by decide)
  have n2 := wx_ne c2 (k := 2) (by decide)
  have n3 := wx_ne c3 (k := 3) (by decide)
  have n4 := wx_ne c4 (k := 4) (by decide)
  refine lv_tableOut (tgt := 259) hx hb dX8_seldom_202 (by omega) (by decide) ?_
  refine lv_iload hx hb dX8_seldom_259 (lv_at hl 7 rfl) ?_
  refine lv_i2l hx hb dX8_seldom_261 rfl ?_
  have hF := Option.some.inj hF
  subst hF
  exact E _ _ _ _ w dX8_seldom_262

theorem bX8_seldom_177 {p : Program} {l : Launch} {e : Env} {s : State} {m : MethodId} {as : Array Value} {below : List Frame} {meth : Method} {c : Code} {A : Nat → Prop} {Q : State → Prop} {γ : wx_G} {o : Nat} {ad : Nat → Nat} {z : Int64 × xF × xG} (C : CallFix p m c cX8_seldom 14 s as lw_all RX8) (K : wx_C γ A s) (E : ∀ (H : Heap) (locs : List Loc) (ls : Array Slot) (pc : Nat), wx_w γ A s H locs (mw γ o ad z.2.1 z.2.2) → decode cX8_seldom pc = .ok (.lreturn, 1) → W p l e rmX8_seldom s m as below meth c H locs 0 0 Q (F0 m pc ls [.long z.1])) {f : xF} {g : xG} {v2 : Int32} {v3 : Int32} {v5 : Int32} {v6 : Int32} {v7 : Int32} {t0 : Int64} {H : Heap} {locs : List Loc} {ls : Array Slot} (w : wx_w γ A s H locs (mw γ o ad f g)) (hl : lv_has ls 14 [(0, .ref o), (2, .int v2), (3, .int v3), (5, .int v5), (6, .int v6), (7, .int v7)]) (hF : pX8_seldom_177 f g v2 v3 v5 v6 v7 t0 = some z) : W p l e rmX8_seldom s m as below meth c H locs 0 0 Q (F0 m 177 ls [.long t0]) := by
  have hx := C.1
  have hb := C.2.1
  unfold pX8_seldom_177 at hF
  refine lv_lstore (lv' := [(8, .long t0), (0, .ref o), (2, .int v2), (3, .int v3), (5, .int v5), (6, .int v6), (7, .int v7)]) hx hb dX8_seldom_177 hl (by decide) rfl (fun ls hl => ?_)
  refine lv_iload_n hx hb dX8_seldom_179 rfl (lv_at hl 3 rfl) ?_
  refine lv_if_ne (tgt := 187) hx hb dX8_seldom_180 (by decide) (fun c => ?_) (fun c => ?_)
  · have hF := (if_neg c).symm.trans hF
    refine lv_iload_n hx hb dX8_seldom_187 rfl (lv_at hl 3 rfl) ?_
    refine lv_i2l hx hb dX8_seldom_188 rfl ?_
    exact bX8_seldom_189 C K E w (lv_sub hl [1, 2, 3, 4, 5, 6, 0] rfl) hF
  · have hF := (if_pos c).symm.trans hF
    refine lv_lconst (v := (1 : Int64)) hx hb dX8_seldom_183 (by decide) ?_
    refine lv_goto (tgt := 189) hx hb dX8_seldom_184 (by decide) ?_
    exact bX8_seldom_189 C K E w (lv_sub hl [1, 2, 3, 4, 5, 6, 0] rfl) hF

theorem bX8_seldom_164 {p : Program} {l : Launch} {e : Env} {s : State} {m : MethodId} {as : Array Value} {below : List Frame} {meth : Method} {c : Code} {A : Nat → Prop} {Q : State → Prop} {γ : wx_G} {o : Nat} {ad : Nat → Nat} {z : Int64 × xF × xG} (C : CallFix p m c cX8_seldom 14 s as lw_all RX8) (K : wx_C γ A s) (E : ∀ (H : Heap) (locs : List Loc) (ls : Array Slot) (pc : Nat), wx_w γ A s H locs (mw γ o ad z.2.1 z.2.2) → decode cX8_seldom pc = .ok (.lreturn, 1) → W p l e rmX8_seldom s m as below meth c H locs 0 0 Q (F0 m pc ls [.long z.1])) {f : xF} {g : xG} {v2 : Int32} {v3 : Int32} {v5 : Int32} {v6 : Int32} {v7 : Int32} {H : Heap} {locs : List Loc} {ls : Array Slot} (w : wx_w γ A s H locs (mw γ o ad f g)) (hl : lv_has ls 14 [(0, .ref o), (2, .int v2), (3, .int v3), (5, .int v5), (6, .int v6), (7, .int v7)]) (hF : pX8_seldom_164 f g v2 v3 v5 v6 v7 = some z) : W p l e rmX8_seldom s m as below meth c H locs 0 0 Q (F0 m 164 ls []) := by
  have hx := C.1
  have hb := C.2.1
  unfold pX8_seldom_164 at hF
  refine lv_iload_n hx hb dX8_seldom_164 rfl (lv_at hl 2 rfl) ?_
  refine lv_if_ne (tgt := 172) hx hb dX8_seldom_165 (by decide) (fun c => ?_) (fun c => ?_)
  · have hF := (if_neg c).symm.trans hF
    refine lv_aload_n hx hb dX8_seldom_172 rfl (lv_at hl 0 rfl) ?_
    refine mget_1 C K w dX8_seldom_173 ?_
    refine lv_i2l hx hb dX8_seldom_176 rfl ?_
    exact bX8_seldom_177 C K E w hl hF
  · have hF := (if_pos c).symm.trans hF
    refine lv_lconst (v := (0 : Int64)) hx hb dX8_seldom_168 (by decide) ?_
    refine lv_goto (tgt := 177) hx hb dX8_seldom_169 (by decide) ?_
    exact bX8_seldom_177 C K E w hl hF

theorem bX8_seldom_155 {p : Program} {l : Launch} {e : Env} {s : State} {m : MethodId} {as : Array Value} {below : List Frame} {meth : Method} {c : Code} {A : Nat → Prop} {Q : State → Prop} {γ : wx_G} {o : Nat} {ad : Nat → Nat} {z : Int64 × xF × xG} (C : CallFix p m c cX8_seldom 14 s as lw_all RX8) (K : wx_C γ A s) (E : ∀ (H : Heap) (locs : List Loc) (ls : Array Slot) (pc : Nat), wx_w γ A s H locs (mw γ o ad z.2.1 z.2.2) → decode cX8_seldom pc = .ok (.lreturn, 1) → W p l e rmX8_seldom s m as below meth c H locs 0 0 Q (F0 m pc ls [.long z.1])) {k39 : xF → xG → Int32 → Int32 → Int32 → Int32 → Int32 → Int32 → Int32 → Int32 → Option (Int64 × xF × xG)} (hk39 : ∀ (f : xF) (g : xG) (v1 : Int32) (v2 : Int32) (v3 : Int32) (v4 : Int32) (v5 : Int32) (v6 : Int32) (v7 : Int32) (v8 : Int32) (H : Heap) (locs : List Loc) (ls : Array Slot), k39 f g v1 v2 v3 v4 v5 v6 v7 v8 = some z → wx_w γ A s H locs (mw γ o ad f g) → lv_has ls 14 [(0, .ref o), (1, .int v1), (2, .int v2), (3, .int v3), (4, .int v4), (5, .int v5), (6, .int v6), (7, .int v7), (8, .int v8)] → W p l e rmX8_seldom s m as below meth c H locs 0 0 Q (F0 m 39 ls [])) {f : xF} {g : xG} {v1 : Int32} {v2 : Int32} {v3 : Int32} {v4 : Int32} {v5 : Int32} {v6 : Int32} {v8 : Int32} {t0 : Int32} {t1 : Int32} {H : Heap} {locs : List Loc} {ls : Array Slot} (w : wx_w γ A s H locs (mw γ o ad f g)) (hl : lv_has ls 14 [(0, .ref o), (1, .int v1), (2, .int v2), (3, .int v3), (4, .int v4), (5, .int v5), (6, .int v6), (8, .int v8)]) (hF : pX8_seldom_155 k39 f g v1 v2 v3 v4 v5 v6 v8 t0 t1 = some z) : W p l e rmX8_seldom s m as below meth c H locs 0 0 Q (F0 m 155 ls [.int t1, .int t0]) := by
  have hx := C.1
  have hb := C.2.1
  unfold pX8_seldom_155 at hF
  refine lv_iadd hx hb dX8_seldom_155 ?_
  refine lv_istore (lv' := [(7, .int (t0 + t1)), (0, .ref o), (1, .int v1), (2, .int v2), (3, .int v3), (4, .int v4), (5, .int v5), (6, .int v6), (8, .int v8)]) hx hb dX8_seldom_156 hl (by decide) rfl (fun ls hl => ?_)
  refine lv_iinc (v := v8 + 1) (lv' := [(8, .int (v8 + 1)), (7, .int (t0 + t1)), (0, .ref o), (1, .int v1), (2, .int v2), (3, .int v3), (4, .int v4), (5, .int v5), (6, .int v6)]) hx hb dX8_seldom_158 hl (k := 8) rfl rfl (by decide) rfl (fun ls hl => ?_)
  refine lv_goto (tgt := 39) hx hb dX8_seldom_161 (by decide) ?_
  exact hk39 _ _ _ _ _ _ _ _ _ _ _ _ _ hF w (lv_sub hl [2, 3, 4, 5, 6, 7, 8, 1, 0] rfl)

theorem bX8_seldom_154 {p : Program} {l : Launch} {e : Env} {s : State} {m : MethodId} {as : Array Value} {below : List Frame} {meth : Method} {c : Code} {A : Nat → Prop} {Q : State → Prop} {γ : wx_G} {o : Nat} {ad : Nat → Nat} {z : Int64 × xF × xG} (C : CallFix p m c cX8_seldom 14 s as lw_all RX8) (K : wx_C γ A s) (E : ∀ (H : Heap) (locs : List Loc) (ls : Array Slot) (pc : Nat), wx_w γ A s H locs (mw γ o ad z.2.1 z.2.2) → decode cX8_seldom pc = .ok (.lreturn, 1) → W p l e rmX8_seldom s m as below meth c H locs 0 0 Q (F0 m pc ls [.long z.1])) {k39 : xF → xG → Int32 → Int32 → Int32 → Int32 → Int32 → Int32 → Int32 → Int32 → Option (Int64 × xF × xG)} (hk39 : ∀ (f : xF) (g : xG) (v1 : Int32) (v2 : Int32) (v3 : Int32) (v4 : Int32) (v5 : Int32) (v6 : Int32) (v7 : Int32) (v8 : Int32) (H : Heap) (locs : List Loc) (ls : Array Slot), k39 f g v1 v2 v3 v4 v5 v6 v7 v8 = some z → wx_w γ A s H locs (mw γ o ad f g) → lv_has ls 14 [(0, .ref o), (1, .int v1), (2, .int v2), (3, .int v3), (4, .int v4), (5, .int v5), (6, .int v6), (7, .int v7), (8, .int v8)] → W p l e rmX8_seldom s m as below meth c H locs 0 0 Q (F0 m 39 ls [])) {f : xF} {g : xG} {v1 : Int32} {v2 : Int32} {v3 : Int32} {v4 : Int32} {v5 : Int32} {v6 : Int32} {v8 : Int32} {t0 : Int32} {H : Heap} {locs : List Loc} {ls : Array Slot} (w : wx_w γ A s H locs (mw γ o ad f g)) (hl : lv_has ls 14 [(0, .ref o), (1, .int v1), (2, .int v2), (3, .int v3), (4, .int v4), (5, .int v5), (6, .int v6), (8, .int v8)]) (hF : pX8_seldom_154 k39 f g v1 v2 v3 v4 v5 v6 v8 t0 = some z) : W p l e rmX8_seldom s m as below meth c H locs 0 0 Q (F0 m 154 ls [.int t0]) := by
  have hx := C.1
  have hb := C.2.1
  unfold pX8_seldom_154 at hF
  refine lv_iconst (v := (0 : Int32)) hx hb dX8_seldom_154 (by decide) ?_
  exact bX8_seldom_155 C K E hk39 w hl hF

theorem bX8_seldom_135 {p : Program} {l : Launch} {e : Env} {s : State} {m : MethodId} {as : Array Value} {below : List Frame} {meth : Method} {c : Code} {A : Nat → Prop} {Q : State → Prop} {γ : wx_G} {o : Nat} {ad : Nat → Nat} {z : Int64 × xF × xG} (C : CallFix p m c cX8_seldom 14 s as lw_all RX8) (K : wx_C γ A s) (E : ∀ (H : Heap) (locs : List Loc) (ls : Array Slot) (pc : Nat), wx_w γ A s H locs (mw γ o ad z.2.1 z.2.2) → decode cX8_seldom pc = .ok (.lreturn, 1) → W p l e rmX8_seldom s m as below meth c H locs 0 0 Q (F0 m pc ls [.long z.1])) {k39 : xF → xG → Int32 → Int32 → Int32 → Int32 → Int32 → Int32 → Int32 → Int32 → Option (Int64 × xF × xG)} (hk39 : ∀ (f : xF) (g : xG) (v1 : Int32) (v2 : Int32) (v3 : Int32) (v4 : Int32) (v5 : Int32) (v6 : Int32) (v7 : Int32) (v8 : Int32) (H : Heap) (locs : List Loc) (ls : Array Slot), k39 f g v1 v2 v3 v4 v5 v6 v7 v8 = some z → wx_w γ A s H locs (mw γ o ad f g) → lv_has ls 14 [(0, .ref o), (1, .int v1), (2, .int v2), (3, .int v3), (4, .int v4), (5, .int v5), (6, .int v6), (7, .int v7), (8, .int v8)] → W p l e rmX8_seldom s m as below meth c H locs 0 0 Q (F0 m 39 ls [])) {f : xF} {g : xG} {v1 : Int32} {v2 : Int32} {v3 : Int32} {v4 : Int32} {v5 : Int32} {v7 : Int32} {v8 : Int32} {v9 : Int32} {v10 : Int32} {t0 : Int32} {t1 : Int32} {H : Heap} {locs : List Loc} {ls : Array Slot} (w : wx_w γ A s H locs (mw γ o ad f g)) (hl : lv_has ls 14 [(0, .ref o), (1, .int v1), (2, .int v2), (3, .int v3), (4, .int v4), (5, .int v5), (7, .int v7), (8, .int v8), (9, .int v9), (10, .int v10)]) (hF : pX8_seldom_135 k39 f g v1 v2 v3 v4 v5 v7 v8 v9 v10 t0 t1 = some z) : W p l e rmX8_seldom s m as below meth c H locs 0 0 Q (F0 m 135 ls [.int t1, .int t0]) := by
  have hx := C.1
  have hb := C.2.1
  unfold pX8_seldom_135 at hF
  refine lv_iadd hx hb dX8_seldom_135 ?_
  refine lv_istore (lv' := [(6, .int (t0 + t1)), (0, .ref o), (1, .int v1), (2, .int v2), (3, .int v3), (4, .int v4), (5, .int v5), (7, .int v7), (8, .int v8), (9, .int v9), (10, .int v10)]) hx hb dX8_seldom_136 hl (by decide) rfl (fun ls hl => ?_)
  refine lv_iload hx hb dX8_seldom_138 (lv_at hl 7 rfl) ?_
  refine lv_iload hx hb dX8_seldom_140 (lv_at hl 10 rfl) ?_
  refine lv_if_eq (tgt := 154) hx hb dX8_seldom_142 (by decide) (fun c => ?_) (fun c => ?_)
  · have hF := (if_pos c).symm.trans hF
    exact bX8_seldom_154 C K E hk39 w (lv_sub hl [1, 2, 3, 4, 5, 6, 0, 8] rfl) hF
  · have hF := (if_neg c).symm.trans hF
    refine lv_iload hx hb dX8_seldom_145 (lv_at hl 9 rfl) ?_
    refine lv_if_eq (tgt := 154) hx hb dX8_seldom_147 (by decide) (fun c => ?_) (fun c => ?_)
    · have hF := (if_pos c).symm.trans hF
      exact bX8_seldom_154 C K E hk39 w (lv_sub hl [1, 2, 3, 4, 5, 6, 0, 8] rfl) hF
    · have hF := (if_neg c).symm.trans hF
      refine lv_iconst (v := (1 : Int32)) hx hb dX8_seldom_150 (by decide) ?_
      refine lv_goto (tgt := 155) hx hb dX8_seldom_151 (by decide) ?_
      exact bX8_seldom_155 C K E hk39 w (lv_sub hl [1, 2, 3, 4, 5, 6, 0, 8] rfl) hF

theorem bX8_seldom_121 {p : Program} {l : Launch} {e : Env} {s : State} {m : MethodId} {as : Array Value} {below : List Frame} {meth : Method} {c : Code} {A : Nat → Prop} {Q : State → Prop} {γ : wx_G} {o : Nat} {ad : Nat → Nat} {z : Int64 × xF × xG} (C : CallFix p m c cX8_seldom 14 s as lw_all RX8) (K : wx_C γ A s) (E : ∀ (H : Heap) (locs : List Loc) (ls : Array Slot) (pc : Nat), wx_w γ A s H locs (mw γ o ad z.2.1 z.2.2) → decode cX8_seldom pc = .ok (.lreturn, 1) → W p l e rmX8_seldom s m as below meth c H locs 0 0 Q (F0 m pc ls [.long z.1])) {k39 : xF → xG → Int32 → Int32 → Int32 → Int32 → Int32 → Int32 → Int32 → Int32 → Option (Int64 × xF × xG)} (hk39 : ∀ (f : xF) (g : xG) (v1 : Int32) (v2 : Int32) (v3 : Int32) (v4 : Int32) (v5 : Int32) (v6 : Int32) (v7 : Int32) (v8 : Int32) (H : Heap) (locs : List Loc) (ls : Array Slot), k39 f g v1 v2 v3 v4 v5 v6 v7 v8 = some z → wx_w γ A s H locs (mw γ o ad f g) → lv_has ls 14 [(0, .ref o), (1, .int v1), (2, .int v2), (3, .int v3), (4, .int v4), (5, .int v5), (6, .int v6), (7, .int v7), (8, .int v8)] → W p l e rmX8_seldom s m as below meth c H locs 0 0 Q (F0 m 39 ls [])) {f : xF} {g : xG} {v1 : Int32} {v2 : Int32} {v3 : Int32} {v4 : Int32} {v6 : Int32} {v7 : Int32} {v8 : Int32} {v9 : Int32} {v10 : Int32} {t0 : Int32} {H : Heap} {locs : List Loc} {ls : Array Slot} (w : wx_w γ A s H locs (mw γ o ad f g)) (hl : lv_has ls 14 [(0, .ref o), (1, .int v1), (2, .int v2), (3, .int v3), (4, .int v4), (6, .int v6), (7, .int v7), (8, .int v8), (9, .int v9), (10, .int v10)]) (hF : pX8_seldom_121 k39 f g v1 v2 v3 v4 v6 v7 v8 v9 v10 t0 = some z) : W p l e rmX8_seldom s m as below meth c H locs 0 0 Q (F0 m 121 ls [.int t0]) := by
  have hx := C.1
  have hb := C.2.1
  unfold pX8_seldom_121 at hF
  refine lv_istore (lv' := [(5, .int t0), (0, .ref o), (1, .int v1), (2, .int v2), (3, .int v3), (4, .int v4), (6, .int v6), (7, .int v7), (8, .int v8), (9, .int v9), (10, .int v10)]) hx hb dX8_seldom_121 hl (by decide) rfl (fun ls hl => ?_)
  refine lv_iload hx hb dX8_seldom_123 (lv_at hl 6 rfl) ?_
  refine lv_iload hx hb dX8_seldom_125 (lv_at hl 10 rfl) ?_
  refine lv_if_eq (tgt := 134) hx hb dX8_seldom_127 (by decide) (fun c => ?_) (fun c => ?_)
  · have hF := (if_pos c).symm.trans hF
    refine lv_iconst (v := (0 : Int32)) hx hb dX8_seldom_134 (by decide) ?_
    exact bX8_seldom_135 C K E hk39 w (lv_sub hl [1, 2, 3, 4, 5, 0, 7, 8, 9, 10] rfl) hF
  · have hF := (if_neg c).symm.trans hF
    refine lv_iconst (v := (1 : Int32)) hx hb dX8_seldom_130 (by decide) ?_
    refine lv_goto (tgt := 135) hx hb dX8_seldom_131 (by decide) ?_
    exact bX8_seldom_135 C K E hk39 w (lv_sub hl [1, 2, 3, 4, 5, 0, 7, 8, 9, 10] rfl) hF

theorem bX8_seldom_105 {p : Program} {l : Launch} {e : Env} {s : State} {m : MethodId} {as : Array Value} {below : List Frame} {meth : Method} {c : Code} {A : Nat → Prop} {Q : State → Prop} {γ : wx_G} {o : Nat} {ad : Nat → Nat} {z : Int64 × xF × xG} (C : CallFix p m c cX8_seldom 14 s as lw_all RX8) (K : wx_C γ A s) (E : ∀ (H : Heap) (locs : List Loc) (ls : Array Slot) (pc : Nat), wx_w γ A s H locs (mw γ o ad z.2.1 z.2.2) → decode cX8_seldom pc = .ok (.lreturn, 1) → W p l e rmX8_seldom s m as below meth c H locs 0 0 Q (F0 m pc ls [.long z.1])) {k39 : xF → xG → Int32 → Int32 → Int32 → Int32 → Int32 → Int32 → Int32 → Int32 → Option (Int64 × xF × xG)} (hk39 : ∀ (f : xF) (g : xG) (v1 : Int32) (v2 : Int32) (v3 : Int32) (v4 : Int32) (v5 : Int32) (v6 : Int32) (v7 : Int32) (v8 : Int32) (H : Heap) (locs : List Loc) (ls : Array Slot), k39 f g v1 v2 v3 v4 v5 v6 v7 v8 = some z → wx_w γ A s H locs (mw γ o ad f g) → lv_has ls 14 [(0, .ref o), (1, .int v1), (2, .int v2), (3, .int v3), (4, .int v4), (5, .int v5), (6, .int v6), (7, .int v7), (8, .int v8)] → W p l e rmX8_seldom s m as below meth c H locs 0 0 Q (F0 m 39 ls [])) {f : xF} {g : xG} {v1 : Int32} {v2 : Int32} {v3 : Int32} {v5 : Int32} {v6 : Int32} {v7 : Int32} {v8 : Int32} {v9 : Int32} {v10 : Int32} {t0 : Int32} {H : Heap} {locs : List Loc} {ls : Array Slot} (w : wx_w γ A s H locs (mw γ o ad f g)) (hl : lv_has ls 14 [(0, .ref o), (1, .int v1), (2, .int v2), (3, .int v3), (5, .int v5), (6, .int v6), (7, .int v7), (8, .int v8), (9, .int v9), (10, .int v10)]) (hF : pX8_seldom_105 k39 f g v1 v2 v3 v5 v6 v7 v8 v9 v10 t0 = some z) : W p l e rmX8_seldom s m as below meth c H locs 0 0 Q (F0 m 105 ls [.int t0]) := by
  have hx := C.1
  have hb := C.2.1
  unfold pX8_seldom_105 at hF
  refine lv_istore (lv' := [(4, .int t0), (0, .ref o), (1, .int v1), (2, .int v2), (3, .int v3), (5, .int v5), (6, .int v6), (7, .int v7), (8, .int v8), (9, .int v9), (10, .int v10)]) hx hb dX8_seldom_105 hl (by decide) rfl (fun ls hl => ?_)
  refine lv_iload hx hb dX8_seldom_107 (lv_at hl 0 rfl) ?_
  refine lv_iload hx hb dX8_seldom_109 (lv_at hl 5 rfl) ?_
  refine lv_icmp_le (tgt := 119) hx hb dX8_seldom_111 (by decide) (fun c => ?_) (fun c => ?_)
  · have hF := (if_pos c).symm.trans hF
    refine lv_iload hx hb dX8_seldom_119 (lv_at hl 5 rfl) ?_
    exact bX8_seldom_121 C K E hk39 w (lv_sub hl [1, 2, 3, 4, 0, 6, 7, 8, 9, 10] rfl) hF
  · have hF := (if_neg c).symm.trans hF
    refine lv_iload hx hb dX8_seldom_114 (lv_at hl 0 rfl) ?_
    refine lv_goto (tgt := 121) hx hb dX8_seldom_116 (by decide) ?_
    exact bX8_seldom_121 C K E hk39 w (lv_sub hl [1, 2, 3, 4, 0, 6, 7, 8, 9, 10] rfl) hF

theorem bX8_seldom_90 {p : Program} {l : Launch} {e : Env} {s : State} {m : MethodId} {as : Array Value} {below : List Frame} {meth : Method} {c : Code} {A : Nat → Prop} {Q : State → Prop} {γ : wx_G} {o : Nat} {ad : Nat → Nat} {z : Int64 × xF × xG} (C : CallFix p m c cX8_seldom 14 s as lw_all RX8) (K : wx_C γ A s) (E : ∀ (H : Heap) (locs : List Loc) (ls : Array Slot) (pc : Nat), wx_w γ A s H locs (mw γ o ad z.2.1 z.2.2) → decode cX8_seldom pc = .ok (.lreturn, 1) → W p l e rmX8_seldom s m as below meth c H locs 0 0 Q (F0 m pc ls [.long z.1])) {k39 : xF → xG → Int32 → Int32 → Int32 → Int32 → Int32 → Int32 → Int32 → Int32 → Option (Int64 × xF × xG)} (hk39 : ∀ (f : xF) (g : xG) (v1 : Int32) (v2 : Int32) (v3 : Int32) (v4 : Int32) (v5 : Int32) (v6 : Int32) (v7 : Int32) (v8 : Int32) (H : Heap) (locs : List Loc) (ls : Array Slot), k39 f g v1 v2 v3 v4 v5 v6 v7 v8 = some z → wx_w γ A s H locs (mw γ o ad f g) → lv_has ls 14 [(0, .ref o), (1, .int v1), (2, .int v2), (3, .int v3), (4, .int v4), (5, .int v5), (6, .int v6), (7, .int v7), (8, .int v8)] → W p l e rmX8_seldom s m as below meth c H locs 0 0 Q (F0 m 39 ls [])) {f : xF} {g : xG} {v1 : Int32} {v2 : Int32} {v4 : Int32} {v5 : Int32} {v6 : Int32} {v7 : Int32} {v8 : Int32} {v9 : Int32} {v10 : Int32} {t0 : Int32} {t1 : Int32} {H : Heap} {locs : List Loc} {ls : Array Slot} (w : wx_w γ A s H locs (mw γ o ad f g)) (hl : lv_has ls 14 [(0, .ref o), (1, .int v1), (2, .int v2), (4, .int v4), (5, .int v5), (6, .int v6), (7, .int v7), (8, .int v8), (9, .int v9), (10, .int v10)]) (hF : pX8_seldom_90 k39 f g v1 v2 v4 v5 v6 v7 v8 v9 v10 t0 t1 = some z) : W p l e rmX8_seldom s m as below meth c H locs 0 0 Q (F0 m 90 ls [.int t1, .int t0]) := by
  have hx := C.1
  have hb := C.2.1
  unfold pX8_seldom_90 at hF
  refine lv_iadd hx hb dX8_seldom_90 ?_
  refine lv_istore_n (lv' := [(3, .int (t0 + t1)), (0, .ref o), (1, .int v1), (2, .int v2), (4, .int v4), (5, .int v5), (6, .int v6), (7, .int v7), (8, .int v8), (9, .int v9), (10, .int v10)]) hx hb dX8_seldom_91 rfl hl (by decide) rfl (fun ls hl => ?_)
  refine lv_iload hx hb dX8_seldom_92 (lv_at hl 9 rfl) ?_
  refine lv_if_eq (tgt := 101) hx hb dX8_seldom_94 (by decide) (fun c => ?_) (fun c => ?_)
  · have hF := (if_pos c).symm.trans hF
    refine lv_iload hx hb dX8_seldom_101 (lv_at hl 4 rfl) ?_
    refine lv_iconst (v := (1 : Int32)) hx hb dX8_seldom_103 (by decide) ?_
    refine lv_iadd hx hb dX8_seldom_104 ?_
    exact bX8_seldom_105 C K E hk39 w (lv_sub hl [1, 2, 3, 0, 5, 6, 7, 8, 9, 10] rfl) hF
  · have hF := (if_neg c).symm.trans hF
    refine lv_iconst (v := (0 : Int32)) hx hb dX8_seldom_97 (by decide) ?_
    refine lv_goto (tgt := 105) hx hb dX8_seldom_98 (by decide) ?_
    exact bX8_seldom_105 C K E hk39 w (lv_sub hl [1, 2, 3, 0, 5, 6, 7, 8, 9, 10] rfl) hF

theorem bX8_seldom_77 {p : Program} {l : Launch} {e : Env} {s : State} {m : MethodId} {as : Array Value} {below : List Frame} {meth : Method} {c : Code} {A : Nat → Prop} {Q : State → Prop} {γ : wx_G} {o : Nat} {ad : Nat → Nat} {z : Int64 × xF × xG} (C : CallFix p m c cX8_seldom 14 s as lw_all RX8) (K : wx_C γ A s) (E : ∀ (H : Heap) (locs : List Loc) (ls : Array Slot) (pc : Nat), wx_w γ A s H locs (mw γ o ad z.2.1 z.2.2) → decode cX8_seldom pc = .ok (.lreturn, 1) → W p l e rmX8_seldom s m as below meth c H locs 0 0 Q (F0 m pc ls [.long z.1])) {k39 : xF → xG → Int32 → Int32 → Int32 → Int32 → Int32 → Int32 → Int32 → Int32 → Option (Int64 × xF × xG)} (hk39 : ∀ (f : xF) (g : xG) (v1 : Int32) (v2 : Int32) (v3 : Int32) (v4 : Int32) (v5 : Int32) (v6 : Int32) (v7 : Int32) (v8 : Int32) (H : Heap) (locs : List Loc) (ls : Array Slot), k39 f g v1 v2 v3 v4 v5 v6 v7 v8 = some z → wx_w γ A s H locs (mw γ o ad f g) → lv_has ls 14 [(0, .ref o), (1, .int v1), (2, .int v2), (3, .int v3), (4, .int v4), (5, .int v5), (6, .int v6), (7, .int v7), (8, .int v8)] → W p l e rmX8_seldom s m as below meth c H locs 0 0 Q (F0 m 39 ls [])) {f : xF} {g : xG} {v1 : Int32} {v2 : Int32} {v3 : Int32} {v4 : Int32} {v5 : Int32} {v6 : Int32} {v7 : Int32} {v8 : Int32} {v9 : Int32} {t0 : Int32} {H : Heap} {locs : List Loc} {ls : Array Slot} (w : wx_w γ A s H locs (mw γ o ad f g)) (hl : lv_has ls 14 [(0, .ref o), (1, .int v1), (2, .int v2), (3, .int v3), (4, .int v4), (5, .int v5), (6, .int v6), (7, .int v7), (8, .int v8), (9, .int v9)]) (hF : pX8_seldom_77 k39 f g v1 v2 v3 v4 v5 v6 v7 v8 v9 t0 = some z) : W p l e rmX8_seldom s m as below meth c H locs 0 0 Q (F0 m 77 ls [.int t0]) := by
  have hx := C.1
  have hb := C.2.1
  unfold pX8_seldom_77 at hF
  refine lv_istore (lv' := [(10, .int t0), (0, .ref o), (1, .int v1), (2, .int v2), (3, .int v3), (4, .int v4), (5, .int v5), (6, .int v6), (7, .int v7), (8, .int v8), (9, .int v9)]) hx hb dX8_seldom_77 hl (by decide) rfl (fun ls hl => ?_)
  refine lv_iload_n hx hb dX8_seldom_79 rfl (lv_at hl 4 rfl) ?_
  refine lv_iload hx hb dX8_seldom_80 (lv_at hl 10 rfl) ?_
  refine lv_if_eq (tgt := 89) hx hb dX8_seldom_82 (by decide) (fun c => ?_) (fun c => ?_)
  · have hF := (if_pos c).symm.trans hF
    refine lv_iconst (v := (0 : Int32)) hx hb dX8_seldom_89 (by decide) ?_
    exact bX8_seldom_90 C K E hk39 w (lv_sub hl [1, 2, 3, 5, 6, 7, 8, 9, 10, 0] rfl) hF
  · have hF := (if_neg c).symm.trans hF
    refine lv_iconst (v := (1 : Int32)) hx hb dX8_seldom_85 (by decide) ?_
    refine lv_goto (tgt := 90) hx hb dX8_seldom_86 (by decide) ?_
    exact bX8_seldom_90 C K E hk39 w (lv_sub hl [1, 2, 3, 5, 6, 7, 8, 9, 10, 0] rfl) hF

theorem bX8_seldom_39 {p : Program} {l : Launch} {e : Env} {s : State} {m : MethodId} {as : Array Value} {below : List Frame} {meth : Method} {c : Code} {A : Nat → Prop} {Q : State → Prop} {γ : wx_G} {o : Nat} {ad : Nat → Nat} {z : Int64 × xF × xG} (C : CallFix p m c cX8_seldom 14 s as lw_all RX8) (K : wx_C γ A s) (E : ∀ (H : Heap) (locs : List Loc) (ls : Array Slot) (pc : Nat), wx_w γ A s H locs (mw γ o ad z.2.1 z.2.2) → decode cX8_seldom pc = .ok (.lreturn, 1) → W p l e rmX8_seldom s m as below meth c H locs 0 0 Q (F0 m pc ls [.long z.1])) : ∀ (n : Nat) (f : xF) (g : xG) (v1 : Int32) (v2 : Int32) (v3 : Int32) (v4 : Int32) (v5 : Int32) (v6 : Int32) (v7 : Int32) (v8 : Int32) (H : Heap) (locs : List Loc) (ls : Array Slot), pX8_seldom_39 n f g v1 v2 v3 v4 v5 v6 v7 v8 = some z → wx_w γ A s H locs (mw γ o ad f g) → lv_has ls 14 [(0, .ref o), (1, .int v1), (2, .int v2), (3, .int v3), (4, .int v4), (5, .int v5), (6, .int v6), (7, .int v7), (8, .int v8)] → W p l e rmX8_seldom s m as below meth c H locs 0 0 Q (F0 m 39 ls []) := by
  have hx := C.1
  have hb := C.2.1
  intro n
  induction n with
  | zero =>
    intro f g v1 v2 v3 v4 v5 v6 v7 v8 H locs ls hF w hl
    have hF : (none : Option (Int64 × xF × xG)) = some z := hF
    cases hF
  | succ n ih =>
    intro f g v1 v2 v3 v4 v5 v6 v7 v8 H locs ls hF w hl
    rw [pX8_seldom_39] at hF
    refine lv_iload hx hb dX8_seldom_39 (lv_at hl 8 rfl) ?_
    refine lv_aload_n hx hb dX8_seldom_41 rfl (lv_at hl 0 rfl) ?_
    refine mget_1 C K w dX8_seldom_42 ?_
    refine lv_icmp_ge (tgt := 164) hx hb dX8_seldom_45 (by decide) (fun c => ?_) (fun c => ?_)
    · have hF := (if_pos c).symm.trans hF
      exact bX8_seldom_164 C K E w (lv_sub hl [0, 2, 3, 5, 6, 7] rfl) hF
    · have hF := (if_neg c).symm.trans hF
      refine lv_aload_n hx hb dX8_seldom_48 rfl (lv_at hl 0 rfl) ?_
      refine lv_iload_n hx hb dX8_seldom_49 rfl (lv_at hl 1 rfl) ?_
      refine lv_iload hx hb dX8_seldom_50 (lv_at hl 8 rfl) ?_
      obtain ⟨r52, hr, hF⟩ := obd hF
      refine rX8_pushesSome C K w hr hl.1 ⟨Nat.le_of_ble_eq_true rfl, Nat.le_of_ble_eq_true rfl⟩ (Nat.le_of_ble_eq_true rfl) dX8_seldom_52 (fun H locs w => ?_)
      refine lv_istore (lv' := [(9, .int r52.1), (0, .ref o), (1, .int v1), (2, .int v2), (3, .int v3), (4, .int v4), (5, .int v5), (6, .int v6), (7, .int v7), (8, .int v8)]) hx hb dX8_seldom_55 hl (by decide) rfl (fun ls hl => ?_)
      refine lv_aload_n hx hb dX8_seldom_57 rfl (lv_at hl 1 rfl) ?_
      refine lv_iconst (v := (1 : Int32)) hx hb dX8_seldom_58 (by decide) ?_
      refine lv_aload_n hx hb dX8_seldom_59 rfl (lv_at hl 1 rfl) ?_
      obtain ⟨r60, hr, hF⟩ := obd hF
      refine rX8_lightest C K w hr hl.1 ⟨Nat.le_of_ble_eq_true rfl, Nat.le_of_ble_eq_true rfl⟩ (Nat.le_of_ble_eq_true rfl) dX8_seldom_60 (fun H locs w => ?_)
      refine lv_iload hx hb dX8_seldom_63 (lv_at hl 9 rfl) ?_
      refine lv_iload_n hx hb dX8_seldom_65 rfl (lv_at hl 2 rfl) ?_
      obtain ⟨r66, hr, hF⟩ := obd hF
      refine rX8_tellsRule C K w hr hl.1 ⟨Nat.le_of_ble_eq_true rfl, Nat.le_of_ble_eq_true rfl⟩ (Nat.le_of_ble_eq_true rfl) dX8_seldom_66 (fun H locs w => ?_)
      refine lv_if_eq (tgt := 76) hx hb dX8_seldom_69 (by decide) (fun c => ?_) (fun c => ?_)
      · have hF := (if_pos c).symm.trans hF
        refine lv_iconst (v := (0 : Int32)) hx hb dX8_seldom_76 (by decide) ?_
        exact bX8_seldom_77 C K E ih w (lv_sub hl [1, 2, 3, 4, 5, 6, 7, 8, 9, 0] rfl) hF
      · have hF := (if_neg c).symm.trans hF
        refine lv_iconst (v := (1 : Int32)) hx hb dX8_seldom_72 (by decide) ?_
        refine lv_goto (tgt := 77) hx hb dX8_seldom_73 (by decide) ?_
        exact bX8_seldom_77 C K E ih w (lv_sub hl [1, 2, 3, 4, 5, 6, 7, 8, 9, 0] rfl) hF

theorem bX8_seldom_0 {p : Program} {l : Launch} {e : Env} {s : State} {m : MethodId} {as : Array Value} {below : List Frame} {meth : Method} {c : Code} {A : Nat → Prop} {Q : State → Prop} {γ : wx_G} {o : Nat} {ad : Nat → Nat} {z : Int64 × xF × xG} (C : CallFix p m c cX8_seldom 14 s as lw_all RX8) (K : wx_C γ A s) (E : ∀ (H : Heap) (locs : List Loc) (ls : Array Slot) (pc : Nat), wx_w γ A s H locs (mw γ o ad z.2.1 z.2.2) → decode cX8_seldom pc = .ok (.lreturn, 1) → W p l e rmX8_seldom s m as below meth c H locs 0 0 Q (F0 m pc ls [.long z.1])) {f : xF} {g : xG} {v1 : Int32} {v2 : Int32} {H : Heap} {locs : List Loc} {ls : Array Slot} (w : wx_w γ A s H locs (mw γ o ad f g)) (hl : lv_has ls 14 [(0, .ref o), (1, .int v1), (2, .int v2)]) (hF : pX8_seldom_0 f g v1 v2 = some z) : W p l e rmX8_seldom s m as below meth c H locs 0 0 Q (F0 m 0 ls []) := by
  have hx := C.1
  have hb := C.2.1
  unfold pX8_seldom_0 at hF
  refine lv_aload_n hx hb dX8_seldom_0 rfl (lv_at hl 0 rfl) ?_
  refine lv_iload_n hx hb dX8_seldom_1 rfl (lv_at hl 1 rfl) ?_
  obtain ⟨r2, hr, hF⟩ := obd hF
  refine rX8_isHow C K w hr hl.1 ⟨Nat.le_of_ble_eq_true rfl, Nat.le_of_ble_eq_true rfl⟩ (Nat.le_of_ble_eq_true rfl) dX8_seldom_2 (fun H locs w => ?_)
  refine lv_if_eq (tgt := 18) hx hb dX8_seldom_5 (by decide) (fun c => ?_) (fun c => ?_)
  · have hF := (if_pos c).symm.trans hF
    exact bX8_seldom_18 C K E w (lv_sub hl [] rfl) hF
  · have hF := (if_neg c).symm.trans hF
    refine lv_aload_n hx hb dX8_seldom_8 rfl (lv_at hl 0 rfl) ?_
    refine lv_iload_n hx hb dX8_seldom_9 rfl (lv_at hl 2 rfl) ?_
    refine lv_iconst (v := (0 : Int32)) hx hb dX8_seldom_10 (by decide) ?_
    refine lv_iconst (v := (5 : Int32)) hx hb dX8_seldom_11 (by decide) ?_
    obtain ⟨r12, hr, hF⟩ := obd hF
    refine rX8_in C K w hr hl.1 ⟨Nat.le_of_ble_eq_true rfl, Nat.le_of_ble_eq_true rfl⟩ (Nat.le_of_ble_eq_true rfl) dX8_seldom_12 (fun H locs w => ?_)
    refine lv_if_ne (tgt := 22) hx hb dX8_seldom_15 (by decide) (fun c => ?_) (fun c => ?_)
    · have hF := (if_neg c).symm.trans hF
      refine lv_iconst (v := (0 : Int32)) hx hb dX8_seldom_22 (by decide) ?_
      refine lv_istore_n (lv' := [(3, .int (0 : Int32)), (0, .ref o), (1, .int v1), (2, .int v2)]) hx hb dX8_seldom_23 rfl hl (by decide) rfl (fun ls hl => ?_)
      refine lv_iconst (v := (0 : Int32)) hx hb dX8_seldom_24 (by decide) ?_
      refine lv_istore (lv' := [(4, .int (0 : Int32)), (3, .int (0 : Int32)), (0, .ref o), (1, .int v1), (2, .int v2)]) hx hb dX8_seldom_25 hl (by decide) rfl (fun ls hl => ?_)
      refine lv_iconst (v := (0 : Int32)) hx hb dX8_seldom_27 (by decide) ?_
      refine lv_istore (lv' := [(5, .int (0 : Int32)), (4, .int (0 : Int32)), (3, .int (0 : Int32)), (0, .ref o), (1, .int v1), (2, .int v2)]) hx hb dX8_seldom_28 hl (by decide) rfl (fun ls hl => ?_)
      refine lv_iconst (v := (0 : Int32)) hx hb dX8_seldom_30 (by decide) ?_
      refine lv_istore (lv' := [(6, .int (0 : Int32)), (5, .int (0 : Int32)), (4, .int (0 : Int32)), (3, .int (0 : Int32)), (0, .ref o), (1, .int v1), (2, .int v2)]) hx hb dX8_seldom_31 hl (by decide) rfl (fun ls hl => ?_)
      refine lv_iconst (v := (0 : Int32)) hx hb dX8_seldom_33 (by decide) ?_
      refine lv_istore (lv' := [(7, .int (0 : Int32)), (6, .int (0 : Int32)), (5, .int (0 : Int32)), (4, .int (0 : Int32)), (3, .int (0 : Int32)), (0, .ref o), (1, .int v1), (2, .int v2)]) hx hb dX8_seldom_34 hl (by decide) rfl (fun ls hl => ?_)
      refine lv_iconst (v := (0 : Int32)) hx hb dX8_seldom_36 (by decide) ?_
      refine lv_istore (lv' := [(8, .int (0 : Int32)), (7, .int (0 : Int32)), (6, .int (0 : Int32)), (5, .int (0 : Int32)), (4, .int (0 : Int32)), (3, .int (0 : Int32)), (0, .ref o), (1, .int v1), (2, .int v2)]) hx hb dX8_seldom_37 hl (by decide) rfl (fun ls hl => ?_)
      exact bX8_seldom_39 C K E 5000 _ _ _ _ _ _ _ _ _ _ _ _ _ hF w (lv_sub hl [6, 7, 8, 5, 4, 3, 2, 1, 0] rfl)
    · have hF := (if_pos c).symm.trans hF
      exact bX8_seldom_18 C K E w (lv_sub hl [] rfl) hF

theorem mX8_seldom {l : Launch} {γ : wx_G} {o : Nat} {ad : Nat → Nat} {f : xF} {g : xG} {v1 : Int32} {v2 : Int32} {z : Int64 × xF × xG} (hF : pX8_seldom f g v1 v2 = some z) : wx_M γ l yX8_seldom (ws_ yX8_seldom cX8_seldom 14 (some .long)) rmX8_seldom [.ref o, .int v1, .int v2] (mw γ o ad f g) (fun v ws => v = some (.long z.1) ∧ ws = (mw γ o ad z.2.1 z.2.2)) 0 0 := by
  refine wx_M.of (by decide) (Nat.le_of_ble_eq_true rfl) ?_
  intro p e s m as below meth c A ls C K w hr hlocks _ hl
  exact bX8_seldom_0 C K (fun H locs ls pc w d => wx_lret C hr hlocks w ⟨rfl, rfl⟩ d) w hl hF

/-! WalkingStonesModel.canGo(III)Z -/
abbrev rmX8_canGo : Room := { frames := 4, cells := 0, slots := 0, locals := 98 }
def pX8_canGo_47 (f : xF) (g : xG) (t0 : Int32) : Option (Int32 × xF × xG) := if gbz t0 = true then some (t0, f, g) else none

def pX8_canGo_46 (f : xF) (g : xG) : Option (Int32 × xF × xG) := pX8_canGo_47 f g (0 : Int32)

def pX8_canGo_0 (f : xF) (g : xG) (v1 : Int32) (v2 : Int32) (v3 : Int32) : Option (Int32 × xF × xG) := if gin v2 10 = true then (pX8_wayOf f g v1 v3).bind (fun r10 => (pX8_ahead f g (g 4 v2.toNatClampNeg) r10).bind (fun r13 => (pX8_pushes f g v1 v2 v3).bind (fun r22 => if r22.1 ≤ 0 then pX8_canGo_46 r22.2.1 r22.2.2 else (if r13 < 0 then pX8_canGo_46 r22.2.1 r22.2.2 else (pX8_isFree r22.2.1 r22.2.2 r13).bind (fun r36 => if r36 = 0 then pX8_canGo_46 r22.2.1 r22.2.2 else pX8_canGo_47 r22.2.1 r22.2.2 (1 : Int32)))))) else none

abbrev pX8_canGo (f : xF) (g : xG) (v1 : Int32) (v2 : Int32) (v3 : Int32) : Option (Int32 × xF × xG) := pX8_canGo_0 f g v1 v2 v3
theorem bX8_canGo_47 {p : Program} {l : Launch} {e : Env} {s : State} {m : MethodId} {as : Array Value} {below : List Frame} {meth : Method} {c : Code} {A : Nat → Prop} {Q : State → Prop} {γ : wx_G} {o : Nat} {ad : Nat → Nat} {z : Int32 × xF × xG} (C : CallFix p m c cX8_canGo 5 s as lw_all RX8) (K : wx_C γ A s) (E : ∀ (H : Heap) (locs : List Loc) (ls : Array Slot) (pc : Nat), narrow .boolean (.int z.1) = .int z.1 → wx_w γ A s H locs (mw γ o ad z.2.1 z.2.2) → decode cX8_canGo pc = .ok (.ireturn, 1) → W p l e rmX8_canGo s m as below meth c H locs 0 0 Q (F0 m pc ls [.int z.1])) {f : xF} {g : xG} {t0 : Int32} {H : Heap} {locs : List Loc} {ls : Array Slot} (w : wx_w γ A s H locs (mw γ o ad f g)) (hl : lv_has ls 5 []) (hF : pX8_canGo_47 f g t0 = some z) : W p l e rmX8_canGo s m as below meth c H locs 0 0 Q (F0 m 47 ls [.int t0]) := by
  have hx := C.1
  have hb := C.2.1
  unfold pX8_canGo_47 at hF
  obtain ⟨hz, hF⟩ := gbz_if hF
  have hF := Option.some.inj hF
  subst hF
  exact E _ _ _ _ hz w dX8_canGo_47

theorem bX8_canGo_46 {p : Program} {l : Launch} {e : Env} {s : State} {m : MethodId} {as : Array Value} {below : List Frame} {meth : Method} {c : Code} {A : Nat → Prop} {Q : State → Prop} {γ : wx_G} {o : Nat} {ad : Nat → Nat} {z : Int32 × xF × xG} (C : CallFix p m c cX8_canGo 5 s as lw_all RX8) (K : wx_C γ A s) (E : ∀ (H : Heap) (locs : List Loc) (ls : Array Slot) (pc : Nat), narrow .boolean (.int z.1) = .int z.1 → wx_w γ A s H locs (mw γ o ad z.2.1 z.2.2) → decode cX8_canGo pc = .ok (.ireturn, 1) → W p l e rmX8_canGo s m as below meth c H locs 0 0 Q (F0 m pc ls [.int z.1])) {f : xF} {g : xG} {H : Heap} {locs : List Loc} {ls : Array Slot} (w : wx_w γ A s H locs (mw γ o ad f g)) (hl : lv_has ls 5 []) (hF : pX8_canGo_46 f g = some z) : W p l e rmX8_canGo s m as below meth c H locs 0 0 Q (F0 m 46 ls []) := by
  have hx := C.1
  have hb := C.2.1
  unfold pX8_canGo_46 at hF
  refine lv_iconst (v := (0 : Int32)) hx hb dX8_canGo_46 (by decide) ?_
  exact bX8_canGo_47 C K E w hl hF

theorem bX8_canGo_0 {p : Program} {l : Launch} {e : Env} {s : State} {m : MethodId} {as : Array Value} {below : List Frame} {meth : Method} {c : Code} {A : Nat → Prop} {Q : State → Prop} {γ : wx_G} {o : Nat} {ad : Nat → Nat} {z : Int32 × xF × xG} (C : CallFix p m c cX8_canGo 5 s as lw_all RX8) (K : wx_C γ A s) (E : ∀ (H : Heap) (locs : List Loc) (ls : Array Slot) (pc : Nat), narrow .boolean (.int z.1) = .int z.1 → wx_w γ A s H locs (mw γ o ad z.2.1 z.2.2) → decode cX8_canGo pc = .ok (.ireturn, 1) → W p l e rmX8_canGo s m as below meth c H locs 0 0 Q (F0 m pc ls [.int z.1])) {f : xF} {g : xG} {v1 : Int32} {v2 : Int32} {v3 : Int32} {H : Heap} {locs : List Loc} {ls : Array Slot} (w : wx_w γ A s H locs (mw γ o ad f g)) (hl : lv_has ls 5 [(0, .ref o), (1, .int v1), (2, .int v2), (3, .int v3)]) (hF : pX8_canGo_0 f g v1 v2 v3 = some z) : W p l e rmX8_canGo s m as below meth c H locs 0 0 Q (F0 m 0 ls []) := by
  have hx := C.1
  have hb := C.2.1
  unfold pX8_canGo_0 at hF
  refine lv_aload_n hx hb dX8_canGo_0 rfl (lv_at hl 0 rfl) ?_
  refine lv_aload_n hx hb dX8_canGo_1 rfl (lv_at hl 0 rfl) ?_
  refine mget_4 C K w dX8_canGo_2 ?_
  refine lv_iload_n hx hb dX8_canGo_5 rfl (lv_at hl 2 rfl) ?_
  obtain ⟨hi, hF⟩ := gin_if hF
  refine mald_4 C K w hi dX8_canGo_6 ?_
  refine lv_aload_n hx hb dX8_canGo_7 rfl (lv_at hl 0 rfl) ?_
  refine lv_iload_n hx hb dX8_canGo_8 rfl (lv_at hl 1 rfl) ?_
  refine lv_iload_n hx hb dX8_canGo_9 rfl (lv_at hl 3 rfl) ?_
  obtain ⟨r10, hr, hF⟩ := obd hF
  refine rX8_wayOf C K w hr hl.1 ⟨Nat.le_of_ble_eq_true rfl, Nat.le_of_ble_eq_true rfl⟩ (Nat.le_of_ble_eq_true rfl) dX8_canGo_10 (fun H locs w => ?_)
  obtain ⟨r13, hr, hF⟩ := obd hF
  refine rX8_ahead C K w hr hl.1 ⟨Nat.le_of_ble_eq_true rfl, Nat.le_of_ble_eq_true rfl⟩ (Nat.le_of_ble_eq_true rfl) dX8_canGo_13 (fun H locs w => ?_)
  refine lv_istore (lv' := [(4, .int r13), (0, .ref o), (1, .int v1), (2, .int v2), (3, .int v3)]) hx hb dX8_canGo_16 hl (by decide) rfl (fun ls hl => ?_)
  refine lv_aload_n hx hb dX8_canGo_18 rfl (lv_at hl 1 rfl) ?_
  refine lv_iload_n hx hb dX8_canGo_19 rfl (lv_at hl 2 rfl) ?_
  refine lv_iload_n hx hb dX8_canGo_20 rfl (lv_at hl 3 rfl) ?_
  refine lv_iload_n hx hb dX8_canGo_21 rfl (lv_at hl 4 rfl) ?_
  obtain ⟨r22, hr, hF⟩ := obd hF
  refine rX8_pushes C K w hr hl.1 ⟨Nat.le_of_ble_eq_true rfl, Nat.le_of_ble_eq_true rfl⟩ (Nat.le_of_ble_eq_true rfl) dX8_canGo_22 (fun H locs w => ?_)
  refine lv_if_le (tgt := 46) hx hb dX8_canGo_25 (by decide) (fun c => ?_) (fun c => ?_)
  · have hF := (if_pos c).symm.trans hF
    exact bX8_canGo_46 C K E w (lv_sub hl [] rfl) hF
  · have hF := (if_neg c).symm.trans hF
    refine lv_iload hx hb dX8_canGo_28 (lv_at hl 0 rfl) ?_
    refine lv_if_lt (tgt := 46) hx hb dX8_canGo_30 (by decide) (fun c => ?_) (fun c => ?_)
    · have hF := (if_pos c).symm.trans hF
      exact bX8_canGo_46 C K E w (lv_sub hl [] rfl) hF
    · have hF := (if_neg c).symm.trans hF
      refine lv_aload_n hx hb dX8_canGo_33 rfl (lv_at hl 1 rfl) ?_
      refine lv_iload hx hb dX8_canGo_34 (lv_at hl 0 rfl) ?_
      obtain ⟨r36, hr, hF⟩ := obd hF
      refine rX8_isFree C K w hr hl.1 ⟨Nat.le_of_ble_eq_true rfl, Nat.le_of_ble_eq_true rfl⟩ (Nat.le_of_ble_eq_true rfl) dX8_canGo_36 (fun H locs w => ?_)
      refine lv_if_eq (tgt := 46) hx hb dX8_canGo_39 (by decide) (fun c => ?_) (fun c => ?_)
      · have hF := (if_pos c).symm.trans hF
        exact bX8_canGo_46 C K E w (lv_sub hl [] rfl) hF
      · have hF := (if_neg c).symm.trans hF
        refine lv_iconst (v := (1 : Int32)) hx hb dX8_canGo_42 (by decide) ?_
        refine lv_goto (tgt := 47) hx hb dX8_canGo_43 (by decide) ?_
        exact bX8_canGo_47 C K E w (lv_sub hl [] rfl) hF

theorem mX8_canGo {l : Launch} {γ : wx_G} {o : Nat} {ad : Nat → Nat} {f : xF} {g : xG} {v1 : Int32} {v2 : Int32} {v3 : Int32} {z : Int32 × xF × xG} (hF : pX8_canGo f g v1 v2 v3 = some z) : wx_M γ l yX8_canGo (ws_ yX8_canGo cX8_canGo 5 (some .boolean)) rmX8_canGo [.ref o, .int v1, .int v2, .int v3] (mw γ o ad f g) (fun v ws => v = some (.int z.1) ∧ ws = (mw γ o ad z.2.1 z.2.2)) 0 0 := by
  refine wx_M.of (by decide) (Nat.le_of_ble_eq_true rfl) ?_
  intro p e s m as below meth c A ls C K w hr hlocks _ hl
  exact bX8_canGo_0 C K (fun H locs ls pc hz w d => wx_zret C hr hlocks hz w ⟨rfl, rfl⟩ d) w hl hF
theorem rX8_canGo {p : Program} {l : Launch} {e : Env} {R : Room} {s : State} {m : MethodId} {as : Array Value} {below : List Frame} {meth : Method} {c : Code} {H : Heap} {locs : List Loc} {cells slots : Nat} {Q : State → Prop} {cc : ByteArray} {nL pc : Nat} {ls : Array Slot} {rest : List Value} {γ : wx_G} {A : Nat → Prop} {o : Nat} {ad : Nat → Nat} {f : xF} {g : xG} {v1 : Int32} {v2 : Int32} {v3 : Int32} {z : Int32 × xF × xG} (C : CallFix p m c cc nL s as lw_all RX8) (K : wx_C γ A s) (w : wx_w γ A s H locs (mw γ o ad f g)) (hF : pX8_canGo f g v1 v2 v3 = some z) (hls : ls.size = nL) (hR : rmX8_canGo.frames + 1 ≤ R.frames ∧ 8 + (5 + 11) + rmX8_canGo.locals ≤ R.locals) (hW : (rest.map fun v => v.category).sum ≤ 8) (d : decode cc pc = .ok (.invokevirtual 348, 3)) (kk : ∀ (H : Heap) (locs : List Loc), wx_w γ A s H locs (mw γ o ad z.2.1 z.2.2) → W p l e R s m as below meth c H locs cells slots Q (F0 m (pc + 3) ls (.int z.1 :: rest))) (hf : cells ≤ R.cells ∧ slots ≤ R.slots := by exact ⟨Nat.le_of_ble_eq_true rfl, Nat.le_of_ble_eq_true rfl⟩) : W p l e R s m as below meth c H locs cells slots Q (F0 m pc ls (.int v3 :: .int v2 :: .int v1 :: .ref o :: rest)) :=
  wx_callV (n := 3) C K w (mX8_canGo (l := l) hF) q1741 q1743 qs99 q123 q1744 rfl rfl (by decide +kernel) (va_recv K.1.1 w.1 (ci := 0) (q0 := 0) rfl rfl) rfl rfl hR hls hW hf d (fun v ws H1 locs1 hp w => by obtain ⟨rfl, rfl⟩ := hp; exact kk H1 locs1 w)

/-! WalkingStonesModel.when(II)J -/
abbrev rmX8_when : Room := { frames := 5, cells := 0, slots := 0, locals := 122 }
def pX8_when_16 (f : xF) (g : xG) : Option (Int64 × xF × xG) := some ((-4611686018427387904 : Int64), f, g)

def pX8_when_58 (k29 : xF → xG → Int32 → Int32 → Int64 → Int32 → Option (Int64 × xF × xG)) (f : xF) (g : xG) (v1 : Int32) (v2 : Int32) (v5 : Int32) (t0 : Int64) (t1 : Int64) : Option (Int64 × xF × xG) := k29 f g v1 v2 (t0 ||| t1) (v5 + 1)

def pX8_when_29 : Nat → xF → xG → Int32 → Int32 → Int64 → Int32 → Option (Int64 × xF × xG)
  | 0, _, _, _, _, _, _ => none
  | n + 1, f, g, v1, v2, v3, v5 => if (f 1) ≤ v5 then some (v3, f, g) else (pX8_canGo f g v1 v2 v5).bind (fun r44 => if r44.1 = 0 then pX8_when_58 (pX8_when_29 n) r44.2.1 r44.2.2 v1 v2 v5 v3 (0 : Int64) else pX8_when_58 (pX8_when_29 n) r44.2.1 r44.2.2 v1 v2 v5 v3 ((1 : Int64) <<< (v5.toInt64 &&& 63)))

def pX8_when_0 (f : xF) (g : xG) (v1 : Int32) (v2 : Int32) : Option (Int64 × xF × xG) := (pX8_isHow f g v1).bind (fun r2 => if r2 = 0 then pX8_when_16 f g else (pX8_isStone f g v2).bind (fun r10 => if r10 = 0 then pX8_when_16 f g else (pX8_begin f g).bind (fun r21 => pX8_when_29 5000 r21.1 r21.2 v1 v2 (0 : Int64) (0 : Int32))))

abbrev pX8_when (f : xF) (g : xG) (v1 : Int32) (v2 : Int32) : Option (Int64 × xF × xG) := pX8_when_0 f g v1 v2
theorem bX8_when_16 {p : Program} {l : Launch} {e : Env} {s : State} {m : MethodId} {as : Array Value} {below : List Frame} {meth : Method} {c : Code} {A : Nat → Prop} {Q : State → Prop} {γ : wx_G} {o : Nat} {ad : Nat → Nat} {z : Int64 × xF × xG} (C : CallFix p m c cX8_when 6 s as lw_all RX8) (K : wx_C γ A s) (E : ∀ (H : Heap) (locs : List Loc) (ls : Array Slot) (pc : Nat), wx_w γ A s H locs (mw γ o ad z.2.1 z.2.2) → decode cX8_when pc = .ok (.lreturn, 1) → W p l e rmX8_when s m as below meth c H locs 0 0 Q (F0 m pc ls [.long z.1])) {f : xF} {g : xG} {H : Heap} {locs : List Loc} {ls : Array Slot} (w : wx_w γ A s H locs (mw γ o ad f g)) (hl : lv_has ls 6 []) (hF : pX8_when_16 f g = some z) : W p l e rmX8_when s m as below meth c H locs 0 0 Q (F0 m 16 ls []) := by
  have hx := C.1
  have hb := C.2.1
  unfold pX8_when_16 at hF
  refine lv_ldc2 (v := (-4611686018427387904 : Int64)) hx hb C.2.2.2.1 (C.2.2.2.2 _ q1696) dX8_when_16 ?_
  have hF := Option.some.inj hF
  subst hF
  exact E _ _ _ _ w dX8_when_19

theorem bX8_when_58 {p : Program} {l : Launch} {e : Env} {s : State} {m : MethodId} {as : Array Value} {below : List Frame} {meth : Method} {c : Code} {A : Nat → Prop} {Q : State → Prop} {γ : wx_G} {o : Nat} {ad : Nat → Nat} {z : Int64 × xF × xG} (C : CallFix p m c cX8_when 6 s as lw_all RX8) (K : wx_C γ A s) (E : ∀ (H : Heap) (locs : List Loc) (ls : Array Slot) (pc : Nat), wx_w γ A s H locs (mw γ o ad z.2.1 z.2.2) → decode cX8_when pc = .ok (.lreturn, 1) → W p l e rmX8_when s m as below meth c H locs 0 0 Q (F0 m pc ls [.long z.1])) {k29 : xF → xG → Int32 → Int32 → Int64 → Int32 → Option (Int64 × xF × xG)} (hk29 : ∀ (f : xF) (g : xG) (v1 : Int32) (v2 : Int32) (v3 : Int64) (v5 : Int32) (H : Heap) (locs : List Loc) (ls : Array Slot), k29 f g v1 v2 v3 v5 = some z → wx_w γ A s H locs (mw γ o ad f g) → lv_has ls 6 [(0, .ref o), (1, .int v1), (2, .int v2), (3, .long v3), (5, .int v5)] → W p l e rmX8_when s m as below meth c H locs 0 0 Q (F0 m 29 ls [])) {f : xF} {g : xG} {v1 : Int32} {v2 : Int32} {v5 : Int32} {t0 : Int64} {t1 : Int64} {H : Heap} {locs : List Loc} {ls : Array Slot} (w : wx_w γ A s H locs (mw γ o ad f g)) (hl : lv_has ls 6 [(0, .ref o), (1, .int v1), (2, .int v2), (5, .int v5)]) (hF : pX8_when_58 k29 f g v1 v2 v5 t0 t1 = some z) : W p l e rmX8_when s m as below meth c H locs 0 0 Q (F0 m 58 ls [.long t1, .long t0]) := by
  have hx := C.1
  have hb := C.2.1
  unfold pX8_when_58 at hF
  refine lv_lor hx hb dX8_when_58 ?_
  refine lv_lstore_n (lv' := [(3, .long (t0 ||| t1)), (0, .ref o), (1, .int v1), (2, .int v2), (5, .int v5)]) hx hb dX8_when_59 rfl hl (by decide) rfl (fun ls hl => ?_)
  refine lv_iinc (v := v5 + 1) (lv' := [(5, .int (v5 + 1)), (3, .long (t0 ||| t1)), (0, .ref o), (1, .int v1), (2, .int v2)]) hx hb dX8_when_60 hl (k := 4) rfl rfl (by decide) rfl (fun ls hl => ?_)
  refine lv_goto (tgt := 29) hx hb dX8_when_63 (by decide) ?_
  exact hk29 _ _ _ _ _ _ _ _ _ hF w (lv_sub hl [2, 3, 4, 1, 0] rfl)

theorem bX8_when_29 {p : Program} {l : Launch} {e : Env} {s : State} {m : MethodId} {as : Array Value} {below : List Frame} {meth : Method} {c : Code} {A : Nat → Prop} {Q : State → Prop} {γ : wx_G} {o : Nat} {ad : Nat → Nat} {z : Int64 × xF × xG} (C : CallFix p m c cX8_when 6 s as lw_all RX8) (K : wx_C γ A s) (E : ∀ (H : Heap) (locs : List Loc) (ls : Array Slot) (pc : Nat), wx_w γ A s H locs (mw γ o ad z.2.1 z.2.2) → decode cX8_when pc = .ok (.lreturn, 1) → W p l e rmX8_when s m as below meth c H locs 0 0 Q (F0 m pc ls [.long z.1])) : ∀ (n : Nat) (f : xF) (g : xG) (v1 : Int32) (v2 : Int32) (v3 : Int64) (v5 : Int32) (H : Heap) (locs : List Loc) (ls : Array Slot), pX8_when_29 n f g v1 v2 v3 v5 = some z → wx_w γ A s H locs (mw γ o ad f g) → lv_has ls 6 [(0, .ref o), (1, .int v1), (2, .int v2), (3, .long v3), (5, .int v5)] → W p l e rmX8_when s m as below meth c H locs 0 0 Q (F0 m 29 ls []) := by
  have hx := C.1
  have hb := C.2.1
  intro n
  induction n with
  | zero =>
    intro f g v1 v2 v3 v5 H locs ls hF w hl
    have hF : (none : Option (Int64 × xF × xG)) = some z := hF
    cases hF
  | succ n ih =>
    intro f g v1 v2 v3 v5 H locs ls hF w hl
    rw [pX8_when_29] at hF
    refine lv_iload hx hb dX8_when_29 (lv_at hl 4 rfl) ?_
    refine lv_aload_n hx hb dX8_when_31 rfl (lv_at hl 0 rfl) ?_
    refine mget_1 C K w dX8_when_32 ?_
    refine lv_icmp_ge (tgt := 66) hx hb dX8_when_35 (by decide) (fun c => ?_) (fun c => ?_)
    · have hF := (if_pos c).symm.trans hF
      refine lv_lload_n hx hb dX8_when_66 rfl (lv_at hl 3 rfl) ?_
      have hF := Option.some.inj hF
      subst hF
      exact E _ _ _ _ w dX8_when_67
    · have hF := (if_neg c).symm.trans hF
      refine lv_lload_n hx hb dX8_when_38 rfl (lv_at hl 3 rfl) ?_
      refine lv_aload_n hx hb dX8_when_39 rfl (lv_at hl 0 rfl) ?_
      refine lv_iload_n hx hb dX8_when_40 rfl (lv_at hl 1 rfl) ?_
      refine lv_iload_n hx hb dX8_when_41 rfl (lv_at hl 2 rfl) ?_
      refine lv_iload hx hb dX8_when_42 (lv_at hl 4 rfl) ?_
      obtain ⟨r44, hr, hF⟩ := obd hF
      refine rX8_canGo C K w hr hl.1 ⟨Nat.le_of_ble_eq_true rfl, Nat.le_of_ble_eq_true rfl⟩ (Nat.le_of_ble_eq_true rfl) dX8_when_44 (fun H locs w => ?_)
      refine lv_if_eq (tgt := 57) hx hb dX8_when_47 (by decide) (fun c => ?_) (fun c => ?_)
      · have hF := (if_pos c).symm.trans hF
        refine lv_lconst (v := (0 : Int64)) hx hb dX8_when_57 (by decide) ?_
        exact bX8_when_58 C K E ih w (lv_sub hl [0, 1, 2, 4] rfl) hF
      · have hF := (if_neg c).symm.trans hF
        refine lv_lconst (v := (1 : Int64)) hx hb dX8_when_50 (by decide) ?_
        refine lv_iload hx hb dX8_when_51 (lv_at hl 4 rfl) ?_
        refine lv_lshl hx hb dX8_when_53 rfl ?_
        refine lv_goto (tgt := 58) hx hb dX8_when_54 (by decide) ?_
        exact bX8_when_58 C K E ih w (lv_sub hl [0, 1, 2, 4] rfl) hF

theorem bX8_when_0 {p : Program} {l : Launch} {e : Env} {s : State} {m : MethodId} {as : Array Value} {below : List Frame} {meth : Method} {c : Code} {A : Nat → Prop} {Q : State → Prop} {γ : wx_G} {o : Nat} {ad : Nat → Nat} {z : Int64 × xF × xG} (C : CallFix p m c cX8_when 6 s as lw_all RX8) (K : wx_C γ A s) (E : ∀ (H : Heap) (locs : List Loc) (ls : Array Slot) (pc : Nat), wx_w γ A s H locs (mw γ o ad z.2.1 z.2.2) → decode cX8_when pc = .ok (.lreturn, 1) → W p l e rmX8_when s m as below meth c H locs 0 0 Q (F0 m pc ls [.long z.1])) {f : xF} {g : xG} {v1 : Int32} {v2 : Int32} {H : Heap} {locs : List Loc} {ls : Array Slot} (w : wx_w γ A s H locs (mw γ o ad f g)) (hl : lv_has ls 6 [(0, .ref o), (1, .int v1), (2, .int v2)]) (hF : pX8_when_0 f g v1 v2 = some z) : W p l e rmX8_when s m as below meth c H locs 0 0 Q (F0 m 0 ls []) := by
  have hx := C.1
  have hb := C.2.1
  unfold pX8_when_0 at hF
  refine lv_aload_n hx hb dX8_when_0 rfl (lv_at hl 0 rfl) ?_
  refine lv_iload_n hx hb dX8_when_1 rfl (lv_at hl 1 rfl) ?_
  obtain ⟨r2, hr, hF⟩ := obd hF
  refine rX8_isHow C K w hr hl.1 ⟨Nat.le_of_ble_eq_true rfl, Nat.le_of_ble_eq_true rfl⟩ (Nat.le_of_ble_eq_true rfl) dX8_when_2 (fun H locs w => ?_)
  refine lv_if_eq (tgt := 16) hx hb dX8_when_5 (by decide) (fun c => ?_) (fun c => ?_)
  · have hF := (if_pos c).symm.trans hF
    exact bX8_when_16 C K E w (lv_sub hl [] rfl) hF
  · have hF := (if_neg c).symm.trans hF
    refine lv_aload_n hx hb dX8_when_8 rfl (lv_at hl 0 rfl) ?_
    refine lv_iload_n hx hb dX8_when_9 rfl (lv_at hl 2 rfl) ?_
    obtain ⟨r10, hr, hF⟩ := obd hF
    refine rX8_isStone C K w hr hl.1 ⟨Nat.le_of_ble_eq_true rfl, Nat.le_of_ble_eq_true rfl⟩ (Nat.le_of_ble_eq_true rfl) dX8_when_10 (fun H locs w => ?_)
    refine lv_if_ne (tgt := 20) hx hb dX8_when_13 (by decide) (fun c => ?_) (fun c => ?_)
    · have hF := (if_neg c).symm.trans hF
      refine lv_aload_n hx hb dX8_when_20 rfl (lv_at hl 0 rfl) ?_
      obtain ⟨r21, hr, hF⟩ := obd hF
      refine rX8_begin C K w hr hl.1 ⟨Nat.le_of_ble_eq_true rfl, Nat.le_of_ble_eq_true rfl⟩ (Nat.le_of_ble_eq_true rfl) dX8_when_21 (fun H locs w => ?_)
      refine lv_lconst (v := (0 : Int64)) hx hb dX8_when_24 (by decide) ?_
      refine lv_lstore_n (lv' := [(3, .long (0 : Int64)), (0, .ref o), (1, .int v1), (2, .int v2)]) hx hb dX8_when_25 rfl hl (by decide) rfl (fun ls hl => ?_)
      refine lv_iconst (v := (0 : Int32)) hx hb dX8_when_26 (by decide) ?_
      refine lv_istore (lv' := [(5, .int (0 : Int32)), (3, .long (0 : Int64)), (0, .ref o), (1, .int v1), (2, .int v2)]) hx hb dX8_when_27 hl (by decide) rfl (fun ls hl => ?_)
      exact bX8_when_29 C K E 5000 _ _ _ _ _ _ _ _ _ hF w (lv_sub hl [2, 3, 4, 1, 0] rfl)
    · have hF := (if_pos c).symm.trans hF
      exact bX8_when_16 C K E w (lv_sub hl [] rfl) hF

theorem mX8_when {l : Launch} {γ : wx_G} {o : Nat} {ad : Nat → Nat} {f : xF} {g : xG} {v1 : Int32} {v2 : Int32} {z : Int64 × xF × xG} (hF : pX8_when f g v1 v2 = some z) : wx_M γ l yX8_when (ws_ yX8_when cX8_when 6 (some .long)) rmX8_when [.ref o, .int v1, .int v2] (mw γ o ad f g) (fun v ws => v = some (.long z.1) ∧ ws = (mw γ o ad z.2.1 z.2.2)) 0 0 := by
  refine wx_M.of (by decide) (Nat.le_of_ble_eq_true rfl) ?_
  intro p e s m as below meth c A ls C K w hr hlocks _ hl
  exact bX8_when_0 C K (fun H locs ls pc w d => wx_lret C hr hlocks w ⟨rfl, rfl⟩ d) w hl hF

/-! WalkingStonesModel.cross(II)I -/
abbrev rmX8_cross : Room := { frames := 2, cells := 0, slots := 0, locals := 44 }
def pX8_cross_21 (f : xF) (g : xG) : Option (Int32 × xF × xG) := some ((-2 : Int32), f, g)

def pX8_cross_0 (f : xF) (g : xG) (v1 : Int32) (v2 : Int32) : Option (Int32 × xF × xG) := (pX8_isTrack f g v1).bind (fun r2 => if r2 = 0 then pX8_cross_21 f g else (pX8_isTrack f g v2).bind (fun r10 => if r10 = 0 then pX8_cross_21 f g else (if v1 = v2 then pX8_cross_21 f g else (if (f 39) = (20 : Int32) then some ((-4 : Int32), f, g) else (if gin (f 39) 20 = true then if gin (f 39) 20 = true then some ((upd f 39 ((f 39) + (1 : Int32))) 39, upd f 39 ((f 39) + (1 : Int32)), va_up (va_up g 40 (upd (g 40) (f 39).toNatClampNeg v1)) 41 (upd ((va_up g 40 (upd (g 40) (f 39).toNatClampNeg v1)) 41) (f 39).toNatClampNeg v2)) else none else none)))))

abbrev pX8_cross (f : xF) (g : xG) (v1 : Int32) (v2 : Int32) : Option (Int32 × xF × xG) := pX8_cross_0 f g v1 v2
theorem bX8_cross_21 {p : Program} {l : Launch} {e : Env} {s : State} {m : MethodId} {as : Array Value} {below : List Frame} {meth : Method} {c : Code} {A : Nat → Prop} {Q : State → Prop} {γ : wx_G} {o : Nat} {ad : Nat → Nat} {z : Int32 × xF × xG} (C : CallFix p m c cX8_cross 3 s as lw_all RX8) (K : wx_C γ A s) (E : ∀ (H : Heap) (locs : List Loc) (ls : Array Slot) (pc : Nat), wx_w γ A s H locs (mw γ o ad z.2.1 z.2.2) → decode cX8_cross pc = .ok (.ireturn, 1) → W p l e rmX8_cross s m as below meth c H locs 0 0 Q (F0 m pc ls [.int z.1])) {f : xF} {g : xG} {H : Heap} {locs : List Loc} {ls : Array Slot} (w : wx_w γ A s H locs (mw γ o ad f g)) (hl : lv_has ls 3 []) (hF : pX8_cross_21 f g = some z) : W p l e rmX8_cross s m as below meth c H locs 0 0 Q (F0 m 21 ls []) := by
  have hx := C.1
  have hb := C.2.1
  unfold pX8_cross_21 at hF
  refine lv_bipush (v := (-2 : Int32)) hx hb dX8_cross_21 (by decide) ?_
  have hF := Option.some.inj hF
  subst hF
  exact E _ _ _ _ w dX8_cross_23

theorem bX8_cross_0 {p : Program} {l : Launch} {e : Env} {s : State} {m : MethodId} {as : Array Value} {below : List Frame} {meth : Method} {c : Code} {A : Nat → Prop} {Q : State → Prop} {γ : wx_G} {o : Nat} {ad : Nat → Nat} {z : Int32 × xF × xG} (C : CallFix p m c cX8_cross 3 s as lw_all RX8) (K : wx_C γ A s) (E : ∀ (H : Heap) (locs : List Loc) (ls : Array Slot) (pc : Nat), wx_w γ A s H locs (mw γ o ad z.2.1 z.2.2) → decode cX8_cross pc = .ok (.ireturn, 1) → W p l e rmX8_cross s m as below meth c H locs 0 0 Q (F0 m pc ls [.int z.1])) {f : xF} {g : xG} {v1 : Int32} {v2 : Int32} {H : Heap} {locs : List Loc} {ls : Array Slot} (w : wx_w γ A s H locs (mw γ o ad f g)) (hl : lv_has ls 3 [(0, .ref o), (1, .int v1), (2, .int v2)]) (hF : pX8_cross_0 f g v1 v2 = some z) : W p l e rmX8_cross s m as below meth c H locs 0 0 Q (F0 m 0 ls []) := by
  have hx := C.1
  have hb := C.2.1
  unfold pX8_cross_0 at hF
  refine lv_aload_n hx hb dX8_cross_0 rfl (lv_at hl 0 rfl) ?_
  refine lv_iload_n hx hb dX8_cross_1 rfl (lv_at hl 1 rfl) ?_
  obtain ⟨r2, hr, hF⟩ := obd hF
  refine rX8_isTrack C K w hr hl.1 ⟨Nat.le_of_ble_eq_true rfl, Nat.le_of_ble_eq_true rfl⟩ (Nat.le_of_ble_eq_true rfl) dX8_cross_2 (fun H locs w => ?_)
  refine lv_if_eq (tgt := 21) hx hb dX8_cross_5 (by decide) (fun c => ?_) (fun c => ?_)
  · have hF := (if_pos c).symm.trans hF
    exact bX8_cross_21 C K E w (lv_sub hl [] rfl) hF
  · have hF := (if_neg c).symm.trans hF
    refine lv_aload_n hx hb dX8_cross_8 rfl (lv_at hl 0 rfl) ?_
    refine lv_iload_n hx hb dX8_cross_9 rfl (lv_at hl 2 rfl) ?_
    obtain ⟨r10, hr, hF⟩ := obd hF
    refine rX8_isTrack C K w hr hl.1 ⟨Nat.le_of_ble_eq_true rfl, Nat.le_of_ble_eq_true rfl⟩ (Nat.le_of_ble_eq_true rfl) dX8_cross_10 (fun H locs w => ?_)
    refine lv_if_eq (tgt := 21) hx hb dX8_cross_13 (by decide) (fun c => ?_) (fun c => ?_)
    · have hF := (if_pos c).symm.trans hF
      exact bX8_cross_21 C K E w (lv_sub hl [] rfl) hF
    · have hF := (if_neg c).symm.trans hF
      refine lv_iload_n hx hb dX8_cross_16 rfl (lv_at hl 1 rfl) ?_
      refine lv_iload_n hx hb dX8_cross_17 rfl (lv_at hl 2 rfl) ?_
      refine lv_icmp_ne (tgt := 24) hx hb dX8_cross_18 (by decide) (fun c => ?_) (fun c => ?_)
      · have hF := (if_neg c).symm.trans hF
        refine lv_aload_n hx hb dX8_cross_24 rfl (lv_at hl 0 rfl) ?_
        refine mget_39 C K w dX8_cross_25 ?_
        refine lv_bipush (v := (20 : Int32)) hx hb dX8_cross_28 (by decide) ?_
        refine lv_icmp_ne (tgt := 36) hx hb dX8_cross_30 (by decide) (fun c => ?_) (fun c => ?_)
        · have hF := (if_neg c).symm.trans hF
          refine lv_aload_n hx hb dX8_cross_36 rfl (lv_at hl 0 rfl) ?_
          refine mget_40 C K w dX8_cross_37 ?_
          refine lv_aload_n hx hb dX8_cross_40 rfl (lv_at hl 0 rfl) ?_
          refine mget_39 C K w dX8_cross_41 ?_
          refine lv_iload_n hx hb dX8_cross_44 rfl (lv_at hl 1 rfl) ?_
          obtain ⟨hi, hF⟩ := gin_if hF
          refine mast_40 C K w hi dX8_cross_45 (fun H locs w => ?_)
          refine lv_aload_n hx hb dX8_cross_46 rfl (lv_at hl 0 rfl) ?_
          refine mget_41 C K w dX8_cross_47 ?_
          refine lv_aload_n hx hb dX8_cross_50 rfl (lv_at hl 0 rfl) ?_
          refine mget_39 C K w dX8_cross_51 ?_
          refine lv_iload_n hx hb dX8_cross_54 rfl (lv_at hl 2 rfl) ?_
          obtain ⟨hi, hF⟩ := gin_if hF
          refine mast_41 C K w hi dX8_cross_55 (fun H locs w => ?_)
          refine lv_aload_n hx hb dX8_cross_56 rfl (lv_at hl 0 rfl) ?_
          refine lv_dup hx hb dX8_cross_57 rfl ?_
          refine mget_39 C K w dX8_cross_58 ?_
          refine lv_iconst (v := (1 : Int32)) hx hb dX8_cross_61 (by decide) ?_
          refine lv_iadd hx hb dX8_cross_62 ?_
          refine mput_39 C K w dX8_cross_63 (fun H locs w => ?_)
          refine lv_aload_n hx hb dX8_cross_66 rfl (lv_at hl 0 rfl) ?_
          refine mget_39 C K w dX8_cross_67 ?_
          have hF := Option.some.inj hF
          subst hF
          exact E _ _ _ _ w dX8_cross_70
        · have hF := (if_pos c).symm.trans hF
          refine lv_bipush (v := (-4 : Int32)) hx hb dX8_cross_33 (by decide) ?_
          have hF := Option.some.inj hF
          subst hF
          exact E _ _ _ _ w dX8_cross_35
      · have hF := (if_pos c).symm.trans hF
        exact bX8_cross_21 C K E w (lv_sub hl [] rfl) hF

theorem mX8_cross {l : Launch} {γ : wx_G} {o : Nat} {ad : Nat → Nat} {f : xF} {g : xG} {v1 : Int32} {v2 : Int32} {z : Int32 × xF × xG} (hF : pX8_cross f g v1 v2 = some z) : wx_M γ l yX8_cross (ws_ yX8_cross cX8_cross 3 (some .int)) rmX8_cross [.ref o, .int v1, .int v2] (mw γ o ad f g) (fun v ws => v = some (.int z.1) ∧ ws = (mw γ o ad z.2.1 z.2.2)) 0 0 := by
  refine wx_M.of (by decide) (Nat.le_of_ble_eq_true rfl) ?_
  intro p e s m as below meth c A ls C K w hr hlocks _ hl
  exact bX8_cross_0 C K (fun H locs ls pc w d => wx_iret C hr hlocks w ⟨rfl, rfl⟩ d) w hl hF

/-! WalkingStonesModel.eldest(I)I -/
abbrev rmX8_eldest : Room := { frames := 0, cells := 0, slots := 0, locals := 0 }
def pX8_eldest_77 (f : xF) (g : xG) (k2 : Int32 → Int32 → Option (Int32)) (v1 : Int32) (v2 : Int32) (v3 : Int32) : Option (Int32) := if v3 = 0 then k2 v1 (v2 + 1) else some (v2)

def pX8_eldest_70 (f : xF) (g : xG) (k2 : Int32 → Int32 → Option (Int32)) (k27 : Int32 → Int32 → Int32 → Int32 → Option (Int32)) (v1 : Int32) (v2 : Int32) (v4 : Int32) (t0 : Int32) : Option (Int32) := k27 v1 v2 t0 (v4 + 1)

def pX8_eldest_69 (f : xF) (g : xG) (k2 : Int32 → Int32 → Option (Int32)) (k27 : Int32 → Int32 → Int32 → Int32 → Option (Int32)) (v1 : Int32) (v2 : Int32) (v4 : Int32) : Option (Int32) := pX8_eldest_70 f g k2 k27 v1 v2 v4 (0 : Int32)

def pX8_eldest_65 (f : xF) (g : xG) (k2 : Int32 → Int32 → Option (Int32)) (k27 : Int32 → Int32 → Int32 → Int32 → Option (Int32)) (v1 : Int32) (v2 : Int32) (v4 : Int32) : Option (Int32) := pX8_eldest_70 f g k2 k27 v1 v2 v4 (1 : Int32)

def pX8_eldest_27 (f : xF) (g : xG) (k2 : Int32 → Int32 → Option (Int32)) : Nat → Int32 → Int32 → Int32 → Int32 → Option (Int32)
  | 0, _, _, _, _ => none
  | n + 1, v1, v2, v3, v4 => if (f 39) ≤ v4 then pX8_eldest_77 f g k2 v1 v2 v3 else (if v3 = 0 then pX8_eldest_69 f g k2 (pX8_eldest_27 f g k2 n) v1 v2 v4 else (if gin v4 20 = true then if (g 40 v4.toNatClampNeg) = v2 then (if gin v4 20 = true then if ((v1 >>> ((g 41 v4.toNatClampNeg) &&& 31)) &&& (1 : Int32)) = 0 then pX8_eldest_69 f g k2 (pX8_eldest_27 f g k2 n) v1 v2 v4 else pX8_eldest_65 f g k2 (pX8_eldest_27 f g k2 n) v1 v2 v4 else none) else pX8_eldest_65 f g k2 (pX8_eldest_27 f g k2 n) v1 v2 v4 else none))

def pX8_eldest_23 (f : xF) (g : xG) (k2 : Int32 → Int32 → Option (Int32)) (v1 : Int32) (v2 : Int32) (t0 : Int32) : Option (Int32) := pX8_eldest_27 f g k2 5000 v1 v2 t0 (0 : Int32)

def pX8_eldest_2 (f : xF) (g : xG) : Nat → Int32 → Int32 → Option (Int32)
  | 0, _, _ => none
  | n + 1, v1, v2 => if (f 32) ≤ v2 then some ((-1 : Int32)) else (if ((v1 >>> (v2 &&& 31)) &&& (1 : Int32)) = 0 then pX8_eldest_23 f g (pX8_eldest_2 f g n) v1 v2 (1 : Int32) else pX8_eldest_23 f g (pX8_eldest_2 f g n) v1 v2 (0 : Int32))

def pX8_eldest_0 (f : xF) (g : xG) (v1 : Int32) : Option (Int32) := pX8_eldest_2 f g 5000 v1 (0 : Int32)

abbrev pX8_eldest (f : xF) (g : xG) (v1 : Int32) : Option (Int32) := pX8_eldest_0 f g v1
theorem bX8_eldest_77 {p : Program} {l : Launch} {e : Env} {s : State} {m : MethodId} {as : Array Value} {below : List Frame} {meth : Method} {c : Code} {A : Nat → Prop} {Q : State → Prop} {γ : wx_G} {o : Nat} {ad : Nat → Nat} {z : Int32} {f : xF} {g : xG} (C : CallFix p m c cX8_eldest 5 s as lw_all RX8) (K : wx_C γ A s) (E : ∀ (H : Heap) (locs : List Loc) (ls : Array Slot) (pc : Nat), wx_w γ A s H locs (mw γ o ad f g) → decode cX8_eldest pc = .ok (.ireturn, 1) → W p l e rmX8_eldest s m as below meth c H locs 0 0 Q (F0 m pc ls [.int z])) {k2 : Int32 → Int32 → Option (Int32)} (hk2 : ∀ (v1 : Int32) (v2 : Int32) (H : Heap) (locs : List Loc) (ls : Array Slot), k2 v1 v2 = some z → wx_w γ A s H locs (mw γ o ad f g) → lv_has ls 5 [(0, .ref o), (1, .int v1), (2, .int v2)] → W p l e rmX8_eldest s m as below meth c H locs 0 0 Q (F0 m 2 ls [])) {v1 : Int32} {v2 : Int32} {v3 : Int32} {H : Heap} {locs : List Loc} {ls : Array Slot} (w : wx_w γ A s H locs (mw γ o ad f g)) (hl : lv_has ls 5 [(0, .ref o), (1, .int v1), (2, .int v2), (3, .int v3)]) (hF : pX8_eldest_77 f g k2 v1 v2 v3 = some z) : W p l e rmX8_eldest s m as below meth c H locs 0 0 Q (F0 m 77 ls []) := by
  have hx := C.1
  have hb := C.2.1
  unfold pX8_eldest_77 at hF
  refine lv_iload_n hx hb dX8_eldest_77 rfl (lv_at hl 3 rfl) ?_
  refine lv_if_eq (tgt := 83) hx hb dX8_eldest_78 (by decide) (fun c => ?_) (fun c => ?_)
  · have hF := (if_pos c).symm.trans hF
    refine lv_iinc (v := v2 + 1) (lv' := [(2, .int (v2 + 1)), (0, .ref o), (1, .int v1), (3, .int v3)]) hx hb dX8_eldest_83 hl (k := 2) rfl rfl (by decide) rfl (fun ls hl => ?_)
    refine lv_goto (tgt := 2) hx hb dX8_eldest_86 (by decide) ?_
    exact hk2 _ _ _ _ _ hF w (lv_sub hl [1, 2, 0] rfl)
  · have hF := (if_neg c).symm.trans hF
    refine lv_iload_n hx hb dX8_eldest_81 rfl (lv_at hl 2 rfl) ?_
    have hF := Option.some.inj hF
    subst hF
    exact E _ _ _ _ w dX8_eldest_82

theorem bX8_eldest_70 {p : Program} {l : Launch} {e : Env} {s : State} {m : MethodId} {as : Array Value} {below : List Frame} {meth : Method} {c : Code} {A : Nat → Prop} {Q : State → Prop} {γ : wx_G} {o : Nat} {ad : Nat → Nat} {z : Int32} {f : xF} {g : xG} (C : CallFix p m c cX8_eldest 5 s as lw_all RX8) (K : wx_C γ A s) (E : ∀ (H : Heap) (locs : List Loc) (ls : Array Slot) (pc : Nat), wx_w γ A s H locs (mw γ o ad f g) → decode cX8_eldest pc = .ok (.ireturn, 1) → W p l e rmX8_eldest s m as below meth c H locs 0 0 Q (F0 m pc ls [.int z])) {k2 : Int32 → Int32 → Option (Int32)} (hk2 : ∀ (v1 : Int32) (v2 : Int32) (H : Heap) (locs : List Loc) (ls : Array Slot), k2 v1 v2 = some z → wx_w γ A s H locs (mw γ o ad f g) → lv_has ls 5 [(0, .ref o), (1, .int v1), (2, .int v2)] → W p l e rmX8_eldest s m as below meth c H locs 0 0 Q (F0 m 2 ls [])) {k27 : Int32 → Int32 → Int32 → Int32 → Option (Int32)} (hk27 : ∀ (v1 : Int32) (v2 : Int32) (v3 : Int32) (v4 : Int32) (H : Heap) (locs : List Loc) (ls : Array Slot), k27 v1 v2 v3 v4 = some z → wx_w γ A s H locs (mw γ o ad f g) → lv_has ls 5 [(0, .ref o), (1, .int v1), (2, .int v2), (3, .int v3), (4, .int v4)] → W p l e rmX8_eldest s m as below meth c H locs 0 0 Q (F0 m 27 ls [])) {v1 : Int32} {v2 : Int32} {v4 : Int32} {t0 : Int32} {H : Heap} {locs : List Loc} {ls : Array Slot} (w : wx_w γ A s H locs (mw γ o ad f g)) (hl : lv_has ls 5 [(0, .ref o), (1, .int v1), (2, .int v2), (4, .int v4)]) (hF : pX8_eldest_70 f g k2 k27 v1 v2 v4 t0 = some z) : W p l e rmX8_eldest s m as below meth c H locs 0 0 Q (F0 m 70 ls [.int t0]) := by
  have hx := C.1
  have hb := C.2.1
  unfold pX8_eldest_70 at hF
  refine lv_istore_n (lv' := [(3, .int t0), (0, .ref o), (1, .int v1), (2, .int v2), (4, .int v4)]) hx hb dX8_eldest_70 rfl hl (by decide) rfl (fun ls hl => ?_)
  refine lv_iinc (v := v4 + 1) (lv' := [(4, .int (v4 + 1)), (3, .int t0), (0, .ref o), (1, .int v1), (2, .int v2)]) hx hb dX8_eldest_71 hl (k := 4) rfl rfl (by decide) rfl (fun ls hl => ?_)
  refine lv_goto (tgt := 27) hx hb dX8_eldest_74 (by decide) ?_
  exact hk27 _ _ _ _ _ _ _ hF w (lv_sub hl [2, 3, 4, 1, 0] rfl)

theorem bX8_eldest_69 {p : Program} {l : Launch} {e : Env} {s : State} {m : MethodId} {as : Array Value} {below : List Frame} {meth : Method} {c : Code} {A : Nat → Prop} {Q : State → Prop} {γ : wx_G} {o : Nat} {ad : Nat → Nat} {z : Int32} {f : xF} {g : xG} (C : CallFix p m c cX8_eldest 5 s as lw_all RX8) (K : wx_C γ A s) (E : ∀ (H : Heap) (locs : List Loc) (ls : Array Slot) (pc : Nat), wx_w γ A s H locs (mw γ o ad f g) → decode cX8_eldest pc = .ok (.ireturn, 1) → W p l e rmX8_eldest s m as below meth c H locs 0 0 Q (F0 m pc ls [.int z])) {k2 : Int32 → Int32 → Option (Int32)} (hk2 : ∀ (v1 : Int32) (v2 : Int32) (H : Heap) (locs : List Loc) (ls : Array Slot), k2 v1 v2 = some z → wx_w γ A s H locs (mw γ o ad f g) → lv_has ls 5 [(0, .ref o), (1, .int v1), (2, .int v2)] → W p l e rmX8_eldest s m as below meth c H locs 0 0 Q (F0 m 2 ls [])) {k27 : Int32 → Int32 → Int32 → Int32 → Option (Int32)} (hk27 : ∀ (v1 : Int32) (v2 : Int32) (v3 : Int32) (v4 : Int32) (H : Heap) (locs : List Loc) (ls : Array Slot), k27 v1 v2 v3 v4 = some z → wx_w γ A s H locs (mw γ o ad f g) → lv_has ls 5 [(0, .ref o), (1, .int v1), (2, .int v2), (3, .int v3), (4, .int v4)] → W p l e rmX8_eldest s m as below meth c H locs 0 0 Q (F0 m 27 ls [])) {v1 : Int32} {v2 : Int32} {v4 : Int32} {H : Heap} {locs : List Loc} {ls : Array Slot} (w : wx_w γ A s H locs (mw γ o ad f g)) (hl : lv_has ls 5 [(0, .ref o), (1, .int v1), (2, .int v2), (4, .int v4)]) (hF : pX8_eldest_69 f g k2 k27 v1 v2 v4 = some z) : W p l e rmX8_eldest s m as below meth c H locs 0 0 Q (F0 m 69 ls []) := by
  have hx := C.1
  have hb := C.2.1
  unfold pX8_eldest_69 at hF
  refine lv_iconst (v := (0 : Int32)) hx hb dX8_eldest_69 (by decide) ?_
  exact bX8_eldest_70 C K E hk2 hk27 w hl hF

theorem bX8_eldest_65 {p : Program} {l : Launch} {e : Env} {s : State} {m : MethodId} {as : Array Value} {below : List Frame} {meth : Method} {c : Code} {A : Nat → Prop} {Q : State → Prop} {γ : wx_G} {o : Nat} {ad : Nat → Nat} {z : Int32} {f : xF} {g : xG} (C : CallFix p m c cX8_eldest 5 s as lw_all RX8) (K : wx_C γ A s) (E : ∀ (H : Heap) (locs : List Loc) (ls : Array Slot) (pc : Nat), wx_w γ A s H locs (mw γ o ad f g) → decode cX8_eldest pc = .ok (.ireturn, 1) → W p l e rmX8_eldest s m as below meth c H locs 0 0 Q (F0 m pc ls [.int z])) {k2 : Int32 → Int32 → Option (Int32)} (hk2 : ∀ (v1 : Int32) (v2 : Int32) (H : Heap) (locs : List Loc) (ls : Array Slot), k2 v1 v2 = some z → wx_w γ A s H locs (mw γ o ad f g) → lv_has ls 5 [(0, .ref o), (1, .int v1), (2, .int v2)] → W p l e rmX8_eldest s m as below meth c H locs 0 0 Q (F0 m 2 ls [])) {k27 : Int32 → Int32 → Int32 → Int32 → Option (Int32)} (hk27 : ∀ (v1 : Int32) (v2 : Int32) (v3 : Int32) (v4 : Int32) (H : Heap) (locs : List Loc) (ls : Array Slot), k27 v1 v2 v3 v4 = some z → wx_w γ A s H locs (mw γ o ad f g) → lv_has ls 5 [(0, .ref o), (1, .int v1), (2, .int v2), (3, .int v3), (4, .int v4)] → W p l e rmX8_eldest s m as below meth c H locs 0 0 Q (F0 m 27 ls [])) {v1 : Int32} {v2 : Int32} {v4 : Int32} {H : Heap} {locs : List Loc} {ls : Array Slot} (w : wx_w γ A s H locs (mw γ o ad f g)) (hl : lv_has ls 5 [(0, .ref o), (1, .int v1), (2, .int v2), (4, .int v4)]) (hF : pX8_eldest_65 f g k2 k27 v1 v2 v4 = some z) : W p l e rmX8_eldest s m as below meth c H locs 0 0 Q (F0 m 65 ls []) := by
  have hx := C.1
  have hb := C.2.1
  unfold pX8_eldest_65 at hF
  refine lv_iconst (v := (1 : Int32)) hx hb dX8_eldest_65 (by decide) ?_
  refine lv_goto (tgt := 70) hx hb dX8_eldest_66 (by decide) ?_
  exact bX8_eldest_70 C K E hk2 hk27 w hl hF

theorem bX8_eldest_27 {p : Program} {l : Launch} {e : Env} {s : State} {m : MethodId} {as : Array Value} {below : List Frame} {meth : Method} {c : Code} {A : Nat → Prop} {Q : State → Prop} {γ : wx_G} {o : Nat} {ad : Nat → Nat} {z : Int32} {f : xF} {g : xG} (C : CallFix p m c cX8_eldest 5 s as lw_all RX8) (K : wx_C γ A s) (E : ∀ (H : Heap) (locs : List Loc) (ls : Array Slot) (pc : Nat), wx_w γ A s H locs (mw γ o ad f g) → decode cX8_eldest pc = .ok (.ireturn, 1) → W p l e rmX8_eldest s m as below meth c H locs 0 0 Q (F0 m pc ls [.int z])) {k2 : Int32 → Int32 → Option (Int32)} (hk2 : ∀ (v1 : Int32) (v2 : Int32) (H : Heap) (locs : List Loc) (ls : Array Slot), k2 v1 v2 = some z → wx_w γ A s H locs (mw γ o ad f g) → lv_has ls 5 [(0, .ref o), (1, .int v1), (2, .int v2)] → W p l e rmX8_eldest s m as below meth c H locs 0 0 Q (F0 m 2 ls [])) : ∀ (n : Nat) (v1 : Int32) (v2 : Int32) (v3 : Int32) (v4 : Int32) (H : Heap) (locs : List Loc) (ls : Array Slot), pX8_eldest_27 f g k2 n v1 v2 v3 v4 = some z → wx_w γ A s H locs (mw γ o ad f g) → lv_has ls 5 [(0, .ref o), (1, .int v1), (2, .int v2), (3, .int v3), (4, .int v4)] → W p l e rmX8_eldest s m as below meth c H locs 0 0 Q (F0 m 27 ls []) := by
  have hx := C.1
  have hb := C.2.1
  intro n
  induction n with
  | zero =>
    intro v1 v2 v3 v4 H locs ls hF w hl
    have hF : (none : Option (Int32)) = some z := hF
    cases hF
  | succ n ih =>
    intro v1 v2 v3 v4 H locs ls hF w hl
    rw [pX8_eldest_27] at hF
    refine lv_iload hx hb dX8_eldest_27 (lv_at hl 4 rfl) ?_
    refine lv_aload_n hx hb dX8_eldest_29 rfl (lv_at hl 0 rfl) ?_
    refine mget_39 C K w dX8_eldest_30 ?_
    refine lv_icmp_ge (tgt := 77) hx hb dX8_eldest_33 (by decide) (fun c => ?_) (fun c => ?_)
    · have hF := (if_pos c).symm.trans hF
      exact bX8_eldest_77 C K E hk2 w (lv_sub hl [0, 1, 2, 3] rfl) hF
    · have hF := (if_neg c).symm.trans hF
      refine lv_iload_n hx hb dX8_eldest_36 rfl (lv_at hl 3 rfl) ?_
      refine lv_if_eq (tgt := 69) hx hb dX8_eldest_37 (by decide) (fun c => ?_) (fun c => ?_)
      · have hF := (if_pos c).symm.trans hF
        exact bX8_eldest_69 C K E hk2 ih w (lv_sub hl [0, 1, 2, 4] rfl) hF
      · have hF := (if_neg c).symm.trans hF
        refine lv_aload_n hx hb dX8_eldest_40 rfl (lv_at hl 0 rfl) ?_
        refine mget_40 C K w dX8_eldest_41 ?_
        refine lv_iload hx hb dX8_eldest_44 (lv_at hl 4 rfl) ?_
        obtain ⟨hi, hF⟩ := gin_if hF
        refine mald_40 C K w hi dX8_eldest_46 ?_
        refine lv_iload_n hx hb dX8_eldest_47 rfl (lv_at hl 2 rfl) ?_
        refine lv_icmp_ne (tgt := 65) hx hb dX8_eldest_48 (by decide) (fun c => ?_) (fun c => ?_)
        · have hF := (if_neg c).symm.trans hF
          exact bX8_eldest_65 C K E hk2 ih w (lv_sub hl [0, 1, 2, 4] rfl) hF
        · have hF := (if_pos c).symm.trans hF
          refine lv_iload_n hx hb dX8_eldest_51 rfl (lv_at hl 1 rfl) ?_
          refine lv_aload_n hx hb dX8_eldest_52 rfl (lv_at hl 0 rfl) ?_
          refine mget_41 C K w dX8_eldest_53 ?_
          refine lv_iload hx hb dX8_eldest_56 (lv_at hl 4 rfl) ?_
          obtain ⟨hi, hF⟩ := gin_if hF
          refine mald_41 C K w hi dX8_eldest_58 ?_
          refine lv_ishr hx hb dX8_eldest_59 ?_
          refine lv_iconst (v := (1 : Int32)) hx hb dX8_eldest_60 (by decide) ?_
          refine lv_iand hx hb dX8_eldest_61 ?_
          refine lv_if_eq (tgt := 69) hx hb dX8_eldest_62 (by decide) (fun c => ?_) (fun c => ?_)
          · have hF := (if_pos c).symm.trans hF
            exact bX8_eldest_69 C K E hk2 ih w (lv_sub hl [0, 1, 2, 4] rfl) hF
          · have hF := (if_neg c).symm.trans hF
            exact bX8_eldest_65 C K E hk2 ih w (lv_sub hl [0, 1, 2, 4] rfl) hF

theorem bX8_eldest_23 {p : Program} {l : Launch} {e : Env} {s : State} {m : MethodId} {as : Array Value} {below : List Frame} {meth : Method} {c : Code} {A : Nat → Prop} {Q : State → Prop} {γ : wx_G} {o : Nat} {ad : Nat → Nat} {z : Int32} {f : xF} {g : xG} (C : CallFix p m c cX8_eldest 5 s as lw_all RX8) (K : wx_C γ A s) (E : ∀ (H : Heap) (locs : List Loc) (ls : Array Slot) (pc : Nat), wx_w γ A s H locs (mw γ o ad f g) → decode cX8_eldest pc = .ok (.ireturn, 1) → W p l e rmX8_eldest s m as below meth c H locs 0 0 Q (F0 m pc ls [.int z])) {k2 : Int32 → Int32 → Option (Int32)} (hk2 : ∀ (v1 : Int32) (v2 : Int32) (H : Heap) (locs : List Loc) (ls : Array Slot), k2 v1 v2 = some z → wx_w γ A s H locs (mw γ o ad f g) → lv_has ls 5 [(0, .ref o), (1, .int v1), (2, .int v2)] → W p l e rmX8_eldest s m as below meth c H locs 0 0 Q (F0 m 2 ls [])) {v1 : Int32} {v2 : Int32} {t0 : Int32} {H : Heap} {locs : List Loc} {ls : Array Slot} (w : wx_w γ A s H locs (mw γ o ad f g)) (hl : lv_has ls 5 [(0, .ref o), (1, .int v1), (2, .int v2)]) (hF : pX8_eldest_23 f g k2 v1 v2 t0 = some z) : W p l e rmX8_eldest s m as below meth c H locs 0 0 Q (F0 m 23 ls [.int t0]) := by
  have hx := C.1
  have hb := C.2.1
  unfold pX8_eldest_23 at hF
  refine lv_istore_n (lv' := [(3, .int t0), (0, .ref o), (1, .int v1), (2, .int v2)]) hx hb dX8_eldest_23 rfl hl (by decide) rfl (fun ls hl => ?_)
  refine lv_iconst (v := (0 : Int32)) hx hb dX8_eldest_24 (by decide) ?_
  refine lv_istore (lv' := [(4, .int (0 : Int32)), (3, .int t0), (0, .ref o), (1, .int v1), (2, .int v2)]) hx hb dX8_eldest_25 hl (by decide) rfl (fun ls hl => ?_)
  exact bX8_eldest_27 C K E hk2 5000 _ _ _ _ _ _ _ hF w (lv_sub hl [2, 3, 4, 1, 0] rfl)

theorem bX8_eldest_2 {p : Program} {l : Launch} {e : Env} {s : State} {m : MethodId} {as : Array Value} {below : List Frame} {meth : Method} {c : Code} {A : Nat → Prop} {Q : State → Prop} {γ : wx_G} {o : Nat} {ad : Nat → Nat} {z : Int32} {f : xF} {g : xG} (C : CallFix p m c cX8_eldest 5 s as lw_all RX8) (K : wx_C γ A s) (E : ∀ (H : Heap) (locs : List Loc) (ls : Array Slot) (pc : Nat), wx_w γ A s H locs (mw γ o ad f g) → decode cX8_eldest pc = .ok (.ireturn, 1) → W p l e rmX8_eldest s m as below meth c H locs 0 0 Q (F0 m pc ls [.int z])) : ∀ (n : Nat) (v1 : Int32) (v2 : Int32) (H : Heap) (locs : List Loc) (ls : Array Slot), pX8_eldest_2 f g n v1 v2 = some z → wx_w γ A s H locs (mw γ o ad f g) → lv_has ls 5 [(0, .ref o), (1, .int v1), (2, .int v2)] → W p l e rmX8_eldest s m as below meth c H locs 0 0 Q (F0 m 2 ls []) := by
  have hx := C.1
  have hb := C.2.1
  intro n
  induction n with
  | zero =>
    intro v1 v2 H locs ls hF w hl
    have hF : (none : Option (Int32)) = some z := hF
    cases hF
  | succ n ih =>
    intro v1 v2 H locs ls hF w hl
    rw [pX8_eldest_2] at hF
    refine lv_iload_n hx hb dX8_eldest_2 rfl (lv_at hl 2 rfl) ?_
    refine lv_aload_n hx hb dX8_eldest_3 rfl (lv_at hl 0 rfl) ?_
    refine mget_32 C K w dX8_eldest_4 ?_
    refine lv_icmp_ge (tgt := 89) hx hb dX8_eldest_7 (by decide) (fun c => ?_) (fun c => ?_)
    · have hF := (if_pos c).symm.trans hF
      refine lv_iconst (v := (-1 : Int32)) hx hb dX8_eldest_89 (by decide) ?_
      have hF := Option.some.inj hF
      subst hF
      exact E _ _ _ _ w dX8_eldest_90
    · have hF := (if_neg c).symm.trans hF
      refine lv_iload_n hx hb dX8_eldest_10 rfl (lv_at hl 1 rfl) ?_
      refine lv_iload_n hx hb dX8_eldest_11 rfl (lv_at hl 2 rfl) ?_
      refine lv_ishr hx hb dX8_eldest_12 ?_
      refine lv_iconst (v := (1 : Int32)) hx hb dX8_eldest_13 (by decide) ?_
      refine lv_iand hx hb dX8_eldest_14 ?_
      refine lv_if_ne (tgt := 22) hx hb dX8_eldest_15 (by decide) (fun c => ?_) (fun c => ?_)
      · have hF := (if_neg c).symm.trans hF
        refine lv_iconst (v := (0 : Int32)) hx hb dX8_eldest_22 (by decide) ?_
        exact bX8_eldest_23 C K E ih w hl hF
      · have hF := (if_pos c).symm.trans hF
        refine lv_iconst (v := (1 : Int32)) hx hb dX8_eldest_18 (by decide) ?_
        refine lv_goto (tgt := 23) hx hb dX8_eldest_19 (by decide) ?_
        exact bX8_eldest_23 C K E ih w hl hF

theorem bX8_eldest_0 {p : Program} {l : Launch} {e : Env} {s : State} {m : MethodId} {as : Array Value} {below : List Frame} {meth : Method} {c : Code} {A : Nat → Prop} {Q : State → Prop} {γ : wx_G} {o : Nat} {ad : Nat → Nat} {z : Int32} {f : xF} {g : xG} (C : CallFix p m c cX8_eldest 5 s as lw_all RX8) (K : wx_C γ A s) (E : ∀ (H : Heap) (locs : List Loc) (ls : Array Slot) (pc : Nat), wx_w γ A s H locs (mw γ o ad f g) → decode cX8_eldest pc = .ok (.ireturn, 1) → W p l e rmX8_eldest s m as below meth c H locs 0 0 Q (F0 m pc ls [.int z])) {v1 : Int32} {H : Heap} {locs : List Loc} {ls : Array Slot} (w : wx_w γ A s H locs (mw γ o ad f g)) (hl : lv_has ls 5 [(0, .ref o), (1, .int v1)]) (hF : pX8_eldest_0 f g v1 = some z) : W p l e rmX8_eldest s m as below meth c H locs 0 0 Q (F0 m 0 ls []) := by
  have hx := C.1
  have hb := C.2.1
  unfold pX8_eldest_0 at hF
  refine lv_iconst (v := (0 : Int32)) hx hb dX8_eldest_0 (by decide) ?_
  refine lv_istore_n (lv' := [(2, .int (0 : Int32)), (0, .ref o), (1, .int v1)]) hx hb dX8_eldest_1 rfl hl (by decide) rfl (fun ls hl => ?_)
  exact bX8_eldest_2 C K E 5000 _ _ _ _ _ hF w (lv_sub hl [1, 2, 0] rfl)

theorem mX8_eldest {l : Launch} {γ : wx_G} {o : Nat} {ad : Nat → Nat} {f : xF} {g : xG} {v1 : Int32} {z : Int32} (hF : pX8_eldest f g v1 = some z) : wx_M γ l yX8_eldest (ws_ yX8_eldest cX8_eldest 5 (some .int)) rmX8_eldest [.ref o, .int v1] (mw γ o ad f g) (fun v ws => v = some (.int z) ∧ ws = (mw γ o ad f g)) 0 0 := by
  refine wx_M.of (by decide) (Nat.le_of_ble_eq_true rfl) ?_
  intro p e s m as below meth c A ls C K w hr hlocks _ hl
  exact bX8_eldest_0 C K (fun H locs ls pc w d => wx_iret C hr hlocks w ⟨rfl, rfl⟩ d) w hl hF
theorem rX8_eldest {p : Program} {l : Launch} {e : Env} {R : Room} {s : State} {m : MethodId} {as : Array Value} {below : List Frame} {meth : Method} {c : Code} {H : Heap} {locs : List Loc} {cells slots : Nat} {Q : State → Prop} {cc : ByteArray} {nL pc : Nat} {ls : Array Slot} {rest : List Value} {γ : wx_G} {A : Nat → Prop} {o : Nat} {ad : Nat → Nat} {f : xF} {g : xG} {v1 : Int32} {z : Int32} (C : CallFix p m c cc nL s as lw_all RX8) (K : wx_C γ A s) (w : wx_w γ A s H locs (mw γ o ad f g)) (hF : pX8_eldest f g v1 = some z) (hls : ls.size = nL) (hR : rmX8_eldest.frames + 1 ≤ R.frames ∧ 8 + (5 + 11) + rmX8_eldest.locals ≤ R.locals) (hW : (rest.map fun v => v.category).sum ≤ 8) (d : decode cc pc = .ok (.invokevirtual 351, 3)) (kk : ∀ (H : Heap) (locs : List Loc), wx_w γ A s H locs (mw γ o ad f g) → W p l e R s m as below meth c H locs cells slots Q (F0 m (pc + 3) ls (.int z :: rest))) (hf : cells ≤ R.cells ∧ slots ≤ R.slots := by exact ⟨Nat.le_of_ble_eq_true rfl, Nat.le_of_ble_eq_true rfl⟩) : W p l e R s m as below meth c H locs cells slots Q (F0 m pc ls (.int v1 :: .ref o :: rest)) :=
  wx_callV (n := 1) C K w (mX8_eldest (l := l) hF) q1753 q1755 qs100 q123 q1756 rfl rfl (by decide +kernel) (va_recv K.1.1 w.1 (ci := 0) (q0 := 0) rfl rfl) rfl rfl hR hls hW hf d (fun v ws H1 locs1 hp w => by obtain ⟨rfl, rfl⟩ := hp; exact kk H1 locs1 w)

/-! WalkingStonesModel.order(I)I -/
abbrev rmX8_order : Room := { frames := 2, cells := 0, slots := 0, locals := 44 }
def pX8_order_18 (f : xF) (g : xG) : Nat → Int32 → Int32 → Int32 → Int32 → Option (Int32)
  | 0, _, _, _, _ => none
  | n + 1, v1, v2, v3, v4 => if v1 < v4 then some (v3) else (pX8_eldest f g v2).bind (fun r26 => if 0 ≤ r26 then pX8_order_18 f g n v1 (v2 ||| ((1 : Int32) <<< (r26 &&& 31))) r26 (v4 + 1) else some ((-1 : Int32)))

def pX8_order_0 (f : xF) (g : xG) (v1 : Int32) : Option (Int32) := (pX8_isTrack f g v1).bind (fun r2 => if r2 = 0 then some ((-2 : Int32)) else pX8_order_18 f g 5000 v1 (0 : Int32) (-1 : Int32) (0 : Int32))

abbrev pX8_order (f : xF) (g : xG) (v1 : Int32) : Option (Int32) := pX8_order_0 f g v1
theorem bX8_order_18 {p : Program} {l : Launch} {e : Env} {s : State} {m : MethodId} {as : Array Value} {below : List Frame} {meth : Method} {c : Code} {A : Nat → Prop} {Q : State → Prop} {γ : wx_G} {o : Nat} {ad : Nat → Nat} {z : Int32} {f : xF} {g : xG} (C : CallFix p m c cX8_order 5 s as lw_all RX8) (K : wx_C γ A s) (E : ∀ (H : Heap) (locs : List Loc) (ls : Array Slot) (pc : Nat), wx_w γ A s H locs (mw γ o ad f g) → decode cX8_order pc = .ok (.ireturn, 1) → W p l e rmX8_order s m as below meth c H locs 0 0 Q (F0 m pc ls [.int z])) : ∀ (n : Nat) (v1 : Int32) (v2 : Int32) (v3 : Int32) (v4 : Int32) (H : Heap) (locs : List Loc) (ls : Array Slot), pX8_order_18 f g n v1 v2 v3 v4 = some z → wx_w γ A s H locs (mw γ o ad f g) → lv_has ls 5 [(0, .ref o), (1, .int v1), (2, .int v2), (3, .int v3), (4, .int v4)] → W p l e rmX8_order s m as below meth c H locs 0 0 Q (F0 m 18 ls []) := by
  have hx := C.1
  have hb := C.2.1
  intro n
  induction n with
  | zero =>
    intro v1 v2 v3 v4 H locs ls hF w hl
    have hF : (none : Option (Int32)) = some z := hF
    cases hF
  | succ n ih =>
    intro v1 v2 v3 v4 H locs ls hF w hl
    rw [pX8_order_18] at hF
    refine lv_iload hx hb dX8_order_18 (lv_at hl 4 rfl) ?_
    refine lv_iload_n hx hb dX8_order_20 rfl (lv_at hl 1 rfl) ?_
    refine lv_icmp_gt (tgt := 48) hx hb dX8_order_21 (by decide) (fun c => ?_) (fun c => ?_)
    · have hF := (if_pos c).symm.trans hF
      refine lv_iload_n hx hb dX8_order_48 rfl (lv_at hl 3 rfl) ?_
      have hF := Option.some.inj hF
      subst hF
      exact E _ _ _ _ w dX8_order_49
    · have hF := (if_neg c).symm.trans hF
      refine lv_aload_n hx hb dX8_order_24 rfl (lv_at hl 0 rfl) ?_
      refine lv_iload_n hx hb dX8_order_25 rfl (lv_at hl 2 rfl) ?_
      obtain ⟨r26, hr, hF⟩ := obd hF
      refine rX8_eldest C K w hr hl.1 ⟨Nat.le_of_ble_eq_true rfl, Nat.le_of_ble_eq_true rfl⟩ (Nat.le_of_ble_eq_true rfl) dX8_order_26 (fun H locs w => ?_)
      refine lv_istore_n (lv' := [(3, .int r26), (0, .ref o), (1, .int v1), (2, .int v2), (4, .int v4)]) hx hb dX8_order_29 rfl hl (by decide) rfl (fun ls hl => ?_)
      refine lv_iload_n hx hb dX8_order_30 rfl (lv_at hl 0 rfl) ?_
      refine lv_if_ge (tgt := 36) hx hb dX8_order_31 (by decide) (fun c => ?_) (fun c => ?_)
      · have hF := (if_pos c).symm.trans hF
        refine lv_iload_n hx hb dX8_order_36 rfl (lv_at hl 3 rfl) ?_
        refine lv_iconst (v := (1 : Int32)) hx hb dX8_order_37 (by decide) ?_
        refine lv_iload_n hx hb dX8_order_38 rfl (lv_at hl 0 rfl) ?_
        refine lv_ishl hx hb dX8_order_39 ?_
        refine lv_ior hx hb dX8_order_40 ?_
        refine lv_istore_n (lv' := [(2, .int (v2 ||| ((1 : Int32) <<< (r26 &&& 31)))), (3, .int r26), (0, .ref o), (1, .int v1), (4, .int v4)]) hx hb dX8_order_41 rfl hl (by decide) rfl (fun ls hl => ?_)
        refine lv_iinc (v := v4 + 1) (lv' := [(4, .int (v4 + 1)), (2, .int (v2 ||| ((1 : Int32) <<< (r26 &&& 31)))), (3, .int r26), (0, .ref o), (1, .int v1)]) hx hb dX8_order_42 hl (k := 4) rfl rfl (by decide) rfl (fun ls hl => ?_)
        refine lv_goto (tgt := 18) hx hb dX8_order_45 (by decide) ?_
        exact ih _ _ _ _ _ _ _ hF w (lv_sub hl [3, 4, 1, 2, 0] rfl)
      · have hF := (if_neg c).symm.trans hF
        refine lv_iconst (v := (-1 : Int32)) hx hb dX8_order_34 (by decide) ?_
        have hF := Option.some.inj hF
        subst hF
        exact E _ _ _ _ w dX8_order_35

theorem bX8_order_0 {p : Program} {l : Launch} {e : Env} {s : State} {m : MethodId} {as : Array Value} {below : List Frame} {meth : Method} {c : Code} {A : Nat → Prop} {Q : State → Prop} {γ : wx_G} {o : Nat} {ad : Nat → Nat} {z : Int32} {f : xF} {g : xG} (C : CallFix p m c cX8_order 5 s as lw_all RX8) (K : wx_C γ A s) (E : ∀ (H : Heap) (locs : List Loc) (ls : Array Slot) (pc : Nat), wx_w γ A s H locs (mw γ o ad f g) → decode cX8_order pc = .ok (.ireturn, 1) → W p l e rmX8_order s m as below meth c H locs 0 0 Q (F0 m pc ls [.int z])) {v1 : Int32} {H : Heap} {locs : List Loc} {ls : Array Slot} (w : wx_w γ A s H locs (mw γ o ad f g)) (hl : lv_has ls 5 [(0, .ref o), (1, .int v1)]) (hF : pX8_order_0 f g v1 = some z) : W p l e rmX8_order s m as below meth c H locs 0 0 Q (F0 m 0 ls []) := by
  have hx := C.1
  have hb := C.2.1
  unfold pX8_order_0 at hF
  refine lv_aload_n hx hb dX8_order_0 rfl (lv_at hl 0 rfl) ?_
  refine lv_iload_n hx hb dX8_order_1 rfl (lv_at hl 1 rfl) ?_
  obtain ⟨r2, hr, hF⟩ := obd hF
  refine rX8_isTrack C K w hr hl.1 ⟨Nat.le_of_ble_eq_true rfl, Nat.le_of_ble_eq_true rfl⟩ (Nat.le_of_ble_eq_true rfl) dX8_order_2 (fun H locs w => ?_)
  refine lv_if_ne (tgt := 11) hx hb dX8_order_5 (by decide) (fun c => ?_) (fun c => ?_)
  · have hF := (if_neg c).symm.trans hF
    refine lv_iconst (v := (0 : Int32)) hx hb dX8_order_11 (by decide) ?_
    refine lv_istore_n (lv' := [(2, .int (0 : Int32)), (0, .ref o), (1, .int v1)]) hx hb dX8_order_12 rfl hl (by decide) rfl (fun ls hl => ?_)
    refine lv_iconst (v := (-1 : Int32)) hx hb dX8_order_13 (by decide) ?_
    refine lv_istore_n (lv' := [(3, .int (-1 : Int32)), (2, .int (0 : Int32)), (0, .ref o), (1, .int v1)]) hx hb dX8_order_14 rfl hl (by decide) rfl (fun ls hl => ?_)
    refine lv_iconst (v := (0 : Int32)) hx hb dX8_order_15 (by decide) ?_
    refine lv_istore (lv' := [(4, .int (0 : Int32)), (3, .int (-1 : Int32)), (2, .int (0 : Int32)), (0, .ref o), (1, .int v1)]) hx hb dX8_order_16 hl (by decide) rfl (fun ls hl => ?_)
    exact bX8_order_18 C K E 5000 _ _ _ _ _ _ _ hF w (lv_sub hl [3, 4, 2, 1, 0] rfl)
  · have hF := (if_pos c).symm.trans hF
    refine lv_bipush (v := (-2 : Int32)) hx hb dX8_order_8 (by decide) ?_
    have hF := Option.some.inj hF
    subst hF
    exact E _ _ _ _ w dX8_order_10

theorem mX8_order {l : Launch} {γ : wx_G} {o : Nat} {ad : Nat → Nat} {f : xF} {g : xG} {v1 : Int32} {z : Int32} (hF : pX8_order f g v1 = some z) : wx_M γ l yX8_order (ws_ yX8_order cX8_order 5 (some .int)) rmX8_order [.ref o, .int v1] (mw γ o ad f g) (fun v ws => v = some (.int z) ∧ ws = (mw γ o ad f g)) 0 0 := by
  refine wx_M.of (by decide) (Nat.le_of_ble_eq_true rfl) ?_
  intro p e s m as below meth c A ls C K w hr hlocks _ hl
  exact bX8_order_0 C K (fun H locs ls pc w d => wx_iret C hr hlocks w ⟨rfl, rfl⟩ d) w hl hF

/-! WalkingStonesModel.worthOf(I)I -/
abbrev rmX8_worthOf : Room := { frames := 3, cells := 0, slots := 0, locals := 73 }
def pX8_worthOf_29 (f : xF) (g : xG) (t0 : Int32) : Option (Int32 × xF × xG) := some (t0, f, g)

def pX8_worthOf_0 (f : xF) (g : xG) (v1 : Int32) : Option (Int32 × xF × xG) := (pX8_tellsRule f g (2 : Int32) (0 : Int32) v1 (-1 : Int32)).bind (fun r5 => if 0 ≤ r5.1 then (if r5.1 ≤ (99 : Int32) then pX8_worthOf_29 r5.2.1 r5.2.2 r5.1 else pX8_worthOf_29 r5.2.1 r5.2.2 (99 : Int32)) else pX8_worthOf_29 r5.2.1 r5.2.2 (0 : Int32))

abbrev pX8_worthOf (f : xF) (g : xG) (v1 : Int32) : Option (Int32 × xF × xG) := pX8_worthOf_0 f g v1
theorem bX8_worthOf_29 {p : Program} {l : Launch} {e : Env} {s : State} {m : MethodId} {as : Array Value} {below : List Frame} {meth : Method} {c : Code} {A : Nat → Prop} {Q : State → Prop} {γ : wx_G} {o : Nat} {ad : Nat → Nat} {z : Int32 × xF × xG} (C : CallFix p m c cX8_worthOf 3 s as lw_all RX8) (K : wx_C γ A s) (E : ∀ (H : Heap) (locs : List Loc) (ls : Array Slot) (pc : Nat), wx_w γ A s H locs (mw γ o ad z.2.1 z.2.2) → decode cX8_worthOf pc = .ok (.ireturn, 1) → W p l e rmX8_worthOf s m as below meth c H locs 0 0 Q (F0 m pc ls [.int z.1])) {f : xF} {g : xG} {t0 : Int32} {H : Heap} {locs : List Loc} {ls : Array Slot} (w : wx_w γ A s H locs (mw γ o ad f g)) (hl : lv_has ls 3 []) (hF : pX8_worthOf_29 f g t0 = some z) : W p l e rmX8_worthOf s m as below meth c H locs 0 0 Q (F0 m 29 ls [.int t0]) := by
  have hx := C.1
  have hb := C.2.1
  unfold pX8_worthOf_29 at hF
  have hF := Option.some.inj hF
  subst hF
  exact E _ _ _ _ w dX8_worthOf_29

theorem bX8_worthOf_0 {p : Program} {l : Launch} {e : Env} {s : State} {m : MethodId} {as : Array Value} {below : List Frame} {meth : Method} {c : Code} {A : Nat → Prop} {Q : State → Prop} {γ : wx_G} {o : Nat} {ad : Nat → Nat} {z : Int32 × xF × xG} (C : CallFix p m c cX8_worthOf 3 s as lw_all RX8) (K : wx_C γ A s) (E : ∀ (H : Heap) (locs : List Loc) (ls : Array Slot) (pc : Nat), wx_w γ A s H locs (mw γ o ad z.2.1 z.2.2) → decode cX8_worthOf pc = .ok (.ireturn, 1) → W p l e rmX8_worthOf s m as below meth c H locs 0 0 Q (F0 m pc ls [.int z.1])) {f : xF} {g : xG} {v1 : Int32} {H : Heap} {locs : List Loc} {ls : Array Slot} (w : wx_w γ A s H locs (mw γ o ad f g)) (hl : lv_has ls 3 [(0, .ref o), (1, .int v1)]) (hF : pX8_worthOf_0 f g v1 = some z) : W p l e rmX8_worthOf s m as below meth c H locs 0 0 Q (F0 m 0 ls []) := by
  have hx := C.1
  have hb := C.2.1
  unfold pX8_worthOf_0 at hF
  refine lv_aload_n hx hb dX8_worthOf_0 rfl (lv_at hl 0 rfl) ?_
  refine lv_iconst (v := (2 : Int32)) hx hb dX8_worthOf_1 (by decide) ?_
  refine lv_iconst (v := (0 : Int32)) hx hb dX8_worthOf_2 (by decide) ?_
  refine lv_iload_n hx hb dX8_worthOf_3 rfl (lv_at hl 1 rfl) ?_
  refine lv_iconst (v := (-1 : Int32)) hx hb dX8_worthOf_4 (by decide) ?_
  obtain ⟨r5, hr, hF⟩ := obd hF
  refine rX8_tellsRule C K w hr hl.1 ⟨Nat.le_of_ble_eq_true rfl, Nat.le_of_ble_eq_true rfl⟩ (Nat.le_of_ble_eq_true rfl) dX8_worthOf_5 (fun H locs w => ?_)
  refine lv_istore_n (lv' := [(2, .int r5.1), (0, .ref o), (1, .int v1)]) hx hb dX8_worthOf_8 rfl hl (by decide) rfl (fun ls hl => ?_)
  refine lv_iload_n hx hb dX8_worthOf_9 rfl (lv_at hl 0 rfl) ?_
  refine lv_if_ge (tgt := 17) hx hb dX8_worthOf_10 (by decide) (fun c => ?_) (fun c => ?_)
  · have hF := (if_pos c).symm.trans hF
    refine lv_iload_n hx hb dX8_worthOf_17 rfl (lv_at hl 0 rfl) ?_
    refine lv_bipush (v := (99 : Int32)) hx hb dX8_worthOf_18 (by decide) ?_
    refine lv_icmp_le (tgt := 28) hx hb dX8_worthOf_20 (by decide) (fun c => ?_) (fun c => ?_)
    · have hF := (if_pos c).symm.trans hF
      refine lv_iload_n hx hb dX8_worthOf_28 rfl (lv_at hl 0 rfl) ?_
      exact bX8_worthOf_29 C K E w (lv_sub hl [] rfl) hF
    · have hF := (if_neg c).symm.trans hF
      refine lv_bipush (v := (99 : Int32)) hx hb dX8_worthOf_23 (by decide) ?_
      refine lv_goto (tgt := 29) hx hb dX8_worthOf_25 (by decide) ?_
      exact bX8_worthOf_29 C K E w (lv_sub hl [] rfl) hF
  · have hF := (if_neg c).symm.trans hF
    refine lv_iconst (v := (0 : Int32)) hx hb dX8_worthOf_13 (by decide) ?_
    refine lv_goto (tgt := 29) hx hb dX8_worthOf_14 (by decide) ?_
    exact bX8_worthOf_29 C K E w (lv_sub hl [] rfl) hF

theorem mX8_worthOf {l : Launch} {γ : wx_G} {o : Nat} {ad : Nat → Nat} {f : xF} {g : xG} {v1 : Int32} {z : Int32 × xF × xG} (hF : pX8_worthOf f g v1 = some z) : wx_M γ l yX8_worthOf (ws_ yX8_worthOf cX8_worthOf 3 (some .int)) rmX8_worthOf [.ref o, .int v1] (mw γ o ad f g) (fun v ws => v = some (.int z.1) ∧ ws = (mw γ o ad z.2.1 z.2.2)) 0 0 := by
  refine wx_M.of (by decide) (Nat.le_of_ble_eq_true rfl) ?_
  intro p e s m as below meth c A ls C K w hr hlocks _ hl
  exact bX8_worthOf_0 C K (fun H locs ls pc w d => wx_iret C hr hlocks w ⟨rfl, rfl⟩ d) w hl hF
theorem rX8_worthOf {p : Program} {l : Launch} {e : Env} {R : Room} {s : State} {m : MethodId} {as : Array Value} {below : List Frame} {meth : Method} {c : Code} {H : Heap} {locs : List Loc} {cells slots : Nat} {Q : State → Prop} {cc : ByteArray} {nL pc : Nat} {ls : Array Slot} {rest : List Value} {γ : wx_G} {A : Nat → Prop} {o : Nat} {ad : Nat → Nat} {f : xF} {g : xG} {v1 : Int32} {z : Int32 × xF × xG} (C : CallFix p m c cc nL s as lw_all RX8) (K : wx_C γ A s) (w : wx_w γ A s H locs (mw γ o ad f g)) (hF : pX8_worthOf f g v1 = some z) (hls : ls.size = nL) (hR : rmX8_worthOf.frames + 1 ≤ R.frames ∧ 8 + (3 + 11) + rmX8_worthOf.locals ≤ R.locals) (hW : (rest.map fun v => v.category).sum ≤ 8) (d : decode cc pc = .ok (.invokevirtual 354, 3)) (kk : ∀ (H : Heap) (locs : List Loc), wx_w γ A s H locs (mw γ o ad z.2.1 z.2.2) → W p l e R s m as below meth c H locs cells slots Q (F0 m (pc + 3) ls (.int z.1 :: rest))) (hf : cells ≤ R.cells ∧ slots ≤ R.slots := by exact ⟨Nat.le_of_ble_eq_true rfl, Nat.le_of_ble_eq_true rfl⟩) : W p l e R s m as below meth c H locs cells slots Q (F0 m pc ls (.int v1 :: .ref o :: rest)) :=
  wx_callV (n := 1) C K w (mX8_worthOf (l := l) hF) q1761 q1763 qs101 q123 q1764 rfl rfl (by decide +kernel) (va_recv K.1.1 w.1 (ci := 0) (q0 := 0) rfl rfl) rfl rfl hR hls hW hf d (fun v ws H1 locs1 hp w => by obtain ⟨rfl, rfl⟩ := hp; exact kk H1 locs1 w)

/-! WalkingStonesModel.look(II)I -/
abbrev rmX8_look_2 : Room := { frames := 4, cells := 0, slots := 0, locals := 95 }
def pX8_look_2_21 (f : xF) (g : xG) : Option (Int32 × xF × xG) := some ((-2 : Int32), f, g)

def pX8_look_2_220 (f : xF) (g : xG) (t0 : Int32) : Option (Int32 × xF × xG) := some (t0, f, g)

def pX8_look_2_199 (f : xF) (g : xG) (v2 : Int32) (v4 : Int32) (v5 : Int32) (v6 : Int32) : Option (Int32 × xF × xG) := if v2 = 0 then pX8_look_2_220 f g v4 else (if v2 = (1 : Int32) then pX8_look_2_220 f g v5 else pX8_look_2_220 f g v6)

def pX8_look_2_193 (k83 : xF → xG → Int32 → Int32 → Int32 → Int32 → Int32 → Int32 → Int32 → Option (Int32 × xF × xG)) (f : xF) (g : xG) (v1 : Int32) (v2 : Int32) (v3 : Int32) (v4 : Int32) (v5 : Int32) (v6 : Int32) (v7 : Int32) : Option (Int32 × xF × xG) := k83 f g v1 v2 v3 v4 v5 v6 (v7 + 1)

def pX8_look_2_181 (k83 : xF → xG → Int32 → Int32 → Int32 → Int32 → Int32 → Int32 → Int32 → Option (Int32 × xF × xG)) (f : xF) (g : xG) (v1 : Int32) (v2 : Int32) (v3 : Int32) (v7 : Int32) (v8 : Int32) (v9 : Int32) : Option (Int32 × xF × xG) := pX8_look_2_193 k83 f g v1 v2 v3 v7 v9 v8 v7

def pX8_look_2_151 (k83 : xF → xG → Int32 → Int32 → Int32 → Int32 → Int32 → Int32 → Int32 → Option (Int32 × xF × xG)) (f : xF) (g : xG) (v1 : Int32) (v2 : Int32) (v3 : Int32) (v4 : Int32) (v5 : Int32) (v6 : Int32) (v7 : Int32) (v8 : Int32) (v9 : Int32) : Option (Int32 × xF × xG) := if v1 < v8 then pX8_look_2_193 k83 f g v1 v2 v3 v4 v5 v6 v7 else (if v9 < v5 then pX8_look_2_193 k83 f g v1 v2 v3 v4 v5 v6 v7 else (if v9 = v5 then (if v8 < v6 then pX8_look_2_181 k83 f g v1 v2 v3 v7 v8 v9 else pX8_look_2_193 k83 f g v1 v2 v3 v4 v5 v6 v7) else pX8_look_2_181 k83 f g v1 v2 v3 v7 v8 v9))

def pX8_look_2_145 (k83 : xF → xG → Int32 → Int32 → Int32 → Int32 → Int32 → Int32 → Int32 → Option (Int32 × xF × xG)) (k100 : xF → xG → Int32 → Int32 → Int32 → Int32 → Int32 → Int32 → Int32 → Int32 → Int32 → Int32 → Option (Int32 × xF × xG)) (f : xF) (g : xG) (v1 : Int32) (v2 : Int32) (v3 : Int32) (v4 : Int32) (v5 : Int32) (v6 : Int32) (v7 : Int32) (v8 : Int32) (v9 : Int32) (v10 : Int32) : Option (Int32 × xF × xG) := k100 f g v1 v2 v3 v4 v5 v6 v7 v8 v9 (v10 + 1)

def pX8_look_2_100 (k83 : xF → xG → Int32 → Int32 → Int32 → Int32 → Int32 → Int32 → Int32 → Option (Int32 × xF × xG)) : Nat → xF → xG → Int32 → Int32 → Int32 → Int32 → Int32 → Int32 → Int32 → Int32 → Int32 → Int32 → Option (Int32 × xF × xG)
  | 0, _, _, _, _, _, _, _, _, _, _, _, _ => none
  | n + 1, f, g, v1, v2, v3, v4, v5, v6, v7, v8, v9, v10 => if v3 ≤ v10 then pX8_look_2_151 k83 f g v1 v2 v3 v4 v5 v6 v7 v8 v9 else (if ((v7 >>> (v10 &&& 31)) &&& (1 : Int32)) = 0 then pX8_look_2_145 k83 (pX8_look_2_100 k83 n) f g v1 v2 v3 v4 v5 v6 v7 v8 v9 v10 else (if gin v10 60 = true then if gin v10 12 = true then pX8_look_2_145 k83 (pX8_look_2_100 k83 n) f g v1 v2 v3 v4 v5 v6 v7 (v8 + ((3 : Int32) + (g 6 v10.toNatClampNeg))) (v9 + (g 53 v10.toNatClampNeg)) v10 else none else none))

def pX8_look_2_83 : Nat → xF → xG → Int32 → Int32 → Int32 → Int32 → Int32 → Int32 → Int32 → Option (Int32 × xF × xG)
  | 0, _, _, _, _, _, _, _, _, _ => none
  | n + 1, f, g, v1, v2, v3, v4, v5, v6, v7 => if ((1 : Int32) <<< (v3 &&& 31)) ≤ v7 then pX8_look_2_199 f g v2 v4 v5 v6 else pX8_look_2_100 (pX8_look_2_83 n) 5000 f g v1 v2 v3 v4 v5 v6 v7 (0 : Int32) (0 : Int32) (0 : Int32)

def pX8_look_2_71 (f : xF) (g : xG) (v1 : Int32) (v2 : Int32) (v3 : Int32) : Option (Int32 × xF × xG) := pX8_look_2_83 5000 f g v1 v2 v3 (0 : Int32) (0 : Int32) (0 : Int32) (1 : Int32)

def pX8_look_2_46 : Nat → xF → xG → Int32 → Int32 → Int32 → Int32 → Option (Int32 × xF × xG)
  | 0, _, _, _, _, _, _ => none
  | n + 1, f, g, v1, v2, v3, v4 => if v3 ≤ v4 then pX8_look_2_71 f g v1 v2 v3 else (pX8_worthOf f g v4).bind (fun r61 => if gin v4 12 = true then pX8_look_2_46 n r61.2.1 (va_up r61.2.2 53 (upd (r61.2.2 53) v4.toNatClampNeg r61.1)) v1 v2 v3 (v4 + 1) else none)

def pX8_look_2_42 (f : xF) (g : xG) (v1 : Int32) (v2 : Int32) (t0 : Int32) : Option (Int32 × xF × xG) := pX8_look_2_46 5000 f g v1 v2 t0 (0 : Int32)

def pX8_look_2_0 (f : xF) (g : xG) (v1 : Int32) (v2 : Int32) : Option (Int32 × xF × xG) := (pX8_in f g v1 (0 : Int32) (99 : Int32)).bind (fun r5 => if r5 = 0 then pX8_look_2_21 f g else (pX8_in f g v2 (0 : Int32) (2 : Int32)).bind (fun r15 => if r15 = 0 then pX8_look_2_21 f g else (if (12 : Int32) ≤ (f 1) then pX8_look_2_42 f g v1 v2 (12 : Int32) else pX8_look_2_42 f g v1 v2 (f 1))))

abbrev pX8_look_2 (f : xF) (g : xG) (v1 : Int32) (v2 : Int32) : Option (Int32 × xF × xG) := pX8_look_2_0 f g v1 v2
theorem bX8_look_2_21 {p : Program} {l : Launch} {e : Env} {s : State} {m : MethodId} {as : Array Value} {below : List Frame} {meth : Method} {c : Code} {A : Nat → Prop} {Q : State → Prop} {γ : wx_G} {o : Nat} {ad : Nat → Nat} {z : Int32 × xF × xG} (C : CallFix p m c cX8_look_2 11 s as lw_all RX8) (K : wx_C γ A s) (E : ∀ (H : Heap) (locs : List Loc) (ls : Array Slot) (pc : Nat), wx_w γ A s H locs (mw γ o ad z.2.1 z.2.2) → decode cX8_look_2 pc = .ok (.ireturn, 1) → W p l e rmX8_look_2 s m as below meth c H locs 0 0 Q (F0 m pc ls [.int z.1])) {f : xF} {g : xG} {H : Heap} {locs : List Loc} {ls : Array Slot} (w : wx_w γ A s H locs (mw γ o ad f g)) (hl : lv_has ls 11 []) (hF : pX8_look_2_21 f g = some z) : W p l e rmX8_look_2 s m as below meth c H locs 0 0 Q (F0 m 21 ls []) := by
  have hx := C.1
  have hb := C.2.1
  unfold pX8_look_2_21 at hF
  refine lv_bipush (v := (-2 : Int32)) hx hb dX8_look_2_21 (by decide) ?_
  have hF := Option.some.inj hF
  subst hF
  exact E _ _ _ _ w dX8_look_2_23

theorem bX8_look_2_220 {p : Program} {l : Launch} {e : Env} {s : State} {m : MethodId} {as : Array Value} {below : List Frame} {meth : Method} {c : Code} {A : Nat → Prop} {Q : State → Prop} {γ : wx_G} {o : Nat} {ad : Nat → Nat} {z : Int32 × xF × xG} (C : CallFix p m c cX8_look_2 11 s as lw_all RX8) (K : wx_C γ A s) (E : ∀ (H : Heap) (locs : List Loc) (ls : Array Slot) (pc : Nat), wx_w γ A s H locs (mw γ o ad z.2.1 z.2.2) → decode cX8_look_2 pc = .ok (.ireturn, 1) → W p l e rmX8_look_2 s m as below meth c H locs 0 0 Q (F0 m pc ls [.int z.1])) {f : xF} {g : xG} {t0 : Int32} {H : Heap} {locs : List Loc} {ls : Array Slot} (w : wx_w γ A s H locs (mw γ o ad f g)) (hl : lv_has ls 11 []) (hF : pX8_look_2_220 f g t0 = some z) : W p l e rmX8_look_2 s m as below meth c H locs 0 0 Q (F0 m 220 ls [.int t0]) := by
  have hx := C.1
  have hb := C.2.1
  unfold pX8_look_2_220 at hF
  have hF := Option.some.inj hF
  subst hF
  exact E _ _ _ _ w dX8_look_2_220

theorem bX8_look_2_199 {p : Program} {l : Launch} {e : Env} {s : State} {m : MethodId} {as : Array Value} {below : List Frame} {meth : Method} {c : Code} {A : Nat → Prop} {Q : State → Prop} {γ : wx_G} {o : Nat} {ad : Nat → Nat} {z : Int32 × xF × xG} (C : CallFix p m c cX8_look_2 11 s as lw_all RX8) (K : wx_C γ A s) (E : ∀ (H : Heap) (locs : List Loc) (ls : Array Slot) (pc : Nat), wx_w γ A s H locs (mw γ o ad z.2.1 z.2.2) → decode cX8_look_2 pc = .ok (.ireturn, 1) → W p l e rmX8_look_2 s m as below meth c H locs 0 0 Q (F0 m pc ls [.int z.1])) {f : xF} {g : xG} {v2 : Int32} {v4 : Int32} {v5 : Int32} {v6 : Int32} {H : Heap} {locs : List Loc} {ls : Array Slot} (w : wx_w γ A s H locs (mw γ o ad f g)) (hl : lv_has ls 11 [(2, .int v2), (4, .int v4), (5, .int v5), (6, .int v6)]) (hF : pX8_look_2_199 f g v2 v4 v5 v6 = some z) : W p l e rmX8_look_2 s m as below meth c H locs 0 0 Q (F0 m 199 ls []) := by
  have hx := C.1
  have hb := C.2.1
  unfold pX8_look_2_199 at hF
  refine lv_iload_n hx hb dX8_look_2_199 rfl (lv_at hl 0 rfl) ?_
  refine lv_if_ne (tgt := 208) hx hb dX8_look_2_200 (by decide) (fun c => ?_) (fun c => ?_)
  · have hF := (if_neg c).symm.trans hF
    refine lv_iload_n hx hb dX8_look_2_208 rfl (lv_at hl 0 rfl) ?_
    refine lv_iconst (v := (1 : Int32)) hx hb dX8_look_2_209 (by decide) ?_
    refine lv_icmp_ne (tgt := 218) hx hb dX8_look_2_210 (by decide) (fun c => ?_) (fun c => ?_)
    · have hF := (if_neg c).symm.trans hF
      refine lv_iload hx hb dX8_look_2_218 (lv_at hl 3 rfl) ?_
      exact bX8_look_2_220 C K E w (lv_sub hl [] rfl) hF
    · have hF := (if_pos c).symm.trans hF
      refine lv_iload hx hb dX8_look_2_213 (lv_at hl 2 rfl) ?_
      refine lv_goto (tgt := 220) hx hb dX8_look_2_215 (by decide) ?_
      exact bX8_look_2_220 C K E w (lv_sub hl [] rfl) hF
  · have hF := (if_pos c).symm.trans hF
    refine lv_iload hx hb dX8_look_2_203 (lv_at hl 1 rfl) ?_
    refine lv_goto (tgt := 220) hx hb dX8_look_2_205 (by decide) ?_
    exact bX8_look_2_220 C K E w (lv_sub hl [] rfl) hF

theorem bX8_look_2_193 {p : Program} {l : Launch} {e : Env} {s : State} {m : MethodId} {as : Array Value} {below : List Frame} {meth : Method} {c : Code} {A : Nat → Prop} {Q : State → Prop} {γ : wx_G} {o : Nat} {ad : Nat → Nat} {z : Int32 × xF × xG} (C : CallFix p m c cX8_look_2 11 s as lw_all RX8) (K : wx_C γ A s) (E : ∀ (H : Heap) (locs : List Loc) (ls : Array Slot) (pc : Nat), wx_w γ A s H locs (mw γ o ad z.2.1 z.2.2) → decode cX8_look_2 pc = .ok (.ireturn, 1) → W p l e rmX8_look_2 s m as below meth c H locs 0 0 Q (F0 m pc ls [.int z.1])) {k83 : xF → xG → Int32 → Int32 → Int32 → Int32 → Int32 → Int32 → Int32 → Option (Int32 × xF × xG)} (hk83 : ∀ (f : xF) (g : xG) (v1 : Int32) (v2 : Int32) (v3 : Int32) (v4 : Int32) (v5 : Int32) (v6 : Int32) (v7 : Int32) (H : Heap) (locs : List Loc) (ls : Array Slot), k83 f g v1 v2 v3 v4 v5 v6 v7 = some z → wx_w γ A s H locs (mw γ o ad f g) → lv_has ls 11 [(0, .ref o), (1, .int v1), (2, .int v2), (3, .int v3), (4, .int v4), (5, .int v5), (6, .int v6), (7, .int v7)] → W p l e rmX8_look_2 s m as below meth c H locs 0 0 Q (F0 m 83 ls [])) {f : xF} {g : xG} {v1 : Int32} {v2 : Int32} {v3 : Int32} {v4 : Int32} {v5 : Int32} {v6 : Int32} {v7 : Int32} {H : Heap} {locs : List Loc} {ls : Array Slot} (w : wx_w γ A s H locs (mw γ o ad f g)) (hl : lv_has ls 11 [(0, .ref o), (1, .int v1), (2, .int v2), (3, .int v3), (4, .int v4), (5, .int v5), (6, .int v6), (7, .int v7)]) (hF : pX8_look_2_193 k83 f g v1 v2 v3 v4 v5 v6 v7 = some z) : W p l e rmX8_look_2 s m as below meth c H locs 0 0 Q (F0 m 193 ls []) := by
  have hx := C.1
  have hb := C.2.1
  unfold pX8_look_2_193 at hF
  refine lv_iinc (v := v7 + 1) (lv' := [(7, .int (v7 + 1)), (0, .ref o), (1, .int v1), (2, .int v2), (3, .int v3), (4, .int v4), (5, .int v5), (6, .int v6)]) hx hb dX8_look_2_193 hl (k := 7) rfl rfl (by decide) rfl (fun ls hl => ?_)
  refine lv_goto (tgt := 83) hx hb dX8_look_2_196 (by decide) ?_
  exact hk83 _ _ _ _ _ _ _ _ _ _ _ _ hF w (lv_sub hl [1, 2, 3, 4, 5, 6, 7, 0] rfl)

theorem bX8_look_2_181 {p : Program} {l : Launch} {e : Env} {s : State} {m : MethodId} {as : Array Value} {below : List Frame} {meth : Method} {c : Code} {A : Nat → Prop} {Q : State → Prop} {γ : wx_G} {o : Nat} {ad : Nat → Nat} {z : Int32 × xF × xG} (C : CallFix p m c cX8_look_2 11 s as lw_all RX8) (K : wx_C γ A s) (E : ∀ (H : Heap) (locs : List Loc) (ls : Array Slot) (pc : Nat), wx_w γ A s H locs (mw γ o ad z.2.1 z.2.2) → decode cX8_look_2 pc = .ok (.ireturn, 1) → W p l e rmX8_look_2 s m as below meth c H locs 0 0 Q (F0 m pc ls [.int z.1])) {k83 : xF → xG → Int32 → Int32 → Int32 → Int32 → Int32 → Int32 → Int32 → Option (Int32 × xF × xG)} (hk83 : ∀ (f : xF) (g : xG) (v1 : Int32) (v2 : Int32) (v3 : Int32) (v4 : Int32) (v5 : Int32) (v6 : Int32) (v7 : Int32) (H : Heap) (locs : List Loc) (ls : Array Slot), k83 f g v1 v2 v3 v4 v5 v6 v7 = some z → wx_w γ A s H locs (mw γ o ad f g) → lv_has ls 11 [(0, .ref o), (1, .int v1), (2, .int v2), (3, .int v3), (4, .int v4), (5, .int v5), (6, .int v6), (7, .int v7)] → W p l e rmX8_look_2 s m as below meth c H locs 0 0 Q (F0 m 83 ls [])) {f : xF} {g : xG} {v1 : Int32} {v2 : Int32} {v3 : Int32} {v7 : Int32} {v8 : Int32} {v9 : Int32} {H : Heap} {locs : List Loc} {ls : Array Slot} (w : wx_w γ A s H locs (mw γ o ad f g)) (hl : lv_has ls 11 [(0, .ref o), (1, .int v1), (2, .int v2), (3, .int v3), (7, .int v7), (8, .int v8), (9, .int v9)]) (hF : pX8_look_2_181 k83 f g v1 v2 v3 v7 v8 v9 = some z) : W p l e rmX8_look_2 s m as below meth c H locs 0 0 Q (F0 m 181 ls []) := by
  have hx := C.1
  have hb := C.2.1
  unfold pX8_look_2_181 at hF
  refine lv_iload hx hb dX8_look_2_181 (lv_at hl 4 rfl) ?_
  refine lv_istore (lv' := [(4, .int v7), (0, .ref o), (1, .int v1), (2, .int v2), (3, .int v3), (7, .int v7), (8, .int v8), (9, .int v9)]) hx hb dX8_look_2_183 hl (by decide) rfl (fun ls hl => ?_)
  refine lv_iload hx hb dX8_look_2_185 (lv_at hl 7 rfl) ?_
  refine lv_istore (lv' := [(5, .int v9), (4, .int v7), (0, .ref o), (1, .int v1), (2, .int v2), (3, .int v3), (7, .int v7), (8, .int v8), (9, .int v9)]) hx hb dX8_look_2_187 hl (by decide) rfl (fun ls hl => ?_)
  refine lv_iload hx hb dX8_look_2_189 (lv_at hl 7 rfl) ?_
  refine lv_istore (lv' := [(6, .int v8), (5, .int v9), (4, .int v7), (0, .ref o), (1, .int v1), (2, .int v2), (3, .int v3), (7, .int v7), (8, .int v8), (9, .int v9)]) hx hb dX8_look_2_191 hl (by decide) rfl (fun ls hl => ?_)
  exact bX8_look_2_193 C K E hk83 w (lv_sub hl [3, 4, 5, 6, 2, 1, 0, 7] rfl) hF

theorem bX8_look_2_151 {p : Program} {l : Launch} {e : Env} {s : State} {m : MethodId} {as : Array Value} {below : List Frame} {meth : Method} {c : Code} {A : Nat → Prop} {Q : State → Prop} {γ : wx_G} {o : Nat} {ad : Nat → Nat} {z : Int32 × xF × xG} (C : CallFix p m c cX8_look_2 11 s as lw_all RX8) (K : wx_C γ A s) (E : ∀ (H : Heap) (locs : List Loc) (ls : Array Slot) (pc : Nat), wx_w γ A s H locs (mw γ o ad z.2.1 z.2.2) → decode cX8_look_2 pc = .ok (.ireturn, 1) → W p l e rmX8_look_2 s m as below meth c H locs 0 0 Q (F0 m pc ls [.int z.1])) {k83 : xF → xG → Int32 → Int32 → Int32 → Int32 → Int32 → Int32 → Int32 → Option (Int32 × xF × xG)} (hk83 : ∀ (f : xF) (g : xG) (v1 : Int32) (v2 : Int32) (v3 : Int32) (v4 : Int32) (v5 : Int32) (v6 : Int32) (v7 : Int32) (H : Heap) (locs : List Loc) (ls : Array Slot), k83 f g v1 v2 v3 v4 v5 v6 v7 = some z → wx_w γ A s H locs (mw γ o ad f g) → lv_has ls 11 [(0, .ref o), (1, .int v1), (2, .int v2), (3, .int v3), (4, .int v4), (5, .int v5), (6, .int v6), (7, .int v7)] → W p l e rmX8_look_2 s m as below meth c H locs 0 0 Q (F0 m 83 ls [])) {f : xF} {g : xG} {v1 : Int32} {v2 : Int32} {v3 : Int32} {v4 : Int32} {v5 : Int32} {v6 : Int32} {v7 : Int32} {v8 : Int32} {v9 : Int32} {H : Heap} {locs : List Loc} {ls : Array Slot} (w : wx_w γ A s H locs (mw γ o ad f g)) (hl : lv_has ls 11 [(0, .ref o), (1, .int v1), (2, .int v2), (3, .int v3), (4, .int v4), (5, .int v5), (6, .int v6), (7, .int v7), (8, .int v8), (9, .int v9)]) (hF : pX8_look_2_151 k83 f g v1 v2 v3 v4 v5 v6 v7 v8 v9 = some z) : W p l e rmX8_look_2 s m as below meth c H locs 0 0 Q (F0 m 151 ls []) := by
  have hx := C.1
  have hb := C.2.1
  unfold pX8_look_2_151 at hF
  refine lv_iload hx hb dX8_look_2_151 (lv_at hl 8 rfl) ?_
  refine lv_iload_n hx hb dX8_look_2_153 rfl (lv_at hl 1 rfl) ?_
  refine lv_icmp_gt (tgt := 193) hx hb dX8_look_2_154 (by decide) (fun c => ?_) (fun c => ?_)
  · have hF := (if_pos c).symm.trans hF
    exact bX8_look_2_193 C K E hk83 w (lv_sub hl [0, 1, 2, 3, 4, 5, 6, 7] rfl) hF
  · have hF := (if_neg c).symm.trans hF
    refine lv_iload hx hb dX8_look_2_157 (lv_at hl 9 rfl) ?_
    refine lv_iload hx hb dX8_look_2_159 (lv_at hl 5 rfl) ?_
    refine lv_icmp_lt (tgt := 193) hx hb dX8_look_2_161 (by decide) (fun c => ?_) (fun c => ?_)
    · have hF := (if_pos c).symm.trans hF
      exact bX8_look_2_193 C K E hk83 w (lv_sub hl [0, 1, 2, 3, 4, 5, 6, 7] rfl) hF
    · have hF := (if_neg c).symm.trans hF
      refine lv_iload hx hb dX8_look_2_164 (lv_at hl 9 rfl) ?_
      refine lv_iload hx hb dX8_look_2_166 (lv_at hl 5 rfl) ?_
      refine lv_icmp_ne (tgt := 181) hx hb dX8_look_2_168 (by decide) (fun c => ?_) (fun c => ?_)
      · have hF := (if_neg c).symm.trans hF
        exact bX8_look_2_181 C K E hk83 w (lv_sub hl [0, 1, 2, 3, 7, 8, 9] rfl) hF
      · have hF := (if_pos c).symm.trans hF
        refine lv_iload hx hb dX8_look_2_171 (lv_at hl 8 rfl) ?_
        refine lv_iload hx hb dX8_look_2_173 (lv_at hl 6 rfl) ?_
        refine lv_icmp_lt (tgt := 181) hx hb dX8_look_2_175 (by decide) (fun c => ?_) (fun c => ?_)
        · have hF := (if_pos c).symm.trans hF
          exact bX8_look_2_181 C K E hk83 w (lv_sub hl [0, 1, 2, 3, 7, 8, 9] rfl) hF
        · have hF := (if_neg c).symm.trans hF
          refine lv_goto (tgt := 193) hx hb dX8_look_2_178 (by decide) ?_
          exact bX8_look_2_193 C K E hk83 w (lv_sub hl [0, 1, 2, 3, 4, 5, 6, 7] rfl) hF

theorem bX8_look_2_145 {p : Program} {l : Launch} {e : Env} {s : State} {m : MethodId} {as : Array Value} {below : List Frame} {meth : Method} {c : Code} {A : Nat → Prop} {Q : State → Prop} {γ : wx_G} {o : Nat} {ad : Nat → Nat} {z : Int32 × xF × xG} (C : CallFix p m c cX8_look_2 11 s as lw_all RX8) (K : wx_C γ A s) (E : ∀ (H : Heap) (locs : List Loc) (ls : Array Slot) (pc : Nat), wx_w γ A s H locs (mw γ o ad z.2.1 z.2.2) → decode cX8_look_2 pc = .ok (.ireturn, 1) → W p l e rmX8_look_2 s m as below meth c H locs 0 0 Q (F0 m pc ls [.int z.1])) {k83 : xF → xG → Int32 → Int32 → Int32 → Int32 → Int32 → Int32 → Int32 → Option (Int32 × xF × xG)} (hk83 : ∀ (f : xF) (g : xG) (v1 : Int32) (v2 : Int32) (v3 : Int32) (v4 : Int32) (v5 : Int32) (v6 : Int32) (v7 : Int32) (H : Heap) (locs : List Loc) (ls : Array Slot), k83 f g v1 v2 v3 v4 v5 v6 v7 = some z → wx_w γ A s H locs (mw γ o ad f g) → lv_has ls 11 [(0, .ref o), (1, .int v1), (2, .int v2), (3, .int v3), (4, .int v4), (5, .int v5), (6, .int v6), (7, .int v7)] → W p l e rmX8_look_2 s m as below meth c H locs 0 0 Q (F0 m 83 ls [])) {k100 : xF → xG → Int32 → Int32 → Int32 → Int32 → Int32 → Int32 → Int32 → Int32 → Int32 → Int32 → Option (Int32 × xF × xG)} (hk100 : ∀ (f : xF) (g : xG) (v1 : Int32) (v2 : Int32) (v3 : Int32) (v4 : Int32) (v5 : Int32) (v6 : Int32) (v7 : Int32) (v8 : Int32) (v9 : Int32) (v10 : Int32) (H : Heap) (locs : List Loc) (ls : Array Slot), k100 f g v1 v2 v3 v4 v5 v6 v7 v8 v9 v10 = some z → wx_w γ A s H locs (mw γ o ad f g) → lv_has ls 11 [(0, .ref o), (1, .int v1), (2, .int v2), (3, .int v3), (4, .int v4), (5, .int v5), (6, .int v6), (7, .int v7), (8, .int v8), (9, .int v9), (10, .int v10)] → W p l e rmX8_look_2 s m as below meth c H locs 0 0 Q (F0 m 100 ls [])) {f : xF} {g : xG} {v1 : Int32} {v2 : Int32} {v3 : Int32} {v4 : Int32} {v5 : Int32} {v6 : Int32} {v7 : Int32} {v8 : Int32} {v9 : Int32} {v10 : Int32} {H : Heap} {locs : List Loc} {ls : Array Slot} (w : wx_w γ A s H locs (mw γ o ad f g)) (hl : lv_has ls 11 [(0, .ref o), (1, .int v1), (2, .int v2), (3, .int v3), (4, .int v4), (5, .int v5), (6, .int v6), (7, .int v7), (8, .int v8), (9, .int v9), (10, .int v10)]) (hF : pX8_look_2_145 k83 k100 f g v1 v2 v3 v4 v5 v6 v7 v8 v9 v10 = some z) : W p l e rmX8_look_2 s m as below meth c H locs 0 0 Q (F0 m 145 ls []) := by
  have hx := C.1
  have hb := C.2.1
  unfold pX8_look_2_145 at hF
  refine lv_iinc (v := v10 + 1) (lv' := [(10, .int (v10 + 1)), (0, .ref o), (1, .int v1), (2, .int v2), (3, .int v3), (4, .int v4), (5, .int v5), (6, .int v6), (7, .int v7), (8, .int v8), (9, .int v9)]) hx hb dX8_look_2_145 hl (k := 10) rfl rfl (by decide) rfl (fun ls hl => ?_)
  refine lv_goto (tgt := 100) hx hb dX8_look_2_148 (by decide) ?_
  exact hk100 _ _ _ _ _ _ _ _ _ _ _ _ _ _ _ hF w (lv_sub hl [1, 2, 3, 4, 5, 6, 7, 8, 9, 10, 0] rfl)

theorem bX8_look_2_100 {p : Program} {l : Launch} {e : Env} {s : State} {m : MethodId} {as : Array Value} {below : List Frame} {meth : Method} {c : Code} {A : Nat → Prop} {Q : State → Prop} {γ : wx_G} {o : Nat} {ad : Nat → Nat} {z : Int32 × xF × xG} (C : CallFix p m c cX8_look_2 11 s as lw_all RX8) (K : wx_C γ A s) (E : ∀ (H : Heap) (locs : List Loc) (ls : Array Slot) (pc : Nat), wx_w γ A s H locs (mw γ o ad z.2.1 z.2.2) → decode cX8_look_2 pc = .ok (.ireturn, 1) → W p l e rmX8_look_2 s m as below meth c H locs 0 0 Q (F0 m pc ls [.int z.1])) {k83 : xF → xG → Int32 → Int32 → Int32 → Int32 → Int32 → Int32 → Int32 → Option (Int32 × xF × xG)} (hk83 : ∀ (f : xF) (g : xG) (v1 : Int32) (v2 : Int32) (v3 : Int32) (v4 : Int32) (v5 : Int32) (v6 : Int32) (v7 : Int32) (H : Heap) (locs : List Loc) (ls : Array Slot), k83 f g v1 v2 v3 v4 v5 v6 v7 = some z → wx_w γ A s H locs (mw γ o ad f g) → lv_has ls 11 [(0, .ref o), (1, .int v1), (2, .int v2), (3, .int v3), (4, .int v4), (5, .int v5), (6, .int v6), (7, .int v7)] → W p l e rmX8_look_2 s m as below meth c H locs 0 0 Q (F0 m 83 ls [])) : ∀ (n : Nat) (f : xF) (g : xG) (v1 : Int32) (v2 : Int32) (v3 : Int32) (v4 : Int32) (v5 : Int32) (v6 : Int32) (v7 : Int32) (v8 : Int32) (v9 : Int32) (v10 : Int32) (H : Heap) (locs : List Loc) (ls : Array Slot), pX8_look_2_100 k83 n f g v1 v2 v3 v4 v5 v6 v7 v8 v9 v10 = some z → wx_w γ A s H locs (mw γ o ad f g) → lv_has ls 11 [(0, .ref o), (1, .int v1), (2, .int v2), (3, .int v3), (4, .int v4), (5, .int v5), (6, .int v6), (7, .int v7), (8, .int v8), (9, .int v9), (10, .int v10)] → W p l e rmX8_look_2 s m as below meth c H locs 0 0 Q (F0 m 100 ls []) := by
  have hx := C.1
  have hb := C.2.1
  intro n
  induction n with
  | zero =>
    intro f g v1 v2 v3 v4 v5 v6 v7 v8 v9 v10 H locs ls hF w hl
    have hF : (none : Option (Int32 × xF × xG)) = some z := hF
    cases hF
  | succ n ih =>
    intro f g v1 v2 v3 v4 v5 v6 v7 v8 v9 v10 H locs ls hF w hl
    rw [pX8_look_2_100] at hF
    refine lv_iload hx hb dX8_look_2_100 (lv_at hl 10 rfl) ?_
    refine lv_iload_n hx hb dX8_look_2_102 rfl (lv_at hl 3 rfl) ?_
    refine lv_icmp_ge (tgt := 151) hx hb dX8_look_2_103 (by decide) (fun c => ?_) (fun c => ?_)
    · have hF := (if_pos c).symm.trans hF
      exact bX8_look_2_151 C K E hk83 w (lv_sub hl [0, 1, 2, 3, 4, 5, 6, 7, 8, 9] rfl) hF
    · have hF := (if_neg c).symm.trans hF
      refine lv_iload hx hb dX8_look_2_106 (lv_at hl 7 rfl) ?_
      refine lv_iload hx hb dX8_look_2_108 (lv_at hl 10 rfl) ?_
      refine lv_ishr hx hb dX8_look_2_110 ?_
      refine lv_iconst (v := (1 : Int32)) hx hb dX8_look_2_111 (by decide) ?_
      refine lv_iand hx hb dX8_look_2_112 ?_
      refine lv_if_ne (tgt := 119) hx hb dX8_look_2_113 (by decide) (fun c => ?_) (fun c => ?_)
      · have hF := (if_neg c).symm.trans hF
        refine lv_iload hx hb dX8_look_2_119 (lv_at hl 8 rfl) ?_
        refine lv_iconst (v := (3 : Int32)) hx hb dX8_look_2_121 (by decide) ?_
        refine lv_aload_n hx hb dX8_look_2_122 rfl (lv_at hl 0 rfl) ?_
        refine mget_6 C K w dX8_look_2_123 ?_
        refine lv_iload hx hb dX8_look_2_126 (lv_at hl 10 rfl) ?_
        obtain ⟨hi, hF⟩ := gin_if hF
        refine mald_6 C K w hi dX8_look_2_128 ?_
        refine lv_iadd hx hb dX8_look_2_129 ?_
        refine lv_iadd hx hb dX8_look_2_130 ?_
        refine lv_istore (lv' := [(8, .int (v8 + ((3 : Int32) + (g 6 v10.toNatClampNeg)))), (0, .ref o), (1, .int v1), (2, .int v2), (3, .int v3), (4, .int v4), (5, .int v5), (6, .int v6), (7, .int v7), (9, .int v9), (10, .int v10)]) hx hb dX8_look_2_131 hl (by decide) rfl (fun ls hl => ?_)
        refine lv_iload hx hb dX8_look_2_133 (lv_at hl 9 rfl) ?_
        refine lv_aload_n hx hb dX8_look_2_135 rfl (lv_at hl 1 rfl) ?_
        refine mget_53 C K w dX8_look_2_136 ?_
        refine lv_iload hx hb dX8_look_2_139 (lv_at hl 10 rfl) ?_
        obtain ⟨hi, hF⟩ := gin_if hF
        refine mald_53 C K w hi dX8_look_2_141 ?_
        refine lv_iadd hx hb dX8_look_2_142 ?_
        refine lv_istore (lv' := [(9, .int (v9 + (g 53 v10.toNatClampNeg))), (8, .int (v8 + ((3 : Int32) + (g 6 v10.toNatClampNeg)))), (0, .ref o), (1, .int v1), (2, .int v2), (3, .int v3), (4, .int v4), (5, .int v5), (6, .int v6), (7, .int v7), (10, .int v10)]) hx hb dX8_look_2_143 hl (by decide) rfl (fun ls hl => ?_)
        exact bX8_look_2_145 C K E hk83 ih w (lv_sub hl [2, 3, 4, 5, 6, 7, 8, 9, 1, 0, 10] rfl) hF
      · have hF := (if_pos c).symm.trans hF
        refine lv_goto (tgt := 145) hx hb dX8_look_2_116 (by decide) ?_
        exact bX8_look_2_145 C K E hk83 ih w hl hF

theorem bX8_look_2_83 {p : Program} {l : Launch} {e : Env} {s : State} {m : MethodId} {as : Array Value} {below : List Frame} {meth : Method} {c : Code} {A : Nat → Prop} {Q : State → Prop} {γ : wx_G} {o : Nat} {ad : Nat → Nat} {z : Int32 × xF × xG} (C : CallFix p m c cX8_look_2 11 s as lw_all RX8) (K : wx_C γ A s) (E : ∀ (H : Heap) (locs : List Loc) (ls : Array Slot) (pc : Nat), wx_w γ A s H locs (mw γ o ad z.2.1 z.2.2) → decode cX8_look_2 pc = .ok (.ireturn, 1) → W p l e rmX8_look_2 s m as below meth c H locs 0 0 Q (F0 m pc ls [.int z.1])) : ∀ (n : Nat) (f : xF) (g : xG) (v1 : Int32) (v2 : Int32) (v3 : Int32) (v4 : Int32) (v5 : Int32) (v6 : Int32) (v7 : Int32) (H : Heap) (locs : List Loc) (ls : Array Slot), pX8_look_2_83 n f g v1 v2 v3 v4 v5 v6 v7 = some z → wx_w γ A s H locs (mw γ o ad f g) → lv_has ls 11 [(0, .ref o), (1, .int v1), (2, .int v2), (3, .int v3), (4, .int v4), (5, .int v5), (6, .int v6), (7, .int v7)] → W p l e rmX8_look_2 s m as below meth c H locs 0 0 Q (F0 m 83 ls []) := by
  have hx := C.1
  have hb := C.2.1
  intro n
  induction n with
  | zero =>
    intro f g v1 v2 v3 v4 v5 v6 v7 H locs ls hF w hl
    have hF : (none : Option (Int32 × xF × xG)) = some z := hF
    cases hF
  | succ n ih =>
    intro f g v1 v2 v3 v4 v5 v6 v7 H locs ls hF w hl
    rw [pX8_look_2_83] at hF
    refine lv_iload hx hb dX8_look_2_83 (lv_at hl 7 rfl) ?_
    refine lv_iconst (v := (1 : Int32)) hx hb dX8_look_2_85 (by decide) ?_
    refine lv_iload_n hx hb dX8_look_2_86 rfl (lv_at hl 3 rfl) ?_
    refine lv_ishl hx hb dX8_look_2_87 ?_
    refine lv_icmp_ge (tgt := 199) hx hb dX8_look_2_88 (by decide) (fun c => ?_) (fun c => ?_)
    · have hF := (if_pos c).symm.trans hF
      exact bX8_look_2_199 C K E w (lv_sub hl [2, 4, 5, 6] rfl) hF
    · have hF := (if_neg c).symm.trans hF
      refine lv_iconst (v := (0 : Int32)) hx hb dX8_look_2_91 (by decide) ?_
      refine lv_istore (lv' := [(8, .int (0 : Int32)), (0, .ref o), (1, .int v1), (2, .int v2), (3, .int v3), (4, .int v4), (5, .int v5), (6, .int v6), (7, .int v7)]) hx hb dX8_look_2_92 hl (by decide) rfl (fun ls hl => ?_)
      refine lv_iconst (v := (0 : Int32)) hx hb dX8_look_2_94 (by decide) ?_
      refine lv_istore (lv' := [(9, .int (0 : Int32)), (8, .int (0 : Int32)), (0, .ref o), (1, .int v1), (2, .int v2), (3, .int v3), (4, .int v4), (5, .int v5), (6, .int v6), (7, .int v7)]) hx hb dX8_look_2_95 hl (by decide) rfl (fun ls hl => ?_)
      refine lv_iconst (v := (0 : Int32)) hx hb dX8_look_2_97 (by decide) ?_
      refine lv_istore (lv' := [(10, .int (0 : Int32)), (9, .int (0 : Int32)), (8, .int (0 : Int32)), (0, .ref o), (1, .int v1), (2, .int v2), (3, .int v3), (4, .int v4), (5, .int v5), (6, .int v6), (7, .int v7)]) hx hb dX8_look_2_98 hl (by decide) rfl (fun ls hl => ?_)
      exact bX8_look_2_100 C K E ih 5000 _ _ _ _ _ _ _ _ _ _ _ _ _ _ _ hF w (lv_sub hl [3, 4, 5, 6, 7, 8, 9, 10, 2, 1, 0] rfl)

theorem bX8_look_2_71 {p : Program} {l : Launch} {e : Env} {s : State} {m : MethodId} {as : Array Value} {below : List Frame} {meth : Method} {c : Code} {A : Nat → Prop} {Q : State → Prop} {γ : wx_G} {o : Nat} {ad : Nat → Nat} {z : Int32 × xF × xG} (C : CallFix p m c cX8_look_2 11 s as lw_all RX8) (K : wx_C γ A s) (E : ∀ (H : Heap) (locs : List Loc) (ls : Array Slot) (pc : Nat), wx_w γ A s H locs (mw γ o ad z.2.1 z.2.2) → decode cX8_look_2 pc = .ok (.ireturn, 1) → W p l e rmX8_look_2 s m as below meth c H locs 0 0 Q (F0 m pc ls [.int z.1])) {f : xF} {g : xG} {v1 : Int32} {v2 : Int32} {v3 : Int32} {H : Heap} {locs : List Loc} {ls : Array Slot} (w : wx_w γ A s H locs (mw γ o ad f g)) (hl : lv_has ls 11 [(0, .ref o), (1, .int v1), (2, .int v2), (3, .int v3)]) (hF : pX8_look_2_71 f g v1 v2 v3 = some z) : W p l e rmX8_look_2 s m as below meth c H locs 0 0 Q (F0 m 71 ls []) := by
  have hx := C.1
  have hb := C.2.1
  unfold pX8_look_2_71 at hF
  refine lv_iconst (v := (0 : Int32)) hx hb dX8_look_2_71 (by decide) ?_
  refine lv_istore (lv' := [(4, .int (0 : Int32)), (0, .ref o), (1, .int v1), (2, .int v2), (3, .int v3)]) hx hb dX8_look_2_72 hl (by decide) rfl (fun ls hl => ?_)
  refine lv_iconst (v := (0 : Int32)) hx hb dX8_look_2_74 (by decide) ?_
  refine lv_istore (lv' := [(5, .int (0 : Int32)), (4, .int (0 : Int32)), (0, .ref o), (1, .int v1), (2, .int v2), (3, .int v3)]) hx hb dX8_look_2_75 hl (by decide) rfl (fun ls hl => ?_)
  refine lv_iconst (v := (0 : Int32)) hx hb dX8_look_2_77 (by decide) ?_
  refine lv_istore (lv' := [(6, .int (0 : Int32)), (5, .int (0 : Int32)), (4, .int (0 : Int32)), (0, .ref o), (1, .int v1), (2, .int v2), (3, .int v3)]) hx hb dX8_look_2_78 hl (by decide) rfl (fun ls hl => ?_)
  refine lv_iconst (v := (1 : Int32)) hx hb dX8_look_2_80 (by decide) ?_
  refine lv_istore (lv' := [(7, .int (1 : Int32)), (6, .int (0 : Int32)), (5, .int (0 : Int32)), (4, .int (0 : Int32)), (0, .ref o), (1, .int v1), (2, .int v2), (3, .int v3)]) hx hb dX8_look_2_81 hl (by decide) rfl (fun ls hl => ?_)
  exact bX8_look_2_83 C K E 5000 _ _ _ _ _ _ _ _ _ _ _ _ hF w (lv_sub hl [4, 5, 6, 7, 3, 2, 1, 0] rfl)

theorem bX8_look_2_46 {p : Program} {l : Launch} {e : Env} {s : State} {m : MethodId} {as : Array Value} {below : List Frame} {meth : Method} {c : Code} {A : Nat → Prop} {Q : State → Prop} {γ : wx_G} {o : Nat} {ad : Nat → Nat} {z : Int32 × xF × xG} (C : CallFix p m c cX8_look_2 11 s as lw_all RX8) (K : wx_C γ A s) (E : ∀ (H : Heap) (locs : List Loc) (ls : Array Slot) (pc : Nat), wx_w γ A s H locs (mw γ o ad z.2.1 z.2.2) → decode cX8_look_2 pc = .ok (.ireturn, 1) → W p l e rmX8_look_2 s m as below meth c H locs 0 0 Q (F0 m pc ls [.int z.1])) : ∀ (n : Nat) (f : xF) (g : xG) (v1 : Int32) (v2 : Int32) (v3 : Int32) (v4 : Int32) (H : Heap) (locs : List Loc) (ls : Array Slot), pX8_look_2_46 n f g v1 v2 v3 v4 = some z → wx_w γ A s H locs (mw γ o ad f g) → lv_has ls 11 [(0, .ref o), (1, .int v1), (2, .int v2), (3, .int v3), (4, .int v4)] → W p l e rmX8_look_2 s m as below meth c H locs 0 0 Q (F0 m 46 ls []) := by
  have hx := C.1
  have hb := C.2.1
  intro n
  induction n with
  | zero =>
    intro f g v1 v2 v3 v4 H locs ls hF w hl
    have hF : (none : Option (Int32 × xF × xG)) = some z := hF
    cases hF
  | succ n ih =>
    intro f g v1 v2 v3 v4 H locs ls hF w hl
    rw [pX8_look_2_46] at hF
    refine lv_iload hx hb dX8_look_2_46 (lv_at hl 4 rfl) ?_
    refine lv_iload_n hx hb dX8_look_2_48 rfl (lv_at hl 3 rfl) ?_
    refine lv_icmp_ge (tgt := 71) hx hb dX8_look_2_49 (by decide) (fun c => ?_) (fun c => ?_)
    · have hF := (if_pos c).symm.trans hF
      exact bX8_look_2_71 C K E w (lv_sub hl [0, 1, 2, 3] rfl) hF
    · have hF := (if_neg c).symm.trans hF
      refine lv_aload_n hx hb dX8_look_2_52 rfl (lv_at hl 0 rfl) ?_
      refine mget_53 C K w dX8_look_2_53 ?_
      refine lv_iload hx hb dX8_look_2_56 (lv_at hl 4 rfl) ?_
      refine lv_aload_n hx hb dX8_look_2_58 rfl (lv_at hl 0 rfl) ?_
      refine lv_iload hx hb dX8_look_2_59 (lv_at hl 4 rfl) ?_
      obtain ⟨r61, hr, hF⟩ := obd hF
      refine rX8_worthOf C K w hr hl.1 ⟨Nat.le_of_ble_eq_true rfl, Nat.le_of_ble_eq_true rfl⟩ (Nat.le_of_ble_eq_true rfl) dX8_look_2_61 (fun H locs w => ?_)
      obtain ⟨hi, hF⟩ := gin_if hF
      refine mast_53 C K w hi dX8_look_2_64 (fun H locs w => ?_)
      refine lv_iinc (v := v4 + 1) (lv' := [(4, .int (v4 + 1)), (0, .ref o), (1, .int v1), (2, .int v2), (3, .int v3)]) hx hb dX8_look_2_65 hl (k := 4) rfl rfl (by decide) rfl (fun ls hl => ?_)
      refine lv_goto (tgt := 46) hx hb dX8_look_2_68 (by decide) ?_
      exact ih _ _ _ _ _ _ _ _ _ hF w (lv_sub hl [1, 2, 3, 4, 0] rfl)

theorem bX8_look_2_42 {p : Program} {l : Launch} {e : Env} {s : State} {m : MethodId} {as : Array Value} {below : List Frame} {meth : Method} {c : Code} {A : Nat → Prop} {Q : State → Prop} {γ : wx_G} {o : Nat} {ad : Nat → Nat} {z : Int32 × xF × xG} (C : CallFix p m c cX8_look_2 11 s as lw_all RX8) (K : wx_C γ A s) (E : ∀ (H : Heap) (locs : List Loc) (ls : Array Slot) (pc : Nat), wx_w γ A s H locs (mw γ o ad z.2.1 z.2.2) → decode cX8_look_2 pc = .ok (.ireturn, 1) → W p l e rmX8_look_2 s m as below meth c H locs 0 0 Q (F0 m pc ls [.int z.1])) {f : xF} {g : xG} {v1 : Int32} {v2 : Int32} {t0 : Int32} {H : Heap} {locs : List Loc} {ls : Array Slot} (w : wx_w γ A s H locs (mw γ o ad f g)) (hl : lv_has ls 11 [(0, .ref o), (1, .int v1), (2, .int v2)]) (hF : pX8_look_2_42 f g v1 v2 t0 = some z) : W p l e rmX8_look_2 s m as below meth c H locs 0 0 Q (F0 m 42 ls [.int t0]) := by
  have hx := C.1
  have hb := C.2.1
  unfold pX8_look_2_42 at hF
  refine lv_istore_n (lv' := [(3, .int t0), (0, .ref o), (1, .int v1), (2, .int v2)]) hx hb dX8_look_2_42 rfl hl (by decide) rfl (fun ls hl => ?_)
  refine lv_iconst (v := (0 : Int32)) hx hb dX8_look_2_43 (by decide) ?_
  refine lv_istore (lv' := [(4, .int (0 : Int32)), (3, .int t0), (0, .ref o), (1, .int v1), (2, .int v2)]) hx hb dX8_look_2_44 hl (by decide) rfl (fun ls hl => ?_)
  exact bX8_look_2_46 C K E 5000 _ _ _ _ _ _ _ _ _ hF w (lv_sub hl [2, 3, 4, 1, 0] rfl)

theorem bX8_look_2_0 {p : Program} {l : Launch} {e : Env} {s : State} {m : MethodId} {as : Array Value} {below : List Frame} {meth : Method} {c : Code} {A : Nat → Prop} {Q : State → Prop} {γ : wx_G} {o : Nat} {ad : Nat → Nat} {z : Int32 × xF × xG} (C : CallFix p m c cX8_look_2 11 s as lw_all RX8) (K : wx_C γ A s) (E : ∀ (H : Heap) (locs : List Loc) (ls : Array Slot) (pc : Nat), wx_w γ A s H locs (mw γ o ad z.2.1 z.2.2) → decode cX8_look_2 pc = .ok (.ireturn, 1) → W p l e rmX8_look_2 s m as below meth c H locs 0 0 Q (F0 m pc ls [.int z.1])) {f : xF} {g : xG} {v1 : Int32} {v2 : Int32} {H : Heap} {locs : List Loc} {ls : Array Slot} (w : wx_w γ A s H locs (mw γ o ad f g)) (hl : lv_has ls 11 [(0, .ref o), (1, .int v1), (2, .int v2)]) (hF : pX8_look_2_0 f g v1 v2 = some z) : W p l e rmX8_look_2 s m as below meth c H locs 0 0 Q (F0 m 0 ls []) := by
  have hx := C.1
  have hb := C.2.1
  unfold pX8_look_2_0 at hF
  refine lv_aload_n hx hb dX8_look_2_0 rfl (lv_at hl 0 rfl) ?_
  refine lv_iload_n hx hb dX8_look_2_1 rfl (lv_at hl 1 rfl) ?_
  refine lv_iconst (v := (0 : Int32)) hx hb dX8_look_2_2 (by decide) ?_
  refine lv_bipush (v := (99 : Int32)) hx hb dX8_look_2_3 (by decide) ?_
  obtain ⟨r5, hr, hF⟩ := obd hF
  refine rX8_in C K w hr hl.1 ⟨Nat.le_of_ble_eq_true rfl, Nat.le_of_ble_eq_true rfl⟩ (Nat.le_of_ble_eq_true rfl) dX8_look_2_5 (fun H locs w => ?_)
  refine lv_if_eq (tgt := 21) hx hb dX8_look_2_8 (by decide) (fun c => ?_) (fun c => ?_)
  · have hF := (if_pos c).symm.trans hF
    exact bX8_look_2_21 C K E w (lv_sub hl [] rfl) hF
  · have hF := (if_neg c).symm.trans hF
    refine lv_aload_n hx hb dX8_look_2_11 rfl (lv_at hl 0 rfl) ?_
    refine lv_iload_n hx hb dX8_look_2_12 rfl (lv_at hl 2 rfl) ?_
    refine lv_iconst (v := (0 : Int32)) hx hb dX8_look_2_13 (by decide) ?_
    refine lv_iconst (v := (2 : Int32)) hx hb dX8_look_2_14 (by decide) ?_
    obtain ⟨r15, hr, hF⟩ := obd hF
    refine rX8_in C K w hr hl.1 ⟨Nat.le_of_ble_eq_true rfl, Nat.le_of_ble_eq_true rfl⟩ (Nat.le_of_ble_eq_true rfl) dX8_look_2_15 (fun H locs w => ?_)
    refine lv_if_ne (tgt := 24) hx hb dX8_look_2_18 (by decide) (fun c => ?_) (fun c => ?_)
    · have hF := (if_neg c).symm.trans hF
      refine lv_aload_n hx hb dX8_look_2_24 rfl (lv_at hl 0 rfl) ?_
      refine mget_1 C K w dX8_look_2_25 ?_
      refine lv_bipush (v := (12 : Int32)) hx hb dX8_look_2_28 (by decide) ?_
      refine lv_icmp_ge (tgt := 40) hx hb dX8_look_2_30 (by decide) (fun c => ?_) (fun c => ?_)
      · have hF := (if_pos c).symm.trans hF
        refine lv_bipush (v := (12 : Int32)) hx hb dX8_look_2_40 (by decide) ?_
        exact bX8_look_2_42 C K E w hl hF
      · have hF := (if_neg c).symm.trans hF
        refine lv_aload_n hx hb dX8_look_2_33 rfl (lv_at hl 0 rfl) ?_
        refine mget_1 C K w dX8_look_2_34 ?_
        refine lv_goto (tgt := 42) hx hb dX8_look_2_37 (by decide) ?_
        exact bX8_look_2_42 C K E w hl hF
    · have hF := (if_pos c).symm.trans hF
      exact bX8_look_2_21 C K E w (lv_sub hl [] rfl) hF

theorem mX8_look_2 {l : Launch} {γ : wx_G} {o : Nat} {ad : Nat → Nat} {f : xF} {g : xG} {v1 : Int32} {v2 : Int32} {z : Int32 × xF × xG} (hF : pX8_look_2 f g v1 v2 = some z) : wx_M γ l yX8_look_2 (ws_ yX8_look_2 cX8_look_2 11 (some .int)) rmX8_look_2 [.ref o, .int v1, .int v2] (mw γ o ad f g) (fun v ws => v = some (.int z.1) ∧ ws = (mw γ o ad z.2.1 z.2.2)) 0 0 := by
  refine wx_M.of (by decide) (Nat.le_of_ble_eq_true rfl) ?_
  intro p e s m as below meth c A ls C K w hr hlocks _ hl
  exact bX8_look_2_0 C K (fun H locs ls pc w d => wx_iret C hr hlocks w ⟨rfl, rfl⟩ d) w hl hF

/-! WalkingStonesModel.goers(II)I -/
abbrev rmX8_goers : Room := { frames := 5, cells := 0, slots := 0, locals := 122 }
def pX8_goers_38 (k9 : xF → xG → Int32 → Int32 → Int32 → Int32 → Option (Int32 × xF × xG)) (f : xF) (g : xG) (v1 : Int32) (v2 : Int32) (v4 : Int32) (t0 : Int32) (t1 : Int32) : Option (Int32 × xF × xG) := k9 f g v1 v2 (t0 ||| t1) (v4 + 1)

def pX8_goers_9 : Nat → xF → xG → Int32 → Int32 → Int32 → Int32 → Option (Int32 × xF × xG)
  | 0, _, _, _, _, _, _ => none
  | n + 1, f, g, v1, v2, v3, v4 => if (f 0) ≤ v4 then some (v3, f, g) else (pX8_canGo f g v1 v4 v2).bind (fun r24 => if r24.1 = 0 then pX8_goers_38 (pX8_goers_9 n) r24.2.1 r24.2.2 v1 v2 v4 v3 (0 : Int32) else pX8_goers_38 (pX8_goers_9 n) r24.2.1 r24.2.2 v1 v2 v4 v3 ((1 : Int32) <<< (v4 &&& 31)))

def pX8_goers_0 (f : xF) (g : xG) (v1 : Int32) (v2 : Int32) : Option (Int32 × xF × xG) := (pX8_begin f g).bind (fun r1 => pX8_goers_9 5000 r1.1 r1.2 v1 v2 (0 : Int32) (0 : Int32))

abbrev pX8_goers (f : xF) (g : xG) (v1 : Int32) (v2 : Int32) : Option (Int32 × xF × xG) := pX8_goers_0 f g v1 v2
theorem bX8_goers_38 {p : Program} {l : Launch} {e : Env} {s : State} {m : MethodId} {as : Array Value} {below : List Frame} {meth : Method} {c : Code} {A : Nat → Prop} {Q : State → Prop} {γ : wx_G} {o : Nat} {ad : Nat → Nat} {z : Int32 × xF × xG} (C : CallFix p m c cX8_goers 5 s as lw_all RX8) (K : wx_C γ A s) (E : ∀ (H : Heap) (locs : List Loc) (ls : Array Slot) (pc : Nat), wx_w γ A s H locs (mw γ o ad z.2.1 z.2.2) → decode cX8_goers pc = .ok (.ireturn, 1) → W p l e rmX8_goers s m as below meth c H locs 0 0 Q (F0 m pc ls [.int z.1])) {k9 : xF → xG → Int32 → Int32 → Int32 → Int32 → Option (Int32 × xF × xG)} (hk9 : ∀ (f : xF) (g : xG) (v1 : Int32) (v2 : Int32) (v3 : Int32) (v4 : Int32) (H : Heap) (locs : List Loc) (ls : Array Slot), k9 f g v1 v2 v3 v4 = some z → wx_w γ A s H locs (mw γ o ad f g) → lv_has ls 5 [(0, .ref o), (1, .int v1), (2, .int v2), (3, .int v3), (4, .int v4)] → W p l e rmX8_goers s m as below meth c H locs 0 0 Q (F0 m 9 ls [])) {f : xF} {g : xG} {v1 : Int32} {v2 : Int32} {v4 : Int32} {t0 : Int32} {t1 : Int32} {H : Heap} {locs : List Loc} {ls : Array Slot} (w : wx_w γ A s H locs (mw γ o ad f g)) (hl : lv_has ls 5 [(0, .ref o), (1, .int v1), (2, .int v2), (4, .int v4)]) (hF : pX8_goers_38 k9 f g v1 v2 v4 t0 t1 = some z) : W p l e rmX8_goers s m as below meth c H locs 0 0 Q (F0 m 38 ls [.int t1, .int t0]) := by
  have hx := C.1
  have hb := C.2.1
  unfold pX8_goers_38 at hF
  refine lv_ior hx hb dX8_goers_38 ?_
  refine lv_istore_n (lv' := [(3, .int (t0 ||| t1)), (0, .ref o), (1, .int v1), (2, .int v2), (4, .int v4)]) hx hb dX8_goers_39 rfl hl (by decide) rfl (fun ls hl => ?_)
  refine lv_iinc (v := v4 + 1) (lv' := [(4, .int (v4 + 1)), (3, .int (t0 ||| t1)), (0, .ref o), (1, .int v1), (2, .int v2)]) hx hb dX8_goers_40 hl (k := 4) rfl rfl (by decide) rfl (fun ls hl => ?_)
  refine lv_goto (tgt := 9) hx hb dX8_goers_43 (by decide) ?_
  exact hk9 _ _ _ _ _ _ _ _ _ hF w (lv_sub hl [2, 3, 4, 1, 0] rfl)

theorem bX8_goers_9 {p : Program} {l : Launch} {e : Env} {s : State} {m : MethodId} {as : Array Value} {below : List Frame} {meth : Method} {c : Code} {A : Nat → Prop} {Q : State → Prop} {γ : wx_G} {o : Nat} {ad : Nat → Nat} {z : Int32 × xF × xG} (C : CallFix p m c cX8_goers 5 s as lw_all RX8) (K : wx_C γ A s) (E : ∀ (H : Heap) (locs : List Loc) (ls : Array Slot) (pc : Nat), wx_w γ A s H locs (mw γ o ad z.2.1 z.2.2) → decode cX8_goers pc = .ok (.ireturn, 1) → W p l e rmX8_goers s m as below meth c H locs 0 0 Q (F0 m pc ls [.int z.1])) : ∀ (n : Nat) (f : xF) (g : xG) (v1 : Int32) (v2 : Int32) (v3 : Int32) (v4 : Int32) (H : Heap) (locs : List Loc) (ls : Array Slot), pX8_goers_9 n f g v1 v2 v3 v4 = some z → wx_w γ A s H locs (mw γ o ad f g) → lv_has ls 5 [(0, .ref o), (1, .int v1), (2, .int v2), (3, .int v3), (4, .int v4)] → W p l e rmX8_goers s m as below meth c H locs 0 0 Q (F0 m 9 ls []) := by
  have hx := C.1
  have hb := C.2.1
  intro n
  induction n with
  | zero =>
    intro f g v1 v2 v3 v4 H locs ls hF w hl
    have hF : (none : Option (Int32 × xF × xG)) = some z := hF
    cases hF
  | succ n ih =>
    intro f g v1 v2 v3 v4 H locs ls hF w hl
    rw [pX8_goers_9] at hF
    refine lv_iload hx hb dX8_goers_9 (lv_at hl 4 rfl) ?_
    refine lv_aload_n hx hb dX8_goers_11 rfl (lv_at hl 0 rfl) ?_
    refine mget_0 C K w dX8_goers_12 ?_
    refine lv_icmp_ge (tgt := 46) hx hb dX8_goers_15 (by decide) (fun c => ?_) (fun c => ?_)
    · have hF := (if_pos c).symm.trans hF
      refine lv_iload_n hx hb dX8_goers_46 rfl (lv_at hl 3 rfl) ?_
      have hF := Option.some.inj hF
      subst hF
      exact E _ _ _ _ w dX8_goers_47
    · have hF := (if_neg c).symm.trans hF
      refine lv_iload_n hx hb dX8_goers_18 rfl (lv_at hl 3 rfl) ?_
      refine lv_aload_n hx hb dX8_goers_19 rfl (lv_at hl 0 rfl) ?_
      refine lv_iload_n hx hb dX8_goers_20 rfl (lv_at hl 1 rfl) ?_
      refine lv_iload hx hb dX8_goers_21 (lv_at hl 4 rfl) ?_
      refine lv_iload_n hx hb dX8_goers_23 rfl (lv_at hl 2 rfl) ?_
      obtain ⟨r24, hr, hF⟩ := obd hF
      refine rX8_canGo C K w hr hl.1 ⟨Nat.le_of_ble_eq_true rfl, Nat.le_of_ble_eq_true rfl⟩ (Nat.le_of_ble_eq_true rfl) dX8_goers_24 (fun H locs w => ?_)
      refine lv_if_eq (tgt := 37) hx hb dX8_goers_27 (by decide) (fun c => ?_) (fun c => ?_)
      · have hF := (if_pos c).symm.trans hF
        refine lv_iconst (v := (0 : Int32)) hx hb dX8_goers_37 (by decide) ?_
        exact bX8_goers_38 C K E ih w (lv_sub hl [0, 1, 2, 4] rfl) hF
      · have hF := (if_neg c).symm.trans hF
        refine lv_iconst (v := (1 : Int32)) hx hb dX8_goers_30 (by decide) ?_
        refine lv_iload hx hb dX8_goers_31 (lv_at hl 4 rfl) ?_
        refine lv_ishl hx hb dX8_goers_33 ?_
        refine lv_goto (tgt := 38) hx hb dX8_goers_34 (by decide) ?_
        exact bX8_goers_38 C K E ih w (lv_sub hl [0, 1, 2, 4] rfl) hF

theorem bX8_goers_0 {p : Program} {l : Launch} {e : Env} {s : State} {m : MethodId} {as : Array Value} {below : List Frame} {meth : Method} {c : Code} {A : Nat → Prop} {Q : State → Prop} {γ : wx_G} {o : Nat} {ad : Nat → Nat} {z : Int32 × xF × xG} (C : CallFix p m c cX8_goers 5 s as lw_all RX8) (K : wx_C γ A s) (E : ∀ (H : Heap) (locs : List Loc) (ls : Array Slot) (pc : Nat), wx_w γ A s H locs (mw γ o ad z.2.1 z.2.2) → decode cX8_goers pc = .ok (.ireturn, 1) → W p l e rmX8_goers s m as below meth c H locs 0 0 Q (F0 m pc ls [.int z.1])) {f : xF} {g : xG} {v1 : Int32} {v2 : Int32} {H : Heap} {locs : List Loc} {ls : Array Slot} (w : wx_w γ A s H locs (mw γ o ad f g)) (hl : lv_has ls 5 [(0, .ref o), (1, .int v1), (2, .int v2)]) (hF : pX8_goers_0 f g v1 v2 = some z) : W p l e rmX8_goers s m as below meth c H locs 0 0 Q (F0 m 0 ls []) := by
  have hx := C.1
  have hb := C.2.1
  unfold pX8_goers_0 at hF
  refine lv_aload_n hx hb dX8_goers_0 rfl (lv_at hl 0 rfl) ?_
  obtain ⟨r1, hr, hF⟩ := obd hF
  refine rX8_begin C K w hr hl.1 ⟨Nat.le_of_ble_eq_true rfl, Nat.le_of_ble_eq_true rfl⟩ (Nat.le_of_ble_eq_true rfl) dX8_goers_1 (fun H locs w => ?_)
  refine lv_iconst (v := (0 : Int32)) hx hb dX8_goers_4 (by decide) ?_
  refine lv_istore_n (lv' := [(3, .int (0 : Int32)), (0, .ref o), (1, .int v1), (2, .int v2)]) hx hb dX8_goers_5 rfl hl (by decide) rfl (fun ls hl => ?_)
  refine lv_iconst (v := (0 : Int32)) hx hb dX8_goers_6 (by decide) ?_
  refine lv_istore (lv' := [(4, .int (0 : Int32)), (3, .int (0 : Int32)), (0, .ref o), (1, .int v1), (2, .int v2)]) hx hb dX8_goers_7 hl (by decide) rfl (fun ls hl => ?_)
  exact bX8_goers_9 C K E 5000 _ _ _ _ _ _ _ _ _ hF w (lv_sub hl [2, 3, 4, 1, 0] rfl)

theorem mX8_goers {l : Launch} {γ : wx_G} {o : Nat} {ad : Nat → Nat} {f : xF} {g : xG} {v1 : Int32} {v2 : Int32} {z : Int32 × xF × xG} (hF : pX8_goers f g v1 v2 = some z) : wx_M γ l yX8_goers (ws_ yX8_goers cX8_goers 5 (some .int)) rmX8_goers [.ref o, .int v1, .int v2] (mw γ o ad f g) (fun v ws => v = some (.int z.1) ∧ ws = (mw γ o ad z.2.1 z.2.2)) 0 0 := by
  refine wx_M.of (by decide) (Nat.le_of_ble_eq_true rfl) ?_
  intro p e s m as below meth c A ls C K w hr hlocks _ hl
  exact bX8_goers_0 C K (fun H locs ls pc w d => wx_iret C hr hlocks w ⟨rfl, rfl⟩ d) w hl hF
theorem rX8_goers {p : Program} {l : Launch} {e : Env} {R : Room} {s : State} {m : MethodId} {as : Array Value} {below : List Frame} {meth : Method} {c : Code} {H : Heap} {locs : List Loc} {cells slots : Nat} {Q : State → Prop} {cc : ByteArray} {nL pc : Nat} {ls : Array Slot} {rest : List Value} {γ : wx_G} {A : Nat → Prop} {o : Nat} {ad : Nat → Nat} {f : xF} {g : xG} {v1 : Int32} {v2 : Int32} {z : Int32 × xF × xG} (C : CallFix p m c cc nL s as lw_all RX8) (K : wx_C γ A s) (w : wx_w γ A s H locs (mw γ o ad f g)) (hF : pX8_goers f g v1 v2 = some z) (hls : ls.size = nL) (hR : rmX8_goers.frames + 1 ≤ R.frames ∧ 8 + (5 + 11) + rmX8_goers.locals ≤ R.locals) (hW : (rest.map fun v => v.category).sum ≤ 8) (d : decode cc pc = .ok (.invokevirtual 357, 3)) (kk : ∀ (H : Heap) (locs : List Loc), wx_w γ A s H locs (mw γ o ad z.2.1 z.2.2) → W p l e R s m as below meth c H locs cells slots Q (F0 m (pc + 3) ls (.int z.1 :: rest))) (hf : cells ≤ R.cells ∧ slots ≤ R.slots := by exact ⟨Nat.le_of_ble_eq_true rfl, Nat.le_of_ble_eq_true rfl⟩) : W p l e R s m as below meth c H locs cells slots Q (F0 m pc ls (.int v2 :: .int v1 :: .ref o :: rest)) :=
  wx_callV (n := 2) C K w (mX8_goers (l := l) hF) q1769 q1771 qs102 q123 q1772 rfl rfl (by decide +kernel) (va_recv K.1.1 w.1 (ci := 0) (q0 := 0) rfl rfl) rfl rfl hR hls hW hf d (fun v ws H1 locs1 hp w => by obtain ⟨rfl, rfl⟩ := hp; exact kk H1 locs1 w)

/-! WalkingStonesModel.foretold(II)I -/
abbrev rmX8_foretold : Room := { frames := 6, cells := 0, slots := 0, locals := 146 }
def pX8_foretold_27 (f : xF) (g : xG) (t0 : Int32) : Option (Int32 × xF × xG) := some (t0, f, g)

def pX8_foretold_25 (f : xF) (g : xG) : Option (Int32 × xF × xG) := pX8_foretold_27 f g (-2 : Int32)

def pX8_foretold_0 (f : xF) (g : xG) (v1 : Int32) (v2 : Int32) : Option (Int32 × xF × xG) := (pX8_isHow f g v1).bind (fun r2 => if r2 = 0 then pX8_foretold_25 f g else (pX8_isNight f g v2).bind (fun r10 => if r10 = 0 then pX8_foretold_25 f g else (pX8_goers f g v1 v2).bind (fun r19 => pX8_foretold_27 r19.2.1 r19.2.2 r19.1)))

abbrev pX8_foretold (f : xF) (g : xG) (v1 : Int32) (v2 : Int32) : Option (Int32 × xF × xG) := pX8_foretold_0 f g v1 v2
theorem bX8_foretold_27 {p : Program} {l : Launch} {e : Env} {s : State} {m : MethodId} {as : Array Value} {below : List Frame} {meth : Method} {c : Code} {A : Nat → Prop} {Q : State → Prop} {γ : wx_G} {o : Nat} {ad : Nat → Nat} {z : Int32 × xF × xG} (C : CallFix p m c cX8_foretold 3 s as lw_all RX8) (K : wx_C γ A s) (E : ∀ (H : Heap) (locs : List Loc) (ls : Array Slot) (pc : Nat), wx_w γ A s H locs (mw γ o ad z.2.1 z.2.2) → decode cX8_foretold pc = .ok (.ireturn, 1) → W p l e rmX8_foretold s m as below meth c H locs 0 0 Q (F0 m pc ls [.int z.1])) {f : xF} {g : xG} {t0 : Int32} {H : Heap} {locs : List Loc} {ls : Array Slot} (w : wx_w γ A s H locs (mw γ o ad f g)) (hl : lv_has ls 3 []) (hF : pX8_foretold_27 f g t0 = some z) : W p l e rmX8_foretold s m as below meth c H locs 0 0 Q (F0 m 27 ls [.int t0]) := by
  have hx := C.1
  have hb := C.2.1
  unfold pX8_foretold_27 at hF
  have hF := Option.some.inj hF
  subst hF
  exact E _ _ _ _ w dX8_foretold_27

theorem bX8_foretold_25 {p : Program} {l : Launch} {e : Env} {s : State} {m : MethodId} {as : Array Value} {below : List Frame} {meth : Method} {c : Code} {A : Nat → Prop} {Q : State → Prop} {γ : wx_G} {o : Nat} {ad : Nat → Nat} {z : Int32 × xF × xG} (C : CallFix p m c cX8_foretold 3 s as lw_all RX8) (K : wx_C γ A s) (E : ∀ (H : Heap) (locs : List Loc) (ls : Array Slot) (pc : Nat), wx_w γ A s H locs (mw γ o ad z.2.1 z.2.2) → decode cX8_foretold pc = .ok (.ireturn, 1) → W p l e rmX8_foretold s m as below meth c H locs 0 0 Q (F0 m pc ls [.int z.1])) {f : xF} {g : xG} {H : Heap} {locs : List Loc} {ls : Array Slot} (w : wx_w γ A s H locs (mw γ o ad f g)) (hl : lv_has ls 3 []) (hF : pX8_foretold_25 f g = some z) : W p l e rmX8_foretold s m as below meth c H locs 0 0 Q (F0 m 25 ls []) := by
  have hx := C.1
  have hb := C.2.1
  unfold pX8_foretold_25 at hF
  refine lv_bipush (v := (-2 : Int32)) hx hb dX8_foretold_25 (by decide) ?_
  exact bX8_foretold_27 C K E w hl hF

theorem bX8_foretold_0 {p : Program} {l : Launch} {e : Env} {s : State} {m : MethodId} {as : Array Value} {below : List Frame} {meth : Method} {c : Code} {A : Nat → Prop} {Q : State → Prop} {γ : wx_G} {o : Nat} {ad : Nat → Nat} {z : Int32 × xF × xG} (C : CallFix p m c cX8_foretold 3 s as lw_all RX8) (K : wx_C γ A s) (E : ∀ (H : Heap) (locs : List Loc) (ls : Array Slot) (pc : Nat), wx_w γ A s H locs (mw γ o ad z.2.1 z.2.2) → decode cX8_foretold pc = .ok (.ireturn, 1) → W p l e rmX8_foretold s m as below meth c H locs 0 0 Q (F0 m pc ls [.int z.1])) {f : xF} {g : xG} {v1 : Int32} {v2 : Int32} {H : Heap} {locs : List Loc} {ls : Array Slot} (w : wx_w γ A s H locs (mw γ o ad f g)) (hl : lv_has ls 3 [(0, .ref o), (1, .int v1), (2, .int v2)]) (hF : pX8_foretold_0 f g v1 v2 = some z) : W p l e rmX8_foretold s m as below meth c H locs 0 0 Q (F0 m 0 ls []) := by
  have hx := C.1
  have hb := C.2.1
  unfold pX8_foretold_0 at hF
  refine lv_aload_n hx hb dX8_foretold_0 rfl (lv_at hl 0 rfl) ?_
  refine lv_iload_n hx hb dX8_foretold_1 rfl (lv_at hl 1 rfl) ?_
  obtain ⟨r2, hr, hF⟩ := obd hF
  refine rX8_isHow C K w hr hl.1 ⟨Nat.le_of_ble_eq_true rfl, Nat.le_of_ble_eq_true rfl⟩ (Nat.le_of_ble_eq_true rfl) dX8_foretold_2 (fun H locs w => ?_)
  refine lv_if_eq (tgt := 25) hx hb dX8_foretold_5 (by decide) (fun c => ?_) (fun c => ?_)
  · have hF := (if_pos c).symm.trans hF
    exact bX8_foretold_25 C K E w (lv_sub hl [] rfl) hF
  · have hF := (if_neg c).symm.trans hF
    refine lv_aload_n hx hb dX8_foretold_8 rfl (lv_at hl 0 rfl) ?_
    refine lv_iload_n hx hb dX8_foretold_9 rfl (lv_at hl 2 rfl) ?_
    obtain ⟨r10, hr, hF⟩ := obd hF
    refine rX8_isNight C K w hr hl.1 ⟨Nat.le_of_ble_eq_true rfl, Nat.le_of_ble_eq_true rfl⟩ (Nat.le_of_ble_eq_true rfl) dX8_foretold_10 (fun H locs w => ?_)
    refine lv_if_eq (tgt := 25) hx hb dX8_foretold_13 (by decide) (fun c => ?_) (fun c => ?_)
    · have hF := (if_pos c).symm.trans hF
      exact bX8_foretold_25 C K E w (lv_sub hl [] rfl) hF
    · have hF := (if_neg c).symm.trans hF
      refine lv_aload_n hx hb dX8_foretold_16 rfl (lv_at hl 0 rfl) ?_
      refine lv_iload_n hx hb dX8_foretold_17 rfl (lv_at hl 1 rfl) ?_
      refine lv_iload_n hx hb dX8_foretold_18 rfl (lv_at hl 2 rfl) ?_
      obtain ⟨r19, hr, hF⟩ := obd hF
      refine rX8_goers C K w hr hl.1 ⟨Nat.le_of_ble_eq_true rfl, Nat.le_of_ble_eq_true rfl⟩ (Nat.le_of_ble_eq_true rfl) dX8_foretold_19 (fun H locs w => ?_)
      refine lv_goto (tgt := 27) hx hb dX8_foretold_22 (by decide) ?_
      exact bX8_foretold_27 C K E w (lv_sub hl [] rfl) hF

theorem mX8_foretold {l : Launch} {γ : wx_G} {o : Nat} {ad : Nat → Nat} {f : xF} {g : xG} {v1 : Int32} {v2 : Int32} {z : Int32 × xF × xG} (hF : pX8_foretold f g v1 v2 = some z) : wx_M γ l yX8_foretold (ws_ yX8_foretold cX8_foretold 3 (some .int)) rmX8_foretold [.ref o, .int v1, .int v2] (mw γ o ad f g) (fun v ws => v = some (.int z.1) ∧ ws = (mw γ o ad z.2.1 z.2.2)) 0 0 := by
  refine wx_M.of (by decide) (Nat.le_of_ble_eq_true rfl) ?_
  intro p e s m as below meth c A ls C K w hr hlocks _ hl
  exact bX8_foretold_0 C K (fun H locs ls pc w d => wx_iret C hr hlocks w ⟨rfl, rfl⟩ d) w hl hF

/-! WalkingStonesModel.isSheet(I)Z -/
abbrev rmX8_isSheet : Room := { frames := 1, cells := 0, slots := 0, locals := 23 }
def pX8_isSheet_0 (f : xF) (g : xG) (v1 : Int32) : Option (Int32) := (pX8_in f g v1 (0 : Int32) (3 : Int32)).bind (fun r4 => if gbz r4 = true then some (r4) else none)

abbrev pX8_isSheet (f : xF) (g : xG) (v1 : Int32) : Option (Int32) := pX8_isSheet_0 f g v1
theorem bX8_isSheet_0 {p : Program} {l : Launch} {e : Env} {s : State} {m : MethodId} {as : Array Value} {below : List Frame} {meth : Method} {c : Code} {A : Nat → Prop} {Q : State → Prop} {γ : wx_G} {o : Nat} {ad : Nat → Nat} {z : Int32} {f : xF} {g : xG} (C : CallFix p m c cX8_isSheet 2 s as lw_all RX8) (K : wx_C γ A s) (E : ∀ (H : Heap) (locs : List Loc) (ls : Array Slot) (pc : Nat), narrow .boolean (.int z) = .int z → wx_w γ A s H locs (mw γ o ad f g) → decode cX8_isSheet pc = .ok (.ireturn, 1) → W p l e rmX8_isSheet s m as below meth c H locs 0 0 Q (F0 m pc ls [.int z])) {v1 : Int32} {H : Heap} {locs : List Loc} {ls : Array Slot} (w : wx_w γ A s H locs (mw γ o ad f g)) (hl : lv_has ls 2 [(0, .ref o), (1, .int v1)]) (hF : pX8_isSheet_0 f g v1 = some z) : W p l e rmX8_isSheet s m as below meth c H locs 0 0 Q (F0 m 0 ls []) := by
  have hx := C.1
  have hb := C.2.1
  unfold pX8_isSheet_0 at hF
  refine lv_aload_n hx hb dX8_isSheet_0 rfl (lv_at hl 0 rfl) ?_
  refine lv_iload_n hx hb dX8_isSheet_1 rfl (lv_at hl 1 rfl) ?_
  refine lv_iconst (v := (0 : Int32)) hx hb dX8_isSheet_2 (by decide) ?_
  refine lv_iconst (v := (3 : Int32)) hx hb dX8_isSheet_3 (by decide) ?_
  obtain ⟨r4, hr, hF⟩ := obd hF
  refine rX8_in C K w hr hl.1 ⟨Nat.le_of_ble_eq_true rfl, Nat.le_of_ble_eq_true rfl⟩ (Nat.le_of_ble_eq_true rfl) dX8_isSheet_4 (fun H locs w => ?_)
  obtain ⟨hz, hF⟩ := gbz_if hF
  have hF := Option.some.inj hF
  subst hF
  exact E _ _ _ _ hz w dX8_isSheet_7

theorem mX8_isSheet {l : Launch} {γ : wx_G} {o : Nat} {ad : Nat → Nat} {f : xF} {g : xG} {v1 : Int32} {z : Int32} (hF : pX8_isSheet f g v1 = some z) : wx_M γ l yX8_isSheet (ws_ yX8_isSheet cX8_isSheet 2 (some .boolean)) rmX8_isSheet [.ref o, .int v1] (mw γ o ad f g) (fun v ws => v = some (.int z) ∧ ws = (mw γ o ad f g)) 0 0 := by
  refine wx_M.of (by decide) (Nat.le_of_ble_eq_true rfl) ?_
  intro p e s m as below meth c A ls C K w hr hlocks _ hl
  exact bX8_isSheet_0 C K (fun H locs ls pc hz w d => wx_zret C hr hlocks hz w ⟨rfl, rfl⟩ d) w hl hF
theorem rX8_isSheet {p : Program} {l : Launch} {e : Env} {R : Room} {s : State} {m : MethodId} {as : Array Value} {below : List Frame} {meth : Method} {c : Code} {H : Heap} {locs : List Loc} {cells slots : Nat} {Q : State → Prop} {cc : ByteArray} {nL pc : Nat} {ls : Array Slot} {rest : List Value} {γ : wx_G} {A : Nat → Prop} {o : Nat} {ad : Nat → Nat} {f : xF} {g : xG} {v1 : Int32} {z : Int32} (C : CallFix p m c cc nL s as lw_all RX8) (K : wx_C γ A s) (w : wx_w γ A s H locs (mw γ o ad f g)) (hF : pX8_isSheet f g v1 = some z) (hls : ls.size = nL) (hR : rmX8_isSheet.frames + 1 ≤ R.frames ∧ 8 + (2 + 11) + rmX8_isSheet.locals ≤ R.locals) (hW : (rest.map fun v => v.category).sum ≤ 8) (d : decode cc pc = .ok (.invokevirtual 360, 3)) (kk : ∀ (H : Heap) (locs : List Loc), wx_w γ A s H locs (mw γ o ad f g) → W p l e R s m as below meth c H locs cells slots Q (F0 m (pc + 3) ls (.int z :: rest))) (hf : cells ≤ R.cells ∧ slots ≤ R.slots := by exact ⟨Nat.le_of_ble_eq_true rfl, Nat.le_of_ble_eq_true rfl⟩) : W p l e R s m as below meth c H locs cells slots Q (F0 m pc ls (.int v1 :: .ref o :: rest)) :=
  wx_callV (n := 1) C K w (mX8_isSheet (l := l) hF) q1777 q1779 qs103 q123 q1780 rfl rfl (by decide +kernel) (va_recv K.1.1 w.1 (ci := 0) (q0 := 0) rfl rfl) rfl rfl hR hls hW hf d (fun v ws H1 locs1 hp w => by obtain ⟨rfl, rfl⟩ := hp; exact kk H1 locs1 w)

/-! WalkingStonesModel.held(III)I -/
abbrev rmX8_held : Room := { frames := 6, cells := 0, slots := 0, locals := 146 }
def pX8_held_24 (f : xF) (g : xG) : Option (Int32 × xF × xG) := some ((-2 : Int32), f, g)

def pX8_held_66 : Nat → xF → xG → Int32 → Int32 → Int32 → Option (Int32 × xF × xG)
  | 0, _, _, _, _, _ => none
  | n + 1, f, g, v3, v4, v5 => if (f 0) ≤ v5 then some ((-1 : Int32), f, g) else (if gin (((40 : Int32) * v3) + v5) 160 = true then if (g 51 (((40 : Int32) * v3) + v5).toNatClampNeg) = ((v4 >>> (v5 &&& 31)) &&& (1 : Int32)) then pX8_held_66 n f g v3 v4 (v5 + 1) else some (v5, f, g) else none)

def pX8_held_0 (f : xF) (g : xG) (v1 : Int32) (v2 : Int32) (v3 : Int32) : Option (Int32 × xF × xG) := (pX8_isHow f g v1).bind (fun r2 => if r2 = 0 then pX8_held_24 f g else (pX8_isNight f g v2).bind (fun r10 => if r10 = 0 then pX8_held_24 f g else (pX8_isSheet f g v3).bind (fun r18 => if r18 = 0 then pX8_held_24 f g else (if gin v3 4 = true then if 0 ≤ (g 49 v3.toNatClampNeg) then (if gin v3 4 = true then if (g 50 v3.toNatClampNeg) = (f 0) then (pX8_goers f g v1 v2).bind (fun r58 => pX8_held_66 5000 r58.2.1 r58.2.2 v3 r58.1 (0 : Int32)) else some ((-2 : Int32), f, g) else none) else some ((-11 : Int32), f, g) else none))))

abbrev pX8_held (f : xF) (g : xG) (v1 : Int32) (v2 : Int32) (v3 : Int32) : Option (Int32 × xF × xG) := pX8_held_0 f g v1 v2 v3
theorem bX8_held_24 {p : Program} {l : Launch} {e : Env} {s : State} {m : MethodId} {as : Array Value} {below : List Frame} {meth : Method} {c : Code} {A : Nat → Prop} {Q : State → Prop} {γ : wx_G} {o : Nat} {ad : Nat → Nat} {z : Int32 × xF × xG} (C : CallFix p m c cX8_held 6 s as lw_all RX8) (K : wx_C γ A s) (E : ∀ (H : Heap) (locs : List Loc) (ls : Array Slot) (pc : Nat), wx_w γ A s H locs (mw γ o ad z.2.1 z.2.2) → decode cX8_held pc = .ok (.ireturn, 1) → W p l e rmX8_held s m as below meth c H locs 0 0 Q (F0 m pc ls [.int z.1])) {f : xF} {g : xG} {H : Heap} {locs : List Loc} {ls : Array Slot} (w : wx_w γ A s H locs (mw γ o ad f g)) (hl : lv_has ls 6 []) (hF : pX8_held_24 f g = some z) : W p l e rmX8_held s m as below meth c H locs 0 0 Q (F0 m 24 ls []) := by
  have hx := C.1
  have hb := C.2.1
  unfold pX8_held_24 at hF
  refine lv_bipush (v := (-2 : Int32)) hx hb dX8_held_24 (by decide) ?_
  have hF := Option.some.inj hF
  subst hF
  exact E _ _ _ _ w dX8_held_26

theorem bX8_held_66 {p : Program} {l : Launch} {e : Env} {s : State} {m : MethodId} {as : Array Value} {below : List Frame} {meth : Method} {c : Code} {A : Nat → Prop} {Q : State → Prop} {γ : wx_G} {o : Nat} {ad : Nat → Nat} {z : Int32 × xF × xG} (C : CallFix p m c cX8_held 6 s as lw_all RX8) (K : wx_C γ A s) (E : ∀ (H : Heap) (locs : List Loc) (ls : Array Slot) (pc : Nat), wx_w γ A s H locs (mw γ o ad z.2.1 z.2.2) → decode cX8_held pc = .ok (.ireturn, 1) → W p l e rmX8_held s m as below meth c H locs 0 0 Q (F0 m pc ls [.int z.1])) : ∀ (n : Nat) (f : xF) (g : xG) (v3 : Int32) (v4 : Int32) (v5 : Int32) (H : Heap) (locs : List Loc) (ls : Array Slot), pX8_held_66 n f g v3 v4 v5 = some z → wx_w γ A s H locs (mw γ o ad f g) → lv_has ls 6 [(0, .ref o), (3, .int v3), (4, .int v4), (5, .int v5)] → W p l e rmX8_held s m as below meth c H locs 0 0 Q (F0 m 66 ls []) := by
  have hx := C.1
  have hb := C.2.1
  intro n
  induction n with
  | zero =>
    intro f g v3 v4 v5 H locs ls hF w hl
    have hF : (none : Option (Int32 × xF × xG)) = some z := hF
    cases hF
  | succ n ih =>
    intro f g v3 v4 v5 H locs ls hF w hl
    rw [pX8_held_66] at hF
    refine lv_iload hx hb dX8_held_66 (lv_at hl 3 rfl) ?_
    refine lv_aload_n hx hb dX8_held_68 rfl (lv_at hl 0 rfl) ?_
    refine mget_0 C K w dX8_held_69 ?_
    refine lv_icmp_ge (tgt := 106) hx hb dX8_held_72 (by decide) (fun c => ?_) (fun c => ?_)
    · have hF := (if_pos c).symm.trans hF
      refine lv_iconst (v := (-1 : Int32)) hx hb dX8_held_106 (by decide) ?_
      have hF := Option.some.inj hF
      subst hF
      exact E _ _ _ _ w dX8_held_107
    · have hF := (if_neg c).symm.trans hF
      refine lv_aload_n hx hb dX8_held_75 rfl (lv_at hl 0 rfl) ?_
      refine mget_51 C K w dX8_held_76 ?_
      refine lv_bipush (v := (40 : Int32)) hx hb dX8_held_79 (by decide) ?_
      refine lv_iload_n hx hb dX8_held_81 rfl (lv_at hl 1 rfl) ?_
      refine lv_imul hx hb dX8_held_82 ?_
      refine lv_iload hx hb dX8_held_83 (lv_at hl 3 rfl) ?_
      refine lv_iadd hx hb dX8_held_85 ?_
      obtain ⟨hi, hF⟩ := gin_if hF
      refine mald_51 C K w hi dX8_held_86 ?_
      refine lv_iload hx hb dX8_held_87 (lv_at hl 2 rfl) ?_
      refine lv_iload hx hb dX8_held_89 (lv_at hl 3 rfl) ?_
      refine lv_ishr hx hb dX8_held_91 ?_
      refine lv_iconst (v := (1 : Int32)) hx hb dX8_held_92 (by decide) ?_
      refine lv_iand hx hb dX8_held_93 ?_
      refine lv_icmp_eq (tgt := 100) hx hb dX8_held_94 (by decide) (fun c => ?_) (fun c => ?_)
      · have hF := (if_pos c).symm.trans hF
        refine lv_iinc (v := v5 + 1) (lv' := [(5, .int (v5 + 1)), (0, .ref o), (3, .int v3), (4, .int v4)]) hx hb dX8_held_100 hl (k := 3) rfl rfl (by decide) rfl (fun ls hl => ?_)
        refine lv_goto (tgt := 66) hx hb dX8_held_103 (by decide) ?_
        exact ih _ _ _ _ _ _ _ _ hF w (lv_sub hl [1, 2, 3, 0] rfl)
      · have hF := (if_neg c).symm.trans hF
        refine lv_iload hx hb dX8_held_97 (lv_at hl 3 rfl) ?_
        have hF := Option.some.inj hF
        subst hF
        exact E _ _ _ _ w dX8_held_99

theorem bX8_held_0 {p : Program} {l : Launch} {e : Env} {s : State} {m : MethodId} {as : Array Value} {below : List Frame} {meth : Method} {c : Code} {A : Nat → Prop} {Q : State → Prop} {γ : wx_G} {o : Nat} {ad : Nat → Nat} {z : Int32 × xF × xG} (C : CallFix p m c cX8_held 6 s as lw_all RX8) (K : wx_C γ A s) (E : ∀ (H : Heap) (locs : List Loc) (ls : Array Slot) (pc : Nat), wx_w γ A s H locs (mw γ o ad z.2.1 z.2.2) → decode cX8_held pc = .ok (.ireturn, 1) → W p l e rmX8_held s m as below meth c H locs 0 0 Q (F0 m pc ls [.int z.1])) {f : xF} {g : xG} {v1 : Int32} {v2 : Int32} {v3 : Int32} {H : Heap} {locs : List Loc} {ls : Array Slot} (w : wx_w γ A s H locs (mw γ o ad f g)) (hl : lv_has ls 6 [(0, .ref o), (1, .int v1), (2, .int v2), (3, .int v3)]) (hF : pX8_held_0 f g v1 v2 v3 = some z) : W p l e rmX8_held s m as below meth c H locs 0 0 Q (F0 m 0 ls []) := by
  have hx := C.1
  have hb := C.2.1
  unfold pX8_held_0 at hF
  refine lv_aload_n hx hb dX8_held_0 rfl (lv_at hl 0 rfl) ?_
  refine lv_iload_n hx hb dX8_held_1 rfl (lv_at hl 1 rfl) ?_
  obtain ⟨r2, hr, hF⟩ := obd hF
  refine rX8_isHow C K w hr hl.1 ⟨Nat.le_of_ble_eq_true rfl, Nat.le_of_ble_eq_true rfl⟩ (Nat.le_of_ble_eq_true rfl) dX8_held_2 (fun H locs w => ?_)
  refine lv_if_eq (tgt := 24) hx hb dX8_held_5 (by decide) (fun c => ?_) (fun c => ?_)
  · have hF := (if_pos c).symm.trans hF
    exact bX8_held_24 C K E w (lv_sub hl [] rfl) hF
  · have hF := (if_neg c).symm.trans hF
    refine lv_aload_n hx hb dX8_held_8 rfl (lv_at hl 0 rfl) ?_
    refine lv_iload_n hx hb dX8_held_9 rfl (lv_at hl 2 rfl) ?_
    obtain ⟨r10, hr, hF⟩ := obd hF
    refine rX8_isNight C K w hr hl.1 ⟨Nat.le_of_ble_eq_true rfl, Nat.le_of_ble_eq_true rfl⟩ (Nat.le_of_ble_eq_true rfl) dX8_held_10 (fun H locs w => ?_)
    refine lv_if_eq (tgt := 24) hx hb dX8_held_13 (by decide) (fun c => ?_) (fun c => ?_)
    · have hF := (if_pos c).symm.trans hF
      exact bX8_held_24 C K E w (lv_sub hl [] rfl) hF
    · have hF := (if_neg c).symm.trans hF
      refine lv_aload_n hx hb dX8_held_16 rfl (lv_at hl 0 rfl) ?_
      refine lv_iload_n hx hb dX8_held_17 rfl (lv_at hl 3 rfl) ?_
      obtain ⟨r18, hr, hF⟩ := obd hF
      refine rX8_isSheet C K w hr hl.1 ⟨Nat.le_of_ble_eq_true rfl, Nat.le_of_ble_eq_true rfl⟩ (Nat.le_of_ble_eq_true rfl) dX8_held_18 (fun H locs w => ?_)
      refine lv_if_ne (tgt := 27) hx hb dX8_held_21 (by decide) (fun c => ?_) (fun c => ?_)
      · have hF := (if_neg c).symm.trans hF
        refine lv_aload_n hx hb dX8_held_27 rfl (lv_at hl 0 rfl) ?_
        refine mget_49 C K w dX8_held_28 ?_
        refine lv_iload_n hx hb dX8_held_31 rfl (lv_at hl 3 rfl) ?_
        obtain ⟨hi, hF⟩ := gin_if hF
        refine mald_49 C K w hi dX8_held_32 ?_
        refine lv_if_ge (tgt := 39) hx hb dX8_held_33 (by decide) (fun c => ?_) (fun c => ?_)
        · have hF := (if_pos c).symm.trans hF
          refine lv_aload_n hx hb dX8_held_39 rfl (lv_at hl 0 rfl) ?_
          refine mget_50 C K w dX8_held_40 ?_
          refine lv_iload_n hx hb dX8_held_43 rfl (lv_at hl 3 rfl) ?_
          obtain ⟨hi, hF⟩ := gin_if hF
          refine mald_50 C K w hi dX8_held_44 ?_
          refine lv_aload_n hx hb dX8_held_45 rfl (lv_at hl 0 rfl) ?_
          refine mget_0 C K w dX8_held_46 ?_
          refine lv_icmp_eq (tgt := 55) hx hb dX8_held_49 (by decide) (fun c => ?_) (fun c => ?_)
          · have hF := (if_pos c).symm.trans hF
            refine lv_aload_n hx hb dX8_held_55 rfl (lv_at hl 0 rfl) ?_
            refine lv_iload_n hx hb dX8_held_56 rfl (lv_at hl 1 rfl) ?_
            refine lv_iload_n hx hb dX8_held_57 rfl (lv_at hl 2 rfl) ?_
            obtain ⟨r58, hr, hF⟩ := obd hF
            refine rX8_goers C K w hr hl.1 ⟨Nat.le_of_ble_eq_true rfl, Nat.le_of_ble_eq_true rfl⟩ (Nat.le_of_ble_eq_true rfl) dX8_held_58 (fun H locs w => ?_)
            refine lv_istore (lv' := [(4, .int r58.1), (0, .ref o), (1, .int v1), (2, .int v2), (3, .int v3)]) hx hb dX8_held_61 hl (by decide) rfl (fun ls hl => ?_)
            refine lv_iconst (v := (0 : Int32)) hx hb dX8_held_63 (by decide) ?_
            refine lv_istore (lv' := [(5, .int (0 : Int32)), (4, .int r58.1), (0, .ref o), (1, .int v1), (2, .int v2), (3, .int v3)]) hx hb dX8_held_64 hl (by decide) rfl (fun ls hl => ?_)
            exact bX8_held_66 C K E 5000 _ _ _ _ _ _ _ _ hF w (lv_sub hl [2, 5, 1, 0] rfl)
          · have hF := (if_neg c).symm.trans hF
            refine lv_bipush (v := (-2 : Int32)) hx hb dX8_held_52 (by decide) ?_
            have hF := Option.some.inj hF
            subst hF
            exact E _ _ _ _ w dX8_held_54
        · have hF := (if_neg c).symm.trans hF
          refine lv_bipush (v := (-11 : Int32)) hx hb dX8_held_36 (by decide) ?_
          have hF := Option.some.inj hF
          subst hF
          exact E _ _ _ _ w dX8_held_38
      · have hF := (if_pos c).symm.trans hF
        exact bX8_held_24 C K E w (lv_sub hl [] rfl) hF

theorem mX8_held {l : Launch} {γ : wx_G} {o : Nat} {ad : Nat → Nat} {f : xF} {g : xG} {v1 : Int32} {v2 : Int32} {v3 : Int32} {z : Int32 × xF × xG} (hF : pX8_held f g v1 v2 v3 = some z) : wx_M γ l yX8_held (ws_ yX8_held cX8_held 6 (some .int)) rmX8_held [.ref o, .int v1, .int v2, .int v3] (mw γ o ad f g) (fun v ws => v = some (.int z.1) ∧ ws = (mw γ o ad z.2.1 z.2.2)) 0 0 := by
  refine wx_M.of (by decide) (Nat.le_of_ble_eq_true rfl) ?_
  intro p e s m as below meth c A ls C K w hr hlocks _ hl
  exact bX8_held_0 C K (fun H locs ls pc w d => wx_iret C hr hlocks w ⟨rfl, rfl⟩ d) w hl hF

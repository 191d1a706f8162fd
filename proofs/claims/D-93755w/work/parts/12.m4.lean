/-! the model's methods: pure block functions p.., block lemmas b.., contracts m.., call rows r.. (printed by gen/allm.py) -/
set_option maxRecDepth 100000
/-! WalkingStonesModel.image()I -/
abbrev rmX8_image : Room := { frames := 0, cells := 0, slots := 0, locals := 0 }
def pX8_image_47 : Nat → xF → xG → Int32 → Option (Int32 × xF × xG)
  | 0, _, _, _ => none
  | n + 1, f, g, v1 => if (f 0) ≤ v1 then some (f 0, f, g) else (if gin v1 10 = true then if gin v1 10 = true then pX8_image_47 n f (va_up g 48 (upd (g 48) v1.toNatClampNeg (g 4 v1.toNatClampNeg))) (v1 + 1) else none else none)

def pX8_image_0 (f : xF) (g : xG) : Option (Int32 × xF × xG) := pX8_image_47 5000 (upd (upd (upd (upd (upd (upd f 42 (1 : Int32)) 43 ((upd f 42 (1 : Int32)) 0)) 44 ((upd (upd f 42 (1 : Int32)) 43 ((upd f 42 (1 : Int32)) 0)) 12)) 45 ((upd (upd (upd f 42 (1 : Int32)) 43 ((upd f 42 (1 : Int32)) 0)) 44 ((upd (upd f 42 (1 : Int32)) 43 ((upd f 42 (1 : Int32)) 0)) 12)) 32)) 46 ((upd (upd (upd (upd f 42 (1 : Int32)) 43 ((upd f 42 (1 : Int32)) 0)) 44 ((upd (upd f 42 (1 : Int32)) 43 ((upd f 42 (1 : Int32)) 0)) 12)) 45 ((upd (upd (upd f 42 (1 : Int32)) 43 ((upd f 42 (1 : Int32)) 0)) 44 ((upd (upd f 42 (1 : Int32)) 43 ((upd f 42 (1 : Int32)) 0)) 12)) 32)) 39)) 47 ((upd (upd (upd (upd (upd f 42 (1 : Int32)) 43 ((upd f 42 (1 : Int32)) 0)) 44 ((upd (upd f 42 (1 : Int32)) 43 ((upd f 42 (1 : Int32)) 0)) 12)) 45 ((upd (upd (upd f 42 (1 : Int32)) 43 ((upd f 42 (1 : Int32)) 0)) 44 ((upd (upd f 42 (1 : Int32)) 43 ((upd f 42 (1 : Int32)) 0)) 12)) 32)) 46 ((upd (upd (upd (upd f 42 (1 : Int32)) 43 ((upd f 42 (1 : Int32)) 0)) 44 ((upd (upd f 42 (1 : Int32)) 43 ((upd f 42 (1 : Int32)) 0)) 12)) 45 ((upd (upd (upd f 42 (1 : Int32)) 43 ((upd f 42 (1 : Int32)) 0)) 44 ((upd (upd f 42 (1 : Int32)) 43 ((upd f 42 (1 : Int32)) 0)) 12)) 32)) 39)) 37)) g (0 : Int32)

abbrev pX8_image (f : xF) (g : xG) : Option (Int32 × xF × xG) := pX8_image_0 f g
theorem bX8_image_47 {p : Program} {l : Launch} {e : Env} {s : State} {m : MethodId} {as : Array Value} {below : List Frame} {meth : Method} {c : Code} {A : Nat → Prop} {Q : State → Prop} {γ : wx_G} {o : Nat} {ad : Nat → Nat} {z : Int32 × xF × xG} (C : CallFix p m c cX8_image 2 s as lw_all RX8) (K : wx_C γ A s) (E : ∀ (H : Heap) (locs : List Loc) (ls : Array Slot) (pc : Nat), wx_w γ A s H locs (mw γ o ad z.2.1 z.2.2) → decode cX8_image pc = .ok (.ireturn, 1) → W p l e rmX8_image s m as below meth c H locs 0 0 Q (F0 m pc ls [.int z.1])) : ∀ (n : Nat) (f : xF) (g : xG) (v1 : Int32) (H : Heap) (locs : List Loc) (ls : Array Slot), pX8_image_47 n f g v1 = some z → wx_w γ A s H locs (mw γ o ad f g) → lv_has ls 2 [(0, .ref o), (1, .int v1)] → W p l e rmX8_image s m as below meth c H locs 0 0 Q (F0 m 47 ls []) := by
  have hx := C.1
  have hb := C.2.1
  intro n
  induction n with
  | zero =>
    intro f g v1 H locs ls hF w hl
    have hF : (none : Option (Int32 × xF × xG)) = some z := hF
    cases hF
  | succ n ih =>
    intro f g v1 H locs ls hF w hl
    rw [pX8_image_47] at hF
    refine lv_iload_n hx hb dX8_image_47 rfl (lv_at hl 1 rfl) ?_
    refine lv_aload_n hx hb dX8_image_48 rfl (lv_at hl 0 rfl) ?_
    refine mget_0 C K w dX8_image_49 ?_
    refine lv_icmp_ge (tgt := 73) hx hb dX8_image_52 (by decide) (fun c => ?_) (fun c => ?_)
    · have hF := (if_pos c).symm.trans hF
      refine lv_aload_n hx hb dX8_image_73 rfl (lv_at hl 0 rfl) ?_
      refine mget_0 C K w dX8_image_74 ?_
      have hF := Option.some.inj hF
      subst hF
      exact E _ _ _ _ w dX8_image_77
    · have hF := (if_neg c).symm.trans hF
      refine lv_aload_n hx hb dX8_image_55 rfl (lv_at hl 0 rfl) ?_
      refine mget_48 C K w dX8_image_56 ?_
      refine lv_iload_n hx hb dX8_image_59 rfl (lv_at hl 1 rfl) ?_
      refine lv_aload_n hx hb dX8_image_60 rfl (lv_at hl 0 rfl) ?_
      refine mget_4 C K w dX8_image_61 ?_
      refine lv_iload_n hx hb dX8_image_64 rfl (lv_at hl 1 rfl) ?_
      obtain ⟨hi, hF⟩ := gin_if hF
      refine mald_4 C K w hi dX8_image_65 ?_
      obtain ⟨hi, hF⟩ := gin_if hF
      refine mast_48 C K w hi dX8_image_66 (fun H locs w => ?_)
      refine lv_iinc (v := v1 + 1) (lv' := [(1, .int (v1 + 1)), (0, .ref o)]) hx hb dX8_image_67 hl (k := 1) rfl rfl (by decide) rfl (fun ls hl => ?_)
      refine lv_goto (tgt := 47) hx hb dX8_image_70 (by decide) ?_
      exact ih _ _ _ _ _ _ hF w (lv_sub hl [1, 0] rfl)

theorem bX8_image_0 {p : Program} {l : Launch} {e : Env} {s : State} {m : MethodId} {as : Array Value} {below : List Frame} {meth : Method} {c : Code} {A : Nat → Prop} {Q : State → Prop} {γ : wx_G} {o : Nat} {ad : Nat → Nat} {z : Int32 × xF × xG} (C : CallFix p m c cX8_image 2 s as lw_all RX8) (K : wx_C γ A s) (E : ∀ (H : Heap) (locs : List Loc) (ls : Array Slot) (pc : Nat), wx_w γ A s H locs (mw γ o ad z.2.1 z.2.2) → decode cX8_image pc = .ok (.ireturn, 1) → W p l e rmX8_image s m as below meth c H locs 0 0 Q (F0 m pc ls [.int z.1])) {f : xF} {g : xG} {H : Heap} {locs : List Loc} {ls : Array Slot} (w : wx_w γ A s H locs (mw γ o ad f g)) (hl : lv_has ls 2 [(0, .ref o)]) (hF : pX8_image_0 f g = some z) : W p l e rmX8_image s m as below meth c H locs 0 0 Q (F0 m 0 ls []) := by
  have hx := C.1
  have hb := C.2.1
  unfold pX8_image_0 at hF
  refine lv_aload_n hx hb dX8_image_0 rfl (lv_at hl 0 rfl) ?_
  refine lv_iconst (v := (1 : Int32)) hx hb dX8_image_1 (by decide) ?_
  refine mput_42 C K w rfl dX8_image_2 (fun H locs w => ?_)
  refine lv_aload_n hx hb dX8_image_5 rfl (lv_at hl 0 rfl) ?_
  refine lv_aload_n hx hb dX8_image_6 rfl (lv_at hl 0 rfl) ?_
  refine mget_0 C K w dX8_image_7 ?_
  refine mput_43 C K w dX8_image_10 (fun H locs w => ?_)
  refine lv_aload_n hx hb dX8_image_13 rfl (lv_at hl 0 rfl) ?_
  refine lv_aload_n hx hb dX8_image_14 rfl (lv_at hl 0 rfl) ?_
  refine mget_12 C K w dX8_image_15 ?_
  refine mput_44 C K w dX8_image_18 (fun H locs w => ?_)
  refine lv_aload_n hx hb dX8_image_21 rfl (lv_at hl 0 rfl) ?_
  refine lv_aload_n hx hb dX8_image_22 rfl (lv_at hl 0 rfl) ?_
  refine mget_32 C K w dX8_image_23 ?_
  refine mput_45 C K w dX8_image_26 (fun H locs w => ?_)
  refine lv_aload_n hx hb dX8_image_29 rfl (lv_at hl 0 rfl) ?_
  refine lv_aload_n hx hb dX8_image_30 rfl (lv_at hl 0 rfl) ?_
  refine mget_39 C K w dX8_image_31 ?_
  refine mput_46 C K w dX8_image_34 (fun H locs w => ?_)
  refine lv_aload_n hx hb dX8_image_37 rfl (lv_at hl 0 rfl) ?_
  refine lv_aload_n hx hb dX8_image_38 rfl (lv_at hl 0 rfl) ?_
  refine mget_37 C K w dX8_image_39 ?_
  refine mput_47 C K w dX8_image_42 (fun H locs w => ?_)
  refine lv_iconst (v := (0 : Int32)) hx hb dX8_image_45 (by decide) ?_
  refine lv_istore_n (lv' := [(1, .int (0 : Int32)), (0, .ref o)]) hx hb dX8_image_46 rfl hl (by decide) rfl (fun ls hl => ?_)
  exact bX8_image_47 C K E 5000 _ _ _ _ _ _ hF w (lv_sub hl [1, 0] rfl)

theorem mX8_image {l : Launch} {γ : wx_G} {o : Nat} {ad : Nat → Nat} {f : xF} {g : xG} {z : Int32 × xF × xG} (hF : pX8_image f g = some z) : wx_M γ l yX8_image (ws_ yX8_image cX8_image 2 (some .int)) rmX8_image [.ref o] (mw γ o ad f g) (fun v ws => v = some (.int z.1) ∧ ws = (mw γ o ad z.2.1 z.2.2)) 0 0 := by
  refine wx_M.of (by decide) (Nat.le_of_ble_eq_true rfl) ?_
  intro p e s m as below meth c A ls C K w hr hlocks _ hl
  exact bX8_image_0 C K (fun H locs ls pc w d => wx_iret C hr hlocks w ⟨rfl, rfl⟩ d) w hl hF

/-! WalkingStonesModel.back()I -/
abbrev rmX8_back : Room := { frames := 0, cells := 0, slots := 0, locals := 0 }
def pX8_back_44 : Nat → xF → xG → Int32 → Option (Int32 × xF × xG)
  | 0, _, _, _ => none
  | n + 1, f, g, v1 => if (f 43) ≤ v1 then some (f 0, f, g) else (if gin v1 10 = true then if gin v1 10 = true then pX8_back_44 n f (va_up g 4 (upd (g 4) v1.toNatClampNeg (g 48 v1.toNatClampNeg))) (v1 + 1) else none else none)

def pX8_back_0 (f : xF) (g : xG) : Option (Int32 × xF × xG) := if (f 42) = 0 then some ((-3 : Int32), f, g) else pX8_back_44 5000 (upd (upd (upd (upd f 12 (f 44)) 32 ((upd f 12 (f 44)) 45)) 39 ((upd (upd f 12 (f 44)) 32 ((upd f 12 (f 44)) 45)) 46)) 37 ((upd (upd (upd f 12 (f 44)) 32 ((upd f 12 (f 44)) 45)) 39 ((upd (upd f 12 (f 44)) 32 ((upd f 12 (f 44)) 45)) 46)) 47)) g (0 : Int32)

abbrev pX8_back (f : xF) (g : xG) : Option (Int32 × xF × xG) := pX8_back_0 f g
theorem bX8_back_44 {p : Program} {l : Launch} {e : Env} {s : State} {m : MethodId} {as : Array Value} {below : List Frame} {meth : Method} {c : Code} {A : Nat → Prop} {Q : State → Prop} {γ : wx_G} {o : Nat} {ad : Nat → Nat} {z : Int32 × xF × xG} (C : CallFix p m c cX8_back 2 s as lw_all RX8) (K : wx_C γ A s) (E : ∀ (H : Heap) (locs : List Loc) (ls : Array Slot) (pc : Nat), wx_w γ A s H locs (mw γ o ad z.2.1 z.2.2) → decode cX8_back pc = .ok (.ireturn, 1) → W p l e rmX8_back s m as below meth c H locs 0 0 Q (F0 m pc ls [.int z.1])) : ∀ (n : Nat) (f : xF) (g : xG) (v1 : Int32) (H : Heap) (locs : List Loc) (ls : Array Slot), pX8_back_44 n f g v1 = some z → wx_w γ A s H locs (mw γ o ad f g) → lv_has ls 2 [(0, .ref o), (1, .int v1)] → W p l e rmX8_back s m as below meth c H locs 0 0 Q (F0 m 44 ls []) := by
  have hx := C.1
  have hb := C.2.1
  intro n
  induction n with
  | zero =>
    intro f g v1 H locs ls hF w hl
    have hF : (none : Option (Int32 × xF × xG)) = some z := hF
    cases hF
  | succ n ih =>
    intro f g v1 H locs ls hF w hl
    rw [pX8_back_44] at hF
    refine lv_iload_n hx hb dX8_back_44 rfl (lv_at hl 1 rfl) ?_
    refine lv_aload_n hx hb dX8_back_45 rfl (lv_at hl 0 rfl) ?_
    refine mget_43 C K w dX8_back_46 ?_
    refine lv_icmp_ge (tgt := 70) hx hb dX8_back_49 (by decide) (fun c => ?_) (fun c => ?_)
    · have hF := (if_pos c).symm.trans hF
      refine lv_aload_n hx hb dX8_back_70 rfl (lv_at hl 0 rfl) ?_
      refine mget_0 C K w dX8_back_71 ?_
      have hF := Option.some.inj hF
      subst hF
      exact E _ _ _ _ w dX8_back_74
    · have hF := (if_neg c).symm.trans hF
      refine lv_aload_n hx hb dX8_back_52 rfl (lv_at hl 0 rfl) ?_
      refine mget_4 C K w dX8_back_53 ?_
      refine lv_iload_n hx hb dX8_back_56 rfl (lv_at hl 1 rfl) ?_
      refine lv_aload_n hx hb dX8_back_57 rfl (lv_at hl 0 rfl) ?_
      refine mget_48 C K w dX8_back_58 ?_
      refine lv_iload_n hx hb dX8_back_61 rfl (lv_at hl 1 rfl) ?_
      obtain ⟨hi, hF⟩ := gin_if hF
      refine mald_48 C K w hi dX8_back_62 ?_
      obtain ⟨hi, hF⟩ := gin_if hF
      refine mast_4 C K w hi dX8_back_63 (fun H locs w => ?_)
      refine lv_iinc (v := v1 + 1) (lv' := [(1, .int (v1 + 1)), (0, .ref o)]) hx hb dX8_back_64 hl (k := 1) rfl rfl (by decide) rfl (fun ls hl => ?_)
      refine lv_goto (tgt := 44) hx hb dX8_back_67 (by decide) ?_
      exact ih _ _ _ _ _ _ hF w (lv_sub hl [1, 0] rfl)

theorem bX8_back_0 {p : Program} {l : Launch} {e : Env} {s : State} {m : MethodId} {as : Array Value} {below : List Frame} {meth : Method} {c : Code} {A : Nat → Prop} {Q : State → Prop} {γ : wx_G} {o : Nat} {ad : Nat → Nat} {z : Int32 × xF × xG} (C : CallFix p m c cX8_back 2 s as lw_all RX8) (K : wx_C γ A s) (E : ∀ (H : Heap) (locs : List Loc) (ls : Array Slot) (pc : Nat), wx_w γ A s H locs (mw γ o ad z.2.1 z.2.2) → decode cX8_back pc = .ok (.ireturn, 1) → W p l e rmX8_back s m as below meth c H locs 0 0 Q (F0 m pc ls [.int z.1])) {f : xF} {g : xG} {H : Heap} {locs : List Loc} {ls : Array Slot} (w : wx_w γ A s H locs (mw γ o ad f g)) (hl : lv_has ls 2 [(0, .ref o)]) (hF : pX8_back_0 f g = some z) : W p l e rmX8_back s m as below meth c H locs 0 0 Q (F0 m 0 ls []) := by
  have hx := C.1
  have hb := C.2.1
  unfold pX8_back_0 at hF
  refine lv_aload_n hx hb dX8_back_0 rfl (lv_at hl 0 rfl) ?_
  refine mget_42 C K w dX8_back_1 ?_
  refine lv_if_ne (tgt := 10) hx hb dX8_back_4 (by decide) (fun c => ?_) (fun c => ?_)
  · have hF := (if_neg c).symm.trans hF
    refine lv_aload_n hx hb dX8_back_10 rfl (lv_at hl 0 rfl) ?_
    refine lv_aload_n hx hb dX8_back_11 rfl (lv_at hl 0 rfl) ?_
    refine mget_44 C K w dX8_back_12 ?_
    refine mput_12 C K w dX8_back_15 (fun H locs w => ?_)
    refine lv_aload_n hx hb dX8_back_18 rfl (lv_at hl 0 rfl) ?_
    refine lv_aload_n hx hb dX8_back_19 rfl (lv_at hl 0 rfl) ?_
    refine mget_45 C K w dX8_back_20 ?_
    refine mput_32 C K w dX8_back_23 (fun H locs w => ?_)
    refine lv_aload_n hx hb dX8_back_26 rfl (lv_at hl 0 rfl) ?_
    refine lv_aload_n hx hb dX8_back_27 rfl (lv_at hl 0 rfl) ?_
    refine mget_46 C K w dX8_back_28 ?_
    refine mput_39 C K w dX8_back_31 (fun H locs w => ?_)
    refine lv_aload_n hx hb dX8_back_34 rfl (lv_at hl 0 rfl) ?_
    refine lv_aload_n hx hb dX8_back_35 rfl (lv_at hl 0 rfl) ?_
    refine mget_47 C K w dX8_back_36 ?_
    refine mput_37 C K w dX8_back_39 (fun H locs w => ?_)
    refine lv_iconst (v := (0 : Int32)) hx hb dX8_back_42 (by decide) ?_
    refine lv_istore_n (lv' := [(1, .int (0 : Int32)), (0, .ref o)]) hx hb dX8_back_43 rfl hl (by decide) rfl (fun ls hl => ?_)
    exact bX8_back_44 C K E 5000 _ _ _ _ _ _ hF w (lv_sub hl [1, 0] rfl)
  · have hF := (if_pos c).symm.trans hF
    refine lv_bipush (v := (-3 : Int32)) hx hb dX8_back_7 (by decide) ?_
    have hF := Option.some.inj hF
    subst hF
    exact E _ _ _ _ w dX8_back_9

theorem mX8_back {l : Launch} {γ : wx_G} {o : Nat} {ad : Nat → Nat} {f : xF} {g : xG} {z : Int32 × xF × xG} (hF : pX8_back f g = some z) : wx_M γ l yX8_back (ws_ yX8_back cX8_back 2 (some .int)) rmX8_back [.ref o] (mw γ o ad f g) (fun v ws => v = some (.int z.1) ∧ ws = (mw γ o ad z.2.1 z.2.2)) 0 0 := by
  refine wx_M.of (by decide) (Nat.le_of_ble_eq_true rfl) ?_
  intro p e s m as below meth c A ls C K w hr hlocks _ hl
  exact bX8_back_0 C K (fun H locs ls pc w d => wx_iret C hr hlocks w ⟨rfl, rfl⟩ d) w hl hF

/-! WalkingStonesModel.count(I)I -/
abbrev rmX8_count : Room := { frames := 0, cells := 0, slots := 0, locals := 0 }
def pX8_count_0 (f : xF) (g : xG) (v1 : Int32) : Option (Int32) := if v1 = (0 : Int32) then some (f 0) else if v1 = (1 : Int32) then some (f 1) else if v1 = (2 : Int32) then some (f 2) else if v1 = (3 : Int32) then some (f 32) else if v1 = (4 : Int32) then some (f 37) else if v1 = (5 : Int32) then some (f 39) else if v1 = (6 : Int32) then some (f 11) else if v1 = (7 : Int32) then some (f 13) else if v1 = (8 : Int32) then some (f 12) else some ((-2 : Int32))

abbrev pX8_count (f : xF) (g : xG) (v1 : Int32) : Option (Int32) := pX8_count_0 f g v1
theorem bX8_count_0 {p : Program} {l : Launch} {e : Env} {s : State} {m : MethodId} {as : Array Value} {below : List Frame} {meth : Method} {c : Code} {A : Nat → Prop} {Q : State → Prop} {γ : wx_G} {o : Nat} {ad : Nat → Nat} {z : Int32} {f : xF} {g : xG} (C : CallFix p m c cX8_count 2 s as lw_all RX8) (K : wx_C γ A s) (E : ∀ (H : Heap) (locs : List Loc) (ls : Array Slot) (pc : Nat), wx_w γ A s H locs (mw γ o ad f g) → decode cX8_count pc = .ok (.ireturn, 1) → W p l e rmX8_count s m as below meth c H locs 0 0 Q (F0 m pc ls [.int z])) {v1 : Int32} {H : Heap} {locs : List Loc} {ls : Array Slot} (w : wx_w γ A s H locs (mw γ o ad f g)) (hl : lv_has ls 2 [(0, .ref o), (1, .int v1)]) (hF : pX8_count_0 f g v1 = some z) : W p l e rmX8_count s m as below meth c H locs 0 0 Q (F0 m 0 ls []) := by
  have hx := C.1
  have hb := C.2.1
  unfold pX8_count_0 at hF
  refine lv_iload_n hx hb dX8_count_0 rfl (lv_at hl 1 rfl) ?_
  by_cases c0 : v1 = (0 : Int32)
  · have hF := (if_pos c0).symm.trans hF
    refine lv_tableIn (off := 51) (tgt := 52) hx hb dX8_count_1 (by rw [c0]; decide) (by rw [c0]; decide) (by rw [c0]; rfl) (by decide) ?_
    refine lv_aload_n hx hb dX8_count_52 rfl (lv_at hl 0 rfl) ?_
    refine mget_0 C K w dX8_count_53 ?_
    have hF := Option.some.inj hF
    subst hF
    exact E _ _ _ _ w dX8_count_56
  have hF := (if_neg c0).symm.trans hF
  by_cases c1 : v1 = (1 : Int32)
  · have hF := (if_pos c1).symm.trans hF
    refine lv_tableIn (off := 56) (tgt := 57) hx hb dX8_count_1 (by rw [c1]; decide) (by rw [c1]; decide) (by rw [c1]; rfl) (by decide) ?_
    refine lv_aload_n hx hb dX8_count_57 rfl (lv_at hl 0 rfl) ?_
    refine mget_1 C K w dX8_count_58 ?_
    have hF := Option.some.inj hF
    subst hF
    exact E _ _ _ _ w dX8_count_61
  have hF := (if_neg c1).symm.trans hF
  by_cases c2 : v1 = (2 : Int32)
  · have hF := (if_pos c2).symm.trans hF
    refine lv_tableIn (off := 61) (tgt := 62) hx hb dX8_count_1 (by rw [c2]; decide) (by rw [c2]; decide) (by rw [c2]; rfl) (by decide) ?_
    refine lv_aload_n hx hb dX8_count_62 rfl (lv_at hl 0 rfl) ?_
    refine mget_2 C K w dX8_count_63 ?_
    have hF := Option.some.inj hF
    subst hF
    exact E _ _ _ _ w dX8_count_66
  have hF := (if_neg c2).symm.trans hF
  by_cases c3 : v1 = (3 : Int32)
  · have hF := (if_pos c3).symm.trans hF
    refine lv_tableIn (off := 66) (tgt := 67) hx hb dX8_count_1 (by rw [c3]; decide) (by rw [c3]; decide) (by rw [c3]; rfl) (by decide) ?_
    refine lv_aload_n hx hb dX8_count_67 rfl (lv_at hl 0 rfl) ?_
    refine mget_32 C K w dX8_count_68 ?_
    have hF := Option.some.inj hF
    subst hF
    exact E _ _ _ _ w dX8_count_71
  have hF := (if_neg c3).symm.trans hF
  by_cases c4 : v1 = (4 : Int32)
  · have hF := (if_pos c4).symm.trans hF
    refine lv_tableIn (off := 71) (tgt := 72) hx hb dX8_count_1 (by rw [c4]; decide) (by rw [c4]; decide) (by rw [c4]; rfl) (by decide) ?_
    refine lv_aload_n hx hb dX8_count_72 rfl (lv_at hl 0 rfl) ?_
    refine mget_37 C K w dX8_count_73 ?_
    have hF := Option.some.inj hF
    subst hF
    exact E _ _ _ _ w dX8_count_76
  have hF := (if_neg c4).symm.trans hF
  by_cases c5 : v1 = (5 : Int32)
  · have hF := (if_pos c5).symm.trans hF
    refine lv_tableIn (off := 76) (tgt := 77) hx hb dX8_count_1 (by rw [c5]; decide) (by rw [c5]; decide) (by rw [c5]; rfl) (by decide) ?_
    refine lv_aload_n hx hb dX8_count_77 rfl (lv_at hl 0 rfl) ?_
    refine mget_39 C K w dX8_count_78 ?_
    have hF := Option.some.inj hF
    subst hF
    exact E _ _ _ _ w dX8_count_81
  have hF := (if_neg c5).symm.trans hF
  by_cases c6 : v1 = (6 : Int32)
  · have hF := (if_pos c6).symm.trans hF
    refine lv_tableIn (off := 81) (tgt := 82) hx hb dX8_count_1 (by rw [c6]; decide) (by rw [c6]; decide) (by rw [c6]; rfl) (by decide) ?_
    refine lv_aload_n hx hb dX8_count_82 rfl (lv_at hl 0 rfl) ?_
    refine mget_11 C K w dX8_count_83 ?_
    have hF := Option.some.inj hF
    subst hF
    exact E _ _ _ _ w dX8_count_86
  have hF := (if_neg c6).symm.trans hF
  by_cases c7 : v1 = (7 : Int32)
  · have hF := (if_pos c7).symm.trans hF
    refine lv_tableIn (off := 86) (tgt := 87) hx hb dX8_count_1 (by rw [c7]; decide) (by rw [c7]; decide) (by rw [c7]; rfl) (by decide) ?_
    refine lv_aload_n hx hb dX8_count_87 rfl (lv_at hl 0 rfl) ?_
    refine mget_13 C K w dX8_count_88 ?_
    have hF := Option.some.inj hF
    subst hF
    exact E _ _ _ _ w dX8_count_91
  have hF := (if_neg c7).symm.trans hF
  by_cases c8 : v1 = (8 : Int32)
  · have hF := (if_pos c8).symm.trans hF
    refine lv_tableIn (off := 91) (tgt := 92) hx hb dX8_count_1 (by rw [c8]; decide) (by rw [c8]; decide) (by rw [c8]; rfl) (by decide) ?_
    refine lv_aload_n hx hb dX8_count_92 rfl (lv_at hl 0 rfl) ?_
    refine mget_12 C K w dX8_count_93 ?_
    have hF := Option.some.inj hF
    subst hF
    exact E _ _ _ _ w dX8_count_96
  have hF := (if_neg c8).symm.trans hF
  have n0 := wx_ne c0 (k := 0) (by decide)
  have n1 := wx_ne c1 (k := 1) (by decide)
  have n2 := wx_ne c2 (k := 2) (by decide)
  have n3 := wx_ne c3 (k := 3) (by decide)
  have n4 := wx_ne c4 (k := 4) (by decide)
  have n5 := wx_ne c5 (k := 5) (by decide)
  have n6 := wx_ne c6 (k := 6) (by decide)
  have n7 := wx_ne c7 (k := 7) (by decide)
  have n8 := wx_ne c8 (k := 8) (by decide)
  refine lv_tableOut (tgt := 97) hx hb dX8_count_1 (by omega) (by decide) ?_
  refine lv_bipush (v := (-2 : Int32)) hx hb dX8_count_97 (by decide) ?_
  have hF := Option.some.inj hF
  subst hF
  exact E _ _ _ _ w dX8_count_99

theorem mX8_count {l : Launch} {γ : wx_G} {o : Nat} {ad : Nat → Nat} {f : xF} {g : xG} {v1 : Int32} {z : Int32} (hF : pX8_count f g v1 = some z) : wx_M γ l yX8_count (ws_ yX8_count cX8_count 2 (some .int)) rmX8_count [.ref o, .int v1] (mw γ o ad f g) (fun v ws => v = some (.int z) ∧ ws = (mw γ o ad f g)) 0 0 := by
  refine wx_M.of (by decide) (Nat.le_of_ble_eq_true rfl) ?_
  intro p e s m as below meth c A ls C K w hr hlocks _ hl
  exact bX8_count_0 C K (fun H locs ls pc w d => wx_iret C hr hlocks w ⟨rfl, rfl⟩ d) w hl hF

/-! WalkingStonesModel.sheet(III)I -/
abbrev rmX8_sheet : Room := { frames := 2, cells := 0, slots := 0, locals := 44 }
def pX8_sheet_28 (f : xF) (g : xG) : Option (Int32 × xF × xG) := some ((-2 : Int32), f, g)

def pX8_sheet_67 : Nat → xF → xG → Int32 → Int32 → Option (Int32 × xF × xG)
  | 0, _, _, _, _ => none
  | n + 1, f, g, v1, v4 => if (40 : Int32) ≤ v4 then some ((1 : Int32), f, g) else (if gin (((40 : Int32) * v1) + v4) 160 = true then pX8_sheet_67 n f (va_up g 51 (upd (g 51) (((40 : Int32) * v1) + v4).toNatClampNeg (0 : Int32))) v1 (v4 + 1) else none)

def pX8_sheet_63 (f : xF) (g : xG) (v1 : Int32) (t1 : Int32) (t2 : Int32) : Option (Int32 × xF × xG) := if gin t1 4 = true then pX8_sheet_67 5000 f (va_up g 50 (upd (g 50) t1.toNatClampNeg t2)) v1 (0 : Int32) else none

def pX8_sheet_42 (f : xF) (g : xG) (v1 : Int32) (v2 : Int32) (v3 : Int32) : Option (Int32 × xF × xG) := if gin v1 4 = true then if 0 ≤ v2 then pX8_sheet_63 f (va_up g 49 (upd (g 49) v1.toNatClampNeg v2)) v1 v1 v3 else pX8_sheet_63 f (va_up g 49 (upd (g 49) v1.toNatClampNeg v2)) v1 v1 (0 : Int32) else none

def pX8_sheet_31 (f : xF) (g : xG) (v1 : Int32) (v2 : Int32) (v3 : Int32) : Option (Int32 × xF × xG) := if v2 < 0 then pX8_sheet_42 f g v1 v2 v3 else (if 0 ≤ v3 then pX8_sheet_42 f g v1 v2 v3 else some ((-14 : Int32), f, g))

def pX8_sheet_0 (f : xF) (g : xG) (v1 : Int32) (v2 : Int32) (v3 : Int32) : Option (Int32 × xF × xG) := (pX8_isSheet f g v1).bind (fun r2 => if r2 = 0 then pX8_sheet_28 f g else (pX8_in f g v2 (-1 : Int32) (2 : Int32)).bind (fun r12 => if r12 = 0 then pX8_sheet_28 f g else (if v2 < 0 then pX8_sheet_31 f g v1 v2 v3 else (if v3 ≤ (40 : Int32) then pX8_sheet_31 f g v1 v2 v3 else pX8_sheet_28 f g))))

abbrev pX8_sheet (f : xF) (g : xG) (v1 : Int32) (v2 : Int32) (v3 : Int32) : Option (Int32 × xF × xG) := pX8_sheet_0 f g v1 v2 v3
theorem bX8_sheet_28 {p : Program} {l : Launch} {e : Env} {s : State} {m : MethodId} {as : Array Value} {below : List Frame} {meth : Method} {c : Code} {A : Nat → Prop} {Q : State → Prop} {γ : wx_G} {o : Nat} {ad : Nat → Nat} {z : Int32 × xF × xG} (C : CallFix p m c cX8_sheet 5 s as lw_all RX8) (K : wx_C γ A s) (E : ∀ (H : Heap) (locs : List Loc) (ls : Array Slot) (pc : Nat), wx_w γ A s H locs (mw γ o ad z.2.1 z.2.2) → decode cX8_sheet pc = .ok (.ireturn, 1) → W p l e rmX8_sheet s m as below meth c H locs 0 0 Q (F0 m pc ls [.int z.1])) {f : xF} {g : xG} {H : Heap} {locs : List Loc} {ls : Array Slot} (w : wx_w γ A s H locs (mw γ o ad f g)) (hl : lv_has ls 5 []) (hF : pX8_sheet_28 f g = some z) : W p l e rmX8_sheet s m as below meth c H locs 0 0 Q (F0 m 28 ls []) := by
  have hx := C.1
  have hb := C.2.1
  unfold pX8_sheet_28 at hF
  refine lv_bipush (v := (-2 : Int32)) hx hb dX8_sheet_28 (by decide) ?_
  have hF := Option.some.inj hF
  subst hF
  exact E _ _ _ _ w dX8_sheet_30

theorem bX8_sheet_67 {p : Program} {l : Launch} {e : Env} {s : State} {m : MethodId} {as : Array Value} {below : List Frame} {meth : Method} {c : Code} {A : Nat → Prop} {Q : State → Prop} {γ : wx_G} {o : Nat} {ad : Nat → Nat} {z : Int32 × xF × xG} (C : CallFix p m c cX8_sheet 5 s as lw_all RX8) (K : wx_C γ A s) (E : ∀ (H : Heap) (locs : List Loc) (ls : Array Slot) (pc : Nat), wx_w γ A s H locs (mw γ o ad z.2.1 z.2.2) → decode cX8_sheet pc = .ok (.ireturn, 1) → W p l e rmX8_sheet s m as below meth c H locs 0 0 Q (F0 m pc ls [.int z.1])) : ∀ (n : Nat) (f : xF) (g : xG) (v1 : Int32) (v4 : Int32) (H : Heap) (locs : List Loc) (ls : Array Slot), pX8_sheet_67 n f g v1 v4 = some z → wx_w γ A s H locs (mw γ o ad f g) → lv_has ls 5 [(0, .ref o), (1, .int v1), (4, .int v4)] → W p l e rmX8_sheet s m as below meth c H locs 0 0 Q (F0 m 67 ls []) := by
  have hx := C.1
  have hb := C.2.1
  intro n
  induction n with
  | zero =>
    intro f g v1 v4 H locs ls hF w hl
    have hF : (none : Option (Int32 × xF × xG)) = some z := hF
    cases hF
  | succ n ih =>
    intro f g v1 v4 H locs ls hF w hl
    rw [pX8_sheet_67] at hF
    refine lv_iload hx hb dX8_sheet_67 (lv_at hl 2 rfl) ?_
    refine lv_bipush (v := (40 : Int32)) hx hb dX8_sheet_69 (by decide) ?_
    refine lv_icmp_ge (tgt := 93) hx hb dX8_sheet_71 (by decide) (fun c => ?_) (fun c => ?_)
    · have hF := (if_pos c).symm.trans hF
      refine lv_iconst (v := (1 : Int32)) hx hb dX8_sheet_93 (by decide) ?_
      have hF := Option.some.inj hF
      subst hF
      exact E _ _ _ _ w dX8_sheet_94
    · have hF := (if_neg c).symm.trans hF
      refine lv_aload_n hx hb dX8_sheet_74 rfl (lv_at hl 0 rfl) ?_
      refine mget_51 C K w dX8_sheet_75 ?_
      refine lv_bipush (v := (40 : Int32)) hx hb dX8_sheet_78 (by decide) ?_
      refine lv_iload_n hx hb dX8_sheet_80 rfl (lv_at hl 1 rfl) ?_
      refine lv_imul hx hb dX8_sheet_81 ?_
      refine lv_iload hx hb dX8_sheet_82 (lv_at hl 2 rfl) ?_
      refine lv_iadd hx hb dX8_sheet_84 ?_
      refine lv_iconst (v := (0 : Int32)) hx hb dX8_sheet_85 (by decide) ?_
      obtain ⟨hi, hF⟩ := gin_if hF
      refine mast_51 C K w hi dX8_sheet_86 (fun H locs w => ?_)
      refine lv_iinc (v := v4 + 1) (lv' := [(4, .int (v4 + 1)), (0, .ref o), (1, .int v1)]) hx hb dX8_sheet_87 hl (k := 2) rfl rfl (by decide) rfl (fun ls hl => ?_)
      refine lv_goto (tgt := 67) hx hb dX8_sheet_90 (by decide) ?_
      exact ih _ _ _ _ _ _ _ hF w (lv_sub hl [1, 2, 0] rfl)

theorem bX8_sheet_63 {p : Program} {l : Launch} {e : Env} {s : State} {m : MethodId} {as : Array Value} {below : List Frame} {meth : Method} {c : Code} {A : Nat → Prop} {Q : State → Prop} {γ : wx_G} {o : Nat} {ad : Nat → Nat} {z : Int32 × xF × xG} (C : CallFix p m c cX8_sheet 5 s as lw_all RX8) (K : wx_C γ A s) (E : ∀ (H : Heap) (locs : List Loc) (ls : Array Slot) (pc : Nat), wx_w γ A s H locs (mw γ o ad z.2.1 z.2.2) → decode cX8_sheet pc = .ok (.ireturn, 1) → W p l e rmX8_sheet s m as below meth c H locs 0 0 Q (F0 m pc ls [.int z.1])) {f : xF} {g : xG} {v1 : Int32} {t1 : Int32} {t2 : Int32} {H : Heap} {locs : List Loc} {ls : Array Slot} (w : wx_w γ A s H locs (mw γ o ad f g)) (hl : lv_has ls 5 [(0, .ref o), (1, .int v1)]) (hF : pX8_sheet_63 f g v1 t1 t2 = some z) : W p l e rmX8_sheet s m as below meth c H locs 0 0 Q (F0 m 63 ls [.int t2, .int t1, .ref (ad 50)]) := by
  have hx := C.1
  have hb := C.2.1
  unfold pX8_sheet_63 at hF
  obtain ⟨hi, hF⟩ := gin_if hF
  refine mast_50 C K w hi dX8_sheet_63 (fun H locs w => ?_)
  refine lv_iconst (v := (0 : Int32)) hx hb dX8_sheet_64 (by decide) ?_
  refine lv_istore (lv' := [(4, .int (0 : Int32)), (0, .ref o), (1, .int v1)]) hx hb dX8_sheet_65 hl (by decide) rfl (fun ls hl => ?_)
  exact bX8_sheet_67 C K E 5000 _ _ _ _ _ _ _ hF w (lv_sub hl [1, 2, 0] rfl)

theorem bX8_sheet_42 {p : Program} {l : Launch} {e : Env} {s : State} {m : MethodId} {as : Array Value} {below : List Frame} {meth : Method} {c : Code} {A : Nat → Prop} {Q : State → Prop} {γ : wx_G} {o : Nat} {ad : Nat → Nat} {z : Int32 × xF × xG} (C : CallFix p m c cX8_sheet 5 s as lw_all RX8) (K : wx_C γ A s) (E : ∀ (H : Heap) (locs : List Loc) (ls : Array Slot) (pc : Nat), wx_w γ A s H locs (mw γ o ad z.2.1 z.2.2) → decode cX8_sheet pc = .ok (.ireturn, 1) → W p l e rmX8_sheet s m as below meth c H locs 0 0 Q (F0 m pc ls [.int z.1])) {f : xF} {g : xG} {v1 : Int32} {v2 : Int32} {v3 : Int32} {H : Heap} {locs : List Loc} {ls : Array Slot} (w : wx_w γ A s H locs (mw γ o ad f g)) (hl : lv_has ls 5 [(0, .ref o), (1, .int v1), (2, .int v2), (3, .int v3)]) (hF : pX8_sheet_42 f g v1 v2 v3 = some z) : W p l e rmX8_sheet s m as below meth c H locs 0 0 Q (F0 m 42 ls []) := by
  have hx := C.1
  have hb := C.2.1
  unfold pX8_sheet_42 at hF
  refine lv_aload_n hx hb dX8_sheet_42 rfl (lv_at hl 0 rfl) ?_
  refine mget_49 C K w dX8_sheet_43 ?_
  refine lv_iload_n hx hb dX8_sheet_46 rfl (lv_at hl 1 rfl) ?_
  refine lv_iload_n hx hb dX8_sheet_47 rfl (lv_at hl 2 rfl) ?_
  obtain ⟨hi, hF⟩ := gin_if hF
  refine mast_49 C K w hi dX8_sheet_48 (fun H locs w => ?_)
  refine lv_aload_n hx hb dX8_sheet_49 rfl (lv_at hl 0 rfl) ?_
  refine mget_50 C K w dX8_sheet_50 ?_
  refine lv_iload_n hx hb dX8_sheet_53 rfl (lv_at hl 1 rfl) ?_
  refine lv_iload_n hx hb dX8_sheet_54 rfl (lv_at hl 2 rfl) ?_
  refine lv_if_ge (tgt := 62) hx hb dX8_sheet_55 (by decide) (fun c => ?_) (fun c => ?_)
  · have hF := (if_pos c).symm.trans hF
    refine lv_iload_n hx hb dX8_sheet_62 rfl (lv_at hl 3 rfl) ?_
    exact bX8_sheet_63 C K E w (lv_sub hl [0, 1] rfl) hF
  · have hF := (if_neg c).symm.trans hF
    refine lv_iconst (v := (0 : Int32)) hx hb dX8_sheet_58 (by decide) ?_
    refine lv_goto (tgt := 63) hx hb dX8_sheet_59 (by decide) ?_
    exact bX8_sheet_63 C K E w (lv_sub hl [0, 1] rfl) hF

theorem bX8_sheet_31 {p : Program} {l : Launch} {e : Env} {s : State} {m : MethodId} {as : Array Value} {below : List Frame} {meth : Method} {c : Code} {A : Nat → Prop} {Q : State → Prop} {γ : wx_G} {o : Nat} {ad : Nat → Nat} {z : Int32 × xF × xG} (C : CallFix p m c cX8_sheet 5 s as lw_all RX8) (K : wx_C γ A s) (E : ∀ (H : Heap) (locs : List Loc) (ls : Array Slot) (pc : Nat), wx_w γ A s H locs (mw γ o ad z.2.1 z.2.2) → decode cX8_sheet pc = .ok (.ireturn, 1) → W p l e rmX8_sheet s m as below meth c H locs 0 0 Q (F0 m pc ls [.int z.1])) {f : xF} {g : xG} {v1 : Int32} {v2 : Int32} {v3 : Int32} {H : Heap} {locs : List Loc} {ls : Array Slot} (w : wx_w γ A s H locs (mw γ o ad f g)) (hl : lv_has ls 5 [(0, .ref o), (1, .int v1), (2, .int v2), (3, .int v3)]) (hF : pX8_sheet_31 f g v1 v2 v3 = some z) : W p l e rmX8_sheet s m as below meth c H locs 0 0 Q (F0 m 31 ls []) := by
  have hx := C.1
  have hb := C.2.1
  unfold pX8_sheet_31 at hF
  refine lv_iload_n hx hb dX8_sheet_31 rfl (lv_at hl 2 rfl) ?_
  refine lv_if_lt (tgt := 42) hx hb dX8_sheet_32 (by decide) (fun c => ?_) (fun c => ?_)
  · have hF := (if_pos c).symm.trans hF
    exact bX8_sheet_42 C K E w hl hF
  · have hF := (if_neg c).symm.trans hF
    refine lv_iload_n hx hb dX8_sheet_35 rfl (lv_at hl 3 rfl) ?_
    refine lv_if_ge (tgt := 42) hx hb dX8_sheet_36 (by decide) (fun c => ?_) (fun c => ?_)
    · have hF := (if_pos c).symm.trans hF
      exact bX8_sheet_42 C K E w hl hF
    · have hF := (if_neg c).symm.trans hF
      refine lv_bipush (v := (-14 : Int32)) hx hb dX8_sheet_39 (by decide) ?_
      have hF := Option.some.inj hF
      subst hF
      exact E _ _ _ _ w dX8_sheet_41

theorem bX8_sheet_0 {p : Program} {l : Launch} {e : Env} {s : State} {m : MethodId} {as : Array Value} {below : List Frame} {meth : Method} {c : Code} {A : Nat → Prop} {Q : State → Prop} {γ : wx_G} {o : Nat} {ad : Nat → Nat} {z : Int32 × xF × xG} (C : CallFix p m c cX8_sheet 5 s as lw_all RX8) (K : wx_C γ A s) (E : ∀ (H : Heap) (locs : List Loc) (ls : Array Slot) (pc : Nat), wx_w γ A s H locs (mw γ o ad z.2.1 z.2.2) → decode cX8_sheet pc = .ok (.ireturn, 1) → W p l e rmX8_sheet s m as below meth c H locs 0 0 Q (F0 m pc ls [.int z.1])) {f : xF} {g : xG} {v1 : Int32} {v2 : Int32} {v3 : Int32} {H : Heap} {locs : List Loc} {ls : Array Slot} (w : wx_w γ A s H locs (mw γ o ad f g)) (hl : lv_has ls 5 [(0, .ref o), (1, .int v1), (2, .int v2), (3, .int v3)]) (hF : pX8_sheet_0 f g v1 v2 v3 = some z) : W p l e rmX8_sheet s m as below meth c H locs 0 0 Q (F0 m 0 ls []) := by
  have hx := C.1
  have hb := C.2.1
  unfold pX8_sheet_0 at hF
  refine lv_aload_n hx hb dX8_sheet_0 rfl (lv_at hl 0 rfl) ?_
  refine lv_iload_n hx hb dX8_sheet_1 rfl (lv_at hl 1 rfl) ?_
  obtain ⟨r2, hr, hF⟩ := obd hF
  refine rX8_isSheet C K w hr hl.1 ⟨Nat.le_of_ble_eq_true rfl, Nat.le_of_ble_eq_true rfl⟩ (Nat.le_of_ble_eq_true rfl) dX8_sheet_2 (fun H locs w => ?_)
  refine lv_if_eq (tgt := 28) hx hb dX8_sheet_5 (by decide) (fun c => ?_) (fun c => ?_)
  · have hF := (if_pos c).symm.trans hF
    exact bX8_sheet_28 C K E w (lv_sub hl [] rfl) hF
  · have hF := (if_neg c).symm.trans hF
    refine lv_aload_n hx hb dX8_sheet_8 rfl (lv_at hl 0 rfl) ?_
    refine lv_iload_n hx hb dX8_sheet_9 rfl (lv_at hl 2 rfl) ?_
    refine lv_iconst (v := (-1 : Int32)) hx hb dX8_sheet_10 (by decide) ?_
    refine lv_iconst (v := (2 : Int32)) hx hb dX8_sheet_11 (by decide) ?_
    obtain ⟨r12, hr, hF⟩ := obd hF
    refine rX8_in C K w hr hl.1 ⟨Nat.le_of_ble_eq_true rfl, Nat.le_of_ble_eq_true rfl⟩ (Nat.le_of_ble_eq_true rfl) dX8_sheet_12 (fun H locs w => ?_)
    refine lv_if_eq (tgt := 28) hx hb dX8_sheet_15 (by decide) (fun c => ?_) (fun c => ?_)
    · have hF := (if_pos c).symm.trans hF
      exact bX8_sheet_28 C K E w (lv_sub hl [] rfl) hF
    · have hF := (if_neg c).symm.trans hF
      refine lv_iload_n hx hb dX8_sheet_18 rfl (lv_at hl 2 rfl) ?_
      refine lv_if_lt (tgt := 31) hx hb dX8_sheet_19 (by decide) (fun c => ?_) (fun c => ?_)
      · have hF := (if_pos c).symm.trans hF
        exact bX8_sheet_31 C K E w hl hF
      · have hF := (if_neg c).symm.trans hF
        refine lv_iload_n hx hb dX8_sheet_22 rfl (lv_at hl 3 rfl) ?_
        refine lv_bipush (v := (40 : Int32)) hx hb dX8_sheet_23 (by decide) ?_
        refine lv_icmp_le (tgt := 31) hx hb dX8_sheet_25 (by decide) (fun c => ?_) (fun c => ?_)
        · have hF := (if_pos c).symm.trans hF
          exact bX8_sheet_31 C K E w hl hF
        · have hF := (if_neg c).symm.trans hF
          exact bX8_sheet_28 C K E w (lv_sub hl [] rfl) hF

theorem mX8_sheet {l : Launch} {γ : wx_G} {o : Nat} {ad : Nat → Nat} {f : xF} {g : xG} {v1 : Int32} {v2 : Int32} {v3 : Int32} {z : Int32 × xF × xG} (hF : pX8_sheet f g v1 v2 v3 = some z) : wx_M γ l yX8_sheet (ws_ yX8_sheet cX8_sheet 5 (some .int)) rmX8_sheet [.ref o, .int v1, .int v2, .int v3] (mw γ o ad f g) (fun v ws => v = some (.int z.1) ∧ ws = (mw γ o ad z.2.1 z.2.2)) 0 0 := by
  refine wx_M.of (by decide) (Nat.le_of_ble_eq_true rfl) ?_
  intro p e s m as below meth c A ls C K w hr hlocks _ hl
  exact bX8_sheet_0 C K (fun H locs ls pc w d => wx_iret C hr hlocks w ⟨rfl, rfl⟩ d) w hl hF

/-! WalkingStonesModel.cell(III)I -/
abbrev rmX8_cell : Room := { frames := 2, cells := 0, slots := 0, locals := 44 }
def pX8_cell_83 (f : xF) (g : xG) (t1 : Int32) (t2 : Int32) : Option (Int32 × xF × xG) := if gin t1 160 = true then some ((1 : Int32), f, va_up g 51 (upd (g 51) t1.toNatClampNeg t2)) else none

def pX8_cell_0 (f : xF) (g : xG) (v1 : Int32) (v2 : Int32) (v3 : Int32) : Option (Int32 × xF × xG) := (pX8_isSheet f g v1).bind (fun r2 => if r2 = 0 then some ((-2 : Int32), f, g) else (if gin v1 4 = true then if 0 ≤ (g 49 v1.toNatClampNeg) then (if gin v1 4 = true then (pX8_in f g v2 (0 : Int32) ((g 50 v1.toNatClampNeg) - (1 : Int32))).bind (fun r34 => if r34 = 0 then some ((-12 : Int32), f, g) else (if gin v1 4 = true then if (g 49 v1.toNatClampNeg) = 0 then pX8_cell_83 f g (((40 : Int32) * v1) + v2) v3.toInt8.toInt32 else (if gin v1 4 = true then if (g 49 v1.toNatClampNeg) = (1 : Int32) then pX8_cell_83 f g (((40 : Int32) * v1) + v2) v3.toInt16.toInt32 else pX8_cell_83 f g (((40 : Int32) * v1) + v2) v3 else none) else none)) else none) else some ((-11 : Int32), f, g) else none))

abbrev pX8_cell (f : xF) (g : xG) (v1 : Int32) (v2 : Int32) (v3 : Int32) : Option (Int32 × xF × xG) := pX8_cell_0 f g v1 v2 v3
theorem bX8_cell_83 {p : Program} {l : Launch} {e : Env} {s : State} {m : MethodId} {as : Array Value} {below : List Frame} {meth : Method} {c : Code} {A : Nat → Prop} {Q : State → Prop} {γ : wx_G} {o : Nat} {ad : Nat → Nat} {z : Int32 × xF × xG} (C : CallFix p m c cX8_cell 4 s as lw_all RX8) (K : wx_C γ A s) (E : ∀ (H : Heap) (locs : List Loc) (ls : Array Slot) (pc : Nat), wx_w γ A s H locs (mw γ o ad z.2.1 z.2.2) → decode cX8_cell pc = .ok (.ireturn, 1) → W p l e rmX8_cell s m as below meth c H locs 0 0 Q (F0 m pc ls [.int z.1])) {f : xF} {g : xG} {t1 : Int32} {t2 : Int32} {H : Heap} {locs : List Loc} {ls : Array Slot} (w : wx_w γ A s H locs (mw γ o ad f g)) (hl : lv_has ls 4 []) (hF : pX8_cell_83 f g t1 t2 = some z) : W p l e rmX8_cell s m as below meth c H locs 0 0 Q (F0 m 83 ls [.int t2, .int t1, .ref (ad 51)]) := by
  have hx := C.1
  have hb := C.2.1
  unfold pX8_cell_83 at hF
  obtain ⟨hi, hF⟩ := gin_if hF
  refine mast_51 C K w hi dX8_cell_83 (fun H locs w => ?_)
  refine lv_iconst (v := (1 : Int32)) hx hb dX8_cell_84 (by decide) ?_
  have hF := Option.some.inj hF
  subst hF
  exact E _ _ _ _ w dX8_cell_85

theorem bX8_cell_0 {p : Program} {l : Launch} {e : Env} {s : State} {m : MethodId} {as : Array Value} {below : List Frame} {meth : Method} {c : Code} {A : Nat → Prop} {Q : State → Prop} {γ : wx_G} {o : Nat} {ad : Nat → Nat} {z : Int32 × xF × xG} (C : CallFix p m c cX8_cell 4 s as lw_all RX8) (K : wx_C γ A s) (E : ∀ (H : Heap) (locs : List Loc) (ls : Array Slot) (pc : Nat), wx_w γ A s H locs (mw γ o ad z.2.1 z.2.2) → decode cX8_cell pc = .ok (.ireturn, 1) → W p l e rmX8_cell s m as below meth c H locs 0 0 Q (F0 m pc ls [.int z.1])) {f : xF} {g : xG} {v1 : Int32} {v2 : Int32} {v3 : Int32} {H : Heap} {locs : List Loc} {ls : Array Slot} (w : wx_w γ A s H locs (mw γ o ad f g)) (hl : lv_has ls 4 [(0, .ref o), (1, .int v1), (2, .int v2), (3, .int v3)]) (hF : pX8_cell_0 f g v1 v2 v3 = some z) : W p l e rmX8_cell s m as below meth c H locs 0 0 Q (F0 m 0 ls []) := by
  have hx := C.1
  have hb := C.2.1
  unfold pX8_cell_0 at hF
  refine lv_aload_n hx hb dX8_cell_0 rfl (lv_at hl 0 rfl) ?_
  refine lv_iload_n hx hb dX8_cell_1 rfl (lv_at hl 1 rfl) ?_
  obtain ⟨r2, hr, hF⟩ := obd hF
  refine rX8_isSheet C K w hr hl.1 ⟨Nat.le_of_ble_eq_true rfl, Nat.le_of_ble_eq_true rfl⟩ (Nat.le_of_ble_eq_true rfl) dX8_cell_2 (fun H locs w => ?_)
  refine lv_if_ne (tgt := 11) hx hb dX8_cell_5 (by decide) (fun c => ?_) (fun c => ?_)
  · have hF := (if_neg c).symm.trans hF
    refine lv_aload_n hx hb dX8_cell_11 rfl (lv_at hl 0 rfl) ?_
    refine mget_49 C K w dX8_cell_12 ?_
    refine lv_iload_n hx hb dX8_cell_15 rfl (lv_at hl 1 rfl) ?_
    obtain ⟨hi, hF⟩ := gin_if hF
    refine mald_49 C K w hi dX8_cell_16 ?_
    refine lv_if_ge (tgt := 23) hx hb dX8_cell_17 (by decide) (fun c => ?_) (fun c => ?_)
    · have hF := (if_pos c).symm.trans hF
      refine lv_aload_n hx hb dX8_cell_23 rfl (lv_at hl 0 rfl) ?_
      refine lv_iload_n hx hb dX8_cell_24 rfl (lv_at hl 2 rfl) ?_
      refine lv_iconst (v := (0 : Int32)) hx hb dX8_cell_25 (by decide) ?_
      refine lv_aload_n hx hb dX8_cell_26 rfl (lv_at hl 0 rfl) ?_
      refine mget_50 C K w dX8_cell_27 ?_
      refine lv_iload_n hx hb dX8_cell_30 rfl (lv_at hl 1 rfl) ?_
      obtain ⟨hi, hF⟩ := gin_if hF
      refine mald_50 C K w hi dX8_cell_31 ?_
      refine lv_iconst (v := (1 : Int32)) hx hb dX8_cell_32 (by decide) ?_
      refine lv_isub hx hb dX8_cell_33 ?_
      obtain ⟨r34, hr, hF⟩ := obd hF
      refine rX8_in C K w hr hl.1 ⟨Nat.le_of_ble_eq_true rfl, Nat.le_of_ble_eq_true rfl⟩ (Nat.le_of_ble_eq_true rfl) dX8_cell_34 (fun H locs w => ?_)
      refine lv_if_ne (tgt := 43) hx hb dX8_cell_37 (by decide) (fun c => ?_) (fun c => ?_)
      · have hF := (if_neg c).symm.trans hF
        refine lv_aload_n hx hb dX8_cell_43 rfl (lv_at hl 0 rfl) ?_
        refine mget_51 C K w dX8_cell_44 ?_
        refine lv_bipush (v := (40 : Int32)) hx hb dX8_cell_47 (by decide) ?_
        refine lv_iload_n hx hb dX8_cell_49 rfl (lv_at hl 1 rfl) ?_
        refine lv_imul hx hb dX8_cell_50 ?_
        refine lv_iload_n hx hb dX8_cell_51 rfl (lv_at hl 2 rfl) ?_
        refine lv_iadd hx hb dX8_cell_52 ?_
        refine lv_aload_n hx hb dX8_cell_53 rfl (lv_at hl 0 rfl) ?_
        refine mget_49 C K w dX8_cell_54 ?_
        refine lv_iload_n hx hb dX8_cell_57 rfl (lv_at hl 1 rfl) ?_
        obtain ⟨hi, hF⟩ := gin_if hF
        refine mald_49 C K w hi dX8_cell_58 ?_
        refine lv_if_ne (tgt := 67) hx hb dX8_cell_59 (by decide) (fun c => ?_) (fun c => ?_)
        · have hF := (if_neg c).symm.trans hF
          refine lv_aload_n hx hb dX8_cell_67 rfl (lv_at hl 0 rfl) ?_
          refine mget_49 C K w dX8_cell_68 ?_
          refine lv_iload_n hx hb dX8_cell_71 rfl (lv_at hl 1 rfl) ?_
          obtain ⟨hi, hF⟩ := gin_if hF
          refine mald_49 C K w hi dX8_cell_72 ?_
          refine lv_iconst (v := (1 : Int32)) hx hb dX8_cell_73 (by decide) ?_
          refine lv_icmp_ne (tgt := 82) hx hb dX8_cell_74 (by decide) (fun c => ?_) (fun c => ?_)
          · have hF := (if_neg c).symm.trans hF
            refine lv_iload_n hx hb dX8_cell_82 rfl (lv_at hl 3 rfl) ?_
            exact bX8_cell_83 C K E w (lv_sub hl [] rfl) hF
          · have hF := (if_pos c).symm.trans hF
            refine lv_iload_n hx hb dX8_cell_77 rfl (lv_at hl 3 rfl) ?_
            refine lv_i2s hx hb dX8_cell_78 rfl ?_
            refine lv_goto (tgt := 83) hx hb dX8_cell_79 (by decide) ?_
            exact bX8_cell_83 C K E w (lv_sub hl [] rfl) hF
        · have hF := (if_pos c).symm.trans hF
          refine lv_iload_n hx hb dX8_cell_62 rfl (lv_at hl 3 rfl) ?_
          refine lv_i2b hx hb dX8_cell_63 rfl ?_
          refine lv_goto (tgt := 83) hx hb dX8_cell_64 (by decide) ?_
          exact bX8_cell_83 C K E w (lv_sub hl [] rfl) hF
      · have hF := (if_pos c).symm.trans hF
        refine lv_bipush (v := (-12 : Int32)) hx hb dX8_cell_40 (by decide) ?_
        have hF := Option.some.inj hF
        subst hF
        exact E _ _ _ _ w dX8_cell_42
    · have hF := (if_neg c).symm.trans hF
      refine lv_bipush (v := (-11 : Int32)) hx hb dX8_cell_20 (by decide) ?_
      have hF := Option.some.inj hF
      subst hF
      exact E _ _ _ _ w dX8_cell_22
  · have hF := (if_pos c).symm.trans hF
    refine lv_bipush (v := (-2 : Int32)) hx hb dX8_cell_8 (by decide) ?_
    have hF := Option.some.inj hF
    subst hF
    exact E _ _ _ _ w dX8_cell_10

theorem mX8_cell {l : Launch} {γ : wx_G} {o : Nat} {ad : Nat → Nat} {f : xF} {g : xG} {v1 : Int32} {v2 : Int32} {v3 : Int32} {z : Int32 × xF × xG} (hF : pX8_cell f g v1 v2 v3 = some z) : wx_M γ l yX8_cell (ws_ yX8_cell cX8_cell 4 (some .int)) rmX8_cell [.ref o, .int v1, .int v2, .int v3] (mw γ o ad f g) (fun v ws => v = some (.int z.1) ∧ ws = (mw γ o ad z.2.1 z.2.2)) 0 0 := by
  refine wx_M.of (by decide) (Nat.le_of_ble_eq_true rfl) ?_
  intro p e s m as below meth c A ls C K w hr hlocks _ hl
  exact bX8_cell_0 C K (fun H locs ls pc w d => wx_iret C hr hlocks w ⟨rfl, rfl⟩ d) w hl hF

/-! WalkingStonesModel.copy(IIIII)I -/
abbrev rmX8_copy : Room := { frames := 2, cells := 0, slots := 0, locals := 44 }
def pX8_copy_16 (f : xF) (g : xG) : Option (Int32 × xF × xG) := some ((-2 : Int32), f, g)

def pX8_copy_37 (f : xF) (g : xG) : Option (Int32 × xF × xG) := some ((-11 : Int32), f, g)

def pX8_copy_99 (f : xF) (g : xG) : Option (Int32 × xF × xG) := some ((-12 : Int32), f, g)

def pX8_copy_142 : Nat → xF → xG → Int32 → Int32 → Int32 → Int32 → Option (Int32 × xF × xG)
  | 0, _, _, _, _, _, _ => none
  | n + 1, f, g, v3, v4, v5, v6 => if v5 ≤ v6 then some (v5, f, g) else (if gin v6 40 = true then if gin ((((40 : Int32) * v3) + v4) + v6) 160 = true then pX8_copy_142 n f (va_up g 51 (upd (g 51) ((((40 : Int32) * v3) + v4) + v6).toNatClampNeg (g 52 v6.toNatClampNeg))) v3 v4 v5 (v6 + 1) else none else none)

def pX8_copy_139 (f : xF) (g : xG) (v3 : Int32) (v4 : Int32) (v5 : Int32) : Option (Int32 × xF × xG) := pX8_copy_142 5000 f g v3 v4 v5 (0 : Int32)

def pX8_copy_105 : Nat → xF → xG → Int32 → Int32 → Int32 → Int32 → Int32 → Int32 → Option (Int32 × xF × xG)
  | 0, _, _, _, _, _, _, _, _ => none
  | n + 1, f, g, v1, v2, v3, v4, v5, v6 => if v5 ≤ v6 then pX8_copy_139 f g v3 v4 v5 else (if gin ((((40 : Int32) * v1) + v2) + v6) 160 = true then if gin v6 40 = true then pX8_copy_105 n f (va_up g 52 (upd (g 52) v6.toNatClampNeg (g 51 ((((40 : Int32) * v1) + v2) + v6).toNatClampNeg))) v1 v2 v3 v4 v5 (v6 + 1) else none else none)

def pX8_copy_0 (f : xF) (g : xG) (v1 : Int32) (v2 : Int32) (v3 : Int32) (v4 : Int32) (v5 : Int32) : Option (Int32 × xF × xG) := (pX8_isSheet f g v1).bind (fun r2 => if r2 = 0 then pX8_copy_16 f g else (pX8_isSheet f g v3).bind (fun r10 => if r10 = 0 then pX8_copy_16 f g else (if gin v1 4 = true then if (g 49 v1.toNatClampNeg) < 0 then pX8_copy_37 f g else (if gin v3 4 = true then if 0 ≤ (g 49 v3.toNatClampNeg) then (if gin v1 4 = true then if gin v3 4 = true then if (g 49 v1.toNatClampNeg) = (g 49 v3.toNatClampNeg) then (if v5 < 0 then pX8_copy_99 f g else (if v2 < 0 then pX8_copy_99 f g else (if v4 < 0 then pX8_copy_99 f g else (if gin v1 4 = true then if ((g 50 v1.toNatClampNeg) - v5) < v2 then pX8_copy_99 f g else (if gin v3 4 = true then if v4 ≤ ((g 50 v3.toNatClampNeg) - v5) then pX8_copy_105 5000 f g v1 v2 v3 v4 v5 (0 : Int32) else pX8_copy_99 f g else none) else none)))) else some ((-13 : Int32), f, g) else none else none) else pX8_copy_37 f g else none) else none)))

abbrev pX8_copy (f : xF) (g : xG) (v1 : Int32) (v2 : Int32) (v3 : Int32) (v4 : Int32) (v5 : Int32) : Option (Int32 × xF × xG) := pX8_copy_0 f g v1 v2 v3 v4 v5
theorem bX8_copy_16 {p : Program} {l : Launch} {e : Env} {s : State} {m : MethodId} {as : Array Value} {below : List Frame} {meth : Method} {c : Code} {A : Nat → Prop} {Q : State → Prop} {γ : wx_G} {o : Nat} {ad : Nat → Nat} {z : Int32 × xF × xG} (C : CallFix p m c cX8_copy 7 s as lw_all RX8) (K : wx_C γ A s) (E : ∀ (H : Heap) (locs : List Loc) (ls : Array Slot) (pc : Nat), wx_w γ A s H locs (mw γ o ad z.2.1 z.2.2) → decode cX8_copy pc = .ok (.ireturn, 1) → W p l e rmX8_copy s m as below meth c H locs 0 0 Q (F0 m pc ls [.int z.1])) {f : xF} {g : xG} {H : Heap} {locs : List Loc} {ls : Array Slot} (w : wx_w γ A s H locs (mw γ o ad f g)) (hl : lv_has ls 7 []) (hF : pX8_copy_16 f g = some z) : W p l e rmX8_copy s m as below meth c H locs 0 0 Q (F0 m 16 ls []) := by
  have hx := C.1
  have hb := C.2.1
  unfold pX8_copy_16 at hF
  refine lv_bipush (v := (-2 : Int32)) hx hb dX8_copy_16 (by decide) ?_
  have hF := Option.some.inj hF
  subst hF
  exact E _ _ _ _ w dX8_copy_18

theorem bX8_copy_37 {p : Program} {l : Launch} {e : Env} {s : State} {m : MethodId} {as : Array Value} {below : List Frame} {meth : Method} {c : Code} {A : Nat → Prop} {Q : State → Prop} {γ : wx_G} {o : Nat} {ad : Nat → Nat} {z : Int32 × xF × xG} (C : CallFix p m c cX8_copy 7 s as lw_all RX8) (K : wx_C γ A s) (E : ∀ (H : Heap) (locs : List Loc) (ls : Array Slot) (pc : Nat), wx_w γ A s H locs (mw γ o ad z.2.1 z.2.2) → decode cX8_copy pc = .ok (.ireturn, 1) → W p l e rmX8_copy s m as below meth c H locs 0 0 Q (F0 m pc ls [.int z.1])) {f : xF} {g : xG} {H : Heap} {locs : List Loc} {ls : Array Slot} (w : wx_w γ A s H locs (mw γ o ad f g)) (hl : lv_has ls 7 []) (hF : pX8_copy_37 f g = some z) : W p l e rmX8_copy s m as below meth c H locs 0 0 Q (F0 m 37 ls []) := by
  have hx := C.1
  have hb := C.2.1
  unfold pX8_copy_37 at hF
  refine lv_bipush (v := (-11 : Int32)) hx hb dX8_copy_37 (by decide) ?_
  have hF := Option.some.inj hF
  subst hF
  exact E _ _ _ _ w dX8_copy_39

theorem bX8_copy_99 {p : Program} {l : Launch} {e : Env} {s : State} {m : MethodId} {as : Array Value} {below : List Frame} {meth : Method} {c : Code} {A : Nat → Prop} {Q : State → Prop} {γ : wx_G} {o : Nat} {ad : Nat → Nat} {z : Int32 × xF × xG} (C : CallFix p m c cX8_copy 7 s as lw_all RX8) (K : wx_C γ A s) (E : ∀ (H : Heap) (locs : List Loc) (ls : Array Slot) (pc : Nat), wx_w γ A s H locs (mw γ o ad z.2.1 z.2.2) → decode cX8_copy pc = .ok (.ireturn, 1) → W p l e rmX8_copy s m as below meth c H locs 0 0 Q (F0 m pc ls [.int z.1])) {f : xF} {g : xG} {H : Heap} {locs : List Loc} {ls : Array Slot} (w : wx_w γ A s H locs (mw γ o ad f g)) (hl : lv_has ls 7 []) (hF : pX8_copy_99 f g = some z) : W p l e rmX8_copy s m as below meth c H locs 0 0 Q (F0 m 99 ls []) := by
  have hx := C.1
  have hb := C.2.1
  unfold pX8_copy_99 at hF
  refine lv_bipush (v := (-12 : Int32)) hx hb dX8_copy_99 (by decide) ?_
  have hF := Option.some.inj hF
  subst hF
  exact E _ _ _ _ w dX8_copy_101

theorem bX8_copy_142 {p : Program} {l : Launch} {e : Env} {s : State} {m : MethodId} {as : Array Value} {below : List Frame} {meth : Method} {c : Code} {A : Nat → Prop} {Q : State → Prop} {γ : wx_G} {o : Nat} {ad : Nat → Nat} {z : Int32 × xF × xG} (C : CallFix p m c cX8_copy 7 s as lw_all RX8) (K : wx_C γ A s) (E : ∀ (H : Heap) (locs : List Loc) (ls : Array Slot) (pc : Nat), wx_w γ A s H locs (mw γ o ad z.2.1 z.2.2) → decode cX8_copy pc = .ok (.ireturn, 1) → W p l e rmX8_copy s m as below meth c H locs 0 0 Q (F0 m pc ls [.int z.1])) : ∀ (n : Nat) (f : xF) (g : xG) (v3 : Int32) (v4 : Int32) (v5 : Int32) (v6 : Int32) (H : Heap) (locs : List Loc) (ls : Array Slot), pX8_copy_142 n f g v3 v4 v5 v6 = some z → wx_w γ A s H locs (mw γ o ad f g) → lv_has ls 7 [(0, .ref o), (3, .int v3), (4, .int v4), (5, .int v5), (6, .int v6)] → W p l e rmX8_copy s m as below meth c H locs 0 0 Q (F0 m 142 ls []) := by
  have hx := C.1
  have hb := C.2.1
  intro n
  induction n with
  | zero =>
    intro f g v3 v4 v5 v6 H locs ls hF w hl
    have hF : (none : Option (Int32 × xF × xG)) = some z := hF
    cases hF
  | succ n ih =>
    intro f g v3 v4 v5 v6 H locs ls hF w hl
    rw [pX8_copy_142] at hF
    refine lv_iload hx hb dX8_copy_142 (lv_at hl 4 rfl) ?_
    refine lv_iload hx hb dX8_copy_144 (lv_at hl 3 rfl) ?_
    refine lv_icmp_ge (tgt := 177) hx hb dX8_copy_146 (by decide) (fun c => ?_) (fun c => ?_)
    · have hF := (if_pos c).symm.trans hF
      refine lv_iload hx hb dX8_copy_177 (lv_at hl 3 rfl) ?_
      have hF := Option.some.inj hF
      subst hF
      exact E _ _ _ _ w dX8_copy_179
    · have hF := (if_neg c).symm.trans hF
      refine lv_aload_n hx hb dX8_copy_149 rfl (lv_at hl 0 rfl) ?_
      refine mget_51 C K w dX8_copy_150 ?_
      refine lv_bipush (v := (40 : Int32)) hx hb dX8_copy_153 (by decide) ?_
      refine lv_iload_n hx hb dX8_copy_155 rfl (lv_at hl 1 rfl) ?_
      refine lv_imul hx hb dX8_copy_156 ?_
      refine lv_iload hx hb dX8_copy_157 (lv_at hl 2 rfl) ?_
      refine lv_iadd hx hb dX8_copy_159 ?_
      refine lv_iload hx hb dX8_copy_160 (lv_at hl 4 rfl) ?_
      refine lv_iadd hx hb dX8_copy_162 ?_
      refine lv_aload_n hx hb dX8_copy_163 rfl (lv_at hl 0 rfl) ?_
      refine mget_52 C K w dX8_copy_164 ?_
      refine lv_iload hx hb dX8_copy_167 (lv_at hl 4 rfl) ?_
      obtain ⟨hi, hF⟩ := gin_if hF
      refine mald_52 C K w hi dX8_copy_169 ?_
      obtain ⟨hi, hF⟩ := gin_if hF
      refine mast_51 C K w hi dX8_copy_170 (fun H locs w => ?_)
      refine lv_iinc (v := v6 + 1) (lv' := [(6, .int (v6 + 1)), (0, .ref o), (3, .int v3), (4, .int v4), (5, .int v5)]) hx hb dX8_copy_171 hl (k := 4) rfl rfl (by decide) rfl (fun ls hl => ?_)
      refine lv_goto (tgt := 142) hx hb dX8_copy_174 (by decide) ?_
      exact ih _ _ _ _ _ _ _ _ _ hF w (lv_sub hl [1, 2, 3, 4, 0] rfl)

theorem bX8_copy_139 {p : Program} {l : Launch} {e : Env} {s : State} {m : MethodId} {as : Array Value} {below : List Frame} {meth : Method} {c : Code} {A : Nat → Prop} {Q : State → Prop} {γ : wx_G} {o : Nat} {ad : Nat → Nat} {z : Int32 × xF × xG} (C : CallFix p m c cX8_copy 7 s as lw_all RX8) (K : wx_C γ A s) (E : ∀ (H : Heap) (locs : List Loc) (ls : Array Slot) (pc : Nat), wx_w γ A s H locs (mw γ o ad z.2.1 z.2.2) → decode cX8_copy pc = .ok (.ireturn, 1) → W p l e rmX8_copy s m as below meth c H locs 0 0 Q (F0 m pc ls [.int z.1])) {f : xF} {g : xG} {v3 : Int32} {v4 : Int32} {v5 : Int32} {H : Heap} {locs : List Loc} {ls : Array Slot} (w : wx_w γ A s H locs (mw γ o ad f g)) (hl : lv_has ls 7 [(0, .ref o), (3, .int v3), (4, .int v4), (5, .int v5)]) (hF : pX8_copy_139 f g v3 v4 v5 = some z) : W p l e rmX8_copy s m as below meth c H locs 0 0 Q (F0 m 139 ls []) := by
  have hx := C.1
  have hb := C.2.1
  unfold pX8_copy_139 at hF
  refine lv_iconst (v := (0 : Int32)) hx hb dX8_copy_139 (by decide) ?_
  refine lv_istore (lv' := [(6, .int (0 : Int32)), (0, .ref o), (3, .int v3), (4, .int v4), (5, .int v5)]) hx hb dX8_copy_140 hl (by decide) rfl (fun ls hl => ?_)
  exact bX8_copy_142 C K E 5000 _ _ _ _ _ _ _ _ _ hF w (lv_sub hl [1, 2, 3, 4, 0] rfl)

theorem bX8_copy_105 {p : Program} {l : Launch} {e : Env} {s : State} {m : MethodId} {as : Array Value} {below : List Frame} {meth : Method} {c : Code} {A : Nat → Prop} {Q : State → Prop} {γ : wx_G} {o : Nat} {ad : Nat → Nat} {z : Int32 × xF × xG} (C : CallFix p m c cX8_copy 7 s as lw_all RX8) (K : wx_C γ A s) (E : ∀ (H : Heap) (locs : List Loc) (ls : Array Slot) (pc : Nat), wx_w γ A s H locs (mw γ o ad z.2.1 z.2.2) → decode cX8_copy pc = .ok (.ireturn, 1) → W p l e rmX8_copy s m as below meth c H locs 0 0 Q (F0 m pc ls [.int z.1])) : ∀ (n : Nat) (f : xF) (g : xG) (v1 : Int32) (v2 : Int32) (v3 : Int32) (v4 : Int32) (v5 : Int32) (v6 : Int32) (H : Heap) (locs : List Loc) (ls : Array Slot), pX8_copy_105 n f g v1 v2 v3 v4 v5 v6 = some z → wx_w γ A s H locs (mw γ o ad f g) → lv_has ls 7 [(0, .ref o), (1, .int v1), (2, .int v2), (3, .int v3), (4, .int v4), (5, .int v5), (6, .int v6)] → W p l e rmX8_copy s m as below meth c H locs 0 0 Q (F0 m 105 ls []) := by
  have hx := C.1
  have hb := C.2.1
  intro n
  induction n with
  | zero =>
    intro f g v1 v2 v3 v4 v5 v6 H locs ls hF w hl
    have hF : (none : Option (Int32 × xF × xG)) = some z := hF
    cases hF
  | succ n ih =>
    intro f g v1 v2 v3 v4 v5 v6 H locs ls hF w hl
    rw [pX8_copy_105] at hF
    refine lv_iload hx hb dX8_copy_105 (lv_at hl 6 rfl) ?_
    refine lv_iload hx hb dX8_copy_107 (lv_at hl 5 rfl) ?_
    refine lv_icmp_ge (tgt := 139) hx hb dX8_copy_109 (by decide) (fun c => ?_) (fun c => ?_)
    · have hF := (if_pos c).symm.trans hF
      exact bX8_copy_139 C K E w (lv_sub hl [0, 3, 4, 5] rfl) hF
    · have hF := (if_neg c).symm.trans hF
      refine lv_aload_n hx hb dX8_copy_112 rfl (lv_at hl 0 rfl) ?_
      refine mget_52 C K w dX8_copy_113 ?_
      refine lv_iload hx hb dX8_copy_116 (lv_at hl 6 rfl) ?_
      refine lv_aload_n hx hb dX8_copy_118 rfl (lv_at hl 0 rfl) ?_
      refine mget_51 C K w dX8_copy_119 ?_
      refine lv_bipush (v := (40 : Int32)) hx hb dX8_copy_122 (by decide) ?_
      refine lv_iload_n hx hb dX8_copy_124 rfl (lv_at hl 1 rfl) ?_
      refine lv_imul hx hb dX8_copy_125 ?_
      refine lv_iload_n hx hb dX8_copy_126 rfl (lv_at hl 2 rfl) ?_
      refine lv_iadd hx hb dX8_copy_127 ?_
      refine lv_iload hx hb dX8_copy_128 (lv_at hl 6 rfl) ?_
      refine lv_iadd hx hb dX8_copy_130 ?_
      obtain ⟨hi, hF⟩ := gin_if hF
      refine mald_51 C K w hi dX8_copy_131 ?_
      obtain ⟨hi, hF⟩ := gin_if hF
      refine mast_52 C K w hi dX8_copy_132 (fun H locs w => ?_)
      refine lv_iinc (v := v6 + 1) (lv' := [(6, .int (v6 + 1)), (0, .ref o), (1, .int v1), (2, .int v2), (3, .int v3), (4, .int v4), (5, .int v5)]) hx hb dX8_copy_133 hl (k := 6) rfl rfl (by decide) rfl (fun ls hl => ?_)
      refine lv_goto (tgt := 105) hx hb dX8_copy_136 (by decide) ?_
      exact ih _ _ _ _ _ _ _ _ _ _ _ hF w (lv_sub hl [1, 2, 3, 4, 5, 6, 0] rfl)

theorem bX8_copy_0 {p : Program} {l : Launch} {e : Env} {s : State} {m : MethodId} {as : Array Value} {below : List Frame} {meth : Method} {c : Code} {A : Nat → Prop} {Q : State → Prop} {γ : wx_G} {o : Nat} {ad : Nat → Nat} {z : Int32 × xF × xG} (C : CallFix p m c cX8_copy 7 s as lw_all RX8) (K : wx_C γ A s) (E : ∀ (H : Heap) (locs : List Loc) (ls : Array Slot) (pc : Nat), wx_w γ A s H locs (mw γ o ad z.2.1 z.2.2) → decode cX8_copy pc = .ok (.ireturn, 1) → W p l e rmX8_copy s m as below meth c H locs 0 0 Q (F0 m pc ls [.int z.1])) {f : xF} {g : xG} {v1 : Int32} {v2 : Int32} {v3 : Int32} {v4 : Int32} {v5 : Int32} {H : Heap} {locs : List Loc} {ls : Array Slot} (w : wx_w γ A s H locs (mw γ o ad f g)) (hl : lv_has ls 7 [(0, .ref o), (1, .int v1), (2, .int v2), (3, .int v3), (4, .int v4), (5, .int v5)]) (hF : pX8_copy_0 f g v1 v2 v3 v4 v5 = some z) : W p l e rmX8_copy s m as below meth c H locs 0 0 Q (F0 m 0 ls []) := by
  have hx := C.1
  have hb := C.2.1
  unfold pX8_copy_0 at hF
  refine lv_aload_n hx hb dX8_copy_0 rfl (lv_at hl 0 rfl) ?_
  refine lv_iload_n hx hb dX8_copy_1 rfl (lv_at hl 1 rfl) ?_
  obtain ⟨r2, hr, hF⟩ := obd hF
  refine rX8_isSheet C K w hr hl.1 ⟨Nat.le_of_ble_eq_true rfl, Nat.le_of_ble_eq_true rfl⟩ (Nat.le_of_ble_eq_true rfl) dX8_copy_2 (fun H locs w => ?_)
  refine lv_if_eq (tgt := 16) hx hb dX8_copy_5 (by decide) (fun c => ?_) (fun c => ?_)
  · have hF := (if_pos c).symm.trans hF
    exact bX8_copy_16 C K E w (lv_sub hl [] rfl) hF
  · have hF := (if_neg c).symm.trans hF
    refine lv_aload_n hx hb dX8_copy_8 rfl (lv_at hl 0 rfl) ?_
    refine lv_iload_n hx hb dX8_copy_9 rfl (lv_at hl 3 rfl) ?_
    obtain ⟨r10, hr, hF⟩ := obd hF
    refine rX8_isSheet C K w hr hl.1 ⟨Nat.le_of_ble_eq_true rfl, Nat.le_of_ble_eq_true rfl⟩ (Nat.le_of_ble_eq_true rfl) dX8_copy_10 (fun H locs w => ?_)
    refine lv_if_ne (tgt := 19) hx hb dX8_copy_13 (by decide) (fun c => ?_) (fun c => ?_)
    · have hF := (if_neg c).symm.trans hF
      refine lv_aload_n hx hb dX8_copy_19 rfl (lv_at hl 0 rfl) ?_
      refine mget_49 C K w dX8_copy_20 ?_
      refine lv_iload_n hx hb dX8_copy_23 rfl (lv_at hl 1 rfl) ?_
      obtain ⟨hi, hF⟩ := gin_if hF
      refine mald_49 C K w hi dX8_copy_24 ?_
      refine lv_if_lt (tgt := 37) hx hb dX8_copy_25 (by decide) (fun c => ?_) (fun c => ?_)
      · have hF := (if_pos c).symm.trans hF
        exact bX8_copy_37 C K E w (lv_sub hl [] rfl) hF
      · have hF := (if_neg c).symm.trans hF
        refine lv_aload_n hx hb dX8_copy_28 rfl (lv_at hl 0 rfl) ?_
        refine mget_49 C K w dX8_copy_29 ?_
        refine lv_iload_n hx hb dX8_copy_32 rfl (lv_at hl 3 rfl) ?_
        obtain ⟨hi, hF⟩ := gin_if hF
        refine mald_49 C K w hi dX8_copy_33 ?_
        refine lv_if_ge (tgt := 40) hx hb dX8_copy_34 (by decide) (fun c => ?_) (fun c => ?_)
        · have hF := (if_pos c).symm.trans hF
          refine lv_aload_n hx hb dX8_copy_40 rfl (lv_at hl 0 rfl) ?_
          refine mget_49 C K w dX8_copy_41 ?_
          refine lv_iload_n hx hb dX8_copy_44 rfl (lv_at hl 1 rfl) ?_
          obtain ⟨hi, hF⟩ := gin_if hF
          refine mald_49 C K w hi dX8_copy_45 ?_
          refine lv_aload_n hx hb dX8_copy_46 rfl (lv_at hl 0 rfl) ?_
          refine mget_49 C K w dX8_copy_47 ?_
          refine lv_iload_n hx hb dX8_copy_50 rfl (lv_at hl 3 rfl) ?_
          obtain ⟨hi, hF⟩ := gin_if hF
          refine mald_49 C K w hi dX8_copy_51 ?_
          refine lv_icmp_eq (tgt := 58) hx hb dX8_copy_52 (by decide) (fun c => ?_) (fun c => ?_)
          · have hF := (if_pos c).symm.trans hF
            refine lv_iload hx hb dX8_copy_58 (lv_at hl 5 rfl) ?_
            refine lv_if_lt (tgt := 99) hx hb dX8_copy_60 (by decide) (fun c => ?_) (fun c => ?_)
            · have hF := (if_pos c).symm.trans hF
              exact bX8_copy_99 C K E w (lv_sub hl [] rfl) hF
            · have hF := (if_neg c).symm.trans hF
              refine lv_iload_n hx hb dX8_copy_63 rfl (lv_at hl 2 rfl) ?_
              refine lv_if_lt (tgt := 99) hx hb dX8_copy_64 (by decide) (fun c => ?_) (fun c => ?_)
              · have hF := (if_pos c).symm.trans hF
                exact bX8_copy_99 C K E w (lv_sub hl [] rfl) hF
              · have hF := (if_neg c).symm.trans hF
                refine lv_iload hx hb dX8_copy_67 (lv_at hl 4 rfl) ?_
                refine lv_if_lt (tgt := 99) hx hb dX8_copy_69 (by decide) (fun c => ?_) (fun c => ?_)
                · have hF := (if_pos c).symm.trans hF
                  exact bX8_copy_99 C K E w (lv_sub hl [] rfl) hF
                · have hF := (if_neg c).symm.trans hF
                  refine lv_iload_n hx hb dX8_copy_72 rfl (lv_at hl 2 rfl) ?_
                  refine lv_aload_n hx hb dX8_copy_73 rfl (lv_at hl 0 rfl) ?_
                  refine mget_50 C K w dX8_copy_74 ?_
                  refine lv_iload_n hx hb dX8_copy_77 rfl (lv_at hl 1 rfl) ?_
                  obtain ⟨hi, hF⟩ := gin_if hF
                  refine mald_50 C K w hi dX8_copy_78 ?_
                  refine lv_iload hx hb dX8_copy_79 (lv_at hl 5 rfl) ?_
                  refine lv_isub hx hb dX8_copy_81 ?_
                  refine lv_icmp_gt (tgt := 99) hx hb dX8_copy_82 (by decide) (fun c => ?_) (fun c => ?_)
                  · have hF := (if_pos c).symm.trans hF
                    exact bX8_copy_99 C K E w (lv_sub hl [] rfl) hF
                  · have hF := (if_neg c).symm.trans hF
                    refine lv_iload hx hb dX8_copy_85 (lv_at hl 4 rfl) ?_
                    refine lv_aload_n hx hb dX8_copy_87 rfl (lv_at hl 0 rfl) ?_
                    refine mget_50 C K w dX8_copy_88 ?_
                    refine lv_iload_n hx hb dX8_copy_91 rfl (lv_at hl 3 rfl) ?_
                    obtain ⟨hi, hF⟩ := gin_if hF
                    refine mald_50 C K w hi dX8_copy_92 ?_
                    refine lv_iload hx hb dX8_copy_93 (lv_at hl 5 rfl) ?_
                    refine lv_isub hx hb dX8_copy_95 ?_
                    refine lv_icmp_le (tgt := 102) hx hb dX8_copy_96 (by decide) (fun c => ?_) (fun c => ?_)
                    · have hF := (if_pos c).symm.trans hF
                      refine lv_iconst (v := (0 : Int32)) hx hb dX8_copy_102 (by decide) ?_
                      refine lv_istore (lv' := [(6, .int (0 : Int32)), (0, .ref o), (1, .int v1), (2, .int v2), (3, .int v3), (4, .int v4), (5, .int v5)]) hx hb dX8_copy_103 hl (by decide) rfl (fun ls hl => ?_)
                      exact bX8_copy_105 C K E 5000 _ _ _ _ _ _ _ _ _ _ _ hF w (lv_sub hl [1, 2, 3, 4, 5, 6, 0] rfl)
                    · have hF := (if_neg c).symm.trans hF
                      exact bX8_copy_99 C K E w (lv_sub hl [] rfl) hF
          · have hF := (if_neg c).symm.trans hF
            refine lv_bipush (v := (-13 : Int32)) hx hb dX8_copy_55 (by decide) ?_
            have hF := Option.some.inj hF
            subst hF
            exact E _ _ _ _ w dX8_copy_57
        · have hF := (if_neg c).symm.trans hF
          exact bX8_copy_37 C K E w (lv_sub hl [] rfl) hF
    · have hF := (if_pos c).symm.trans hF
      exact bX8_copy_16 C K E w (lv_sub hl [] rfl) hF

theorem mX8_copy {l : Launch} {γ : wx_G} {o : Nat} {ad : Nat → Nat} {f : xF} {g : xG} {v1 : Int32} {v2 : Int32} {v3 : Int32} {v4 : Int32} {v5 : Int32} {z : Int32 × xF × xG} (hF : pX8_copy f g v1 v2 v3 v4 v5 = some z) : wx_M γ l yX8_copy (ws_ yX8_copy cX8_copy 7 (some .int)) rmX8_copy [.ref o, .int v1, .int v2, .int v3, .int v4, .int v5] (mw γ o ad f g) (fun v ws => v = some (.int z.1) ∧ ws = (mw γ o ad z.2.1 z.2.2)) 0 0 := by
  refine wx_M.of (by decide) (Nat.le_of_ble_eq_true rfl) ?_
  intro p e s m as below meth c A ls C K w hr hlocks _ hl
  exact bX8_copy_0 C K (fun H locs ls pc w d => wx_iret C hr hlocks w ⟨rfl, rfl⟩ d) w hl hF

/-! WalkingStonesModel.nights(IIII)I -/
abbrev rmX8_nights : Room := { frames := 2, cells := 0, slots := 0, locals := 44 }
def pX8_nights_30 (f : xF) (g : xG) : Option (Int32 × xF × xG) := some ((-2 : Int32), f, g)

def pX8_nights_90 (f : xF) (g : xG) : Option (Int32 × xF × xG) := some ((-12 : Int32), f, g)

def pX8_nights_139 (k64 : xF → xG → Int32 → Int32 → Int32 → Int32 → Int32 → Option (Int32 × xF × xG)) (f : xF) (g : xG) (v1 : Int32) (v3 : Int32) (v4 : Int32) (v5 : Int32) (v6 : Int32) : Option (Int32 × xF × xG) := k64 f g v1 v3 v4 v5 (v6 + 1)

def pX8_nights_64 : Nat → xF → xG → Int32 → Int32 → Int32 → Int32 → Int32 → Option (Int32 × xF × xG)
  | 0, _, _, _, _, _, _, _ => none
  | n + 1, f, g, v1, v3, v4, v5, v6 => if v4 ≤ v6 then some (v5, f, g) else (if v3 < 0 then pX8_nights_90 f g else (if gin v1 4 = true then if v3 ≤ (((g 50 v1.toNatClampNeg) - v6) - (1 : Int32)) then (if gin ((((40 : Int32) * v1) + v3) + v6) 160 = true then (pX8_isWeather f g (g 51 ((((40 : Int32) * v1) + v3) + v6).toNatClampNeg)).bind (fun r112 => if r112 = 0 then pX8_nights_139 (pX8_nights_64 n) f g v1 v3 v4 v5 v6 else (if (f 1) = (60 : Int32) then pX8_nights_139 (pX8_nights_64 n) f g v1 v3 v4 v5 v6 else (pX8_comes f g (g 51 ((((40 : Int32) * v1) + v3) + v6).toNatClampNeg)).bind (fun r133 => pX8_nights_139 (pX8_nights_64 n) r133.1 r133.2 v1 v3 v4 (v5 + 1) v6))) else none) else pX8_nights_90 f g else none))

def pX8_nights_0 (f : xF) (g : xG) (v1 : Int32) (v2 : Int32) (v3 : Int32) (v4 : Int32) : Option (Int32 × xF × xG) := (pX8_isSheet f g v1).bind (fun r2 => if r2 = 0 then pX8_nights_30 f g else (pX8_in f g v2 (0 : Int32) (2 : Int32)).bind (fun r12 => if r12 = 0 then pX8_nights_30 f g else (pX8_in f g v4 (0 : Int32) (20 : Int32)).bind (fun r24 => if r24 = 0 then pX8_nights_30 f g else (if gin v1 4 = true then if 0 ≤ (g 49 v1.toNatClampNeg) then (if gin v1 4 = true then if (g 49 v1.toNatClampNeg) = v2 then pX8_nights_64 5000 f g v1 v3 v4 (0 : Int32) (0 : Int32) else some ((-13 : Int32), f, g) else none) else some ((-11 : Int32), f, g) else none))))

abbrev pX8_nights (f : xF) (g : xG) (v1 : Int32) (v2 : Int32) (v3 : Int32) (v4 : Int32) : Option (Int32 × xF × xG) := pX8_nights_0 f g v1 v2 v3 v4
theorem bX8_nights_30 {p : Program} {l : Launch} {e : Env} {s : State} {m : MethodId} {as : Array Value} {below : List Frame} {meth : Method} {c : Code} {A : Nat → Prop} {Q : State → Prop} {γ : wx_G} {o : Nat} {ad : Nat → Nat} {z : Int32 × xF × xG} (C : CallFix p m c cX8_nights 8 s as lw_all RX8) (K : wx_C γ A s) (E : ∀ (H : Heap) (locs : List Loc) (ls : Array Slot) (pc : Nat), wx_w γ A s H locs (mw γ o ad z.2.1 z.2.2) → decode cX8_nights pc = .ok (.ireturn, 1) → W p l e rmX8_nights s m as below meth c H locs 0 0 Q (F0 m pc ls [.int z.1])) {f : xF} {g : xG} {H : Heap} {locs : List Loc} {ls : Array Slot} (w : wx_w γ A s H locs (mw γ o ad f g)) (hl : lv_has ls 8 []) (hF : pX8_nights_30 f g = some z) : W p l e rmX8_nights s m as below meth c H locs 0 0 Q (F0 m 30 ls []) := by
  have hx := C.1
  have hb := C.2.1
  unfold pX8_nights_30 at hF
  refine lv_bipush (v := (-2 : Int32)) hx hb dX8_nights_30 (by decide) ?_
  have hF := Option.some.inj hF
  subst hF
  exact E _ _ _ _ w dX8_nights_32

theorem bX8_nights_90 {p : Program} {l : Launch} {e : Env} {s : State} {m : MethodId} {as : Array Value} {below : List Frame} {meth : Method} {c : Code} {A : Nat → Prop} {Q : State → Prop} {γ : wx_G} {o : Nat} {ad : Nat → Nat} {z : Int32 × xF × xG} (C : CallFix p m c cX8_nights 8 s as lw_all RX8) (K : wx_C γ A s) (E : ∀ (H : Heap) (locs : List Loc) (ls : Array Slot) (pc : Nat), wx_w γ A s H locs (mw γ o ad z.2.1 z.2.2) → decode cX8_nights pc = .ok (.ireturn, 1) → W p l e rmX8_nights s m as below meth c H locs 0 0 Q (F0 m pc ls [.int z.1])) {f : xF} {g : xG} {H : Heap} {locs : List Loc} {ls : Array Slot} (w : wx_w γ A s H locs (mw γ o ad f g)) (hl : lv_has ls 8 []) (hF : pX8_nights_90 f g = some z) : W p l e rmX8_nights s m as below meth c H locs 0 0 Q (F0 m 90 ls []) := by
  have hx := C.1
  have hb := C.2.1
  unfold pX8_nights_90 at hF
  refine lv_bipush (v := (-12 : Int32)) hx hb dX8_nights_90 (by decide) ?_
  have hF := Option.some.inj hF
  subst hF
  exact E _ _ _ _ w dX8_nights_92

theorem bX8_nights_139 {p : Program} {l : Launch} {e : Env} {s : State} {m : MethodId} {as : Array Value} {below : List Frame} {meth : Method} {c : Code} {A : Nat → Prop} {Q : State → Prop} {γ : wx_G} {o : Nat} {ad : Nat → Nat} {z : Int32 × xF × xG} (C : CallFix p m c cX8_nights 8 s as lw_all RX8) (K : wx_C γ A s) (E : ∀ (H : Heap) (locs : List Loc) (ls : Array Slot) (pc : Nat), wx_w γ A s H locs (mw γ o ad z.2.1 z.2.2) → decode cX8_nights pc = .ok (.ireturn, 1) → W p l e rmX8_nights s m as below meth c H locs 0 0 Q (F0 m pc ls [.int z.1])) {k64 : xF → xG → Int32 → Int32 → Int32 → Int32 → Int32 → Option (Int32 × xF × xG)} (hk64 : ∀ (f : xF) (g : xG) (v1 : Int32) (v3 : Int32) (v4 : Int32) (v5 : Int32) (v6 : Int32) (H : Heap) (locs : List Loc) (ls : Array Slot), k64 f g v1 v3 v4 v5 v6 = some z → wx_w γ A s H locs (mw γ o ad f g) → lv_has ls 8 [(0, .ref o), (1, .int v1), (3, .int v3), (4, .int v4), (5, .int v5), (6, .int v6)] → W p l e rmX8_nights s m as below meth c H locs 0 0 Q (F0 m 64 ls [])) {f : xF} {g : xG} {v1 : Int32} {v3 : Int32} {v4 : Int32} {v5 : Int32} {v6 : Int32} {H : Heap} {locs : List Loc} {ls : Array Slot} (w : wx_w γ A s H locs (mw γ o ad f g)) (hl : lv_has ls 8 [(0, .ref o), (1, .int v1), (3, .int v3), (4, .int v4), (5, .int v5), (6, .int v6)]) (hF : pX8_nights_139 k64 f g v1 v3 v4 v5 v6 = some z) : W p l e rmX8_nights s m as below meth c H locs 0 0 Q (F0 m 139 ls []) := by
  have hx := C.1
  have hb := C.2.1
  unfold pX8_nights_139 at hF
  refine lv_iinc (v := v6 + 1) (lv' := [(6, .int (v6 + 1)), (0, .ref o), (1, .int v1), (3, .int v3), (4, .int v4), (5, .int v5)]) hx hb dX8_nights_139 hl (k := 5) rfl rfl (by decide) rfl (fun ls hl => ?_)
  refine lv_goto (tgt := 64) hx hb dX8_nights_142 (by decide) ?_
  exact hk64 _ _ _ _ _ _ _ _ _ _ hF w (lv_sub hl [1, 2, 3, 4, 5, 0] rfl)

theorem bX8_nights_64 {p : Program} {l : Launch} {e : Env} {s : State} {m : MethodId} {as : Array Value} {below : List Frame} {meth : Method} {c : Code} {A : Nat → Prop} {Q : State → Prop} {γ : wx_G} {o : Nat} {ad : Nat → Nat} {z : Int32 × xF × xG} (C : CallFix p m c cX8_nights 8 s as lw_all RX8) (K : wx_C γ A s) (E : ∀ (H : Heap) (locs : List Loc) (ls : Array Slot) (pc : Nat), wx_w γ A s H locs (mw γ o ad z.2.1 z.2.2) → decode cX8_nights pc = .ok (.ireturn, 1) → W p l e rmX8_nights s m as below meth c H locs 0 0 Q (F0 m pc ls [.int z.1])) : ∀ (n : Nat) (f : xF) (g : xG) (v1 : Int32) (v3 : Int32) (v4 : Int32) (v5 : Int32) (v6 : Int32) (H : Heap) (locs : List Loc) (ls : Array Slot), pX8_nights_64 n f g v1 v3 v4 v5 v6 = some z → wx_w γ A s H locs (mw γ o ad f g) → lv_has ls 8 [(0, .ref o), (1, .int v1), (3, .int v3), (4, .int v4), (5, .int v5), (6, .int v6)] → W p l e rmX8_nights s m as below meth c H locs 0 0 Q (F0 m 64 ls []) := by
  have hx := C.1
  have hb := C.2.1
  intro n
  induction n with
  | zero =>
    intro f g v1 v3 v4 v5 v6 H locs ls hF w hl
    have hF : (none : Option (Int32 × xF × xG)) = some z := hF
    cases hF
  | succ n ih =>
    intro f g v1 v3 v4 v5 v6 H locs ls hF w hl
    rw [pX8_nights_64] at hF
    refine lv_iload hx hb dX8_nights_64 (lv_at hl 5 rfl) ?_
    refine lv_iload hx hb dX8_nights_66 (lv_at hl 3 rfl) ?_
    refine lv_icmp_ge (tgt := 145) hx hb dX8_nights_68 (by decide) (fun c => ?_) (fun c => ?_)
    · have hF := (if_pos c).symm.trans hF
      refine lv_iload hx hb dX8_nights_145 (lv_at hl 4 rfl) ?_
      have hF := Option.some.inj hF
      subst hF
      exact E _ _ _ _ w dX8_nights_147
    · have hF := (if_neg c).symm.trans hF
      refine lv_iload_n hx hb dX8_nights_71 rfl (lv_at hl 2 rfl) ?_
      refine lv_if_lt (tgt := 90) hx hb dX8_nights_72 (by decide) (fun c => ?_) (fun c => ?_)
      · have hF := (if_pos c).symm.trans hF
        exact bX8_nights_90 C K E w (lv_sub hl [] rfl) hF
      · have hF := (if_neg c).symm.trans hF
        refine lv_iload_n hx hb dX8_nights_75 rfl (lv_at hl 2 rfl) ?_
        refine lv_aload_n hx hb dX8_nights_76 rfl (lv_at hl 0 rfl) ?_
        refine mget_50 C K w dX8_nights_77 ?_
        refine lv_iload_n hx hb dX8_nights_80 rfl (lv_at hl 1 rfl) ?_
        obtain ⟨hi, hF⟩ := gin_if hF
        refine mald_50 C K w hi dX8_nights_81 ?_
        refine lv_iload hx hb dX8_nights_82 (lv_at hl 5 rfl) ?_
        refine lv_isub hx hb dX8_nights_84 ?_
        refine lv_iconst (v := (1 : Int32)) hx hb dX8_nights_85 (by decide) ?_
        refine lv_isub hx hb dX8_nights_86 ?_
        refine lv_icmp_le (tgt := 93) hx hb dX8_nights_87 (by decide) (fun c => ?_) (fun c => ?_)
        · have hF := (if_pos c).symm.trans hF
          refine lv_aload_n hx hb dX8_nights_93 rfl (lv_at hl 0 rfl) ?_
          refine mget_51 C K w dX8_nights_94 ?_
          refine lv_bipush (v := (40 : Int32)) hx hb dX8_nights_97 (by decide) ?_
          refine lv_iload_n hx hb dX8_nights_99 rfl (lv_at hl 1 rfl) ?_
          refine lv_imul hx hb dX8_nights_100 ?_
          refine lv_iload_n hx hb dX8_nights_101 rfl (lv_at hl 2 rfl) ?_
          refine lv_iadd hx hb dX8_nights_102 ?_
          refine lv_iload hx hb dX8_nights_103 (lv_at hl 5 rfl) ?_
          refine lv_iadd hx hb dX8_nights_105 ?_
          obtain ⟨hi, hF⟩ := gin_if hF
          refine mald_51 C K w hi dX8_nights_106 ?_
          refine lv_istore (lv' := [(7, .int (g 51 ((((40 : Int32) * v1) + v3) + v6).toNatClampNeg)), (0, .ref o), (1, .int v1), (3, .int v3), (4, .int v4), (5, .int v5), (6, .int v6)]) hx hb dX8_nights_107 hl (by decide) rfl (fun ls hl => ?_)
          refine lv_aload_n hx hb dX8_nights_109 rfl (lv_at hl 1 rfl) ?_
          refine lv_iload hx hb dX8_nights_110 (lv_at hl 0 rfl) ?_
          obtain ⟨r112, hr, hF⟩ := obd hF
          refine rX8_isWeather C K w hr hl.1 ⟨Nat.le_of_ble_eq_true rfl, Nat.le_of_ble_eq_true rfl⟩ (Nat.le_of_ble_eq_true rfl) dX8_nights_112 (fun H locs w => ?_)
          refine lv_if_eq (tgt := 139) hx hb dX8_nights_115 (by decide) (fun c => ?_) (fun c => ?_)
          · have hF := (if_pos c).symm.trans hF
            exact bX8_nights_139 C K E ih w (lv_sub hl [1, 2, 3, 4, 5, 6] rfl) hF
          · have hF := (if_neg c).symm.trans hF
            refine lv_aload_n hx hb dX8_nights_118 rfl (lv_at hl 1 rfl) ?_
            refine mget_1 C K w dX8_nights_119 ?_
            refine lv_bipush (v := (60 : Int32)) hx hb dX8_nights_122 (by decide) ?_
            refine lv_icmp_ne (tgt := 130) hx hb dX8_nights_124 (by decide) (fun c => ?_) (fun c => ?_)
            · have hF := (if_neg c).symm.trans hF
              refine lv_aload_n hx hb dX8_nights_130 rfl (lv_at hl 1 rfl) ?_
              refine lv_iload hx hb dX8_nights_131 (lv_at hl 0 rfl) ?_
              obtain ⟨r133, hr, hF⟩ := obd hF
              refine rX8_comes C K w hr hl.1 ⟨Nat.le_of_ble_eq_true rfl, Nat.le_of_ble_eq_true rfl⟩ (Nat.le_of_ble_eq_true rfl) dX8_nights_133 (fun H locs w => ?_)
              refine lv_iinc (v := v5 + 1) (lv' := [(5, .int (v5 + 1)), (7, .int (g 51 ((((40 : Int32) * v1) + v3) + v6).toNatClampNeg)), (0, .ref o), (1, .int v1), (3, .int v3), (4, .int v4), (6, .int v6)]) hx hb dX8_nights_136 hl (k := 5) rfl rfl (by decide) rfl (fun ls hl => ?_)
              exact bX8_nights_139 C K E ih w (lv_sub hl [2, 3, 4, 5, 0, 6] rfl) hF
            · have hF := (if_pos c).symm.trans hF
              refine lv_goto (tgt := 139) hx hb dX8_nights_127 (by decide) ?_
              exact bX8_nights_139 C K E ih w (lv_sub hl [1, 2, 3, 4, 5, 6] rfl) hF
        · have hF := (if_neg c).symm.trans hF
          exact bX8_nights_90 C K E w (lv_sub hl [] rfl) hF

theorem bX8_nights_0 {p : Program} {l : Launch} {e : Env} {s : State} {m : MethodId} {as : Array Value} {below : List Frame} {meth : Method} {c : Code} {A : Nat → Prop} {Q : State → Prop} {γ : wx_G} {o : Nat} {ad : Nat → Nat} {z : Int32 × xF × xG} (C : CallFix p m c cX8_nights 8 s as lw_all RX8) (K : wx_C γ A s) (E : ∀ (H : Heap) (locs : List Loc) (ls : Array Slot) (pc : Nat), wx_w γ A s H locs (mw γ o ad z.2.1 z.2.2) → decode cX8_nights pc = .ok (.ireturn, 1) → W p l e rmX8_nights s m as below meth c H locs 0 0 Q (F0 m pc ls [.int z.1])) {f : xF} {g : xG} {v1 : Int32} {v2 : Int32} {v3 : Int32} {v4 : Int32} {H : Heap} {locs : List Loc} {ls : Array Slot} (w : wx_w γ A s H locs (mw γ o ad f g)) (hl : lv_has ls 8 [(0, .ref o), (1, .int v1), (2, .int v2), (3, .int v3), (4, .int v4)]) (hF : pX8_nights_0 f g v1 v2 v3 v4 = some z) : W p l e rmX8_nights s m as below meth c H locs 0 0 Q (F0 m 0 ls []) := by
  have hx := C.1
  have hb := C.2.1
  unfold pX8_nights_0 at hF
  refine lv_aload_n hx hb dX8_nights_0 rfl (lv_at hl 0 rfl) ?_
  refine lv_iload_n hx hb dX8_nights_1 rfl (lv_at hl 1 rfl) ?_
  obtain ⟨r2, hr, hF⟩ := obd hF
  refine rX8_isSheet C K w hr hl.1 ⟨Nat.le_of_ble_eq_true rfl, Nat.le_of_ble_eq_true rfl⟩ (Nat.le_of_ble_eq_true rfl) dX8_nights_2 (fun H locs w => ?_)
  refine lv_if_eq (tgt := 30) hx hb dX8_nights_5 (by decide) (fun c => ?_) (fun c => ?_)
  · have hF := (if_pos c).symm.trans hF
    exact bX8_nights_30 C K E w (lv_sub hl [] rfl) hF
  · have hF := (if_neg c).symm.trans hF
    refine lv_aload_n hx hb dX8_nights_8 rfl (lv_at hl 0 rfl) ?_
    refine lv_iload_n hx hb dX8_nights_9 rfl (lv_at hl 2 rfl) ?_
    refine lv_iconst (v := (0 : Int32)) hx hb dX8_nights_10 (by decide) ?_
    refine lv_iconst (v := (2 : Int32)) hx hb dX8_nights_11 (by decide) ?_
    obtain ⟨r12, hr, hF⟩ := obd hF
    refine rX8_in C K w hr hl.1 ⟨Nat.le_of_ble_eq_true rfl, Nat.le_of_ble_eq_true rfl⟩ (Nat.le_of_ble_eq_true rfl) dX8_nights_12 (fun H locs w => ?_)
    refine lv_if_eq (tgt := 30) hx hb dX8_nights_15 (by decide) (fun c => ?_) (fun c => ?_)
    · have hF := (if_pos c).symm.trans hF
      exact bX8_nights_30 C K E w (lv_sub hl [] rfl) hF
    · have hF := (if_neg c).symm.trans hF
      refine lv_aload_n hx hb dX8_nights_18 rfl (lv_at hl 0 rfl) ?_
      refine lv_iload hx hb dX8_nights_19 (lv_at hl 4 rfl) ?_
      refine lv_iconst (v := (0 : Int32)) hx hb dX8_nights_21 (by decide) ?_
      refine lv_bipush (v := (20 : Int32)) hx hb dX8_nights_22 (by decide) ?_
      obtain ⟨r24, hr, hF⟩ := obd hF
      refine rX8_in C K w hr hl.1 ⟨Nat.le_of_ble_eq_true rfl, Nat.le_of_ble_eq_true rfl⟩ (Nat.le_of_ble_eq_true rfl) dX8_nights_24 (fun H locs w => ?_)
      refine lv_if_ne (tgt := 33) hx hb dX8_nights_27 (by decide) (fun c => ?_) (fun c => ?_)
      · have hF := (if_neg c).symm.trans hF
        refine lv_aload_n hx hb dX8_nights_33 rfl (lv_at hl 0 rfl) ?_
        refine mget_49 C K w dX8_nights_34 ?_
        refine lv_iload_n hx hb dX8_nights_37 rfl (lv_at hl 1 rfl) ?_
        obtain ⟨hi, hF⟩ := gin_if hF
        refine mald_49 C K w hi dX8_nights_38 ?_
        refine lv_if_ge (tgt := 45) hx hb dX8_nights_39 (by decide) (fun c => ?_) (fun c => ?_)
        · have hF := (if_pos c).symm.trans hF
          refine lv_aload_n hx hb dX8_nights_45 rfl (lv_at hl 0 rfl) ?_
          refine mget_49 C K w dX8_nights_46 ?_
          refine lv_iload_n hx hb dX8_nights_49 rfl (lv_at hl 1 rfl) ?_
          obtain ⟨hi, hF⟩ := gin_if hF
          refine mald_49 C K w hi dX8_nights_50 ?_
          refine lv_iload_n hx hb dX8_nights_51 rfl (lv_at hl 2 rfl) ?_
          refine lv_icmp_eq (tgt := 58) hx hb dX8_nights_52 (by decide) (fun c => ?_) (fun c => ?_)
          · have hF := (if_pos c).symm.trans hF
            refine lv_iconst (v := (0 : Int32)) hx hb dX8_nights_58 (by decide) ?_
            refine lv_istore (lv' := [(5, .int (0 : Int32)), (0, .ref o), (1, .int v1), (2, .int v2), (3, .int v3), (4, .int v4)]) hx hb dX8_nights_59 hl (by decide) rfl (fun ls hl => ?_)
            refine lv_iconst (v := (0 : Int32)) hx hb dX8_nights_61 (by decide) ?_
            refine lv_istore (lv' := [(6, .int (0 : Int32)), (5, .int (0 : Int32)), (0, .ref o), (1, .int v1), (2, .int v2), (3, .int v3), (4, .int v4)]) hx hb dX8_nights_62 hl (by decide) rfl (fun ls hl => ?_)
            exact bX8_nights_64 C K E 5000 _ _ _ _ _ _ _ _ _ _ hF w (lv_sub hl [2, 3, 5, 6, 1, 0] rfl)
          · have hF := (if_neg c).symm.trans hF
            refine lv_bipush (v := (-13 : Int32)) hx hb dX8_nights_55 (by decide) ?_
            have hF := Option.some.inj hF
            subst hF
            exact E _ _ _ _ w dX8_nights_57
        · have hF := (if_neg c).symm.trans hF
          refine lv_bipush (v := (-11 : Int32)) hx hb dX8_nights_42 (by decide) ?_
          have hF := Option.some.inj hF
          subst hF
          exact E _ _ _ _ w dX8_nights_44
      · have hF := (if_pos c).symm.trans hF
        exact bX8_nights_30 C K E w (lv_sub hl [] rfl) hF

theorem mX8_nights {l : Launch} {γ : wx_G} {o : Nat} {ad : Nat → Nat} {f : xF} {g : xG} {v1 : Int32} {v2 : Int32} {v3 : Int32} {v4 : Int32} {z : Int32 × xF × xG} (hF : pX8_nights f g v1 v2 v3 v4 = some z) : wx_M γ l yX8_nights (ws_ yX8_nights cX8_nights 8 (some .int)) rmX8_nights [.ref o, .int v1, .int v2, .int v3, .int v4] (mw γ o ad f g) (fun v ws => v = some (.int z.1) ∧ ws = (mw γ o ad z.2.1 z.2.2)) 0 0 := by
  refine wx_M.of (by decide) (Nat.le_of_ble_eq_true rfl) ?_
  intro p e s m as below meth c A ls C K w hr hlocks _ hl
  exact bX8_nights_0 C K (fun H locs ls pc w d => wx_iret C hr hlocks w ⟨rfl, rfl⟩ d) w hl hF

/-! WalkingStonesModel.isUnder(II)Z -/
abbrev rmX8_isUnder : Room := { frames := 1, cells := 0, slots := 0, locals := 23 }
def pX8_isUnder_9 (f : xF) (g : xG) : Option (Int32) := some ((1 : Int32))

def pX8_isUnder_44 (f : xF) (g : xG) (t0 : Int32) : Option (Int32) := if gbz t0 = true then some (t0) else none

def pX8_isUnder_43 (f : xF) (g : xG) : Option (Int32) := pX8_isUnder_44 f g (0 : Int32)

def pX8_isUnder_0 (f : xF) (g : xG) (v1 : Int32) (v2 : Int32) : Option (Int32) := if v2 = 0 then pX8_isUnder_9 f g else (if v1 = v2 then pX8_isUnder_9 f g else (if v2 = (1 : Int32) then (pX8_in f g v1 (2 : Int32) (4 : Int32)).bind (fun r20 => if gbz r20 = true then some (r20) else none) else (if v2 = (2 : Int32) then (pX8_in f g v1 (3 : Int32) (4 : Int32)).bind (fun r33 => if r33 = 0 then pX8_isUnder_43 f g else pX8_isUnder_44 f g (1 : Int32)) else pX8_isUnder_43 f g)))

abbrev pX8_isUnder (f : xF) (g : xG) (v1 : Int32) (v2 : Int32) : Option (Int32) := pX8_isUnder_0 f g v1 v2
theorem bX8_isUnder_9 {p : Program} {l : Launch} {e : Env} {s : State} {m : MethodId} {as : Array Value} {below : List Frame} {meth : Method} {c : Code} {A : Nat → Prop} {Q : State → Prop} {γ : wx_G} {o : Nat} {ad : Nat → Nat} {z : Int32} {f : xF} {g : xG} (C : CallFix p m c cX8_isUnder 3 s as lw_all RX8) (K : wx_C γ A s) (E : ∀ (H : Heap) (locs : List Loc) (ls : Array Slot) (pc : Nat), narrow .boolean (.int z) = .int z → wx_w γ A s H locs (mw γ o ad f g) → decode cX8_isUnder pc = .ok (.ireturn, 1) → W p l e rmX8_isUnder s m as below meth c H locs 0 0 Q (F0 m pc ls [.int z])) {H : Heap} {locs : List Loc} {ls : Array Slot} (w : wx_w γ A s H locs (mw γ o ad f g)) (hl : lv_has ls 3 []) (hF : pX8_isUnder_9 f g = some z) : W p l e rmX8_isUnder s m as below meth c H locs 0 0 Q (F0 m 9 ls []) := by
  have hx := C.1
  have hb := C.2.1
  unfold pX8_isUnder_9 at hF
  refine lv_iconst (v := (1 : Int32)) hx hb dX8_isUnder_9 (by decide) ?_
  have hF := Option.some.inj hF
  subst hF
  exact E _ _ _ _ wx_nz1 w dX8_isUnder_10

theorem bX8_isUnder_44 {p : Program} {l : Launch} {e : Env} {s : State} {m : MethodId} {as : Array Value} {below : List Frame} {meth : Method} {c : Code} {A : Nat → Prop} {Q : State → Prop} {γ : wx_G} {o : Nat} {ad : Nat → Nat} {z : Int32} {f : xF} {g : xG} (C : CallFix p m c cX8_isUnder 3 s as lw_all RX8) (K : wx_C γ A s) (E : ∀ (H : Heap) (locs : List Loc) (ls : Array Slot) (pc : Nat), narrow .boolean (.int z) = .int z → wx_w γ A s H locs (mw γ o ad f g) → decode cX8_isUnder pc = .ok (.ireturn, 1) → W p l e rmX8_isUnder s m as below meth c H locs 0 0 Q (F0 m pc ls [.int z])) {t0 : Int32} {H : Heap} {locs : List Loc} {ls : Array Slot} (w : wx_w γ A s H locs (mw γ o ad f g)) (hl : lv_has ls 3 []) (hF : pX8_isUnder_44 f g t0 = some z) : W p l e rmX8_isUnder s m as below meth c H locs 0 0 Q (F0 m 44 ls [.int t0]) := by
  have hx := C.1
  have hb := C.2.1
  unfold pX8_isUnder_44 at hF
  obtain ⟨hz, hF⟩ := gbz_if hF
  have hF := Option.some.inj hF
  subst hF
  exact E _ _ _ _ hz w dX8_isUnder_44

theorem bX8_isUnder_43 {p : Program} {l : Launch} {e : Env} {s : State} {m : MethodId} {as : Array Value} {below : List Frame} {meth : Method} {c : Code} {A : Nat → Prop} {Q : State → Prop} {γ : wx_G} {o : Nat} {ad : Nat → Nat} {z : Int32} {f : xF} {g : xG} (C : CallFix p m c cX8_isUnder 3 s as lw_all RX8) (K : wx_C γ A s) (E : ∀ (H : Heap) (locs : List Loc) (ls : Array Slot) (pc : Nat), narrow .boolean (.int z) = .int z → wx_w γ A s H locs (mw γ o ad f g) → decode cX8_isUnder pc = .ok (.ireturn, 1) → W p l e rmX8_isUnder s m as below meth c H locs 0 0 Q (F0 m pc ls [.int z])) {H : Heap} {locs : List Loc} {ls : Array Slot} (w : wx_w γ A s H locs (mw γ o ad f g)) (hl : lv_has ls 3 []) (hF : pX8_isUnder_43 f g = some z) : W p l e rmX8_isUnder s m as below meth c H locs 0 0 Q (F0 m 43 ls []) := by
  have hx := C.1
  have hb := C.2.1
  unfold pX8_isUnder_43 at hF
  refine lv_iconst (v := (0 : Int32)) hx hb dX8_isUnder_43 (by decide) ?_
  exact bX8_isUnder_44 C K E w hl hF

theorem bX8_isUnder_0 {p : Program} {l : Launch} {e : Env} {s : State} {m : MethodId} {as : Array Value} {below : List Frame} {meth : Method} {c : Code} {A : Nat → Prop} {Q : State → Prop} {γ : wx_G} {o : Nat} {ad : Nat → Nat} {z : Int32} {f : xF} {g : xG} (C : CallFix p m c cX8_isUnder 3 s as lw_all RX8) (K : wx_C γ A s) (E : ∀ (H : Heap) (locs : List Loc) (ls : Array Slot) (pc : Nat), narrow .boolean (.int z) = .int z → wx_w γ A s H locs (mw γ o ad f g) → decode cX8_isUnder pc = .ok (.ireturn, 1) → W p l e rmX8_isUnder s m as below meth c H locs 0 0 Q (F0 m pc ls [.int z])) {v1 : Int32} {v2 : Int32} {H : Heap} {locs : List Loc} {ls : Array Slot} (w : wx_w γ A s H locs (mw γ o ad f g)) (hl : lv_has ls 3 [(0, .ref o), (1, .int v1), (2, .int v2)]) (hF : pX8_isUnder_0 f g v1 v2 = some z) : W p l e rmX8_isUnder s m as below meth c H locs 0 0 Q (F0 m 0 ls []) := by
  have hx := C.1
  have hb := C.2.1
  unfold pX8_isUnder_0 at hF
  refine lv_iload_n hx hb dX8_isUnder_0 rfl (lv_at hl 2 rfl) ?_
  refine lv_if_eq (tgt := 9) hx hb dX8_isUnder_1 (by decide) (fun c => ?_) (fun c => ?_)
  · have hF := (if_pos c).symm.trans hF
    exact bX8_isUnder_9 C K E w (lv_sub hl [] rfl) hF
  · have hF := (if_neg c).symm.trans hF
    refine lv_iload_n hx hb dX8_isUnder_4 rfl (lv_at hl 1 rfl) ?_
    refine lv_iload_n hx hb dX8_isUnder_5 rfl (lv_at hl 2 rfl) ?_
    refine lv_icmp_ne (tgt := 11) hx hb dX8_isUnder_6 (by decide) (fun c => ?_) (fun c => ?_)
    · have hF := (if_neg c).symm.trans hF
      refine lv_iload_n hx hb dX8_isUnder_11 rfl (lv_at hl 2 rfl) ?_
      refine lv_iconst (v := (1 : Int32)) hx hb dX8_isUnder_12 (by decide) ?_
      refine lv_icmp_ne (tgt := 24) hx hb dX8_isUnder_13 (by decide) (fun c => ?_) (fun c => ?_)
      · have hF := (if_neg c).symm.trans hF
        refine lv_iload_n hx hb dX8_isUnder_24 rfl (lv_at hl 2 rfl) ?_
        refine lv_iconst (v := (2 : Int32)) hx hb dX8_isUnder_25 (by decide) ?_
        refine lv_icmp_ne (tgt := 43) hx hb dX8_isUnder_26 (by decide) (fun c => ?_) (fun c => ?_)
        · have hF := (if_neg c).symm.trans hF
          exact bX8_isUnder_43 C K E w (lv_sub hl [] rfl) hF
        · have hF := (if_pos c).symm.trans hF
          refine lv_aload_n hx hb dX8_isUnder_29 rfl (lv_at hl 0 rfl) ?_
          refine lv_iload_n hx hb dX8_isUnder_30 rfl (lv_at hl 1 rfl) ?_
          refine lv_iconst (v := (3 : Int32)) hx hb dX8_isUnder_31 (by decide) ?_
          refine lv_iconst (v := (4 : Int32)) hx hb dX8_isUnder_32 (by decide) ?_
          obtain ⟨r33, hr, hF⟩ := obd hF
          refine rX8_in C K w hr hl.1 ⟨Nat.le_of_ble_eq_true rfl, Nat.le_of_ble_eq_true rfl⟩ (Nat.le_of_ble_eq_true rfl) dX8_isUnder_33 (fun H locs w => ?_)
          refine lv_if_eq (tgt := 43) hx hb dX8_isUnder_36 (by decide) (fun c => ?_) (fun c => ?_)
          · have hF := (if_pos c).symm.trans hF
            exact bX8_isUnder_43 C K E w (lv_sub hl [] rfl) hF
          · have hF := (if_neg c).symm.trans hF
            refine lv_iconst (v := (1 : Int32)) hx hb dX8_isUnder_39 (by decide) ?_
            refine lv_goto (tgt := 44) hx hb dX8_isUnder_40 (by decide) ?_
            exact bX8_isUnder_44 C K E w (lv_sub hl [] rfl) hF
      · have hF := (if_pos c).symm.trans hF
        refine lv_aload_n hx hb dX8_isUnder_16 rfl (lv_at hl 0 rfl) ?_
        refine lv_iload_n hx hb dX8_isUnder_17 rfl (lv_at hl 1 rfl) ?_
        refine lv_iconst (v := (2 : Int32)) hx hb dX8_isUnder_18 (by decide) ?_
        refine lv_iconst (v := (4 : Int32)) hx hb dX8_isUnder_19 (by decide) ?_
        obtain ⟨r20, hr, hF⟩ := obd hF
        refine rX8_in C K w hr hl.1 ⟨Nat.le_of_ble_eq_true rfl, Nat.le_of_ble_eq_true rfl⟩ (Nat.le_of_ble_eq_true rfl) dX8_isUnder_20 (fun H locs w => ?_)
        obtain ⟨hz, hF⟩ := gbz_if hF
        have hF := Option.some.inj hF
        subst hF
        exact E _ _ _ _ hz w dX8_isUnder_23
    · have hF := (if_pos c).symm.trans hF
      exact bX8_isUnder_9 C K E w (lv_sub hl [] rfl) hF

theorem mX8_isUnder {l : Launch} {γ : wx_G} {o : Nat} {ad : Nat → Nat} {f : xF} {g : xG} {v1 : Int32} {v2 : Int32} {z : Int32} (hF : pX8_isUnder f g v1 v2 = some z) : wx_M γ l yX8_isUnder (ws_ yX8_isUnder cX8_isUnder 3 (some .boolean)) rmX8_isUnder [.ref o, .int v1, .int v2] (mw γ o ad f g) (fun v ws => v = some (.int z) ∧ ws = (mw γ o ad f g)) 0 0 := by
  refine wx_M.of (by decide) (Nat.le_of_ble_eq_true rfl) ?_
  intro p e s m as below meth c A ls C K w hr hlocks _ hl
  exact bX8_isUnder_0 C K (fun H locs ls pc hz w d => wx_zret C hr hlocks hz w ⟨rfl, rfl⟩ d) w hl hF
theorem rX8_isUnder {p : Program} {l : Launch} {e : Env} {R : Room} {s : State} {m : MethodId} {as : Array Value} {below : List Frame} {meth : Method} {c : Code} {H : Heap} {locs : List Loc} {cells slots : Nat} {Q : State → Prop} {cc : ByteArray} {nL pc : Nat} {ls : Array Slot} {rest : List Value} {γ : wx_G} {A : Nat → Prop} {o : Nat} {ad : Nat → Nat} {f : xF} {g : xG} {v1 : Int32} {v2 : Int32} {z : Int32} (C : CallFix p m c cc nL s as lw_all RX8) (K : wx_C γ A s) (w : wx_w γ A s H locs (mw γ o ad f g)) (hF : pX8_isUnder f g v1 v2 = some z) (hls : ls.size = nL) (hR : rmX8_isUnder.frames + 1 ≤ R.frames ∧ 8 + (3 + 11) + rmX8_isUnder.locals ≤ R.locals) (hW : (rest.map fun v => v.category).sum ≤ 8) (d : decode cc pc = .ok (.invokevirtual 363, 3)) (kk : ∀ (H : Heap) (locs : List Loc), wx_w γ A s H locs (mw γ o ad f g) → W p l e R s m as below meth c H locs cells slots Q (F0 m (pc + 3) ls (.int z :: rest))) (hf : cells ≤ R.cells ∧ slots ≤ R.slots := by exact ⟨Nat.le_of_ble_eq_true rfl, Nat.le_of_ble_eq_true rfl⟩) : W p l e R s m as below meth c H locs cells slots Q (F0 m pc ls (.int v2 :: .int v1 :: .ref o :: rest)) :=
  wx_callV (n := 2) C K w (mX8_isUnder (l := l) hF) q1813 q1815 qs104 q123 q1816 rfl rfl (by decide +kernel) (va_recv K.1.1 w.1 (ci := 0) (q0 := 0) rfl rfl) rfl rfl hR hls hW hf d (fun v ws H1 locs1 hp w => by obtain ⟨rfl, rfl⟩ := hp; exact kk H1 locs1 w)

/-! WalkingStonesModel.taken(II)I -/
abbrev rmX8_taken : Room := { frames := 2, cells := 0, slots := 0, locals := 45 }
def pX8_taken_49 (f : xF) (g : xG) (t0 : Int32) : Option (Int32) := some (t0)

def pX8_taken_0 (f : xF) (g : xG) (v1 : Int32) (v2 : Int32) : Option (Int32) := (pX8_in f g v2 (0 : Int32) (5 : Int32)).bind (fun r4 => if r4 = 0 then some ((-2 : Int32)) else (pX8_isHow f g v1).bind (fun r15 => if r15 = 0 then some ((-11 : Int32)) else (if gin v1 8 = true then (pX8_isUnder f g (g 9 v1.toNatClampNeg) v2).bind (fun r32 => if r32 = 0 then pX8_taken_49 f g (-13 : Int32) else (if gin v1 8 = true then pX8_taken_49 f g (g 10 v1.toNatClampNeg) else none)) else none)))

abbrev pX8_taken (f : xF) (g : xG) (v1 : Int32) (v2 : Int32) : Option (Int32) := pX8_taken_0 f g v1 v2
theorem bX8_taken_49 {p : Program} {l : Launch} {e : Env} {s : State} {m : MethodId} {as : Array Value} {below : List Frame} {meth : Method} {c : Code} {A : Nat → Prop} {Q : State → Prop} {γ : wx_G} {o : Nat} {ad : Nat → Nat} {z : Int32} {f : xF} {g : xG} (C : CallFix p m c cX8_taken 3 s as lw_all RX8) (K : wx_C γ A s) (E : ∀ (H : Heap) (locs : List Loc) (ls : Array Slot) (pc : Nat), wx_w γ A s H locs (mw γ o ad f g) → decode cX8_taken pc = .ok (.ireturn, 1) → W p l e rmX8_taken s m as below meth c H locs 0 0 Q (F0 m pc ls [.int z])) {t0 : Int32} {H : Heap} {locs : List Loc} {ls : Array Slot} (w : wx_w γ A s H locs (mw γ o ad f g)) (hl : lv_has ls 3 []) (hF : pX8_taken_49 f g t0 = some z) : W p l e rmX8_taken s m as below meth c H locs 0 0 Q (F0 m 49 ls [.int t0]) := by
  have hx := C.1
  have hb := C.2.1
  unfold pX8_taken_49 at hF
  have hF := Option.some.inj hF
  subst hF
  exact E _ _ _ _ w dX8_taken_49

theorem bX8_taken_0 {p : Program} {l : Launch} {e : Env} {s : State} {m : MethodId} {as : Array Value} {below : List Frame} {meth : Method} {c : Code} {A : Nat → Prop} {Q : State → Prop} {γ : wx_G} {o : Nat} {ad : Nat → Nat} {z : Int32} {f : xF} {g : xG} (C : CallFix p m c cX8_taken 3 s as lw_all RX8) (K : wx_C γ A s) (E : ∀ (H : Heap) (locs : List Loc) (ls : Array Slot) (pc : Nat), wx_w γ A s H locs (mw γ o ad f g) → decode cX8_taken pc = .ok (.ireturn, 1) → W p l e rmX8_taken s m as below meth c H locs 0 0 Q (F0 m pc ls [.int z])) {v1 : Int32} {v2 : Int32} {H : Heap} {locs : List Loc} {ls : Array Slot} (w : wx_w γ A s H locs (mw γ o ad f g)) (hl : lv_has ls 3 [(0, .ref o), (1, .int v1), (2, .int v2)]) (hF : pX8_taken_0 f g v1 v2 = some z) : W p l e rmX8_taken s m as below meth c H locs 0 0 Q (F0 m 0 ls []) := by
  have hx := C.1
  have hb := C.2.1
  unfold pX8_taken_0 at hF
  refine lv_aload_n hx hb dX8_taken_0 rfl (lv_at hl 0 rfl) ?_
  refine lv_iload_n hx hb dX8_taken_1 rfl (lv_at hl 2 rfl) ?_
  refine lv_iconst (v := (0 : Int32)) hx hb dX8_taken_2 (by decide) ?_
  refine lv_iconst (v := (5 : Int32)) hx hb dX8_taken_3 (by decide) ?_
  obtain ⟨r4, hr, hF⟩ := obd hF
  refine rX8_in C K w hr hl.1 ⟨Nat.le_of_ble_eq_true rfl, Nat.le_of_ble_eq_true rfl⟩ (Nat.le_of_ble_eq_true rfl) dX8_taken_4 (fun H locs w => ?_)
  refine lv_if_ne (tgt := 13) hx hb dX8_taken_7 (by decide) (fun c => ?_) (fun c => ?_)
  · have hF := (if_neg c).symm.trans hF
    refine lv_aload_n hx hb dX8_taken_13 rfl (lv_at hl 0 rfl) ?_
    refine lv_iload_n hx hb dX8_taken_14 rfl (lv_at hl 1 rfl) ?_
    obtain ⟨r15, hr, hF⟩ := obd hF
    refine rX8_isHow C K w hr hl.1 ⟨Nat.le_of_ble_eq_true rfl, Nat.le_of_ble_eq_true rfl⟩ (Nat.le_of_ble_eq_true rfl) dX8_taken_15 (fun H locs w => ?_)
    refine lv_if_ne (tgt := 24) hx hb dX8_taken_18 (by decide) (fun c => ?_) (fun c => ?_)
    · have hF := (if_neg c).symm.trans hF
      refine lv_aload_n hx hb dX8_taken_24 rfl (lv_at hl 0 rfl) ?_
      refine lv_aload_n hx hb dX8_taken_25 rfl (lv_at hl 0 rfl) ?_
      refine mget_9 C K w dX8_taken_26 ?_
      refine lv_iload_n hx hb dX8_taken_29 rfl (lv_at hl 1 rfl) ?_
      obtain ⟨hi, hF⟩ := gin_if hF
      refine mald_9 C K w hi dX8_taken_30 ?_
      refine lv_iload_n hx hb dX8_taken_31 rfl (lv_at hl 2 rfl) ?_
      obtain ⟨r32, hr, hF⟩ := obd hF
      refine rX8_isUnder C K w hr hl.1 ⟨Nat.le_of_ble_eq_true rfl, Nat.le_of_ble_eq_true rfl⟩ (Nat.le_of_ble_eq_true rfl) dX8_taken_32 (fun H locs w => ?_)
      refine lv_if_eq (tgt := 47) hx hb dX8_taken_35 (by decide) (fun c => ?_) (fun c => ?_)
      · have hF := (if_pos c).symm.trans hF
        refine lv_bipush (v := (-13 : Int32)) hx hb dX8_taken_47 (by decide) ?_
        exact bX8_taken_49 C K E w (lv_sub hl [] rfl) hF
      · have hF := (if_neg c).symm.trans hF
        refine lv_aload_n hx hb dX8_taken_38 rfl (lv_at hl 0 rfl) ?_
        refine mget_10 C K w dX8_taken_39 ?_
        refine lv_iload_n hx hb dX8_taken_42 rfl (lv_at hl 1 rfl) ?_
        obtain ⟨hi, hF⟩ := gin_if hF
        refine mald_10 C K w hi dX8_taken_43 ?_
        refine lv_goto (tgt := 49) hx hb dX8_taken_44 (by decide) ?_
        exact bX8_taken_49 C K E w (lv_sub hl [] rfl) hF
    · have hF := (if_pos c).symm.trans hF
      refine lv_bipush (v := (-11 : Int32)) hx hb dX8_taken_21 (by decide) ?_
      have hF := Option.some.inj hF
      subst hF
      exact E _ _ _ _ w dX8_taken_23
  · have hF := (if_pos c).symm.trans hF
    refine lv_bipush (v := (-2 : Int32)) hx hb dX8_taken_10 (by decide) ?_
    have hF := Option.some.inj hF
    subst hF
    exact E _ _ _ _ w dX8_taken_12

theorem mX8_taken {l : Launch} {γ : wx_G} {o : Nat} {ad : Nat → Nat} {f : xF} {g : xG} {v1 : Int32} {v2 : Int32} {z : Int32} (hF : pX8_taken f g v1 v2 = some z) : wx_M γ l yX8_taken (ws_ yX8_taken cX8_taken 3 (some .int)) rmX8_taken [.ref o, .int v1, .int v2] (mw γ o ad f g) (fun v ws => v = some (.int z) ∧ ws = (mw γ o ad f g)) 0 0 := by
  refine wx_M.of (by decide) (Nat.le_of_ble_eq_true rfl) ?_
  intro p e s m as below meth c A ls C K w hr hlocks _ hl
  exact bX8_taken_0 C K (fun H locs ls pc w d => wx_iret C hr hlocks w ⟨rfl, rfl⟩ d) w hl hF

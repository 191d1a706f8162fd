/-! the component's methods over hows and texts (printed by gen/allb.py) -/
set_option maxRecDepth 100000
/-! WalkingStones.needs(III)I -/
abbrev rmX0_needs : Room := { frames := 204, cells := 0, slots := 0, locals := 8123 }
def pX0_needs_24 (η : cx_H) (θ : cx_T) (f : xF) (g : xG) : Option (Int32 × xF × xG) := some ((-2 : Int32), f, g)

def pX0_needs_93 (η : cx_H) (θ : cx_T) (f : xF) (g : xG) (v3 : Int32) (v4 : Int32) : Option (Int32 × xF × xG) := if gin v3 60 = true then some ((-1 : Int32), f, va_up g 5 (upd (g 5) v3.toNatClampNeg v4)) else none

def pX0_needs_72 (η : cx_H) (θ : cx_T) (f : xF) (g : xG) (v3 : Int32) (v4 : Int32) (v5 : Int32) : Option (Int32 × xF × xG) := if gin v3 60 = true then some (v5, f, va_up g 5 (upd (g 5) v3.toNatClampNeg v4)) else none

def pX0_needs_38 (η : cx_H) (θ : cx_T) : Nat → xF → xG → Int32 → Int32 → Int32 → Int32 → Int32 → Option (Int32 × xF × xG)
  | 0, _, _, _, _, _, _, _ => none
  | n + 1, f, g, v1, v2, v3, v4, v5 => if (99 : Int32) < v5 then pX0_needs_93 η θ f g v3 v4 else (if gin v3 60 = true then if gin v1 8 = true then if gk η v1 [0, 1, 2, 3, 4, 5] = true then if gin v2 10 = true then (pV_goesBy η θ f (va_up g 5 (upd (g 5) v3.toNatClampNeg v5)) v1 ((va_up g 5 (upd (g 5) v3.toNatClampNeg v5)) 0 v2.toNatClampNeg) v3).bind (fun r66 => if r66.1 ≤ 0 then pX0_needs_38 η θ n r66.2.1 r66.2.2 v1 v2 v3 v4 (v5 + 1) else pX0_needs_72 η θ r66.2.1 r66.2.2 v3 v4 v5) else none else none else none else none)

def pX0_needs_0 (η : cx_H) (θ : cx_T) (f : xF) (g : xG) (v1 : Int32) (v2 : Int32) (v3 : Int32) : Option (Int32 × xF × xG) := (pX0_isHow f g v1).bind (fun r2 => if r2 = 0 then pX0_needs_24 η θ f g else (pX0_isStone f g v2).bind (fun r10 => if r10 = 0 then pX0_needs_24 η θ f g else (pX0_isNight f g v3).bind (fun r18 => if r18 = 0 then pX0_needs_24 η θ f g else (if gin v3 60 = true then pX0_needs_38 η θ 5000 f g v1 v2 v3 (g 5 v3.toNatClampNeg) (0 : Int32) else none))))

abbrev pX0_needs (η : cx_H) (θ : cx_T) (f : xF) (g : xG) (v1 : Int32) (v2 : Int32) (v3 : Int32) : Option (Int32 × xF × xG) := pX0_needs_0 η θ f g v1 v2 v3
theorem bX0_needs_24 {p : Program} {l : Launch} {e : Env} {s : State} {m : MethodId} {as : Array Value} {below : List Frame} {meth : Method} {c : Code} {A : Nat → Prop} {Q : State → Prop} {γ : wx_G} {o : Nat} {ad : Nat → Nat} {η : cx_H} {θ : cx_T} {τ : va_W} {z : Int32 × xF × xG} (G : cx_ok γ) (T : tx_ok γ o ad θ (hr γ o ad η ++ τ)) (C : CallFix p m c cX0_needs 8 s as lw_all RX0) (K : wx_C γ A s) (E : ∀ (H : Heap) (locs : List Loc) (ls : Array Slot) (pc : Nat), wx_w γ A s H locs (cw γ o ad z.2.1 z.2.2 (hr γ o ad η ++ τ)) → decode cX0_needs pc = .ok (.ireturn, 1) → W p l e rmX0_needs s m as below meth c H locs 0 0 Q (F0 m pc ls [.int z.1])) {f : xF} {g : xG} {H : Heap} {locs : List Loc} {ls : Array Slot} (w : wx_w γ A s H locs (cw γ o ad f g (hr γ o ad η ++ τ))) (hl : lv_has ls 8 []) (hF : pX0_needs_24 η θ f g = some z) : W p l e rmX0_needs s m as below meth c H locs 0 0 Q (F0 m 24 ls []) := by
  have hx := C.1
  have hb := C.2.1
  unfold pX0_needs_24 at hF
  refine lv_bipush (v := (-2 : Int32)) hx hb dX0_needs_24 (by decide) ?_
  have hF := Option.some.inj hF
  subst hF
  exact E _ _ _ _ w dX0_needs_26

theorem bX0_needs_93 {p : Program} {l : Launch} {e : Env} {s : State} {m : MethodId} {as : Array Value} {below : List Frame} {meth : Method} {c : Code} {A : Nat → Prop} {Q : State → Prop} {γ : wx_G} {o : Nat} {ad : Nat → Nat} {η : cx_H} {θ : cx_T} {τ : va_W} {z : Int32 × xF × xG} (G : cx_ok γ) (T : tx_ok γ o ad θ (hr γ o ad η ++ τ)) (C : CallFix p m c cX0_needs 8 s as lw_all RX0) (K : wx_C γ A s) (E : ∀ (H : Heap) (locs : List Loc) (ls : Array Slot) (pc : Nat), wx_w γ A s H locs (cw γ o ad z.2.1 z.2.2 (hr γ o ad η ++ τ)) → decode cX0_needs pc = .ok (.ireturn, 1) → W p l e rmX0_needs s m as below meth c H locs 0 0 Q (F0 m pc ls [.int z.1])) {f : xF} {g : xG} {v3 : Int32} {v4 : Int32} {H : Heap} {locs : List Loc} {ls : Array Slot} (w : wx_w γ A s H locs (cw γ o ad f g (hr γ o ad η ++ τ))) (hl : lv_has ls 8 [(0, .ref o), (3, .int v3), (4, .int v4)]) (hF : pX0_needs_93 η θ f g v3 v4 = some z) : W p l e rmX0_needs s m as below meth c H locs 0 0 Q (F0 m 93 ls []) := by
  have hx := C.1
  have hb := C.2.1
  unfold pX0_needs_93 at hF
  refine lv_iconst (v := (-1 : Int32)) hx hb dX0_needs_93 (by decide) ?_
  refine lv_istore (lv' := [(5, .int (-1 : Int32)), (0, .ref o), (3, .int v3), (4, .int v4)]) hx hb dX0_needs_94 hl (by decide) rfl (fun ls hl => ?_)
  refine lv_aload_n hx hb dX0_needs_96 rfl (lv_at hl 1 rfl) ?_
  refine cget_5 C K w dX0_needs_97 ?_
  refine lv_iload_n hx hb dX0_needs_100 rfl (lv_at hl 2 rfl) ?_
  refine lv_iload hx hb dX0_needs_101 (lv_at hl 3 rfl) ?_
  obtain ⟨hi, hF⟩ := gin_if hF
  refine cast_5 C K w hi dX0_needs_103 (fun H locs w => ?_)
  refine lv_iload hx hb dX0_needs_104 (lv_at hl 0 rfl) ?_
  have hF := Option.some.inj hF
  subst hF
  exact E _ _ _ _ w dX0_needs_106

theorem bX0_needs_72 {p : Program} {l : Launch} {e : Env} {s : State} {m : MethodId} {as : Array Value} {below : List Frame} {meth : Method} {c : Code} {A : Nat → Prop} {Q : State → Prop} {γ : wx_G} {o : Nat} {ad : Nat → Nat} {η : cx_H} {θ : cx_T} {τ : va_W} {z : Int32 × xF × xG} (G : cx_ok γ) (T : tx_ok γ o ad θ (hr γ o ad η ++ τ)) (C : CallFix p m c cX0_needs 8 s as lw_all RX0) (K : wx_C γ A s) (E : ∀ (H : Heap) (locs : List Loc) (ls : Array Slot) (pc : Nat), wx_w γ A s H locs (cw γ o ad z.2.1 z.2.2 (hr γ o ad η ++ τ)) → decode cX0_needs pc = .ok (.ireturn, 1) → W p l e rmX0_needs s m as below meth c H locs 0 0 Q (F0 m pc ls [.int z.1])) {f : xF} {g : xG} {v3 : Int32} {v4 : Int32} {v5 : Int32} {H : Heap} {locs : List Loc} {ls : Array Slot} (w : wx_w γ A s H locs (cw γ o ad f g (hr γ o ad η ++ τ))) (hl : lv_has ls 8 [(0, .ref o), (3, .int v3), (4, .int v4), (5, .int v5)]) (hF : pX0_needs_72 η θ f g v3 v4 v5 = some z) : W p l e rmX0_needs s m as below meth c H locs 0 0 Q (F0 m 72 ls []) := by
  have hx := C.1
  have hb := C.2.1
  unfold pX0_needs_72 at hF
  refine lv_iload hx hb dX0_needs_72 (lv_at hl 3 rfl) ?_
  refine lv_istore (lv' := [(6, .int v5), (0, .ref o), (3, .int v3), (4, .int v4), (5, .int v5)]) hx hb dX0_needs_74 hl (by decide) rfl (fun ls hl => ?_)
  refine lv_aload_n hx hb dX0_needs_76 rfl (lv_at hl 1 rfl) ?_
  refine cget_5 C K w dX0_needs_77 ?_
  refine lv_iload_n hx hb dX0_needs_80 rfl (lv_at hl 2 rfl) ?_
  refine lv_iload hx hb dX0_needs_81 (lv_at hl 3 rfl) ?_
  obtain ⟨hi, hF⟩ := gin_if hF
  refine cast_5 C K w hi dX0_needs_83 (fun H locs w => ?_)
  refine lv_iload hx hb dX0_needs_84 (lv_at hl 0 rfl) ?_
  have hF := Option.some.inj hF
  subst hF
  exact E _ _ _ _ w dX0_needs_86

theorem bX0_needs_38 {p : Program} {l : Launch} {e : Env} {s : State} {m : MethodId} {as : Array Value} {below : List Frame} {meth : Method} {c : Code} {A : Nat → Prop} {Q : State → Prop} {γ : wx_G} {o : Nat} {ad : Nat → Nat} {η : cx_H} {θ : cx_T} {τ : va_W} {z : Int32 × xF × xG} (G : cx_ok γ) (T : tx_ok γ o ad θ (hr γ o ad η ++ τ)) (C : CallFix p m c cX0_needs 8 s as lw_all RX0) (K : wx_C γ A s) (E : ∀ (H : Heap) (locs : List Loc) (ls : Array Slot) (pc : Nat), wx_w γ A s H locs (cw γ o ad z.2.1 z.2.2 (hr γ o ad η ++ τ)) → decode cX0_needs pc = .ok (.ireturn, 1) → W p l e rmX0_needs s m as below meth c H locs 0 0 Q (F0 m pc ls [.int z.1])) : ∀ (n : Nat) (f : xF) (g : xG) (v1 : Int32) (v2 : Int32) (v3 : Int32) (v4 : Int32) (v5 : Int32) (H : Heap) (locs : List Loc) (ls : Array Slot), pX0_needs_38 η θ n f g v1 v2 v3 v4 v5 = some z → wx_w γ A s H locs (cw γ o ad f g (hr γ o ad η ++ τ)) → lv_has ls 8 [(0, .ref o), (1, .int v1), (2, .int v2), (3, .int v3), (4, .int v4), (5, .int v5)] → W p l e rmX0_needs s m as below meth c H locs 0 0 Q (F0 m 38 ls []) := by
  have hx := C.1
  have hb := C.2.1
  intro n
  induction n with
  | zero =>
    intro f g v1 v2 v3 v4 v5 H locs ls hF w hl
    have hF : (none : Option (Int32 × xF × xG)) = some z := hF
    cases hF
  | succ n ih =>
    intro f g v1 v2 v3 v4 v5 H locs ls hF w hl
    rw [pX0_needs_38] at hF
    refine lv_iload hx hb dX0_needs_38 (lv_at hl 5 rfl) ?_
    refine lv_bipush (v := (99 : Int32)) hx hb dX0_needs_40 (by decide) ?_
    refine lv_icmp_gt (tgt := 93) hx hb dX0_needs_42 (by decide) (fun c => ?_) (fun c => ?_)
    · have hF := (if_pos c).symm.trans hF
      exact bX0_needs_93 G T C K E w (lv_sub hl [0, 3, 4] rfl) hF
    · have hF := (if_neg c).symm.trans hF
      refine lv_aload_n hx hb dX0_needs_45 rfl (lv_at hl 0 rfl) ?_
      refine cget_5 C K w dX0_needs_46 ?_
      refine lv_iload_n hx hb dX0_needs_49 rfl (lv_at hl 3 rfl) ?_
      refine lv_iload hx hb dX0_needs_50 (lv_at hl 5 rfl) ?_
      obtain ⟨hi, hF⟩ := gin_if hF
      refine cast_5 C K w hi dX0_needs_52 (fun H locs w => ?_)
      refine lv_aload_n hx hb dX0_needs_53 rfl (lv_at hl 0 rfl) ?_
      refine cget_8 C K w dX0_needs_54 ?_
      refine lv_iload_n hx hb dX0_needs_57 rfl (lv_at hl 1 rfl) ?_
      obtain ⟨hi, hF⟩ := gin_if hF
      obtain ⟨hg, hF⟩ := gk_if hF
      refine c_how C K w hi hg dX0_needs_58 ?_
      refine lv_aload_n hx hb dX0_needs_59 rfl (lv_at hl 0 rfl) ?_
      refine cget_0 C K w dX0_needs_60 ?_
      refine lv_iload_n hx hb dX0_needs_63 rfl (lv_at hl 2 rfl) ?_
      obtain ⟨hi, hF⟩ := gin_if hF
      refine cald_0 C K w hi dX0_needs_64 ?_
      refine lv_iload_n hx hb dX0_needs_65 rfl (lv_at hl 3 rfl) ?_
      obtain ⟨r66, hr, hF⟩ := obd hF
      refine vX0_goesBy G T C K w hr hl.1 ⟨Nat.le_of_ble_eq_true rfl, Nat.le_of_ble_eq_true rfl⟩ (Nat.le_of_ble_eq_true rfl) dX0_needs_66 (fun H locs w => ?_)
      refine lv_if_le (tgt := 87) hx hb dX0_needs_69 (by decide) (fun c => ?_) (fun c => ?_)
      · have hF := (if_pos c).symm.trans hF
        refine lv_iinc (v := v5 + 1) (lv' := [(5, .int (v5 + 1)), (0, .ref o), (1, .int v1), (2, .int v2), (3, .int v3), (4, .int v4)]) hx hb dX0_needs_87 hl (k := 5) rfl rfl (by decide) rfl (fun ls hl => ?_)
        refine lv_goto (tgt := 38) hx hb dX0_needs_90 (by decide) ?_
        exact ih _ _ _ _ _ _ _ _ _ _ hF w (lv_sub hl [1, 2, 3, 4, 5, 0] rfl)
      · have hF := (if_neg c).symm.trans hF
        exact bX0_needs_72 G T C K E w (lv_sub hl [0, 3, 4, 5] rfl) hF

theorem bX0_needs_0 {p : Program} {l : Launch} {e : Env} {s : State} {m : MethodId} {as : Array Value} {below : List Frame} {meth : Method} {c : Code} {A : Nat → Prop} {Q : State → Prop} {γ : wx_G} {o : Nat} {ad : Nat → Nat} {η : cx_H} {θ : cx_T} {τ : va_W} {z : Int32 × xF × xG} (G : cx_ok γ) (T : tx_ok γ o ad θ (hr γ o ad η ++ τ)) (C : CallFix p m c cX0_needs 8 s as lw_all RX0) (K : wx_C γ A s) (E : ∀ (H : Heap) (locs : List Loc) (ls : Array Slot) (pc : Nat), wx_w γ A s H locs (cw γ o ad z.2.1 z.2.2 (hr γ o ad η ++ τ)) → decode cX0_needs pc = .ok (.ireturn, 1) → W p l e rmX0_needs s m as below meth c H locs 0 0 Q (F0 m pc ls [.int z.1])) {f : xF} {g : xG} {v1 : Int32} {v2 : Int32} {v3 : Int32} {H : Heap} {locs : List Loc} {ls : Array Slot} (w : wx_w γ A s H locs (cw γ o ad f g (hr γ o ad η ++ τ))) (hl : lv_has ls 8 [(0, .ref o), (1, .int v1), (2, .int v2), (3, .int v3)]) (hF : pX0_needs_0 η θ f g v1 v2 v3 = some z) : W p l e rmX0_needs s m as below meth c H locs 0 0 Q (F0 m 0 ls []) := by
  have hx := C.1
  have hb := C.2.1
  unfold pX0_needs_0 at hF
  refine lv_aload_n hx hb dX0_needs_0 rfl (lv_at hl 0 rfl) ?_
  refine lv_iload_n hx hb dX0_needs_1 rfl (lv_at hl 1 rfl) ?_
  obtain ⟨r2, hr, hF⟩ := obd hF
  refine rX0_isHow G C K w hr hl.1 ⟨Nat.le_of_ble_eq_true rfl, Nat.le_of_ble_eq_true rfl⟩ (Nat.le_of_ble_eq_true rfl) dX0_needs_2 (fun H locs w => ?_)
  refine lv_if_eq (tgt := 24) hx hb dX0_needs_5 (by decide) (fun c => ?_) (fun c => ?_)
  · have hF := (if_pos c).symm.trans hF
    exact bX0_needs_24 G T C K E w (lv_sub hl [] rfl) hF
  · have hF := (if_neg c).symm.trans hF
    refine lv_aload_n hx hb dX0_needs_8 rfl (lv_at hl 0 rfl) ?_
    refine lv_iload_n hx hb dX0_needs_9 rfl (lv_at hl 2 rfl) ?_
    obtain ⟨r10, hr, hF⟩ := obd hF
    refine rX0_isStone G C K w hr hl.1 ⟨Nat.le_of_ble_eq_true rfl, Nat.le_of_ble_eq_true rfl⟩ (Nat.le_of_ble_eq_true rfl) dX0_needs_10 (fun H locs w => ?_)
    refine lv_if_eq (tgt := 24) hx hb dX0_needs_13 (by decide) (fun c => ?_) (fun c => ?_)
    · have hF := (if_pos c).symm.trans hF
      exact bX0_needs_24 G T C K E w (lv_sub hl [] rfl) hF
    · have hF := (if_neg c).symm.trans hF
      refine lv_aload_n hx hb dX0_needs_16 rfl (lv_at hl 0 rfl) ?_
      refine lv_iload_n hx hb dX0_needs_17 rfl (lv_at hl 3 rfl) ?_
      obtain ⟨r18, hr, hF⟩ := obd hF
      refine rX0_isNight G C K w hr hl.1 ⟨Nat.le_of_ble_eq_true rfl, Nat.le_of_ble_eq_true rfl⟩ (Nat.le_of_ble_eq_true rfl) dX0_needs_18 (fun H locs w => ?_)
      refine lv_if_ne (tgt := 27) hx hb dX0_needs_21 (by decide) (fun c => ?_) (fun c => ?_)
      · have hF := (if_neg c).symm.trans hF
        refine lv_aload_n hx hb dX0_needs_27 rfl (lv_at hl 0 rfl) ?_
        refine cget_5 C K w dX0_needs_28 ?_
        refine lv_iload_n hx hb dX0_needs_31 rfl (lv_at hl 3 rfl) ?_
        obtain ⟨hi, hF⟩ := gin_if hF
        refine cald_5 C K w hi dX0_needs_32 ?_
        refine lv_istore (lv' := [(4, .int (g 5 v3.toNatClampNeg)), (0, .ref o), (1, .int v1), (2, .int v2), (3, .int v3)]) hx hb dX0_needs_33 hl (by decide) rfl (fun ls hl => ?_)
        refine lv_iconst (v := (0 : Int32)) hx hb dX0_needs_35 (by decide) ?_
        refine lv_istore (lv' := [(5, .int (0 : Int32)), (4, .int (g 5 v3.toNatClampNeg)), (0, .ref o), (1, .int v1), (2, .int v2), (3, .int v3)]) hx hb dX0_needs_36 hl (by decide) rfl (fun ls hl => ?_)
        exact bX0_needs_38 G T C K E 5000 _ _ _ _ _ _ _ _ _ _ hF w (lv_sub hl [2, 3, 4, 5, 1, 0] rfl)
      · have hF := (if_pos c).symm.trans hF
        exact bX0_needs_24 G T C K E w (lv_sub hl [] rfl) hF

theorem mX0_needs {l : Launch} {γ : wx_G} {o : Nat} {ad : Nat → Nat} {η : cx_H} {θ : cx_T} {τ : va_W} {f : xF} {g : xG} {v1 : Int32} {v2 : Int32} {v3 : Int32} {z : Int32 × xF × xG} (G : cx_ok γ) (T : tx_ok γ o ad θ (hr γ o ad η ++ τ)) (hF : pX0_needs η θ f g v1 v2 v3 = some z) : wx_M γ l yX0_needs (wsW_ yX0_needs cX0_needs 8 (some .int) [(35, 76, 107, 0), (87, 96, 107, 0), (107, 109, 107, 0)]) rmX0_needs [.ref o, .int v1, .int v2, .int v3] (cw γ o ad f g (hr γ o ad η ++ τ)) (fun v ws => v = some (.int z.1) ∧ ws = (cw γ o ad z.2.1 z.2.2 (hr γ o ad η ++ τ))) 0 0 := by
  refine wx_MW.of (by decide) (Nat.le_of_ble_eq_true rfl) ?_
  intro p e s m as below meth c A ls C K w hr hlocks _ hl
  exact bX0_needs_0 G T C K (fun H locs ls pc w d => wx_iret C hr hlocks w ⟨rfl, rfl⟩ d) w hl hF

/-! WalkingStones.run(IIII)I -/
abbrev rmX0_run : Room := { frames := 206, cells := 0, slots := 0, locals := 8175 }
def pX0_run_37 (η : cx_H) (θ : cx_T) (f : xF) (g : xG) : Option (Int32 × xF × xG) := some ((-2 : Int32), f, g)

def pX0_run_97 (η : cx_H) (θ : cx_T) (f : xF) (g : xG) (t0 : Int32) : Option (Int32 × xF × xG) := (pX0_laysBack f g).bind (fun r100 => some (t0, r100.1, r100.2))

def pX0_run_0 (η : cx_H) (θ : cx_T) (f : xF) (g : xG) (v1 : Int32) (v2 : Int32) (v3 : Int32) (v4 : Int32) : Option (Int32 × xF × xG) := (pX0_isHow f g v1).bind (fun r2 => if r2 = 0 then pX0_run_37 η θ f g else (pX0_areNights f g v2).bind (fun r10 => if r10 = 0 then pX0_run_37 η θ f g else (pX0_isStone f g v3).bind (fun r18 => if r18 = 0 then pX0_run_37 η θ f g else (pX0_in f g v4.toInt64 (0 : Int64) (2 : Int64)).bind (fun r31 => if r31 = 0 then pX0_run_37 η θ f g else (pX0_keeps f g).bind (fun r41 => if gin v1 8 = true then if gk η v1 [0, 1, 2, 3, 4, 5] = true then (pX0_runs η θ r41.1 r41.2 v1 (v2 / (100 : Int32)) (v2 - v2 / (100 : Int32) * (100 : Int32))).bind (fun r59 => if v4 = 0 then (if gin v3 10 = true then pX0_run_97 η θ r59.1 r59.2 (r59.2 28 v3.toNatClampNeg) else none) else (if v4 = (1 : Int32) then (if gin v3 10 = true then pX0_run_97 η θ r59.1 r59.2 (r59.2 1 v3.toNatClampNeg) else none) else (if gin v3 10 = true then pX0_run_97 η θ r59.1 r59.2 (r59.2 29 v3.toNatClampNeg) else none))) else none else none)))))

abbrev pX0_run (η : cx_H) (θ : cx_T) (f : xF) (g : xG) (v1 : Int32) (v2 : Int32) (v3 : Int32) (v4 : Int32) : Option (Int32 × xF × xG) := pX0_run_0 η θ f g v1 v2 v3 v4
theorem bX0_run_37 {p : Program} {l : Launch} {e : Env} {s : State} {m : MethodId} {as : Array Value} {below : List Frame} {meth : Method} {c : Code} {A : Nat → Prop} {Q : State → Prop} {γ : wx_G} {o : Nat} {ad : Nat → Nat} {η : cx_H} {θ : cx_T} {τ : va_W} {z : Int32 × xF × xG} (G : cx_ok γ) (T : tx_ok γ o ad θ (hr γ o ad η ++ τ)) (C : CallFix p m c cX0_run 7 s as lw_all RX0) (K : wx_C γ A s) (E : ∀ (H : Heap) (locs : List Loc) (ls : Array Slot) (pc : Nat), wx_w γ A s H locs (cw γ o ad z.2.1 z.2.2 (hr γ o ad η ++ τ)) → decode cX0_run pc = .ok (.ireturn, 1) → W p l e rmX0_run s m as below meth c H locs 0 0 Q (F0 m pc ls [.int z.1])) {f : xF} {g : xG} {H : Heap} {locs : List Loc} {ls : Array Slot} (w : wx_w γ A s H locs (cw γ o ad f g (hr γ o ad η ++ τ))) (hl : lv_has ls 7 []) (hF : pX0_run_37 η θ f g = some z) : W p l e rmX0_run s m as below meth c H locs 0 0 Q (F0 m 37 ls []) := by
  have hx := C.1
  have hb := C.2.1
  unfold pX0_run_37 at hF
  refine lv_bipush (v := (-2 : Int32)) hx hb dX0_run_37 (by decide) ?_
  have hF := Option.some.inj hF
  subst hF
  exact E _ _ _ _ w dX0_run_39

theorem bX0_run_97 {p : Program} {l : Launch} {e : Env} {s : State} {m : MethodId} {as : Array Value} {below : List Frame} {meth : Method} {c : Code} {A : Nat → Prop} {Q : State → Prop} {γ : wx_G} {o : Nat} {ad : Nat → Nat} {η : cx_H} {θ : cx_T} {τ : va_W} {z : Int32 × xF × xG} (G : cx_ok γ) (T : tx_ok γ o ad θ (hr γ o ad η ++ τ)) (C : CallFix p m c cX0_run 7 s as lw_all RX0) (K : wx_C γ A s) (E : ∀ (H : Heap) (locs : List Loc) (ls : Array Slot) (pc : Nat), wx_w γ A s H locs (cw γ o ad z.2.1 z.2.2 (hr γ o ad η ++ τ)) → decode cX0_run pc = .ok (.ireturn, 1) → W p l e rmX0_run s m as below meth c H locs 0 0 Q (F0 m pc ls [.int z.1])) {f : xF} {g : xG} {t0 : Int32} {H : Heap} {locs : List Loc} {ls : Array Slot} (w : wx_w γ A s H locs (cw γ o ad f g (hr γ o ad η ++ τ))) (hl : lv_has ls 7 [(0, .ref o)]) (hF : pX0_run_97 η θ f g t0 = some z) : W p l e rmX0_run s m as below meth c H locs 0 0 Q (F0 m 97 ls [.int t0]) := by
  have hx := C.1
  have hb := C.2.1
  unfold pX0_run_97 at hF
  refine lv_istore (lv' := [(5, .int t0), (0, .ref o)]) hx hb dX0_run_97 hl (by decide) rfl (fun ls hl => ?_)
  refine lv_aload_n hx hb dX0_run_99 rfl (lv_at hl 1 rfl) ?_
  obtain ⟨r100, hr, hF⟩ := obd hF
  refine rX0_laysBack G C K w hr hl.1 ⟨Nat.le_of_ble_eq_true rfl, Nat.le_of_ble_eq_true rfl⟩ (Nat.le_of_ble_eq_true rfl) dX0_run_100 (fun H locs w => ?_)
  refine lv_iload hx hb dX0_run_103 (lv_at hl 0 rfl) ?_
  have hF := Option.some.inj hF
  subst hF
  exact E _ _ _ _ w dX0_run_105

theorem bX0_run_0 {p : Program} {l : Launch} {e : Env} {s : State} {m : MethodId} {as : Array Value} {below : List Frame} {meth : Method} {c : Code} {A : Nat → Prop} {Q : State → Prop} {γ : wx_G} {o : Nat} {ad : Nat → Nat} {η : cx_H} {θ : cx_T} {τ : va_W} {z : Int32 × xF × xG} (G : cx_ok γ) (T : tx_ok γ o ad θ (hr γ o ad η ++ τ)) (C : CallFix p m c cX0_run 7 s as lw_all RX0) (K : wx_C γ A s) (E : ∀ (H : Heap) (locs : List Loc) (ls : Array Slot) (pc : Nat), wx_w γ A s H locs (cw γ o ad z.2.1 z.2.2 (hr γ o ad η ++ τ)) → decode cX0_run pc = .ok (.ireturn, 1) → W p l e rmX0_run s m as below meth c H locs 0 0 Q (F0 m pc ls [.int z.1])) {f : xF} {g : xG} {v1 : Int32} {v2 : Int32} {v3 : Int32} {v4 : Int32} {H : Heap} {locs : List Loc} {ls : Array Slot} (w : wx_w γ A s H locs (cw γ o ad f g (hr γ o ad η ++ τ))) (hl : lv_has ls 7 [(0, .ref o), (1, .int v1), (2, .int v2), (3, .int v3), (4, .int v4)]) (hF : pX0_run_0 η θ f g v1 v2 v3 v4 = some z) : W p l e rmX0_run s m as below meth c H locs 0 0 Q (F0 m 0 ls []) := by
  have hx := C.1
  have hb := C.2.1
  unfold pX0_run_0 at hF
  refine lv_aload_n hx hb dX0_run_0 rfl (lv_at hl 0 rfl) ?_
  refine lv_iload_n hx hb dX0_run_1 rfl (lv_at hl 1 rfl) ?_
  obtain ⟨r2, hr, hF⟩ := obd hF
  refine rX0_isHow G C K w hr hl.1 ⟨Nat.le_of_ble_eq_true rfl, Nat.le_of_ble_eq_true rfl⟩ (Nat.le_of_ble_eq_true rfl) dX0_run_2 (fun H locs w => ?_)
  refine lv_if_eq (tgt := 37) hx hb dX0_run_5 (by decide) (fun c => ?_) (fun c => ?_)
  · have hF := (if_pos c).symm.trans hF
    exact bX0_run_37 G T C K E w (lv_sub hl [] rfl) hF
  · have hF := (if_neg c).symm.trans hF
    refine lv_aload_n hx hb dX0_run_8 rfl (lv_at hl 0 rfl) ?_
    refine lv_iload_n hx hb dX0_run_9 rfl (lv_at hl 2 rfl) ?_
    obtain ⟨r10, hr, hF⟩ := obd hF
    refine rX0_areNights G C K w hr hl.1 ⟨Nat.le_of_ble_eq_true rfl, Nat.le_of_ble_eq_true rfl⟩ (Nat.le_of_ble_eq_true rfl) dX0_run_10 (fun H locs w => ?_)
    refine lv_if_eq (tgt := 37) hx hb dX0_run_13 (by decide) (fun c => ?_) (fun c => ?_)
    · have hF := (if_pos c).symm.trans hF
      exact bX0_run_37 G T C K E w (lv_sub hl [] rfl) hF
    · have hF := (if_neg c).symm.trans hF
      refine lv_aload_n hx hb dX0_run_16 rfl (lv_at hl 0 rfl) ?_
      refine lv_iload_n hx hb dX0_run_17 rfl (lv_at hl 3 rfl) ?_
      obtain ⟨r18, hr, hF⟩ := obd hF
      refine rX0_isStone G C K w hr hl.1 ⟨Nat.le_of_ble_eq_true rfl, Nat.le_of_ble_eq_true rfl⟩ (Nat.le_of_ble_eq_true rfl) dX0_run_18 (fun H locs w => ?_)
      refine lv_if_eq (tgt := 37) hx hb dX0_run_21 (by decide) (fun c => ?_) (fun c => ?_)
      · have hF := (if_pos c).symm.trans hF
        exact bX0_run_37 G T C K E w (lv_sub hl [] rfl) hF
      · have hF := (if_neg c).symm.trans hF
        refine lv_iload hx hb dX0_run_24 (lv_at hl 4 rfl) ?_
        refine lv_i2l hx hb dX0_run_26 rfl ?_
        refine lv_lconst (v := (0 : Int64)) hx hb dX0_run_27 (by decide) ?_
        refine lv_ldc2 (v := (2 : Int64)) hx hb C.2.2.2.1 (C.2.2.2.2 _ q274) dX0_run_28 ?_
        obtain ⟨r31, hr, hF⟩ := obd hF
        refine rX0_in G C K w hr hl.1 ⟨Nat.le_of_ble_eq_true rfl, Nat.le_of_ble_eq_true rfl⟩ (Nat.le_of_ble_eq_true rfl) dX0_run_31 (fun H locs w => ?_)
        refine lv_if_ne (tgt := 40) hx hb dX0_run_34 (by decide) (fun c => ?_) (fun c => ?_)
        · have hF := (if_neg c).symm.trans hF
          refine lv_aload_n hx hb dX0_run_40 rfl (lv_at hl 0 rfl) ?_
          obtain ⟨r41, hr, hF⟩ := obd hF
          refine rX0_keeps G C K w hr hl.1 ⟨Nat.le_of_ble_eq_true rfl, Nat.le_of_ble_eq_true rfl⟩ (Nat.le_of_ble_eq_true rfl) dX0_run_41 (fun H locs w => ?_)
          refine lv_aload_n hx hb dX0_run_44 rfl (lv_at hl 0 rfl) ?_
          refine lv_aload_n hx hb dX0_run_45 rfl (lv_at hl 0 rfl) ?_
          refine cget_8 C K w dX0_run_46 ?_
          refine lv_iload_n hx hb dX0_run_49 rfl (lv_at hl 1 rfl) ?_
          obtain ⟨hi, hF⟩ := gin_if hF
          obtain ⟨hg, hF⟩ := gk_if hF
          refine c_how C K w hi hg dX0_run_50 ?_
          refine lv_iload_n hx hb dX0_run_51 rfl (lv_at hl 2 rfl) ?_
          refine lv_bipush (v := (100 : Int32)) hx hb dX0_run_52 (by decide) ?_
          refine lv_idiv hx hb dX0_run_54 (by decide) ?_
          refine lv_iload_n hx hb dX0_run_55 rfl (lv_at hl 2 rfl) ?_
          refine lv_bipush (v := (100 : Int32)) hx hb dX0_run_56 (by decide) ?_
          refine lv_irem hx hb dX0_run_58 (by decide) ?_
          obtain ⟨r59, hr, hF⟩ := obd hF
          refine rX0_runs G T C K w hr hl.1 ⟨Nat.le_of_ble_eq_true rfl, Nat.le_of_ble_eq_true rfl⟩ (Nat.le_of_ble_eq_true rfl) dX0_run_59 (fun H locs w => ?_)
          refine lv_iload hx hb dX0_run_62 (lv_at hl 4 rfl) ?_
          refine lv_if_ne (tgt := 76) hx hb dX0_run_64 (by decide) (fun c => ?_) (fun c => ?_)
          · have hF := (if_neg c).symm.trans hF
            refine lv_iload hx hb dX0_run_76 (lv_at hl 4 rfl) ?_
            refine lv_iconst (v := (1 : Int32)) hx hb dX0_run_78 (by decide) ?_
            refine lv_icmp_ne (tgt := 91) hx hb dX0_run_79 (by decide) (fun c => ?_) (fun c => ?_)
            · have hF := (if_neg c).symm.trans hF
              refine lv_aload_n hx hb dX0_run_91 rfl (lv_at hl 0 rfl) ?_
              refine cget_29 C K w dX0_run_92 ?_
              refine lv_iload_n hx hb dX0_run_95 rfl (lv_at hl 3 rfl) ?_
              obtain ⟨hi, hF⟩ := gin_if hF
              refine cald_29 C K w hi dX0_run_96 ?_
              exact bX0_run_97 G T C K E w (lv_sub hl [0] rfl) hF
            · have hF := (if_pos c).symm.trans hF
              refine lv_aload_n hx hb dX0_run_82 rfl (lv_at hl 0 rfl) ?_
              refine cget_1 C K w dX0_run_83 ?_
              refine lv_iload_n hx hb dX0_run_86 rfl (lv_at hl 3 rfl) ?_
              obtain ⟨hi, hF⟩ := gin_if hF
              refine cald_1 C K w hi dX0_run_87 ?_
              refine lv_goto (tgt := 97) hx hb dX0_run_88 (by decide) ?_
              exact bX0_run_97 G T C K E w (lv_sub hl [0] rfl) hF
          · have hF := (if_pos c).symm.trans hF
            refine lv_aload_n hx hb dX0_run_67 rfl (lv_at hl 0 rfl) ?_
            refine cget_28 C K w dX0_run_68 ?_
            refine lv_iload_n hx hb dX0_run_71 rfl (lv_at hl 3 rfl) ?_
            obtain ⟨hi, hF⟩ := gin_if hF
            refine cald_28 C K w hi dX0_run_72 ?_
            refine lv_goto (tgt := 97) hx hb dX0_run_73 (by decide) ?_
            exact bX0_run_97 G T C K E w (lv_sub hl [0] rfl) hF
        · have hF := (if_pos c).symm.trans hF
          exact bX0_run_37 G T C K E w (lv_sub hl [] rfl) hF

theorem mX0_run {l : Launch} {γ : wx_G} {o : Nat} {ad : Nat → Nat} {η : cx_H} {θ : cx_T} {τ : va_W} {f : xF} {g : xG} {v1 : Int32} {v2 : Int32} {v3 : Int32} {v4 : Int32} {z : Int32 × xF × xG} (G : cx_ok γ) (T : tx_ok γ o ad θ (hr γ o ad η ++ τ)) (hF : pX0_run η θ f g v1 v2 v3 v4 = some z) : wx_M γ l yX0_run (wsW_ yX0_run cX0_run 7 (some .int) [(44, 99, 106, 0), (106, 108, 106, 0)]) rmX0_run [.ref o, .int v1, .int v2, .int v3, .int v4] (cw γ o ad f g (hr γ o ad η ++ τ)) (fun v ws => v = some (.int z.1) ∧ ws = (cw γ o ad z.2.1 z.2.2 (hr γ o ad η ++ τ))) 0 0 := by
  refine wx_MW.of (by decide) (Nat.le_of_ble_eq_true rfl) ?_
  intro p e s m as below meth c A ls C K w hr hlocks _ hl
  exact bX0_run_0 G T C K (fun H locs ls pc w d => wx_iret C hr hlocks w ⟨rfl, rfl⟩ d) w hl hF

/-! WalkingStones.fits(II)I -/
abbrev rmX0_fits : Room := { frames := 206, cells := 0, slots := 0, locals := 8175 }
def pX0_fits_16 (η : cx_H) (θ : cx_T) (f : xF) (g : xG) : Option (Int32 × xF × xG) := some ((-2 : Int32), f, g)

def pX0_fits_0 (η : cx_H) (θ : cx_T) (f : xF) (g : xG) (v1 : Int32) (v2 : Int32) : Option (Int32 × xF × xG) := (pX0_isTrack f g v1).bind (fun r2 => if r2 = 0 then pX0_fits_16 η θ f g else (pX0_isHow f g v2).bind (fun r10 => if r10 = 0 then pX0_fits_16 η θ f g else (pX0_keeps f g).bind (fun r20 => if gin v2 8 = true then if gk η v2 [0, 1, 2, 3, 4, 5] = true then (pX0_runs η θ r20.1 r20.2 v2 (0 : Int32) ((r20.1 7) - (1 : Int32))).bind (fun r37 => (pX0_fitsNow r37.1 r37.2 v1).bind (fun r42 => (pX0_laysBack r37.1 r37.2).bind (fun r47 => some (r42, r47.1, r47.2)))) else none else none)))

abbrev pX0_fits (η : cx_H) (θ : cx_T) (f : xF) (g : xG) (v1 : Int32) (v2 : Int32) : Option (Int32 × xF × xG) := pX0_fits_0 η θ f g v1 v2
theorem bX0_fits_16 {p : Program} {l : Launch} {e : Env} {s : State} {m : MethodId} {as : Array Value} {below : List Frame} {meth : Method} {c : Code} {A : Nat → Prop} {Q : State → Prop} {γ : wx_G} {o : Nat} {ad : Nat → Nat} {η : cx_H} {θ : cx_T} {τ : va_W} {z : Int32 × xF × xG} (G : cx_ok γ) (T : tx_ok γ o ad θ (hr γ o ad η ++ τ)) (C : CallFix p m c cX0_fits 5 s as lw_all RX0) (K : wx_C γ A s) (E : ∀ (H : Heap) (locs : List Loc) (ls : Array Slot) (pc : Nat), wx_w γ A s H locs (cw γ o ad z.2.1 z.2.2 (hr γ o ad η ++ τ)) → decode cX0_fits pc = .ok (.ireturn, 1) → W p l e rmX0_fits s m as below meth c H locs 0 0 Q (F0 m pc ls [.int z.1])) {f : xF} {g : xG} {H : Heap} {locs : List Loc} {ls : Array Slot} (w : wx_w γ A s H locs (cw γ o ad f g (hr γ o ad η ++ τ))) (hl : lv_has ls 5 []) (hF : pX0_fits_16 η θ f g = some z) : W p l e rmX0_fits s m as below meth c H locs 0 0 Q (F0 m 16 ls []) := by
  have hx := C.1
  have hb := C.2.1
  unfold pX0_fits_16 at hF
  refine lv_bipush (v := (-2 : Int32)) hx hb dX0_fits_16 (by decide) ?_
  have hF := Option.some.inj hF
  subst hF
  exact E _ _ _ _ w dX0_fits_18

theorem bX0_fits_0 {p : Program} {l : Launch} {e : Env} {s : State} {m : MethodId} {as : Array Value} {below : List Frame} {meth : Method} {c : Code} {A : Nat → Prop} {Q : State → Prop} {γ : wx_G} {o : Nat} {ad : Nat → Nat} {η : cx_H} {θ : cx_T} {τ : va_W} {z : Int32 × xF × xG} (G : cx_ok γ) (T : tx_ok γ o ad θ (hr γ o ad η ++ τ)) (C : CallFix p m c cX0_fits 5 s as lw_all RX0) (K : wx_C γ A s) (E : ∀ (H : Heap) (locs : List Loc) (ls : Array Slot) (pc : Nat), wx_w γ A s H locs (cw γ o ad z.2.1 z.2.2 (hr γ o ad η ++ τ)) → decode cX0_fits pc = .ok (.ireturn, 1) → W p l e rmX0_fits s m as below meth c H locs 0 0 Q (F0 m pc ls [.int z.1])) {f : xF} {g : xG} {v1 : Int32} {v2 : Int32} {H : Heap} {locs : List Loc} {ls : Array Slot} (w : wx_w γ A s H locs (cw γ o ad f g (hr γ o ad η ++ τ))) (hl : lv_has ls 5 [(0, .ref o), (1, .int v1), (2, .int v2)]) (hF : pX0_fits_0 η θ f g v1 v2 = some z) : W p l e rmX0_fits s m as below meth c H locs 0 0 Q (F0 m 0 ls []) := by
  have hx := C.1
  have hb := C.2.1
  unfold pX0_fits_0 at hF
  refine lv_aload_n hx hb dX0_fits_0 rfl (lv_at hl 0 rfl) ?_
  refine lv_iload_n hx hb dX0_fits_1 rfl (lv_at hl 1 rfl) ?_
  obtain ⟨r2, hr, hF⟩ := obd hF
  refine rX0_isTrack G C K w hr hl.1 ⟨Nat.le_of_ble_eq_true rfl, Nat.le_of_ble_eq_true rfl⟩ (Nat.le_of_ble_eq_true rfl) dX0_fits_2 (fun H locs w => ?_)
  refine lv_if_eq (tgt := 16) hx hb dX0_fits_5 (by decide) (fun c => ?_) (fun c => ?_)
  · have hF := (if_pos c).symm.trans hF
    exact bX0_fits_16 G T C K E w (lv_sub hl [] rfl) hF
  · have hF := (if_neg c).symm.trans hF
    refine lv_aload_n hx hb dX0_fits_8 rfl (lv_at hl 0 rfl) ?_
    refine lv_iload_n hx hb dX0_fits_9 rfl (lv_at hl 2 rfl) ?_
    obtain ⟨r10, hr, hF⟩ := obd hF
    refine rX0_isHow G C K w hr hl.1 ⟨Nat.le_of_ble_eq_true rfl, Nat.le_of_ble_eq_true rfl⟩ (Nat.le_of_ble_eq_true rfl) dX0_fits_10 (fun H locs w => ?_)
    refine lv_if_ne (tgt := 19) hx hb dX0_fits_13 (by decide) (fun c => ?_) (fun c => ?_)
    · have hF := (if_neg c).symm.trans hF
      refine lv_aload_n hx hb dX0_fits_19 rfl (lv_at hl 0 rfl) ?_
      obtain ⟨r20, hr, hF⟩ := obd hF
      refine rX0_keeps G C K w hr hl.1 ⟨Nat.le_of_ble_eq_true rfl, Nat.le_of_ble_eq_true rfl⟩ (Nat.le_of_ble_eq_true rfl) dX0_fits_20 (fun H locs w => ?_)
      refine lv_aload_n hx hb dX0_fits_23 rfl (lv_at hl 0 rfl) ?_
      refine lv_aload_n hx hb dX0_fits_24 rfl (lv_at hl 0 rfl) ?_
      refine cget_8 C K w dX0_fits_25 ?_
      refine lv_iload_n hx hb dX0_fits_28 rfl (lv_at hl 2 rfl) ?_
      obtain ⟨hi, hF⟩ := gin_if hF
      obtain ⟨hg, hF⟩ := gk_if hF
      refine c_how C K w hi hg dX0_fits_29 ?_
      refine lv_iconst (v := (0 : Int32)) hx hb dX0_fits_30 (by decide) ?_
      refine lv_aload_n hx hb dX0_fits_31 rfl (lv_at hl 0 rfl) ?_
      refine cget_7 C K w dX0_fits_32 ?_
      refine lv_iconst (v := (1 : Int32)) hx hb dX0_fits_35 (by decide) ?_
      refine lv_isub hx hb dX0_fits_36 ?_
      obtain ⟨r37, hr, hF⟩ := obd hF
      refine rX0_runs G T C K w hr hl.1 ⟨Nat.le_of_ble_eq_true rfl, Nat.le_of_ble_eq_true rfl⟩ (Nat.le_of_ble_eq_true rfl) dX0_fits_37 (fun H locs w => ?_)
      refine lv_aload_n hx hb dX0_fits_40 rfl (lv_at hl 0 rfl) ?_
      refine lv_iload_n hx hb dX0_fits_41 rfl (lv_at hl 1 rfl) ?_
      obtain ⟨r42, hr, hF⟩ := obd hF
      refine rX0_fitsNow G C K w hr hl.1 ⟨Nat.le_of_ble_eq_true rfl, Nat.le_of_ble_eq_true rfl⟩ (Nat.le_of_ble_eq_true rfl) dX0_fits_42 (fun H locs w => ?_)
      refine lv_istore_n (lv' := [(3, .int r42), (0, .ref o), (1, .int v1), (2, .int v2)]) hx hb dX0_fits_45 rfl hl (by decide) rfl (fun ls hl => ?_)
      refine lv_aload_n hx hb dX0_fits_46 rfl (lv_at hl 1 rfl) ?_
      obtain ⟨r47, hr, hF⟩ := obd hF
      refine rX0_laysBack G C K w hr hl.1 ⟨Nat.le_of_ble_eq_true rfl, Nat.le_of_ble_eq_true rfl⟩ (Nat.le_of_ble_eq_true rfl) dX0_fits_47 (fun H locs w => ?_)
      refine lv_iload_n hx hb dX0_fits_50 rfl (lv_at hl 0 rfl) ?_
      have hF := Option.some.inj hF
      subst hF
      exact E _ _ _ _ w dX0_fits_51
    · have hF := (if_pos c).symm.trans hF
      exact bX0_fits_16 G T C K E w (lv_sub hl [] rfl) hF

theorem mX0_fits {l : Launch} {γ : wx_G} {o : Nat} {ad : Nat → Nat} {η : cx_H} {θ : cx_T} {τ : va_W} {f : xF} {g : xG} {v1 : Int32} {v2 : Int32} {z : Int32 × xF × xG} (G : cx_ok γ) (T : tx_ok γ o ad θ (hr γ o ad η ++ τ)) (hF : pX0_fits η θ f g v1 v2 = some z) : wx_M γ l yX0_fits (wsW_ yX0_fits cX0_fits 5 (some .int) [(23, 46, 52, 0), (52, 54, 52, 0)]) rmX0_fits [.ref o, .int v1, .int v2] (cw γ o ad f g (hr γ o ad η ++ τ)) (fun v ws => v = some (.int z.1) ∧ ws = (cw γ o ad z.2.1 z.2.2 (hr γ o ad η ++ τ))) 0 0 := by
  refine wx_MW.of (by decide) (Nat.le_of_ble_eq_true rfl) ?_
  intro p e s m as below meth c A ls C K w hr hlocks _ hl
  exact bX0_fits_0 G T C K (fun H locs ls pc w d => wx_iret C hr hlocks w ⟨rfl, rfl⟩ d) w hl hF

/-! WalkingStones.productOf(II)J -/
abbrev rmX0_productOf : Room := { frames := 206, cells := 0, slots := 0, locals := 8175 }
def pX0_productOf_72 (η : cx_H) (θ : cx_T) (f : xF) (g : xG) (v3 : Int64) : Option (Int64 × xF × xG) := (pX0_laysBack f g).bind (fun r76 => some (v3, r76.1, r76.2))

def pX0_productOf_64 (η : cx_H) (θ : cx_T) (k26 : xF → xG → Int32 → Int64 → Int32 → Option (Int64 × xF × xG)) (f : xF) (g : xG) (v2 : Int32) (v5 : Int32) (t0 : Int64) (t1 : Int64) : Option (Int64 × xF × xG) := k26 f g v2 (t0 * t1) (v5 + 1)

def pX0_productOf_26 (η : cx_H) (θ : cx_T) : Nat → xF → xG → Int32 → Int64 → Int32 → Option (Int64 × xF × xG)
  | 0, _, _, _, _, _ => none
  | n + 1, f, g, v2, v3, v5 => if (f 34) ≤ v5 then pX0_productOf_72 η θ f g v3 else (if (16 : Int32) ≤ v5 then pX0_productOf_72 η θ f g v3 else (if ((v2 >>> (v5 &&& 31)) &&& (1 : Int32)) = (1 : Int32) then (pX0_fitsNow f g v5).bind (fun r56 => pX0_productOf_64 η θ (pX0_productOf_26 η θ n) f g v2 v5 v3 r56.toInt64) else pX0_productOf_64 η θ (pX0_productOf_26 η θ n) f g v2 v5 v3 (1 : Int64)))

def pX0_productOf_0 (η : cx_H) (θ : cx_T) (f : xF) (g : xG) (v1 : Int32) (v2 : Int32) : Option (Int64 × xF × xG) := (pX0_keeps f g).bind (fun r1 => if gin v1 8 = true then if gk η v1 [0, 1, 2, 3, 4, 5] = true then (pX0_runs η θ r1.1 r1.2 v1 (0 : Int32) ((r1.1 7) - (1 : Int32))).bind (fun r18 => pX0_productOf_26 η θ 5000 r18.1 r18.2 v2 (1 : Int64) (0 : Int32)) else none else none)

abbrev pX0_productOf (η : cx_H) (θ : cx_T) (f : xF) (g : xG) (v1 : Int32) (v2 : Int32) : Option (Int64 × xF × xG) := pX0_productOf_0 η θ f g v1 v2
theorem bX0_productOf_72 {p : Program} {l : Launch} {e : Env} {s : State} {m : MethodId} {as : Array Value} {below : List Frame} {meth : Method} {c : Code} {A : Nat → Prop} {Q : State → Prop} {γ : wx_G} {o : Nat} {ad : Nat → Nat} {η : cx_H} {θ : cx_T} {τ : va_W} {z : Int64 × xF × xG} (G : cx_ok γ) (T : tx_ok γ o ad θ (hr γ o ad η ++ τ)) (C : CallFix p m c cX0_productOf 8 s as lw_all RX0) (K : wx_C γ A s) (E : ∀ (H : Heap) (locs : List Loc) (ls : Array Slot) (pc : Nat), wx_w γ A s H locs (cw γ o ad z.2.1 z.2.2 (hr γ o ad η ++ τ)) → decode cX0_productOf pc = .ok (.lreturn, 1) → W p l e rmX0_productOf s m as below meth c H locs 0 0 Q (F0 m pc ls [.long z.1])) {f : xF} {g : xG} {v3 : Int64} {H : Heap} {locs : List Loc} {ls : Array Slot} (w : wx_w γ A s H locs (cw γ o ad f g (hr γ o ad η ++ τ))) (hl : lv_has ls 8 [(0, .ref o), (3, .long v3)]) (hF : pX0_productOf_72 η θ f g v3 = some z) : W p l e rmX0_productOf s m as below meth c H locs 0 0 Q (F0 m 72 ls []) := by
  have hx := C.1
  have hb := C.2.1
  unfold pX0_productOf_72 at hF
  refine lv_lload_n hx hb dX0_productOf_72 rfl (lv_at hl 1 rfl) ?_
  refine lv_lstore (lv' := [(5, .long v3), (0, .ref o), (3, .long v3)]) hx hb dX0_productOf_73 hl (by decide) rfl (fun ls hl => ?_)
  refine lv_aload_n hx hb dX0_productOf_75 rfl (lv_at hl 1 rfl) ?_
  obtain ⟨r76, hr, hF⟩ := obd hF
  refine rX0_laysBack G C K w hr hl.1 ⟨Nat.le_of_ble_eq_true rfl, Nat.le_of_ble_eq_true rfl⟩ (Nat.le_of_ble_eq_true rfl) dX0_productOf_76 (fun H locs w => ?_)
  refine lv_lload hx hb dX0_productOf_79 (lv_at hl 0 rfl) ?_
  have hF := Option.some.inj hF
  subst hF
  exact E _ _ _ _ w dX0_productOf_81

theorem bX0_productOf_64 {p : Program} {l : Launch} {e : Env} {s : State} {m : MethodId} {as : Array Value} {below : List Frame} {meth : Method} {c : Code} {A : Nat → Prop} {Q : State → Prop} {γ : wx_G} {o : Nat} {ad : Nat → Nat} {η : cx_H} {θ : cx_T} {τ : va_W} {z : Int64 × xF × xG} (G : cx_ok γ) (T : tx_ok γ o ad θ (hr γ o ad η ++ τ)) (C : CallFix p m c cX0_productOf 8 s as lw_all RX0) (K : wx_C γ A s) (E : ∀ (H : Heap) (locs : List Loc) (ls : Array Slot) (pc : Nat), wx_w γ A s H locs (cw γ o ad z.2.1 z.2.2 (hr γ o ad η ++ τ)) → decode cX0_productOf pc = .ok (.lreturn, 1) → W p l e rmX0_productOf s m as below meth c H locs 0 0 Q (F0 m pc ls [.long z.1])) {k26 : xF → xG → Int32 → Int64 → Int32 → Option (Int64 × xF × xG)} (hk26 : ∀ (f : xF) (g : xG) (v2 : Int32) (v3 : Int64) (v5 : Int32) (H : Heap) (locs : List Loc) (ls : Array Slot), k26 f g v2 v3 v5 = some z → wx_w γ A s H locs (cw γ o ad f g (hr γ o ad η ++ τ)) → lv_has ls 8 [(0, .ref o), (2, .int v2), (3, .long v3), (5, .int v5)] → W p l e rmX0_productOf s m as below meth c H locs 0 0 Q (F0 m 26 ls [])) {f : xF} {g : xG} {v2 : Int32} {v5 : Int32} {t0 : Int64} {t1 : Int64} {H : Heap} {locs : List Loc} {ls : Array Slot} (w : wx_w γ A s H locs (cw γ o ad f g (hr γ o ad η ++ τ))) (hl : lv_has ls 8 [(0, .ref o), (2, .int v2), (5, .int v5)]) (hF : pX0_productOf_64 η θ k26 f g v2 v5 t0 t1 = some z) : W p l e rmX0_productOf s m as below meth c H locs 0 0 Q (F0 m 64 ls [.long t1, .long t0]) := by
  have hx := C.1
  have hb := C.2.1
  unfold pX0_productOf_64 at hF
  refine lv_lmul hx hb dX0_productOf_64 ?_
  refine lv_lstore_n (lv' := [(3, .long (t0 * t1)), (0, .ref o), (2, .int v2), (5, .int v5)]) hx hb dX0_productOf_65 rfl hl (by decide) rfl (fun ls hl => ?_)
  refine lv_iinc (v := v5 + 1) (lv' := [(5, .int (v5 + 1)), (3, .long (t0 * t1)), (0, .ref o), (2, .int v2)]) hx hb dX0_productOf_66 hl (k := 3) rfl rfl (by decide) rfl (fun ls hl => ?_)
  refine lv_goto (tgt := 26) hx hb dX0_productOf_69 (by decide) ?_
  exact hk26 _ _ _ _ _ _ _ _ hF w (lv_sub hl [2, 3, 1, 0] rfl)

theorem bX0_productOf_26 {p : Program} {l : Launch} {e : Env} {s : State} {m : MethodId} {as : Array Value} {below : List Frame} {meth : Method} {c : Code} {A : Nat → Prop} {Q : State → Prop} {γ : wx_G} {o : Nat} {ad : Nat → Nat} {η : cx_H} {θ : cx_T} {τ : va_W} {z : Int64 × xF × xG} (G : cx_ok γ) (T : tx_ok γ o ad θ (hr γ o ad η ++ τ)) (C : CallFix p m c cX0_productOf 8 s as lw_all RX0) (K : wx_C γ A s) (E : ∀ (H : Heap) (locs : List Loc) (ls : Array Slot) (pc : Nat), wx_w γ A s H locs (cw γ o ad z.2.1 z.2.2 (hr γ o ad η ++ τ)) → decode cX0_productOf pc = .ok (.lreturn, 1) → W p l e rmX0_productOf s m as below meth c H locs 0 0 Q (F0 m pc ls [.long z.1])) : ∀ (n : Nat) (f : xF) (g : xG) (v2 : Int32) (v3 : Int64) (v5 : Int32) (H : Heap) (locs : List Loc) (ls : Array Slot), pX0_productOf_26 η θ n f g v2 v3 v5 = some z → wx_w γ A s H locs (cw γ o ad f g (hr γ o ad η ++ τ)) → lv_has ls 8 [(0, .ref o), (2, .int v2), (3, .long v3), (5, .int v5)] → W p l e rmX0_productOf s m as below meth c H locs 0 0 Q (F0 m 26 ls []) := by
  have hx := C.1
  have hb := C.2.1
  intro n
  induction n with
  | zero =>
    intro f g v2 v3 v5 H locs ls hF w hl
    have hF : (none : Option (Int64 × xF × xG)) = some z := hF
    cases hF
  | succ n ih =>
    intro f g v2 v3 v5 H locs ls hF w hl
    rw [pX0_productOf_26] at hF
    refine lv_iload hx hb dX0_productOf_26 (lv_at hl 3 rfl) ?_
    refine lv_aload_n hx hb dX0_productOf_28 rfl (lv_at hl 0 rfl) ?_
    refine cget_34 C K w dX0_productOf_29 ?_
    refine lv_icmp_ge (tgt := 72) hx hb dX0_productOf_32 (by decide) (fun c => ?_) (fun c => ?_)
    · have hF := (if_pos c).symm.trans hF
      exact bX0_productOf_72 G T C K E w (lv_sub hl [0, 2] rfl) hF
    · have hF := (if_neg c).symm.trans hF
      refine lv_iload hx hb dX0_productOf_35 (lv_at hl 3 rfl) ?_
      refine lv_bipush (v := (16 : Int32)) hx hb dX0_productOf_37 (by decide) ?_
      refine lv_icmp_ge (tgt := 72) hx hb dX0_productOf_39 (by decide) (fun c => ?_) (fun c => ?_)
      · have hF := (if_pos c).symm.trans hF
        exact bX0_productOf_72 G T C K E w (lv_sub hl [0, 2] rfl) hF
      · have hF := (if_neg c).symm.trans hF
        refine lv_lload_n hx hb dX0_productOf_42 rfl (lv_at hl 2 rfl) ?_
        refine lv_iload_n hx hb dX0_productOf_43 rfl (lv_at hl 1 rfl) ?_
        refine lv_iload hx hb dX0_productOf_44 (lv_at hl 3 rfl) ?_
        refine lv_ishr hx hb dX0_productOf_46 ?_
        refine lv_iconst (v := (1 : Int32)) hx hb dX0_productOf_47 (by decide) ?_
        refine lv_iand hx hb dX0_productOf_48 ?_
        refine lv_iconst (v := (1 : Int32)) hx hb dX0_productOf_49 (by decide) ?_
        refine lv_icmp_ne (tgt := 63) hx hb dX0_productOf_50 (by decide) (fun c => ?_) (fun c => ?_)
        · have hF := (if_neg c).symm.trans hF
          refine lv_lconst (v := (1 : Int64)) hx hb dX0_productOf_63 (by decide) ?_
          exact bX0_productOf_64 G T C K E ih w (lv_sub hl [0, 1, 3] rfl) hF
        · have hF := (if_pos c).symm.trans hF
          refine lv_aload_n hx hb dX0_productOf_53 rfl (lv_at hl 0 rfl) ?_
          refine lv_iload hx hb dX0_productOf_54 (lv_at hl 3 rfl) ?_
          obtain ⟨r56, hr, hF⟩ := obd hF
          refine rX0_fitsNow G C K w hr hl.1 ⟨Nat.le_of_ble_eq_true rfl, Nat.le_of_ble_eq_true rfl⟩ (Nat.le_of_ble_eq_true rfl) dX0_productOf_56 (fun H locs w => ?_)
          refine lv_i2l hx hb dX0_productOf_59 rfl ?_
          refine lv_goto (tgt := 64) hx hb dX0_productOf_60 (by decide) ?_
          exact bX0_productOf_64 G T C K E ih w (lv_sub hl [0, 1, 3] rfl) hF

theorem bX0_productOf_0 {p : Program} {l : Launch} {e : Env} {s : State} {m : MethodId} {as : Array Value} {below : List Frame} {meth : Method} {c : Code} {A : Nat → Prop} {Q : State → Prop} {γ : wx_G} {o : Nat} {ad : Nat → Nat} {η : cx_H} {θ : cx_T} {τ : va_W} {z : Int64 × xF × xG} (G : cx_ok γ) (T : tx_ok γ o ad θ (hr γ o ad η ++ τ)) (C : CallFix p m c cX0_productOf 8 s as lw_all RX0) (K : wx_C γ A s) (E : ∀ (H : Heap) (locs : List Loc) (ls : Array Slot) (pc : Nat), wx_w γ A s H locs (cw γ o ad z.2.1 z.2.2 (hr γ o ad η ++ τ)) → decode cX0_productOf pc = .ok (.lreturn, 1) → W p l e rmX0_productOf s m as below meth c H locs 0 0 Q (F0 m pc ls [.long z.1])) {f : xF} {g : xG} {v1 : Int32} {v2 : Int32} {H : Heap} {locs : List Loc} {ls : Array Slot} (w : wx_w γ A s H locs (cw γ o ad f g (hr γ o ad η ++ τ))) (hl : lv_has ls 8 [(0, .ref o), (1, .int v1), (2, .int v2)]) (hF : pX0_productOf_0 η θ f g v1 v2 = some z) : W p l e rmX0_productOf s m as below meth c H locs 0 0 Q (F0 m 0 ls []) := by
  have hx := C.1
  have hb := C.2.1
  unfold pX0_productOf_0 at hF
  refine lv_aload_n hx hb dX0_productOf_0 rfl (lv_at hl 0 rfl) ?_
  obtain ⟨r1, hr, hF⟩ := obd hF
  refine rX0_keeps G C K w hr hl.1 ⟨Nat.le_of_ble_eq_true rfl, Nat.le_of_ble_eq_true rfl⟩ (Nat.le_of_ble_eq_true rfl) dX0_productOf_1 (fun H locs w => ?_)
  refine lv_aload_n hx hb dX0_productOf_4 rfl (lv_at hl 0 rfl) ?_
  refine lv_aload_n hx hb dX0_productOf_5 rfl (lv_at hl 0 rfl) ?_
  refine cget_8 C K w dX0_productOf_6 ?_
  refine lv_iload_n hx hb dX0_productOf_9 rfl (lv_at hl 1 rfl) ?_
  obtain ⟨hi, hF⟩ := gin_if hF
  obtain ⟨hg, hF⟩ := gk_if hF
  refine c_how C K w hi hg dX0_productOf_10 ?_
  refine lv_iconst (v := (0 : Int32)) hx hb dX0_productOf_11 (by decide) ?_
  refine lv_aload_n hx hb dX0_productOf_12 rfl (lv_at hl 0 rfl) ?_
  refine cget_7 C K w dX0_productOf_13 ?_
  refine lv_iconst (v := (1 : Int32)) hx hb dX0_productOf_16 (by decide) ?_
  refine lv_isub hx hb dX0_productOf_17 ?_
  obtain ⟨r18, hr, hF⟩ := obd hF
  refine rX0_runs G T C K w hr hl.1 ⟨Nat.le_of_ble_eq_true rfl, Nat.le_of_ble_eq_true rfl⟩ (Nat.le_of_ble_eq_true rfl) dX0_productOf_18 (fun H locs w => ?_)
  refine lv_lconst (v := (1 : Int64)) hx hb dX0_productOf_21 (by decide) ?_
  refine lv_lstore_n (lv' := [(3, .long (1 : Int64)), (0, .ref o), (1, .int v1), (2, .int v2)]) hx hb dX0_productOf_22 rfl hl (by decide) rfl (fun ls hl => ?_)
  refine lv_iconst (v := (0 : Int32)) hx hb dX0_productOf_23 (by decide) ?_
  refine lv_istore (lv' := [(5, .int (0 : Int32)), (3, .long (1 : Int64)), (0, .ref o), (1, .int v1), (2, .int v2)]) hx hb dX0_productOf_24 hl (by decide) rfl (fun ls hl => ?_)
  exact bX0_productOf_26 G T C K E 5000 _ _ _ _ _ _ _ _ hF w (lv_sub hl [2, 4, 1, 0] rfl)

theorem mX0_productOf {l : Launch} {γ : wx_G} {o : Nat} {ad : Nat → Nat} {η : cx_H} {θ : cx_T} {τ : va_W} {f : xF} {g : xG} {v1 : Int32} {v2 : Int32} {z : Int64 × xF × xG} (G : cx_ok γ) (T : tx_ok γ o ad θ (hr γ o ad η ++ τ)) (hF : pX0_productOf η θ f g v1 v2 = some z) : wx_M γ l yX0_productOf (wsW_ yX0_productOf cX0_productOf 8 (some .long) [(4, 75, 82, 0), (82, 84, 82, 0)]) rmX0_productOf [.ref o, .int v1, .int v2] (cw γ o ad f g (hr γ o ad η ++ τ)) (fun v ws => v = some (.long z.1) ∧ ws = (cw γ o ad z.2.1 z.2.2 (hr γ o ad η ++ τ))) 0 0 := by
  refine wx_MW.of (by decide) (Nat.le_of_ble_eq_true rfl) ?_
  intro p e s m as below meth c A ls C K w hr hlocks _ hl
  exact bX0_productOf_0 G T C K (fun H locs ls pc w d => wx_lret C hr hlocks w ⟨rfl, rfl⟩ d) w hl hF
theorem rX0_productOf {p : Program} {l : Launch} {e : Env} {R : Room} {s : State} {m : MethodId} {as : Array Value} {below : List Frame} {meth : Method} {c : Code} {H : Heap} {locs : List Loc} {cells slots : Nat} {Q : State → Prop} {cc : ByteArray} {nL pc : Nat} {ls : Array Slot} {rest : List Value} {γ : wx_G} {A : Nat → Prop} {o : Nat} {ad : Nat → Nat} {η : cx_H} {θ : cx_T} {τ : va_W} {f : xF} {g : xG} {v1 : Int32} {v2 : Int32} {z : Int64 × xF × xG} (G : cx_ok γ) (T : tx_ok γ o ad θ (hr γ o ad η ++ τ)) (C : CallFix p m c cc nL s as lw_all RX0) (K : wx_C γ A s) (w : wx_w γ A s H locs (cw γ o ad f g (hr γ o ad η ++ τ))) (hF : pX0_productOf η θ f g v1 v2 = some z) (hls : ls.size = nL) (hR : rmX0_productOf.frames + 1 ≤ R.frames ∧ 8 + (8 + 11) + rmX0_productOf.locals ≤ R.locals) (hW : (rest.map fun v => v.category).sum ≤ 8) (d : decode cc pc = .ok (.invokevirtual 409, 3)) (kk : ∀ (H : Heap) (locs : List Loc), wx_w γ A s H locs (cw γ o ad z.2.1 z.2.2 (hr γ o ad η ++ τ)) → W p l e R s m as below meth c H locs cells slots Q (F0 m (pc + 3) ls (.long z.1 :: rest))) (hf : cells ≤ R.cells ∧ slots ≤ R.slots := by exact ⟨Nat.le_of_ble_eq_true rfl, Nat.le_of_ble_eq_true rfl⟩) : W p l e R s m as below meth c H locs cells slots Q (F0 m pc ls (.int v2 :: .int v1 :: .ref o :: rest)) :=
  wx_callVW (n := 2) C K w (mX0_productOf (l := l) G T hF) q1019 q1021 qs36 q106 q1022 rfl rfl (by decide +kernel) (va_recv K.1.1 w.1 (ci := 1) (q0 := 0) rfl rfl) rfl rfl hR hls hW hf d (fun v ws H1 locs1 hp w => by obtain ⟨rfl, rfl⟩ := hp; exact kk H1 locs1 w)

/-! WalkingStones.odds(III)J -/
abbrev rmX0_odds : Room := { frames := 207, cells := 0, slots := 0, locals := 8202 }
def pX0_odds_41 (η : cx_H) (θ : cx_T) (f : xF) (g : xG) : Option (Int64 × xF × xG) := some ((-4611686018427387904 : Int64), f, g)

def pX0_odds_78 (η : cx_H) (θ : cx_T) (f : xF) (g : xG) (v1 : Int32) (v2 : Int32) (v3 : Int32) (v4 : Int64) : Option (Int64 × xF × xG) := (pX0_productOf η θ f g v1 v2).bind (fun r81 => (pX0_lowest r81.2.1 r81.2.2 r81.1 v4 v3).bind (fun r87 => some (r87, r81.2.1, r81.2.2)))

def pX0_odds_51 (η : cx_H) (θ : cx_T) : Nat → xF → xG → Int32 → Int32 → Int32 → Int64 → Int32 → Option (Int64 × xF × xG)
  | 0, _, _, _, _, _, _, _ => none
  | n + 1, f, g, v1, v2, v3, v4, v6 => if (f 9) ≤ v6 then pX0_odds_78 η θ f g v1 v2 v3 v4 else (pX0_productOf η θ f g v6 v2).bind (fun r66 => pX0_odds_51 η θ n r66.2.1 r66.2.2 v1 v2 v3 (v4 + r66.1) (v6 + 1))

def pX0_odds_0 (η : cx_H) (θ : cx_T) (f : xF) (g : xG) (v1 : Int32) (v2 : Int32) (v3 : Int32) : Option (Int64 × xF × xG) := (pX0_isHow f g v1).bind (fun r2 => if r2 = 0 then pX0_odds_41 η θ f g else (pX0_in f g v2.toInt64 (0 : Int64) ((((1 : Int32) <<< ((wmin (16 : Int32) (f 34)) &&& 31)) - (1 : Int32)).toInt64)).bind (fun r25 => if r25 = 0 then pX0_odds_41 η θ f g else (pX0_in f g v3.toInt64 (0 : Int64) (1 : Int64)).bind (fun r35 => if r35 = 0 then pX0_odds_41 η θ f g else pX0_odds_51 η θ 5000 f g v1 v2 v3 (0 : Int64) (0 : Int32))))

abbrev pX0_odds (η : cx_H) (θ : cx_T) (f : xF) (g : xG) (v1 : Int32) (v2 : Int32) (v3 : Int32) : Option (Int64 × xF × xG) := pX0_odds_0 η θ f g v1 v2 v3
theorem bX0_odds_41 {p : Program} {l : Launch} {e : Env} {s : State} {m : MethodId} {as : Array Value} {below : List Frame} {meth : Method} {c : Code} {A : Nat → Prop} {Q : State → Prop} {γ : wx_G} {o : Nat} {ad : Nat → Nat} {η : cx_H} {θ : cx_T} {τ : va_W} {z : Int64 × xF × xG} (G : cx_ok γ) (T : tx_ok γ o ad θ (hr γ o ad η ++ τ)) (C : CallFix p m c cX0_odds 7 s as lw_all RX0) (K : wx_C γ A s) (E : ∀ (H : Heap) (locs : List Loc) (ls : Array Slot) (pc : Nat), wx_w γ A s H locs (cw γ o ad z.2.1 z.2.2 (hr γ o ad η ++ τ)) → decode cX0_odds pc = .ok (.lreturn, 1) → W p l e rmX0_odds s m as below meth c H locs 0 0 Q (F0 m pc ls [.long z.1])) {f : xF} {g : xG} {H : Heap} {locs : List Loc} {ls : Array Slot} (w : wx_w γ A s H locs (cw γ o ad f g (hr γ o ad η ++ τ))) (hl : lv_has ls 7 []) (hF : pX0_odds_41 η θ f g = some z) : W p l e rmX0_odds s m as below meth c H locs 0 0 Q (F0 m 41 ls []) := by
  have hx := C.1
  have hb := C.2.1
  unfold pX0_odds_41 at hF
  refine lv_ldc2 (v := (-4611686018427387904 : Int64)) hx hb C.2.2.2.1 (C.2.2.2.2 _ q1018) dX0_odds_41 ?_
  have hF := Option.some.inj hF
  subst hF
  exact E _ _ _ _ w dX0_odds_44

theorem bX0_odds_78 {p : Program} {l : Launch} {e : Env} {s : State} {m : MethodId} {as : Array Value} {below : List Frame} {meth : Method} {c : Code} {A : Nat → Prop} {Q : State → Prop} {γ : wx_G} {o : Nat} {ad : Nat → Nat} {η : cx_H} {θ : cx_T} {τ : va_W} {z : Int64 × xF × xG} (G : cx_ok γ) (T : tx_ok γ o ad θ (hr γ o ad η ++ τ)) (C : CallFix p m c cX0_odds 7 s as lw_all RX0) (K : wx_C γ A s) (E : ∀ (H : Heap) (locs : List Loc) (ls : Array Slot) (pc : Nat), wx_w γ A s H locs (cw γ o ad z.2.1 z.2.2 (hr γ o ad η ++ τ)) → decode cX0_odds pc = .ok (.lreturn, 1) → W p l e rmX0_odds s m as below meth c H locs 0 0 Q (F0 m pc ls [.long z.1])) {f : xF} {g : xG} {v1 : Int32} {v2 : Int32} {v3 : Int32} {v4 : Int64} {H : Heap} {locs : List Loc} {ls : Array Slot} (w : wx_w γ A s H locs (cw γ o ad f g (hr γ o ad η ++ τ))) (hl : lv_has ls 7 [(0, .ref o), (1, .int v1), (2, .int v2), (3, .int v3), (4, .long v4)]) (hF : pX0_odds_78 η θ f g v1 v2 v3 v4 = some z) : W p l e rmX0_odds s m as below meth c H locs 0 0 Q (F0 m 78 ls []) := by
  have hx := C.1
  have hb := C.2.1
  unfold pX0_odds_78 at hF
  refine lv_aload_n hx hb dX0_odds_78 rfl (lv_at hl 0 rfl) ?_
  refine lv_iload_n hx hb dX0_odds_79 rfl (lv_at hl 1 rfl) ?_
  refine lv_iload_n hx hb dX0_odds_80 rfl (lv_at hl 2 rfl) ?_
  obtain ⟨r81, hr, hF⟩ := obd hF
  refine rX0_productOf G T C K w hr hl.1 ⟨Nat.le_of_ble_eq_true rfl, Nat.le_of_ble_eq_true rfl⟩ (Nat.le_of_ble_eq_true rfl) dX0_odds_81 (fun H locs w => ?_)
  refine lv_lload hx hb dX0_odds_84 (lv_at hl 4 rfl) ?_
  refine lv_iload_n hx hb dX0_odds_86 rfl (lv_at hl 3 rfl) ?_
  obtain ⟨r87, hr, hF⟩ := obd hF
  refine rX0_lowest G C K w hr hl.1 ⟨Nat.le_of_ble_eq_true rfl, Nat.le_of_ble_eq_true rfl⟩ (Nat.le_of_ble_eq_true rfl) dX0_odds_87 (fun H locs w => ?_)
  have hF := Option.some.inj hF
  subst hF
  exact E _ _ _ _ w dX0_odds_90

theorem bX0_odds_51 {p : Program} {l : Launch} {e : Env} {s : State} {m : MethodId} {as : Array Value} {below : List Frame} {meth : Method} {c : Code} {A : Nat → Prop} {Q : State → Prop} {γ : wx_G} {o : Nat} {ad : Nat → Nat} {η : cx_H} {θ : cx_T} {τ : va_W} {z : Int64 × xF × xG} (G : cx_ok γ) (T : tx_ok γ o ad θ (hr γ o ad η ++ τ)) (C : CallFix p m c cX0_odds 7 s as lw_all RX0) (K : wx_C γ A s) (E : ∀ (H : Heap) (locs : List Loc) (ls : Array Slot) (pc : Nat), wx_w γ A s H locs (cw γ o ad z.2.1 z.2.2 (hr γ o ad η ++ τ)) → decode cX0_odds pc = .ok (.lreturn, 1) → W p l e rmX0_odds s m as below meth c H locs 0 0 Q (F0 m pc ls [.long z.1])) : ∀ (n : Nat) (f : xF) (g : xG) (v1 : Int32) (v2 : Int32) (v3 : Int32) (v4 : Int64) (v6 : Int32) (H : Heap) (locs : List Loc) (ls : Array Slot), pX0_odds_51 η θ n f g v1 v2 v3 v4 v6 = some z → wx_w γ A s H locs (cw γ o ad f g (hr γ o ad η ++ τ)) → lv_has ls 7 [(0, .ref o), (1, .int v1), (2, .int v2), (3, .int v3), (4, .long v4), (6, .int v6)] → W p l e rmX0_odds s m as below meth c H locs 0 0 Q (F0 m 51 ls []) := by
  have hx := C.1
  have hb := C.2.1
  intro n
  induction n with
  | zero =>
    intro f g v1 v2 v3 v4 v6 H locs ls hF w hl
    have hF : (none : Option (Int64 × xF × xG)) = some z := hF
    cases hF
  | succ n ih =>
    intro f g v1 v2 v3 v4 v6 H locs ls hF w hl
    rw [pX0_odds_51] at hF
    refine lv_iload hx hb dX0_odds_51 (lv_at hl 5 rfl) ?_
    refine lv_aload_n hx hb dX0_odds_53 rfl (lv_at hl 0 rfl) ?_
    refine cget_9 C K w dX0_odds_54 ?_
    refine lv_icmp_ge (tgt := 78) hx hb dX0_odds_57 (by decide) (fun c => ?_) (fun c => ?_)
    · have hF := (if_pos c).symm.trans hF
      exact bX0_odds_78 G T C K E w (lv_sub hl [0, 1, 2, 3, 4] rfl) hF
    · have hF := (if_neg c).symm.trans hF
      refine lv_lload hx hb dX0_odds_60 (lv_at hl 4 rfl) ?_
      refine lv_aload_n hx hb dX0_odds_62 rfl (lv_at hl 0 rfl) ?_
      refine lv_iload hx hb dX0_odds_63 (lv_at hl 5 rfl) ?_
      refine lv_iload_n hx hb dX0_odds_65 rfl (lv_at hl 2 rfl) ?_
      obtain ⟨r66, hr, hF⟩ := obd hF
      refine rX0_productOf G T C K w hr hl.1 ⟨Nat.le_of_ble_eq_true rfl, Nat.le_of_ble_eq_true rfl⟩ (Nat.le_of_ble_eq_true rfl) dX0_odds_66 (fun H locs w => ?_)
      refine lv_ladd hx hb dX0_odds_69 ?_
      refine lv_lstore (lv' := [(4, .long (v4 + r66.1)), (0, .ref o), (1, .int v1), (2, .int v2), (3, .int v3), (6, .int v6)]) hx hb dX0_odds_70 hl (by decide) rfl (fun ls hl => ?_)
      refine lv_iinc (v := v6 + 1) (lv' := [(6, .int (v6 + 1)), (4, .long (v4 + r66.1)), (0, .ref o), (1, .int v1), (2, .int v2), (3, .int v3)]) hx hb dX0_odds_72 hl (k := 5) rfl rfl (by decide) rfl (fun ls hl => ?_)
      refine lv_goto (tgt := 51) hx hb dX0_odds_75 (by decide) ?_
      exact ih _ _ _ _ _ _ _ _ _ _ hF w (lv_sub hl [2, 3, 4, 5, 1, 0] rfl)

theorem bX0_odds_0 {p : Program} {l : Launch} {e : Env} {s : State} {m : MethodId} {as : Array Value} {below : List Frame} {meth : Method} {c : Code} {A : Nat → Prop} {Q : State → Prop} {γ : wx_G} {o : Nat} {ad : Nat → Nat} {η : cx_H} {θ : cx_T} {τ : va_W} {z : Int64 × xF × xG} (G : cx_ok γ) (T : tx_ok γ o ad θ (hr γ o ad η ++ τ)) (C : CallFix p m c cX0_odds 7 s as lw_all RX0) (K : wx_C γ A s) (E : ∀ (H : Heap) (locs : List Loc) (ls : Array Slot) (pc : Nat), wx_w γ A s H locs (cw γ o ad z.2.1 z.2.2 (hr γ o ad η ++ τ)) → decode cX0_odds pc = .ok (.lreturn, 1) → W p l e rmX0_odds s m as below meth c H locs 0 0 Q (F0 m pc ls [.long z.1])) {f : xF} {g : xG} {v1 : Int32} {v2 : Int32} {v3 : Int32} {H : Heap} {locs : List Loc} {ls : Array Slot} (w : wx_w γ A s H locs (cw γ o ad f g (hr γ o ad η ++ τ))) (hl : lv_has ls 7 [(0, .ref o), (1, .int v1), (2, .int v2), (3, .int v3)]) (hF : pX0_odds_0 η θ f g v1 v2 v3 = some z) : W p l e rmX0_odds s m as below meth c H locs 0 0 Q (F0 m 0 ls []) := by
  have hx := C.1
  have hb := C.2.1
  unfold pX0_odds_0 at hF
  refine lv_aload_n hx hb dX0_odds_0 rfl (lv_at hl 0 rfl) ?_
  refine lv_iload_n hx hb dX0_odds_1 rfl (lv_at hl 1 rfl) ?_
  obtain ⟨r2, hr, hF⟩ := obd hF
  refine rX0_isHow G C K w hr hl.1 ⟨Nat.le_of_ble_eq_true rfl, Nat.le_of_ble_eq_true rfl⟩ (Nat.le_of_ble_eq_true rfl) dX0_odds_2 (fun H locs w => ?_)
  refine lv_if_eq (tgt := 41) hx hb dX0_odds_5 (by decide) (fun c => ?_) (fun c => ?_)
  · have hF := (if_pos c).symm.trans hF
    exact bX0_odds_41 G T C K E w (lv_sub hl [] rfl) hF
  · have hF := (if_neg c).symm.trans hF
    refine lv_iload_n hx hb dX0_odds_8 rfl (lv_at hl 2 rfl) ?_
    refine lv_i2l hx hb dX0_odds_9 rfl ?_
    refine lv_lconst (v := (0 : Int64)) hx hb dX0_odds_10 (by decide) ?_
    refine lv_iconst (v := (1 : Int32)) hx hb dX0_odds_11 (by decide) ?_
    refine lv_bipush (v := (16 : Int32)) hx hb dX0_odds_12 (by decide) ?_
    refine lv_aload_n hx hb dX0_odds_14 rfl (lv_at hl 0 rfl) ?_
    refine cget_34 C K w dX0_odds_15 ?_
    refine cmin C hl.1 (Nat.le_of_ble_eq_true rfl) (Nat.le_of_ble_eq_true rfl) (Nat.le_of_ble_eq_true rfl) (Nat.le_of_ble_eq_true rfl) dX0_odds_18 ?_
    refine lv_ishl hx hb dX0_odds_21 ?_
    refine lv_iconst (v := (1 : Int32)) hx hb dX0_odds_22 (by decide) ?_
    refine lv_isub hx hb dX0_odds_23 ?_
    refine lv_i2l hx hb dX0_odds_24 rfl ?_
    obtain ⟨r25, hr, hF⟩ := obd hF
    refine rX0_in G C K w hr hl.1 ⟨Nat.le_of_ble_eq_true rfl, Nat.le_of_ble_eq_true rfl⟩ (Nat.le_of_ble_eq_true rfl) dX0_odds_25 (fun H locs w => ?_)
    refine lv_if_eq (tgt := 41) hx hb dX0_odds_28 (by decide) (fun c => ?_) (fun c => ?_)
    · have hF := (if_pos c).symm.trans hF
      exact bX0_odds_41 G T C K E w (lv_sub hl [] rfl) hF
    · have hF := (if_neg c).symm.trans hF
      refine lv_iload_n hx hb dX0_odds_31 rfl (lv_at hl 3 rfl) ?_
      refine lv_i2l hx hb dX0_odds_32 rfl ?_
      refine lv_lconst (v := (0 : Int64)) hx hb dX0_odds_33 (by decide) ?_
      refine lv_lconst (v := (1 : Int64)) hx hb dX0_odds_34 (by decide) ?_
      obtain ⟨r35, hr, hF⟩ := obd hF
      refine rX0_in G C K w hr hl.1 ⟨Nat.le_of_ble_eq_true rfl, Nat.le_of_ble_eq_true rfl⟩ (Nat.le_of_ble_eq_true rfl) dX0_odds_35 (fun H locs w => ?_)
      refine lv_if_ne (tgt := 45) hx hb dX0_odds_38 (by decide) (fun c => ?_) (fun c => ?_)
      · have hF := (if_neg c).symm.trans hF
        refine lv_lconst (v := (0 : Int64)) hx hb dX0_odds_45 (by decide) ?_
        refine lv_lstore (lv' := [(4, .long (0 : Int64)), (0, .ref o), (1, .int v1), (2, .int v2), (3, .int v3)]) hx hb dX0_odds_46 hl (by decide) rfl (fun ls hl => ?_)
        refine lv_iconst (v := (0 : Int32)) hx hb dX0_odds_48 (by decide) ?_
        refine lv_istore (lv' := [(6, .int (0 : Int32)), (4, .long (0 : Int64)), (0, .ref o), (1, .int v1), (2, .int v2), (3, .int v3)]) hx hb dX0_odds_49 hl (by decide) rfl (fun ls hl => ?_)
        exact bX0_odds_51 G T C K E 5000 _ _ _ _ _ _ _ _ _ _ hF w (lv_sub hl [2, 3, 4, 5, 1, 0] rfl)
      · have hF := (if_pos c).symm.trans hF
        exact bX0_odds_41 G T C K E w (lv_sub hl [] rfl) hF

theorem mX0_odds {l : Launch} {γ : wx_G} {o : Nat} {ad : Nat → Nat} {η : cx_H} {θ : cx_T} {τ : va_W} {f : xF} {g : xG} {v1 : Int32} {v2 : Int32} {v3 : Int32} {z : Int64 × xF × xG} (G : cx_ok γ) (T : tx_ok γ o ad θ (hr γ o ad η ++ τ)) (hF : pX0_odds η θ f g v1 v2 v3 = some z) : wx_M γ l yX0_odds (ws_ yX0_odds cX0_odds 7 (some .long)) rmX0_odds [.ref o, .int v1, .int v2, .int v3] (cw γ o ad f g (hr γ o ad η ++ τ)) (fun v ws => v = some (.long z.1) ∧ ws = (cw γ o ad z.2.1 z.2.2 (hr γ o ad η ++ τ))) 0 0 := by
  refine wx_M.of (by decide) (Nat.le_of_ble_eq_true rfl) ?_
  intro p e s m as below meth c A ls C K w hr hlocks _ hl
  exact bX0_odds_0 G T C K (fun H locs ls pc w d => wx_lret C hr hlocks w ⟨rfl, rfl⟩ d) w hl hF

/-! WalkingStones.bars(II)I -/
abbrev rmX0_bars : Room := { frames := 206, cells := 0, slots := 0, locals := 8175 }
def pX0_bars_20 (η : cx_H) (θ : cx_T) (f : xF) (g : xG) : Option (Int32 × xF × xG) := some ((-2 : Int32), f, g)

def pX0_bars_101 (η : cx_H) (θ : cx_T) (f : xF) (g : xG) (v3 : Int32) : Option (Int32 × xF × xG) := (pX0_laysBack f g).bind (fun r105 => some (v3, r105.1, r105.2))

def pX0_bars_93 (η : cx_H) (θ : cx_T) (k49 : xF → xG → Int32 → Int32 → Int32 → Option (Int32 × xF × xG)) (f : xF) (g : xG) (v2 : Int32) (v4 : Int32) (t0 : Int32) (t1 : Int32) : Option (Int32 × xF × xG) := k49 f g v2 (t0 + t1) (v4 + 1)

def pX0_bars_92 (η : cx_H) (θ : cx_T) (k49 : xF → xG → Int32 → Int32 → Int32 → Option (Int32 × xF × xG)) (f : xF) (g : xG) (v2 : Int32) (v4 : Int32) (t0 : Int32) : Option (Int32 × xF × xG) := pX0_bars_93 η θ k49 f g v2 v4 t0 (0 : Int32)

def pX0_bars_49 (η : cx_H) (θ : cx_T) : Nat → xF → xG → Int32 → Int32 → Int32 → Option (Int32 × xF × xG)
  | 0, _, _, _, _, _ => none
  | n + 1, f, g, v2, v3, v4 => if (f 2) ≤ v4 then pX0_bars_101 η θ f g v3 else (if gin v4 10 = true then (pX0_doHold f g (g 27 v4.toNatClampNeg) v2).bind (fun r68 => if r68 = 0 then pX0_bars_92 η θ (pX0_bars_49 η θ n) f g v2 v4 v3 else (if gin v4 10 = true then (pX0_isOut f g (g 1 v4.toNatClampNeg)).bind (fun r82 => if r82 = 0 then pX0_bars_92 η θ (pX0_bars_49 η θ n) f g v2 v4 v3 else pX0_bars_93 η θ (pX0_bars_49 η θ n) f g v2 v4 v3 (1 : Int32)) else none)) else none)

def pX0_bars_0 (η : cx_H) (θ : cx_T) (f : xF) (g : xG) (v1 : Int32) (v2 : Int32) : Option (Int32 × xF × xG) := (pX0_isHow f g v1).bind (fun r2 => if r2 = 0 then pX0_bars_20 η θ f g else (pX0_in f g v2.toInt64 (0 : Int64) (63 : Int64)).bind (fun r14 => if r14 = 0 then pX0_bars_20 η θ f g else (pX0_keeps f g).bind (fun r24 => if gin v1 8 = true then if gk η v1 [0, 1, 2, 3, 4, 5] = true then (pX0_runs η θ r24.1 r24.2 v1 (0 : Int32) ((r24.1 7) - (1 : Int32))).bind (fun r41 => pX0_bars_49 η θ 5000 r41.1 r41.2 v2 (0 : Int32) (0 : Int32)) else none else none)))

abbrev pX0_bars (η : cx_H) (θ : cx_T) (f : xF) (g : xG) (v1 : Int32) (v2 : Int32) : Option (Int32 × xF × xG) := pX0_bars_0 η θ f g v1 v2
theorem bX0_bars_20 {p : Program} {l : Launch} {e : Env} {s : State} {m : MethodId} {as : Array Value} {below : List Frame} {meth : Method} {c : Code} {A : Nat → Prop} {Q : State → Prop} {γ : wx_G} {o : Nat} {ad : Nat → Nat} {η : cx_H} {θ : cx_T} {τ : va_W} {z : Int32 × xF × xG} (G : cx_ok γ) (T : tx_ok γ o ad θ (hr γ o ad η ++ τ)) (C : CallFix p m c cX0_bars 6 s as lw_all RX0) (K : wx_C γ A s) (E : ∀ (H : Heap) (locs : List Loc) (ls : Array Slot) (pc : Nat), wx_w γ A s H locs (cw γ o ad z.2.1 z.2.2 (hr γ o ad η ++ τ)) → decode cX0_bars pc = .ok (.ireturn, 1) → W p l e rmX0_bars s m as below meth c H locs 0 0 Q (F0 m pc ls [.int z.1])) {f : xF} {g : xG} {H : Heap} {locs : List Loc} {ls : Array Slot} (w : wx_w γ A s H locs (cw γ o ad f g (hr γ o ad η ++ τ))) (hl : lv_has ls 6 []) (hF : pX0_bars_20 η θ f g = some z) : W p l e rmX0_bars s m as below meth c H locs 0 0 Q (F0 m 20 ls []) := by
  have hx := C.1
  have hb := C.2.1
  unfold pX0_bars_20 at hF
  refine lv_bipush (v := (-2 : Int32)) hx hb dX0_bars_20 (by decide) ?_
  have hF := Option.some.inj hF
  subst hF
  exact E _ _ _ _ w dX0_bars_22

theorem bX0_bars_101 {p : Program} {l : Launch} {e : Env} {s : State} {m : MethodId} {as : Array Value} {below : List Frame} {meth : Method} {c : Code} {A : Nat → Prop} {Q : State → Prop} {γ : wx_G} {o : Nat} {ad : Nat → Nat} {η : cx_H} {θ : cx_T} {τ : va_W} {z : Int32 × xF × xG} (G : cx_ok γ) (T : tx_ok γ o ad θ (hr γ o ad η ++ τ)) (C : CallFix p m c cX0_bars 6 s as lw_all RX0) (K : wx_C γ A s) (E : ∀ (H : Heap) (locs : List Loc) (ls : Array Slot) (pc : Nat), wx_w γ A s H locs (cw γ o ad z.2.1 z.2.2 (hr γ o ad η ++ τ)) → decode cX0_bars pc = .ok (.ireturn, 1) → W p l e rmX0_bars s m as below meth c H locs 0 0 Q (F0 m pc ls [.int z.1])) {f : xF} {g : xG} {v3 : Int32} {H : Heap} {locs : List Loc} {ls : Array Slot} (w : wx_w γ A s H locs (cw γ o ad f g (hr γ o ad η ++ τ))) (hl : lv_has ls 6 [(0, .ref o), (3, .int v3)]) (hF : pX0_bars_101 η θ f g v3 = some z) : W p l e rmX0_bars s m as below meth c H locs 0 0 Q (F0 m 101 ls []) := by
  have hx := C.1
  have hb := C.2.1
  unfold pX0_bars_101 at hF
  refine lv_iload_n hx hb dX0_bars_101 rfl (lv_at hl 1 rfl) ?_
  refine lv_istore (lv' := [(4, .int v3), (0, .ref o), (3, .int v3)]) hx hb dX0_bars_102 hl (by decide) rfl (fun ls hl => ?_)
  refine lv_aload_n hx hb dX0_bars_104 rfl (lv_at hl 1 rfl) ?_
  obtain ⟨r105, hr, hF⟩ := obd hF
  refine rX0_laysBack G C K w hr hl.1 ⟨Nat.le_of_ble_eq_true rfl, Nat.le_of_ble_eq_true rfl⟩ (Nat.le_of_ble_eq_true rfl) dX0_bars_105 (fun H locs w => ?_)
  refine lv_iload hx hb dX0_bars_108 (lv_at hl 0 rfl) ?_
  have hF := Option.some.inj hF
  subst hF
  exact E _ _ _ _ w dX0_bars_110

theorem bX0_bars_93 {p : Program} {l : Launch} {e : Env} {s : State} {m : MethodId} {as : Array Value} {below : List Frame} {meth : Method} {c : Code} {A : Nat → Prop} {Q : State → Prop} {γ : wx_G} {o : Nat} {ad : Nat → Nat} {η : cx_H} {θ : cx_T} {τ : va_W} {z : Int32 × xF × xG} (G : cx_ok γ) (T : tx_ok γ o ad θ (hr γ o ad η ++ τ)) (C : CallFix p m c cX0_bars 6 s as lw_all RX0) (K : wx_C γ A s) (E : ∀ (H : Heap) (locs : List Loc) (ls : Array Slot) (pc : Nat), wx_w γ A s H locs (cw γ o ad z.2.1 z.2.2 (hr γ o ad η ++ τ)) → decode cX0_bars pc = .ok (.ireturn, 1) → W p l e rmX0_bars s m as below meth c H locs 0 0 Q (F0 m pc ls [.int z.1])) {k49 : xF → xG → Int32 → Int32 → Int32 → Option (Int32 × xF × xG)} (hk49 : ∀ (f : xF) (g : xG) (v2 : Int32) (v3 : Int32) (v4 : Int32) (H : Heap) (locs : List Loc) (ls : Array Slot), k49 f g v2 v3 v4 = some z → wx_w γ A s H locs (cw γ o ad f g (hr γ o ad η ++ τ)) → lv_has ls 6 [(0, .ref o), (2, .int v2), (3, .int v3), (4, .int v4)] → W p l e rmX0_bars s m as below meth c H locs 0 0 Q (F0 m 49 ls [])) {f : xF} {g : xG} {v2 : Int32} {v4 : Int32} {t0 : Int32} {t1 : Int32} {H : Heap} {locs : List Loc} {ls : Array Slot} (w : wx_w γ A s H locs (cw γ o ad f g (hr γ o ad η ++ τ))) (hl : lv_has ls 6 [(0, .ref o), (2, .int v2), (4, .int v4)]) (hF : pX0_bars_93 η θ k49 f g v2 v4 t0 t1 = some z) : W p l e rmX0_bars s m as below meth c H locs 0 0 Q (F0 m 93 ls [.int t1, .int t0]) := by
  have hx := C.1
  have hb := C.2.1
  unfold pX0_bars_93 at hF
  refine lv_iadd hx hb dX0_bars_93 ?_
  refine lv_istore_n (lv' := [(3, .int (t0 + t1)), (0, .ref o), (2, .int v2), (4, .int v4)]) hx hb dX0_bars_94 rfl hl (by decide) rfl (fun ls hl => ?_)
  refine lv_iinc (v := v4 + 1) (lv' := [(4, .int (v4 + 1)), (3, .int (t0 + t1)), (0, .ref o), (2, .int v2)]) hx hb dX0_bars_95 hl (k := 3) rfl rfl (by decide) rfl (fun ls hl => ?_)
  refine lv_goto (tgt := 49) hx hb dX0_bars_98 (by decide) ?_
  exact hk49 _ _ _ _ _ _ _ _ hF w (lv_sub hl [2, 3, 1, 0] rfl)

theorem bX0_bars_92 {p : Program} {l : Launch} {e : Env} {s : State} {m : MethodId} {as : Array Value} {below : List Frame} {meth : Method} {c : Code} {A : Nat → Prop} {Q : State → Prop} {γ : wx_G} {o : Nat} {ad : Nat → Nat} {η : cx_H} {θ : cx_T} {τ : va_W} {z : Int32 × xF × xG} (G : cx_ok γ) (T : tx_ok γ o ad θ (hr γ o ad η ++ τ)) (C : CallFix p m c cX0_bars 6 s as lw_all RX0) (K : wx_C γ A s) (E : ∀ (H : Heap) (locs : List Loc) (ls : Array Slot) (pc : Nat), wx_w γ A s H locs (cw γ o ad z.2.1 z.2.2 (hr γ o ad η ++ τ)) → decode cX0_bars pc = .ok (.ireturn, 1) → W p l e rmX0_bars s m as below meth c H locs 0 0 Q (F0 m pc ls [.int z.1])) {k49 : xF → xG → Int32 → Int32 → Int32 → Option (Int32 × xF × xG)} (hk49 : ∀ (f : xF) (g : xG) (v2 : Int32) (v3 : Int32) (v4 : Int32) (H : Heap) (locs : List Loc) (ls : Array Slot), k49 f g v2 v3 v4 = some z → wx_w γ A s H locs (cw γ o ad f g (hr γ o ad η ++ τ)) → lv_has ls 6 [(0, .ref o), (2, .int v2), (3, .int v3), (4, .int v4)] → W p l e rmX0_bars s m as below meth c H locs 0 0 Q (F0 m 49 ls [])) {f : xF} {g : xG} {v2 : Int32} {v4 : Int32} {t0 : Int32} {H : Heap} {locs : List Loc} {ls : Array Slot} (w : wx_w γ A s H locs (cw γ o ad f g (hr γ o ad η ++ τ))) (hl : lv_has ls 6 [(0, .ref o), (2, .int v2), (4, .int v4)]) (hF : pX0_bars_92 η θ k49 f g v2 v4 t0 = some z) : W p l e rmX0_bars s m as below meth c H locs 0 0 Q (F0 m 92 ls [.int t0]) := by
  have hx := C.1
  have hb := C.2.1
  unfold pX0_bars_92 at hF
  refine lv_iconst (v := (0 : Int32)) hx hb dX0_bars_92 (by decide) ?_
  exact bX0_bars_93 G T C K E hk49 w hl hF

theorem bX0_bars_49 {p : Program} {l : Launch} {e : Env} {s : State} {m : MethodId} {as : Array Value} {below : List Frame} {meth : Method} {c : Code} {A : Nat → Prop} {Q : State → Prop} {γ : wx_G} {o : Nat} {ad : Nat → Nat} {η : cx_H} {θ : cx_T} {τ : va_W} {z : Int32 × xF × xG} (G : cx_ok γ) (T : tx_ok γ o ad θ (hr γ o ad η ++ τ)) (C : CallFix p m c cX0_bars 6 s as lw_all RX0) (K : wx_C γ A s) (E : ∀ (H : Heap) (locs : List Loc) (ls : Array Slot) (pc : Nat), wx_w γ A s H locs (cw γ o ad z.2.1 z.2.2 (hr γ o ad η ++ τ)) → decode cX0_bars pc = .ok (.ireturn, 1) → W p l e rmX0_bars s m as below meth c H locs 0 0 Q (F0 m pc ls [.int z.1])) : ∀ (n : Nat) (f : xF) (g : xG) (v2 : Int32) (v3 : Int32) (v4 : Int32) (H : Heap) (locs : List Loc) (ls : Array Slot), pX0_bars_49 η θ n f g v2 v3 v4 = some z → wx_w γ A s H locs (cw γ o ad f g (hr γ o ad η ++ τ)) → lv_has ls 6 [(0, .ref o), (2, .int v2), (3, .int v3), (4, .int v4)] → W p l e rmX0_bars s m as below meth c H locs 0 0 Q (F0 m 49 ls []) := by
  have hx := C.1
  have hb := C.2.1
  intro n
  induction n with
  | zero =>
    intro f g v2 v3 v4 H locs ls hF w hl
    have hF : (none : Option (Int32 × xF × xG)) = some z := hF
    cases hF
  | succ n ih =>
    intro f g v2 v3 v4 H locs ls hF w hl
    rw [pX0_bars_49] at hF
    refine lv_iload hx hb dX0_bars_49 (lv_at hl 3 rfl) ?_
    refine lv_aload_n hx hb dX0_bars_51 rfl (lv_at hl 0 rfl) ?_
    refine cget_2 C K w dX0_bars_52 ?_
    refine lv_icmp_ge (tgt := 101) hx hb dX0_bars_55 (by decide) (fun c => ?_) (fun c => ?_)
    · have hF := (if_pos c).symm.trans hF
      exact bX0_bars_101 G T C K E w (lv_sub hl [0, 2] rfl) hF
    · have hF := (if_neg c).symm.trans hF
      refine lv_iload_n hx hb dX0_bars_58 rfl (lv_at hl 2 rfl) ?_
      refine lv_aload_n hx hb dX0_bars_59 rfl (lv_at hl 0 rfl) ?_
      refine lv_aload_n hx hb dX0_bars_60 rfl (lv_at hl 0 rfl) ?_
      refine cget_27 C K w dX0_bars_61 ?_
      refine lv_iload hx hb dX0_bars_64 (lv_at hl 3 rfl) ?_
      obtain ⟨hi, hF⟩ := gin_if hF
      refine cald_27 C K w hi dX0_bars_66 ?_
      refine lv_iload_n hx hb dX0_bars_67 rfl (lv_at hl 1 rfl) ?_
      obtain ⟨r68, hr, hF⟩ := obd hF
      refine rX0_doHold G C K w hr hl.1 ⟨Nat.le_of_ble_eq_true rfl, Nat.le_of_ble_eq_true rfl⟩ (Nat.le_of_ble_eq_true rfl) dX0_bars_68 (fun H locs w => ?_)
      refine lv_if_eq (tgt := 92) hx hb dX0_bars_71 (by decide) (fun c => ?_) (fun c => ?_)
      · have hF := (if_pos c).symm.trans hF
        exact bX0_bars_92 G T C K E ih w (lv_sub hl [0, 1, 3] rfl) hF
      · have hF := (if_neg c).symm.trans hF
        refine lv_aload_n hx hb dX0_bars_74 rfl (lv_at hl 0 rfl) ?_
        refine lv_aload_n hx hb dX0_bars_75 rfl (lv_at hl 0 rfl) ?_
        refine cget_1 C K w dX0_bars_76 ?_
        refine lv_iload hx hb dX0_bars_79 (lv_at hl 3 rfl) ?_
        obtain ⟨hi, hF⟩ := gin_if hF
        refine cald_1 C K w hi dX0_bars_81 ?_
        obtain ⟨r82, hr, hF⟩ := obd hF
        refine rX0_isOut G C K w hr hl.1 ⟨Nat.le_of_ble_eq_true rfl, Nat.le_of_ble_eq_true rfl⟩ (Nat.le_of_ble_eq_true rfl) dX0_bars_82 (fun H locs w => ?_)
        refine lv_if_eq (tgt := 92) hx hb dX0_bars_85 (by decide) (fun c => ?_) (fun c => ?_)
        · have hF := (if_pos c).symm.trans hF
          exact bX0_bars_92 G T C K E ih w (lv_sub hl [0, 1, 3] rfl) hF
        · have hF := (if_neg c).symm.trans hF
          refine lv_iconst (v := (1 : Int32)) hx hb dX0_bars_88 (by decide) ?_
          refine lv_goto (tgt := 93) hx hb dX0_bars_89 (by decide) ?_
          exact bX0_bars_93 G T C K E ih w (lv_sub hl [0, 1, 3] rfl) hF

theorem bX0_bars_0 {p : Program} {l : Launch} {e : Env} {s : State} {m : MethodId} {as : Array Value} {below : List Frame} {meth : Method} {c : Code} {A : Nat → Prop} {Q : State → Prop} {γ : wx_G} {o : Nat} {ad : Nat → Nat} {η : cx_H} {θ : cx_T} {τ : va_W} {z : Int32 × xF × xG} (G : cx_ok γ) (T : tx_ok γ o ad θ (hr γ o ad η ++ τ)) (C : CallFix p m c cX0_bars 6 s as lw_all RX0) (K : wx_C γ A s) (E : ∀ (H : Heap) (locs : List Loc) (ls : Array Slot) (pc : Nat), wx_w γ A s H locs (cw γ o ad z.2.1 z.2.2 (hr γ o ad η ++ τ)) → decode cX0_bars pc = .ok (.ireturn, 1) → W p l e rmX0_bars s m as below meth c H locs 0 0 Q (F0 m pc ls [.int z.1])) {f : xF} {g : xG} {v1 : Int32} {v2 : Int32} {H : Heap} {locs : List Loc} {ls : Array Slot} (w : wx_w γ A s H locs (cw γ o ad f g (hr γ o ad η ++ τ))) (hl : lv_has ls 6 [(0, .ref o), (1, .int v1), (2, .int v2)]) (hF : pX0_bars_0 η θ f g v1 v2 = some z) : W p l e rmX0_bars s m as below meth c H locs 0 0 Q (F0 m 0 ls []) := by
  have hx := C.1
  have hb := C.2.1
  unfold pX0_bars_0 at hF
  refine lv_aload_n hx hb dX0_bars_0 rfl (lv_at hl 0 rfl) ?_
  refine lv_iload_n hx hb dX0_bars_1 rfl (lv_at hl 1 rfl) ?_
  obtain ⟨r2, hr, hF⟩ := obd hF
  refine rX0_isHow G C K w hr hl.1 ⟨Nat.le_of_ble_eq_true rfl, Nat.le_of_ble_eq_true rfl⟩ (Nat.le_of_ble_eq_true rfl) dX0_bars_2 (fun H locs w => ?_)
  refine lv_if_eq (tgt := 20) hx hb dX0_bars_5 (by decide) (fun c => ?_) (fun c => ?_)
  · have hF := (if_pos c).symm.trans hF
    exact bX0_bars_20 G T C K E w (lv_sub hl [] rfl) hF
  · have hF := (if_neg c).symm.trans hF
    refine lv_iload_n hx hb dX0_bars_8 rfl (lv_at hl 2 rfl) ?_
    refine lv_i2l hx hb dX0_bars_9 rfl ?_
    refine lv_lconst (v := (0 : Int64)) hx hb dX0_bars_10 (by decide) ?_
    refine lv_ldc2 (v := (63 : Int64)) hx hb C.2.2.2.1 (C.2.2.2.2 _ q969) dX0_bars_11 ?_
    obtain ⟨r14, hr, hF⟩ := obd hF
    refine rX0_in G C K w hr hl.1 ⟨Nat.le_of_ble_eq_true rfl, Nat.le_of_ble_eq_true rfl⟩ (Nat.le_of_ble_eq_true rfl) dX0_bars_14 (fun H locs w => ?_)
    refine lv_if_ne (tgt := 23) hx hb dX0_bars_17 (by decide) (fun c => ?_) (fun c => ?_)
    · have hF := (if_neg c).symm.trans hF
      refine lv_aload_n hx hb dX0_bars_23 rfl (lv_at hl 0 rfl) ?_
      obtain ⟨r24, hr, hF⟩ := obd hF
      refine rX0_keeps G C K w hr hl.1 ⟨Nat.le_of_ble_eq_true rfl, Nat.le_of_ble_eq_true rfl⟩ (Nat.le_of_ble_eq_true rfl) dX0_bars_24 (fun H locs w => ?_)
      refine lv_aload_n hx hb dX0_bars_27 rfl (lv_at hl 0 rfl) ?_
      refine lv_aload_n hx hb dX0_bars_28 rfl (lv_at hl 0 rfl) ?_
      refine cget_8 C K w dX0_bars_29 ?_
      refine lv_iload_n hx hb dX0_bars_32 rfl (lv_at hl 1 rfl) ?_
      obtain ⟨hi, hF⟩ := gin_if hF
      obtain ⟨hg, hF⟩ := gk_if hF
      refine c_how C K w hi hg dX0_bars_33 ?_
      refine lv_iconst (v := (0 : Int32)) hx hb dX0_bars_34 (by decide) ?_
      refine lv_aload_n hx hb dX0_bars_35 rfl (lv_at hl 0 rfl) ?_
      refine cget_7 C K w dX0_bars_36 ?_
      refine lv_iconst (v := (1 : Int32)) hx hb dX0_bars_39 (by decide) ?_
      refine lv_isub hx hb dX0_bars_40 ?_
      obtain ⟨r41, hr, hF⟩ := obd hF
      refine rX0_runs G T C K w hr hl.1 ⟨Nat.le_of_ble_eq_true rfl, Nat.le_of_ble_eq_true rfl⟩ (Nat.le_of_ble_eq_true rfl) dX0_bars_41 (fun H locs w => ?_)
      refine lv_iconst (v := (0 : Int32)) hx hb dX0_bars_44 (by decide) ?_
      refine lv_istore_n (lv' := [(3, .int (0 : Int32)), (0, .ref o), (1, .int v1), (2, .int v2)]) hx hb dX0_bars_45 rfl hl (by decide) rfl (fun ls hl => ?_)
      refine lv_iconst (v := (0 : Int32)) hx hb dX0_bars_46 (by decide) ?_
      refine lv_istore (lv' := [(4, .int (0 : Int32)), (3, .int (0 : Int32)), (0, .ref o), (1, .int v1), (2, .int v2)]) hx hb dX0_bars_47 hl (by decide) rfl (fun ls hl => ?_)
      exact bX0_bars_49 G T C K E 5000 _ _ _ _ _ _ _ _ hF w (lv_sub hl [2, 4, 1, 0] rfl)
    · have hF := (if_pos c).symm.trans hF
      exact bX0_bars_20 G T C K E w (lv_sub hl [] rfl) hF

theorem mX0_bars {l : Launch} {γ : wx_G} {o : Nat} {ad : Nat → Nat} {η : cx_H} {θ : cx_T} {τ : va_W} {f : xF} {g : xG} {v1 : Int32} {v2 : Int32} {z : Int32 × xF × xG} (G : cx_ok γ) (T : tx_ok γ o ad θ (hr γ o ad η ++ τ)) (hF : pX0_bars η θ f g v1 v2 = some z) : wx_M γ l yX0_bars (wsW_ yX0_bars cX0_bars 6 (some .int) [(27, 104, 111, 0), (111, 113, 111, 0)]) rmX0_bars [.ref o, .int v1, .int v2] (cw γ o ad f g (hr γ o ad η ++ τ)) (fun v ws => v = some (.int z.1) ∧ ws = (cw γ o ad z.2.1 z.2.2 (hr γ o ad η ++ τ))) 0 0 := by
  refine wx_MW.of (by decide) (Nat.le_of_ble_eq_true rfl) ?_
  intro p e s m as below meth c A ls C K w hr hlocks _ hl
  exact bX0_bars_0 G T C K (fun H locs ls pc w d => wx_iret C hr hlocks w ⟨rfl, rfl⟩ d) w hl hF

/-! the component's methods over hows and texts (printed by gen/allb.py) -/
set_option maxRecDepth 100000
/-! WalkingStones.told(IIII)I -/
abbrev rmX0_told : Room := { frames := 204, cells := 0, slots := 0, locals := 8123 }
def pX0_told_37 (η : cx_H) (θ : cx_T) (f : xF) (g : xG) : Option (Int32 × xF × xG) := some ((-2 : Int32), f, g)

def pX0_told_102 (η : cx_H) (θ : cx_T) (f : xF) (g : xG) (t0 : Int32) : Option (Int32 × xF × xG) := some (t0, f, g)

def pX0_told_0 (η : cx_H) (θ : cx_T) (f : xF) (g : xG) (v1 : Int32) (v2 : Int32) (v3 : Int32) (v4 : Int32) : Option (Int32 × xF × xG) := (pX0_isHow f g v1).bind (fun r2 => if r2 = 0 then pX0_told_37 η θ f g else (pX0_isStone f g v2).bind (fun r10 => if r10 = 0 then pX0_told_37 η θ f g else (pX0_isNight f g v3).bind (fun r18 => if r18 = 0 then pX0_told_37 η θ f g else (pX0_in f g v4.toInt64 (0 : Int64) (2 : Int64)).bind (fun r31 => if r31 = 0 then pX0_told_37 η θ f g else (if gin v1 8 = true then if gk η v1 [0, 1, 2, 3, 4, 5] = true then if v4 = 0 then (pV_may η f g v1 v3).bind (fun r56 => if r56 = 0 then pX0_told_102 η θ f g (0 : Int32) else pX0_told_102 η θ f g (1 : Int32)) else (if v4 = (1 : Int32) then (if gin v2 10 = true then (pV_drag η f g v1 (g 0 v2.toNatClampNeg)).bind (fun r84 => pX0_told_102 η θ f g r84) else none) else (if gin v2 10 = true then (pV_goesBy η θ f g v1 (g 0 v2.toNatClampNeg) v3).bind (fun r99 => pX0_told_102 η θ r99.2.1 r99.2.2 r99.1) else none)) else none else none)))))

abbrev pX0_told (η : cx_H) (θ : cx_T) (f : xF) (g : xG) (v1 : Int32) (v2 : Int32) (v3 : Int32) (v4 : Int32) : Option (Int32 × xF × xG) := pX0_told_0 η θ f g v1 v2 v3 v4
theorem bX0_told_37 {p : Program} {l : Launch} {e : Env} {s : State} {m : MethodId} {as : Array Value} {below : List Frame} {meth : Method} {c : Code} {A : Nat → Prop} {Q : State → Prop} {γ : wx_G} {o : Nat} {ad : Nat → Nat} {η : cx_H} {θ : cx_T} {τ : va_W} {z : Int32 × xF × xG} (G : cx_ok γ) (T : tx_ok γ o ad θ (hr γ o ad η ++ τ)) (C : CallFix p m c cX0_told 6 s as lw_all RX0) (K : wx_C γ A s) (E : ∀ (H : Heap) (locs : List Loc) (ls : Array Slot) (pc : Nat), wx_w γ A s H locs (cw γ o ad z.2.1 z.2.2 (hr γ o ad η ++ τ)) → decode cX0_told pc = .ok (.ireturn, 1) → W p l e rmX0_told s m as below meth c H locs 0 0 Q (F0 m pc ls [.int z.1])) {f : xF} {g : xG} {H : Heap} {locs : List Loc} {ls : Array Slot} (w : wx_w γ A s H locs (cw γ o ad f g (hr γ o ad η ++ τ))) (hl : lv_has ls 6 []) (hF : pX0_told_37 η θ f g = some z) : W p l e rmX0_told s m as below meth c H locs 0 0 Q (F0 m 37 ls []) := by
  have hx := C.1
  have hb := C.2.1
  unfold pX0_told_37 at hF
  refine lv_bipush (v := (-2 : Int32)) hx hb dX0_told_37 (by decide) ?_
  have hF := Option.some.inj hF
  subst hF
  exact E _ _ _ _ w dX0_told_39

theorem bX0_told_102 {p : Program} {l : Launch} {e : Env} {s : State} {m : MethodId} {as : Array Value} {below : List Frame} {meth : Method} {c : Code} {A : Nat → Prop} {Q : State → Prop} {γ : wx_G} {o : Nat} {ad : Nat → Nat} {η : cx_H} {θ : cx_T} {τ : va_W} {z : Int32 × xF × xG} (G : cx_ok γ) (T : tx_ok γ o ad θ (hr γ o ad η ++ τ)) (C : CallFix p m c cX0_told 6 s as lw_all RX0) (K : wx_C γ A s) (E : ∀ (H : Heap) (locs : List Loc) (ls : Array Slot) (pc : Nat), wx_w γ A s H locs (cw γ o ad z.2.1 z.2.2 (hr γ o ad η ++ τ)) → decode cX0_told pc = .ok (.ireturn, 1) → W p l e rmX0_told s m as below meth c H locs 0 0 Q (F0 m pc ls [.int z.1])) {f : xF} {g : xG} {t0 : Int32} {H : Heap} {locs : List Loc} {ls : Array Slot} (w : wx_w γ A s H locs (cw γ o ad f g (hr γ o ad η ++ τ))) (hl : lv_has ls 6 []) (hF : pX0_told_102 η θ f g t0 = some z) : W p l e rmX0_told s m as below meth c H locs 0 0 Q (F0 m 102 ls [.int t0]) := by
  have hx := C.1
  have hb := C.2.1
  unfold pX0_told_102 at hF
  have hF := Option.some.inj hF
  subst hF
  exact E _ _ _ _ w dX0_told_102

theorem bX0_told_0 {p : Program} {l : Launch} {e : Env} {s : State} {m : MethodId} {as : Array Value} {below : List Frame} {meth : Method} {c : Code} {A : Nat → Prop} {Q : State → Prop} {γ : wx_G} {o : Nat} {ad : Nat → Nat} {η : cx_H} {θ : cx_T} {τ : va_W} {z : Int32 × xF × xG} (G : cx_ok γ) (T : tx_ok γ o ad θ (hr γ o ad η ++ τ)) (C : CallFix p m c cX0_told 6 s as lw_all RX0) (K : wx_C γ A s) (E : ∀ (H : Heap) (locs : List Loc) (ls : Array Slot) (pc : Nat), wx_w γ A s H locs (cw γ o ad z.2.1 z.2.2 (hr γ o ad η ++ τ)) → decode cX0_told pc = .ok (.ireturn, 1) → W p l e rmX0_told s m as below meth c H locs 0 0 Q (F0 m pc ls [.int z.1])) {f : xF} {g : xG} {v1 : Int32} {v2 : Int32} {v3 : Int32} {v4 : Int32} {H : Heap} {locs : List Loc} {ls : Array Slot} (w : wx_w γ A s H locs (cw γ o ad f g (hr γ o ad η ++ τ))) (hl : lv_has ls 6 [(0, .ref o), (1, .int v1), (2, .int v2), (3, .int v3), (4, .int v4)]) (hF : pX0_told_0 η θ f g v1 v2 v3 v4 = some z) : W p l e rmX0_told s m as below meth c H locs 0 0 Q (F0 m 0 ls []) := by
  have hx := C.1
  have hb := C.2.1
  unfold pX0_told_0 at hF
  refine lv_aload_n hx hb dX0_told_0 rfl (lv_at hl 0 rfl) ?_
  refine lv_iload_n hx hb dX0_told_1 rfl (lv_at hl 1 rfl) ?_
  obtain ⟨r2, hr, hF⟩ := obd hF
  refine rX0_isHow G C K w hr hl.1 ⟨Nat.le_of_ble_eq_true rfl, Nat.le_of_ble_eq_true rfl⟩ (Nat.le_of_ble_eq_true rfl) dX0_told_2 (fun H locs w => ?_)
  refine lv_if_eq (tgt := 37) hx hb dX0_told_5 (by decide) (fun c => ?_) (fun c => ?_)
  · have hF := (if_pos c).symm.trans hF
    exact bX0_told_37 G T C K E w (lv_sub hl [] rfl) hF
  · have hF := (if_neg c).symm.trans hF
    refine lv_aload_n hx hb dX0_told_8 rfl (lv_at hl 0 rfl) ?_
    refine lv_iload_n hx hb dX0_told_9 rfl (lv_at hl 2 rfl) ?_
    obtain ⟨r10, hr, hF⟩ := obd hF
    refine rX0_isStone G C K w hr hl.1 ⟨Nat.le_of_ble_eq_true rfl, Nat.le_of_ble_eq_true rfl⟩ (Nat.le_of_ble_eq_true rfl) dX0_told_10 (fun H locs w => ?_)
    refine lv_if_eq (tgt := 37) hx hb dX0_told_13 (by decide) (fun c => ?_) (fun c => ?_)
    · have hF := (if_pos c).symm.trans hF
      exact bX0_told_37 G T C K E w (lv_sub hl [] rfl) hF
    · have hF := (if_neg c).symm.trans hF
      refine lv_aload_n hx hb dX0_told_16 rfl (lv_at hl 0 rfl) ?_
      refine lv_iload_n hx hb dX0_told_17 rfl (lv_at hl 3 rfl) ?_
      obtain ⟨r18, hr, hF⟩ := obd hF
      refine rX0_isNight G C K w hr hl.1 ⟨Nat.le_of_ble_eq_true rfl, Nat.le_of_ble_eq_true rfl⟩ (Nat.le_of_ble_eq_true rfl) dX0_told_18 (fun H locs w => ?_)
      refine lv_if_eq (tgt := 37) hx hb dX0_told_21 (by decide) (fun c => ?_) (fun c => ?_)
      · have hF := (if_pos c).symm.trans hF
        exact bX0_told_37 G T C K E w (lv_sub hl [] rfl) hF
      · have hF := (if_neg c).symm.trans hF
        refine lv_iload hx hb dX0_told_24 (lv_at hl 4 rfl) ?_
        refine lv_i2l hx hb dX0_told_26 rfl ?_
        refine lv_lconst (v := (0 : Int64)) hx hb dX0_told_27 (by decide) ?_
        refine lv_ldc2 (v := (2 : Int64)) hx hb C.2.2.2.1 (C.2.2.2.2 _ q274) dX0_told_28 ?_
        obtain ⟨r31, hr, hF⟩ := obd hF
        refine rX0_in G C K w hr hl.1 ⟨Nat.le_of_ble_eq_true rfl, Nat.le_of_ble_eq_true rfl⟩ (Nat.le_of_ble_eq_true rfl) dX0_told_31 (fun H locs w => ?_)
        refine lv_if_ne (tgt := 40) hx hb dX0_told_34 (by decide) (fun c => ?_) (fun c => ?_)
        · have hF := (if_neg c).symm.trans hF
          refine lv_aload_n hx hb dX0_told_40 rfl (lv_at hl 0 rfl) ?_
          refine cget_8 C K w dX0_told_41 ?_
          refine lv_iload_n hx hb dX0_told_44 rfl (lv_at hl 1 rfl) ?_
          obtain ⟨hi, hF⟩ := gin_if hF
          obtain ⟨hg, hF⟩ := gk_if hF
          refine c_how C K w hi hg dX0_told_45 ?_
          refine lv_astore (lv' := [(5, .ref (had η v1)), (0, .ref o), (1, .int v1), (2, .int v2), (3, .int v3), (4, .int v4)]) hx hb dX0_told_46 hl (by decide) rfl (fun ls hl => ?_)
          refine lv_iload hx hb dX0_told_48 (lv_at hl 5 rfl) ?_
          refine lv_if_ne (tgt := 70) hx hb dX0_told_50 (by decide) (fun c => ?_) (fun c => ?_)
          · have hF := (if_neg c).symm.trans hF
            refine lv_iload hx hb dX0_told_70 (lv_at hl 5 rfl) ?_
            refine lv_iconst (v := (1 : Int32)) hx hb dX0_told_72 (by decide) ?_
            refine lv_icmp_ne (tgt := 90) hx hb dX0_told_73 (by decide) (fun c => ?_) (fun c => ?_)
            · have hF := (if_neg c).symm.trans hF
              refine lv_aload hx hb dX0_told_90 (lv_at hl 0 rfl) ?_
              refine lv_aload_n hx hb dX0_told_92 rfl (lv_at hl 1 rfl) ?_
              refine cget_0 C K w dX0_told_93 ?_
              refine lv_iload_n hx hb dX0_told_96 rfl (lv_at hl 3 rfl) ?_
              obtain ⟨hi, hF⟩ := gin_if hF
              refine cald_0 C K w hi dX0_told_97 ?_
              refine lv_iload_n hx hb dX0_told_98 rfl (lv_at hl 4 rfl) ?_
              obtain ⟨r99, hr, hF⟩ := obd hF
              refine vX0_goesBy G T C K w hr hl.1 ⟨Nat.le_of_ble_eq_true rfl, Nat.le_of_ble_eq_true rfl⟩ (Nat.le_of_ble_eq_true rfl) dX0_told_99 (fun H locs w => ?_)
              exact bX0_told_102 G T C K E w (lv_sub hl [] rfl) hF
            · have hF := (if_pos c).symm.trans hF
              refine lv_aload hx hb dX0_told_76 (lv_at hl 0 rfl) ?_
              refine lv_aload_n hx hb dX0_told_78 rfl (lv_at hl 1 rfl) ?_
              refine cget_0 C K w dX0_told_79 ?_
              refine lv_iload_n hx hb dX0_told_82 rfl (lv_at hl 3 rfl) ?_
              obtain ⟨hi, hF⟩ := gin_if hF
              refine cald_0 C K w hi dX0_told_83 ?_
              obtain ⟨r84, hr, hF⟩ := obd hF
              refine vX0_drag G C K w hr hl.1 ⟨Nat.le_of_ble_eq_true rfl, Nat.le_of_ble_eq_true rfl⟩ (Nat.le_of_ble_eq_true rfl) dX0_told_84 (fun H locs w => ?_)
              refine lv_goto (tgt := 102) hx hb dX0_told_87 (by decide) ?_
              exact bX0_told_102 G T C K E w (lv_sub hl [] rfl) hF
          · have hF := (if_pos c).symm.trans hF
            refine lv_aload hx hb dX0_told_53 (lv_at hl 0 rfl) ?_
            refine lv_iload_n hx hb dX0_told_55 rfl (lv_at hl 4 rfl) ?_
            obtain ⟨r56, hr, hF⟩ := obd hF
            refine vX0_may G C K w hr hl.1 ⟨Nat.le_of_ble_eq_true rfl, Nat.le_of_ble_eq_true rfl⟩ (Nat.le_of_ble_eq_true rfl) dX0_told_56 (fun H locs w => ?_)
            refine lv_if_eq (tgt := 66) hx hb dX0_told_59 (by decide) (fun c => ?_) (fun c => ?_)
            · have hF := (if_pos c).symm.trans hF
              refine lv_iconst (v := (0 : Int32)) hx hb dX0_told_66 (by decide) ?_
              refine lv_goto (tgt := 102) hx hb dX0_told_67 (by decide) ?_
              exact bX0_told_102 G T C K E w (lv_sub hl [] rfl) hF
            · have hF := (if_neg c).symm.trans hF
              refine lv_iconst (v := (1 : Int32)) hx hb dX0_told_62 (by decide) ?_
              refine lv_goto (tgt := 102) hx hb dX0_told_63 (by decide) ?_
              exact bX0_told_102 G T C K E w (lv_sub hl [] rfl) hF
        · have hF := (if_pos c).symm.trans hF
          exact bX0_told_37 G T C K E w (lv_sub hl [] rfl) hF

theorem mX0_told {l : Launch} {γ : wx_G} {o : Nat} {ad : Nat → Nat} {η : cx_H} {θ : cx_T} {τ : va_W} {f : xF} {g : xG} {v1 : Int32} {v2 : Int32} {v3 : Int32} {v4 : Int32} {z : Int32 × xF × xG} (G : cx_ok γ) (T : tx_ok γ o ad θ (hr γ o ad η ++ τ)) (hF : pX0_told η θ f g v1 v2 v3 v4 = some z) : wx_M γ l yX0_told (ws_ yX0_told cX0_told 6 (some .int)) rmX0_told [.ref o, .int v1, .int v2, .int v3, .int v4] (cw γ o ad f g (hr γ o ad η ++ τ)) (fun v ws => v = some (.int z.1) ∧ ws = (cw γ o ad z.2.1 z.2.2 (hr γ o ad η ++ τ))) 0 0 := by
  refine wx_M.of (by decide) (Nat.le_of_ble_eq_true rfl) ?_
  intro p e s m as below meth c A ls C K w hr hlocks _ hl
  exact bX0_told_0 G T C K (fun H locs ls pc w d => wx_iret C hr hlocks w ⟨rfl, rfl⟩ d) w hl hF

/-! WalkingStones.goes(LWalkingStones$How;II)V -/
abbrev rmX0_goes : Room := { frames := 204, cells := 0, slots := 0, locals := 8123 }
def pX0_goes_152 (η : cx_H) (θ : cx_T) (f : xF) (g : xG) : Option (xF × xG) := some (f, g)

def pX0_goes_131 (η : cx_H) (θ : cx_T) (f : xF) (g : xG) (v2 : Int32) (v5 : Int32) (v6 : Int32) (t1 : Int32) (t2 : Int32) (t3 : Int32) : Option (xF × xG) := if gin t1 10 = true then if gin v2 10 = true then if gin v2 10 = true then if gin v2 10 = true then pX0_goes_152 η θ f (va_up (va_up (va_up g 29 (upd (g 29) t1.toNatClampNeg (t2 + t3))) 30 (upd ((va_up g 29 (upd (g 29) t1.toNatClampNeg (t2 + t3))) 30) v2.toNatClampNeg v5)) 28 (upd ((va_up (va_up g 29 (upd (g 29) t1.toNatClampNeg (t2 + t3))) 30 (upd ((va_up g 29 (upd (g 29) t1.toNatClampNeg (t2 + t3))) 30) v2.toNatClampNeg v5)) 28) v2.toNatClampNeg (((va_up (va_up g 29 (upd (g 29) t1.toNatClampNeg (t2 + t3))) 30 (upd ((va_up g 29 (upd (g 29) t1.toNatClampNeg (t2 + t3))) 30) v2.toNatClampNeg v5)) 28 v2.toNatClampNeg) + v6))) else none else none else none else none

def pX0_goes_130 (η : cx_H) (θ : cx_T) (f : xF) (g : xG) (v2 : Int32) (v5 : Int32) (v6 : Int32) (t1 : Int32) (t2 : Int32) : Option (xF × xG) := pX0_goes_131 η θ f g v2 v5 v6 t1 t2 (0 : Int32)

def pX0_goes_93 (η : cx_H) (θ : cx_T) (f : xF) (g : xG) (v2 : Int32) (v5 : Int32) (v6 : Int32) : Option (xF × xG) := if v6 ≤ 0 then pX0_goes_152 η θ f g else (if gin v2 10 = true then if gin v2 10 = true then if (g 30 v2.toNatClampNeg) = (-1 : Int32) then pX0_goes_130 η θ f g v2 v5 v6 v2 (g 29 v2.toNatClampNeg) else (if gin v2 10 = true then if (g 30 v2.toNatClampNeg) = v5 then pX0_goes_130 η θ f g v2 v5 v6 v2 (g 29 v2.toNatClampNeg) else pX0_goes_131 η θ f g v2 v5 v6 v2 (g 29 v2.toNatClampNeg) (1 : Int32) else none) else none else none)

def pX0_goes_88 (η : cx_H) (θ : cx_T) (k48 : xF → xG → Int32 → Int32 → Int32 → Int32 → Int32 → Option (xF × xG)) (f : xF) (g : xG) (v2 : Int32) (v4 : Int32) (v5 : Int32) (v6 : Int32) (t0 : Int32) : Option (xF × xG) := k48 f g v2 v4 v5 v6 t0

def pX0_goes_48 (η : cx_H) (θ : cx_T) : Nat → xF → xG → Int32 → Int32 → Int32 → Int32 → Int32 → Option (xF × xG)
  | 0, _, _, _, _, _, _, _ => none
  | n + 1, f, g, v2, v4, v5, v6, v7 => if v7 = (-1 : Int32) then pX0_goes_93 η θ f g v2 v5 v6 else (if gin v2 10 = true then if v4 ≤ (v6 + 1) then pX0_goes_88 η θ (pX0_goes_48 η θ n) f (va_up g 1 (upd (g 1) v2.toNatClampNeg v7)) v2 v4 v5 (v6 + 1) (-1 : Int32) else (if gin v2 10 = true then (pX0_nextAt f (va_up g 1 (upd (g 1) v2.toNatClampNeg v7)) ((va_up g 1 (upd (g 1) v2.toNatClampNeg v7)) 1 v2.toNatClampNeg) v5).bind (fun r81 => pX0_goes_88 η θ (pX0_goes_48 η θ n) f (va_up g 1 (upd (g 1) v2.toNatClampNeg v7)) v2 v4 v5 (v6 + 1) r81) else none) else none)

def pX0_goes_46 (η : cx_H) (θ : cx_T) (f : xF) (g : xG) (v2 : Int32) (v4 : Int32) (v5 : Int32) (v6 : Int32) (t0 : Int32) : Option (xF × xG) := pX0_goes_48 η θ 5000 f g v2 v4 v5 v6 t0

def pX0_goes_0 (η : cx_H) (θ : cx_T) (f : xF) (g : xG) (v1 : Int32) (v2 : Int32) (v3 : Int32) : Option (xF × xG) := if gin v2 10 = true then (pV_goesBy η θ f g v1 (g 0 v2.toNatClampNeg) v3).bind (fun r8 => (pV_way η r8.2.1 r8.2.2 v1 v3).bind (fun r15 => if r8.1 ≤ (0 : Int32) then pX0_goes_46 η θ r8.2.1 r8.2.2 v2 r8.1 r15 (0 : Int32) (-1 : Int32) else (if gin v2 10 = true then (pX0_nextAt r8.2.1 r8.2.2 (r8.2.2 1 v2.toNatClampNeg) r15).bind (fun r39 => pX0_goes_46 η θ r8.2.1 r8.2.2 v2 r8.1 r15 (0 : Int32) r39) else none))) else none

abbrev pX0_goes (η : cx_H) (θ : cx_T) (f : xF) (g : xG) (v1 : Int32) (v2 : Int32) (v3 : Int32) : Option (xF × xG) := pX0_goes_0 η θ f g v1 v2 v3
theorem bX0_goes_152 {p : Program} {l : Launch} {e : Env} {s : State} {m : MethodId} {as : Array Value} {below : List Frame} {meth : Method} {c : Code} {A : Nat → Prop} {Q : State → Prop} {γ : wx_G} {o : Nat} {ad : Nat → Nat} {η : cx_H} {θ : cx_T} {τ : va_W} {z : xF × xG} (G : cx_ok γ) (T : tx_ok γ o ad θ (hr γ o ad η ++ τ)) (C : CallFix p m c cX0_goes 8 s as lw_all RX0) (K : wx_C γ A s) (E : ∀ (H : Heap) (locs : List Loc) (ls : Array Slot) (pc : Nat), wx_w γ A s H locs (cw γ o ad z.1 z.2 (hr γ o ad η ++ τ)) → decode cX0_goes pc = .ok (.return_, 1) → W p l e rmX0_goes s m as below meth c H locs 0 0 Q (F0 m pc ls [])) {f : xF} {g : xG} {H : Heap} {locs : List Loc} {ls : Array Slot} (w : wx_w γ A s H locs (cw γ o ad f g (hr γ o ad η ++ τ))) (hl : lv_has ls 8 []) (hF : pX0_goes_152 η θ f g = some z) : W p l e rmX0_goes s m as below meth c H locs 0 0 Q (F0 m 152 ls []) := by
  have hx := C.1
  have hb := C.2.1
  unfold pX0_goes_152 at hF
  have hF := Option.some.inj hF
  subst hF
  exact E _ _ _ _ w dX0_goes_152

theorem bX0_goes_131 {p : Program} {l : Launch} {e : Env} {s : State} {m : MethodId} {as : Array Value} {below : List Frame} {meth : Method} {c : Code} {A : Nat → Prop} {Q : State → Prop} {γ : wx_G} {o : Nat} {ad : Nat → Nat} {η : cx_H} {θ : cx_T} {τ : va_W} {z : xF × xG} (G : cx_ok γ) (T : tx_ok γ o ad θ (hr γ o ad η ++ τ)) (C : CallFix p m c cX0_goes 8 s as lw_all RX0) (K : wx_C γ A s) (E : ∀ (H : Heap) (locs : List Loc) (ls : Array Slot) (pc : Nat), wx_w γ A s H locs (cw γ o ad z.1 z.2 (hr γ o ad η ++ τ)) → decode cX0_goes pc = .ok (.return_, 1) → W p l e rmX0_goes s m as below meth c H locs 0 0 Q (F0 m pc ls [])) {f : xF} {g : xG} {v2 : Int32} {v5 : Int32} {v6 : Int32} {t1 : Int32} {t2 : Int32} {t3 : Int32} {H : Heap} {locs : List Loc} {ls : Array Slot} (w : wx_w γ A s H locs (cw γ o ad f g (hr γ o ad η ++ τ))) (hl : lv_has ls 8 [(0, .ref o), (2, .int v2), (5, .int v5), (6, .int v6)]) (hF : pX0_goes_131 η θ f g v2 v5 v6 t1 t2 t3 = some z) : W p l e rmX0_goes s m as below meth c H locs 0 0 Q (F0 m 131 ls [.int t3, .int t2, .int t1, .ref (ad 29)]) := by
  have hx := C.1
  have hb := C.2.1
  unfold pX0_goes_131 at hF
  refine lv_iadd hx hb dX0_goes_131 ?_
  obtain ⟨hi, hF⟩ := gin_if hF
  refine cast_29 C K w hi dX0_goes_132 (fun H locs w => ?_)
  refine lv_aload_n hx hb dX0_goes_133 rfl (lv_at hl 0 rfl) ?_
  refine cget_30 C K w dX0_goes_134 ?_
  refine lv_iload_n hx hb dX0_goes_137 rfl (lv_at hl 1 rfl) ?_
  refine lv_iload hx hb dX0_goes_138 (lv_at hl 2 rfl) ?_
  obtain ⟨hi, hF⟩ := gin_if hF
  refine cast_30 C K w hi dX0_goes_140 (fun H locs w => ?_)
  refine lv_aload_n hx hb dX0_goes_141 rfl (lv_at hl 0 rfl) ?_
  refine cget_28 C K w dX0_goes_142 ?_
  refine lv_iload_n hx hb dX0_goes_145 rfl (lv_at hl 1 rfl) ?_
  refine lv_dup2_11 hx hb dX0_goes_146 rfl rfl ?_
  obtain ⟨hi, hF⟩ := gin_if hF
  refine cald_28 C K w hi dX0_goes_147 ?_
  refine lv_iload hx hb dX0_goes_148 (lv_at hl 3 rfl) ?_
  refine lv_iadd hx hb dX0_goes_150 ?_
  obtain ⟨hi, hF⟩ := gin_if hF
  refine cast_28 C K w hi dX0_goes_151 (fun H locs w => ?_)
  exact bX0_goes_152 G T C K E w (lv_sub hl [] rfl) hF

theorem bX0_goes_130 {p : Program} {l : Launch} {e : Env} {s : State} {m : MethodId} {as : Array Value} {below : List Frame} {meth : Method} {c : Code} {A : Nat → Prop} {Q : State → Prop} {γ : wx_G} {o : Nat} {ad : Nat → Nat} {η : cx_H} {θ : cx_T} {τ : va_W} {z : xF × xG} (G : cx_ok γ) (T : tx_ok γ o ad θ (hr γ o ad η ++ τ)) (C : CallFix p m c cX0_goes 8 s as lw_all RX0) (K : wx_C γ A s) (E : ∀ (H : Heap) (locs : List Loc) (ls : Array Slot) (pc : Nat), wx_w γ A s H locs (cw γ o ad z.1 z.2 (hr γ o ad η ++ τ)) → decode cX0_goes pc = .ok (.return_, 1) → W p l e rmX0_goes s m as below meth c H locs 0 0 Q (F0 m pc ls [])) {f : xF} {g : xG} {v2 : Int32} {v5 : Int32} {v6 : Int32} {t1 : Int32} {t2 : Int32} {H : Heap} {locs : List Loc} {ls : Array Slot} (w : wx_w γ A s H locs (cw γ o ad f g (hr γ o ad η ++ τ))) (hl : lv_has ls 8 [(0, .ref o), (2, .int v2), (5, .int v5), (6, .int v6)]) (hF : pX0_goes_130 η θ f g v2 v5 v6 t1 t2 = some z) : W p l e rmX0_goes s m as below meth c H locs 0 0 Q (F0 m 130 ls [.int t2, .int t1, .ref (ad 29)]) := by
  have hx := C.1
  have hb := C.2.1
  unfold pX0_goes_130 at hF
  refine lv_iconst (v := (0 : Int32)) hx hb dX0_goes_130 (by decide) ?_
  exact bX0_goes_131 G T C K E w hl hF

theorem bX0_goes_93 {p : Program} {l : Launch} {e : Env} {s : State} {m : MethodId} {as : Array Value} {below : List Frame} {meth : Method} {c : Code} {A : Nat → Prop} {Q : State → Prop} {γ : wx_G} {o : Nat} {ad : Nat → Nat} {η : cx_H} {θ : cx_T} {τ : va_W} {z : xF × xG} (G : cx_ok γ) (T : tx_ok γ o ad θ (hr γ o ad η ++ τ)) (C : CallFix p m c cX0_goes 8 s as lw_all RX0) (K : wx_C γ A s) (E : ∀ (H : Heap) (locs : List Loc) (ls : Array Slot) (pc : Nat), wx_w γ A s H locs (cw γ o ad z.1 z.2 (hr γ o ad η ++ τ)) → decode cX0_goes pc = .ok (.return_, 1) → W p l e rmX0_goes s m as below meth c H locs 0 0 Q (F0 m pc ls [])) {f : xF} {g : xG} {v2 : Int32} {v5 : Int32} {v6 : Int32} {H : Heap} {locs : List Loc} {ls : Array Slot} (w : wx_w γ A s H locs (cw γ o ad f g (hr γ o ad η ++ τ))) (hl : lv_has ls 8 [(0, .ref o), (2, .int v2), (5, .int v5), (6, .int v6)]) (hF : pX0_goes_93 η θ f g v2 v5 v6 = some z) : W p l e rmX0_goes s m as below meth c H locs 0 0 Q (F0 m 93 ls []) := by
  have hx := C.1
  have hb := C.2.1
  unfold pX0_goes_93 at hF
  refine lv_iload hx hb dX0_goes_93 (lv_at hl 3 rfl) ?_
  refine lv_if_le (tgt := 152) hx hb dX0_goes_95 (by decide) (fun c => ?_) (fun c => ?_)
  · have hF := (if_pos c).symm.trans hF
    exact bX0_goes_152 G T C K E w (lv_sub hl [] rfl) hF
  · have hF := (if_neg c).symm.trans hF
    refine lv_aload_n hx hb dX0_goes_98 rfl (lv_at hl 0 rfl) ?_
    refine cget_29 C K w dX0_goes_99 ?_
    refine lv_iload_n hx hb dX0_goes_102 rfl (lv_at hl 1 rfl) ?_
    refine lv_dup2_11 hx hb dX0_goes_103 rfl rfl ?_
    obtain ⟨hi, hF⟩ := gin_if hF
    refine cald_29 C K w hi dX0_goes_104 ?_
    refine lv_aload_n hx hb dX0_goes_105 rfl (lv_at hl 0 rfl) ?_
    refine cget_30 C K w dX0_goes_106 ?_
    refine lv_iload_n hx hb dX0_goes_109 rfl (lv_at hl 1 rfl) ?_
    obtain ⟨hi, hF⟩ := gin_if hF
    refine cald_30 C K w hi dX0_goes_110 ?_
    refine lv_iconst (v := (-1 : Int32)) hx hb dX0_goes_111 (by decide) ?_
    refine lv_icmp_eq (tgt := 130) hx hb dX0_goes_112 (by decide) (fun c => ?_) (fun c => ?_)
    · have hF := (if_pos c).symm.trans hF
      exact bX0_goes_130 G T C K E w hl hF
    · have hF := (if_neg c).symm.trans hF
      refine lv_aload_n hx hb dX0_goes_115 rfl (lv_at hl 0 rfl) ?_
      refine cget_30 C K w dX0_goes_116 ?_
      refine lv_iload_n hx hb dX0_goes_119 rfl (lv_at hl 1 rfl) ?_
      obtain ⟨hi, hF⟩ := gin_if hF
      refine cald_30 C K w hi dX0_goes_120 ?_
      refine lv_iload hx hb dX0_goes_121 (lv_at hl 2 rfl) ?_
      refine lv_icmp_eq (tgt := 130) hx hb dX0_goes_123 (by decide) (fun c => ?_) (fun c => ?_)
      · have hF := (if_pos c).symm.trans hF
        exact bX0_goes_130 G T C K E w hl hF
      · have hF := (if_neg c).symm.trans hF
        refine lv_iconst (v := (1 : Int32)) hx hb dX0_goes_126 (by decide) ?_
        refine lv_goto (tgt := 131) hx hb dX0_goes_127 (by decide) ?_
        exact bX0_goes_131 G T C K E w hl hF

theorem bX0_goes_88 {p : Program} {l : Launch} {e : Env} {s : State} {m : MethodId} {as : Array Value} {below : List Frame} {meth : Method} {c : Code} {A : Nat → Prop} {Q : State → Prop} {γ : wx_G} {o : Nat} {ad : Nat → Nat} {η : cx_H} {θ : cx_T} {τ : va_W} {z : xF × xG} (G : cx_ok γ) (T : tx_ok γ o ad θ (hr γ o ad η ++ τ)) (C : CallFix p m c cX0_goes 8 s as lw_all RX0) (K : wx_C γ A s) (E : ∀ (H : Heap) (locs : List Loc) (ls : Array Slot) (pc : Nat), wx_w γ A s H locs (cw γ o ad z.1 z.2 (hr γ o ad η ++ τ)) → decode cX0_goes pc = .ok (.return_, 1) → W p l e rmX0_goes s m as below meth c H locs 0 0 Q (F0 m pc ls [])) {k48 : xF → xG → Int32 → Int32 → Int32 → Int32 → Int32 → Option (xF × xG)} (hk48 : ∀ (f : xF) (g : xG) (v2 : Int32) (v4 : Int32) (v5 : Int32) (v6 : Int32) (v7 : Int32) (H : Heap) (locs : List Loc) (ls : Array Slot), k48 f g v2 v4 v5 v6 v7 = some z → wx_w γ A s H locs (cw γ o ad f g (hr γ o ad η ++ τ)) → lv_has ls 8 [(0, .ref o), (2, .int v2), (4, .int v4), (5, .int v5), (6, .int v6), (7, .int v7)] → W p l e rmX0_goes s m as below meth c H locs 0 0 Q (F0 m 48 ls [])) {f : xF} {g : xG} {v2 : Int32} {v4 : Int32} {v5 : Int32} {v6 : Int32} {t0 : Int32} {H : Heap} {locs : List Loc} {ls : Array Slot} (w : wx_w γ A s H locs (cw γ o ad f g (hr γ o ad η ++ τ))) (hl : lv_has ls 8 [(0, .ref o), (2, .int v2), (4, .int v4), (5, .int v5), (6, .int v6)]) (hF : pX0_goes_88 η θ k48 f g v2 v4 v5 v6 t0 = some z) : W p l e rmX0_goes s m as below meth c H locs 0 0 Q (F0 m 88 ls [.int t0]) := by
  have hx := C.1
  have hb := C.2.1
  unfold pX0_goes_88 at hF
  refine lv_istore (lv' := [(7, .int t0), (0, .ref o), (2, .int v2), (4, .int v4), (5, .int v5), (6, .int v6)]) hx hb dX0_goes_88 hl (by decide) rfl (fun ls hl => ?_)
  refine lv_goto (tgt := 48) hx hb dX0_goes_90 (by decide) ?_
  exact hk48 _ _ _ _ _ _ _ _ _ _ hF w (lv_sub hl [1, 2, 3, 4, 5, 0] rfl)

theorem bX0_goes_48 {p : Program} {l : Launch} {e : Env} {s : State} {m : MethodId} {as : Array Value} {below : List Frame} {meth : Method} {c : Code} {A : Nat → Prop} {Q : State → Prop} {γ : wx_G} {o : Nat} {ad : Nat → Nat} {η : cx_H} {θ : cx_T} {τ : va_W} {z : xF × xG} (G : cx_ok γ) (T : tx_ok γ o ad θ (hr γ o ad η ++ τ)) (C : CallFix p m c cX0_goes 8 s as lw_all RX0) (K : wx_C γ A s) (E : ∀ (H : Heap) (locs : List Loc) (ls : Array Slot) (pc : Nat), wx_w γ A s H locs (cw γ o ad z.1 z.2 (hr γ o ad η ++ τ)) → decode cX0_goes pc = .ok (.return_, 1) → W p l e rmX0_goes s m as below meth c H locs 0 0 Q (F0 m pc ls [])) : ∀ (n : Nat) (f : xF) (g : xG) (v2 : Int32) (v4 : Int32) (v5 : Int32) (v6 : Int32) (v7 : Int32) (H : Heap) (locs : List Loc) (ls : Array Slot), pX0_goes_48 η θ n f g v2 v4 v5 v6 v7 = some z → wx_w γ A s H locs (cw γ o ad f g (hr γ o ad η ++ τ)) → lv_has ls 8 [(0, .ref o), (2, .int v2), (4, .int v4), (5, .int v5), (6, .int v6), (7, .int v7)] → W p l e rmX0_goes s m as below meth c H locs 0 0 Q (F0 m 48 ls []) := by
  have hx := C.1
  have hb := C.2.1
  intro n
  induction n with
  | zero =>
    intro f g v2 v4 v5 v6 v7 H locs ls hF w hl
    have hF : (none : Option (xF × xG)) = some z := hF
    cases hF
  | succ n ih =>
    intro f g v2 v4 v5 v6 v7 H locs ls hF w hl
    rw [pX0_goes_48] at hF
    refine lv_iload hx hb dX0_goes_48 (lv_at hl 5 rfl) ?_
    refine lv_iconst (v := (-1 : Int32)) hx hb dX0_goes_50 (by decide) ?_
    refine lv_icmp_eq (tgt := 93) hx hb dX0_goes_51 (by decide) (fun c => ?_) (fun c => ?_)
    · have hF := (if_pos c).symm.trans hF
      exact bX0_goes_93 G T C K E w (lv_sub hl [0, 1, 3, 4] rfl) hF
    · have hF := (if_neg c).symm.trans hF
      refine lv_aload_n hx hb dX0_goes_54 rfl (lv_at hl 0 rfl) ?_
      refine cget_1 C K w dX0_goes_55 ?_
      refine lv_iload_n hx hb dX0_goes_58 rfl (lv_at hl 1 rfl) ?_
      refine lv_iload hx hb dX0_goes_59 (lv_at hl 5 rfl) ?_
      obtain ⟨hi, hF⟩ := gin_if hF
      refine cast_1 C K w hi dX0_goes_61 (fun H locs w => ?_)
      refine lv_iinc (v := v6 + 1) (lv' := [(6, .int (v6 + 1)), (0, .ref o), (2, .int v2), (4, .int v4), (5, .int v5), (7, .int v7)]) hx hb dX0_goes_62 hl (k := 4) rfl rfl (by decide) rfl (fun ls hl => ?_)
      refine lv_iload hx hb dX0_goes_65 (lv_at hl 0 rfl) ?_
      refine lv_iload hx hb dX0_goes_67 (lv_at hl 3 rfl) ?_
      refine lv_icmp_ge (tgt := 87) hx hb dX0_goes_69 (by decide) (fun c => ?_) (fun c => ?_)
      · have hF := (if_pos c).symm.trans hF
        refine lv_iconst (v := (-1 : Int32)) hx hb dX0_goes_87 (by decide) ?_
        exact bX0_goes_88 G T C K E ih w (lv_sub hl [1, 2, 3, 4, 0] rfl) hF
      · have hF := (if_neg c).symm.trans hF
        refine lv_aload_n hx hb dX0_goes_72 rfl (lv_at hl 1 rfl) ?_
        refine lv_aload_n hx hb dX0_goes_73 rfl (lv_at hl 1 rfl) ?_
        refine cget_1 C K w dX0_goes_74 ?_
        refine lv_iload_n hx hb dX0_goes_77 rfl (lv_at hl 2 rfl) ?_
        obtain ⟨hi, hF⟩ := gin_if hF
        refine cald_1 C K w hi dX0_goes_78 ?_
        refine lv_iload hx hb dX0_goes_79 (lv_at hl 4 rfl) ?_
        obtain ⟨r81, hr, hF⟩ := obd hF
        refine rX0_nextAt G C K w hr hl.1 ⟨Nat.le_of_ble_eq_true rfl, Nat.le_of_ble_eq_true rfl⟩ (Nat.le_of_ble_eq_true rfl) dX0_goes_81 (fun H locs w => ?_)
        refine lv_goto (tgt := 88) hx hb dX0_goes_84 (by decide) ?_
        exact bX0_goes_88 G T C K E ih w (lv_sub hl [1, 2, 3, 4, 0] rfl) hF

theorem bX0_goes_46 {p : Program} {l : Launch} {e : Env} {s : State} {m : MethodId} {as : Array Value} {below : List Frame} {meth : Method} {c : Code} {A : Nat → Prop} {Q : State → Prop} {γ : wx_G} {o : Nat} {ad : Nat → Nat} {η : cx_H} {θ : cx_T} {τ : va_W} {z : xF × xG} (G : cx_ok γ) (T : tx_ok γ o ad θ (hr γ o ad η ++ τ)) (C : CallFix p m c cX0_goes 8 s as lw_all RX0) (K : wx_C γ A s) (E : ∀ (H : Heap) (locs : List Loc) (ls : Array Slot) (pc : Nat), wx_w γ A s H locs (cw γ o ad z.1 z.2 (hr γ o ad η ++ τ)) → decode cX0_goes pc = .ok (.return_, 1) → W p l e rmX0_goes s m as below meth c H locs 0 0 Q (F0 m pc ls [])) {f : xF} {g : xG} {v2 : Int32} {v4 : Int32} {v5 : Int32} {v6 : Int32} {t0 : Int32} {H : Heap} {locs : List Loc} {ls : Array Slot} (w : wx_w γ A s H locs (cw γ o ad f g (hr γ o ad η ++ τ))) (hl : lv_has ls 8 [(0, .ref o), (2, .int v2), (4, .int v4), (5, .int v5), (6, .int v6)]) (hF : pX0_goes_46 η θ f g v2 v4 v5 v6 t0 = some z) : W p l e rmX0_goes s m as below meth c H locs 0 0 Q (F0 m 46 ls [.int t0]) := by
  have hx := C.1
  have hb := C.2.1
  unfold pX0_goes_46 at hF
  refine lv_istore (lv' := [(7, .int t0), (0, .ref o), (2, .int v2), (4, .int v4), (5, .int v5), (6, .int v6)]) hx hb dX0_goes_46 hl (by decide) rfl (fun ls hl => ?_)
  exact bX0_goes_48 G T C K E 5000 _ _ _ _ _ _ _ _ _ _ hF w (lv_sub hl [1, 2, 3, 4, 5, 0] rfl)

theorem bX0_goes_0 {p : Program} {l : Launch} {e : Env} {s : State} {m : MethodId} {as : Array Value} {below : List Frame} {meth : Method} {c : Code} {A : Nat → Prop} {Q : State → Prop} {γ : wx_G} {o : Nat} {ad : Nat → Nat} {η : cx_H} {θ : cx_T} {τ : va_W} {z : xF × xG} (G : cx_ok γ) (T : tx_ok γ o ad θ (hr γ o ad η ++ τ)) (C : CallFix p m c cX0_goes 8 s as lw_all RX0) (K : wx_C γ A s) (E : ∀ (H : Heap) (locs : List Loc) (ls : Array Slot) (pc : Nat), wx_w γ A s H locs (cw γ o ad z.1 z.2 (hr γ o ad η ++ τ)) → decode cX0_goes pc = .ok (.return_, 1) → W p l e rmX0_goes s m as below meth c H locs 0 0 Q (F0 m pc ls [])) {f : xF} {g : xG} {v1 : Int32} {v2 : Int32} {v3 : Int32} {H : Heap} {locs : List Loc} {ls : Array Slot} (w : wx_w γ A s H locs (cw γ o ad f g (hr γ o ad η ++ τ))) (hl : lv_has ls 8 [(0, .ref o), (1, .ref (had η v1)), (2, .int v2), (3, .int v3)]) (hF : pX0_goes_0 η θ f g v1 v2 v3 = some z) : W p l e rmX0_goes s m as below meth c H locs 0 0 Q (F0 m 0 ls []) := by
  have hx := C.1
  have hb := C.2.1
  unfold pX0_goes_0 at hF
  refine lv_aload_n hx hb dX0_goes_0 rfl (lv_at hl 1 rfl) ?_
  refine lv_aload_n hx hb dX0_goes_1 rfl (lv_at hl 0 rfl) ?_
  refine cget_0 C K w dX0_goes_2 ?_
  refine lv_iload_n hx hb dX0_goes_5 rfl (lv_at hl 2 rfl) ?_
  obtain ⟨hi, hF⟩ := gin_if hF
  refine cald_0 C K w hi dX0_goes_6 ?_
  refine lv_iload_n hx hb dX0_goes_7 rfl (lv_at hl 3 rfl) ?_
  obtain ⟨r8, hr, hF⟩ := obd hF
  refine vX0_goesBy G T C K w hr hl.1 ⟨Nat.le_of_ble_eq_true rfl, Nat.le_of_ble_eq_true rfl⟩ (Nat.le_of_ble_eq_true rfl) dX0_goes_8 (fun H locs w => ?_)
  refine lv_istore (lv' := [(4, .int r8.1), (0, .ref o), (1, .ref (had η v1)), (2, .int v2), (3, .int v3)]) hx hb dX0_goes_11 hl (by decide) rfl (fun ls hl => ?_)
  refine lv_aload_n hx hb dX0_goes_13 rfl (lv_at hl 2 rfl) ?_
  refine lv_iload_n hx hb dX0_goes_14 rfl (lv_at hl 4 rfl) ?_
  obtain ⟨r15, hr, hF⟩ := obd hF
  refine vX0_way G C K w hr hl.1 ⟨Nat.le_of_ble_eq_true rfl, Nat.le_of_ble_eq_true rfl⟩ (Nat.le_of_ble_eq_true rfl) dX0_goes_15 (fun H locs w => ?_)
  refine lv_istore (lv' := [(5, .int r15), (4, .int r8.1), (0, .ref o), (1, .ref (had η v1)), (2, .int v2), (3, .int v3)]) hx hb dX0_goes_18 hl (by decide) rfl (fun ls hl => ?_)
  refine lv_iconst (v := (0 : Int32)) hx hb dX0_goes_20 (by decide) ?_
  refine lv_istore (lv' := [(6, .int (0 : Int32)), (5, .int r15), (4, .int r8.1), (0, .ref o), (1, .ref (had η v1)), (2, .int v2), (3, .int v3)]) hx hb dX0_goes_21 hl (by decide) rfl (fun ls hl => ?_)
  refine lv_iload hx hb dX0_goes_23 (lv_at hl 0 rfl) ?_
  refine lv_iload hx hb dX0_goes_25 (lv_at hl 2 rfl) ?_
  refine lv_icmp_ge (tgt := 45) hx hb dX0_goes_27 (by decide) (fun c => ?_) (fun c => ?_)
  · have hF := (if_pos c).symm.trans hF
    refine lv_iconst (v := (-1 : Int32)) hx hb dX0_goes_45 (by decide) ?_
    exact bX0_goes_46 G T C K E w (lv_sub hl [3, 5, 2, 1, 0] rfl) hF
  · have hF := (if_neg c).symm.trans hF
    refine lv_aload_n hx hb dX0_goes_30 rfl (lv_at hl 3 rfl) ?_
    refine lv_aload_n hx hb dX0_goes_31 rfl (lv_at hl 3 rfl) ?_
    refine cget_1 C K w dX0_goes_32 ?_
    refine lv_iload_n hx hb dX0_goes_35 rfl (lv_at hl 5 rfl) ?_
    obtain ⟨hi, hF⟩ := gin_if hF
    refine cald_1 C K w hi dX0_goes_36 ?_
    refine lv_iload hx hb dX0_goes_37 (lv_at hl 1 rfl) ?_
    obtain ⟨r39, hr, hF⟩ := obd hF
    refine rX0_nextAt G C K w hr hl.1 ⟨Nat.le_of_ble_eq_true rfl, Nat.le_of_ble_eq_true rfl⟩ (Nat.le_of_ble_eq_true rfl) dX0_goes_39 (fun H locs w => ?_)
    refine lv_goto (tgt := 46) hx hb dX0_goes_42 (by decide) ?_
    exact bX0_goes_46 G T C K E w (lv_sub hl [3, 5, 2, 1, 0] rfl) hF

theorem mX0_goes {l : Launch} {γ : wx_G} {o : Nat} {ad : Nat → Nat} {η : cx_H} {θ : cx_T} {τ : va_W} {f : xF} {g : xG} {v1 : Int32} {v2 : Int32} {v3 : Int32} {z : xF × xG} (G : cx_ok γ) (T : tx_ok γ o ad θ (hr γ o ad η ++ τ)) (hF : pX0_goes η θ f g v1 v2 v3 = some z) : wx_M γ l yX0_goes (ws_ yX0_goes cX0_goes 8 none) rmX0_goes [.ref o, .ref (had η v1), .int v2, .int v3] (cw γ o ad f g (hr γ o ad η ++ τ)) (fun v ws => v = none ∧ ws = (cw γ o ad z.1 z.2 (hr γ o ad η ++ τ))) 0 0 := by
  refine wx_M.of (by decide) (Nat.le_of_ble_eq_true rfl) ?_
  intro p e s m as below meth c A ls C K w hr hlocks _ hl
  exact bX0_goes_0 G T C K (fun H locs ls pc w d => wx_vret C hr hlocks w ⟨rfl, rfl⟩ d) w hl hF
theorem rX0_goes {p : Program} {l : Launch} {e : Env} {R : Room} {s : State} {m : MethodId} {as : Array Value} {below : List Frame} {meth : Method} {c : Code} {H : Heap} {locs : List Loc} {cells slots : Nat} {Q : State → Prop} {cc : ByteArray} {nL pc : Nat} {ls : Array Slot} {rest : List Value} {γ : wx_G} {A : Nat → Prop} {o : Nat} {ad : Nat → Nat} {η : cx_H} {θ : cx_T} {τ : va_W} {f : xF} {g : xG} {v1 : Int32} {v2 : Int32} {v3 : Int32} {z : xF × xG} (G : cx_ok γ) (T : tx_ok γ o ad θ (hr γ o ad η ++ τ)) (C : CallFix p m c cc nL s as lw_all RX0) (K : wx_C γ A s) (w : wx_w γ A s H locs (cw γ o ad f g (hr γ o ad η ++ τ))) (hF : pX0_goes η θ f g v1 v2 v3 = some z) (hls : ls.size = nL) (hR : rmX0_goes.frames + 1 ≤ R.frames ∧ 8 + (8 + 11) + rmX0_goes.locals ≤ R.locals) (hW : (rest.map fun v => v.category).sum ≤ 8) (d : decode cc pc = .ok (.invokevirtual 364, 3)) (kk : ∀ (H : Heap) (locs : List Loc), wx_w γ A s H locs (cw γ o ad z.1 z.2 (hr γ o ad η ++ τ)) → W p l e R s m as below meth c H locs cells slots Q (F0 m (pc + 3) ls rest)) (hf : cells ≤ R.cells ∧ slots ≤ R.slots := by exact ⟨Nat.le_of_ble_eq_true rfl, Nat.le_of_ble_eq_true rfl⟩) : W p l e R s m as below meth c H locs cells slots Q (F0 m pc ls (.int v3 :: .int v2 :: .ref (had η v1) :: .ref o :: rest)) :=
  wx_callV (n := 3) C K w (mX0_goes (l := l) G T hF) q945 q947 qs29 q106 q948 rfl rfl (by decide +kernel) (va_recv K.1.1 w.1 (ci := 1) (q0 := 0) rfl rfl) rfl rfl hR hls hW hf d (fun v ws H1 locs1 hp w => by obtain ⟨rfl, rfl⟩ := hp; exact kk H1 locs1 w)

/-! WalkingStones.runs(LWalkingStones$How;II)V -/
abbrev rmX0_runs : Room := { frames := 205, cells := 0, slots := 0, locals := 8150 }
def pX0_runs_78 (η : cx_H) (θ : cx_T) (k45 : xF → xG → Int32 → Int32 → Int32 → Option (xF × xG)) (f : xF) (g : xG) (v1 : Int32) (v3 : Int32) (v4 : Int32) : Option (xF × xG) := k45 f g v1 v3 (v4 + 1)

def pX0_runs_54 (η : cx_H) (θ : cx_T) (k45 : xF → xG → Int32 → Int32 → Int32 → Option (xF × xG)) : Nat → xF → xG → Int32 → Int32 → Int32 → Int32 → Option (xF × xG)
  | 0, _, _, _, _, _, _ => none
  | n + 1, f, g, v1, v3, v4, v5 => if (f 2) ≤ v5 then pX0_runs_78 η θ k45 f g v1 v3 v4 else (pX0_goes η θ f g v1 v5 v4).bind (fun r69 => pX0_runs_54 η θ k45 n r69.1 r69.2 v1 v3 v4 (v5 + 1))

def pX0_runs_45 (η : cx_H) (θ : cx_T) : Nat → xF → xG → Int32 → Int32 → Int32 → Option (xF × xG)
  | 0, _, _, _, _, _ => none
  | n + 1, f, g, v1, v3, v4 => if v3 < v4 then some (f, g) else pX0_runs_54 η θ (pX0_runs_45 η θ n) 5000 f g v1 v3 v4 (0 : Int32)

def pX0_runs_42 (η : cx_H) (θ : cx_T) (f : xF) (g : xG) (v1 : Int32) (v2 : Int32) (v3 : Int32) : Option (xF × xG) := pX0_runs_45 η θ 5000 f g v1 v3 v2

def pX0_runs_3 (η : cx_H) (θ : cx_T) : Nat → xF → xG → Int32 → Int32 → Int32 → Int32 → Option (xF × xG)
  | 0, _, _, _, _, _, _ => none
  | n + 1, f, g, v1, v2, v3, v4 => if (f 2) ≤ v4 then pX0_runs_42 η θ f g v1 v2 v3 else (if gin v4 10 = true then if gin v4 10 = true then if gin v4 10 = true then pX0_runs_3 η θ n f (va_up (va_up (va_up g 28 (upd (g 28) v4.toNatClampNeg (0 : Int32))) 29 (upd ((va_up g 28 (upd (g 28) v4.toNatClampNeg (0 : Int32))) 29) v4.toNatClampNeg (0 : Int32))) 30 (upd ((va_up (va_up g 28 (upd (g 28) v4.toNatClampNeg (0 : Int32))) 29 (upd ((va_up g 28 (upd (g 28) v4.toNatClampNeg (0 : Int32))) 29) v4.toNatClampNeg (0 : Int32))) 30) v4.toNatClampNeg (-1 : Int32))) v1 v2 v3 (v4 + 1) else none else none else none)

def pX0_runs_0 (η : cx_H) (θ : cx_T) (f : xF) (g : xG) (v1 : Int32) (v2 : Int32) (v3 : Int32) : Option (xF × xG) := pX0_runs_3 η θ 5000 f g v1 v2 v3 (0 : Int32)

abbrev pX0_runs (η : cx_H) (θ : cx_T) (f : xF) (g : xG) (v1 : Int32) (v2 : Int32) (v3 : Int32) : Option (xF × xG) := pX0_runs_0 η θ f g v1 v2 v3
theorem bX0_runs_78 {p : Program} {l : Launch} {e : Env} {s : State} {m : MethodId} {as : Array Value} {below : List Frame} {meth : Method} {c : Code} {A : Nat → Prop} {Q : State → Prop} {γ : wx_G} {o : Nat} {ad : Nat → Nat} {η : cx_H} {θ : cx_T} {τ : va_W} {z : xF × xG} (G : cx_ok γ) (T : tx_ok γ o ad θ (hr γ o ad η ++ τ)) (C : CallFix p m c cX0_runs 6 s as lw_all RX0) (K : wx_C γ A s) (E : ∀ (H : Heap) (locs : List Loc) (ls : Array Slot) (pc : Nat), wx_w γ A s H locs (cw γ o ad z.1 z.2 (hr γ o ad η ++ τ)) → decode cX0_runs pc = .ok (.return_, 1) → W p l e rmX0_runs s m as below meth c H locs 0 0 Q (F0 m pc ls [])) {k45 : xF → xG → Int32 → Int32 → Int32 → Option (xF × xG)} (hk45 : ∀ (f : xF) (g : xG) (v1 : Int32) (v3 : Int32) (v4 : Int32) (H : Heap) (locs : List Loc) (ls : Array Slot), k45 f g v1 v3 v4 = some z → wx_w γ A s H locs (cw γ o ad f g (hr γ o ad η ++ τ)) → lv_has ls 6 [(0, .ref o), (1, .ref (had η v1)), (3, .int v3), (4, .int v4)] → W p l e rmX0_runs s m as below meth c H locs 0 0 Q (F0 m 45 ls [])) {f : xF} {g : xG} {v1 : Int32} {v3 : Int32} {v4 : Int32} {H : Heap} {locs : List Loc} {ls : Array Slot} (w : wx_w γ A s H locs (cw γ o ad f g (hr γ o ad η ++ τ))) (hl : lv_has ls 6 [(0, .ref o), (1, .ref (had η v1)), (3, .int v3), (4, .int v4)]) (hF : pX0_runs_78 η θ k45 f g v1 v3 v4 = some z) : W p l e rmX0_runs s m as below meth c H locs 0 0 Q (F0 m 78 ls []) := by
  have hx := C.1
  have hb := C.2.1
  unfold pX0_runs_78 at hF
  refine lv_iinc (v := v4 + 1) (lv' := [(4, .int (v4 + 1)), (0, .ref o), (1, .ref (had η v1)), (3, .int v3)]) hx hb dX0_runs_78 hl (k := 3) rfl rfl (by decide) rfl (fun ls hl => ?_)
  refine lv_goto (tgt := 45) hx hb dX0_runs_81 (by decide) ?_
  exact hk45 _ _ _ _ _ _ _ _ hF w (lv_sub hl [1, 2, 3, 0] rfl)

theorem bX0_runs_54 {p : Program} {l : Launch} {e : Env} {s : State} {m : MethodId} {as : Array Value} {below : List Frame} {meth : Method} {c : Code} {A : Nat → Prop} {Q : State → Prop} {γ : wx_G} {o : Nat} {ad : Nat → Nat} {η : cx_H} {θ : cx_T} {τ : va_W} {z : xF × xG} (G : cx_ok γ) (T : tx_ok γ o ad θ (hr γ o ad η ++ τ)) (C : CallFix p m c cX0_runs 6 s as lw_all RX0) (K : wx_C γ A s) (E : ∀ (H : Heap) (locs : List Loc) (ls : Array Slot) (pc : Nat), wx_w γ A s H locs (cw γ o ad z.1 z.2 (hr γ o ad η ++ τ)) → decode cX0_runs pc = .ok (.return_, 1) → W p l e rmX0_runs s m as below meth c H locs 0 0 Q (F0 m pc ls [])) {k45 : xF → xG → Int32 → Int32 → Int32 → Option (xF × xG)} (hk45 : ∀ (f : xF) (g : xG) (v1 : Int32) (v3 : Int32) (v4 : Int32) (H : Heap) (locs : List Loc) (ls : Array Slot), k45 f g v1 v3 v4 = some z → wx_w γ A s H locs (cw γ o ad f g (hr γ o ad η ++ τ)) → lv_has ls 6 [(0, .ref o), (1, .ref (had η v1)), (3, .int v3), (4, .int v4)] → W p l e rmX0_runs s m as below meth c H locs 0 0 Q (F0 m 45 ls [])) : ∀ (n : Nat) (f : xF) (g : xG) (v1 : Int32) (v3 : Int32) (v4 : Int32) (v5 : Int32) (H : Heap) (locs : List Loc) (ls : Array Slot), pX0_runs_54 η θ k45 n f g v1 v3 v4 v5 = some z → wx_w γ A s H locs (cw γ o ad f g (hr γ o ad η ++ τ)) → lv_has ls 6 [(0, .ref o), (1, .ref (had η v1)), (3, .int v3), (4, .int v4), (5, .int v5)] → W p l e rmX0_runs s m as below meth c H locs 0 0 Q (F0 m 54 ls []) := by
  have hx := C.1
  have hb := C.2.1
  intro n
  induction n with
  | zero =>
    intro f g v1 v3 v4 v5 H locs ls hF w hl
    have hF : (none : Option (xF × xG)) = some z := hF
    cases hF
  | succ n ih =>
    intro f g v1 v3 v4 v5 H locs ls hF w hl
    rw [pX0_runs_54] at hF
    refine lv_iload hx hb dX0_runs_54 (lv_at hl 4 rfl) ?_
    refine lv_aload_n hx hb dX0_runs_56 rfl (lv_at hl 0 rfl) ?_
    refine cget_2 C K w dX0_runs_57 ?_
    refine lv_icmp_ge (tgt := 78) hx hb dX0_runs_60 (by decide) (fun c => ?_) (fun c => ?_)
    · have hF := (if_pos c).symm.trans hF
      exact bX0_runs_78 G T C K E hk45 w (lv_sub hl [0, 1, 2, 3] rfl) hF
    · have hF := (if_neg c).symm.trans hF
      refine lv_aload_n hx hb dX0_runs_63 rfl (lv_at hl 0 rfl) ?_
      refine lv_aload_n hx hb dX0_runs_64 rfl (lv_at hl 1 rfl) ?_
      refine lv_iload hx hb dX0_runs_65 (lv_at hl 4 rfl) ?_
      refine lv_iload hx hb dX0_runs_67 (lv_at hl 3 rfl) ?_
      obtain ⟨r69, hr, hF⟩ := obd hF
      refine rX0_goes G T C K w hr hl.1 ⟨Nat.le_of_ble_eq_true rfl, Nat.le_of_ble_eq_true rfl⟩ (Nat.le_of_ble_eq_true rfl) dX0_runs_69 (fun H locs w => ?_)
      refine lv_iinc (v := v5 + 1) (lv' := [(5, .int (v5 + 1)), (0, .ref o), (1, .ref (had η v1)), (3, .int v3), (4, .int v4)]) hx hb dX0_runs_72 hl (k := 4) rfl rfl (by decide) rfl (fun ls hl => ?_)
      refine lv_goto (tgt := 54) hx hb dX0_runs_75 (by decide) ?_
      exact ih _ _ _ _ _ _ _ _ _ hF w (lv_sub hl [1, 2, 3, 4, 0] rfl)

theorem bX0_runs_45 {p : Program} {l : Launch} {e : Env} {s : State} {m : MethodId} {as : Array Value} {below : List Frame} {meth : Method} {c : Code} {A : Nat → Prop} {Q : State → Prop} {γ : wx_G} {o : Nat} {ad : Nat → Nat} {η : cx_H} {θ : cx_T} {τ : va_W} {z : xF × xG} (G : cx_ok γ) (T : tx_ok γ o ad θ (hr γ o ad η ++ τ)) (C : CallFix p m c cX0_runs 6 s as lw_all RX0) (K : wx_C γ A s) (E : ∀ (H : Heap) (locs : List Loc) (ls : Array Slot) (pc : Nat), wx_w γ A s H locs (cw γ o ad z.1 z.2 (hr γ o ad η ++ τ)) → decode cX0_runs pc = .ok (.return_, 1) → W p l e rmX0_runs s m as below meth c H locs 0 0 Q (F0 m pc ls [])) : ∀ (n : Nat) (f : xF) (g : xG) (v1 : Int32) (v3 : Int32) (v4 : Int32) (H : Heap) (locs : List Loc) (ls : Array Slot), pX0_runs_45 η θ n f g v1 v3 v4 = some z → wx_w γ A s H locs (cw γ o ad f g (hr γ o ad η ++ τ)) → lv_has ls 6 [(0, .ref o), (1, .ref (had η v1)), (3, .int v3), (4, .int v4)] → W p l e rmX0_runs s m as below meth c H locs 0 0 Q (F0 m 45 ls []) := by
  have hx := C.1
  have hb := C.2.1
  intro n
  induction n with
  | zero =>
    intro f g v1 v3 v4 H locs ls hF w hl
    have hF : (none : Option (xF × xG)) = some z := hF
    cases hF
  | succ n ih =>
    intro f g v1 v3 v4 H locs ls hF w hl
    rw [pX0_runs_45] at hF
    refine lv_iload hx hb dX0_runs_45 (lv_at hl 3 rfl) ?_
    refine lv_iload_n hx hb dX0_runs_47 rfl (lv_at hl 2 rfl) ?_
    refine lv_icmp_gt (tgt := 84) hx hb dX0_runs_48 (by decide) (fun c => ?_) (fun c => ?_)
    · have hF := (if_pos c).symm.trans hF
      have hF := Option.some.inj hF
      subst hF
      exact E _ _ _ _ w dX0_runs_84
    · have hF := (if_neg c).symm.trans hF
      refine lv_iconst (v := (0 : Int32)) hx hb dX0_runs_51 (by decide) ?_
      refine lv_istore (lv' := [(5, .int (0 : Int32)), (0, .ref o), (1, .ref (had η v1)), (3, .int v3), (4, .int v4)]) hx hb dX0_runs_52 hl (by decide) rfl (fun ls hl => ?_)
      exact bX0_runs_54 G T C K E ih 5000 _ _ _ _ _ _ _ _ _ hF w (lv_sub hl [1, 2, 3, 4, 0] rfl)

theorem bX0_runs_42 {p : Program} {l : Launch} {e : Env} {s : State} {m : MethodId} {as : Array Value} {below : List Frame} {meth : Method} {c : Code} {A : Nat → Prop} {Q : State → Prop} {γ : wx_G} {o : Nat} {ad : Nat → Nat} {η : cx_H} {θ : cx_T} {τ : va_W} {z : xF × xG} (G : cx_ok γ) (T : tx_ok γ o ad θ (hr γ o ad η ++ τ)) (C : CallFix p m c cX0_runs 6 s as lw_all RX0) (K : wx_C γ A s) (E : ∀ (H : Heap) (locs : List Loc) (ls : Array Slot) (pc : Nat), wx_w γ A s H locs (cw γ o ad z.1 z.2 (hr γ o ad η ++ τ)) → decode cX0_runs pc = .ok (.return_, 1) → W p l e rmX0_runs s m as below meth c H locs 0 0 Q (F0 m pc ls [])) {f : xF} {g : xG} {v1 : Int32} {v2 : Int32} {v3 : Int32} {H : Heap} {locs : List Loc} {ls : Array Slot} (w : wx_w γ A s H locs (cw γ o ad f g (hr γ o ad η ++ τ))) (hl : lv_has ls 6 [(0, .ref o), (1, .ref (had η v1)), (2, .int v2), (3, .int v3)]) (hF : pX0_runs_42 η θ f g v1 v2 v3 = some z) : W p l e rmX0_runs s m as below meth c H locs 0 0 Q (F0 m 42 ls []) := by
  have hx := C.1
  have hb := C.2.1
  unfold pX0_runs_42 at hF
  refine lv_iload_n hx hb dX0_runs_42 rfl (lv_at hl 2 rfl) ?_
  refine lv_istore (lv' := [(4, .int v2), (0, .ref o), (1, .ref (had η v1)), (2, .int v2), (3, .int v3)]) hx hb dX0_runs_43 hl (by decide) rfl (fun ls hl => ?_)
  exact bX0_runs_45 G T C K E 5000 _ _ _ _ _ _ _ _ hF w (lv_sub hl [1, 2, 4, 0] rfl)

theorem bX0_runs_3 {p : Program} {l : Launch} {e : Env} {s : State} {m : MethodId} {as : Array Value} {below : List Frame} {meth : Method} {c : Code} {A : Nat → Prop} {Q : State → Prop} {γ : wx_G} {o : Nat} {ad : Nat → Nat} {η : cx_H} {θ : cx_T} {τ : va_W} {z : xF × xG} (G : cx_ok γ) (T : tx_ok γ o ad θ (hr γ o ad η ++ τ)) (C : CallFix p m c cX0_runs 6 s as lw_all RX0) (K : wx_C γ A s) (E : ∀ (H : Heap) (locs : List Loc) (ls : Array Slot) (pc : Nat), wx_w γ A s H locs (cw γ o ad z.1 z.2 (hr γ o ad η ++ τ)) → decode cX0_runs pc = .ok (.return_, 1) → W p l e rmX0_runs s m as below meth c H locs 0 0 Q (F0 m pc ls [])) : ∀ (n : Nat) (f : xF) (g : xG) (v1 : Int32) (v2 : Int32) (v3 : Int32) (v4 : Int32) (H : Heap) (locs : List Loc) (ls : Array Slot), pX0_runs_3 η θ n f g v1 v2 v3 v4 = some z → wx_w γ A s H locs (cw γ o ad f g (hr γ o ad η ++ τ)) → lv_has ls 6 [(0, .ref o), (1, .ref (had η v1)), (2, .int v2), (3, .int v3), (4, .int v4)] → W p l e rmX0_runs s m as below meth c H locs 0 0 Q (F0 m 3 ls []) := by
  have hx := C.1
  have hb := C.2.1
  intro n
  induction n with
  | zero =>
    intro f g v1 v2 v3 v4 H locs ls hF w hl
    have hF : (none : Option (xF × xG)) = some z := hF
    cases hF
  | succ n ih =>
    intro f g v1 v2 v3 v4 H locs ls hF w hl
    rw [pX0_runs_3] at hF
    refine lv_iload hx hb dX0_runs_3 (lv_at hl 4 rfl) ?_
    refine lv_aload_n hx hb dX0_runs_5 rfl (lv_at hl 0 rfl) ?_
    refine cget_2 C K w dX0_runs_6 ?_
    refine lv_icmp_ge (tgt := 42) hx hb dX0_runs_9 (by decide) (fun c => ?_) (fun c => ?_)
    · have hF := (if_pos c).symm.trans hF
      exact bX0_runs_42 G T C K E w (lv_sub hl [0, 1, 2, 3] rfl) hF
    · have hF := (if_neg c).symm.trans hF
      refine lv_aload_n hx hb dX0_runs_12 rfl (lv_at hl 0 rfl) ?_
      refine cget_28 C K w dX0_runs_13 ?_
      refine lv_iload hx hb dX0_runs_16 (lv_at hl 4 rfl) ?_
      refine lv_iconst (v := (0 : Int32)) hx hb dX0_runs_18 (by decide) ?_
      obtain ⟨hi, hF⟩ := gin_if hF
      refine cast_28 C K w hi dX0_runs_19 (fun H locs w => ?_)
      refine lv_aload_n hx hb dX0_runs_20 rfl (lv_at hl 0 rfl) ?_
      refine cget_29 C K w dX0_runs_21 ?_
      refine lv_iload hx hb dX0_runs_24 (lv_at hl 4 rfl) ?_
      refine lv_iconst (v := (0 : Int32)) hx hb dX0_runs_26 (by decide) ?_
      obtain ⟨hi, hF⟩ := gin_if hF
      refine cast_29 C K w hi dX0_runs_27 (fun H locs w => ?_)
      refine lv_aload_n hx hb dX0_runs_28 rfl (lv_at hl 0 rfl) ?_
      refine cget_30 C K w dX0_runs_29 ?_
      refine lv_iload hx hb dX0_runs_32 (lv_at hl 4 rfl) ?_
      refine lv_iconst (v := (-1 : Int32)) hx hb dX0_runs_34 (by decide) ?_
      obtain ⟨hi, hF⟩ := gin_if hF
      refine cast_30 C K w hi dX0_runs_35 (fun H locs w => ?_)
      refine lv_iinc (v := v4 + 1) (lv' := [(4, .int (v4 + 1)), (0, .ref o), (1, .ref (had η v1)), (2, .int v2), (3, .int v3)]) hx hb dX0_runs_36 hl (k := 4) rfl rfl (by decide) rfl (fun ls hl => ?_)
      refine lv_goto (tgt := 3) hx hb dX0_runs_39 (by decide) ?_
      exact ih _ _ _ _ _ _ _ _ _ hF w (lv_sub hl [1, 2, 3, 4, 0] rfl)

theorem bX0_runs_0 {p : Program} {l : Launch} {e : Env} {s : State} {m : MethodId} {as : Array Value} {below : List Frame} {meth : Method} {c : Code} {A : Nat → Prop} {Q : State → Prop} {γ : wx_G} {o : Nat} {ad : Nat → Nat} {η : cx_H} {θ : cx_T} {τ : va_W} {z : xF × xG} (G : cx_ok γ) (T : tx_ok γ o ad θ (hr γ o ad η ++ τ)) (C : CallFix p m c cX0_runs 6 s as lw_all RX0) (K : wx_C γ A s) (E : ∀ (H : Heap) (locs : List Loc) (ls : Array Slot) (pc : Nat), wx_w γ A s H locs (cw γ o ad z.1 z.2 (hr γ o ad η ++ τ)) → decode cX0_runs pc = .ok (.return_, 1) → W p l e rmX0_runs s m as below meth c H locs 0 0 Q (F0 m pc ls [])) {f : xF} {g : xG} {v1 : Int32} {v2 : Int32} {v3 : Int32} {H : Heap} {locs : List Loc} {ls : Array Slot} (w : wx_w γ A s H locs (cw γ o ad f g (hr γ o ad η ++ τ))) (hl : lv_has ls 6 [(0, .ref o), (1, .ref (had η v1)), (2, .int v2), (3, .int v3)]) (hF : pX0_runs_0 η θ f g v1 v2 v3 = some z) : W p l e rmX0_runs s m as below meth c H locs 0 0 Q (F0 m 0 ls []) := by
  have hx := C.1
  have hb := C.2.1
  unfold pX0_runs_0 at hF
  refine lv_iconst (v := (0 : Int32)) hx hb dX0_runs_0 (by decide) ?_
  refine lv_istore (lv' := [(4, .int (0 : Int32)), (0, .ref o), (1, .ref (had η v1)), (2, .int v2), (3, .int v3)]) hx hb dX0_runs_1 hl (by decide) rfl (fun ls hl => ?_)
  exact bX0_runs_3 G T C K E 5000 _ _ _ _ _ _ _ _ _ hF w (lv_sub hl [1, 2, 3, 4, 0] rfl)

theorem mX0_runs {l : Launch} {γ : wx_G} {o : Nat} {ad : Nat → Nat} {η : cx_H} {θ : cx_T} {τ : va_W} {f : xF} {g : xG} {v1 : Int32} {v2 : Int32} {v3 : Int32} {z : xF × xG} (G : cx_ok γ) (T : tx_ok γ o ad θ (hr γ o ad η ++ τ)) (hF : pX0_runs η θ f g v1 v2 v3 = some z) : wx_M γ l yX0_runs (ws_ yX0_runs cX0_runs 6 none) rmX0_runs [.ref o, .ref (had η v1), .int v2, .int v3] (cw γ o ad f g (hr γ o ad η ++ τ)) (fun v ws => v = none ∧ ws = (cw γ o ad z.1 z.2 (hr γ o ad η ++ τ))) 0 0 := by
  refine wx_M.of (by decide) (Nat.le_of_ble_eq_true rfl) ?_
  intro p e s m as below meth c A ls C K w hr hlocks _ hl
  exact bX0_runs_0 G T C K (fun H locs ls pc w d => wx_vret C hr hlocks w ⟨rfl, rfl⟩ d) w hl hF
theorem rX0_runs {p : Program} {l : Launch} {e : Env} {R : Room} {s : State} {m : MethodId} {as : Array Value} {below : List Frame} {meth : Method} {c : Code} {H : Heap} {locs : List Loc} {cells slots : Nat} {Q : State → Prop} {cc : ByteArray} {nL pc : Nat} {ls : Array Slot} {rest : List Value} {γ : wx_G} {A : Nat → Prop} {o : Nat} {ad : Nat → Nat} {η : cx_H} {θ : cx_T} {τ : va_W} {f : xF} {g : xG} {v1 : Int32} {v2 : Int32} {v3 : Int32} {z : xF × xG} (G : cx_ok γ) (T : tx_ok γ o ad θ (hr γ o ad η ++ τ)) (C : CallFix p m c cc nL s as lw_all RX0) (K : wx_C γ A s) (w : wx_w γ A s H locs (cw γ o ad f g (hr γ o ad η ++ τ))) (hF : pX0_runs η θ f g v1 v2 v3 = some z) (hls : ls.size = nL) (hR : rmX0_runs.frames + 1 ≤ R.frames ∧ 8 + (6 + 11) + rmX0_runs.locals ≤ R.locals) (hW : (rest.map fun v => v.category).sum ≤ 8) (d : decode cc pc = .ok (.invokevirtual 380, 3)) (kk : ∀ (H : Heap) (locs : List Loc), wx_w γ A s H locs (cw γ o ad z.1 z.2 (hr γ o ad η ++ τ)) → W p l e R s m as below meth c H locs cells slots Q (F0 m (pc + 3) ls rest)) (hf : cells ≤ R.cells ∧ slots ≤ R.slots := by exact ⟨Nat.le_of_ble_eq_true rfl, Nat.le_of_ble_eq_true rfl⟩) : W p l e R s m as below meth c H locs cells slots Q (F0 m pc ls (.int v3 :: .int v2 :: .ref (had η v1) :: .ref o :: rest)) :=
  wx_callV (n := 3) C K w (mX0_runs (l := l) G T hF) q941 q943 qs28 q106 q944 rfl rfl (by decide +kernel) (va_recv K.1.1 w.1 (ci := 1) (q0 := 0) rfl rfl) rfl rfl hR hls hW hf d (fun v ws H1 locs1 hp w => by obtain ⟨rfl, rfl⟩ := hp; exact kk H1 locs1 w)

/-! WalkingStones.lay(II)I -/
abbrev rmX0_lay : Room := { frames := 206, cells := 0, slots := 0, locals := 8175 }
def pX0_lay_16 (η : cx_H) (θ : cx_T) (f : xF) (g : xG) : Option (Int32 × xF × xG) := some ((-2 : Int32), f, g)

def pX0_lay_42 (η : cx_H) (θ : cx_T) : Nat → xF → xG → Int32 → Int32 → Option (Int32 × xF × xG)
  | 0, _, _, _, _ => none
  | n + 1, f, g, v3, v4 => if (f 2) ≤ v4 then some (v3, f, g) else (if gin v4 10 = true then pX0_lay_42 η θ n f g (v3 + (g 28 v4.toNatClampNeg)) (v4 + 1) else none)

def pX0_lay_0 (η : cx_H) (θ : cx_T) (f : xF) (g : xG) (v1 : Int32) (v2 : Int32) : Option (Int32 × xF × xG) := (pX0_isHow f g v1).bind (fun r2 => if r2 = 0 then pX0_lay_16 η θ f g else (pX0_areNights f g v2).bind (fun r10 => if r10 = 0 then pX0_lay_16 η θ f g else (if gin v1 8 = true then if gk η v1 [0, 1, 2, 3, 4, 5] = true then (pX0_runs η θ f g v1 (v2 / (100 : Int32)) (v2 - v2 / (100 : Int32) * (100 : Int32))).bind (fun r34 => pX0_lay_42 η θ 5000 r34.1 r34.2 (0 : Int32) (0 : Int32)) else none else none)))

abbrev pX0_lay (η : cx_H) (θ : cx_T) (f : xF) (g : xG) (v1 : Int32) (v2 : Int32) : Option (Int32 × xF × xG) := pX0_lay_0 η θ f g v1 v2
theorem bX0_lay_16 {p : Program} {l : Launch} {e : Env} {s : State} {m : MethodId} {as : Array Value} {below : List Frame} {meth : Method} {c : Code} {A : Nat → Prop} {Q : State → Prop} {γ : wx_G} {o : Nat} {ad : Nat → Nat} {η : cx_H} {θ : cx_T} {τ : va_W} {z : Int32 × xF × xG} (G : cx_ok γ) (T : tx_ok γ o ad θ (hr γ o ad η ++ τ)) (C : CallFix p m c cX0_lay 5 s as lw_all RX0) (K : wx_C γ A s) (E : ∀ (H : Heap) (locs : List Loc) (ls : Array Slot) (pc : Nat), wx_w γ A s H locs (cw γ o ad z.2.1 z.2.2 (hr γ o ad η ++ τ)) → decode cX0_lay pc = .ok (.ireturn, 1) → W p l e rmX0_lay s m as below meth c H locs 0 0 Q (F0 m pc ls [.int z.1])) {f : xF} {g : xG} {H : Heap} {locs : List Loc} {ls : Array Slot} (w : wx_w γ A s H locs (cw γ o ad f g (hr γ o ad η ++ τ))) (hl : lv_has ls 5 []) (hF : pX0_lay_16 η θ f g = some z) : W p l e rmX0_lay s m as below meth c H locs 0 0 Q (F0 m 16 ls []) := by
  have hx := C.1
  have hb := C.2.1
  unfold pX0_lay_16 at hF
  refine lv_bipush (v := (-2 : Int32)) hx hb dX0_lay_16 (by decide) ?_
  have hF := Option.some.inj hF
  subst hF
  exact E _ _ _ _ w dX0_lay_18

theorem bX0_lay_42 {p : Program} {l : Launch} {e : Env} {s : State} {m : MethodId} {as : Array Value} {below : List Frame} {meth : Method} {c : Code} {A : Nat → Prop} {Q : State → Prop} {γ : wx_G} {o : Nat} {ad : Nat → Nat} {η : cx_H} {θ : cx_T} {τ : va_W} {z : Int32 × xF × xG} (G : cx_ok γ) (T : tx_ok γ o ad θ (hr γ o ad η ++ τ)) (C : CallFix p m c cX0_lay 5 s as lw_all RX0) (K : wx_C γ A s) (E : ∀ (H : Heap) (locs : List Loc) (ls : Array Slot) (pc : Nat), wx_w γ A s H locs (cw γ o ad z.2.1 z.2.2 (hr γ o ad η ++ τ)) → decode cX0_lay pc = .ok (.ireturn, 1) → W p l e rmX0_lay s m as below meth c H locs 0 0 Q (F0 m pc ls [.int z.1])) : ∀ (n : Nat) (f : xF) (g : xG) (v3 : Int32) (v4 : Int32) (H : Heap) (locs : List Loc) (ls : Array Slot), pX0_lay_42 η θ n f g v3 v4 = some z → wx_w γ A s H locs (cw γ o ad f g (hr γ o ad η ++ τ)) → lv_has ls 5 [(0, .ref o), (3, .int v3), (4, .int v4)] → W p l e rmX0_lay s m as below meth c H locs 0 0 Q (F0 m 42 ls []) := by
  have hx := C.1
  have hb := C.2.1
  intro n
  induction n with
  | zero =>
    intro f g v3 v4 H locs ls hF w hl
    have hF : (none : Option (Int32 × xF × xG)) = some z := hF
    cases hF
  | succ n ih =>
    intro f g v3 v4 H locs ls hF w hl
    rw [pX0_lay_42] at hF
    refine lv_iload hx hb dX0_lay_42 (lv_at hl 2 rfl) ?_
    refine lv_aload_n hx hb dX0_lay_44 rfl (lv_at hl 0 rfl) ?_
    refine cget_2 C K w dX0_lay_45 ?_
    refine lv_icmp_ge (tgt := 67) hx hb dX0_lay_48 (by decide) (fun c => ?_) (fun c => ?_)
    · have hF := (if_pos c).symm.trans hF
      refine lv_iload_n hx hb dX0_lay_67 rfl (lv_at hl 1 rfl) ?_
      have hF := Option.some.inj hF
      subst hF
      exact E _ _ _ _ w dX0_lay_68
    · have hF := (if_neg c).symm.trans hF
      refine lv_iload_n hx hb dX0_lay_51 rfl (lv_at hl 1 rfl) ?_
      refine lv_aload_n hx hb dX0_lay_52 rfl (lv_at hl 0 rfl) ?_
      refine cget_28 C K w dX0_lay_53 ?_
      refine lv_iload hx hb dX0_lay_56 (lv_at hl 2 rfl) ?_
      obtain ⟨hi, hF⟩ := gin_if hF
      refine cald_28 C K w hi dX0_lay_58 ?_
      refine lv_iadd hx hb dX0_lay_59 ?_
      refine lv_istore_n (lv' := [(3, .int (v3 + (g 28 v4.toNatClampNeg))), (0, .ref o), (4, .int v4)]) hx hb dX0_lay_60 rfl hl (by decide) rfl (fun ls hl => ?_)
      refine lv_iinc (v := v4 + 1) (lv' := [(4, .int (v4 + 1)), (3, .int (v3 + (g 28 v4.toNatClampNeg))), (0, .ref o)]) hx hb dX0_lay_61 hl (k := 2) rfl rfl (by decide) rfl (fun ls hl => ?_)
      refine lv_goto (tgt := 42) hx hb dX0_lay_64 (by decide) ?_
      exact ih _ _ _ _ _ _ _ hF w (lv_sub hl [2, 1, 0] rfl)

theorem bX0_lay_0 {p : Program} {l : Launch} {e : Env} {s : State} {m : MethodId} {as : Array Value} {below : List Frame} {meth : Method} {c : Code} {A : Nat → Prop} {Q : State → Prop} {γ : wx_G} {o : Nat} {ad : Nat → Nat} {η : cx_H} {θ : cx_T} {τ : va_W} {z : Int32 × xF × xG} (G : cx_ok γ) (T : tx_ok γ o ad θ (hr γ o ad η ++ τ)) (C : CallFix p m c cX0_lay 5 s as lw_all RX0) (K : wx_C γ A s) (E : ∀ (H : Heap) (locs : List Loc) (ls : Array Slot) (pc : Nat), wx_w γ A s H locs (cw γ o ad z.2.1 z.2.2 (hr γ o ad η ++ τ)) → decode cX0_lay pc = .ok (.ireturn, 1) → W p l e rmX0_lay s m as below meth c H locs 0 0 Q (F0 m pc ls [.int z.1])) {f : xF} {g : xG} {v1 : Int32} {v2 : Int32} {H : Heap} {locs : List Loc} {ls : Array Slot} (w : wx_w γ A s H locs (cw γ o ad f g (hr γ o ad η ++ τ))) (hl : lv_has ls 5 [(0, .ref o), (1, .int v1), (2, .int v2)]) (hF : pX0_lay_0 η θ f g v1 v2 = some z) : W p l e rmX0_lay s m as below meth c H locs 0 0 Q (F0 m 0 ls []) := by
  have hx := C.1
  have hb := C.2.1
  unfold pX0_lay_0 at hF
  refine lv_aload_n hx hb dX0_lay_0 rfl (lv_at hl 0 rfl) ?_
  refine lv_iload_n hx hb dX0_lay_1 rfl (lv_at hl 1 rfl) ?_
  obtain ⟨r2, hr, hF⟩ := obd hF
  refine rX0_isHow G C K w hr hl.1 ⟨Nat.le_of_ble_eq_true rfl, Nat.le_of_ble_eq_true rfl⟩ (Nat.le_of_ble_eq_true rfl) dX0_lay_2 (fun H locs w => ?_)
  refine lv_if_eq (tgt := 16) hx hb dX0_lay_5 (by decide) (fun c => ?_) (fun c => ?_)
  · have hF := (if_pos c).symm.trans hF
    exact bX0_lay_16 G T C K E w (lv_sub hl [] rfl) hF
  · have hF := (if_neg c).symm.trans hF
    refine lv_aload_n hx hb dX0_lay_8 rfl (lv_at hl 0 rfl) ?_
    refine lv_iload_n hx hb dX0_lay_9 rfl (lv_at hl 2 rfl) ?_
    obtain ⟨r10, hr, hF⟩ := obd hF
    refine rX0_areNights G C K w hr hl.1 ⟨Nat.le_of_ble_eq_true rfl, Nat.le_of_ble_eq_true rfl⟩ (Nat.le_of_ble_eq_true rfl) dX0_lay_10 (fun H locs w => ?_)
    refine lv_if_ne (tgt := 19) hx hb dX0_lay_13 (by decide) (fun c => ?_) (fun c => ?_)
    · have hF := (if_neg c).symm.trans hF
      refine lv_aload_n hx hb dX0_lay_19 rfl (lv_at hl 0 rfl) ?_
      refine lv_aload_n hx hb dX0_lay_20 rfl (lv_at hl 0 rfl) ?_
      refine cget_8 C K w dX0_lay_21 ?_
      refine lv_iload_n hx hb dX0_lay_24 rfl (lv_at hl 1 rfl) ?_
      obtain ⟨hi, hF⟩ := gin_if hF
      obtain ⟨hg, hF⟩ := gk_if hF
      refine c_how C K w hi hg dX0_lay_25 ?_
      refine lv_iload_n hx hb dX0_lay_26 rfl (lv_at hl 2 rfl) ?_
      refine lv_bipush (v := (100 : Int32)) hx hb dX0_lay_27 (by decide) ?_
      refine lv_idiv hx hb dX0_lay_29 (by decide) ?_
      refine lv_iload_n hx hb dX0_lay_30 rfl (lv_at hl 2 rfl) ?_
      refine lv_bipush (v := (100 : Int32)) hx hb dX0_lay_31 (by decide) ?_
      refine lv_irem hx hb dX0_lay_33 (by decide) ?_
      obtain ⟨r34, hr, hF⟩ := obd hF
      refine rX0_runs G T C K w hr hl.1 ⟨Nat.le_of_ble_eq_true rfl, Nat.le_of_ble_eq_true rfl⟩ (Nat.le_of_ble_eq_true rfl) dX0_lay_34 (fun H locs w => ?_)
      refine lv_iconst (v := (0 : Int32)) hx hb dX0_lay_37 (by decide) ?_
      refine lv_istore_n (lv' := [(3, .int (0 : Int32)), (0, .ref o), (1, .int v1), (2, .int v2)]) hx hb dX0_lay_38 rfl hl (by decide) rfl (fun ls hl => ?_)
      refine lv_iconst (v := (0 : Int32)) hx hb dX0_lay_39 (by decide) ?_
      refine lv_istore (lv' := [(4, .int (0 : Int32)), (3, .int (0 : Int32)), (0, .ref o), (1, .int v1), (2, .int v2)]) hx hb dX0_lay_40 hl (by decide) rfl (fun ls hl => ?_)
      exact bX0_lay_42 G T C K E 5000 _ _ _ _ _ _ _ hF w (lv_sub hl [2, 1, 0] rfl)
    · have hF := (if_pos c).symm.trans hF
      exact bX0_lay_16 G T C K E w (lv_sub hl [] rfl) hF

theorem mX0_lay {l : Launch} {γ : wx_G} {o : Nat} {ad : Nat → Nat} {η : cx_H} {θ : cx_T} {τ : va_W} {f : xF} {g : xG} {v1 : Int32} {v2 : Int32} {z : Int32 × xF × xG} (G : cx_ok γ) (T : tx_ok γ o ad θ (hr γ o ad η ++ τ)) (hF : pX0_lay η θ f g v1 v2 = some z) : wx_M γ l yX0_lay (ws_ yX0_lay cX0_lay 5 (some .int)) rmX0_lay [.ref o, .int v1, .int v2] (cw γ o ad f g (hr γ o ad η ++ τ)) (fun v ws => v = some (.int z.1) ∧ ws = (cw γ o ad z.2.1 z.2.2 (hr γ o ad η ++ τ))) 0 0 := by
  refine wx_M.of (by decide) (Nat.le_of_ble_eq_true rfl) ?_
  intro p e s m as below meth c A ls C K w hr hlocks _ hl
  exact bX0_lay_0 G T C K (fun H locs ls pc w d => wx_iret C hr hlocks w ⟨rfl, rfl⟩ d) w hl hF

/-! WalkingStones.pushesSome(LWalkingStones$How;I)Z -/
abbrev rmX0_pushesSome : Room := { frames := 204, cells := 0, slots := 0, locals := 8123 }
def pX0_pushesSome_2 (η : cx_H) (θ : cx_T) : Nat → xF → xG → Int32 → Int32 → Int32 → Option (Int32 × xF × xG)
  | 0, _, _, _, _, _ => none
  | n + 1, f, g, v1, v2, v3 => if (f 2) ≤ v3 then some ((0 : Int32), f, g) else (if gin v3 10 = true then (pV_goesBy η θ f g v1 (g 0 v3.toNatClampNeg) v2).bind (fun r18 => if r18.1 ≤ 0 then pX0_pushesSome_2 η θ n r18.2.1 r18.2.2 v1 v2 (v3 + 1) else some ((1 : Int32), r18.2.1, r18.2.2)) else none)

def pX0_pushesSome_0 (η : cx_H) (θ : cx_T) (f : xF) (g : xG) (v1 : Int32) (v2 : Int32) : Option (Int32 × xF × xG) := pX0_pushesSome_2 η θ 5000 f g v1 v2 (0 : Int32)

abbrev pX0_pushesSome (η : cx_H) (θ : cx_T) (f : xF) (g : xG) (v1 : Int32) (v2 : Int32) : Option (Int32 × xF × xG) := pX0_pushesSome_0 η θ f g v1 v2
theorem bX0_pushesSome_2 {p : Program} {l : Launch} {e : Env} {s : State} {m : MethodId} {as : Array Value} {below : List Frame} {meth : Method} {c : Code} {A : Nat → Prop} {Q : State → Prop} {γ : wx_G} {o : Nat} {ad : Nat → Nat} {η : cx_H} {θ : cx_T} {τ : va_W} {z : Int32 × xF × xG} (G : cx_ok γ) (T : tx_ok γ o ad θ (hr γ o ad η ++ τ)) (C : CallFix p m c cX0_pushesSome 4 s as lw_all RX0) (K : wx_C γ A s) (E : ∀ (H : Heap) (locs : List Loc) (ls : Array Slot) (pc : Nat), narrow .boolean (.int z.1) = .int z.1 → wx_w γ A s H locs (cw γ o ad z.2.1 z.2.2 (hr γ o ad η ++ τ)) → decode cX0_pushesSome pc = .ok (.ireturn, 1) → W p l e rmX0_pushesSome s m as below meth c H locs 0 0 Q (F0 m pc ls [.int z.1])) : ∀ (n : Nat) (f : xF) (g : xG) (v1 : Int32) (v2 : Int32) (v3 : Int32) (H : Heap) (locs : List Loc) (ls : Array Slot), pX0_pushesSome_2 η θ n f g v1 v2 v3 = some z → wx_w γ A s H locs (cw γ o ad f g (hr γ o ad η ++ τ)) → lv_has ls 4 [(0, .ref o), (1, .ref (had η v1)), (2, .int v2), (3, .int v3)] → W p l e rmX0_pushesSome s m as below meth c H locs 0 0 Q (F0 m 2 ls []) := by
  have hx := C.1
  have hb := C.2.1
  intro n
  induction n with
  | zero =>
    intro f g v1 v2 v3 H locs ls hF w hl
    have hF : (none : Option (Int32 × xF × xG)) = some z := hF
    cases hF
  | succ n ih =>
    intro f g v1 v2 v3 H locs ls hF w hl
    rw [pX0_pushesSome_2] at hF
    refine lv_iload_n hx hb dX0_pushesSome_2 rfl (lv_at hl 3 rfl) ?_
    refine lv_aload_n hx hb dX0_pushesSome_3 rfl (lv_at hl 0 rfl) ?_
    refine cget_2 C K w dX0_pushesSome_4 ?_
    refine lv_icmp_ge (tgt := 32) hx hb dX0_pushesSome_7 (by decide) (fun c => ?_) (fun c => ?_)
    · have hF := (if_pos c).symm.trans hF
      refine lv_iconst (v := (0 : Int32)) hx hb dX0_pushesSome_32 (by decide) ?_
      have hF := Option.some.inj hF
      subst hF
      exact E _ _ _ _ wx_nz0 w dX0_pushesSome_33
    · have hF := (if_neg c).symm.trans hF
      refine lv_aload_n hx hb dX0_pushesSome_10 rfl (lv_at hl 1 rfl) ?_
      refine lv_aload_n hx hb dX0_pushesSome_11 rfl (lv_at hl 0 rfl) ?_
      refine cget_0 C K w dX0_pushesSome_12 ?_
      refine lv_iload_n hx hb dX0_pushesSome_15 rfl (lv_at hl 3 rfl) ?_
      obtain ⟨hi, hF⟩ := gin_if hF
      refine cald_0 C K w hi dX0_pushesSome_16 ?_
      refine lv_iload_n hx hb dX0_pushesSome_17 rfl (lv_at hl 2 rfl) ?_
      obtain ⟨r18, hr, hF⟩ := obd hF
      refine vX0_goesBy G T C K w hr hl.1 ⟨Nat.le_of_ble_eq_true rfl, Nat.le_of_ble_eq_true rfl⟩ (Nat.le_of_ble_eq_true rfl) dX0_pushesSome_18 (fun H locs w => ?_)
      refine lv_if_le (tgt := 26) hx hb dX0_pushesSome_21 (by decide) (fun c => ?_) (fun c => ?_)
      · have hF := (if_pos c).symm.trans hF
        refine lv_iinc (v := v3 + 1) (lv' := [(3, .int (v3 + 1)), (0, .ref o), (1, .ref (had η v1)), (2, .int v2)]) hx hb dX0_pushesSome_26 hl (k := 3) rfl rfl (by decide) rfl (fun ls hl => ?_)
        refine lv_goto (tgt := 2) hx hb dX0_pushesSome_29 (by decide) ?_
        exact ih _ _ _ _ _ _ _ _ hF w (lv_sub hl [1, 2, 3, 0] rfl)
      · have hF := (if_neg c).symm.trans hF
        refine lv_iconst (v := (1 : Int32)) hx hb dX0_pushesSome_24 (by decide) ?_
        have hF := Option.some.inj hF
        subst hF
        exact E _ _ _ _ wx_nz1 w dX0_pushesSome_25

theorem bX0_pushesSome_0 {p : Program} {l : Launch} {e : Env} {s : State} {m : MethodId} {as : Array Value} {below : List Frame} {meth : Method} {c : Code} {A : Nat → Prop} {Q : State → Prop} {γ : wx_G} {o : Nat} {ad : Nat → Nat} {η : cx_H} {θ : cx_T} {τ : va_W} {z : Int32 × xF × xG} (G : cx_ok γ) (T : tx_ok γ o ad θ (hr γ o ad η ++ τ)) (C : CallFix p m c cX0_pushesSome 4 s as lw_all RX0) (K : wx_C γ A s) (E : ∀ (H : Heap) (locs : List Loc) (ls : Array Slot) (pc : Nat), narrow .boolean (.int z.1) = .int z.1 → wx_w γ A s H locs (cw γ o ad z.2.1 z.2.2 (hr γ o ad η ++ τ)) → decode cX0_pushesSome pc = .ok (.ireturn, 1) → W p l e rmX0_pushesSome s m as below meth c H locs 0 0 Q (F0 m pc ls [.int z.1])) {f : xF} {g : xG} {v1 : Int32} {v2 : Int32} {H : Heap} {locs : List Loc} {ls : Array Slot} (w : wx_w γ A s H locs (cw γ o ad f g (hr γ o ad η ++ τ))) (hl : lv_has ls 4 [(0, .ref o), (1, .ref (had η v1)), (2, .int v2)]) (hF : pX0_pushesSome_0 η θ f g v1 v2 = some z) : W p l e rmX0_pushesSome s m as below meth c H locs 0 0 Q (F0 m 0 ls []) := by
  have hx := C.1
  have hb := C.2.1
  unfold pX0_pushesSome_0 at hF
  refine lv_iconst (v := (0 : Int32)) hx hb dX0_pushesSome_0 (by decide) ?_
  refine lv_istore_n (lv' := [(3, .int (0 : Int32)), (0, .ref o), (1, .ref (had η v1)), (2, .int v2)]) hx hb dX0_pushesSome_1 rfl hl (by decide) rfl (fun ls hl => ?_)
  exact bX0_pushesSome_2 G T C K E 5000 _ _ _ _ _ _ _ _ hF w (lv_sub hl [1, 2, 3, 0] rfl)

theorem mX0_pushesSome {l : Launch} {γ : wx_G} {o : Nat} {ad : Nat → Nat} {η : cx_H} {θ : cx_T} {τ : va_W} {f : xF} {g : xG} {v1 : Int32} {v2 : Int32} {z : Int32 × xF × xG} (G : cx_ok γ) (T : tx_ok γ o ad θ (hr γ o ad η ++ τ)) (hF : pX0_pushesSome η θ f g v1 v2 = some z) : wx_M γ l yX0_pushesSome (ws_ yX0_pushesSome cX0_pushesSome 4 (some .boolean)) rmX0_pushesSome [.ref o, .ref (had η v1), .int v2] (cw γ o ad f g (hr γ o ad η ++ τ)) (fun v ws => v = some (.int z.1) ∧ ws = (cw γ o ad z.2.1 z.2.2 (hr γ o ad η ++ τ))) 0 0 := by
  refine wx_M.of (by decide) (Nat.le_of_ble_eq_true rfl) ?_
  intro p e s m as below meth c A ls C K w hr hlocks _ hl
  exact bX0_pushesSome_0 G T C K (fun H locs ls pc hz w d => wx_zret C hr hlocks hz w ⟨rfl, rfl⟩ d) w hl hF
theorem rX0_pushesSome {p : Program} {l : Launch} {e : Env} {R : Room} {s : State} {m : MethodId} {as : Array Value} {below : List Frame} {meth : Method} {c : Code} {H : Heap} {locs : List Loc} {cells slots : Nat} {Q : State → Prop} {cc : ByteArray} {nL pc : Nat} {ls : Array Slot} {rest : List Value} {γ : wx_G} {A : Nat → Prop} {o : Nat} {ad : Nat → Nat} {η : cx_H} {θ : cx_T} {τ : va_W} {f : xF} {g : xG} {v1 : Int32} {v2 : Int32} {z : Int32 × xF × xG} (G : cx_ok γ) (T : tx_ok γ o ad θ (hr γ o ad η ++ τ)) (C : CallFix p m c cc nL s as lw_all RX0) (K : wx_C γ A s) (w : wx_w γ A s H locs (cw γ o ad f g (hr γ o ad η ++ τ))) (hF : pX0_pushesSome η θ f g v1 v2 = some z) (hls : ls.size = nL) (hR : rmX0_pushesSome.frames + 1 ≤ R.frames ∧ 8 + (4 + 11) + rmX0_pushesSome.locals ≤ R.locals) (hW : (rest.map fun v => v.category).sum ≤ 8) (d : decode cc pc = .ok (.invokevirtual 437, 3)) (kk : ∀ (H : Heap) (locs : List Loc), wx_w γ A s H locs (cw γ o ad z.2.1 z.2.2 (hr γ o ad η ++ τ)) → W p l e R s m as below meth c H locs cells slots Q (F0 m (pc + 3) ls (.int z.1 :: rest))) (hf : cells ≤ R.cells ∧ slots ≤ R.slots := by exact ⟨Nat.le_of_ble_eq_true rfl, Nat.le_of_ble_eq_true rfl⟩) : W p l e R s m as below meth c H locs cells slots Q (F0 m pc ls (.int v2 :: .ref (had η v1) :: .ref o :: rest)) :=
  wx_callV (n := 2) C K w (mX0_pushesSome (l := l) G T hF) q1050 q1052 qs39 q106 q1053 rfl rfl (by decide +kernel) (va_recv K.1.1 w.1 (ci := 1) (q0 := 0) rfl rfl) rfl rfl hR hls hW hf d (fun v ws H1 locs1 hp w => by obtain ⟨rfl, rfl⟩ := hp; exact kk H1 locs1 w)

/-! WalkingStones.isCalled(LWalkingStones$How;I)Z -/
abbrev rmX0_isCalled : Room := { frames := 202, cells := 0, slots := 0, locals := 8048 }
def pX0_isCalled_72 (η : cx_H) (θ : cx_T) (f : xF) (g : xG) (t0 : Int32) : Option (Int32 × xF × xG) := if gbz t0 = true then some (t0, f, g) else none

def pX0_isCalled_47 (η : cx_H) (θ : cx_T) (f : xF) (g : xG) (v1 : Int32) (v2 : Int32) (v3 : Int32) : Option (Int32 × xF × xG) := if gk η v1 [0, 1, 2, 3, 4, 5] = true then (pX0_asks η θ f g (1 : Int32) v2 v3 (hnu η v1) (-2147483648 : Int32) (2147483647 : Int32)).bind (fun r61 => if r61.1 = 0 then pX0_isCalled_72 η θ r61.2.1 r61.2.2 (0 : Int32) else pX0_isCalled_72 η θ r61.2.1 r61.2.2 (1 : Int32)) else none

def pX0_isCalled_40 (η : cx_H) (θ : cx_T) (k5 : xF → xG → Int32 → Int32 → Int32 → Int32 → Option (Int32 × xF × xG)) (f : xF) (g : xG) (v1 : Int32) (v2 : Int32) (v4 : Int32) (t0 : Int32) : Option (Int32 × xF × xG) := k5 f g v1 v2 t0 (v4 + 1)

def pX0_isCalled_29 (η : cx_H) (θ : cx_T) (k5 : xF → xG → Int32 → Int32 → Int32 → Int32 → Option (Int32 × xF × xG)) (f : xF) (g : xG) (v1 : Int32) (v2 : Int32) (v4 : Int32) : Option (Int32 × xF × xG) := if gin v4 10 = true then pX0_isCalled_40 η θ k5 f g v1 v2 v4 (g 0 v4.toNatClampNeg) else none

def pX0_isCalled_5 (η : cx_H) (θ : cx_T) : Nat → xF → xG → Int32 → Int32 → Int32 → Int32 → Option (Int32 × xF × xG)
  | 0, _, _, _, _, _, _ => none
  | n + 1, f, g, v1, v2, v3, v4 => if (f 2) ≤ v4 then pX0_isCalled_47 η θ f g v1 v2 v3 else (if v3 = 0 then pX0_isCalled_29 η θ (pX0_isCalled_5 η θ n) f g v1 v2 v4 else (if gin v4 10 = true then if v3 ≤ (g 0 v4.toNatClampNeg) then pX0_isCalled_40 η θ (pX0_isCalled_5 η θ n) f g v1 v2 v4 v3 else pX0_isCalled_29 η θ (pX0_isCalled_5 η θ n) f g v1 v2 v4 else none))

def pX0_isCalled_0 (η : cx_H) (θ : cx_T) (f : xF) (g : xG) (v1 : Int32) (v2 : Int32) : Option (Int32 × xF × xG) := pX0_isCalled_5 η θ 5000 f g v1 v2 (0 : Int32) (0 : Int32)

abbrev pX0_isCalled (η : cx_H) (θ : cx_T) (f : xF) (g : xG) (v1 : Int32) (v2 : Int32) : Option (Int32 × xF × xG) := pX0_isCalled_0 η θ f g v1 v2
theorem bX0_isCalled_72 {p : Program} {l : Launch} {e : Env} {s : State} {m : MethodId} {as : Array Value} {below : List Frame} {meth : Method} {c : Code} {A : Nat → Prop} {Q : State → Prop} {γ : wx_G} {o : Nat} {ad : Nat → Nat} {η : cx_H} {θ : cx_T} {τ : va_W} {z : Int32 × xF × xG} (G : cx_ok γ) (T : tx_ok γ o ad θ (hr γ o ad η ++ τ)) (C : CallFix p m c cX0_isCalled 5 s as lw_all RX0) (K : wx_C γ A s) (E : ∀ (H : Heap) (locs : List Loc) (ls : Array Slot) (pc : Nat), narrow .boolean (.int z.1) = .int z.1 → wx_w γ A s H locs (cw γ o ad z.2.1 z.2.2 (hr γ o ad η ++ τ)) → decode cX0_isCalled pc = .ok (.ireturn, 1) → W p l e rmX0_isCalled s m as below meth c H locs 0 0 Q (F0 m pc ls [.int z.1])) {f : xF} {g : xG} {t0 : Int32} {H : Heap} {locs : List Loc} {ls : Array Slot} (w : wx_w γ A s H locs (cw γ o ad f g (hr γ o ad η ++ τ))) (hl : lv_has ls 5 []) (hF : pX0_isCalled_72 η θ f g t0 = some z) : W p l e rmX0_isCalled s m as below meth c H locs 0 0 Q (F0 m 72 ls [.int t0]) := by
  have hx := C.1
  have hb := C.2.1
  unfold pX0_isCalled_72 at hF
  obtain ⟨hz, hF⟩ := gbz_if hF
  have hF := Option.some.inj hF
  subst hF
  exact E _ _ _ _ hz w dX0_isCalled_72

theorem bX0_isCalled_47 {p : Program} {l : Launch} {e : Env} {s : State} {m : MethodId} {as : Array Value} {below : List Frame} {meth : Method} {c : Code} {A : Nat → Prop} {Q : State → Prop} {γ : wx_G} {o : Nat} {ad : Nat → Nat} {η : cx_H} {θ : cx_T} {τ : va_W} {z : Int32 × xF × xG} (G : cx_ok γ) (T : tx_ok γ o ad θ (hr γ o ad η ++ τ)) (C : CallFix p m c cX0_isCalled 5 s as lw_all RX0) (K : wx_C γ A s) (E : ∀ (H : Heap) (locs : List Loc) (ls : Array Slot) (pc : Nat), narrow .boolean (.int z.1) = .int z.1 → wx_w γ A s H locs (cw γ o ad z.2.1 z.2.2 (hr γ o ad η ++ τ)) → decode cX0_isCalled pc = .ok (.ireturn, 1) → W p l e rmX0_isCalled s m as below meth c H locs 0 0 Q (F0 m pc ls [.int z.1])) {f : xF} {g : xG} {v1 : Int32} {v2 : Int32} {v3 : Int32} {H : Heap} {locs : List Loc} {ls : Array Slot} (w : wx_w γ A s H locs (cw γ o ad f g (hr γ o ad η ++ τ))) (hl : lv_has ls 5 [(0, .ref o), (1, .ref (had η v1)), (2, .int v2), (3, .int v3)]) (hF : pX0_isCalled_47 η θ f g v1 v2 v3 = some z) : W p l e rmX0_isCalled s m as below meth c H locs 0 0 Q (F0 m 47 ls []) := by
  have hx := C.1
  have hb := C.2.1
  unfold pX0_isCalled_47 at hF
  refine lv_aload_n hx hb dX0_isCalled_47 rfl (lv_at hl 0 rfl) ?_
  refine lv_iconst (v := (1 : Int32)) hx hb dX0_isCalled_48 (by decide) ?_
  refine lv_iload_n hx hb dX0_isCalled_49 rfl (lv_at hl 2 rfl) ?_
  refine lv_iload_n hx hb dX0_isCalled_50 rfl (lv_at hl 3 rfl) ?_
  refine lv_aload_n hx hb dX0_isCalled_51 rfl (lv_at hl 1 rfl) ?_
  obtain ⟨hg, hF⟩ := gk_if hF
  refine hn_X0 C K w hg dX0_isCalled_52 ?_
  refine lv_ldcw (v := (-2147483648 : Int32)) hx hb C.2.2.2.1 (C.2.2.2.2 _ q1058) dX0_isCalled_55 ?_
  refine lv_ldcw (v := (2147483647 : Int32)) hx hb C.2.2.2.1 (C.2.2.2.2 _ q1059) dX0_isCalled_58 ?_
  obtain ⟨r61, hr, hF⟩ := obd hF
  refine rX0_asks G T C K w hr hl.1 ⟨Nat.le_of_ble_eq_true rfl, Nat.le_of_ble_eq_true rfl⟩ (Nat.le_of_ble_eq_true rfl) dX0_isCalled_61 (fun H locs w => ?_)
  refine lv_if_eq (tgt := 71) hx hb dX0_isCalled_64 (by decide) (fun c => ?_) (fun c => ?_)
  · have hF := (if_pos c).symm.trans hF
    refine lv_iconst (v := (0 : Int32)) hx hb dX0_isCalled_71 (by decide) ?_
    exact bX0_isCalled_72 G T C K E w (lv_sub hl [] rfl) hF
  · have hF := (if_neg c).symm.trans hF
    refine lv_iconst (v := (1 : Int32)) hx hb dX0_isCalled_67 (by decide) ?_
    refine lv_goto (tgt := 72) hx hb dX0_isCalled_68 (by decide) ?_
    exact bX0_isCalled_72 G T C K E w (lv_sub hl [] rfl) hF

theorem bX0_isCalled_40 {p : Program} {l : Launch} {e : Env} {s : State} {m : MethodId} {as : Array Value} {below : List Frame} {meth : Method} {c : Code} {A : Nat → Prop} {Q : State → Prop} {γ : wx_G} {o : Nat} {ad : Nat → Nat} {η : cx_H} {θ : cx_T} {τ : va_W} {z : Int32 × xF × xG} (G : cx_ok γ) (T : tx_ok γ o ad θ (hr γ o ad η ++ τ)) (C : CallFix p m c cX0_isCalled 5 s as lw_all RX0) (K : wx_C γ A s) (E : ∀ (H : Heap) (locs : List Loc) (ls : Array Slot) (pc : Nat), narrow .boolean (.int z.1) = .int z.1 → wx_w γ A s H locs (cw γ o ad z.2.1 z.2.2 (hr γ o ad η ++ τ)) → decode cX0_isCalled pc = .ok (.ireturn, 1) → W p l e rmX0_isCalled s m as below meth c H locs 0 0 Q (F0 m pc ls [.int z.1])) {k5 : xF → xG → Int32 → Int32 → Int32 → Int32 → Option (Int32 × xF × xG)} (hk5 : ∀ (f : xF) (g : xG) (v1 : Int32) (v2 : Int32) (v3 : Int32) (v4 : Int32) (H : Heap) (locs : List Loc) (ls : Array Slot), k5 f g v1 v2 v3 v4 = some z → wx_w γ A s H locs (cw γ o ad f g (hr γ o ad η ++ τ)) → lv_has ls 5 [(0, .ref o), (1, .ref (had η v1)), (2, .int v2), (3, .int v3), (4, .int v4)] → W p l e rmX0_isCalled s m as below meth c H locs 0 0 Q (F0 m 5 ls [])) {f : xF} {g : xG} {v1 : Int32} {v2 : Int32} {v4 : Int32} {t0 : Int32} {H : Heap} {locs : List Loc} {ls : Array Slot} (w : wx_w γ A s H locs (cw γ o ad f g (hr γ o ad η ++ τ))) (hl : lv_has ls 5 [(0, .ref o), (1, .ref (had η v1)), (2, .int v2), (4, .int v4)]) (hF : pX0_isCalled_40 η θ k5 f g v1 v2 v4 t0 = some z) : W p l e rmX0_isCalled s m as below meth c H locs 0 0 Q (F0 m 40 ls [.int t0]) := by
  have hx := C.1
  have hb := C.2.1
  unfold pX0_isCalled_40 at hF
  refine lv_istore_n (lv' := [(3, .int t0), (0, .ref o), (1, .ref (had η v1)), (2, .int v2), (4, .int v4)]) hx hb dX0_isCalled_40 rfl hl (by decide) rfl (fun ls hl => ?_)
  refine lv_iinc (v := v4 + 1) (lv' := [(4, .int (v4 + 1)), (3, .int t0), (0, .ref o), (1, .ref (had η v1)), (2, .int v2)]) hx hb dX0_isCalled_41 hl (k := 4) rfl rfl (by decide) rfl (fun ls hl => ?_)
  refine lv_goto (tgt := 5) hx hb dX0_isCalled_44 (by decide) ?_
  exact hk5 _ _ _ _ _ _ _ _ _ hF w (lv_sub hl [2, 3, 4, 1, 0] rfl)

theorem bX0_isCalled_29 {p : Program} {l : Launch} {e : Env} {s : State} {m : MethodId} {as : Array Value} {below : List Frame} {meth : Method} {c : Code} {A : Nat → Prop} {Q : State → Prop} {γ : wx_G} {o : Nat} {ad : Nat → Nat} {η : cx_H} {θ : cx_T} {τ : va_W} {z : Int32 × xF × xG} (G : cx_ok γ) (T : tx_ok γ o ad θ (hr γ o ad η ++ τ)) (C : CallFix p m c cX0_isCalled 5 s as lw_all RX0) (K : wx_C γ A s) (E : ∀ (H : Heap) (locs : List Loc) (ls : Array Slot) (pc : Nat), narrow .boolean (.int z.1) = .int z.1 → wx_w γ A s H locs (cw γ o ad z.2.1 z.2.2 (hr γ o ad η ++ τ)) → decode cX0_isCalled pc = .ok (.ireturn, 1) → W p l e rmX0_isCalled s m as below meth c H locs 0 0 Q (F0 m pc ls [.int z.1])) {k5 : xF → xG → Int32 → Int32 → Int32 → Int32 → Option (Int32 × xF × xG)} (hk5 : ∀ (f : xF) (g : xG) (v1 : Int32) (v2 : Int32) (v3 : Int32) (v4 : Int32) (H : Heap) (locs : List Loc) (ls : Array Slot), k5 f g v1 v2 v3 v4 = some z → wx_w γ A s H locs (cw γ o ad f g (hr γ o ad η ++ τ)) → lv_has ls 5 [(0, .ref o), (1, .ref (had η v1)), (2, .int v2), (3, .int v3), (4, .int v4)] → W p l e rmX0_isCalled s m as below meth c H locs 0 0 Q (F0 m 5 ls [])) {f : xF} {g : xG} {v1 : Int32} {v2 : Int32} {v4 : Int32} {H : Heap} {locs : List Loc} {ls : Array Slot} (w : wx_w γ A s H locs (cw γ o ad f g (hr γ o ad η ++ τ))) (hl : lv_has ls 5 [(0, .ref o), (1, .ref (had η v1)), (2, .int v2), (4, .int v4)]) (hF : pX0_isCalled_29 η θ k5 f g v1 v2 v4 = some z) : W p l e rmX0_isCalled s m as below meth c H locs 0 0 Q (F0 m 29 ls []) := by
  have hx := C.1
  have hb := C.2.1
  unfold pX0_isCalled_29 at hF
  refine lv_aload_n hx hb dX0_isCalled_29 rfl (lv_at hl 0 rfl) ?_
  refine cget_0 C K w dX0_isCalled_30 ?_
  refine lv_iload hx hb dX0_isCalled_33 (lv_at hl 3 rfl) ?_
  obtain ⟨hi, hF⟩ := gin_if hF
  refine cald_0 C K w hi dX0_isCalled_35 ?_
  refine lv_goto (tgt := 40) hx hb dX0_isCalled_36 (by decide) ?_
  exact bX0_isCalled_40 G T C K E hk5 w hl hF

theorem bX0_isCalled_5 {p : Program} {l : Launch} {e : Env} {s : State} {m : MethodId} {as : Array Value} {below : List Frame} {meth : Method} {c : Code} {A : Nat → Prop} {Q : State → Prop} {γ : wx_G} {o : Nat} {ad : Nat → Nat} {η : cx_H} {θ : cx_T} {τ : va_W} {z : Int32 × xF × xG} (G : cx_ok γ) (T : tx_ok γ o ad θ (hr γ o ad η ++ τ)) (C : CallFix p m c cX0_isCalled 5 s as lw_all RX0) (K : wx_C γ A s) (E : ∀ (H : Heap) (locs : List Loc) (ls : Array Slot) (pc : Nat), narrow .boolean (.int z.1) = .int z.1 → wx_w γ A s H locs (cw γ o ad z.2.1 z.2.2 (hr γ o ad η ++ τ)) → decode cX0_isCalled pc = .ok (.ireturn, 1) → W p l e rmX0_isCalled s m as below meth c H locs 0 0 Q (F0 m pc ls [.int z.1])) : ∀ (n : Nat) (f : xF) (g : xG) (v1 : Int32) (v2 : Int32) (v3 : Int32) (v4 : Int32) (H : Heap) (locs : List Loc) (ls : Array Slot), pX0_isCalled_5 η θ n f g v1 v2 v3 v4 = some z → wx_w γ A s H locs (cw γ o ad f g (hr γ o ad η ++ τ)) → lv_has ls 5 [(0, .ref o), (1, .ref (had η v1)), (2, .int v2), (3, .int v3), (4, .int v4)] → W p l e rmX0_isCalled s m as below meth c H locs 0 0 Q (F0 m 5 ls []) := by
  have hx := C.1
  have hb := C.2.1
  intro n
  induction n with
  | zero =>
    intro f g v1 v2 v3 v4 H locs ls hF w hl
    have hF : (none : Option (Int32 × xF × xG)) = some z := hF
    cases hF
  | succ n ih =>
    intro f g v1 v2 v3 v4 H locs ls hF w hl
    rw [pX0_isCalled_5] at hF
    refine lv_iload hx hb dX0_isCalled_5 (lv_at hl 4 rfl) ?_
    refine lv_aload_n hx hb dX0_isCalled_7 rfl (lv_at hl 0 rfl) ?_
    refine cget_2 C K w dX0_isCalled_8 ?_
    refine lv_icmp_ge (tgt := 47) hx hb dX0_isCalled_11 (by decide) (fun c => ?_) (fun c => ?_)
    · have hF := (if_pos c).symm.trans hF
      exact bX0_isCalled_47 G T C K E w (lv_sub hl [0, 1, 2, 3] rfl) hF
    · have hF := (if_neg c).symm.trans hF
      refine lv_iload_n hx hb dX0_isCalled_14 rfl (lv_at hl 3 rfl) ?_
      refine lv_if_eq (tgt := 29) hx hb dX0_isCalled_15 (by decide) (fun c => ?_) (fun c => ?_)
      · have hF := (if_pos c).symm.trans hF
        exact bX0_isCalled_29 G T C K E ih w (lv_sub hl [0, 1, 2, 4] rfl) hF
      · have hF := (if_neg c).symm.trans hF
        refine lv_aload_n hx hb dX0_isCalled_18 rfl (lv_at hl 0 rfl) ?_
        refine cget_0 C K w dX0_isCalled_19 ?_
        refine lv_iload hx hb dX0_isCalled_22 (lv_at hl 4 rfl) ?_
        obtain ⟨hi, hF⟩ := gin_if hF
        refine cald_0 C K w hi dX0_isCalled_24 ?_
        refine lv_iload_n hx hb dX0_isCalled_25 rfl (lv_at hl 3 rfl) ?_
        refine lv_icmp_ge (tgt := 39) hx hb dX0_isCalled_26 (by decide) (fun c => ?_) (fun c => ?_)
        · have hF := (if_pos c).symm.trans hF
          refine lv_iload_n hx hb dX0_isCalled_39 rfl (lv_at hl 3 rfl) ?_
          exact bX0_isCalled_40 G T C K E ih w (lv_sub hl [0, 1, 2, 4] rfl) hF
        · have hF := (if_neg c).symm.trans hF
          exact bX0_isCalled_29 G T C K E ih w (lv_sub hl [0, 1, 2, 4] rfl) hF

theorem bX0_isCalled_0 {p : Program} {l : Launch} {e : Env} {s : State} {m : MethodId} {as : Array Value} {below : List Frame} {meth : Method} {c : Code} {A : Nat → Prop} {Q : State → Prop} {γ : wx_G} {o : Nat} {ad : Nat → Nat} {η : cx_H} {θ : cx_T} {τ : va_W} {z : Int32 × xF × xG} (G : cx_ok γ) (T : tx_ok γ o ad θ (hr γ o ad η ++ τ)) (C : CallFix p m c cX0_isCalled 5 s as lw_all RX0) (K : wx_C γ A s) (E : ∀ (H : Heap) (locs : List Loc) (ls : Array Slot) (pc : Nat), narrow .boolean (.int z.1) = .int z.1 → wx_w γ A s H locs (cw γ o ad z.2.1 z.2.2 (hr γ o ad η ++ τ)) → decode cX0_isCalled pc = .ok (.ireturn, 1) → W p l e rmX0_isCalled s m as below meth c H locs 0 0 Q (F0 m pc ls [.int z.1])) {f : xF} {g : xG} {v1 : Int32} {v2 : Int32} {H : Heap} {locs : List Loc} {ls : Array Slot} (w : wx_w γ A s H locs (cw γ o ad f g (hr γ o ad η ++ τ))) (hl : lv_has ls 5 [(0, .ref o), (1, .ref (had η v1)), (2, .int v2)]) (hF : pX0_isCalled_0 η θ f g v1 v2 = some z) : W p l e rmX0_isCalled s m as below meth c H locs 0 0 Q (F0 m 0 ls []) := by
  have hx := C.1
  have hb := C.2.1
  unfold pX0_isCalled_0 at hF
  refine lv_iconst (v := (0 : Int32)) hx hb dX0_isCalled_0 (by decide) ?_
  refine lv_istore_n (lv' := [(3, .int (0 : Int32)), (0, .ref o), (1, .ref (had η v1)), (2, .int v2)]) hx hb dX0_isCalled_1 rfl hl (by decide) rfl (fun ls hl => ?_)
  refine lv_iconst (v := (0 : Int32)) hx hb dX0_isCalled_2 (by decide) ?_
  refine lv_istore (lv' := [(4, .int (0 : Int32)), (3, .int (0 : Int32)), (0, .ref o), (1, .ref (had η v1)), (2, .int v2)]) hx hb dX0_isCalled_3 hl (by decide) rfl (fun ls hl => ?_)
  exact bX0_isCalled_5 G T C K E 5000 _ _ _ _ _ _ _ _ _ hF w (lv_sub hl [2, 3, 4, 1, 0] rfl)

theorem mX0_isCalled {l : Launch} {γ : wx_G} {o : Nat} {ad : Nat → Nat} {η : cx_H} {θ : cx_T} {τ : va_W} {f : xF} {g : xG} {v1 : Int32} {v2 : Int32} {z : Int32 × xF × xG} (G : cx_ok γ) (T : tx_ok γ o ad θ (hr γ o ad η ++ τ)) (hF : pX0_isCalled η θ f g v1 v2 = some z) : wx_M γ l yX0_isCalled (ws_ yX0_isCalled cX0_isCalled 5 (some .boolean)) rmX0_isCalled [.ref o, .ref (had η v1), .int v2] (cw γ o ad f g (hr γ o ad η ++ τ)) (fun v ws => v = some (.int z.1) ∧ ws = (cw γ o ad z.2.1 z.2.2 (hr γ o ad η ++ τ))) 0 0 := by
  refine wx_M.of (by decide) (Nat.le_of_ble_eq_true rfl) ?_
  intro p e s m as below meth c A ls C K w hr hlocks _ hl
  exact bX0_isCalled_0 G T C K (fun H locs ls pc hz w d => wx_zret C hr hlocks hz w ⟨rfl, rfl⟩ d) w hl hF
theorem rX0_isCalled {p : Program} {l : Launch} {e : Env} {R : Room} {s : State} {m : MethodId} {as : Array Value} {below : List Frame} {meth : Method} {c : Code} {H : Heap} {locs : List Loc} {cells slots : Nat} {Q : State → Prop} {cc : ByteArray} {nL pc : Nat} {ls : Array Slot} {rest : List Value} {γ : wx_G} {A : Nat → Prop} {o : Nat} {ad : Nat → Nat} {η : cx_H} {θ : cx_T} {τ : va_W} {f : xF} {g : xG} {v1 : Int32} {v2 : Int32} {z : Int32 × xF × xG} (G : cx_ok γ) (T : tx_ok γ o ad θ (hr γ o ad η ++ τ)) (C : CallFix p m c cc nL s as lw_all RX0) (K : wx_C γ A s) (w : wx_w γ A s H locs (cw γ o ad f g (hr γ o ad η ++ τ))) (hF : pX0_isCalled η θ f g v1 v2 = some z) (hls : ls.size = nL) (hR : rmX0_isCalled.frames + 1 ≤ R.frames ∧ 8 + (5 + 11) + rmX0_isCalled.locals ≤ R.locals) (hW : (rest.map fun v => v.category).sum ≤ 8) (d : decode cc pc = .ok (.invokevirtual 441, 3)) (kk : ∀ (H : Heap) (locs : List Loc), wx_w γ A s H locs (cw γ o ad z.2.1 z.2.2 (hr γ o ad η ++ τ)) → W p l e R s m as below meth c H locs cells slots Q (F0 m (pc + 3) ls (.int z.1 :: rest))) (hf : cells ≤ R.cells ∧ slots ≤ R.slots := by exact ⟨Nat.le_of_ble_eq_true rfl, Nat.le_of_ble_eq_true rfl⟩) : W p l e R s m as below meth c H locs cells slots Q (F0 m pc ls (.int v2 :: .ref (had η v1) :: .ref o :: rest)) :=
  wx_callV (n := 2) C K w (mX0_isCalled (l := l) G T hF) q1054 q1056 qs40 q106 q1057 rfl rfl (by decide +kernel) (va_recv K.1.1 w.1 (ci := 1) (q0 := 0) rfl rfl) rfl rfl hR hls hW hf d (fun v ws H1 locs1 hp w => by obtain ⟨rfl, rfl⟩ := hp; exact kk H1 locs1 w)

/-! WalkingStones.longest(LWalkingStones$How;)I -/
abbrev rmX0_longest : Room := { frames := 205, cells := 0, slots := 0, locals := 8146 }
def pX0_longest_33 (η : cx_H) (θ : cx_T) (k7 : xF → xG → Int32 → Int32 → Int32 → Int32 → Option (Int32 × xF × xG)) (f : xF) (g : xG) (v1 : Int32) (v2 : Int32) (v4 : Int32) (t0 : Int32) : Option (Int32 × xF × xG) := k7 f g v1 (wmax v2 t0) t0 (v4 + 1)

def pX0_longest_7 (η : cx_H) (θ : cx_T) : Nat → xF → xG → Int32 → Int32 → Int32 → Int32 → Option (Int32 × xF × xG)
  | 0, _, _, _, _, _, _ => none
  | n + 1, f, g, v1, v2, v3, v4 => if (f 7) ≤ v4 then some (v2, f, g) else (pX0_pushesSome η θ f g v1 v4).bind (fun r20 => if r20.1 = 0 then pX0_longest_33 η θ (pX0_longest_7 η θ n) r20.2.1 r20.2.2 v1 v2 v4 (v3 + (1 : Int32)) else pX0_longest_33 η θ (pX0_longest_7 η θ n) r20.2.1 r20.2.2 v1 v2 v4 (0 : Int32))

def pX0_longest_0 (η : cx_H) (θ : cx_T) (f : xF) (g : xG) (v1 : Int32) : Option (Int32 × xF × xG) := pX0_longest_7 η θ 5000 f g v1 (0 : Int32) (0 : Int32) (0 : Int32)

abbrev pX0_longest (η : cx_H) (θ : cx_T) (f : xF) (g : xG) (v1 : Int32) : Option (Int32 × xF × xG) := pX0_longest_0 η θ f g v1
theorem bX0_longest_33 {p : Program} {l : Launch} {e : Env} {s : State} {m : MethodId} {as : Array Value} {below : List Frame} {meth : Method} {c : Code} {A : Nat → Prop} {Q : State → Prop} {γ : wx_G} {o : Nat} {ad : Nat → Nat} {η : cx_H} {θ : cx_T} {τ : va_W} {z : Int32 × xF × xG} (G : cx_ok γ) (T : tx_ok γ o ad θ (hr γ o ad η ++ τ)) (C : CallFix p m c cX0_longest 5 s as lw_all RX0) (K : wx_C γ A s) (E : ∀ (H : Heap) (locs : List Loc) (ls : Array Slot) (pc : Nat), wx_w γ A s H locs (cw γ o ad z.2.1 z.2.2 (hr γ o ad η ++ τ)) → decode cX0_longest pc = .ok (.ireturn, 1) → W p l e rmX0_longest s m as below meth c H locs 0 0 Q (F0 m pc ls [.int z.1])) {k7 : xF → xG → Int32 → Int32 → Int32 → Int32 → Option (Int32 × xF × xG)} (hk7 : ∀ (f : xF) (g : xG) (v1 : Int32) (v2 : Int32) (v3 : Int32) (v4 : Int32) (H : Heap) (locs : List Loc) (ls : Array Slot), k7 f g v1 v2 v3 v4 = some z → wx_w γ A s H locs (cw γ o ad f g (hr γ o ad η ++ τ)) → lv_has ls 5 [(0, .ref o), (1, .ref (had η v1)), (2, .int v2), (3, .int v3), (4, .int v4)] → W p l e rmX0_longest s m as below meth c H locs 0 0 Q (F0 m 7 ls [])) {f : xF} {g : xG} {v1 : Int32} {v2 : Int32} {v4 : Int32} {t0 : Int32} {H : Heap} {locs : List Loc} {ls : Array Slot} (w : wx_w γ A s H locs (cw γ o ad f g (hr γ o ad η ++ τ))) (hl : lv_has ls 5 [(0, .ref o), (1, .ref (had η v1)), (2, .int v2), (4, .int v4)]) (hF : pX0_longest_33 η θ k7 f g v1 v2 v4 t0 = some z) : W p l e rmX0_longest s m as below meth c H locs 0 0 Q (F0 m 33 ls [.int t0]) := by
  have hx := C.1
  have hb := C.2.1
  unfold pX0_longest_33 at hF
  refine lv_istore_n (lv' := [(3, .int t0), (0, .ref o), (1, .ref (had η v1)), (2, .int v2), (4, .int v4)]) hx hb dX0_longest_33 rfl hl (by decide) rfl (fun ls hl => ?_)
  refine lv_iload_n hx hb dX0_longest_34 rfl (lv_at hl 3 rfl) ?_
  refine lv_iload_n hx hb dX0_longest_35 rfl (lv_at hl 0 rfl) ?_
  refine cmax C hl.1 (Nat.le_of_ble_eq_true rfl) (Nat.le_of_ble_eq_true rfl) (Nat.le_of_ble_eq_true rfl) (Nat.le_of_ble_eq_true rfl) dX0_longest_36 ?_
  refine lv_istore_n (lv' := [(2, .int (wmax v2 t0)), (3, .int t0), (0, .ref o), (1, .ref (had η v1)), (4, .int v4)]) hx hb dX0_longest_39 rfl hl (by decide) rfl (fun ls hl => ?_)
  refine lv_iinc (v := v4 + 1) (lv' := [(4, .int (v4 + 1)), (2, .int (wmax v2 t0)), (3, .int t0), (0, .ref o), (1, .ref (had η v1))]) hx hb dX0_longest_40 hl (k := 4) rfl rfl (by decide) rfl (fun ls hl => ?_)
  refine lv_goto (tgt := 7) hx hb dX0_longest_43 (by decide) ?_
  exact hk7 _ _ _ _ _ _ _ _ _ hF w (lv_sub hl [3, 4, 1, 2, 0] rfl)

theorem bX0_longest_7 {p : Program} {l : Launch} {e : Env} {s : State} {m : MethodId} {as : Array Value} {below : List Frame} {meth : Method} {c : Code} {A : Nat → Prop} {Q : State → Prop} {γ : wx_G} {o : Nat} {ad : Nat → Nat} {η : cx_H} {θ : cx_T} {τ : va_W} {z : Int32 × xF × xG} (G : cx_ok γ) (T : tx_ok γ o ad θ (hr γ o ad η ++ τ)) (C : CallFix p m c cX0_longest 5 s as lw_all RX0) (K : wx_C γ A s) (E : ∀ (H : Heap) (locs : List Loc) (ls : Array Slot) (pc : Nat), wx_w γ A s H locs (cw γ o ad z.2.1 z.2.2 (hr γ o ad η ++ τ)) → decode cX0_longest pc = .ok (.ireturn, 1) → W p l e rmX0_longest s m as below meth c H locs 0 0 Q (F0 m pc ls [.int z.1])) : ∀ (n : Nat) (f : xF) (g : xG) (v1 : Int32) (v2 : Int32) (v3 : Int32) (v4 : Int32) (H : Heap) (locs : List Loc) (ls : Array Slot), pX0_longest_7 η θ n f g v1 v2 v3 v4 = some z → wx_w γ A s H locs (cw γ o ad f g (hr γ o ad η ++ τ)) → lv_has ls 5 [(0, .ref o), (1, .ref (had η v1)), (2, .int v2), (3, .int v3), (4, .int v4)] → W p l e rmX0_longest s m as below meth c H locs 0 0 Q (F0 m 7 ls []) := by
  have hx := C.1
  have hb := C.2.1
  intro n
  induction n with
  | zero =>
    intro f g v1 v2 v3 v4 H locs ls hF w hl
    have hF : (none : Option (Int32 × xF × xG)) = some z := hF
    cases hF
  | succ n ih =>
    intro f g v1 v2 v3 v4 H locs ls hF w hl
    rw [pX0_longest_7] at hF
    refine lv_iload hx hb dX0_longest_7 (lv_at hl 4 rfl) ?_
    refine lv_aload_n hx hb dX0_longest_9 rfl (lv_at hl 0 rfl) ?_
    refine cget_7 C K w dX0_longest_10 ?_
    refine lv_icmp_ge (tgt := 46) hx hb dX0_longest_13 (by decide) (fun c => ?_) (fun c => ?_)
    · have hF := (if_pos c).symm.trans hF
      refine lv_iload_n hx hb dX0_longest_46 rfl (lv_at hl 2 rfl) ?_
      have hF := Option.some.inj hF
      subst hF
      exact E _ _ _ _ w dX0_longest_47
    · have hF := (if_neg c).symm.trans hF
      refine lv_aload_n hx hb dX0_longest_16 rfl (lv_at hl 0 rfl) ?_
      refine lv_aload_n hx hb dX0_longest_17 rfl (lv_at hl 1 rfl) ?_
      refine lv_iload hx hb dX0_longest_18 (lv_at hl 4 rfl) ?_
      obtain ⟨r20, hr, hF⟩ := obd hF
      refine rX0_pushesSome G T C K w hr hl.1 ⟨Nat.le_of_ble_eq_true rfl, Nat.le_of_ble_eq_true rfl⟩ (Nat.le_of_ble_eq_true rfl) dX0_longest_20 (fun H locs w => ?_)
      refine lv_if_eq (tgt := 30) hx hb dX0_longest_23 (by decide) (fun c => ?_) (fun c => ?_)
      · have hF := (if_pos c).symm.trans hF
        refine lv_iload_n hx hb dX0_longest_30 rfl (lv_at hl 3 rfl) ?_
        refine lv_iconst (v := (1 : Int32)) hx hb dX0_longest_31 (by decide) ?_
        refine lv_iadd hx hb dX0_longest_32 ?_
        exact bX0_longest_33 G T C K E ih w (lv_sub hl [0, 1, 2, 4] rfl) hF
      · have hF := (if_neg c).symm.trans hF
        refine lv_iconst (v := (0 : Int32)) hx hb dX0_longest_26 (by decide) ?_
        refine lv_goto (tgt := 33) hx hb dX0_longest_27 (by decide) ?_
        exact bX0_longest_33 G T C K E ih w (lv_sub hl [0, 1, 2, 4] rfl) hF

theorem bX0_longest_0 {p : Program} {l : Launch} {e : Env} {s : State} {m : MethodId} {as : Array Value} {below : List Frame} {meth : Method} {c : Code} {A : Nat → Prop} {Q : State → Prop} {γ : wx_G} {o : Nat} {ad : Nat → Nat} {η : cx_H} {θ : cx_T} {τ : va_W} {z : Int32 × xF × xG} (G : cx_ok γ) (T : tx_ok γ o ad θ (hr γ o ad η ++ τ)) (C : CallFix p m c cX0_longest 5 s as lw_all RX0) (K : wx_C γ A s) (E : ∀ (H : Heap) (locs : List Loc) (ls : Array Slot) (pc : Nat), wx_w γ A s H locs (cw γ o ad z.2.1 z.2.2 (hr γ o ad η ++ τ)) → decode cX0_longest pc = .ok (.ireturn, 1) → W p l e rmX0_longest s m as below meth c H locs 0 0 Q (F0 m pc ls [.int z.1])) {f : xF} {g : xG} {v1 : Int32} {H : Heap} {locs : List Loc} {ls : Array Slot} (w : wx_w γ A s H locs (cw γ o ad f g (hr γ o ad η ++ τ))) (hl : lv_has ls 5 [(0, .ref o), (1, .ref (had η v1))]) (hF : pX0_longest_0 η θ f g v1 = some z) : W p l e rmX0_longest s m as below meth c H locs 0 0 Q (F0 m 0 ls []) := by
  have hx := C.1
  have hb := C.2.1
  unfold pX0_longest_0 at hF
  refine lv_iconst (v := (0 : Int32)) hx hb dX0_longest_0 (by decide) ?_
  refine lv_istore_n (lv' := [(2, .int (0 : Int32)), (0, .ref o), (1, .ref (had η v1))]) hx hb dX0_longest_1 rfl hl (by decide) rfl (fun ls hl => ?_)
  refine lv_iconst (v := (0 : Int32)) hx hb dX0_longest_2 (by decide) ?_
  refine lv_istore_n (lv' := [(3, .int (0 : Int32)), (2, .int (0 : Int32)), (0, .ref o), (1, .ref (had η v1))]) hx hb dX0_longest_3 rfl hl (by decide) rfl (fun ls hl => ?_)
  refine lv_iconst (v := (0 : Int32)) hx hb dX0_longest_4 (by decide) ?_
  refine lv_istore (lv' := [(4, .int (0 : Int32)), (3, .int (0 : Int32)), (2, .int (0 : Int32)), (0, .ref o), (1, .ref (had η v1))]) hx hb dX0_longest_5 hl (by decide) rfl (fun ls hl => ?_)
  exact bX0_longest_7 G T C K E 5000 _ _ _ _ _ _ _ _ _ hF w (lv_sub hl [3, 4, 2, 1, 0] rfl)

theorem mX0_longest {l : Launch} {γ : wx_G} {o : Nat} {ad : Nat → Nat} {η : cx_H} {θ : cx_T} {τ : va_W} {f : xF} {g : xG} {v1 : Int32} {z : Int32 × xF × xG} (G : cx_ok γ) (T : tx_ok γ o ad θ (hr γ o ad η ++ τ)) (hF : pX0_longest η θ f g v1 = some z) : wx_M γ l yX0_longest (ws_ yX0_longest cX0_longest 5 (some .int)) rmX0_longest [.ref o, .ref (had η v1)] (cw γ o ad f g (hr γ o ad η ++ τ)) (fun v ws => v = some (.int z.1) ∧ ws = (cw γ o ad z.2.1 z.2.2 (hr γ o ad η ++ τ))) 0 0 := by
  refine wx_M.of (by decide) (Nat.le_of_ble_eq_true rfl) ?_
  intro p e s m as below meth c A ls C K w hr hlocks _ hl
  exact bX0_longest_0 G T C K (fun H locs ls pc w d => wx_iret C hr hlocks w ⟨rfl, rfl⟩ d) w hl hF
theorem rX0_longest {p : Program} {l : Launch} {e : Env} {R : Room} {s : State} {m : MethodId} {as : Array Value} {below : List Frame} {meth : Method} {c : Code} {H : Heap} {locs : List Loc} {cells slots : Nat} {Q : State → Prop} {cc : ByteArray} {nL pc : Nat} {ls : Array Slot} {rest : List Value} {γ : wx_G} {A : Nat → Prop} {o : Nat} {ad : Nat → Nat} {η : cx_H} {θ : cx_T} {τ : va_W} {f : xF} {g : xG} {v1 : Int32} {z : Int32 × xF × xG} (G : cx_ok γ) (T : tx_ok γ o ad θ (hr γ o ad η ++ τ)) (C : CallFix p m c cc nL s as lw_all RX0) (K : wx_C γ A s) (w : wx_w γ A s H locs (cw γ o ad f g (hr γ o ad η ++ τ))) (hF : pX0_longest η θ f g v1 = some z) (hls : ls.size = nL) (hR : rmX0_longest.frames + 1 ≤ R.frames ∧ 8 + (5 + 11) + rmX0_longest.locals ≤ R.locals) (hW : (rest.map fun v => v.category).sum ≤ 8) (d : decode cc pc = .ok (.invokevirtual 444, 3)) (kk : ∀ (H : Heap) (locs : List Loc), wx_w γ A s H locs (cw γ o ad z.2.1 z.2.2 (hr γ o ad η ++ τ)) → W p l e R s m as below meth c H locs cells slots Q (F0 m (pc + 3) ls (.int z.1 :: rest))) (hf : cells ≤ R.cells ∧ slots ≤ R.slots := by exact ⟨Nat.le_of_ble_eq_true rfl, Nat.le_of_ble_eq_true rfl⟩) : W p l e R s m as below meth c H locs cells slots Q (F0 m pc ls (.ref (had η v1) :: .ref o :: rest)) :=
  wx_callV (n := 1) C K w (mX0_longest (l := l) G T hF) q1061 q1063 qs41 q106 q1064 rfl rfl (by decide +kernel) (va_recv K.1.1 w.1 (ci := 1) (q0 := 0) rfl rfl) rfl rfl hR hls hW hf d (fun v ws H1 locs1 hp w => by obtain ⟨rfl, rfl⟩ := hp; exact kk H1 locs1 w)

/-! WalkingStones.seldom(II)J -/
abbrev rmX0_seldom : Room := { frames := 206, cells := 0, slots := 0, locals := 8170 }
def pX0_seldom_20 (η : cx_H) (θ : cx_T) (f : xF) (g : xG) : Option (Int64 × xF × xG) := some ((-4611686018427387904 : Int64), f, g)

def pX0_seldom_197 (η : cx_H) (θ : cx_T) (f : xF) (g : xG) (t0 : Int64) : Option (Int64 × xF × xG) := some (t0, f, g)

def pX0_seldom_126 (η : cx_H) (θ : cx_T) (f : xF) (g : xG) (v2 : Int32) (v3 : Int32) (v4 : Int32) (v5 : Int32) (v6 : Int32) : Option (Int64 × xF × xG) := if v2 = (0 : Int32) then some (v4.toInt64, f, g) else if v2 = (1 : Int32) then (pX0_longest η θ f g v3).bind (fun r166 => some (r166.1.toInt64, r166.2.1, r166.2.2)) else if v2 = (2 : Int32) then (if v4 = 0 then pX0_seldom_197 η θ f g ((v2 - (2 : Int32)).toInt64) else (pX0_lowest f g ((f 7).toInt64) v4.toInt64 (v2 - (2 : Int32))).bind (fun r194 => pX0_seldom_197 η θ f g r194)) else if v2 = (3 : Int32) then (if v4 = 0 then pX0_seldom_197 η θ f g ((v2 - (2 : Int32)).toInt64) else (pX0_lowest f g ((f 7).toInt64) v4.toInt64 (v2 - (2 : Int32))).bind (fun r194 => pX0_seldom_197 η θ f g r194)) else if v2 = (4 : Int32) then some (v5.toInt64, f, g) else some (v6.toInt64, f, g)

def pX0_seldom_117 (η : cx_H) (θ : cx_T) (k43 : xF → xG → Int32 → Int32 → Int32 → Int32 → Int32 → Int32 → Option (Int64 × xF × xG)) (f : xF) (g : xG) (v2 : Int32) (v3 : Int32) (v4 : Int32) (v5 : Int32) (v7 : Int32) (t0 : Int32) (t1 : Int32) : Option (Int64 × xF × xG) := k43 f g v2 v3 v4 v5 (t0 + t1) (v7 + 1)

def pX0_seldom_116 (η : cx_H) (θ : cx_T) (k43 : xF → xG → Int32 → Int32 → Int32 → Int32 → Int32 → Int32 → Option (Int64 × xF × xG)) (f : xF) (g : xG) (v2 : Int32) (v3 : Int32) (v4 : Int32) (v5 : Int32) (v7 : Int32) (t0 : Int32) : Option (Int64 × xF × xG) := pX0_seldom_117 η θ k43 f g v2 v3 v4 v5 v7 t0 (0 : Int32)

def pX0_seldom_97 (η : cx_H) (θ : cx_T) (k43 : xF → xG → Int32 → Int32 → Int32 → Int32 → Int32 → Int32 → Option (Int64 × xF × xG)) (f : xF) (g : xG) (v2 : Int32) (v3 : Int32) (v4 : Int32) (v6 : Int32) (v7 : Int32) (v8 : Int32) (v9 : Int32) (t0 : Int32) (t1 : Int32) : Option (Int64 × xF × xG) := if v8 = 0 then pX0_seldom_116 η θ k43 f g v2 v3 v4 (t0 + t1) v7 v6 else (if v9 = 0 then pX0_seldom_116 η θ k43 f g v2 v3 v4 (t0 + t1) v7 v6 else pX0_seldom_117 η θ k43 f g v2 v3 v4 (t0 + t1) v7 v6 (1 : Int32))

def pX0_seldom_82 (η : cx_H) (θ : cx_T) (k43 : xF → xG → Int32 → Int32 → Int32 → Int32 → Int32 → Int32 → Option (Int64 × xF × xG)) (f : xF) (g : xG) (v2 : Int32) (v3 : Int32) (v5 : Int32) (v6 : Int32) (v7 : Int32) (v8 : Int32) (v9 : Int32) (t0 : Int32) (t1 : Int32) : Option (Int64 × xF × xG) := if v9 = 0 then pX0_seldom_97 η θ k43 f g v2 v3 (t0 + t1) v6 v7 v8 v9 v5 (0 : Int32) else pX0_seldom_97 η θ k43 f g v2 v3 (t0 + t1) v6 v7 v8 v9 v5 (1 : Int32)

def pX0_seldom_43 (η : cx_H) (θ : cx_T) : Nat → xF → xG → Int32 → Int32 → Int32 → Int32 → Int32 → Int32 → Option (Int64 × xF × xG)
  | 0, _, _, _, _, _, _, _, _ => none
  | n + 1, f, g, v2, v3, v4, v5, v6, v7 => if (f 7) ≤ v7 then pX0_seldom_126 η θ f g v2 v3 v4 v5 v6 else (pX0_pushesSome η θ f g v3 v7).bind (fun r56 => (pX0_isCalled η θ r56.2.1 r56.2.2 v3 v7).bind (fun r65 => if r56.1 = 0 then pX0_seldom_82 η θ (pX0_seldom_43 η θ n) r65.2.1 r65.2.2 v2 v3 v5 v6 v7 r56.1 r65.1 v4 (0 : Int32) else pX0_seldom_82 η θ (pX0_seldom_43 η θ n) r65.2.1 r65.2.2 v2 v3 v5 v6 v7 r56.1 r65.1 v4 (1 : Int32)))

def pX0_seldom_0 (η : cx_H) (θ : cx_T) (f : xF) (g : xG) (v1 : Int32) (v2 : Int32) : Option (Int64 × xF × xG) := (pX0_isHow f g v1).bind (fun r2 => if r2 = 0 then pX0_seldom_20 η θ f g else (pX0_in f g v2.toInt64 (0 : Int64) (5 : Int64)).bind (fun r14 => if r14 = 0 then pX0_seldom_20 η θ f g else (if gin v1 8 = true then if gk η v1 [0, 1, 2, 3, 4, 5] = true then pX0_seldom_43 η θ 5000 f g v2 v1 (0 : Int32) (0 : Int32) (0 : Int32) (0 : Int32) else none else none)))

abbrev pX0_seldom (η : cx_H) (θ : cx_T) (f : xF) (g : xG) (v1 : Int32) (v2 : Int32) : Option (Int64 × xF × xG) := pX0_seldom_0 η θ f g v1 v2
theorem bX0_seldom_20 {p : Program} {l : Launch} {e : Env} {s : State} {m : MethodId} {as : Array Value} {below : List Frame} {meth : Method} {c : Code} {A : Nat → Prop} {Q : State → Prop} {γ : wx_G} {o : Nat} {ad : Nat → Nat} {η : cx_H} {θ : cx_T} {τ : va_W} {z : Int64 × xF × xG} (G : cx_ok γ) (T : tx_ok γ o ad θ (hr γ o ad η ++ τ)) (C : CallFix p m c cX0_seldom 10 s as lw_all RX0) (K : wx_C γ A s) (E : ∀ (H : Heap) (locs : List Loc) (ls : Array Slot) (pc : Nat), wx_w γ A s H locs (cw γ o ad z.2.1 z.2.2 (hr γ o ad η ++ τ)) → decode cX0_seldom pc = .ok (.lreturn, 1) → W p l e rmX0_seldom s m as below meth c H locs 0 0 Q (F0 m pc ls [.long z.1])) {f : xF} {g : xG} {H : Heap} {locs : List Loc} {ls : Array Slot} (w : wx_w γ A s H locs (cw γ o ad f g (hr γ o ad η ++ τ))) (hl : lv_has ls 10 []) (hF : pX0_seldom_20 η θ f g = some z) : W p l e rmX0_seldom s m as below meth c H locs 0 0 Q (F0 m 20 ls []) := by
  have hx := C.1
  have hb := C.2.1
  unfold pX0_seldom_20 at hF
  refine lv_ldc2 (v := (-4611686018427387904 : Int64)) hx hb C.2.2.2.1 (C.2.2.2.2 _ q1018) dX0_seldom_20 ?_
  have hF := Option.some.inj hF
  subst hF
  exact E _ _ _ _ w dX0_seldom_23

theorem bX0_seldom_197 {p : Program} {l : Launch} {e : Env} {s : State} {m : MethodId} {as : Array Value} {below : List Frame} {meth : Method} {c : Code} {A : Nat → Prop} {Q : State → Prop} {γ : wx_G} {o : Nat} {ad : Nat → Nat} {η : cx_H} {θ : cx_T} {τ : va_W} {z : Int64 × xF × xG} (G : cx_ok γ) (T : tx_ok γ o ad θ (hr γ o ad η ++ τ)) (C : CallFix p m c cX0_seldom 10 s as lw_all RX0) (K : wx_C γ A s) (E : ∀ (H : Heap) (locs : List Loc) (ls : Array Slot) (pc : Nat), wx_w γ A s H locs (cw γ o ad z.2.1 z.2.2 (hr γ o ad η ++ τ)) → decode cX0_seldom pc = .ok (.lreturn, 1) → W p l e rmX0_seldom s m as below meth c H locs 0 0 Q (F0 m pc ls [.long z.1])) {f : xF} {g : xG} {t0 : Int64} {H : Heap} {locs : List Loc} {ls : Array Slot} (w : wx_w γ A s H locs (cw γ o ad f g (hr γ o ad η ++ τ))) (hl : lv_has ls 10 []) (hF : pX0_seldom_197 η θ f g t0 = some z) : W p l e rmX0_seldom s m as below meth c H locs 0 0 Q (F0 m 197 ls [.long t0]) := by
  have hx := C.1
  have hb := C.2.1
  unfold pX0_seldom_197 at hF
  have hF := Option.some.inj hF
  subst hF
  exact E _ _ _ _ w dX0_seldom_197

theorem bX0_seldom_126 {p : Program} {l : Launch} {e : Env} {s : State} {m : MethodId} {as : Array Value} {below : List Frame} {meth : Method} {c : Code} {A : Nat → Prop} {Q : State → Prop} {γ : wx_G} {o : Nat} {ad : Nat → Nat} {η : cx_H} {θ : cx_T} {τ : va_W} {z : Int64 × xF × xG} (G : cx_ok γ) (T : tx_ok γ o ad θ (hr γ o ad η ++ τ)) (C : CallFix p m c cX0_seldom 10 s as lw_all RX0) (K : wx_C γ A s) (E : ∀ (H : Heap) (locs : List Loc) (ls : Array Slot) (pc : Nat), wx_w γ A s H locs (cw γ o ad z.2.1 z.2.2 (hr γ o ad η ++ τ)) → decode cX0_seldom pc = .ok (.lreturn, 1) → W p l e rmX0_seldom s m as below meth c H locs 0 0 Q (F0 m pc ls [.long z.1])) {f : xF} {g : xG} {v2 : Int32} {v3 : Int32} {v4 : Int32} {v5 : Int32} {v6 : Int32} {H : Heap} {locs : List Loc} {ls : Array Slot} (w : wx_w γ A s H locs (cw γ o ad f g (hr γ o ad η ++ τ))) (hl : lv_has ls 10 [(0, .ref o), (2, .int v2), (3, .ref (had η v3)), (4, .int v4), (5, .int v5), (6, .int v6)]) (hF : pX0_seldom_126 η θ f g v2 v3 v4 v5 v6 = some z) : W p l e rmX0_seldom s m as below meth c H locs 0 0 Q (F0 m 126 ls []) := by
  have hx := C.1
  have hb := C.2.1
  unfold pX0_seldom_126 at hF
  refine lv_iload_n hx hb dX0_seldom_126 rfl (lv_at hl 1 rfl) ?_
  by_cases c0 : v2 = (0 : Int32)
  · have hF := (if_pos c0).symm.trans hF
    refine lv_tableIn (off := 33) (tgt := 160) hx hb dX0_seldom_127 (by rw [c0]; decide) (by rw [c0]; decide) (by rw [c0]; rfl) (by decide) ?_
    refine lv_iload hx hb dX0_seldom_160 (lv_at hl 3 rfl) ?_
    refine lv_i2l hx hb dX0_seldom_162 rfl ?_
    have hF := Option.some.inj hF
    subst hF
    exact E _ _ _ _ w dX0_seldom_163
  have hF := (if_neg c0).symm.trans hF
  by_cases c1 : v2 = (1 : Int32)
  · have hF := (if_pos c1).symm.trans hF
    refine lv_tableIn (off := 37) (tgt := 164) hx hb dX0_seldom_127 (by rw [c1]; decide) (by rw [c1]; decide) (by rw [c1]; rfl) (by decide) ?_
    refine lv_aload_n hx hb dX0_seldom_164 rfl (lv_at hl 0 rfl) ?_
    refine lv_aload_n hx hb dX0_seldom_165 rfl (lv_at hl 2 rfl) ?_
    obtain ⟨r166, hr, hF⟩ := obd hF
    refine rX0_longest G T C K w hr hl.1 ⟨Nat.le_of_ble_eq_true rfl, Nat.le_of_ble_eq_true rfl⟩ (Nat.le_of_ble_eq_true rfl) dX0_seldom_166 (fun H locs w => ?_)
    refine lv_i2l hx hb dX0_seldom_169 rfl ?_
    have hF := Option.some.inj hF
    subst hF
    exact E _ _ _ _ w dX0_seldom_170
  have hF := (if_neg c1).symm.trans hF
  by_cases c2 : v2 = (2 : Int32)
  · have hF := (if_pos c2).symm.trans hF
    refine lv_tableIn (off := 44) (tgt := 171) hx hb dX0_seldom_127 (by rw [c2]; decide) (by rw [c2]; decide) (by rw [c2]; rfl) (by decide) ?_
    refine lv_iload hx hb dX0_seldom_171 (lv_at hl 3 rfl) ?_
    refine lv_if_ne (tgt := 183) hx hb dX0_seldom_173 (by decide) (fun c => ?_) (fun c => ?_)
    · have hF := (if_neg c).symm.trans hF
      refine lv_aload_n hx hb dX0_seldom_183 rfl (lv_at hl 0 rfl) ?_
      refine cget_7 C K w dX0_seldom_184 ?_
      refine lv_i2l hx hb dX0_seldom_187 rfl ?_
      refine lv_iload hx hb dX0_seldom_188 (lv_at hl 3 rfl) ?_
      refine lv_i2l hx hb dX0_seldom_190 rfl ?_
      refine lv_iload_n hx hb dX0_seldom_191 rfl (lv_at hl 1 rfl) ?_
      refine lv_iconst (v := (2 : Int32)) hx hb dX0_seldom_192 (by decide) ?_
      refine lv_isub hx hb dX0_seldom_193 ?_
      obtain ⟨r194, hr, hF⟩ := obd hF
      refine rX0_lowest G C K w hr hl.1 ⟨Nat.le_of_ble_eq_true rfl, Nat.le_of_ble_eq_true rfl⟩ (Nat.le_of_ble_eq_true rfl) dX0_seldom_194 (fun H locs w => ?_)
      exact bX0_seldom_197 G T C K E w (lv_sub hl [] rfl) hF
    · have hF := (if_pos c).symm.trans hF
      refine lv_iload_n hx hb dX0_seldom_176 rfl (lv_at hl 1 rfl) ?_
      refine lv_iconst (v := (2 : Int32)) hx hb dX0_seldom_177 (by decide) ?_
      refine lv_isub hx hb dX0_seldom_178 ?_
      refine lv_i2l hx hb dX0_seldom_179 rfl ?_
      refine lv_goto (tgt := 197) hx hb dX0_seldom_180 (by decide) ?_
      exact bX0_seldom_197 G T C K E w (lv_sub hl [] rfl) hF
  have hF := (if_neg c2).symm.trans hF
  by_cases c3 : v2 = (3 : Int32)
  · have hF := (if_pos c3).symm.trans hF
    refine lv_tableIn (off := 44) (tgt := 171) hx hb dX0_seldom_127 (by rw [c3]; decide) (by rw [c3]; decide) (by rw [c3]; rfl) (by decide) ?_
    refine lv_iload hx hb dX0_seldom_171 (lv_at hl 3 rfl) ?_
    refine lv_if_ne (tgt := 183) hx hb dX0_seldom_173 (by decide) (fun c => ?_) (fun c => ?_)
    · have hF := (if_neg c).symm.trans hF
      refine lv_aload_n hx hb dX0_seldom_183 rfl (lv_at hl 0 rfl) ?_
      refine cget_7 C K w dX0_seldom_184 ?_
      refine lv_i2l hx hb dX0_seldom_187 rfl ?_
      refine lv_iload hx hb dX0_seldom_188 (lv_at hl 3 rfl) ?_
      refine lv_i2l hx hb dX0_seldom_190 rfl ?_
      refine lv_iload_n hx hb dX0_seldom_191 rfl (lv_at hl 1 rfl) ?_
      refine lv_iconst (v := (2 : Int32)) hx hb dX0_seldom_192 (by decide) ?_
      refine lv_isub hx hb dX0_seldom_193 ?_
      obtain ⟨r194, hr, hF⟩ := obd hF
      refine rX0_lowest G C K w hr hl.1 ⟨Nat.le_of_ble_eq_true rfl, Nat.le_of_ble_eq_true rfl⟩ (Nat.le_of_ble_eq_true rfl) dX0_seldom_194 (fun H locs w => ?_)
      exact bX0_seldom_197 G T C K E w (lv_sub hl [] rfl) hF
    · have hF := (if_pos c).symm.trans hF
      refine lv_iload_n hx hb dX0_seldom_176 rfl (lv_at hl 1 rfl) ?_
      refine lv_iconst (v := (2 : Int32)) hx hb dX0_seldom_177 (by decide) ?_
      refine lv_isub hx hb dX0_seldom_178 ?_
      refine lv_i2l hx hb dX0_seldom_179 rfl ?_
      refine lv_goto (tgt := 197) hx hb dX0_seldom_180 (by decide) ?_
      exact bX0_seldom_197 G T C K E w (lv_sub hl [] rfl) hF
  have hF := (if_neg c3).symm.trans hF
  by_cases c4 : v2 = (4 : Int32)
  · have hF := (if_pos c4).symm.trans hF
    refine lv_tableIn (off := 71) (tgt := 198) hx hb dX0_seldom_127 (by rw [c4]; decide) (by rw [c4]; decide) (by rw [c4]; rfl) (by decide) ?_
    refine lv_iload hx hb dX0_seldom_198 (lv_at hl 4 rfl) ?_
    refine lv_i2l hx hb dX0_seldom_200 rfl ?_
    have hF := Option.some.inj hF
    subst hF
    exact E _ _ _ _ w dX0_seldom_201
  have hF := (if_neg c4).symm.trans hF
  have n0 := wx_ne c0 (k := 0) (by decide)
  have n1 := wx_ne c1 (k := 1) (by decide)
  have n2 := wx_ne c2 (k := 2) (by decide)
  have n3 := wx_ne c3 (k := 3) (by decide)
  have n4 := wx_ne c4 (k := 4) (by decide)
  refine lv_tableOut (tgt := 202) hx hb dX0_seldom_127 (by omega) (by decide) ?_
  refine lv_iload hx hb dX0_seldom_202 (lv_at hl 5 rfl) ?_
  refine lv_i2l hx hb dX0_seldom_204 rfl ?_
  have hF := Option.some.inj hF
  subst hF
  exact E _ _ _ _ w dX0_seldom_205

theorem bX0_seldom_117 {p : Program} {l : Launch} {e : Env} {s : State} {m : MethodId} {as : Array Value} {below : List Frame} {meth : Method} {c : Code} {A : Nat → Prop} {Q : State → Prop} {γ : wx_G} {o : Nat} {ad : Nat → Nat} {η : cx_H} {θ : cx_T} {τ : va_W} {z : Int64 × xF × xG} (G : cx_ok γ) (T : tx_ok γ o ad θ (hr γ o ad η ++ τ)) (C : CallFix p m c cX0_seldom 10 s as lw_all RX0) (K : wx_C γ A s) (E : ∀ (H : Heap) (locs : List Loc) (ls : Array Slot) (pc : Nat), wx_w γ A s H locs (cw γ o ad z.2.1 z.2.2 (hr γ o ad η ++ τ)) → decode cX0_seldom pc = .ok (.lreturn, 1) → W p l e rmX0_seldom s m as below meth c H locs 0 0 Q (F0 m pc ls [.long z.1])) {k43 : xF → xG → Int32 → Int32 → Int32 → Int32 → Int32 → Int32 → Option (Int64 × xF × xG)} (hk43 : ∀ (f : xF) (g : xG) (v2 : Int32) (v3 : Int32) (v4 : Int32) (v5 : Int32) (v6 : Int32) (v7 : Int32) (H : Heap) (locs : List Loc) (ls : Array Slot), k43 f g v2 v3 v4 v5 v6 v7 = some z → wx_w γ A s H locs (cw γ o ad f g (hr γ o ad η ++ τ)) → lv_has ls 10 [(0, .ref o), (2, .int v2), (3, .ref (had η v3)), (4, .int v4), (5, .int v5), (6, .int v6), (7, .int v7)] → W p l e rmX0_seldom s m as below meth c H locs 0 0 Q (F0 m 43 ls [])) {f : xF} {g : xG} {v2 : Int32} {v3 : Int32} {v4 : Int32} {v5 : Int32} {v7 : Int32} {t0 : Int32} {t1 : Int32} {H : Heap} {locs : List Loc} {ls : Array Slot} (w : wx_w γ A s H locs (cw γ o ad f g (hr γ o ad η ++ τ))) (hl : lv_has ls 10 [(0, .ref o), (2, .int v2), (3, .ref (had η v3)), (4, .int v4), (5, .int v5), (7, .int v7)]) (hF : pX0_seldom_117 η θ k43 f g v2 v3 v4 v5 v7 t0 t1 = some z) : W p l e rmX0_seldom s m as below meth c H locs 0 0 Q (F0 m 117 ls [.int t1, .int t0]) := by
  have hx := C.1
  have hb := C.2.1
  unfold pX0_seldom_117 at hF
  refine lv_iadd hx hb dX0_seldom_117 ?_
  refine lv_istore (lv' := [(6, .int (t0 + t1)), (0, .ref o), (2, .int v2), (3, .ref (had η v3)), (4, .int v4), (5, .int v5), (7, .int v7)]) hx hb dX0_seldom_118 hl (by decide) rfl (fun ls hl => ?_)
  refine lv_iinc (v := v7 + 1) (lv' := [(7, .int (v7 + 1)), (6, .int (t0 + t1)), (0, .ref o), (2, .int v2), (3, .ref (had η v3)), (4, .int v4), (5, .int v5)]) hx hb dX0_seldom_120 hl (k := 6) rfl rfl (by decide) rfl (fun ls hl => ?_)
  refine lv_goto (tgt := 43) hx hb dX0_seldom_123 (by decide) ?_
  exact hk43 _ _ _ _ _ _ _ _ _ _ _ hF w (lv_sub hl [2, 3, 4, 5, 6, 1, 0] rfl)

theorem bX0_seldom_116 {p : Program} {l : Launch} {e : Env} {s : State} {m : MethodId} {as : Array Value} {below : List Frame} {meth : Method} {c : Code} {A : Nat → Prop} {Q : State → Prop} {γ : wx_G} {o : Nat} {ad : Nat → Nat} {η : cx_H} {θ : cx_T} {τ : va_W} {z : Int64 × xF × xG} (G : cx_ok γ) (T : tx_ok γ o ad θ (hr γ o ad η ++ τ)) (C : CallFix p m c cX0_seldom 10 s as lw_all RX0) (K : wx_C γ A s) (E : ∀ (H : Heap) (locs : List Loc) (ls : Array Slot) (pc : Nat), wx_w γ A s H locs (cw γ o ad z.2.1 z.2.2 (hr γ o ad η ++ τ)) → decode cX0_seldom pc = .ok (.lreturn, 1) → W p l e rmX0_seldom s m as below meth c H locs 0 0 Q (F0 m pc ls [.long z.1])) {k43 : xF → xG → Int32 → Int32 → Int32 → Int32 → Int32 → Int32 → Option (Int64 × xF × xG)} (hk43 : ∀ (f : xF) (g : xG) (v2 : Int32) (v3 : Int32) (v4 : Int32) (v5 : Int32) (v6 : Int32) (v7 : Int32) (H : Heap) (locs : List Loc) (ls : Array Slot), k43 f g v2 v3 v4 v5 v6 v7 = some z → wx_w γ A s H locs (cw γ o ad f g (hr γ o ad η ++ τ)) → lv_has ls 10 [(0, .ref o), (2, .int v2), (3, .ref (had η v3)), (4, .int v4), (5, .int v5), (6, .int v6), (7, .int v7)] → W p l e rmX0_seldom s m as below meth c H locs 0 0 Q (F0 m 43 ls [])) {f : xF} {g : xG} {v2 : Int32} {v3 : Int32} {v4 : Int32} {v5 : Int32} {v7 : Int32} {t0 : Int32} {H : Heap} {locs : List Loc} {ls : Array Slot} (w : wx_w γ A s H locs (cw γ o ad f g (hr γ o ad η ++ τ))) (hl : lv_has ls 10 [(0, .ref o), (2, .int v2), (3, .ref (had η v3)), (4, .int v4), (5, .int v5), (7, .int v7)]) (hF : pX0_seldom_116 η θ k43 f g v2 v3 v4 v5 v7 t0 = some z) : W p l e rmX0_seldom s m as below meth c H locs 0 0 Q (F0 m 116 ls [.int t0]) := by
  have hx := C.1
  have hb := C.2.1
  unfold pX0_seldom_116 at hF
  refine lv_iconst (v := (0 : Int32)) hx hb dX0_seldom_116 (by decide) ?_
  exact bX0_seldom_117 G T C K E hk43 w hl hF

theorem bX0_seldom_97 {p : Program} {l : Launch} {e : Env} {s : State} {m : MethodId} {as : Array Value} {below : List Frame} {meth : Method} {c : Code} {A : Nat → Prop} {Q : State → Prop} {γ : wx_G} {o : Nat} {ad : Nat → Nat} {η : cx_H} {θ : cx_T} {τ : va_W} {z : Int64 × xF × xG} (G : cx_ok γ) (T : tx_ok γ o ad θ (hr γ o ad η ++ τ)) (C : CallFix p m c cX0_seldom 10 s as lw_all RX0) (K : wx_C γ A s) (E : ∀ (H : Heap) (locs : List Loc) (ls : Array Slot) (pc : Nat), wx_w γ A s H locs (cw γ o ad z.2.1 z.2.2 (hr γ o ad η ++ τ)) → decode cX0_seldom pc = .ok (.lreturn, 1) → W p l e rmX0_seldom s m as below meth c H locs 0 0 Q (F0 m pc ls [.long z.1])) {k43 : xF → xG → Int32 → Int32 → Int32 → Int32 → Int32 → Int32 → Option (Int64 × xF × xG)} (hk43 : ∀ (f : xF) (g : xG) (v2 : Int32) (v3 : Int32) (v4 : Int32) (v5 : Int32) (v6 : Int32) (v7 : Int32) (H : Heap) (locs : List Loc) (ls : Array Slot), k43 f g v2 v3 v4 v5 v6 v7 = some z → wx_w γ A s H locs (cw γ o ad f g (hr γ o ad η ++ τ)) → lv_has ls 10 [(0, .ref o), (2, .int v2), (3, .ref (had η v3)), (4, .int v4), (5, .int v5), (6, .int v6), (7, .int v7)] → W p l e rmX0_seldom s m as below meth c H locs 0 0 Q (F0 m 43 ls [])) {f : xF} {g : xG} {v2 : Int32} {v3 : Int32} {v4 : Int32} {v6 : Int32} {v7 : Int32} {v8 : Int32} {v9 : Int32} {t0 : Int32} {t1 : Int32} {H : Heap} {locs : List Loc} {ls : Array Slot} (w : wx_w γ A s H locs (cw γ o ad f g (hr γ o ad η ++ τ))) (hl : lv_has ls 10 [(0, .ref o), (2, .int v2), (3, .ref (had η v3)), (4, .int v4), (6, .int v6), (7, .int v7), (8, .int v8), (9, .int v9)]) (hF : pX0_seldom_97 η θ k43 f g v2 v3 v4 v6 v7 v8 v9 t0 t1 = some z) : W p l e rmX0_seldom s m as below meth c H locs 0 0 Q (F0 m 97 ls [.int t1, .int t0]) := by
  have hx := C.1
  have hb := C.2.1
  unfold pX0_seldom_97 at hF
  refine lv_iadd hx hb dX0_seldom_97 ?_
  refine lv_istore (lv' := [(5, .int (t0 + t1)), (0, .ref o), (2, .int v2), (3, .ref (had η v3)), (4, .int v4), (6, .int v6), (7, .int v7), (8, .int v8), (9, .int v9)]) hx hb dX0_seldom_98 hl (by decide) rfl (fun ls hl => ?_)
  refine lv_iload hx hb dX0_seldom_100 (lv_at hl 5 rfl) ?_
  refine lv_iload hx hb dX0_seldom_102 (lv_at hl 7 rfl) ?_
  refine lv_if_eq (tgt := 116) hx hb dX0_seldom_104 (by decide) (fun c => ?_) (fun c => ?_)
  · have hF := (if_pos c).symm.trans hF
    exact bX0_seldom_116 G T C K E hk43 w (lv_sub hl [1, 2, 3, 4, 0, 6] rfl) hF
  · have hF := (if_neg c).symm.trans hF
    refine lv_iload hx hb dX0_seldom_107 (lv_at hl 8 rfl) ?_
    refine lv_if_eq (tgt := 116) hx hb dX0_seldom_109 (by decide) (fun c => ?_) (fun c => ?_)
    · have hF := (if_pos c).symm.trans hF
      exact bX0_seldom_116 G T C K E hk43 w (lv_sub hl [1, 2, 3, 4, 0, 6] rfl) hF
    · have hF := (if_neg c).symm.trans hF
      refine lv_iconst (v := (1 : Int32)) hx hb dX0_seldom_112 (by decide) ?_
      refine lv_goto (tgt := 117) hx hb dX0_seldom_113 (by decide) ?_
      exact bX0_seldom_117 G T C K E hk43 w (lv_sub hl [1, 2, 3, 4, 0, 6] rfl) hF

theorem bX0_seldom_82 {p : Program} {l : Launch} {e : Env} {s : State} {m : MethodId} {as : Array Value} {below : List Frame} {meth : Method} {c : Code} {A : Nat → Prop} {Q : State → Prop} {γ : wx_G} {o : Nat} {ad : Nat → Nat} {η : cx_H} {θ : cx_T} {τ : va_W} {z : Int64 × xF × xG} (G : cx_ok γ) (T : tx_ok γ o ad θ (hr γ o ad η ++ τ)) (C : CallFix p m c cX0_seldom 10 s as lw_all RX0) (K : wx_C γ A s) (E : ∀ (H : Heap) (locs : List Loc) (ls : Array Slot) (pc : Nat), wx_w γ A s H locs (cw γ o ad z.2.1 z.2.2 (hr γ o ad η ++ τ)) → decode cX0_seldom pc = .ok (.lreturn, 1) → W p l e rmX0_seldom s m as below meth c H locs 0 0 Q (F0 m pc ls [.long z.1])) {k43 : xF → xG → Int32 → Int32 → Int32 → Int32 → Int32 → Int32 → Option (Int64 × xF × xG)} (hk43 : ∀ (f : xF) (g : xG) (v2 : Int32) (v3 : Int32) (v4 : Int32) (v5 : Int32) (v6 : Int32) (v7 : Int32) (H : Heap) (locs : List Loc) (ls : Array Slot), k43 f g v2 v3 v4 v5 v6 v7 = some z → wx_w γ A s H locs (cw γ o ad f g (hr γ o ad η ++ τ)) → lv_has ls 10 [(0, .ref o), (2, .int v2), (3, .ref (had η v3)), (4, .int v4), (5, .int v5), (6, .int v6), (7, .int v7)] → W p l e rmX0_seldom s m as below meth c H locs 0 0 Q (F0 m 43 ls [])) {f : xF} {g : xG} {v2 : Int32} {v3 : Int32} {v5 : Int32} {v6 : Int32} {v7 : Int32} {v8 : Int32} {v9 : Int32} {t0 : Int32} {t1 : Int32} {H : Heap} {locs : List Loc} {ls : Array Slot} (w : wx_w γ A s H locs (cw γ o ad f g (hr γ o ad η ++ τ))) (hl : lv_has ls 10 [(0, .ref o), (2, .int v2), (3, .ref (had η v3)), (5, .int v5), (6, .int v6), (7, .int v7), (8, .int v8), (9, .int v9)]) (hF : pX0_seldom_82 η θ k43 f g v2 v3 v5 v6 v7 v8 v9 t0 t1 = some z) : W p l e rmX0_seldom s m as below meth c H locs 0 0 Q (F0 m 82 ls [.int t1, .int t0]) := by
  have hx := C.1
  have hb := C.2.1
  unfold pX0_seldom_82 at hF
  refine lv_iadd hx hb dX0_seldom_82 ?_
  refine lv_istore (lv' := [(4, .int (t0 + t1)), (0, .ref o), (2, .int v2), (3, .ref (had η v3)), (5, .int v5), (6, .int v6), (7, .int v7), (8, .int v8), (9, .int v9)]) hx hb dX0_seldom_83 hl (by decide) rfl (fun ls hl => ?_)
  refine lv_iload hx hb dX0_seldom_85 (lv_at hl 4 rfl) ?_
  refine lv_iload hx hb dX0_seldom_87 (lv_at hl 8 rfl) ?_
  refine lv_if_eq (tgt := 96) hx hb dX0_seldom_89 (by decide) (fun c => ?_) (fun c => ?_)
  · have hF := (if_pos c).symm.trans hF
    refine lv_iconst (v := (0 : Int32)) hx hb dX0_seldom_96 (by decide) ?_
    exact bX0_seldom_97 G T C K E hk43 w (lv_sub hl [1, 2, 3, 0, 5, 6, 7, 8] rfl) hF
  · have hF := (if_neg c).symm.trans hF
    refine lv_iconst (v := (1 : Int32)) hx hb dX0_seldom_92 (by decide) ?_
    refine lv_goto (tgt := 97) hx hb dX0_seldom_93 (by decide) ?_
    exact bX0_seldom_97 G T C K E hk43 w (lv_sub hl [1, 2, 3, 0, 5, 6, 7, 8] rfl) hF

theorem bX0_seldom_43 {p : Program} {l : Launch} {e : Env} {s : State} {m : MethodId} {as : Array Value} {below : List Frame} {meth : Method} {c : Code} {A : Nat → Prop} {Q : State → Prop} {γ : wx_G} {o : Nat} {ad : Nat → Nat} {η : cx_H} {θ : cx_T} {τ : va_W} {z : Int64 × xF × xG} (G : cx_ok γ) (T : tx_ok γ o ad θ (hr γ o ad η ++ τ)) (C : CallFix p m c cX0_seldom 10 s as lw_all RX0) (K : wx_C γ A s) (E : ∀ (H : Heap) (locs : List Loc) (ls : Array Slot) (pc : Nat), wx_w γ A s H locs (cw γ o ad z.2.1 z.2.2 (hr γ o ad η ++ τ)) → decode cX0_seldom pc = .ok (.lreturn, 1) → W p l e rmX0_seldom s m as below meth c H locs 0 0 Q (F0 m pc ls [.long z.1])) : ∀ (n : Nat) (f : xF) (g : xG) (v2 : Int32) (v3 : Int32) (v4 : Int32) (v5 : Int32) (v6 : Int32) (v7 : Int32) (H : Heap) (locs : List Loc) (ls : Array Slot), pX0_seldom_43 η θ n f g v2 v3 v4 v5 v6 v7 = some z → wx_w γ A s H locs (cw γ o ad f g (hr γ o ad η ++ τ)) → lv_has ls 10 [(0, .ref o), (2, .int v2), (3, .ref (had η v3)), (4, .int v4), (5, .int v5), (6, .int v6), (7, .int v7)] → W p l e rmX0_seldom s m as below meth c H locs 0 0 Q (F0 m 43 ls []) := by
  have hx := C.1
  have hb := C.2.1
  intro n
  induction n with
  | zero =>
    intro f g v2 v3 v4 v5 v6 v7 H locs ls hF w hl
    have hF : (none : Option (Int64 × xF × xG)) = some z := hF
    cases hF
  | succ n ih =>
    intro f g v2 v3 v4 v5 v6 v7 H locs ls hF w hl
    rw [pX0_seldom_43] at hF
    refine lv_iload hx hb dX0_seldom_43 (lv_at hl 6 rfl) ?_
    refine lv_aload_n hx hb dX0_seldom_45 rfl (lv_at hl 0 rfl) ?_
    refine cget_7 C K w dX0_seldom_46 ?_
    refine lv_icmp_ge (tgt := 126) hx hb dX0_seldom_49 (by decide) (fun c => ?_) (fun c => ?_)
    · have hF := (if_pos c).symm.trans hF
      exact bX0_seldom_126 G T C K E w (lv_sub hl [0, 1, 2, 3, 4, 5] rfl) hF
    · have hF := (if_neg c).symm.trans hF
      refine lv_aload_n hx hb dX0_seldom_52 rfl (lv_at hl 0 rfl) ?_
      refine lv_aload_n hx hb dX0_seldom_53 rfl (lv_at hl 2 rfl) ?_
      refine lv_iload hx hb dX0_seldom_54 (lv_at hl 6 rfl) ?_
      obtain ⟨r56, hr, hF⟩ := obd hF
      refine rX0_pushesSome G T C K w hr hl.1 ⟨Nat.le_of_ble_eq_true rfl, Nat.le_of_ble_eq_true rfl⟩ (Nat.le_of_ble_eq_true rfl) dX0_seldom_56 (fun H locs w => ?_)
      refine lv_istore (lv' := [(8, .int r56.1), (0, .ref o), (2, .int v2), (3, .ref (had η v3)), (4, .int v4), (5, .int v5), (6, .int v6), (7, .int v7)]) hx hb dX0_seldom_59 hl (by decide) rfl (fun ls hl => ?_)
      refine lv_aload_n hx hb dX0_seldom_61 rfl (lv_at hl 1 rfl) ?_
      refine lv_aload_n hx hb dX0_seldom_62 rfl (lv_at hl 3 rfl) ?_
      refine lv_iload hx hb dX0_seldom_63 (lv_at hl 7 rfl) ?_
      obtain ⟨r65, hr, hF⟩ := obd hF
      refine rX0_isCalled G T C K w hr hl.1 ⟨Nat.le_of_ble_eq_true rfl, Nat.le_of_ble_eq_true rfl⟩ (Nat.le_of_ble_eq_true rfl) dX0_seldom_65 (fun H locs w => ?_)
      refine lv_istore (lv' := [(9, .int r65.1), (8, .int r56.1), (0, .ref o), (2, .int v2), (3, .ref (had η v3)), (4, .int v4), (5, .int v5), (6, .int v6), (7, .int v7)]) hx hb dX0_seldom_68 hl (by decide) rfl (fun ls hl => ?_)
      refine lv_iload hx hb dX0_seldom_70 (lv_at hl 5 rfl) ?_
      refine lv_iload hx hb dX0_seldom_72 (lv_at hl 1 rfl) ?_
      refine lv_if_eq (tgt := 81) hx hb dX0_seldom_74 (by decide) (fun c => ?_) (fun c => ?_)
      · have hF := (if_pos c).symm.trans hF
        refine lv_iconst (v := (0 : Int32)) hx hb dX0_seldom_81 (by decide) ?_
        exact bX0_seldom_82 G T C K E ih w (lv_sub hl [2, 3, 4, 6, 7, 8, 1, 0] rfl) hF
      · have hF := (if_neg c).symm.trans hF
        refine lv_iconst (v := (1 : Int32)) hx hb dX0_seldom_77 (by decide) ?_
        refine lv_goto (tgt := 82) hx hb dX0_seldom_78 (by decide) ?_
        exact bX0_seldom_82 G T C K E ih w (lv_sub hl [2, 3, 4, 6, 7, 8, 1, 0] rfl) hF

theorem bX0_seldom_0 {p : Program} {l : Launch} {e : Env} {s : State} {m : MethodId} {as : Array Value} {below : List Frame} {meth : Method} {c : Code} {A : Nat → Prop} {Q : State → Prop} {γ : wx_G} {o : Nat} {ad : Nat → Nat} {η : cx_H} {θ : cx_T} {τ : va_W} {z : Int64 × xF × xG} (G : cx_ok γ) (T : tx_ok γ o ad θ (hr γ o ad η ++ τ)) (C : CallFix p m c cX0_seldom 10 s as lw_all RX0) (K : wx_C γ A s) (E : ∀ (H : Heap) (locs : List Loc) (ls : Array Slot) (pc : Nat), wx_w γ A s H locs (cw γ o ad z.2.1 z.2.2 (hr γ o ad η ++ τ)) → decode cX0_seldom pc = .ok (.lreturn, 1) → W p l e rmX0_seldom s m as below meth c H locs 0 0 Q (F0 m pc ls [.long z.1])) {f : xF} {g : xG} {v1 : Int32} {v2 : Int32} {H : Heap} {locs : List Loc} {ls : Array Slot} (w : wx_w γ A s H locs (cw γ o ad f g (hr γ o ad η ++ τ))) (hl : lv_has ls 10 [(0, .ref o), (1, .int v1), (2, .int v2)]) (hF : pX0_seldom_0 η θ f g v1 v2 = some z) : W p l e rmX0_seldom s m as below meth c H locs 0 0 Q (F0 m 0 ls []) := by
  have hx := C.1
  have hb := C.2.1
  unfold pX0_seldom_0 at hF
  refine lv_aload_n hx hb dX0_seldom_0 rfl (lv_at hl 0 rfl) ?_
  refine lv_iload_n hx hb dX0_seldom_1 rfl (lv_at hl 1 rfl) ?_
  obtain ⟨r2, hr, hF⟩ := obd hF
  refine rX0_isHow G C K w hr hl.1 ⟨Nat.le_of_ble_eq_true rfl, Nat.le_of_ble_eq_true rfl⟩ (Nat.le_of_ble_eq_true rfl) dX0_seldom_2 (fun H locs w => ?_)
  refine lv_if_eq (tgt := 20) hx hb dX0_seldom_5 (by decide) (fun c => ?_) (fun c => ?_)
  · have hF := (if_pos c).symm.trans hF
    exact bX0_seldom_20 G T C K E w (lv_sub hl [] rfl) hF
  · have hF := (if_neg c).symm.trans hF
    refine lv_iload_n hx hb dX0_seldom_8 rfl (lv_at hl 2 rfl) ?_
    refine lv_i2l hx hb dX0_seldom_9 rfl ?_
    refine lv_lconst (v := (0 : Int64)) hx hb dX0_seldom_10 (by decide) ?_
    refine lv_ldc2 (v := (5 : Int64)) hx hb C.2.2.2.1 (C.2.2.2.2 _ q169) dX0_seldom_11 ?_
    obtain ⟨r14, hr, hF⟩ := obd hF
    refine rX0_in G C K w hr hl.1 ⟨Nat.le_of_ble_eq_true rfl, Nat.le_of_ble_eq_true rfl⟩ (Nat.le_of_ble_eq_true rfl) dX0_seldom_14 (fun H locs w => ?_)
    refine lv_if_ne (tgt := 24) hx hb dX0_seldom_17 (by decide) (fun c => ?_) (fun c => ?_)
    · have hF := (if_neg c).symm.trans hF
      refine lv_aload_n hx hb dX0_seldom_24 rfl (lv_at hl 0 rfl) ?_
      refine cget_8 C K w dX0_seldom_25 ?_
      refine lv_iload_n hx hb dX0_seldom_28 rfl (lv_at hl 1 rfl) ?_
      obtain ⟨hi, hF⟩ := gin_if hF
      obtain ⟨hg, hF⟩ := gk_if hF
      refine c_how C K w hi hg dX0_seldom_29 ?_
      refine lv_astore_n (lv' := [(3, .ref (had η v1)), (0, .ref o), (1, .int v1), (2, .int v2)]) hx hb dX0_seldom_30 rfl hl (by decide) rfl (fun ls hl => ?_)
      refine lv_iconst (v := (0 : Int32)) hx hb dX0_seldom_31 (by decide) ?_
      refine lv_istore (lv' := [(4, .int (0 : Int32)), (3, .ref (had η v1)), (0, .ref o), (1, .int v1), (2, .int v2)]) hx hb dX0_seldom_32 hl (by decide) rfl (fun ls hl => ?_)
      refine lv_iconst (v := (0 : Int32)) hx hb dX0_seldom_34 (by decide) ?_
      refine lv_istore (lv' := [(5, .int (0 : Int32)), (4, .int (0 : Int32)), (3, .ref (had η v1)), (0, .ref o), (1, .int v1), (2, .int v2)]) hx hb dX0_seldom_35 hl (by decide) rfl (fun ls hl => ?_)
      refine lv_iconst (v := (0 : Int32)) hx hb dX0_seldom_37 (by decide) ?_
      refine lv_istore (lv' := [(6, .int (0 : Int32)), (5, .int (0 : Int32)), (4, .int (0 : Int32)), (3, .ref (had η v1)), (0, .ref o), (1, .int v1), (2, .int v2)]) hx hb dX0_seldom_38 hl (by decide) rfl (fun ls hl => ?_)
      refine lv_iconst (v := (0 : Int32)) hx hb dX0_seldom_40 (by decide) ?_
      refine lv_istore (lv' := [(7, .int (0 : Int32)), (6, .int (0 : Int32)), (5, .int (0 : Int32)), (4, .int (0 : Int32)), (3, .ref (had η v1)), (0, .ref o), (1, .int v1), (2, .int v2)]) hx hb dX0_seldom_41 hl (by decide) rfl (fun ls hl => ?_)
      exact bX0_seldom_43 G T C K E 5000 _ _ _ _ _ _ _ _ _ _ _ hF w (lv_sub hl [5, 7, 4, 3, 2, 1, 0] rfl)
    · have hF := (if_pos c).symm.trans hF
      exact bX0_seldom_20 G T C K E w (lv_sub hl [] rfl) hF

theorem mX0_seldom {l : Launch} {γ : wx_G} {o : Nat} {ad : Nat → Nat} {η : cx_H} {θ : cx_T} {τ : va_W} {f : xF} {g : xG} {v1 : Int32} {v2 : Int32} {z : Int64 × xF × xG} (G : cx_ok γ) (T : tx_ok γ o ad θ (hr γ o ad η ++ τ)) (hF : pX0_seldom η θ f g v1 v2 = some z) : wx_M γ l yX0_seldom (ws_ yX0_seldom cX0_seldom 10 (some .long)) rmX0_seldom [.ref o, .int v1, .int v2] (cw γ o ad f g (hr γ o ad η ++ τ)) (fun v ws => v = some (.long z.1) ∧ ws = (cw γ o ad z.2.1 z.2.2 (hr γ o ad η ++ τ))) 0 0 := by
  refine wx_M.of (by decide) (Nat.le_of_ble_eq_true rfl) ?_
  intro p e s m as below meth c A ls C K w hr hlocks _ hl
  exact bX0_seldom_0 G T C K (fun H locs ls pc w d => wx_lret C hr hlocks w ⟨rfl, rfl⟩ d) w hl hF

/-! WalkingStones.willGo(LWalkingStones$How;II)Z -/
abbrev rmX0_willGo : Room := { frames := 204, cells := 0, slots := 0, locals := 8123 }
def pX0_willGo_38 (η : cx_H) (θ : cx_T) (f : xF) (g : xG) (t0 : Int32) : Option (Int32 × xF × xG) := if gbz t0 = true then some (t0, f, g) else none

def pX0_willGo_37 (η : cx_H) (θ : cx_T) (f : xF) (g : xG) : Option (Int32 × xF × xG) := pX0_willGo_38 η θ f g (0 : Int32)

def pX0_willGo_0 (η : cx_H) (θ : cx_T) (f : xF) (g : xG) (v1 : Int32) (v2 : Int32) (v3 : Int32) : Option (Int32 × xF × xG) := if gin v2 10 = true then (pV_goesBy η θ f g v1 (g 0 v2.toNatClampNeg) v3).bind (fun r8 => if r8.1 ≤ 0 then pX0_willGo_37 η θ r8.2.1 r8.2.2 else (if gin v2 10 = true then (pV_way η r8.2.1 r8.2.2 v1 v3).bind (fun r23 => (pX0_nextAt r8.2.1 r8.2.2 (r8.2.2 1 v2.toNatClampNeg) r23).bind (fun r26 => if r26 = (-1 : Int32) then pX0_willGo_37 η θ r8.2.1 r8.2.2 else pX0_willGo_38 η θ r8.2.1 r8.2.2 (1 : Int32))) else none)) else none

abbrev pX0_willGo (η : cx_H) (θ : cx_T) (f : xF) (g : xG) (v1 : Int32) (v2 : Int32) (v3 : Int32) : Option (Int32 × xF × xG) := pX0_willGo_0 η θ f g v1 v2 v3
theorem bX0_willGo_38 {p : Program} {l : Launch} {e : Env} {s : State} {m : MethodId} {as : Array Value} {below : List Frame} {meth : Method} {c : Code} {A : Nat → Prop} {Q : State → Prop} {γ : wx_G} {o : Nat} {ad : Nat → Nat} {η : cx_H} {θ : cx_T} {τ : va_W} {z : Int32 × xF × xG} (G : cx_ok γ) (T : tx_ok γ o ad θ (hr γ o ad η ++ τ)) (C : CallFix p m c cX0_willGo 4 s as lw_all RX0) (K : wx_C γ A s) (E : ∀ (H : Heap) (locs : List Loc) (ls : Array Slot) (pc : Nat), narrow .boolean (.int z.1) = .int z.1 → wx_w γ A s H locs (cw γ o ad z.2.1 z.2.2 (hr γ o ad η ++ τ)) → decode cX0_willGo pc = .ok (.ireturn, 1) → W p l e rmX0_willGo s m as below meth c H locs 0 0 Q (F0 m pc ls [.int z.1])) {f : xF} {g : xG} {t0 : Int32} {H : Heap} {locs : List Loc} {ls : Array Slot} (w : wx_w γ A s H locs (cw γ o ad f g (hr γ o ad η ++ τ))) (hl : lv_has ls 4 []) (hF : pX0_willGo_38 η θ f g t0 = some z) : W p l e rmX0_willGo s m as below meth c H locs 0 0 Q (F0 m 38 ls [.int t0]) := by
  have hx := C.1
  have hb := C.2.1
  unfold pX0_willGo_38 at hF
  obtain ⟨hz, hF⟩ := gbz_if hF
  have hF := Option.some.inj hF
  subst hF
  exact E _ _ _ _ hz w dX0_willGo_38

theorem bX0_willGo_37 {p : Program} {l : Launch} {e : Env} {s : State} {m : MethodId} {as : Array Value} {below : List Frame} {meth : Method} {c : Code} {A : Nat → Prop} {Q : State → Prop} {γ : wx_G} {o : Nat} {ad : Nat → Nat} {η : cx_H} {θ : cx_T} {τ : va_W} {z : Int32 × xF × xG} (G : cx_ok γ) (T : tx_ok γ o ad θ (hr γ o ad η ++ τ)) (C : CallFix p m c cX0_willGo 4 s as lw_all RX0) (K : wx_C γ A s) (E : ∀ (H : Heap) (locs : List Loc) (ls : Array Slot) (pc : Nat), narrow .boolean (.int z.1) = .int z.1 → wx_w γ A s H locs (cw γ o ad z.2.1 z.2.2 (hr γ o ad η ++ τ)) → decode cX0_willGo pc = .ok (.ireturn, 1) → W p l e rmX0_willGo s m as below meth c H locs 0 0 Q (F0 m pc ls [.int z.1])) {f : xF} {g : xG} {H : Heap} {locs : List Loc} {ls : Array Slot} (w : wx_w γ A s H locs (cw γ o ad f g (hr γ o ad η ++ τ))) (hl : lv_has ls 4 []) (hF : pX0_willGo_37 η θ f g = some z) : W p l e rmX0_willGo s m as below meth c H locs 0 0 Q (F0 m 37 ls []) := by
  have hx := C.1
  have hb := C.2.1
  unfold pX0_willGo_37 at hF
  refine lv_iconst (v := (0 : Int32)) hx hb dX0_willGo_37 (by decide) ?_
  exact bX0_willGo_38 G T C K E w hl hF

theorem bX0_willGo_0 {p : Program} {l : Launch} {e : Env} {s : State} {m : MethodId} {as : Array Value} {below : List Frame} {meth : Method} {c : Code} {A : Nat → Prop} {Q : State → Prop} {γ : wx_G} {o : Nat} {ad : Nat → Nat} {η : cx_H} {θ : cx_T} {τ : va_W} {z : Int32 × xF × xG} (G : cx_ok γ) (T : tx_ok γ o ad θ (hr γ o ad η ++ τ)) (C : CallFix p m c cX0_willGo 4 s as lw_all RX0) (K : wx_C γ A s) (E : ∀ (H : Heap) (locs : List Loc) (ls : Array Slot) (pc : Nat), narrow .boolean (.int z.1) = .int z.1 → wx_w γ A s H locs (cw γ o ad z.2.1 z.2.2 (hr γ o ad η ++ τ)) → decode cX0_willGo pc = .ok (.ireturn, 1) → W p l e rmX0_willGo s m as below meth c H locs 0 0 Q (F0 m pc ls [.int z.1])) {f : xF} {g : xG} {v1 : Int32} {v2 : Int32} {v3 : Int32} {H : Heap} {locs : List Loc} {ls : Array Slot} (w : wx_w γ A s H locs (cw γ o ad f g (hr γ o ad η ++ τ))) (hl : lv_has ls 4 [(0, .ref o), (1, .ref (had η v1)), (2, .int v2), (3, .int v3)]) (hF : pX0_willGo_0 η θ f g v1 v2 v3 = some z) : W p l e rmX0_willGo s m as below meth c H locs 0 0 Q (F0 m 0 ls []) := by
  have hx := C.1
  have hb := C.2.1
  unfold pX0_willGo_0 at hF
  refine lv_aload_n hx hb dX0_willGo_0 rfl (lv_at hl 1 rfl) ?_
  refine lv_aload_n hx hb dX0_willGo_1 rfl (lv_at hl 0 rfl) ?_
  refine cget_0 C K w dX0_willGo_2 ?_
  refine lv_iload_n hx hb dX0_willGo_5 rfl (lv_at hl 2 rfl) ?_
  obtain ⟨hi, hF⟩ := gin_if hF
  refine cald_0 C K w hi dX0_willGo_6 ?_
  refine lv_iload_n hx hb dX0_willGo_7 rfl (lv_at hl 3 rfl) ?_
  obtain ⟨r8, hr, hF⟩ := obd hF
  refine vX0_goesBy G T C K w hr hl.1 ⟨Nat.le_of_ble_eq_true rfl, Nat.le_of_ble_eq_true rfl⟩ (Nat.le_of_ble_eq_true rfl) dX0_willGo_8 (fun H locs w => ?_)
  refine lv_if_le (tgt := 37) hx hb dX0_willGo_11 (by decide) (fun c => ?_) (fun c => ?_)
  · have hF := (if_pos c).symm.trans hF
    exact bX0_willGo_37 G T C K E w (lv_sub hl [] rfl) hF
  · have hF := (if_neg c).symm.trans hF
    refine lv_aload_n hx hb dX0_willGo_14 rfl (lv_at hl 0 rfl) ?_
    refine lv_aload_n hx hb dX0_willGo_15 rfl (lv_at hl 0 rfl) ?_
    refine cget_1 C K w dX0_willGo_16 ?_
    refine lv_iload_n hx hb dX0_willGo_19 rfl (lv_at hl 2 rfl) ?_
    obtain ⟨hi, hF⟩ := gin_if hF
    refine cald_1 C K w hi dX0_willGo_20 ?_
    refine lv_aload_n hx hb dX0_willGo_21 rfl (lv_at hl 1 rfl) ?_
    refine lv_iload_n hx hb dX0_willGo_22 rfl (lv_at hl 3 rfl) ?_
    obtain ⟨r23, hr, hF⟩ := obd hF
    refine vX0_way G C K w hr hl.1 ⟨Nat.le_of_ble_eq_true rfl, Nat.le_of_ble_eq_true rfl⟩ (Nat.le_of_ble_eq_true rfl) dX0_willGo_23 (fun H locs w => ?_)
    obtain ⟨r26, hr, hF⟩ := obd hF
    refine rX0_nextAt G C K w hr hl.1 ⟨Nat.le_of_ble_eq_true rfl, Nat.le_of_ble_eq_true rfl⟩ (Nat.le_of_ble_eq_true rfl) dX0_willGo_26 (fun H locs w => ?_)
    refine lv_iconst (v := (-1 : Int32)) hx hb dX0_willGo_29 (by decide) ?_
    refine lv_icmp_eq (tgt := 37) hx hb dX0_willGo_30 (by decide) (fun c => ?_) (fun c => ?_)
    · have hF := (if_pos c).symm.trans hF
      exact bX0_willGo_37 G T C K E w (lv_sub hl [] rfl) hF
    · have hF := (if_neg c).symm.trans hF
      refine lv_iconst (v := (1 : Int32)) hx hb dX0_willGo_33 (by decide) ?_
      refine lv_goto (tgt := 38) hx hb dX0_willGo_34 (by decide) ?_
      exact bX0_willGo_38 G T C K E w (lv_sub hl [] rfl) hF

theorem mX0_willGo {l : Launch} {γ : wx_G} {o : Nat} {ad : Nat → Nat} {η : cx_H} {θ : cx_T} {τ : va_W} {f : xF} {g : xG} {v1 : Int32} {v2 : Int32} {v3 : Int32} {z : Int32 × xF × xG} (G : cx_ok γ) (T : tx_ok γ o ad θ (hr γ o ad η ++ τ)) (hF : pX0_willGo η θ f g v1 v2 v3 = some z) : wx_M γ l yX0_willGo (ws_ yX0_willGo cX0_willGo 4 (some .boolean)) rmX0_willGo [.ref o, .ref (had η v1), .int v2, .int v3] (cw γ o ad f g (hr γ o ad η ++ τ)) (fun v ws => v = some (.int z.1) ∧ ws = (cw γ o ad z.2.1 z.2.2 (hr γ o ad η ++ τ))) 0 0 := by
  refine wx_M.of (by decide) (Nat.le_of_ble_eq_true rfl) ?_
  intro p e s m as below meth c A ls C K w hr hlocks _ hl
  exact bX0_willGo_0 G T C K (fun H locs ls pc hz w d => wx_zret C hr hlocks hz w ⟨rfl, rfl⟩ d) w hl hF
theorem rX0_willGo {p : Program} {l : Launch} {e : Env} {R : Room} {s : State} {m : MethodId} {as : Array Value} {below : List Frame} {meth : Method} {c : Code} {H : Heap} {locs : List Loc} {cells slots : Nat} {Q : State → Prop} {cc : ByteArray} {nL pc : Nat} {ls : Array Slot} {rest : List Value} {γ : wx_G} {A : Nat → Prop} {o : Nat} {ad : Nat → Nat} {η : cx_H} {θ : cx_T} {τ : va_W} {f : xF} {g : xG} {v1 : Int32} {v2 : Int32} {v3 : Int32} {z : Int32 × xF × xG} (G : cx_ok γ) (T : tx_ok γ o ad θ (hr γ o ad η ++ τ)) (C : CallFix p m c cc nL s as lw_all RX0) (K : wx_C γ A s) (w : wx_w γ A s H locs (cw γ o ad f g (hr γ o ad η ++ τ))) (hF : pX0_willGo η θ f g v1 v2 v3 = some z) (hls : ls.size = nL) (hR : rmX0_willGo.frames + 1 ≤ R.frames ∧ 8 + (4 + 11) + rmX0_willGo.locals ≤ R.locals) (hW : (rest.map fun v => v.category).sum ≤ 8) (d : decode cc pc = .ok (.invokevirtual 448, 3)) (kk : ∀ (H : Heap) (locs : List Loc), wx_w γ A s H locs (cw γ o ad z.2.1 z.2.2 (hr γ o ad η ++ τ)) → W p l e R s m as below meth c H locs cells slots Q (F0 m (pc + 3) ls (.int z.1 :: rest))) (hf : cells ≤ R.cells ∧ slots ≤ R.slots := by exact ⟨Nat.le_of_ble_eq_true rfl, Nat.le_of_ble_eq_true rfl⟩) : W p l e R s m as below meth c H locs cells slots Q (F0 m pc ls (.int v3 :: .int v2 :: .ref (had η v1) :: .ref o :: rest)) :=
  wx_callV (n := 3) C K w (mX0_willGo (l := l) G T hF) q1069 q1071 qs42 q106 q1072 rfl rfl (by decide +kernel) (va_recv K.1.1 w.1 (ci := 1) (q0 := 0) rfl rfl) rfl rfl hR hls hW hf d (fun v ws H1 locs1 hp w => by obtain ⟨rfl, rfl⟩ := hp; exact kk H1 locs1 w)

/-! WalkingStones.when(II)J -/
abbrev rmX0_when : Room := { frames := 205, cells := 0, slots := 0, locals := 8146 }
def pX0_when_16 (η : cx_H) (θ : cx_T) (f : xF) (g : xG) : Option (Int64 × xF × xG) := some ((-4611686018427387904 : Int64), f, g)

def pX0_when_59 (η : cx_H) (θ : cx_T) (k25 : xF → xG → Int32 → Int32 → Int64 → Int32 → Option (Int64 × xF × xG)) (f : xF) (g : xG) (v1 : Int32) (v2 : Int32) (v5 : Int32) (t0 : Int64) (t1 : Int64) : Option (Int64 × xF × xG) := k25 f g v1 v2 (t0 ||| t1) (v5 + 1)

def pX0_when_25 (η : cx_H) (θ : cx_T) : Nat → xF → xG → Int32 → Int32 → Int64 → Int32 → Option (Int64 × xF × xG)
  | 0, _, _, _, _, _, _ => none
  | n + 1, f, g, v1, v2, v3, v5 => if (f 7) ≤ v5 then some (v3, f, g) else (if gin v1 8 = true then if gk η v1 [0, 1, 2, 3, 4, 5] = true then (pX0_willGo η θ f g v1 v2 v5).bind (fun r45 => if r45.1 = 0 then pX0_when_59 η θ (pX0_when_25 η θ n) r45.2.1 r45.2.2 v1 v2 v5 v3 (0 : Int64) else pX0_when_59 η θ (pX0_when_25 η θ n) r45.2.1 r45.2.2 v1 v2 v5 v3 ((1 : Int64) <<< (v5.toInt64 &&& 63))) else none else none)

def pX0_when_0 (η : cx_H) (θ : cx_T) (f : xF) (g : xG) (v1 : Int32) (v2 : Int32) : Option (Int64 × xF × xG) := (pX0_isHow f g v1).bind (fun r2 => if r2 = 0 then pX0_when_16 η θ f g else (pX0_isStone f g v2).bind (fun r10 => if r10 = 0 then pX0_when_16 η θ f g else pX0_when_25 η θ 5000 f g v1 v2 (0 : Int64) (0 : Int32)))

abbrev pX0_when (η : cx_H) (θ : cx_T) (f : xF) (g : xG) (v1 : Int32) (v2 : Int32) : Option (Int64 × xF × xG) := pX0_when_0 η θ f g v1 v2
theorem bX0_when_16 {p : Program} {l : Launch} {e : Env} {s : State} {m : MethodId} {as : Array Value} {below : List Frame} {meth : Method} {c : Code} {A : Nat → Prop} {Q : State → Prop} {γ : wx_G} {o : Nat} {ad : Nat → Nat} {η : cx_H} {θ : cx_T} {τ : va_W} {z : Int64 × xF × xG} (G : cx_ok γ) (T : tx_ok γ o ad θ (hr γ o ad η ++ τ)) (C : CallFix p m c cX0_when 6 s as lw_all RX0) (K : wx_C γ A s) (E : ∀ (H : Heap) (locs : List Loc) (ls : Array Slot) (pc : Nat), wx_w γ A s H locs (cw γ o ad z.2.1 z.2.2 (hr γ o ad η ++ τ)) → decode cX0_when pc = .ok (.lreturn, 1) → W p l e rmX0_when s m as below meth c H locs 0 0 Q (F0 m pc ls [.long z.1])) {f : xF} {g : xG} {H : Heap} {locs : List Loc} {ls : Array Slot} (w : wx_w γ A s H locs (cw γ o ad f g (hr γ o ad η ++ τ))) (hl : lv_has ls 6 []) (hF : pX0_when_16 η θ f g = some z) : W p l e rmX0_when s m as below meth c H locs 0 0 Q (F0 m 16 ls []) := by
  have hx := C.1
  have hb := C.2.1
  unfold pX0_when_16 at hF
  refine lv_ldc2 (v := (-4611686018427387904 : Int64)) hx hb C.2.2.2.1 (C.2.2.2.2 _ q1018) dX0_when_16 ?_
  have hF := Option.some.inj hF
  subst hF
  exact E _ _ _ _ w dX0_when_19

theorem bX0_when_59 {p : Program} {l : Launch} {e : Env} {s : State} {m : MethodId} {as : Array Value} {below : List Frame} {meth : Method} {c : Code} {A : Nat → Prop} {Q : State → Prop} {γ : wx_G} {o : Nat} {ad : Nat → Nat} {η : cx_H} {θ : cx_T} {τ : va_W} {z : Int64 × xF × xG} (G : cx_ok γ) (T : tx_ok γ o ad θ (hr γ o ad η ++ τ)) (C : CallFix p m c cX0_when 6 s as lw_all RX0) (K : wx_C γ A s) (E : ∀ (H : Heap) (locs : List Loc) (ls : Array Slot) (pc : Nat), wx_w γ A s H locs (cw γ o ad z.2.1 z.2.2 (hr γ o ad η ++ τ)) → decode cX0_when pc = .ok (.lreturn, 1) → W p l e rmX0_when s m as below meth c H locs 0 0 Q (F0 m pc ls [.long z.1])) {k25 : xF → xG → Int32 → Int32 → Int64 → Int32 → Option (Int64 × xF × xG)} (hk25 : ∀ (f : xF) (g : xG) (v1 : Int32) (v2 : Int32) (v3 : Int64) (v5 : Int32) (H : Heap) (locs : List Loc) (ls : Array Slot), k25 f g v1 v2 v3 v5 = some z → wx_w γ A s H locs (cw γ o ad f g (hr γ o ad η ++ τ)) → lv_has ls 6 [(0, .ref o), (1, .int v1), (2, .int v2), (3, .long v3), (5, .int v5)] → W p l e rmX0_when s m as below meth c H locs 0 0 Q (F0 m 25 ls [])) {f : xF} {g : xG} {v1 : Int32} {v2 : Int32} {v5 : Int32} {t0 : Int64} {t1 : Int64} {H : Heap} {locs : List Loc} {ls : Array Slot} (w : wx_w γ A s H locs (cw γ o ad f g (hr γ o ad η ++ τ))) (hl : lv_has ls 6 [(0, .ref o), (1, .int v1), (2, .int v2), (5, .int v5)]) (hF : pX0_when_59 η θ k25 f g v1 v2 v5 t0 t1 = some z) : W p l e rmX0_when s m as below meth c H locs 0 0 Q (F0 m 59 ls [.long t1, .long t0]) := by
  have hx := C.1
  have hb := C.2.1
  unfold pX0_when_59 at hF
  refine lv_lor hx hb dX0_when_59 ?_
  refine lv_lstore_n (lv' := [(3, .long (t0 ||| t1)), (0, .ref o), (1, .int v1), (2, .int v2), (5, .int v5)]) hx hb dX0_when_60 rfl hl (by decide) rfl (fun ls hl => ?_)
  refine lv_iinc (v := v5 + 1) (lv' := [(5, .int (v5 + 1)), (3, .long (t0 ||| t1)), (0, .ref o), (1, .int v1), (2, .int v2)]) hx hb dX0_when_61 hl (k := 4) rfl rfl (by decide) rfl (fun ls hl => ?_)
  refine lv_goto (tgt := 25) hx hb dX0_when_64 (by decide) ?_
  exact hk25 _ _ _ _ _ _ _ _ _ hF w (lv_sub hl [2, 3, 4, 1, 0] rfl)

theorem bX0_when_25 {p : Program} {l : Launch} {e : Env} {s : State} {m : MethodId} {as : Array Value} {below : List Frame} {meth : Method} {c : Code} {A : Nat → Prop} {Q : State → Prop} {γ : wx_G} {o : Nat} {ad : Nat → Nat} {η : cx_H} {θ : cx_T} {τ : va_W} {z : Int64 × xF × xG} (G : cx_ok γ) (T : tx_ok γ o ad θ (hr γ o ad η ++ τ)) (C : CallFix p m c cX0_when 6 s as lw_all RX0) (K : wx_C γ A s) (E : ∀ (H : Heap) (locs : List Loc) (ls : Array Slot) (pc : Nat), wx_w γ A s H locs (cw γ o ad z.2.1 z.2.2 (hr γ o ad η ++ τ)) → decode cX0_when pc = .ok (.lreturn, 1) → W p l e rmX0_when s m as below meth c H locs 0 0 Q (F0 m pc ls [.long z.1])) : ∀ (n : Nat) (f : xF) (g : xG) (v1 : Int32) (v2 : Int32) (v3 : Int64) (v5 : Int32) (H : Heap) (locs : List Loc) (ls : Array Slot), pX0_when_25 η θ n f g v1 v2 v3 v5 = some z → wx_w γ A s H locs (cw γ o ad f g (hr γ o ad η ++ τ)) → lv_has ls 6 [(0, .ref o), (1, .int v1), (2, .int v2), (3, .long v3), (5, .int v5)] → W p l e rmX0_when s m as below meth c H locs 0 0 Q (F0 m 25 ls []) := by
  have hx := C.1
  have hb := C.2.1
  intro n
  induction n with
  | zero =>
    intro f g v1 v2 v3 v5 H locs ls hF w hl
    have hF : (none : Option (Int64 × xF × xG)) = some z := hF
    cases hF
  | succ n ih =>
    intro f g v1 v2 v3 v5 H locs ls hF w hl
    rw [pX0_when_25] at hF
    refine lv_iload hx hb dX0_when_25 (lv_at hl 4 rfl) ?_
    refine lv_aload_n hx hb dX0_when_27 rfl (lv_at hl 0 rfl) ?_
    refine cget_7 C K w dX0_when_28 ?_
    refine lv_icmp_ge (tgt := 67) hx hb dX0_when_31 (by decide) (fun c => ?_) (fun c => ?_)
    · have hF := (if_pos c).symm.trans hF
      refine lv_lload_n hx hb dX0_when_67 rfl (lv_at hl 3 rfl) ?_
      have hF := Option.some.inj hF
      subst hF
      exact E _ _ _ _ w dX0_when_68
    · have hF := (if_neg c).symm.trans hF
      refine lv_lload_n hx hb dX0_when_34 rfl (lv_at hl 3 rfl) ?_
      refine lv_aload_n hx hb dX0_when_35 rfl (lv_at hl 0 rfl) ?_
      refine lv_aload_n hx hb dX0_when_36 rfl (lv_at hl 0 rfl) ?_
      refine cget_8 C K w dX0_when_37 ?_
      refine lv_iload_n hx hb dX0_when_40 rfl (lv_at hl 1 rfl) ?_
      obtain ⟨hi, hF⟩ := gin_if hF
      obtain ⟨hg, hF⟩ := gk_if hF
      refine c_how C K w hi hg dX0_when_41 ?_
      refine lv_iload_n hx hb dX0_when_42 rfl (lv_at hl 2 rfl) ?_
      refine lv_iload hx hb dX0_when_43 (lv_at hl 4 rfl) ?_
      obtain ⟨r45, hr, hF⟩ := obd hF
      refine rX0_willGo G T C K w hr hl.1 ⟨Nat.le_of_ble_eq_true rfl, Nat.le_of_ble_eq_true rfl⟩ (Nat.le_of_ble_eq_true rfl) dX0_when_45 (fun H locs w => ?_)
      refine lv_if_eq (tgt := 58) hx hb dX0_when_48 (by decide) (fun c => ?_) (fun c => ?_)
      · have hF := (if_pos c).symm.trans hF
        refine lv_lconst (v := (0 : Int64)) hx hb dX0_when_58 (by decide) ?_
        exact bX0_when_59 G T C K E ih w (lv_sub hl [0, 1, 2, 4] rfl) hF
      · have hF := (if_neg c).symm.trans hF
        refine lv_lconst (v := (1 : Int64)) hx hb dX0_when_51 (by decide) ?_
        refine lv_iload hx hb dX0_when_52 (lv_at hl 4 rfl) ?_
        refine lv_lshl hx hb dX0_when_54 rfl ?_
        refine lv_goto (tgt := 59) hx hb dX0_when_55 (by decide) ?_
        exact bX0_when_59 G T C K E ih w (lv_sub hl [0, 1, 2, 4] rfl) hF

theorem bX0_when_0 {p : Program} {l : Launch} {e : Env} {s : State} {m : MethodId} {as : Array Value} {below : List Frame} {meth : Method} {c : Code} {A : Nat → Prop} {Q : State → Prop} {γ : wx_G} {o : Nat} {ad : Nat → Nat} {η : cx_H} {θ : cx_T} {τ : va_W} {z : Int64 × xF × xG} (G : cx_ok γ) (T : tx_ok γ o ad θ (hr γ o ad η ++ τ)) (C : CallFix p m c cX0_when 6 s as lw_all RX0) (K : wx_C γ A s) (E : ∀ (H : Heap) (locs : List Loc) (ls : Array Slot) (pc : Nat), wx_w γ A s H locs (cw γ o ad z.2.1 z.2.2 (hr γ o ad η ++ τ)) → decode cX0_when pc = .ok (.lreturn, 1) → W p l e rmX0_when s m as below meth c H locs 0 0 Q (F0 m pc ls [.long z.1])) {f : xF} {g : xG} {v1 : Int32} {v2 : Int32} {H : Heap} {locs : List Loc} {ls : Array Slot} (w : wx_w γ A s H locs (cw γ o ad f g (hr γ o ad η ++ τ))) (hl : lv_has ls 6 [(0, .ref o), (1, .int v1), (2, .int v2)]) (hF : pX0_when_0 η θ f g v1 v2 = some z) : W p l e rmX0_when s m as below meth c H locs 0 0 Q (F0 m 0 ls []) := by
  have hx := C.1
  have hb := C.2.1
  unfold pX0_when_0 at hF
  refine lv_aload_n hx hb dX0_when_0 rfl (lv_at hl 0 rfl) ?_
  refine lv_iload_n hx hb dX0_when_1 rfl (lv_at hl 1 rfl) ?_
  obtain ⟨r2, hr, hF⟩ := obd hF
  refine rX0_isHow G C K w hr hl.1 ⟨Nat.le_of_ble_eq_true rfl, Nat.le_of_ble_eq_true rfl⟩ (Nat.le_of_ble_eq_true rfl) dX0_when_2 (fun H locs w => ?_)
  refine lv_if_eq (tgt := 16) hx hb dX0_when_5 (by decide) (fun c => ?_) (fun c => ?_)
  · have hF := (if_pos c).symm.trans hF
    exact bX0_when_16 G T C K E w (lv_sub hl [] rfl) hF
  · have hF := (if_neg c).symm.trans hF
    refine lv_aload_n hx hb dX0_when_8 rfl (lv_at hl 0 rfl) ?_
    refine lv_iload_n hx hb dX0_when_9 rfl (lv_at hl 2 rfl) ?_
    obtain ⟨r10, hr, hF⟩ := obd hF
    refine rX0_isStone G C K w hr hl.1 ⟨Nat.le_of_ble_eq_true rfl, Nat.le_of_ble_eq_true rfl⟩ (Nat.le_of_ble_eq_true rfl) dX0_when_10 (fun H locs w => ?_)
    refine lv_if_ne (tgt := 20) hx hb dX0_when_13 (by decide) (fun c => ?_) (fun c => ?_)
    · have hF := (if_neg c).symm.trans hF
      refine lv_lconst (v := (0 : Int64)) hx hb dX0_when_20 (by decide) ?_
      refine lv_lstore_n (lv' := [(3, .long (0 : Int64)), (0, .ref o), (1, .int v1), (2, .int v2)]) hx hb dX0_when_21 rfl hl (by decide) rfl (fun ls hl => ?_)
      refine lv_iconst (v := (0 : Int32)) hx hb dX0_when_22 (by decide) ?_
      refine lv_istore (lv' := [(5, .int (0 : Int32)), (3, .long (0 : Int64)), (0, .ref o), (1, .int v1), (2, .int v2)]) hx hb dX0_when_23 hl (by decide) rfl (fun ls hl => ?_)
      exact bX0_when_25 G T C K E 5000 _ _ _ _ _ _ _ _ _ hF w (lv_sub hl [2, 3, 4, 1, 0] rfl)
    · have hF := (if_pos c).symm.trans hF
      exact bX0_when_16 G T C K E w (lv_sub hl [] rfl) hF

theorem mX0_when {l : Launch} {γ : wx_G} {o : Nat} {ad : Nat → Nat} {η : cx_H} {θ : cx_T} {τ : va_W} {f : xF} {g : xG} {v1 : Int32} {v2 : Int32} {z : Int64 × xF × xG} (G : cx_ok γ) (T : tx_ok γ o ad θ (hr γ o ad η ++ τ)) (hF : pX0_when η θ f g v1 v2 = some z) : wx_M γ l yX0_when (ws_ yX0_when cX0_when 6 (some .long)) rmX0_when [.ref o, .int v1, .int v2] (cw γ o ad f g (hr γ o ad η ++ τ)) (fun v ws => v = some (.long z.1) ∧ ws = (cw γ o ad z.2.1 z.2.2 (hr γ o ad η ++ τ))) 0 0 := by
  refine wx_M.of (by decide) (Nat.le_of_ble_eq_true rfl) ?_
  intro p e s m as below meth c A ls C K w hr hlocks _ hl
  exact bX0_when_0 G T C K (fun H locs ls pc w d => wx_lret C hr hlocks w ⟨rfl, rfl⟩ d) w hl hF

/-! WalkingStones.goers(II)I -/
abbrev rmX0_goers : Room := { frames := 205, cells := 0, slots := 0, locals := 8146 }
def pX0_goers_39 (η : cx_H) (θ : cx_T) (k5 : xF → xG → Int32 → Int32 → Int32 → Int32 → Option (Int32 × xF × xG)) (f : xF) (g : xG) (v1 : Int32) (v2 : Int32) (v4 : Int32) (t0 : Int32) (t1 : Int32) : Option (Int32 × xF × xG) := k5 f g v1 v2 (t0 ||| t1) (v4 + 1)

def pX0_goers_5 (η : cx_H) (θ : cx_T) : Nat → xF → xG → Int32 → Int32 → Int32 → Int32 → Option (Int32 × xF × xG)
  | 0, _, _, _, _, _, _ => none
  | n + 1, f, g, v1, v2, v3, v4 => if (f 2) ≤ v4 then some (v3, f, g) else (if gin v1 8 = true then if gk η v1 [0, 1, 2, 3, 4, 5] = true then (pX0_willGo η θ f g v1 v4 v2).bind (fun r25 => if r25.1 = 0 then pX0_goers_39 η θ (pX0_goers_5 η θ n) r25.2.1 r25.2.2 v1 v2 v4 v3 (0 : Int32) else pX0_goers_39 η θ (pX0_goers_5 η θ n) r25.2.1 r25.2.2 v1 v2 v4 v3 ((1 : Int32) <<< (v4 &&& 31))) else none else none)

def pX0_goers_0 (η : cx_H) (θ : cx_T) (f : xF) (g : xG) (v1 : Int32) (v2 : Int32) : Option (Int32 × xF × xG) := pX0_goers_5 η θ 5000 f g v1 v2 (0 : Int32) (0 : Int32)

abbrev pX0_goers (η : cx_H) (θ : cx_T) (f : xF) (g : xG) (v1 : Int32) (v2 : Int32) : Option (Int32 × xF × xG) := pX0_goers_0 η θ f g v1 v2
theorem bX0_goers_39 {p : Program} {l : Launch} {e : Env} {s : State} {m : MethodId} {as : Array Value} {below : List Frame} {meth : Method} {c : Code} {A : Nat → Prop} {Q : State → Prop} {γ : wx_G} {o : Nat} {ad : Nat → Nat} {η : cx_H} {θ : cx_T} {τ : va_W} {z : Int32 × xF × xG} (G : cx_ok γ) (T : tx_ok γ o ad θ (hr γ o ad η ++ τ)) (C : CallFix p m c cX0_goers 5 s as lw_all RX0) (K : wx_C γ A s) (E : ∀ (H : Heap) (locs : List Loc) (ls : Array Slot) (pc : Nat), wx_w γ A s H locs (cw γ o ad z.2.1 z.2.2 (hr γ o ad η ++ τ)) → decode cX0_goers pc = .ok (.ireturn, 1) → W p l e rmX0_goers s m as below meth c H locs 0 0 Q (F0 m pc ls [.int z.1])) {k5 : xF → xG → Int32 → Int32 → Int32 → Int32 → Option (Int32 × xF × xG)} (hk5 : ∀ (f : xF) (g : xG) (v1 : Int32) (v2 : Int32) (v3 : Int32) (v4 : Int32) (H : Heap) (locs : List Loc) (ls : Array Slot), k5 f g v1 v2 v3 v4 = some z → wx_w γ A s H locs (cw γ o ad f g (hr γ o ad η ++ τ)) → lv_has ls 5 [(0, .ref o), (1, .int v1), (2, .int v2), (3, .int v3), (4, .int v4)] → W p l e rmX0_goers s m as below meth c H locs 0 0 Q (F0 m 5 ls [])) {f : xF} {g : xG} {v1 : Int32} {v2 : Int32} {v4 : Int32} {t0 : Int32} {t1 : Int32} {H : Heap} {locs : List Loc} {ls : Array Slot} (w : wx_w γ A s H locs (cw γ o ad f g (hr γ o ad η ++ τ))) (hl : lv_has ls 5 [(0, .ref o), (1, .int v1), (2, .int v2), (4, .int v4)]) (hF : pX0_goers_39 η θ k5 f g v1 v2 v4 t0 t1 = some z) : W p l e rmX0_goers s m as below meth c H locs 0 0 Q (F0 m 39 ls [.int t1, .int t0]) := by
  have hx := C.1
  have hb := C.2.1
  unfold pX0_goers_39 at hF
  refine lv_ior hx hb dX0_goers_39 ?_
  refine lv_istore_n (lv' := [(3, .int (t0 ||| t1)), (0, .ref o), (1, .int v1), (2, .int v2), (4, .int v4)]) hx hb dX0_goers_40 rfl hl (by decide) rfl (fun ls hl => ?_)
  refine lv_iinc (v := v4 + 1) (lv' := [(4, .int (v4 + 1)), (3, .int (t0 ||| t1)), (0, .ref o), (1, .int v1), (2, .int v2)]) hx hb dX0_goers_41 hl (k := 4) rfl rfl (by decide) rfl (fun ls hl => ?_)
  refine lv_goto (tgt := 5) hx hb dX0_goers_44 (by decide) ?_
  exact hk5 _ _ _ _ _ _ _ _ _ hF w (lv_sub hl [2, 3, 4, 1, 0] rfl)

theorem bX0_goers_5 {p : Program} {l : Launch} {e : Env} {s : State} {m : MethodId} {as : Array Value} {below : List Frame} {meth : Method} {c : Code} {A : Nat → Prop} {Q : State → Prop} {γ : wx_G} {o : Nat} {ad : Nat → Nat} {η : cx_H} {θ : cx_T} {τ : va_W} {z : Int32 × xF × xG} (G : cx_ok γ) (T : tx_ok γ o ad θ (hr γ o ad η ++ τ)) (C : CallFix p m c cX0_goers 5 s as lw_all RX0) (K : wx_C γ A s) (E : ∀ (H : Heap) (locs : List Loc) (ls : Array Slot) (pc : Nat), wx_w γ A s H locs (cw γ o ad z.2.1 z.2.2 (hr γ o ad η ++ τ)) → decode cX0_goers pc = .ok (.ireturn, 1) → W p l e rmX0_goers s m as below meth c H locs 0 0 Q (F0 m pc ls [.int z.1])) : ∀ (n : Nat) (f : xF) (g : xG) (v1 : Int32) (v2 : Int32) (v3 : Int32) (v4 : Int32) (H : Heap) (locs : List Loc) (ls : Array Slot), pX0_goers_5 η θ n f g v1 v2 v3 v4 = some z → wx_w γ A s H locs (cw γ o ad f g (hr γ o ad η ++ τ)) → lv_has ls 5 [(0, .ref o), (1, .int v1), (2, .int v2), (3, .int v3), (4, .int v4)] → W p l e rmX0_goers s m as below meth c H locs 0 0 Q (F0 m 5 ls []) := by
  have hx := C.1
  have hb := C.2.1
  intro n
  induction n with
  | zero =>
    intro f g v1 v2 v3 v4 H locs ls hF w hl
    have hF : (none : Option (Int32 × xF × xG)) = some z := hF
    cases hF
  | succ n ih =>
    intro f g v1 v2 v3 v4 H locs ls hF w hl
    rw [pX0_goers_5] at hF
    refine lv_iload hx hb dX0_goers_5 (lv_at hl 4 rfl) ?_
    refine lv_aload_n hx hb dX0_goers_7 rfl (lv_at hl 0 rfl) ?_
    refine cget_2 C K w dX0_goers_8 ?_
    refine lv_icmp_ge (tgt := 47) hx hb dX0_goers_11 (by decide) (fun c => ?_) (fun c => ?_)
    · have hF := (if_pos c).symm.trans hF
      refine lv_iload_n hx hb dX0_goers_47 rfl (lv_at hl 3 rfl) ?_
      have hF := Option.some.inj hF
      subst hF
      exact E _ _ _ _ w dX0_goers_48
    · have hF := (if_neg c).symm.trans hF
      refine lv_iload_n hx hb dX0_goers_14 rfl (lv_at hl 3 rfl) ?_
      refine lv_aload_n hx hb dX0_goers_15 rfl (lv_at hl 0 rfl) ?_
      refine lv_aload_n hx hb dX0_goers_16 rfl (lv_at hl 0 rfl) ?_
      refine cget_8 C K w dX0_goers_17 ?_
      refine lv_iload_n hx hb dX0_goers_20 rfl (lv_at hl 1 rfl) ?_
      obtain ⟨hi, hF⟩ := gin_if hF
      obtain ⟨hg, hF⟩ := gk_if hF
      refine c_how C K w hi hg dX0_goers_21 ?_
      refine lv_iload hx hb dX0_goers_22 (lv_at hl 4 rfl) ?_
      refine lv_iload_n hx hb dX0_goers_24 rfl (lv_at hl 2 rfl) ?_
      obtain ⟨r25, hr, hF⟩ := obd hF
      refine rX0_willGo G T C K w hr hl.1 ⟨Nat.le_of_ble_eq_true rfl, Nat.le_of_ble_eq_true rfl⟩ (Nat.le_of_ble_eq_true rfl) dX0_goers_25 (fun H locs w => ?_)
      refine lv_if_eq (tgt := 38) hx hb dX0_goers_28 (by decide) (fun c => ?_) (fun c => ?_)
      · have hF := (if_pos c).symm.trans hF
        refine lv_iconst (v := (0 : Int32)) hx hb dX0_goers_38 (by decide) ?_
        exact bX0_goers_39 G T C K E ih w (lv_sub hl [0, 1, 2, 4] rfl) hF
      · have hF := (if_neg c).symm.trans hF
        refine lv_iconst (v := (1 : Int32)) hx hb dX0_goers_31 (by decide) ?_
        refine lv_iload hx hb dX0_goers_32 (lv_at hl 4 rfl) ?_
        refine lv_ishl hx hb dX0_goers_34 ?_
        refine lv_goto (tgt := 39) hx hb dX0_goers_35 (by decide) ?_
        exact bX0_goers_39 G T C K E ih w (lv_sub hl [0, 1, 2, 4] rfl) hF

theorem bX0_goers_0 {p : Program} {l : Launch} {e : Env} {s : State} {m : MethodId} {as : Array Value} {below : List Frame} {meth : Method} {c : Code} {A : Nat → Prop} {Q : State → Prop} {γ : wx_G} {o : Nat} {ad : Nat → Nat} {η : cx_H} {θ : cx_T} {τ : va_W} {z : Int32 × xF × xG} (G : cx_ok γ) (T : tx_ok γ o ad θ (hr γ o ad η ++ τ)) (C : CallFix p m c cX0_goers 5 s as lw_all RX0) (K : wx_C γ A s) (E : ∀ (H : Heap) (locs : List Loc) (ls : Array Slot) (pc : Nat), wx_w γ A s H locs (cw γ o ad z.2.1 z.2.2 (hr γ o ad η ++ τ)) → decode cX0_goers pc = .ok (.ireturn, 1) → W p l e rmX0_goers s m as below meth c H locs 0 0 Q (F0 m pc ls [.int z.1])) {f : xF} {g : xG} {v1 : Int32} {v2 : Int32} {H : Heap} {locs : List Loc} {ls : Array Slot} (w : wx_w γ A s H locs (cw γ o ad f g (hr γ o ad η ++ τ))) (hl : lv_has ls 5 [(0, .ref o), (1, .int v1), (2, .int v2)]) (hF : pX0_goers_0 η θ f g v1 v2 = some z) : W p l e rmX0_goers s m as below meth c H locs 0 0 Q (F0 m 0 ls []) := by
  have hx := C.1
  have hb := C.2.1
  unfold pX0_goers_0 at hF
  refine lv_iconst (v := (0 : Int32)) hx hb dX0_goers_0 (by decide) ?_
  refine lv_istore_n (lv' := [(3, .int (0 : Int32)), (0, .ref o), (1, .int v1), (2, .int v2)]) hx hb dX0_goers_1 rfl hl (by decide) rfl (fun ls hl => ?_)
  refine lv_iconst (v := (0 : Int32)) hx hb dX0_goers_2 (by decide) ?_
  refine lv_istore (lv' := [(4, .int (0 : Int32)), (3, .int (0 : Int32)), (0, .ref o), (1, .int v1), (2, .int v2)]) hx hb dX0_goers_3 hl (by decide) rfl (fun ls hl => ?_)
  exact bX0_goers_5 G T C K E 5000 _ _ _ _ _ _ _ _ _ hF w (lv_sub hl [2, 3, 4, 1, 0] rfl)

theorem mX0_goers {l : Launch} {γ : wx_G} {o : Nat} {ad : Nat → Nat} {η : cx_H} {θ : cx_T} {τ : va_W} {f : xF} {g : xG} {v1 : Int32} {v2 : Int32} {z : Int32 × xF × xG} (G : cx_ok γ) (T : tx_ok γ o ad θ (hr γ o ad η ++ τ)) (hF : pX0_goers η θ f g v1 v2 = some z) : wx_M γ l yX0_goers (ws_ yX0_goers cX0_goers 5 (some .int)) rmX0_goers [.ref o, .int v1, .int v2] (cw γ o ad f g (hr γ o ad η ++ τ)) (fun v ws => v = some (.int z.1) ∧ ws = (cw γ o ad z.2.1 z.2.2 (hr γ o ad η ++ τ))) 0 0 := by
  refine wx_M.of (by decide) (Nat.le_of_ble_eq_true rfl) ?_
  intro p e s m as below meth c A ls C K w hr hlocks _ hl
  exact bX0_goers_0 G T C K (fun H locs ls pc w d => wx_iret C hr hlocks w ⟨rfl, rfl⟩ d) w hl hF
theorem rX0_goers {p : Program} {l : Launch} {e : Env} {R : Room} {s : State} {m : MethodId} {as : Array Value} {below : List Frame} {meth : Method} {c : Code} {H : Heap} {locs : List Loc} {cells slots : Nat} {Q : State → Prop} {cc : ByteArray} {nL pc : Nat} {ls : Array Slot} {rest : List Value} {γ : wx_G} {A : Nat → Prop} {o : Nat} {ad : Nat → Nat} {η : cx_H} {θ : cx_T} {τ : va_W} {f : xF} {g : xG} {v1 : Int32} {v2 : Int32} {z : Int32 × xF × xG} (G : cx_ok γ) (T : tx_ok γ o ad θ (hr γ o ad η ++ τ)) (C : CallFix p m c cc nL s as lw_all RX0) (K : wx_C γ A s) (w : wx_w γ A s H locs (cw γ o ad f g (hr γ o ad η ++ τ))) (hF : pX0_goers η θ f g v1 v2 = some z) (hls : ls.size = nL) (hR : rmX0_goers.frames + 1 ≤ R.frames ∧ 8 + (5 + 11) + rmX0_goers.locals ≤ R.locals) (hW : (rest.map fun v => v.category).sum ≤ 8) (d : decode cc pc = .ok (.invokevirtual 452, 3)) (kk : ∀ (H : Heap) (locs : List Loc), wx_w γ A s H locs (cw γ o ad z.2.1 z.2.2 (hr γ o ad η ++ τ)) → W p l e R s m as below meth c H locs cells slots Q (F0 m (pc + 3) ls (.int z.1 :: rest))) (hf : cells ≤ R.cells ∧ slots ≤ R.slots := by exact ⟨Nat.le_of_ble_eq_true rfl, Nat.le_of_ble_eq_true rfl⟩) : W p l e R s m as below meth c H locs cells slots Q (F0 m pc ls (.int v2 :: .int v1 :: .ref o :: rest)) :=
  wx_callV (n := 2) C K w (mX0_goers (l := l) G T hF) q1077 q1079 qs43 q106 q1080 rfl rfl (by decide +kernel) (va_recv K.1.1 w.1 (ci := 1) (q0 := 0) rfl rfl) rfl rfl hR hls hW hf d (fun v ws H1 locs1 hp w => by obtain ⟨rfl, rfl⟩ := hp; exact kk H1 locs1 w)

/-! WalkingStones.foretold(II)I -/
abbrev rmX0_foretold : Room := { frames := 206, cells := 0, slots := 0, locals := 8170 }
def pX0_foretold_27 (η : cx_H) (θ : cx_T) (f : xF) (g : xG) (t0 : Int32) : Option (Int32 × xF × xG) := some (t0, f, g)

def pX0_foretold_25 (η : cx_H) (θ : cx_T) (f : xF) (g : xG) : Option (Int32 × xF × xG) := pX0_foretold_27 η θ f g (-2 : Int32)

def pX0_foretold_0 (η : cx_H) (θ : cx_T) (f : xF) (g : xG) (v1 : Int32) (v2 : Int32) : Option (Int32 × xF × xG) := (pX0_isHow f g v1).bind (fun r2 => if r2 = 0 then pX0_foretold_25 η θ f g else (pX0_isNight f g v2).bind (fun r10 => if r10 = 0 then pX0_foretold_25 η θ f g else (pX0_goers η θ f g v1 v2).bind (fun r19 => pX0_foretold_27 η θ r19.2.1 r19.2.2 r19.1)))

abbrev pX0_foretold (η : cx_H) (θ : cx_T) (f : xF) (g : xG) (v1 : Int32) (v2 : Int32) : Option (Int32 × xF × xG) := pX0_foretold_0 η θ f g v1 v2
theorem bX0_foretold_27 {p : Program} {l : Launch} {e : Env} {s : State} {m : MethodId} {as : Array Value} {below : List Frame} {meth : Method} {c : Code} {A : Nat → Prop} {Q : State → Prop} {γ : wx_G} {o : Nat} {ad : Nat → Nat} {η : cx_H} {θ : cx_T} {τ : va_W} {z : Int32 × xF × xG} (G : cx_ok γ) (T : tx_ok γ o ad θ (hr γ o ad η ++ τ)) (C : CallFix p m c cX0_foretold 3 s as lw_all RX0) (K : wx_C γ A s) (E : ∀ (H : Heap) (locs : List Loc) (ls : Array Slot) (pc : Nat), wx_w γ A s H locs (cw γ o ad z.2.1 z.2.2 (hr γ o ad η ++ τ)) → decode cX0_foretold pc = .ok (.ireturn, 1) → W p l e rmX0_foretold s m as below meth c H locs 0 0 Q (F0 m pc ls [.int z.1])) {f : xF} {g : xG} {t0 : Int32} {H : Heap} {locs : List Loc} {ls : Array Slot} (w : wx_w γ A s H locs (cw γ o ad f g (hr γ o ad η ++ τ))) (hl : lv_has ls 3 []) (hF : pX0_foretold_27 η θ f g t0 = some z) : W p l e rmX0_foretold s m as below meth c H locs 0 0 Q (F0 m 27 ls [.int t0]) := by
  have hx := C.1
  have hb := C.2.1
  unfold pX0_foretold_27 at hF
  have hF := Option.some.inj hF
  subst hF
  exact E _ _ _ _ w dX0_foretold_27

theorem bX0_foretold_25 {p : Program} {l : Launch} {e : Env} {s : State} {m : MethodId} {as : Array Value} {below : List Frame} {meth : Method} {c : Code} {A : Nat → Prop} {Q : State → Prop} {γ : wx_G} {o : Nat} {ad : Nat → Nat} {η : cx_H} {θ : cx_T} {τ : va_W} {z : Int32 × xF × xG} (G : cx_ok γ) (T : tx_ok γ o ad θ (hr γ o ad η ++ τ)) (C : CallFix p m c cX0_foretold 3 s as lw_all RX0) (K : wx_C γ A s) (E : ∀ (H : Heap) (locs : List Loc) (ls : Array Slot) (pc : Nat), wx_w γ A s H locs (cw γ o ad z.2.1 z.2.2 (hr γ o ad η ++ τ)) → decode cX0_foretold pc = .ok (.ireturn, 1) → W p l e rmX0_foretold s m as below meth c H locs 0 0 Q (F0 m pc ls [.int z.1])) {f : xF} {g : xG} {H : Heap} {locs : List Loc} {ls : Array Slot} (w : wx_w γ A s H locs (cw γ o ad f g (hr γ o ad η ++ τ))) (hl : lv_has ls 3 []) (hF : pX0_foretold_25 η θ f g = some z) : W p l e rmX0_foretold s m as below meth c H locs 0 0 Q (F0 m 25 ls []) := by
  have hx := C.1
  have hb := C.2.1
  unfold pX0_foretold_25 at hF
  refine lv_bipush (v := (-2 : Int32)) hx hb dX0_foretold_25 (by decide) ?_
  exact bX0_foretold_27 G T C K E w hl hF

theorem bX0_foretold_0 {p : Program} {l : Launch} {e : Env} {s : State} {m : MethodId} {as : Array Value} {below : List Frame} {meth : Method} {c : Code} {A : Nat → Prop} {Q : State → Prop} {γ : wx_G} {o : Nat} {ad : Nat → Nat} {η : cx_H} {θ : cx_T} {τ : va_W} {z : Int32 × xF × xG} (G : cx_ok γ) (T : tx_ok γ o ad θ (hr γ o ad η ++ τ)) (C : CallFix p m c cX0_foretold 3 s as lw_all RX0) (K : wx_C γ A s) (E : ∀ (H : Heap) (locs : List Loc) (ls : Array Slot) (pc : Nat), wx_w γ A s H locs (cw γ o ad z.2.1 z.2.2 (hr γ o ad η ++ τ)) → decode cX0_foretold pc = .ok (.ireturn, 1) → W p l e rmX0_foretold s m as below meth c H locs 0 0 Q (F0 m pc ls [.int z.1])) {f : xF} {g : xG} {v1 : Int32} {v2 : Int32} {H : Heap} {locs : List Loc} {ls : Array Slot} (w : wx_w γ A s H locs (cw γ o ad f g (hr γ o ad η ++ τ))) (hl : lv_has ls 3 [(0, .ref o), (1, .int v1), (2, .int v2)]) (hF : pX0_foretold_0 η θ f g v1 v2 = some z) : W p l e rmX0_foretold s m as below meth c H locs 0 0 Q (F0 m 0 ls []) := by
  have hx := C.1
  have hb := C.2.1
  unfold pX0_foretold_0 at hF
  refine lv_aload_n hx hb dX0_foretold_0 rfl (lv_at hl 0 rfl) ?_
  refine lv_iload_n hx hb dX0_foretold_1 rfl (lv_at hl 1 rfl) ?_
  obtain ⟨r2, hr, hF⟩ := obd hF
  refine rX0_isHow G C K w hr hl.1 ⟨Nat.le_of_ble_eq_true rfl, Nat.le_of_ble_eq_true rfl⟩ (Nat.le_of_ble_eq_true rfl) dX0_foretold_2 (fun H locs w => ?_)
  refine lv_if_eq (tgt := 25) hx hb dX0_foretold_5 (by decide) (fun c => ?_) (fun c => ?_)
  · have hF := (if_pos c).symm.trans hF
    exact bX0_foretold_25 G T C K E w (lv_sub hl [] rfl) hF
  · have hF := (if_neg c).symm.trans hF
    refine lv_aload_n hx hb dX0_foretold_8 rfl (lv_at hl 0 rfl) ?_
    refine lv_iload_n hx hb dX0_foretold_9 rfl (lv_at hl 2 rfl) ?_
    obtain ⟨r10, hr, hF⟩ := obd hF
    refine rX0_isNight G C K w hr hl.1 ⟨Nat.le_of_ble_eq_true rfl, Nat.le_of_ble_eq_true rfl⟩ (Nat.le_of_ble_eq_true rfl) dX0_foretold_10 (fun H locs w => ?_)
    refine lv_if_eq (tgt := 25) hx hb dX0_foretold_13 (by decide) (fun c => ?_) (fun c => ?_)
    · have hF := (if_pos c).symm.trans hF
      exact bX0_foretold_25 G T C K E w (lv_sub hl [] rfl) hF
    · have hF := (if_neg c).symm.trans hF
      refine lv_aload_n hx hb dX0_foretold_16 rfl (lv_at hl 0 rfl) ?_
      refine lv_iload_n hx hb dX0_foretold_17 rfl (lv_at hl 1 rfl) ?_
      refine lv_iload_n hx hb dX0_foretold_18 rfl (lv_at hl 2 rfl) ?_
      obtain ⟨r19, hr, hF⟩ := obd hF
      refine rX0_goers G T C K w hr hl.1 ⟨Nat.le_of_ble_eq_true rfl, Nat.le_of_ble_eq_true rfl⟩ (Nat.le_of_ble_eq_true rfl) dX0_foretold_19 (fun H locs w => ?_)
      refine lv_goto (tgt := 27) hx hb dX0_foretold_22 (by decide) ?_
      exact bX0_foretold_27 G T C K E w (lv_sub hl [] rfl) hF

theorem mX0_foretold {l : Launch} {γ : wx_G} {o : Nat} {ad : Nat → Nat} {η : cx_H} {θ : cx_T} {τ : va_W} {f : xF} {g : xG} {v1 : Int32} {v2 : Int32} {z : Int32 × xF × xG} (G : cx_ok γ) (T : tx_ok γ o ad θ (hr γ o ad η ++ τ)) (hF : pX0_foretold η θ f g v1 v2 = some z) : wx_M γ l yX0_foretold (ws_ yX0_foretold cX0_foretold 3 (some .int)) rmX0_foretold [.ref o, .int v1, .int v2] (cw γ o ad f g (hr γ o ad η ++ τ)) (fun v ws => v = some (.int z.1) ∧ ws = (cw γ o ad z.2.1 z.2.2 (hr γ o ad η ++ τ))) 0 0 := by
  refine wx_M.of (by decide) (Nat.le_of_ble_eq_true rfl) ?_
  intro p e s m as below meth c A ls C K w hr hlocks _ hl
  exact bX0_foretold_0 G T C K (fun H locs ls pc w d => wx_iret C hr hlocks w ⟨rfl, rfl⟩ d) w hl hF

/-! WalkingStones.look(II)I -/
abbrev rmX0_look : Room := { frames := 202, cells := 0, slots := 0, locals := 8048 }
def pX0_look_24 (η : cx_H) (θ : cx_T) (f : xF) (g : xG) : Option (Int32 × xF × xG) := some ((-2 : Int32), f, g)

def pX0_look_234 (η : cx_H) (θ : cx_T) (f : xF) (g : xG) (t0 : Int32) : Option (Int32 × xF × xG) := some (t0, f, g)

def pX0_look_213 (η : cx_H) (θ : cx_T) (f : xF) (g : xG) (v2 : Int32) (v4 : Int32) (v5 : Int32) (v6 : Int32) : Option (Int32 × xF × xG) := if v2 = 0 then pX0_look_234 η θ f g v4 else (if v2 = (1 : Int32) then pX0_look_234 η θ f g v5 else pX0_look_234 η θ f g v6)

def pX0_look_207 (η : cx_H) (θ : cx_T) (k83 : xF → xG → Int32 → Int32 → Int32 → Int32 → Int32 → Int32 → Int32 → Option (Int32 × xF × xG)) (f : xF) (g : xG) (v1 : Int32) (v2 : Int32) (v3 : Int32) (v4 : Int32) (v5 : Int32) (v6 : Int32) (v7 : Int32) : Option (Int32 × xF × xG) := k83 f g v1 v2 v3 v4 v5 v6 (v7 + 1)

def pX0_look_195 (η : cx_H) (θ : cx_T) (k83 : xF → xG → Int32 → Int32 → Int32 → Int32 → Int32 → Int32 → Int32 → Option (Int32 × xF × xG)) (f : xF) (g : xG) (v1 : Int32) (v2 : Int32) (v3 : Int32) (v7 : Int32) (v8 : Int32) (v9 : Int32) : Option (Int32 × xF × xG) := pX0_look_207 η θ k83 f g v1 v2 v3 v7 v8 v9 v7

def pX0_look_168 (η : cx_H) (θ : cx_T) (k83 : xF → xG → Int32 → Int32 → Int32 → Int32 → Int32 → Int32 → Int32 → Option (Int32 × xF × xG)) (f : xF) (g : xG) (v1 : Int32) (v2 : Int32) (v3 : Int32) (v4 : Int32) (v5 : Int32) (v6 : Int32) (v7 : Int32) (v8 : Int32) (v9 : Int32) : Option (Int32 × xF × xG) := if v1 < v9 then pX0_look_207 η θ k83 f g v1 v2 v3 v4 v5 v6 v7 else (if v5 < v8 then pX0_look_195 η θ k83 f g v1 v2 v3 v7 v8 v9 else (if v8 = v5 then (if v6 ≤ v9 then pX0_look_207 η θ k83 f g v1 v2 v3 v4 v5 v6 v7 else pX0_look_195 η θ k83 f g v1 v2 v3 v7 v8 v9) else pX0_look_207 η θ k83 f g v1 v2 v3 v4 v5 v6 v7))

def pX0_look_159 (η : cx_H) (θ : cx_T) (k83 : xF → xG → Int32 → Int32 → Int32 → Int32 → Int32 → Int32 → Int32 → Option (Int32 × xF × xG)) (k100 : xF → xG → Int32 → Int32 → Int32 → Int32 → Int32 → Int32 → Int32 → Int32 → Int32 → Int32 → Option (Int32 × xF × xG)) (f : xF) (g : xG) (v1 : Int32) (v2 : Int32) (v3 : Int32) (v4 : Int32) (v5 : Int32) (v6 : Int32) (v7 : Int32) (v8 : Int32) (v10 : Int32) (t0 : Int32) (t1 : Int32) : Option (Int32 × xF × xG) := k100 f g v1 v2 v3 v4 v5 v6 v7 v8 (t0 + t1) (v10 + 1)

def pX0_look_130 (η : cx_H) (θ : cx_T) (k83 : xF → xG → Int32 → Int32 → Int32 → Int32 → Int32 → Int32 → Int32 → Option (Int32 × xF × xG)) (k100 : xF → xG → Int32 → Int32 → Int32 → Int32 → Int32 → Int32 → Int32 → Int32 → Int32 → Int32 → Option (Int32 × xF × xG)) (f : xF) (g : xG) (v1 : Int32) (v2 : Int32) (v3 : Int32) (v4 : Int32) (v5 : Int32) (v6 : Int32) (v7 : Int32) (v9 : Int32) (v10 : Int32) (t0 : Int32) (t1 : Int32) : Option (Int32 × xF × xG) := if ((v7 >>> (v10 &&& 31)) &&& (1 : Int32)) = (1 : Int32) then (if gin v10 60 = true then pX0_look_159 η θ k83 k100 f g v1 v2 v3 v4 v5 v6 v7 (t0 + t1) v10 v9 ((3 : Int32) + (g 4 v10.toNatClampNeg)) else none) else pX0_look_159 η θ k83 k100 f g v1 v2 v3 v4 v5 v6 v7 (t0 + t1) v10 v9 (0 : Int32)

def pX0_look_100 (η : cx_H) (θ : cx_T) (k83 : xF → xG → Int32 → Int32 → Int32 → Int32 → Int32 → Int32 → Int32 → Option (Int32 × xF × xG)) : Nat → xF → xG → Int32 → Int32 → Int32 → Int32 → Int32 → Int32 → Int32 → Int32 → Int32 → Int32 → Option (Int32 × xF × xG)
  | 0, _, _, _, _, _, _, _, _, _, _, _, _ => none
  | n + 1, f, g, v1, v2, v3, v4, v5, v6, v7, v8, v9, v10 => if v3 ≤ v10 then pX0_look_168 η θ k83 f g v1 v2 v3 v4 v5 v6 v7 v8 v9 else (if ((v7 >>> (v10 &&& 31)) &&& (1 : Int32)) = (1 : Int32) then (if gin v10 12 = true then pX0_look_130 η θ k83 (pX0_look_100 η θ k83 n) f g v1 v2 v3 v4 v5 v6 v7 v9 v10 v8 (g 40 v10.toNatClampNeg) else none) else pX0_look_130 η θ k83 (pX0_look_100 η θ k83 n) f g v1 v2 v3 v4 v5 v6 v7 v9 v10 v8 (0 : Int32))

def pX0_look_83 (η : cx_H) (θ : cx_T) : Nat → xF → xG → Int32 → Int32 → Int32 → Int32 → Int32 → Int32 → Int32 → Option (Int32 × xF × xG)
  | 0, _, _, _, _, _, _, _, _, _ => none
  | n + 1, f, g, v1, v2, v3, v4, v5, v6, v7 => if ((1 : Int32) <<< (v3 &&& 31)) ≤ v7 then pX0_look_213 η θ f g v2 v4 v5 v6 else pX0_look_100 η θ (pX0_look_83 η θ n) 5000 f g v1 v2 v3 v4 v5 v6 v7 (0 : Int32) (0 : Int32) (0 : Int32)

def pX0_look_71 (η : cx_H) (θ : cx_T) (f : xF) (g : xG) (v1 : Int32) (v2 : Int32) (v3 : Int32) : Option (Int32 × xF × xG) := pX0_look_83 η θ 5000 f g v1 v2 v3 (0 : Int32) (-1 : Int32) (0 : Int32) (0 : Int32)

def pX0_look_40 (η : cx_H) (θ : cx_T) : Nat → xF → xG → Int32 → Int32 → Int32 → Int32 → Option (Int32 × xF × xG)
  | 0, _, _, _, _, _, _ => none
  | n + 1, f, g, v1, v2, v3, v4 => if v3 ≤ v4 then pX0_look_71 η θ f g v1 v2 v3 else (pX0_asks η θ f g (2 : Int32) v4 (0 : Int32) (0 : Int32) (0 : Int32) (99 : Int32)).bind (fun r61 => if gin v4 12 = true then pX0_look_40 η θ n r61.2.1 (va_up r61.2.2 40 (upd (r61.2.2 40) v4.toNatClampNeg r61.1)) v1 v2 v3 (v4 + 1) else none)

def pX0_look_0 (η : cx_H) (θ : cx_T) (f : xF) (g : xG) (v1 : Int32) (v2 : Int32) : Option (Int32 × xF × xG) := (pX0_in f g v1.toInt64 (0 : Int64) (99 : Int64)).bind (fun r6 => if r6 = 0 then pX0_look_24 η θ f g else (pX0_in f g v2.toInt64 (0 : Int64) (2 : Int64)).bind (fun r18 => if r18 = 0 then pX0_look_24 η θ f g else pX0_look_40 η θ 5000 f g v1 v2 (wmin (12 : Int32) (f 7)) (0 : Int32)))

abbrev pX0_look (η : cx_H) (θ : cx_T) (f : xF) (g : xG) (v1 : Int32) (v2 : Int32) : Option (Int32 × xF × xG) := pX0_look_0 η θ f g v1 v2
theorem bX0_look_24 {p : Program} {l : Launch} {e : Env} {s : State} {m : MethodId} {as : Array Value} {below : List Frame} {meth : Method} {c : Code} {A : Nat → Prop} {Q : State → Prop} {γ : wx_G} {o : Nat} {ad : Nat → Nat} {η : cx_H} {θ : cx_T} {τ : va_W} {z : Int32 × xF × xG} (G : cx_ok γ) (T : tx_ok γ o ad θ (hr γ o ad η ++ τ)) (C : CallFix p m c cX0_look 11 s as lw_all RX0) (K : wx_C γ A s) (E : ∀ (H : Heap) (locs : List Loc) (ls : Array Slot) (pc : Nat), wx_w γ A s H locs (cw γ o ad z.2.1 z.2.2 (hr γ o ad η ++ τ)) → decode cX0_look pc = .ok (.ireturn, 1) → W p l e rmX0_look s m as below meth c H locs 0 0 Q (F0 m pc ls [.int z.1])) {f : xF} {g : xG} {H : Heap} {locs : List Loc} {ls : Array Slot} (w : wx_w γ A s H locs (cw γ o ad f g (hr γ o ad η ++ τ))) (hl : lv_has ls 11 []) (hF : pX0_look_24 η θ f g = some z) : W p l e rmX0_look s m as below meth c H locs 0 0 Q (F0 m 24 ls []) := by
  have hx := C.1
  have hb := C.2.1
  unfold pX0_look_24 at hF
  refine lv_bipush (v := (-2 : Int32)) hx hb dX0_look_24 (by decide) ?_
  have hF := Option.some.inj hF
  subst hF
  exact E _ _ _ _ w dX0_look_26

theorem bX0_look_234 {p : Program} {l : Launch} {e : Env} {s : State} {m : MethodId} {as : Array Value} {below : List Frame} {meth : Method} {c : Code} {A : Nat → Prop} {Q : State → Prop} {γ : wx_G} {o : Nat} {ad : Nat → Nat} {η : cx_H} {θ : cx_T} {τ : va_W} {z : Int32 × xF × xG} (G : cx_ok γ) (T : tx_ok γ o ad θ (hr γ o ad η ++ τ)) (C : CallFix p m c cX0_look 11 s as lw_all RX0) (K : wx_C γ A s) (E : ∀ (H : Heap) (locs : List Loc) (ls : Array Slot) (pc : Nat), wx_w γ A s H locs (cw γ o ad z.2.1 z.2.2 (hr γ o ad η ++ τ)) → decode cX0_look pc = .ok (.ireturn, 1) → W p l e rmX0_look s m as below meth c H locs 0 0 Q (F0 m pc ls [.int z.1])) {f : xF} {g : xG} {t0 : Int32} {H : Heap} {locs : List Loc} {ls : Array Slot} (w : wx_w γ A s H locs (cw γ o ad f g (hr γ o ad η ++ τ))) (hl : lv_has ls 11 []) (hF : pX0_look_234 η θ f g t0 = some z) : W p l e rmX0_look s m as below meth c H locs 0 0 Q (F0 m 234 ls [.int t0]) := by
  have hx := C.1
  have hb := C.2.1
  unfold pX0_look_234 at hF
  have hF := Option.some.inj hF
  subst hF
  exact E _ _ _ _ w dX0_look_234

theorem bX0_look_213 {p : Program} {l : Launch} {e : Env} {s : State} {m : MethodId} {as : Array Value} {below : List Frame} {meth : Method} {c : Code} {A : Nat → Prop} {Q : State → Prop} {γ : wx_G} {o : Nat} {ad : Nat → Nat} {η : cx_H} {θ : cx_T} {τ : va_W} {z : Int32 × xF × xG} (G : cx_ok γ) (T : tx_ok γ o ad θ (hr γ o ad η ++ τ)) (C : CallFix p m c cX0_look 11 s as lw_all RX0) (K : wx_C γ A s) (E : ∀ (H : Heap) (locs : List Loc) (ls : Array Slot) (pc : Nat), wx_w γ A s H locs (cw γ o ad z.2.1 z.2.2 (hr γ o ad η ++ τ)) → decode cX0_look pc = .ok (.ireturn, 1) → W p l e rmX0_look s m as below meth c H locs 0 0 Q (F0 m pc ls [.int z.1])) {f : xF} {g : xG} {v2 : Int32} {v4 : Int32} {v5 : Int32} {v6 : Int32} {H : Heap} {locs : List Loc} {ls : Array Slot} (w : wx_w γ A s H locs (cw γ o ad f g (hr γ o ad η ++ τ))) (hl : lv_has ls 11 [(2, .int v2), (4, .int v4), (5, .int v5), (6, .int v6)]) (hF : pX0_look_213 η θ f g v2 v4 v5 v6 = some z) : W p l e rmX0_look s m as below meth c H locs 0 0 Q (F0 m 213 ls []) := by
  have hx := C.1
  have hb := C.2.1
  unfold pX0_look_213 at hF
  refine lv_iload_n hx hb dX0_look_213 rfl (lv_at hl 0 rfl) ?_
  refine lv_if_ne (tgt := 222) hx hb dX0_look_214 (by decide) (fun c => ?_) (fun c => ?_)
  · have hF := (if_neg c).symm.trans hF
    refine lv_iload_n hx hb dX0_look_222 rfl (lv_at hl 0 rfl) ?_
    refine lv_iconst (v := (1 : Int32)) hx hb dX0_look_223 (by decide) ?_
    refine lv_icmp_ne (tgt := 232) hx hb dX0_look_224 (by decide) (fun c => ?_) (fun c => ?_)
    · have hF := (if_neg c).symm.trans hF
      refine lv_iload hx hb dX0_look_232 (lv_at hl 3 rfl) ?_
      exact bX0_look_234 G T C K E w (lv_sub hl [] rfl) hF
    · have hF := (if_pos c).symm.trans hF
      refine lv_iload hx hb dX0_look_227 (lv_at hl 2 rfl) ?_
      refine lv_goto (tgt := 234) hx hb dX0_look_229 (by decide) ?_
      exact bX0_look_234 G T C K E w (lv_sub hl [] rfl) hF
  · have hF := (if_pos c).symm.trans hF
    refine lv_iload hx hb dX0_look_217 (lv_at hl 1 rfl) ?_
    refine lv_goto (tgt := 234) hx hb dX0_look_219 (by decide) ?_
    exact bX0_look_234 G T C K E w (lv_sub hl [] rfl) hF

theorem bX0_look_207 {p : Program} {l : Launch} {e : Env} {s : State} {m : MethodId} {as : Array Value} {below : List Frame} {meth : Method} {c : Code} {A : Nat → Prop} {Q : State → Prop} {γ : wx_G} {o : Nat} {ad : Nat → Nat} {η : cx_H} {θ : cx_T} {τ : va_W} {z : Int32 × xF × xG} (G : cx_ok γ) (T : tx_ok γ o ad θ (hr γ o ad η ++ τ)) (C : CallFix p m c cX0_look 11 s as lw_all RX0) (K : wx_C γ A s) (E : ∀ (H : Heap) (locs : List Loc) (ls : Array Slot) (pc : Nat), wx_w γ A s H locs (cw γ o ad z.2.1 z.2.2 (hr γ o ad η ++ τ)) → decode cX0_look pc = .ok (.ireturn, 1) → W p l e rmX0_look s m as below meth c H locs 0 0 Q (F0 m pc ls [.int z.1])) {k83 : xF → xG → Int32 → Int32 → Int32 → Int32 → Int32 → Int32 → Int32 → Option (Int32 × xF × xG)} (hk83 : ∀ (f : xF) (g : xG) (v1 : Int32) (v2 : Int32) (v3 : Int32) (v4 : Int32) (v5 : Int32) (v6 : Int32) (v7 : Int32) (H : Heap) (locs : List Loc) (ls : Array Slot), k83 f g v1 v2 v3 v4 v5 v6 v7 = some z → wx_w γ A s H locs (cw γ o ad f g (hr γ o ad η ++ τ)) → lv_has ls 11 [(0, .ref o), (1, .int v1), (2, .int v2), (3, .int v3), (4, .int v4), (5, .int v5), (6, .int v6), (7, .int v7)] → W p l e rmX0_look s m as below meth c H locs 0 0 Q (F0 m 83 ls [])) {f : xF} {g : xG} {v1 : Int32} {v2 : Int32} {v3 : Int32} {v4 : Int32} {v5 : Int32} {v6 : Int32} {v7 : Int32} {H : Heap} {locs : List Loc} {ls : Array Slot} (w : wx_w γ A s H locs (cw γ o ad f g (hr γ o ad η ++ τ))) (hl : lv_has ls 11 [(0, .ref o), (1, .int v1), (2, .int v2), (3, .int v3), (4, .int v4), (5, .int v5), (6, .int v6), (7, .int v7)]) (hF : pX0_look_207 η θ k83 f g v1 v2 v3 v4 v5 v6 v7 = some z) : W p l e rmX0_look s m as below meth c H locs 0 0 Q (F0 m 207 ls []) := by
  have hx := C.1
  have hb := C.2.1
  unfold pX0_look_207 at hF
  refine lv_iinc (v := v7 + 1) (lv' := [(7, .int (v7 + 1)), (0, .ref o), (1, .int v1), (2, .int v2), (3, .int v3), (4, .int v4), (5, .int v5), (6, .int v6)]) hx hb dX0_look_207 hl (k := 7) rfl rfl (by decide) rfl (fun ls hl => ?_)
  refine lv_goto (tgt := 83) hx hb dX0_look_210 (by decide) ?_
  exact hk83 _ _ _ _ _ _ _ _ _ _ _ _ hF w (lv_sub hl [1, 2, 3, 4, 5, 6, 7, 0] rfl)

theorem bX0_look_195 {p : Program} {l : Launch} {e : Env} {s : State} {m : MethodId} {as : Array Value} {below : List Frame} {meth : Method} {c : Code} {A : Nat → Prop} {Q : State → Prop} {γ : wx_G} {o : Nat} {ad : Nat → Nat} {η : cx_H} {θ : cx_T} {τ : va_W} {z : Int32 × xF × xG} (G : cx_ok γ) (T : tx_ok γ o ad θ (hr γ o ad η ++ τ)) (C : CallFix p m c cX0_look 11 s as lw_all RX0) (K : wx_C γ A s) (E : ∀ (H : Heap) (locs : List Loc) (ls : Array Slot) (pc : Nat), wx_w γ A s H locs (cw γ o ad z.2.1 z.2.2 (hr γ o ad η ++ τ)) → decode cX0_look pc = .ok (.ireturn, 1) → W p l e rmX0_look s m as below meth c H locs 0 0 Q (F0 m pc ls [.int z.1])) {k83 : xF → xG → Int32 → Int32 → Int32 → Int32 → Int32 → Int32 → Int32 → Option (Int32 × xF × xG)} (hk83 : ∀ (f : xF) (g : xG) (v1 : Int32) (v2 : Int32) (v3 : Int32) (v4 : Int32) (v5 : Int32) (v6 : Int32) (v7 : Int32) (H : Heap) (locs : List Loc) (ls : Array Slot), k83 f g v1 v2 v3 v4 v5 v6 v7 = some z → wx_w γ A s H locs (cw γ o ad f g (hr γ o ad η ++ τ)) → lv_has ls 11 [(0, .ref o), (1, .int v1), (2, .int v2), (3, .int v3), (4, .int v4), (5, .int v5), (6, .int v6), (7, .int v7)] → W p l e rmX0_look s m as below meth c H locs 0 0 Q (F0 m 83 ls [])) {f : xF} {g : xG} {v1 : Int32} {v2 : Int32} {v3 : Int32} {v7 : Int32} {v8 : Int32} {v9 : Int32} {H : Heap} {locs : List Loc} {ls : Array Slot} (w : wx_w γ A s H locs (cw γ o ad f g (hr γ o ad η ++ τ))) (hl : lv_has ls 11 [(0, .ref o), (1, .int v1), (2, .int v2), (3, .int v3), (7, .int v7), (8, .int v8), (9, .int v9)]) (hF : pX0_look_195 η θ k83 f g v1 v2 v3 v7 v8 v9 = some z) : W p l e rmX0_look s m as below meth c H locs 0 0 Q (F0 m 195 ls []) := by
  have hx := C.1
  have hb := C.2.1
  unfold pX0_look_195 at hF
  refine lv_iload hx hb dX0_look_195 (lv_at hl 4 rfl) ?_
  refine lv_istore (lv' := [(4, .int v7), (0, .ref o), (1, .int v1), (2, .int v2), (3, .int v3), (7, .int v7), (8, .int v8), (9, .int v9)]) hx hb dX0_look_197 hl (by decide) rfl (fun ls hl => ?_)
  refine lv_iload hx hb dX0_look_199 (lv_at hl 6 rfl) ?_
  refine lv_istore (lv' := [(5, .int v8), (4, .int v7), (0, .ref o), (1, .int v1), (2, .int v2), (3, .int v3), (7, .int v7), (8, .int v8), (9, .int v9)]) hx hb dX0_look_201 hl (by decide) rfl (fun ls hl => ?_)
  refine lv_iload hx hb dX0_look_203 (lv_at hl 8 rfl) ?_
  refine lv_istore (lv' := [(6, .int v9), (5, .int v8), (4, .int v7), (0, .ref o), (1, .int v1), (2, .int v2), (3, .int v3), (7, .int v7), (8, .int v8), (9, .int v9)]) hx hb dX0_look_205 hl (by decide) rfl (fun ls hl => ?_)
  exact bX0_look_207 G T C K E hk83 w (lv_sub hl [3, 4, 5, 6, 2, 1, 0, 7] rfl) hF

theorem bX0_look_168 {p : Program} {l : Launch} {e : Env} {s : State} {m : MethodId} {as : Array Value} {below : List Frame} {meth : Method} {c : Code} {A : Nat → Prop} {Q : State → Prop} {γ : wx_G} {o : Nat} {ad : Nat → Nat} {η : cx_H} {θ : cx_T} {τ : va_W} {z : Int32 × xF × xG} (G : cx_ok γ) (T : tx_ok γ o ad θ (hr γ o ad η ++ τ)) (C : CallFix p m c cX0_look 11 s as lw_all RX0) (K : wx_C γ A s) (E : ∀ (H : Heap) (locs : List Loc) (ls : Array Slot) (pc : Nat), wx_w γ A s H locs (cw γ o ad z.2.1 z.2.2 (hr γ o ad η ++ τ)) → decode cX0_look pc = .ok (.ireturn, 1) → W p l e rmX0_look s m as below meth c H locs 0 0 Q (F0 m pc ls [.int z.1])) {k83 : xF → xG → Int32 → Int32 → Int32 → Int32 → Int32 → Int32 → Int32 → Option (Int32 × xF × xG)} (hk83 : ∀ (f : xF) (g : xG) (v1 : Int32) (v2 : Int32) (v3 : Int32) (v4 : Int32) (v5 : Int32) (v6 : Int32) (v7 : Int32) (H : Heap) (locs : List Loc) (ls : Array Slot), k83 f g v1 v2 v3 v4 v5 v6 v7 = some z → wx_w γ A s H locs (cw γ o ad f g (hr γ o ad η ++ τ)) → lv_has ls 11 [(0, .ref o), (1, .int v1), (2, .int v2), (3, .int v3), (4, .int v4), (5, .int v5), (6, .int v6), (7, .int v7)] → W p l e rmX0_look s m as below meth c H locs 0 0 Q (F0 m 83 ls [])) {f : xF} {g : xG} {v1 : Int32} {v2 : Int32} {v3 : Int32} {v4 : Int32} {v5 : Int32} {v6 : Int32} {v7 : Int32} {v8 : Int32} {v9 : Int32} {H : Heap} {locs : List Loc} {ls : Array Slot} (w : wx_w γ A s H locs (cw γ o ad f g (hr γ o ad η ++ τ))) (hl : lv_has ls 11 [(0, .ref o), (1, .int v1), (2, .int v2), (3, .int v3), (4, .int v4), (5, .int v5), (6, .int v6), (7, .int v7), (8, .int v8), (9, .int v9)]) (hF : pX0_look_168 η θ k83 f g v1 v2 v3 v4 v5 v6 v7 v8 v9 = some z) : W p l e rmX0_look s m as below meth c H locs 0 0 Q (F0 m 168 ls []) := by
  have hx := C.1
  have hb := C.2.1
  unfold pX0_look_168 at hF
  refine lv_iload hx hb dX0_look_168 (lv_at hl 9 rfl) ?_
  refine lv_iload_n hx hb dX0_look_170 rfl (lv_at hl 1 rfl) ?_
  refine lv_icmp_gt (tgt := 207) hx hb dX0_look_171 (by decide) (fun c => ?_) (fun c => ?_)
  · have hF := (if_pos c).symm.trans hF
    exact bX0_look_207 G T C K E hk83 w (lv_sub hl [0, 1, 2, 3, 4, 5, 6, 7] rfl) hF
  · have hF := (if_neg c).symm.trans hF
    refine lv_iload hx hb dX0_look_174 (lv_at hl 8 rfl) ?_
    refine lv_iload hx hb dX0_look_176 (lv_at hl 5 rfl) ?_
    refine lv_icmp_gt (tgt := 195) hx hb dX0_look_178 (by decide) (fun c => ?_) (fun c => ?_)
    · have hF := (if_pos c).symm.trans hF
      exact bX0_look_195 G T C K E hk83 w (lv_sub hl [0, 1, 2, 3, 7, 8, 9] rfl) hF
    · have hF := (if_neg c).symm.trans hF
      refine lv_iload hx hb dX0_look_181 (lv_at hl 8 rfl) ?_
      refine lv_iload hx hb dX0_look_183 (lv_at hl 5 rfl) ?_
      refine lv_icmp_ne (tgt := 207) hx hb dX0_look_185 (by decide) (fun c => ?_) (fun c => ?_)
      · have hF := (if_neg c).symm.trans hF
        exact bX0_look_207 G T C K E hk83 w (lv_sub hl [0, 1, 2, 3, 4, 5, 6, 7] rfl) hF
      · have hF := (if_pos c).symm.trans hF
        refine lv_iload hx hb dX0_look_188 (lv_at hl 9 rfl) ?_
        refine lv_iload hx hb dX0_look_190 (lv_at hl 6 rfl) ?_
        refine lv_icmp_ge (tgt := 207) hx hb dX0_look_192 (by decide) (fun c => ?_) (fun c => ?_)
        · have hF := (if_pos c).symm.trans hF
          exact bX0_look_207 G T C K E hk83 w (lv_sub hl [0, 1, 2, 3, 4, 5, 6, 7] rfl) hF
        · have hF := (if_neg c).symm.trans hF
          exact bX0_look_195 G T C K E hk83 w (lv_sub hl [0, 1, 2, 3, 7, 8, 9] rfl) hF

theorem bX0_look_159 {p : Program} {l : Launch} {e : Env} {s : State} {m : MethodId} {as : Array Value} {below : List Frame} {meth : Method} {c : Code} {A : Nat → Prop} {Q : State → Prop} {γ : wx_G} {o : Nat} {ad : Nat → Nat} {η : cx_H} {θ : cx_T} {τ : va_W} {z : Int32 × xF × xG} (G : cx_ok γ) (T : tx_ok γ o ad θ (hr γ o ad η ++ τ)) (C : CallFix p m c cX0_look 11 s as lw_all RX0) (K : wx_C γ A s) (E : ∀ (H : Heap) (locs : List Loc) (ls : Array Slot) (pc : Nat), wx_w γ A s H locs (cw γ o ad z.2.1 z.2.2 (hr γ o ad η ++ τ)) → decode cX0_look pc = .ok (.ireturn, 1) → W p l e rmX0_look s m as below meth c H locs 0 0 Q (F0 m pc ls [.int z.1])) {k83 : xF → xG → Int32 → Int32 → Int32 → Int32 → Int32 → Int32 → Int32 → Option (Int32 × xF × xG)} (hk83 : ∀ (f : xF) (g : xG) (v1 : Int32) (v2 : Int32) (v3 : Int32) (v4 : Int32) (v5 : Int32) (v6 : Int32) (v7 : Int32) (H : Heap) (locs : List Loc) (ls : Array Slot), k83 f g v1 v2 v3 v4 v5 v6 v7 = some z → wx_w γ A s H locs (cw γ o ad f g (hr γ o ad η ++ τ)) → lv_has ls 11 [(0, .ref o), (1, .int v1), (2, .int v2), (3, .int v3), (4, .int v4), (5, .int v5), (6, .int v6), (7, .int v7)] → W p l e rmX0_look s m as below meth c H locs 0 0 Q (F0 m 83 ls [])) {k100 : xF → xG → Int32 → Int32 → Int32 → Int32 → Int32 → Int32 → Int32 → Int32 → Int32 → Int32 → Option (Int32 × xF × xG)} (hk100 : ∀ (f : xF) (g : xG) (v1 : Int32) (v2 : Int32) (v3 : Int32) (v4 : Int32) (v5 : Int32) (v6 : Int32) (v7 : Int32) (v8 : Int32) (v9 : Int32) (v10 : Int32) (H : Heap) (locs : List Loc) (ls : Array Slot), k100 f g v1 v2 v3 v4 v5 v6 v7 v8 v9 v10 = some z → wx_w γ A s H locs (cw γ o ad f g (hr γ o ad η ++ τ)) → lv_has ls 11 [(0, .ref o), (1, .int v1), (2, .int v2), (3, .int v3), (4, .int v4), (5, .int v5), (6, .int v6), (7, .int v7), (8, .int v8), (9, .int v9), (10, .int v10)] → W p l e rmX0_look s m as below meth c H locs 0 0 Q (F0 m 100 ls [])) {f : xF} {g : xG} {v1 : Int32} {v2 : Int32} {v3 : Int32} {v4 : Int32} {v5 : Int32} {v6 : Int32} {v7 : Int32} {v8 : Int32} {v10 : Int32} {t0 : Int32} {t1 : Int32} {H : Heap} {locs : List Loc} {ls : Array Slot} (w : wx_w γ A s H locs (cw γ o ad f g (hr γ o ad η ++ τ))) (hl : lv_has ls 11 [(0, .ref o), (1, .int v1), (2, .int v2), (3, .int v3), (4, .int v4), (5, .int v5), (6, .int v6), (7, .int v7), (8, .int v8), (10, .int v10)]) (hF : pX0_look_159 η θ k83 k100 f g v1 v2 v3 v4 v5 v6 v7 v8 v10 t0 t1 = some z) : W p l e rmX0_look s m as below meth c H locs 0 0 Q (F0 m 159 ls [.int t1, .int t0]) := by
  have hx := C.1
  have hb := C.2.1
  unfold pX0_look_159 at hF
  refine lv_iadd hx hb dX0_look_159 ?_
  refine lv_istore (lv' := [(9, .int (t0 + t1)), (0, .ref o), (1, .int v1), (2, .int v2), (3, .int v3), (4, .int v4), (5, .int v5), (6, .int v6), (7, .int v7), (8, .int v8), (10, .int v10)]) hx hb dX0_look_160 hl (by decide) rfl (fun ls hl => ?_)
  refine lv_iinc (v := v10 + 1) (lv' := [(10, .int (v10 + 1)), (9, .int (t0 + t1)), (0, .ref o), (1, .int v1), (2, .int v2), (3, .int v3), (4, .int v4), (5, .int v5), (6, .int v6), (7, .int v7), (8, .int v8)]) hx hb dX0_look_162 hl (k := 10) rfl rfl (by decide) rfl (fun ls hl => ?_)
  refine lv_goto (tgt := 100) hx hb dX0_look_165 (by decide) ?_
  exact hk100 _ _ _ _ _ _ _ _ _ _ _ _ _ _ _ hF w (lv_sub hl [2, 3, 4, 5, 6, 7, 8, 9, 10, 1, 0] rfl)

theorem bX0_look_130 {p : Program} {l : Launch} {e : Env} {s : State} {m : MethodId} {as : Array Value} {below : List Frame} {meth : Method} {c : Code} {A : Nat → Prop} {Q : State → Prop} {γ : wx_G} {o : Nat} {ad : Nat → Nat} {η : cx_H} {θ : cx_T} {τ : va_W} {z : Int32 × xF × xG} (G : cx_ok γ) (T : tx_ok γ o ad θ (hr γ o ad η ++ τ)) (C : CallFix p m c cX0_look 11 s as lw_all RX0) (K : wx_C γ A s) (E : ∀ (H : Heap) (locs : List Loc) (ls : Array Slot) (pc : Nat), wx_w γ A s H locs (cw γ o ad z.2.1 z.2.2 (hr γ o ad η ++ τ)) → decode cX0_look pc = .ok (.ireturn, 1) → W p l e rmX0_look s m as below meth c H locs 0 0 Q (F0 m pc ls [.int z.1])) {k83 : xF → xG → Int32 → Int32 → Int32 → Int32 → Int32 → Int32 → Int32 → Option (Int32 × xF × xG)} (hk83 : ∀ (f : xF) (g : xG) (v1 : Int32) (v2 : Int32) (v3 : Int32) (v4 : Int32) (v5 : Int32) (v6 : Int32) (v7 : Int32) (H : Heap) (locs : List Loc) (ls : Array Slot), k83 f g v1 v2 v3 v4 v5 v6 v7 = some z → wx_w γ A s H locs (cw γ o ad f g (hr γ o ad η ++ τ)) → lv_has ls 11 [(0, .ref o), (1, .int v1), (2, .int v2), (3, .int v3), (4, .int v4), (5, .int v5), (6, .int v6), (7, .int v7)] → W p l e rmX0_look s m as below meth c H locs 0 0 Q (F0 m 83 ls [])) {k100 : xF → xG → Int32 → Int32 → Int32 → Int32 → Int32 → Int32 → Int32 → Int32 → Int32 → Int32 → Option (Int32 × xF × xG)} (hk100 : ∀ (f : xF) (g : xG) (v1 : Int32) (v2 : Int32) (v3 : Int32) (v4 : Int32) (v5 : Int32) (v6 : Int32) (v7 : Int32) (v8 : Int32) (v9 : Int32) (v10 : Int32) (H : Heap) (locs : List Loc) (ls : Array Slot), k100 f g v1 v2 v3 v4 v5 v6 v7 v8 v9 v10 = some z → wx_w γ A s H locs (cw γ o ad f g (hr γ o ad η ++ τ)) → lv_has ls 11 [(0, .ref o), (1, .int v1), (2, .int v2), (3, .int v3), (4, .int v4), (5, .int v5), (6, .int v6), (7, .int v7), (8, .int v8), (9, .int v9), (10, .int v10)] → W p l e rmX0_look s m as below meth c H locs 0 0 Q (F0 m 100 ls [])) {f : xF} {g : xG} {v1 : Int32} {v2 : Int32} {v3 : Int32} {v4 : Int32} {v5 : Int32} {v6 : Int32} {v7 : Int32} {v9 : Int32} {v10 : Int32} {t0 : Int32} {t1 : Int32} {H : Heap} {locs : List Loc} {ls : Array Slot} (w : wx_w γ A s H locs (cw γ o ad f g (hr γ o ad η ++ τ))) (hl : lv_has ls 11 [(0, .ref o), (1, .int v1), (2, .int v2), (3, .int v3), (4, .int v4), (5, .int v5), (6, .int v6), (7, .int v7), (9, .int v9), (10, .int v10)]) (hF : pX0_look_130 η θ k83 k100 f g v1 v2 v3 v4 v5 v6 v7 v9 v10 t0 t1 = some z) : W p l e rmX0_look s m as below meth c H locs 0 0 Q (F0 m 130 ls [.int t1, .int t0]) := by
  have hx := C.1
  have hb := C.2.1
  unfold pX0_look_130 at hF
  refine lv_iadd hx hb dX0_look_130 ?_
  refine lv_istore (lv' := [(8, .int (t0 + t1)), (0, .ref o), (1, .int v1), (2, .int v2), (3, .int v3), (4, .int v4), (5, .int v5), (6, .int v6), (7, .int v7), (9, .int v9), (10, .int v10)]) hx hb dX0_look_131 hl (by decide) rfl (fun ls hl => ?_)
  refine lv_iload hx hb dX0_look_133 (lv_at hl 9 rfl) ?_
  refine lv_iload hx hb dX0_look_135 (lv_at hl 8 rfl) ?_
  refine lv_iload hx hb dX0_look_137 (lv_at hl 10 rfl) ?_
  refine lv_ishr hx hb dX0_look_139 ?_
  refine lv_iconst (v := (1 : Int32)) hx hb dX0_look_140 (by decide) ?_
  refine lv_iand hx hb dX0_look_141 ?_
  refine lv_iconst (v := (1 : Int32)) hx hb dX0_look_142 (by decide) ?_
  refine lv_icmp_ne (tgt := 158) hx hb dX0_look_143 (by decide) (fun c => ?_) (fun c => ?_)
  · have hF := (if_neg c).symm.trans hF
    refine lv_iconst (v := (0 : Int32)) hx hb dX0_look_158 (by decide) ?_
    exact bX0_look_159 G T C K E hk83 hk100 w (lv_sub hl [1, 2, 3, 4, 5, 6, 7, 8, 0, 10] rfl) hF
  · have hF := (if_pos c).symm.trans hF
    refine lv_iconst (v := (3 : Int32)) hx hb dX0_look_146 (by decide) ?_
    refine lv_aload_n hx hb dX0_look_147 rfl (lv_at hl 1 rfl) ?_
    refine cget_4 C K w dX0_look_148 ?_
    refine lv_iload hx hb dX0_look_151 (lv_at hl 10 rfl) ?_
    obtain ⟨hi, hF⟩ := gin_if hF
    refine cald_4 C K w hi dX0_look_153 ?_
    refine lv_iadd hx hb dX0_look_154 ?_
    refine lv_goto (tgt := 159) hx hb dX0_look_155 (by decide) ?_
    exact bX0_look_159 G T C K E hk83 hk100 w (lv_sub hl [1, 2, 3, 4, 5, 6, 7, 8, 0, 10] rfl) hF

theorem bX0_look_100 {p : Program} {l : Launch} {e : Env} {s : State} {m : MethodId} {as : Array Value} {below : List Frame} {meth : Method} {c : Code} {A : Nat → Prop} {Q : State → Prop} {γ : wx_G} {o : Nat} {ad : Nat → Nat} {η : cx_H} {θ : cx_T} {τ : va_W} {z : Int32 × xF × xG} (G : cx_ok γ) (T : tx_ok γ o ad θ (hr γ o ad η ++ τ)) (C : CallFix p m c cX0_look 11 s as lw_all RX0) (K : wx_C γ A s) (E : ∀ (H : Heap) (locs : List Loc) (ls : Array Slot) (pc : Nat), wx_w γ A s H locs (cw γ o ad z.2.1 z.2.2 (hr γ o ad η ++ τ)) → decode cX0_look pc = .ok (.ireturn, 1) → W p l e rmX0_look s m as below meth c H locs 0 0 Q (F0 m pc ls [.int z.1])) {k83 : xF → xG → Int32 → Int32 → Int32 → Int32 → Int32 → Int32 → Int32 → Option (Int32 × xF × xG)} (hk83 : ∀ (f : xF) (g : xG) (v1 : Int32) (v2 : Int32) (v3 : Int32) (v4 : Int32) (v5 : Int32) (v6 : Int32) (v7 : Int32) (H : Heap) (locs : List Loc) (ls : Array Slot), k83 f g v1 v2 v3 v4 v5 v6 v7 = some z → wx_w γ A s H locs (cw γ o ad f g (hr γ o ad η ++ τ)) → lv_has ls 11 [(0, .ref o), (1, .int v1), (2, .int v2), (3, .int v3), (4, .int v4), (5, .int v5), (6, .int v6), (7, .int v7)] → W p l e rmX0_look s m as below meth c H locs 0 0 Q (F0 m 83 ls [])) : ∀ (n : Nat) (f : xF) (g : xG) (v1 : Int32) (v2 : Int32) (v3 : Int32) (v4 : Int32) (v5 : Int32) (v6 : Int32) (v7 : Int32) (v8 : Int32) (v9 : Int32) (v10 : Int32) (H : Heap) (locs : List Loc) (ls : Array Slot), pX0_look_100 η θ k83 n f g v1 v2 v3 v4 v5 v6 v7 v8 v9 v10 = some z → wx_w γ A s H locs (cw γ o ad f g (hr γ o ad η ++ τ)) → lv_has ls 11 [(0, .ref o), (1, .int v1), (2, .int v2), (3, .int v3), (4, .int v4), (5, .int v5), (6, .int v6), (7, .int v7), (8, .int v8), (9, .int v9), (10, .int v10)] → W p l e rmX0_look s m as below meth c H locs 0 0 Q (F0 m 100 ls []) := by
  have hx := C.1
  have hb := C.2.1
  intro n
  induction n with
  | zero =>
    intro f g v1 v2 v3 v4 v5 v6 v7 v8 v9 v10 H locs ls hF w hl
    have hF : (none : Option (Int32 × xF × xG)) = some z := hF
    cases hF
  | succ n ih =>
    intro f g v1 v2 v3 v4 v5 v6 v7 v8 v9 v10 H locs ls hF w hl
    rw [pX0_look_100] at hF
    refine lv_iload hx hb dX0_look_100 (lv_at hl 10 rfl) ?_
    refine lv_iload_n hx hb dX0_look_102 rfl (lv_at hl 3 rfl) ?_
    refine lv_icmp_ge (tgt := 168) hx hb dX0_look_103 (by decide) (fun c => ?_) (fun c => ?_)
    · have hF := (if_pos c).symm.trans hF
      exact bX0_look_168 G T C K E hk83 w (lv_sub hl [0, 1, 2, 3, 4, 5, 6, 7, 8, 9] rfl) hF
    · have hF := (if_neg c).symm.trans hF
      refine lv_iload hx hb dX0_look_106 (lv_at hl 8 rfl) ?_
      refine lv_iload hx hb dX0_look_108 (lv_at hl 7 rfl) ?_
      refine lv_iload hx hb dX0_look_110 (lv_at hl 10 rfl) ?_
      refine lv_ishr hx hb dX0_look_112 ?_
      refine lv_iconst (v := (1 : Int32)) hx hb dX0_look_113 (by decide) ?_
      refine lv_iand hx hb dX0_look_114 ?_
      refine lv_iconst (v := (1 : Int32)) hx hb dX0_look_115 (by decide) ?_
      refine lv_icmp_ne (tgt := 129) hx hb dX0_look_116 (by decide) (fun c => ?_) (fun c => ?_)
      · have hF := (if_neg c).symm.trans hF
        refine lv_iconst (v := (0 : Int32)) hx hb dX0_look_129 (by decide) ?_
        exact bX0_look_130 G T C K E hk83 ih w (lv_sub hl [0, 1, 2, 3, 4, 5, 6, 7, 9, 10] rfl) hF
      · have hF := (if_pos c).symm.trans hF
        refine lv_aload_n hx hb dX0_look_119 rfl (lv_at hl 0 rfl) ?_
        refine cget_40 C K w dX0_look_120 ?_
        refine lv_iload hx hb dX0_look_123 (lv_at hl 10 rfl) ?_
        obtain ⟨hi, hF⟩ := gin_if hF
        refine cald_40 C K w hi dX0_look_125 ?_
        refine lv_goto (tgt := 130) hx hb dX0_look_126 (by decide) ?_
        exact bX0_look_130 G T C K E hk83 ih w (lv_sub hl [0, 1, 2, 3, 4, 5, 6, 7, 9, 10] rfl) hF

theorem bX0_look_83 {p : Program} {l : Launch} {e : Env} {s : State} {m : MethodId} {as : Array Value} {below : List Frame} {meth : Method} {c : Code} {A : Nat → Prop} {Q : State → Prop} {γ : wx_G} {o : Nat} {ad : Nat → Nat} {η : cx_H} {θ : cx_T} {τ : va_W} {z : Int32 × xF × xG} (G : cx_ok γ) (T : tx_ok γ o ad θ (hr γ o ad η ++ τ)) (C : CallFix p m c cX0_look 11 s as lw_all RX0) (K : wx_C γ A s) (E : ∀ (H : Heap) (locs : List Loc) (ls : Array Slot) (pc : Nat), wx_w γ A s H locs (cw γ o ad z.2.1 z.2.2 (hr γ o ad η ++ τ)) → decode cX0_look pc = .ok (.ireturn, 1) → W p l e rmX0_look s m as below meth c H locs 0 0 Q (F0 m pc ls [.int z.1])) : ∀ (n : Nat) (f : xF) (g : xG) (v1 : Int32) (v2 : Int32) (v3 : Int32) (v4 : Int32) (v5 : Int32) (v6 : Int32) (v7 : Int32) (H : Heap) (locs : List Loc) (ls : Array Slot), pX0_look_83 η θ n f g v1 v2 v3 v4 v5 v6 v7 = some z → wx_w γ A s H locs (cw γ o ad f g (hr γ o ad η ++ τ)) → lv_has ls 11 [(0, .ref o), (1, .int v1), (2, .int v2), (3, .int v3), (4, .int v4), (5, .int v5), (6, .int v6), (7, .int v7)] → W p l e rmX0_look s m as below meth c H locs 0 0 Q (F0 m 83 ls []) := by
  have hx := C.1
  have hb := C.2.1
  intro n
  induction n with
  | zero =>
    intro f g v1 v2 v3 v4 v5 v6 v7 H locs ls hF w hl
    have hF : (none : Option (Int32 × xF × xG)) = some z := hF
    cases hF
  | succ n ih =>
    intro f g v1 v2 v3 v4 v5 v6 v7 H locs ls hF w hl
    rw [pX0_look_83] at hF
    refine lv_iload hx hb dX0_look_83 (lv_at hl 7 rfl) ?_
    refine lv_iconst (v := (1 : Int32)) hx hb dX0_look_85 (by decide) ?_
    refine lv_iload_n hx hb dX0_look_86 rfl (lv_at hl 3 rfl) ?_
    refine lv_ishl hx hb dX0_look_87 ?_
    refine lv_icmp_ge (tgt := 213) hx hb dX0_look_88 (by decide) (fun c => ?_) (fun c => ?_)
    · have hF := (if_pos c).symm.trans hF
      exact bX0_look_213 G T C K E w (lv_sub hl [2, 4, 5, 6] rfl) hF
    · have hF := (if_neg c).symm.trans hF
      refine lv_iconst (v := (0 : Int32)) hx hb dX0_look_91 (by decide) ?_
      refine lv_istore (lv' := [(8, .int (0 : Int32)), (0, .ref o), (1, .int v1), (2, .int v2), (3, .int v3), (4, .int v4), (5, .int v5), (6, .int v6), (7, .int v7)]) hx hb dX0_look_92 hl (by decide) rfl (fun ls hl => ?_)
      refine lv_iconst (v := (0 : Int32)) hx hb dX0_look_94 (by decide) ?_
      refine lv_istore (lv' := [(9, .int (0 : Int32)), (8, .int (0 : Int32)), (0, .ref o), (1, .int v1), (2, .int v2), (3, .int v3), (4, .int v4), (5, .int v5), (6, .int v6), (7, .int v7)]) hx hb dX0_look_95 hl (by decide) rfl (fun ls hl => ?_)
      refine lv_iconst (v := (0 : Int32)) hx hb dX0_look_97 (by decide) ?_
      refine lv_istore (lv' := [(10, .int (0 : Int32)), (9, .int (0 : Int32)), (8, .int (0 : Int32)), (0, .ref o), (1, .int v1), (2, .int v2), (3, .int v3), (4, .int v4), (5, .int v5), (6, .int v6), (7, .int v7)]) hx hb dX0_look_98 hl (by decide) rfl (fun ls hl => ?_)
      exact bX0_look_100 G T C K E ih 5000 _ _ _ _ _ _ _ _ _ _ _ _ _ _ _ hF w (lv_sub hl [3, 4, 5, 6, 7, 8, 9, 10, 2, 1, 0] rfl)

theorem bX0_look_71 {p : Program} {l : Launch} {e : Env} {s : State} {m : MethodId} {as : Array Value} {below : List Frame} {meth : Method} {c : Code} {A : Nat → Prop} {Q : State → Prop} {γ : wx_G} {o : Nat} {ad : Nat → Nat} {η : cx_H} {θ : cx_T} {τ : va_W} {z : Int32 × xF × xG} (G : cx_ok γ) (T : tx_ok γ o ad θ (hr γ o ad η ++ τ)) (C : CallFix p m c cX0_look 11 s as lw_all RX0) (K : wx_C γ A s) (E : ∀ (H : Heap) (locs : List Loc) (ls : Array Slot) (pc : Nat), wx_w γ A s H locs (cw γ o ad z.2.1 z.2.2 (hr γ o ad η ++ τ)) → decode cX0_look pc = .ok (.ireturn, 1) → W p l e rmX0_look s m as below meth c H locs 0 0 Q (F0 m pc ls [.int z.1])) {f : xF} {g : xG} {v1 : Int32} {v2 : Int32} {v3 : Int32} {H : Heap} {locs : List Loc} {ls : Array Slot} (w : wx_w γ A s H locs (cw γ o ad f g (hr γ o ad η ++ τ))) (hl : lv_has ls 11 [(0, .ref o), (1, .int v1), (2, .int v2), (3, .int v3)]) (hF : pX0_look_71 η θ f g v1 v2 v3 = some z) : W p l e rmX0_look s m as below meth c H locs 0 0 Q (F0 m 71 ls []) := by
  have hx := C.1
  have hb := C.2.1
  unfold pX0_look_71 at hF
  refine lv_iconst (v := (0 : Int32)) hx hb dX0_look_71 (by decide) ?_
  refine lv_istore (lv' := [(4, .int (0 : Int32)), (0, .ref o), (1, .int v1), (2, .int v2), (3, .int v3)]) hx hb dX0_look_72 hl (by decide) rfl (fun ls hl => ?_)
  refine lv_iconst (v := (-1 : Int32)) hx hb dX0_look_74 (by decide) ?_
  refine lv_istore (lv' := [(5, .int (-1 : Int32)), (4, .int (0 : Int32)), (0, .ref o), (1, .int v1), (2, .int v2), (3, .int v3)]) hx hb dX0_look_75 hl (by decide) rfl (fun ls hl => ?_)
  refine lv_iconst (v := (0 : Int32)) hx hb dX0_look_77 (by decide) ?_
  refine lv_istore (lv' := [(6, .int (0 : Int32)), (5, .int (-1 : Int32)), (4, .int (0 : Int32)), (0, .ref o), (1, .int v1), (2, .int v2), (3, .int v3)]) hx hb dX0_look_78 hl (by decide) rfl (fun ls hl => ?_)
  refine lv_iconst (v := (0 : Int32)) hx hb dX0_look_80 (by decide) ?_
  refine lv_istore (lv' := [(7, .int (0 : Int32)), (6, .int (0 : Int32)), (5, .int (-1 : Int32)), (4, .int (0 : Int32)), (0, .ref o), (1, .int v1), (2, .int v2), (3, .int v3)]) hx hb dX0_look_81 hl (by decide) rfl (fun ls hl => ?_)
  exact bX0_look_83 G T C K E 5000 _ _ _ _ _ _ _ _ _ _ _ _ hF w (lv_sub hl [4, 5, 6, 7, 3, 2, 1, 0] rfl)

theorem bX0_look_40 {p : Program} {l : Launch} {e : Env} {s : State} {m : MethodId} {as : Array Value} {below : List Frame} {meth : Method} {c : Code} {A : Nat → Prop} {Q : State → Prop} {γ : wx_G} {o : Nat} {ad : Nat → Nat} {η : cx_H} {θ : cx_T} {τ : va_W} {z : Int32 × xF × xG} (G : cx_ok γ) (T : tx_ok γ o ad θ (hr γ o ad η ++ τ)) (C : CallFix p m c cX0_look 11 s as lw_all RX0) (K : wx_C γ A s) (E : ∀ (H : Heap) (locs : List Loc) (ls : Array Slot) (pc : Nat), wx_w γ A s H locs (cw γ o ad z.2.1 z.2.2 (hr γ o ad η ++ τ)) → decode cX0_look pc = .ok (.ireturn, 1) → W p l e rmX0_look s m as below meth c H locs 0 0 Q (F0 m pc ls [.int z.1])) : ∀ (n : Nat) (f : xF) (g : xG) (v1 : Int32) (v2 : Int32) (v3 : Int32) (v4 : Int32) (H : Heap) (locs : List Loc) (ls : Array Slot), pX0_look_40 η θ n f g v1 v2 v3 v4 = some z → wx_w γ A s H locs (cw γ o ad f g (hr γ o ad η ++ τ)) → lv_has ls 11 [(0, .ref o), (1, .int v1), (2, .int v2), (3, .int v3), (4, .int v4)] → W p l e rmX0_look s m as below meth c H locs 0 0 Q (F0 m 40 ls []) := by
  have hx := C.1
  have hb := C.2.1
  intro n
  induction n with
  | zero =>
    intro f g v1 v2 v3 v4 H locs ls hF w hl
    have hF : (none : Option (Int32 × xF × xG)) = some z := hF
    cases hF
  | succ n ih =>
    intro f g v1 v2 v3 v4 H locs ls hF w hl
    rw [pX0_look_40] at hF
    refine lv_iload hx hb dX0_look_40 (lv_at hl 4 rfl) ?_
    refine lv_iload_n hx hb dX0_look_42 rfl (lv_at hl 3 rfl) ?_
    refine lv_icmp_ge (tgt := 71) hx hb dX0_look_43 (by decide) (fun c => ?_) (fun c => ?_)
    · have hF := (if_pos c).symm.trans hF
      exact bX0_look_71 G T C K E w (lv_sub hl [0, 1, 2, 3] rfl) hF
    · have hF := (if_neg c).symm.trans hF
      refine lv_aload_n hx hb dX0_look_46 rfl (lv_at hl 0 rfl) ?_
      refine cget_40 C K w dX0_look_47 ?_
      refine lv_iload hx hb dX0_look_50 (lv_at hl 4 rfl) ?_
      refine lv_aload_n hx hb dX0_look_52 rfl (lv_at hl 0 rfl) ?_
      refine lv_iconst (v := (2 : Int32)) hx hb dX0_look_53 (by decide) ?_
      refine lv_iload hx hb dX0_look_54 (lv_at hl 4 rfl) ?_
      refine lv_iconst (v := (0 : Int32)) hx hb dX0_look_56 (by decide) ?_
      refine lv_iconst (v := (0 : Int32)) hx hb dX0_look_57 (by decide) ?_
      refine lv_iconst (v := (0 : Int32)) hx hb dX0_look_58 (by decide) ?_
      refine lv_bipush (v := (99 : Int32)) hx hb dX0_look_59 (by decide) ?_
      obtain ⟨r61, hr, hF⟩ := obd hF
      refine rX0_asks G T C K w hr hl.1 ⟨Nat.le_of_ble_eq_true rfl, Nat.le_of_ble_eq_true rfl⟩ (Nat.le_of_ble_eq_true rfl) dX0_look_61 (fun H locs w => ?_)
      obtain ⟨hi, hF⟩ := gin_if hF
      refine cast_40 C K w hi dX0_look_64 (fun H locs w => ?_)
      refine lv_iinc (v := v4 + 1) (lv' := [(4, .int (v4 + 1)), (0, .ref o), (1, .int v1), (2, .int v2), (3, .int v3)]) hx hb dX0_look_65 hl (k := 4) rfl rfl (by decide) rfl (fun ls hl => ?_)
      refine lv_goto (tgt := 40) hx hb dX0_look_68 (by decide) ?_
      exact ih _ _ _ _ _ _ _ _ _ hF w (lv_sub hl [1, 2, 3, 4, 0] rfl)

theorem bX0_look_0 {p : Program} {l : Launch} {e : Env} {s : State} {m : MethodId} {as : Array Value} {below : List Frame} {meth : Method} {c : Code} {A : Nat → Prop} {Q : State → Prop} {γ : wx_G} {o : Nat} {ad : Nat → Nat} {η : cx_H} {θ : cx_T} {τ : va_W} {z : Int32 × xF × xG} (G : cx_ok γ) (T : tx_ok γ o ad θ (hr γ o ad η ++ τ)) (C : CallFix p m c cX0_look 11 s as lw_all RX0) (K : wx_C γ A s) (E : ∀ (H : Heap) (locs : List Loc) (ls : Array Slot) (pc : Nat), wx_w γ A s H locs (cw γ o ad z.2.1 z.2.2 (hr γ o ad η ++ τ)) → decode cX0_look pc = .ok (.ireturn, 1) → W p l e rmX0_look s m as below meth c H locs 0 0 Q (F0 m pc ls [.int z.1])) {f : xF} {g : xG} {v1 : Int32} {v2 : Int32} {H : Heap} {locs : List Loc} {ls : Array Slot} (w : wx_w γ A s H locs (cw γ o ad f g (hr γ o ad η ++ τ))) (hl : lv_has ls 11 [(0, .ref o), (1, .int v1), (2, .int v2)]) (hF : pX0_look_0 η θ f g v1 v2 = some z) : W p l e rmX0_look s m as below meth c H locs 0 0 Q (F0 m 0 ls []) := by
  have hx := C.1
  have hb := C.2.1
  unfold pX0_look_0 at hF
  refine lv_iload_n hx hb dX0_look_0 rfl (lv_at hl 1 rfl) ?_
  refine lv_i2l hx hb dX0_look_1 rfl ?_
  refine lv_lconst (v := (0 : Int64)) hx hb dX0_look_2 (by decide) ?_
  refine lv_ldc2 (v := (99 : Int64)) hx hb C.2.2.2.1 (C.2.2.2.2 _ q140) dX0_look_3 ?_
  obtain ⟨r6, hr, hF⟩ := obd hF
  refine rX0_in G C K w hr hl.1 ⟨Nat.le_of_ble_eq_true rfl, Nat.le_of_ble_eq_true rfl⟩ (Nat.le_of_ble_eq_true rfl) dX0_look_6 (fun H locs w => ?_)
  refine lv_if_eq (tgt := 24) hx hb dX0_look_9 (by decide) (fun c => ?_) (fun c => ?_)
  · have hF := (if_pos c).symm.trans hF
    exact bX0_look_24 G T C K E w (lv_sub hl [] rfl) hF
  · have hF := (if_neg c).symm.trans hF
    refine lv_iload_n hx hb dX0_look_12 rfl (lv_at hl 2 rfl) ?_
    refine lv_i2l hx hb dX0_look_13 rfl ?_
    refine lv_lconst (v := (0 : Int64)) hx hb dX0_look_14 (by decide) ?_
    refine lv_ldc2 (v := (2 : Int64)) hx hb C.2.2.2.1 (C.2.2.2.2 _ q274) dX0_look_15 ?_
    obtain ⟨r18, hr, hF⟩ := obd hF
    refine rX0_in G C K w hr hl.1 ⟨Nat.le_of_ble_eq_true rfl, Nat.le_of_ble_eq_true rfl⟩ (Nat.le_of_ble_eq_true rfl) dX0_look_18 (fun H locs w => ?_)
    refine lv_if_ne (tgt := 27) hx hb dX0_look_21 (by decide) (fun c => ?_) (fun c => ?_)
    · have hF := (if_neg c).symm.trans hF
      refine lv_bipush (v := (12 : Int32)) hx hb dX0_look_27 (by decide) ?_
      refine lv_aload_n hx hb dX0_look_29 rfl (lv_at hl 0 rfl) ?_
      refine cget_7 C K w dX0_look_30 ?_
      refine cmin C hl.1 (Nat.le_of_ble_eq_true rfl) (Nat.le_of_ble_eq_true rfl) (Nat.le_of_ble_eq_true rfl) (Nat.le_of_ble_eq_true rfl) dX0_look_33 ?_
      refine lv_istore_n (lv' := [(3, .int (wmin (12 : Int32) (f 7))), (0, .ref o), (1, .int v1), (2, .int v2)]) hx hb dX0_look_36 rfl hl (by decide) rfl (fun ls hl => ?_)
      refine lv_iconst (v := (0 : Int32)) hx hb dX0_look_37 (by decide) ?_
      refine lv_istore (lv' := [(4, .int (0 : Int32)), (3, .int (wmin (12 : Int32) (f 7))), (0, .ref o), (1, .int v1), (2, .int v2)]) hx hb dX0_look_38 hl (by decide) rfl (fun ls hl => ?_)
      exact bX0_look_40 G T C K E 5000 _ _ _ _ _ _ _ _ _ hF w (lv_sub hl [2, 3, 4, 1, 0] rfl)
    · have hF := (if_pos c).symm.trans hF
      exact bX0_look_24 G T C K E w (lv_sub hl [] rfl) hF

theorem mX0_look {l : Launch} {γ : wx_G} {o : Nat} {ad : Nat → Nat} {η : cx_H} {θ : cx_T} {τ : va_W} {f : xF} {g : xG} {v1 : Int32} {v2 : Int32} {z : Int32 × xF × xG} (G : cx_ok γ) (T : tx_ok γ o ad θ (hr γ o ad η ++ τ)) (hF : pX0_look η θ f g v1 v2 = some z) : wx_M γ l yX0_look (ws_ yX0_look cX0_look 11 (some .int)) rmX0_look [.ref o, .int v1, .int v2] (cw γ o ad f g (hr γ o ad η ++ τ)) (fun v ws => v = some (.int z.1) ∧ ws = (cw γ o ad z.2.1 z.2.2 (hr γ o ad η ++ τ))) 0 0 := by
  refine wx_M.of (by decide) (Nat.le_of_ble_eq_true rfl) ?_
  intro p e s m as below meth c A ls C K w hr hlocks _ hl
  exact bX0_look_0 G T C K (fun H locs ls pc w d => wx_iret C hr hlocks w ⟨rfl, rfl⟩ d) w hl hF

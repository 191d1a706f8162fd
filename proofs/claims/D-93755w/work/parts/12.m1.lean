/-! the model's methods: pure block functions p.., block lemmas b.., contracts m.., call rows r.. (printed by gen/allm.py) -/
set_option maxRecDepth 100000
/-! WalkingStonesModel.in(III)Z -/
abbrev rmX8_in : Room := { frames := 0, cells := 0, slots := 0, locals := 0 }
def pX8_in_15 (f : xF) (g : xG) (t0 : Int32) : Option (Int32) := if gbz t0 = true then some (t0) else none

def pX8_in_14 (f : xF) (g : xG) : Option (Int32) := pX8_in_15 f g (0 : Int32)

def pX8_in_0 (f : xF) (g : xG) (v1 : Int32) (v2 : Int32) (v3 : Int32) : Option (Int32) := if v1 < v2 then pX8_in_14 f g else (if v3 < v1 then pX8_in_14 f g else pX8_in_15 f g (1 : Int32))

abbrev pX8_in (f : xF) (g : xG) (v1 : Int32) (v2 : Int32) (v3 : Int32) : Option (Int32) := pX8_in_0 f g v1 v2 v3
theorem bX8_in_15 {p : Program} {l : Launch} {e : Env} {s : State} {m : MethodId} {as : Array Value} {below : List Frame} {meth : Method} {c : Code} {A : Nat → Prop} {Q : State → Prop} {γ : wx_G} {o : Nat} {ad : Nat → Nat} {z : Int32} {f : xF} {g : xG} (C : CallFix p m c cX8_in 4 s as lw_all RX8) (K : wx_C γ A s) (E : ∀ (H : Heap) (locs : List Loc) (ls : Array Slot) (pc : Nat), narrow .boolean (.int z) = .int z → wx_w γ A s H locs (mw γ o ad f g) → decode cX8_in pc = .ok (.ireturn, 1) → W p l e rmX8_in s m as below meth c H locs 0 0 Q (F0 m pc ls [.int z])) {t0 : Int32} {H : Heap} {locs : List Loc} {ls : Array Slot} (w : wx_w γ A s H locs (mw γ o ad f g)) (hl : lv_has ls 4 []) (hF : pX8_in_15 f g t0 = some z) : W p l e rmX8_in s m as below meth c H locs 0 0 Q (F0 m 15 ls [.int t0]) := by
  have hx := C.1
  have hb := C.2.1
  unfold pX8_in_15 at hF
  obtain ⟨hz, hF⟩ := gbz_if hF
  have hF := Option.some.inj hF
  subst hF
  exact E _ _ _ _ hz w dX8_in_15

theorem bX8_in_14 {p : Program} {l : Launch} {e : Env} {s : State} {m : MethodId} {as : Array Value} {below : List Frame} {meth : Method} {c : Code} {A : Nat → Prop} {Q : State → Prop} {γ : wx_G} {o : Nat} {ad : Nat → Nat} {z : Int32} {f : xF} {g : xG} (C : CallFix p m c cX8_in 4 s as lw_all RX8) (K : wx_C γ A s) (E : ∀ (H : Heap) (locs : List Loc) (ls : Array Slot) (pc : Nat), narrow .boolean (.int z) = .int z → wx_w γ A s H locs (mw γ o ad f g) → decode cX8_in pc = .ok (.ireturn, 1) → W p l e rmX8_in s m as below meth c H locs 0 0 Q (F0 m pc ls [.int z])) {H : Heap} {locs : List Loc} {ls : Array Slot} (w : wx_w γ A s H locs (mw γ o ad f g)) (hl : lv_has ls 4 []) (hF : pX8_in_14 f g = some z) : W p l e rmX8_in s m as below meth c H locs 0 0 Q (F0 m 14 ls []) := by
  have hx := C.1
  have hb := C.2.1
  unfold pX8_in_14 at hF
  refine lv_iconst (v := (0 : Int32)) hx hb dX8_in_14 (by decide) ?_
  exact bX8_in_15 C K E w hl hF

theorem bX8_in_0 {p : Program} {l : Launch} {e : Env} {s : State} {m : MethodId} {as : Array Value} {below : List Frame} {meth : Method} {c : Code} {A : Nat → Prop} {Q : State → Prop} {γ : wx_G} {o : Nat} {ad : Nat → Nat} {z : Int32} {f : xF} {g : xG} (C : CallFix p m c cX8_in 4 s as lw_all RX8) (K : wx_C γ A s) (E : ∀ (H : Heap) (locs : List Loc) (ls : Array Slot) (pc : Nat), narrow .boolean (.int z) = .int z → wx_w γ A s H locs (mw γ o ad f g) → decode cX8_in pc = .ok (.ireturn, 1) → W p l e rmX8_in s m as below meth c H locs 0 0 Q (F0 m pc ls [.int z])) {v1 : Int32} {v2 : Int32} {v3 : Int32} {H : Heap} {locs : List Loc} {ls : Array Slot} (w : wx_w γ A s H locs (mw γ o ad f g)) (hl : lv_has ls 4 [(0, .ref o), (1, .int v1), (2, .int v2), (3, .int v3)]) (hF : pX8_in_0 f g v1 v2 v3 = some z) : W p l e rmX8_in s m as below meth c H locs 0 0 Q (F0 m 0 ls []) := by
  have hx := C.1
  have hb := C.2.1
  unfold pX8_in_0 at hF
  refine lv_iload_n hx hb dX8_in_0 rfl (lv_at hl 1 rfl) ?_
  refine lv_iload_n hx hb dX8_in_1 rfl (lv_at hl 2 rfl) ?_
  refine lv_icmp_lt (tgt := 14) hx hb dX8_in_2 (by decide) (fun c => ?_) (fun c => ?_)
  · have hF := (if_pos c).symm.trans hF
    exact bX8_in_14 C K E w (lv_sub hl [] rfl) hF
  · have hF := (if_neg c).symm.trans hF
    refine lv_iload_n hx hb dX8_in_5 rfl (lv_at hl 1 rfl) ?_
    refine lv_iload_n hx hb dX8_in_6 rfl (lv_at hl 3 rfl) ?_
    refine lv_icmp_gt (tgt := 14) hx hb dX8_in_7 (by decide) (fun c => ?_) (fun c => ?_)
    · have hF := (if_pos c).symm.trans hF
      exact bX8_in_14 C K E w (lv_sub hl [] rfl) hF
    · have hF := (if_neg c).symm.trans hF
      refine lv_iconst (v := (1 : Int32)) hx hb dX8_in_10 (by decide) ?_
      refine lv_goto (tgt := 15) hx hb dX8_in_11 (by decide) ?_
      exact bX8_in_15 C K E w (lv_sub hl [] rfl) hF

theorem mX8_in {l : Launch} {γ : wx_G} {o : Nat} {ad : Nat → Nat} {f : xF} {g : xG} {v1 : Int32} {v2 : Int32} {v3 : Int32} {z : Int32} (hF : pX8_in f g v1 v2 v3 = some z) : wx_M γ l yX8_in (ws_ yX8_in cX8_in 4 (some .boolean)) rmX8_in [.ref o, .int v1, .int v2, .int v3] (mw γ o ad f g) (fun v ws => v = some (.int z) ∧ ws = (mw γ o ad f g)) 0 0 := by
  refine wx_M.of (by decide) (Nat.le_of_ble_eq_true rfl) ?_
  intro p e s m as below meth c A ls C K w hr hlocks _ hl
  exact bX8_in_0 C K (fun H locs ls pc hz w d => wx_zret C hr hlocks hz w ⟨rfl, rfl⟩ d) w hl hF
theorem rX8_in {p : Program} {l : Launch} {e : Env} {R : Room} {s : State} {m : MethodId} {as : Array Value} {below : List Frame} {meth : Method} {c : Code} {H : Heap} {locs : List Loc} {cells slots : Nat} {Q : State → Prop} {cc : ByteArray} {nL pc : Nat} {ls : Array Slot} {rest : List Value} {γ : wx_G} {A : Nat → Prop} {o : Nat} {ad : Nat → Nat} {f : xF} {g : xG} {v1 : Int32} {v2 : Int32} {v3 : Int32} {z : Int32} (C : CallFix p m c cc nL s as lw_all RX8) (K : wx_C γ A s) (w : wx_w γ A s H locs (mw γ o ad f g)) (hF : pX8_in f g v1 v2 v3 = some z) (hls : ls.size = nL) (hR : rmX8_in.frames + 1 ≤ R.frames ∧ 8 + (4 + 11) + rmX8_in.locals ≤ R.locals) (hW : (rest.map fun v => v.category).sum ≤ 8) (d : decode cc pc = .ok (.invokevirtual 7, 3)) (kk : ∀ (H : Heap) (locs : List Loc), wx_w γ A s H locs (mw γ o ad f g) → W p l e R s m as below meth c H locs cells slots Q (F0 m (pc + 3) ls (.int z :: rest))) (hf : cells ≤ R.cells ∧ slots ≤ R.slots := by exact ⟨Nat.le_of_ble_eq_true rfl, Nat.le_of_ble_eq_true rfl⟩) : W p l e R s m as below meth c H locs cells slots Q (F0 m pc ls (.int v3 :: .int v2 :: .int v1 :: .ref o :: rest)) :=
  wx_callV (n := 3) C K w (mX8_in (l := l) hF) q1283 q1285 qs49 q123 q1287 rfl rfl (by decide +kernel) (va_recv K.1.1 w.1 (ci := 0) (q0 := 0) rfl rfl) rfl rfl hR hls hW hf d (fun v ws H1 locs1 hp w => by obtain ⟨rfl, rfl⟩ := hp; exact kk H1 locs1 w)

/-! WalkingStonesModel.stone(II)I -/
abbrev rmX8_stone : Room := { frames := 1, cells := 0, slots := 0, locals := 23 }
def pX8_stone_23 (f : xF) (g : xG) : Option (Int32 × xF × xG) := some ((-2 : Int32), f, g)

def pX8_stone_55 (f : xF) (g : xG) (v1 : Int32) (v2 : Int32) : Option (Int32 × xF × xG) := if (f 0) = (10 : Int32) then some ((-4 : Int32), f, g) else (if gin (f 0) 10 = true then if gin (f 0) 10 = true then some (((upd f 0 ((f 0) + (1 : Int32))) 0) - (1 : Int32), upd f 0 ((f 0) + (1 : Int32)), va_up (va_up g 3 (upd (g 3) (f 0).toNatClampNeg v1)) 4 (upd ((va_up g 3 (upd (g 3) (f 0).toNatClampNeg v1)) 4) (f 0).toNatClampNeg v2)) else none else none)

def pX8_stone_28 : Nat → xF → xG → Int32 → Int32 → Int32 → Option (Int32 × xF × xG)
  | 0, _, _, _, _, _ => none
  | n + 1, f, g, v1, v2, v3 => if (f 0) ≤ v3 then pX8_stone_55 f g v1 v2 else (if gin v3 10 = true then if (g 4 v3.toNatClampNeg) = v2 then some ((-3 : Int32), f, g) else pX8_stone_28 n f g v1 v2 (v3 + 1) else none)

def pX8_stone_0 (f : xF) (g : xG) (v1 : Int32) (v2 : Int32) : Option (Int32 × xF × xG) := (pX8_in f g v1 (1 : Int32) (99 : Int32)).bind (fun r5 => if r5 = 0 then pX8_stone_23 f g else (pX8_in f g v2 (0 : Int32) (4095 : Int32)).bind (fun r17 => if r17 = 0 then pX8_stone_23 f g else pX8_stone_28 5000 f g v1 v2 (0 : Int32)))

abbrev pX8_stone (f : xF) (g : xG) (v1 : Int32) (v2 : Int32) : Option (Int32 × xF × xG) := pX8_stone_0 f g v1 v2
theorem bX8_stone_23 {p : Program} {l : Launch} {e : Env} {s : State} {m : MethodId} {as : Array Value} {below : List Frame} {meth : Method} {c : Code} {A : Nat → Prop} {Q : State → Prop} {γ : wx_G} {o : Nat} {ad : Nat → Nat} {z : Int32 × xF × xG} (C : CallFix p m c cX8_stone 4 s as lw_all RX8) (K : wx_C γ A s) (E : ∀ (H : Heap) (locs : List Loc) (ls : Array Slot) (pc : Nat), wx_w γ A s H locs (mw γ o ad z.2.1 z.2.2) → decode cX8_stone pc = .ok (.ireturn, 1) → W p l e rmX8_stone s m as below meth c H locs 0 0 Q (F0 m pc ls [.int z.1])) {f : xF} {g : xG} {H : Heap} {locs : List Loc} {ls : Array Slot} (w : wx_w γ A s H locs (mw γ o ad f g)) (hl : lv_has ls 4 []) (hF : pX8_stone_23 f g = some z) : W p l e rmX8_stone s m as below meth c H locs 0 0 Q (F0 m 23 ls []) := by
  have hx := C.1
  have hb := C.2.1
  unfold pX8_stone_23 at hF
  refine lv_bipush (v := (-2 : Int32)) hx hb dX8_stone_23 (by decide) ?_
  have hF := Option.some.inj hF
  subst hF
  exact E _ _ _ _ w dX8_stone_25

theorem bX8_stone_55 {p : Program} {l : Launch} {e : Env} {s : State} {m : MethodId} {as : Array Value} {below : List Frame} {meth : Method} {c : Code} {A : Nat → Prop} {Q : State → Prop} {γ : wx_G} {o : Nat} {ad : Nat → Nat} {z : Int32 × xF × xG} (C : CallFix p m c cX8_stone 4 s as lw_all RX8) (K : wx_C γ A s) (E : ∀ (H : Heap) (locs : List Loc) (ls : Array Slot) (pc : Nat), wx_w γ A s H locs (mw γ o ad z.2.1 z.2.2) → decode cX8_stone pc = .ok (.ireturn, 1) → W p l e rmX8_stone s m as below meth c H locs 0 0 Q (F0 m pc ls [.int z.1])) {f : xF} {g : xG} {v1 : Int32} {v2 : Int32} {H : Heap} {locs : List Loc} {ls : Array Slot} (w : wx_w γ A s H locs (mw γ o ad f g)) (hl : lv_has ls 4 [(0, .ref o), (1, .int v1), (2, .int v2)]) (hF : pX8_stone_55 f g v1 v2 = some z) : W p l e rmX8_stone s m as below meth c H locs 0 0 Q (F0 m 55 ls []) := by
  have hx := C.1
  have hb := C.2.1
  unfold pX8_stone_55 at hF
  refine lv_aload_n hx hb dX8_stone_55 rfl (lv_at hl 0 rfl) ?_
  refine mget_0 C K w dX8_stone_56 ?_
  refine lv_bipush (v := (10 : Int32)) hx hb dX8_stone_59 (by decide) ?_
  refine lv_icmp_ne (tgt := 67) hx hb dX8_stone_61 (by decide) (fun c => ?_) (fun c => ?_)
  · have hF := (if_neg c).symm.trans hF
    refine lv_aload_n hx hb dX8_stone_67 rfl (lv_at hl 0 rfl) ?_
    refine mget_3 C K w dX8_stone_68 ?_
    refine lv_aload_n hx hb dX8_stone_71 rfl (lv_at hl 0 rfl) ?_
    refine mget_0 C K w dX8_stone_72 ?_
    refine lv_iload_n hx hb dX8_stone_75 rfl (lv_at hl 1 rfl) ?_
    obtain ⟨hi, hF⟩ := gin_if hF
    refine mast_3 C K w hi dX8_stone_76 (fun H locs w => ?_)
    refine lv_aload_n hx hb dX8_stone_77 rfl (lv_at hl 0 rfl) ?_
    refine mget_4 C K w dX8_stone_78 ?_
    refine lv_aload_n hx hb dX8_stone_81 rfl (lv_at hl 0 rfl) ?_
    refine mget_0 C K w dX8_stone_82 ?_
    refine lv_iload_n hx hb dX8_stone_85 rfl (lv_at hl 2 rfl) ?_
    obtain ⟨hi, hF⟩ := gin_if hF
    refine mast_4 C K w hi dX8_stone_86 (fun H locs w => ?_)
    refine lv_aload_n hx hb dX8_stone_87 rfl (lv_at hl 0 rfl) ?_
    refine lv_dup hx hb dX8_stone_88 rfl ?_
    refine mget_0 C K w dX8_stone_89 ?_
    refine lv_iconst (v := (1 : Int32)) hx hb dX8_stone_92 (by decide) ?_
    refine lv_iadd hx hb dX8_stone_93 ?_
    refine mput_0 C K w dX8_stone_94 (fun H locs w => ?_)
    refine lv_aload_n hx hb dX8_stone_97 rfl (lv_at hl 0 rfl) ?_
    refine mget_0 C K w dX8_stone_98 ?_
    refine lv_iconst (v := (1 : Int32)) hx hb dX8_stone_101 (by decide) ?_
    refine lv_isub hx hb dX8_stone_102 ?_
    have hF := Option.some.inj hF
    subst hF
    exact E _ _ _ _ w dX8_stone_103
  · have hF := (if_pos c).symm.trans hF
    refine lv_bipush (v := (-4 : Int32)) hx hb dX8_stone_64 (by decide) ?_
    have hF := Option.some.inj hF
    subst hF
    exact E _ _ _ _ w dX8_stone_66

theorem bX8_stone_28 {p : Program} {l : Launch} {e : Env} {s : State} {m : MethodId} {as : Array Value} {below : List Frame} {meth : Method} {c : Code} {A : Nat → Prop} {Q : State → Prop} {γ : wx_G} {o : Nat} {ad : Nat → Nat} {z : Int32 × xF × xG} (C : CallFix p m c cX8_stone 4 s as lw_all RX8) (K : wx_C γ A s) (E : ∀ (H : Heap) (locs : List Loc) (ls : Array Slot) (pc : Nat), wx_w γ A s H locs (mw γ o ad z.2.1 z.2.2) → decode cX8_stone pc = .ok (.ireturn, 1) → W p l e rmX8_stone s m as below meth c H locs 0 0 Q (F0 m pc ls [.int z.1])) : ∀ (n : Nat) (f : xF) (g : xG) (v1 : Int32) (v2 : Int32) (v3 : Int32) (H : Heap) (locs : List Loc) (ls : Array Slot), pX8_stone_28 n f g v1 v2 v3 = some z → wx_w γ A s H locs (mw γ o ad f g) → lv_has ls 4 [(0, .ref o), (1, .int v1), (2, .int v2), (3, .int v3)] → W p l e rmX8_stone s m as below meth c H locs 0 0 Q (F0 m 28 ls []) := by
  have hx := C.1
  have hb := C.2.1
  intro n
  induction n with
  | zero =>
    intro f g v1 v2 v3 H locs ls hF w hl
    have hF : (none : Option (Int32 × xF × xG)) = some z := hF
    cases hF
  | succ n ih =>
    intro f g v1 v2 v3 H locs ls hF w hl
    rw [pX8_stone_28] at hF
    refine lv_iload_n hx hb dX8_stone_28 rfl (lv_at hl 3 rfl) ?_
    refine lv_aload_n hx hb dX8_stone_29 rfl (lv_at hl 0 rfl) ?_
    refine mget_0 C K w dX8_stone_30 ?_
    refine lv_icmp_ge (tgt := 55) hx hb dX8_stone_33 (by decide) (fun c => ?_) (fun c => ?_)
    · have hF := (if_pos c).symm.trans hF
      exact bX8_stone_55 C K E w (lv_sub hl [0, 1, 2] rfl) hF
    · have hF := (if_neg c).symm.trans hF
      refine lv_aload_n hx hb dX8_stone_36 rfl (lv_at hl 0 rfl) ?_
      refine mget_4 C K w dX8_stone_37 ?_
      refine lv_iload_n hx hb dX8_stone_40 rfl (lv_at hl 3 rfl) ?_
      obtain ⟨hi, hF⟩ := gin_if hF
      refine mald_4 C K w hi dX8_stone_41 ?_
      refine lv_iload_n hx hb dX8_stone_42 rfl (lv_at hl 2 rfl) ?_
      refine lv_icmp_ne (tgt := 49) hx hb dX8_stone_43 (by decide) (fun c => ?_) (fun c => ?_)
      · have hF := (if_neg c).symm.trans hF
        refine lv_iinc (v := v3 + 1) (lv' := [(3, .int (v3 + 1)), (0, .ref o), (1, .int v1), (2, .int v2)]) hx hb dX8_stone_49 hl (k := 3) rfl rfl (by decide) rfl (fun ls hl => ?_)
        refine lv_goto (tgt := 28) hx hb dX8_stone_52 (by decide) ?_
        exact ih _ _ _ _ _ _ _ _ hF w (lv_sub hl [1, 2, 3, 0] rfl)
      · have hF := (if_pos c).symm.trans hF
        refine lv_bipush (v := (-3 : Int32)) hx hb dX8_stone_46 (by decide) ?_
        have hF := Option.some.inj hF
        subst hF
        exact E _ _ _ _ w dX8_stone_48

theorem bX8_stone_0 {p : Program} {l : Launch} {e : Env} {s : State} {m : MethodId} {as : Array Value} {below : List Frame} {meth : Method} {c : Code} {A : Nat → Prop} {Q : State → Prop} {γ : wx_G} {o : Nat} {ad : Nat → Nat} {z : Int32 × xF × xG} (C : CallFix p m c cX8_stone 4 s as lw_all RX8) (K : wx_C γ A s) (E : ∀ (H : Heap) (locs : List Loc) (ls : Array Slot) (pc : Nat), wx_w γ A s H locs (mw γ o ad z.2.1 z.2.2) → decode cX8_stone pc = .ok (.ireturn, 1) → W p l e rmX8_stone s m as below meth c H locs 0 0 Q (F0 m pc ls [.int z.1])) {f : xF} {g : xG} {v1 : Int32} {v2 : Int32} {H : Heap} {locs : List Loc} {ls : Array Slot} (w : wx_w γ A s H locs (mw γ o ad f g)) (hl : lv_has ls 4 [(0, .ref o), (1, .int v1), (2, .int v2)]) (hF : pX8_stone_0 f g v1 v2 = some z) : W p l e rmX8_stone s m as below meth c H locs 0 0 Q (F0 m 0 ls []) := by
  have hx := C.1
  have hb := C.2.1
  unfold pX8_stone_0 at hF
  refine lv_aload_n hx hb dX8_stone_0 rfl (lv_at hl 0 rfl) ?_
  refine lv_iload_n hx hb dX8_stone_1 rfl (lv_at hl 1 rfl) ?_
  refine lv_iconst (v := (1 : Int32)) hx hb dX8_stone_2 (by decide) ?_
  refine lv_bipush (v := (99 : Int32)) hx hb dX8_stone_3 (by decide) ?_
  obtain ⟨r5, hr, hF⟩ := obd hF
  refine rX8_in C K w hr hl.1 ⟨Nat.le_of_ble_eq_true rfl, Nat.le_of_ble_eq_true rfl⟩ (Nat.le_of_ble_eq_true rfl) dX8_stone_5 (fun H locs w => ?_)
  refine lv_if_eq (tgt := 23) hx hb dX8_stone_8 (by decide) (fun c => ?_) (fun c => ?_)
  · have hF := (if_pos c).symm.trans hF
    exact bX8_stone_23 C K E w (lv_sub hl [] rfl) hF
  · have hF := (if_neg c).symm.trans hF
    refine lv_aload_n hx hb dX8_stone_11 rfl (lv_at hl 0 rfl) ?_
    refine lv_iload_n hx hb dX8_stone_12 rfl (lv_at hl 2 rfl) ?_
    refine lv_iconst (v := (0 : Int32)) hx hb dX8_stone_13 (by decide) ?_
    refine lv_sipush (v := (4095 : Int32)) hx hb dX8_stone_14 (by decide) ?_
    obtain ⟨r17, hr, hF⟩ := obd hF
    refine rX8_in C K w hr hl.1 ⟨Nat.le_of_ble_eq_true rfl, Nat.le_of_ble_eq_true rfl⟩ (Nat.le_of_ble_eq_true rfl) dX8_stone_17 (fun H locs w => ?_)
    refine lv_if_ne (tgt := 26) hx hb dX8_stone_20 (by decide) (fun c => ?_) (fun c => ?_)
    · have hF := (if_neg c).symm.trans hF
      refine lv_iconst (v := (0 : Int32)) hx hb dX8_stone_26 (by decide) ?_
      refine lv_istore_n (lv' := [(3, .int (0 : Int32)), (0, .ref o), (1, .int v1), (2, .int v2)]) hx hb dX8_stone_27 rfl hl (by decide) rfl (fun ls hl => ?_)
      exact bX8_stone_28 C K E 5000 _ _ _ _ _ _ _ _ hF w (lv_sub hl [1, 2, 3, 0] rfl)
    · have hF := (if_pos c).symm.trans hF
      exact bX8_stone_23 C K E w (lv_sub hl [] rfl) hF

theorem mX8_stone {l : Launch} {γ : wx_G} {o : Nat} {ad : Nat → Nat} {f : xF} {g : xG} {v1 : Int32} {v2 : Int32} {z : Int32 × xF × xG} (hF : pX8_stone f g v1 v2 = some z) : wx_M γ l yX8_stone (ws_ yX8_stone cX8_stone 4 (some .int)) rmX8_stone [.ref o, .int v1, .int v2] (mw γ o ad f g) (fun v ws => v = some (.int z.1) ∧ ws = (mw γ o ad z.2.1 z.2.2)) 0 0 := by
  refine wx_M.of (by decide) (Nat.le_of_ble_eq_true rfl) ?_
  intro p e s m as below meth c A ls C K w hr hlocks _ hl
  exact bX8_stone_0 C K (fun H locs ls pc w d => wx_iret C hr hlocks w ⟨rfl, rfl⟩ d) w hl hF

/-! WalkingStonesModel.isWeather(I)Z -/
abbrev rmX8_isWeather : Room := { frames := 1, cells := 0, slots := 0, locals := 23 }
def pX8_isWeather_24 (f : xF) (g : xG) (t0 : Int32) : Option (Int32) := if gbz t0 = true then some (t0) else none

def pX8_isWeather_23 (f : xF) (g : xG) : Option (Int32) := pX8_isWeather_24 f g (0 : Int32)

def pX8_isWeather_0 (f : xF) (g : xG) (v1 : Int32) : Option (Int32) := (pX8_in f g v1 (0 : Int32) (99999 : Int32)).bind (fun r5 => if r5 = 0 then pX8_isWeather_23 f g else (if (4 : Int32) ≤ (v1 - v1 / (10 : Int32) * (10 : Int32)) then pX8_isWeather_23 f g else pX8_isWeather_24 f g (1 : Int32)))

abbrev pX8_isWeather (f : xF) (g : xG) (v1 : Int32) : Option (Int32) := pX8_isWeather_0 f g v1
theorem bX8_isWeather_24 {p : Program} {l : Launch} {e : Env} {s : State} {m : MethodId} {as : Array Value} {below : List Frame} {meth : Method} {c : Code} {A : Nat → Prop} {Q : State → Prop} {γ : wx_G} {o : Nat} {ad : Nat → Nat} {z : Int32} {f : xF} {g : xG} (C : CallFix p m c cX8_isWeather 2 s as lw_all RX8) (K : wx_C γ A s) (E : ∀ (H : Heap) (locs : List Loc) (ls : Array Slot) (pc : Nat), narrow .boolean (.int z) = .int z → wx_w γ A s H locs (mw γ o ad f g) → decode cX8_isWeather pc = .ok (.ireturn, 1) → W p l e rmX8_isWeather s m as below meth c H locs 0 0 Q (F0 m pc ls [.int z])) {t0 : Int32} {H : Heap} {locs : List Loc} {ls : Array Slot} (w : wx_w γ A s H locs (mw γ o ad f g)) (hl : lv_has ls 2 []) (hF : pX8_isWeather_24 f g t0 = some z) : W p l e rmX8_isWeather s m as below meth c H locs 0 0 Q (F0 m 24 ls [.int t0]) := by
  have hx := C.1
  have hb := C.2.1
  unfold pX8_isWeather_24 at hF
  obtain ⟨hz, hF⟩ := gbz_if hF
  have hF := Option.some.inj hF
  subst hF
  exact E _ _ _ _ hz w dX8_isWeather_24

theorem bX8_isWeather_23 {p : Program} {l : Launch} {e : Env} {s : State} {m : MethodId} {as : Array Value} {below : List Frame} {meth : Method} {c : Code} {A : Nat → Prop} {Q : State → Prop} {γ : wx_G} {o : Nat} {ad : Nat → Nat} {z : Int32} {f : xF} {g : xG} (C : CallFix p m c cX8_isWeather 2 s as lw_all RX8) (K : wx_C γ A s) (E : ∀ (H : Heap) (locs : List Loc) (ls : Array Slot) (pc : Nat), narrow .boolean (.int z) = .int z → wx_w γ A s H locs (mw γ o ad f g) → decode cX8_isWeather pc = .ok (.ireturn, 1) → W p l e rmX8_isWeather s m as below meth c H locs 0 0 Q (F0 m pc ls [.int z])) {H : Heap} {locs : List Loc} {ls : Array Slot} (w : wx_w γ A s H locs (mw γ o ad f g)) (hl : lv_has ls 2 []) (hF : pX8_isWeather_23 f g = some z) : W p l e rmX8_isWeather s m as below meth c H locs 0 0 Q (F0 m 23 ls []) := by
  have hx := C.1
  have hb := C.2.1
  unfold pX8_isWeather_23 at hF
  refine lv_iconst (v := (0 : Int32)) hx hb dX8_isWeather_23 (by decide) ?_
  exact bX8_isWeather_24 C K E w hl hF

theorem bX8_isWeather_0 {p : Program} {l : Launch} {e : Env} {s : State} {m : MethodId} {as : Array Value} {below : List Frame} {meth : Method} {c : Code} {A : Nat → Prop} {Q : State → Prop} {γ : wx_G} {o : Nat} {ad : Nat → Nat} {z : Int32} {f : xF} {g : xG} (C : CallFix p m c cX8_isWeather 2 s as lw_all RX8) (K : wx_C γ A s) (E : ∀ (H : Heap) (locs : List Loc) (ls : Array Slot) (pc : Nat), narrow .boolean (.int z) = .int z → wx_w γ A s H locs (mw γ o ad f g) → decode cX8_isWeather pc = .ok (.ireturn, 1) → W p l e rmX8_isWeather s m as below meth c H locs 0 0 Q (F0 m pc ls [.int z])) {v1 : Int32} {H : Heap} {locs : List Loc} {ls : Array Slot} (w : wx_w γ A s H locs (mw γ o ad f g)) (hl : lv_has ls 2 [(0, .ref o), (1, .int v1)]) (hF : pX8_isWeather_0 f g v1 = some z) : W p l e rmX8_isWeather s m as below meth c H locs 0 0 Q (F0 m 0 ls []) := by
  have hx := C.1
  have hb := C.2.1
  unfold pX8_isWeather_0 at hF
  refine lv_aload_n hx hb dX8_isWeather_0 rfl (lv_at hl 0 rfl) ?_
  refine lv_iload_n hx hb dX8_isWeather_1 rfl (lv_at hl 1 rfl) ?_
  refine lv_iconst (v := (0 : Int32)) hx hb dX8_isWeather_2 (by decide) ?_
  refine lv_ldc (v := (99999 : Int32)) hx hb C.2.2.2.1 (C.2.2.2.2 _ q1296) dX8_isWeather_3 ?_
  obtain ⟨r5, hr, hF⟩ := obd hF
  refine rX8_in C K w hr hl.1 ⟨Nat.le_of_ble_eq_true rfl, Nat.le_of_ble_eq_true rfl⟩ (Nat.le_of_ble_eq_true rfl) dX8_isWeather_5 (fun H locs w => ?_)
  refine lv_if_eq (tgt := 23) hx hb dX8_isWeather_8 (by decide) (fun c => ?_) (fun c => ?_)
  · have hF := (if_pos c).symm.trans hF
    exact bX8_isWeather_23 C K E w (lv_sub hl [] rfl) hF
  · have hF := (if_neg c).symm.trans hF
    refine lv_iload_n hx hb dX8_isWeather_11 rfl (lv_at hl 1 rfl) ?_
    refine lv_bipush (v := (10 : Int32)) hx hb dX8_isWeather_12 (by decide) ?_
    refine lv_irem hx hb dX8_isWeather_14 (by decide) ?_
    refine lv_iconst (v := (4 : Int32)) hx hb dX8_isWeather_15 (by decide) ?_
    refine lv_icmp_ge (tgt := 23) hx hb dX8_isWeather_16 (by decide) (fun c => ?_) (fun c => ?_)
    · have hF := (if_pos c).symm.trans hF
      exact bX8_isWeather_23 C K E w (lv_sub hl [] rfl) hF
    · have hF := (if_neg c).symm.trans hF
      refine lv_iconst (v := (1 : Int32)) hx hb dX8_isWeather_19 (by decide) ?_
      refine lv_goto (tgt := 24) hx hb dX8_isWeather_20 (by decide) ?_
      exact bX8_isWeather_24 C K E w (lv_sub hl [] rfl) hF

theorem mX8_isWeather {l : Launch} {γ : wx_G} {o : Nat} {ad : Nat → Nat} {f : xF} {g : xG} {v1 : Int32} {z : Int32} (hF : pX8_isWeather f g v1 = some z) : wx_M γ l yX8_isWeather (ws_ yX8_isWeather cX8_isWeather 2 (some .boolean)) rmX8_isWeather [.ref o, .int v1] (mw γ o ad f g) (fun v ws => v = some (.int z) ∧ ws = (mw γ o ad f g)) 0 0 := by
  refine wx_M.of (by decide) (Nat.le_of_ble_eq_true rfl) ?_
  intro p e s m as below meth c A ls C K w hr hlocks _ hl
  exact bX8_isWeather_0 C K (fun H locs ls pc hz w d => wx_zret C hr hlocks hz w ⟨rfl, rfl⟩ d) w hl hF
theorem rX8_isWeather {p : Program} {l : Launch} {e : Env} {R : Room} {s : State} {m : MethodId} {as : Array Value} {below : List Frame} {meth : Method} {c : Code} {H : Heap} {locs : List Loc} {cells slots : Nat} {Q : State → Prop} {cc : ByteArray} {nL pc : Nat} {ls : Array Slot} {rest : List Value} {γ : wx_G} {A : Nat → Prop} {o : Nat} {ad : Nat → Nat} {f : xF} {g : xG} {v1 : Int32} {z : Int32} (C : CallFix p m c cc nL s as lw_all RX8) (K : wx_C γ A s) (w : wx_w γ A s H locs (mw γ o ad f g)) (hF : pX8_isWeather f g v1 = some z) (hls : ls.size = nL) (hR : rmX8_isWeather.frames + 1 ≤ R.frames ∧ 8 + (2 + 11) + rmX8_isWeather.locals ≤ R.locals) (hW : (rest.map fun v => v.category).sum ≤ 8) (d : decode cc pc = .ok (.invokevirtual 37, 3)) (kk : ∀ (H : Heap) (locs : List Loc), wx_w γ A s H locs (mw γ o ad f g) → W p l e R s m as below meth c H locs cells slots Q (F0 m (pc + 3) ls (.int z :: rest))) (hf : cells ≤ R.cells ∧ slots ≤ R.slots := by exact ⟨Nat.le_of_ble_eq_true rfl, Nat.le_of_ble_eq_true rfl⟩) : W p l e R s m as below meth c H locs cells slots Q (F0 m pc ls (.int v1 :: .ref o :: rest)) :=
  wx_callV (n := 1) C K w (mX8_isWeather (l := l) hF) q1292 q1294 qs50 q123 q1295 rfl rfl (by decide +kernel) (va_recv K.1.1 w.1 (ci := 0) (q0 := 0) rfl rfl) rfl rfl hR hls hW hf d (fun v ws H1 locs1 hp w => by obtain ⟨rfl, rfl⟩ := hp; exact kk H1 locs1 w)

/-! WalkingStonesModel.comes(I)V -/
abbrev rmX8_comes : Room := { frames := 0, cells := 0, slots := 0, locals := 0 }
def pX8_comes_0 (f : xF) (g : xG) (v1 : Int32) : Option (xF × xG) := if gin (f 1) 60 = true then if gin (f 1) 60 = true then if gin (f 1) 60 = true then if gin (f 1) 60 = true then some (upd f 1 ((f 1) + (1 : Int32)), va_up (va_up (va_up (va_up g 5 (upd (g 5) (f 1).toNatClampNeg (v1 / (10000 : Int32)))) 6 (upd ((va_up g 5 (upd (g 5) (f 1).toNatClampNeg (v1 / (10000 : Int32)))) 6) (f 1).toNatClampNeg ((v1 / (1000 : Int32)) - (v1 / (1000 : Int32)) / (10 : Int32) * (10 : Int32)))) 7 (upd ((va_up (va_up g 5 (upd (g 5) (f 1).toNatClampNeg (v1 / (10000 : Int32)))) 6 (upd ((va_up g 5 (upd (g 5) (f 1).toNatClampNeg (v1 / (10000 : Int32)))) 6) (f 1).toNatClampNeg ((v1 / (1000 : Int32)) - (v1 / (1000 : Int32)) / (10 : Int32) * (10 : Int32)))) 7) (f 1).toNatClampNeg ((v1 / (10 : Int32)) - (v1 / (10 : Int32)) / (100 : Int32) * (100 : Int32)))) 8 (upd ((va_up (va_up (va_up g 5 (upd (g 5) (f 1).toNatClampNeg (v1 / (10000 : Int32)))) 6 (upd ((va_up g 5 (upd (g 5) (f 1).toNatClampNeg (v1 / (10000 : Int32)))) 6) (f 1).toNatClampNeg ((v1 / (1000 : Int32)) - (v1 / (1000 : Int32)) / (10 : Int32) * (10 : Int32)))) 7 (upd ((va_up (va_up g 5 (upd (g 5) (f 1).toNatClampNeg (v1 / (10000 : Int32)))) 6 (upd ((va_up g 5 (upd (g 5) (f 1).toNatClampNeg (v1 / (10000 : Int32)))) 6) (f 1).toNatClampNeg ((v1 / (1000 : Int32)) - (v1 / (1000 : Int32)) / (10 : Int32) * (10 : Int32)))) 7) (f 1).toNatClampNeg ((v1 / (10 : Int32)) - (v1 / (10 : Int32)) / (100 : Int32) * (100 : Int32)))) 8) (f 1).toNatClampNeg (v1 - v1 / (10 : Int32) * (10 : Int32)))) else none else none else none else none

abbrev pX8_comes (f : xF) (g : xG) (v1 : Int32) : Option (xF × xG) := pX8_comes_0 f g v1
theorem bX8_comes_0 {p : Program} {l : Launch} {e : Env} {s : State} {m : MethodId} {as : Array Value} {below : List Frame} {meth : Method} {c : Code} {A : Nat → Prop} {Q : State → Prop} {γ : wx_G} {o : Nat} {ad : Nat → Nat} {z : xF × xG} (C : CallFix p m c cX8_comes 2 s as lw_all RX8) (K : wx_C γ A s) (E : ∀ (H : Heap) (locs : List Loc) (ls : Array Slot) (pc : Nat), wx_w γ A s H locs (mw γ o ad z.1 z.2) → decode cX8_comes pc = .ok (.return_, 1) → W p l e rmX8_comes s m as below meth c H locs 0 0 Q (F0 m pc ls [])) {f : xF} {g : xG} {v1 : Int32} {H : Heap} {locs : List Loc} {ls : Array Slot} (w : wx_w γ A s H locs (mw γ o ad f g)) (hl : lv_has ls 2 [(0, .ref o), (1, .int v1)]) (hF : pX8_comes_0 f g v1 = some z) : W p l e rmX8_comes s m as below meth c H locs 0 0 Q (F0 m 0 ls []) := by
  have hx := C.1
  have hb := C.2.1
  unfold pX8_comes_0 at hF
  refine lv_aload_n hx hb dX8_comes_0 rfl (lv_at hl 0 rfl) ?_
  refine mget_5 C K w dX8_comes_1 ?_
  refine lv_aload_n hx hb dX8_comes_4 rfl (lv_at hl 0 rfl) ?_
  refine mget_1 C K w dX8_comes_5 ?_
  refine lv_iload_n hx hb dX8_comes_8 rfl (lv_at hl 1 rfl) ?_
  refine lv_sipush (v := (10000 : Int32)) hx hb dX8_comes_9 (by decide) ?_
  refine lv_idiv hx hb dX8_comes_12 (by decide) ?_
  obtain ⟨hi, hF⟩ := gin_if hF
  refine mast_5 C K w hi dX8_comes_13 (fun H locs w => ?_)
  refine lv_aload_n hx hb dX8_comes_14 rfl (lv_at hl 0 rfl) ?_
  refine mget_6 C K w dX8_comes_15 ?_
  refine lv_aload_n hx hb dX8_comes_18 rfl (lv_at hl 0 rfl) ?_
  refine mget_1 C K w dX8_comes_19 ?_
  refine lv_iload_n hx hb dX8_comes_22 rfl (lv_at hl 1 rfl) ?_
  refine lv_sipush (v := (1000 : Int32)) hx hb dX8_comes_23 (by decide) ?_
  refine lv_idiv hx hb dX8_comes_26 (by decide) ?_
  refine lv_bipush (v := (10 : Int32)) hx hb dX8_comes_27 (by decide) ?_
  refine lv_irem hx hb dX8_comes_29 (by decide) ?_
  obtain ⟨hi, hF⟩ := gin_if hF
  refine mast_6 C K w hi dX8_comes_30 (fun H locs w => ?_)
  refine lv_aload_n hx hb dX8_comes_31 rfl (lv_at hl 0 rfl) ?_
  refine mget_7 C K w dX8_comes_32 ?_
  refine lv_aload_n hx hb dX8_comes_35 rfl (lv_at hl 0 rfl) ?_
  refine mget_1 C K w dX8_comes_36 ?_
  refine lv_iload_n hx hb dX8_comes_39 rfl (lv_at hl 1 rfl) ?_
  refine lv_bipush (v := (10 : Int32)) hx hb dX8_comes_40 (by decide) ?_
  refine lv_idiv hx hb dX8_comes_42 (by decide) ?_
  refine lv_bipush (v := (100 : Int32)) hx hb dX8_comes_43 (by decide) ?_
  refine lv_irem hx hb dX8_comes_45 (by decide) ?_
  obtain ⟨hi, hF⟩ := gin_if hF
  refine mast_7 C K w hi dX8_comes_46 (fun H locs w => ?_)
  refine lv_aload_n hx hb dX8_comes_47 rfl (lv_at hl 0 rfl) ?_
  refine mget_8 C K w dX8_comes_48 ?_
  refine lv_aload_n hx hb dX8_comes_51 rfl (lv_at hl 0 rfl) ?_
  refine mget_1 C K w dX8_comes_52 ?_
  refine lv_iload_n hx hb dX8_comes_55 rfl (lv_at hl 1 rfl) ?_
  refine lv_bipush (v := (10 : Int32)) hx hb dX8_comes_56 (by decide) ?_
  refine lv_irem hx hb dX8_comes_58 (by decide) ?_
  obtain ⟨hi, hF⟩ := gin_if hF
  refine mast_8 C K w hi dX8_comes_59 (fun H locs w => ?_)
  refine lv_aload_n hx hb dX8_comes_60 rfl (lv_at hl 0 rfl) ?_
  refine lv_dup hx hb dX8_comes_61 rfl ?_
  refine mget_1 C K w dX8_comes_62 ?_
  refine lv_iconst (v := (1 : Int32)) hx hb dX8_comes_65 (by decide) ?_
  refine lv_iadd hx hb dX8_comes_66 ?_
  refine mput_1 C K w dX8_comes_67 (fun H locs w => ?_)
  have hF := Option.some.inj hF
  subst hF
  exact E _ _ _ _ w dX8_comes_70

theorem mX8_comes {l : Launch} {γ : wx_G} {o : Nat} {ad : Nat → Nat} {f : xF} {g : xG} {v1 : Int32} {z : xF × xG} (hF : pX8_comes f g v1 = some z) : wx_M γ l yX8_comes (ws_ yX8_comes cX8_comes 2 none) rmX8_comes [.ref o, .int v1] (mw γ o ad f g) (fun v ws => v = none ∧ ws = (mw γ o ad z.1 z.2)) 0 0 := by
  refine wx_M.of (by decide) (Nat.le_of_ble_eq_true rfl) ?_
  intro p e s m as below meth c A ls C K w hr hlocks _ hl
  exact bX8_comes_0 C K (fun H locs ls pc w d => wx_vret C hr hlocks w ⟨rfl, rfl⟩ d) w hl hF
theorem rX8_comes {p : Program} {l : Launch} {e : Env} {R : Room} {s : State} {m : MethodId} {as : Array Value} {below : List Frame} {meth : Method} {c : Code} {H : Heap} {locs : List Loc} {cells slots : Nat} {Q : State → Prop} {cc : ByteArray} {nL pc : Nat} {ls : Array Slot} {rest : List Value} {γ : wx_G} {A : Nat → Prop} {o : Nat} {ad : Nat → Nat} {f : xF} {g : xG} {v1 : Int32} {z : xF × xG} (C : CallFix p m c cc nL s as lw_all RX8) (K : wx_C γ A s) (w : wx_w γ A s H locs (mw γ o ad f g)) (hF : pX8_comes f g v1 = some z) (hls : ls.size = nL) (hR : rmX8_comes.frames + 1 ≤ R.frames ∧ 8 + (2 + 11) + rmX8_comes.locals ≤ R.locals) (hW : (rest.map fun v => v.category).sum ≤ 8) (d : decode cc pc = .ok (.invokevirtual 41, 3)) (kk : ∀ (H : Heap) (locs : List Loc), wx_w γ A s H locs (mw γ o ad z.1 z.2) → W p l e R s m as below meth c H locs cells slots Q (F0 m (pc + 3) ls rest)) (hf : cells ≤ R.cells ∧ slots ≤ R.slots := by exact ⟨Nat.le_of_ble_eq_true rfl, Nat.le_of_ble_eq_true rfl⟩) : W p l e R s m as below meth c H locs cells slots Q (F0 m pc ls (.int v1 :: .ref o :: rest)) :=
  wx_callV (n := 1) C K w (mX8_comes (l := l) hF) q1297 q1299 qs51 q123 q1300 rfl rfl (by decide +kernel) (va_recv K.1.1 w.1 (ci := 0) (q0 := 0) rfl rfl) rfl rfl hR hls hW hf d (fun v ws H1 locs1 hp w => by obtain ⟨rfl, rfl⟩ := hp; exact kk H1 locs1 w)

/-! WalkingStonesModel.night(I)I -/
abbrev rmX8_night : Room := { frames := 2, cells := 0, slots := 0, locals := 44 }
def pX8_night_0 (f : xF) (g : xG) (v1 : Int32) : Option (Int32 × xF × xG) := (pX8_isWeather f g v1).bind (fun r2 => if r2 = 0 then some ((-2 : Int32), f, g) else (if (f 1) = (60 : Int32) then some ((-4 : Int32), f, g) else (pX8_comes f g v1).bind (fun r25 => some ((r25.1 1) - (1 : Int32), r25.1, r25.2))))

abbrev pX8_night (f : xF) (g : xG) (v1 : Int32) : Option (Int32 × xF × xG) := pX8_night_0 f g v1
theorem bX8_night_0 {p : Program} {l : Launch} {e : Env} {s : State} {m : MethodId} {as : Array Value} {below : List Frame} {meth : Method} {c : Code} {A : Nat → Prop} {Q : State → Prop} {γ : wx_G} {o : Nat} {ad : Nat → Nat} {z : Int32 × xF × xG} (C : CallFix p m c cX8_night 2 s as lw_all RX8) (K : wx_C γ A s) (E : ∀ (H : Heap) (locs : List Loc) (ls : Array Slot) (pc : Nat), wx_w γ A s H locs (mw γ o ad z.2.1 z.2.2) → decode cX8_night pc = .ok (.ireturn, 1) → W p l e rmX8_night s m as below meth c H locs 0 0 Q (F0 m pc ls [.int z.1])) {f : xF} {g : xG} {v1 : Int32} {H : Heap} {locs : List Loc} {ls : Array Slot} (w : wx_w γ A s H locs (mw γ o ad f g)) (hl : lv_has ls 2 [(0, .ref o), (1, .int v1)]) (hF : pX8_night_0 f g v1 = some z) : W p l e rmX8_night s m as below meth c H locs 0 0 Q (F0 m 0 ls []) := by
  have hx := C.1
  have hb := C.2.1
  unfold pX8_night_0 at hF
  refine lv_aload_n hx hb dX8_night_0 rfl (lv_at hl 0 rfl) ?_
  refine lv_iload_n hx hb dX8_night_1 rfl (lv_at hl 1 rfl) ?_
  obtain ⟨r2, hr, hF⟩ := obd hF
  refine rX8_isWeather C K w hr hl.1 ⟨Nat.le_of_ble_eq_true rfl, Nat.le_of_ble_eq_true rfl⟩ (Nat.le_of_ble_eq_true rfl) dX8_night_2 (fun H locs w => ?_)
  refine lv_if_ne (tgt := 11) hx hb dX8_night_5 (by decide) (fun c => ?_) (fun c => ?_)
  · have hF := (if_neg c).symm.trans hF
    refine lv_aload_n hx hb dX8_night_11 rfl (lv_at hl 0 rfl) ?_
    refine mget_1 C K w dX8_night_12 ?_
    refine lv_bipush (v := (60 : Int32)) hx hb dX8_night_15 (by decide) ?_
    refine lv_icmp_ne (tgt := 23) hx hb dX8_night_17 (by decide) (fun c => ?_) (fun c => ?_)
    · have hF := (if_neg c).symm.trans hF
      refine lv_aload_n hx hb dX8_night_23 rfl (lv_at hl 0 rfl) ?_
      refine lv_iload_n hx hb dX8_night_24 rfl (lv_at hl 1 rfl) ?_
      obtain ⟨r25, hr, hF⟩ := obd hF
      refine rX8_comes C K w hr hl.1 ⟨Nat.le_of_ble_eq_true rfl, Nat.le_of_ble_eq_true rfl⟩ (Nat.le_of_ble_eq_true rfl) dX8_night_25 (fun H locs w => ?_)
      refine lv_aload_n hx hb dX8_night_28 rfl (lv_at hl 0 rfl) ?_
      refine mget_1 C K w dX8_night_29 ?_
      refine lv_iconst (v := (1 : Int32)) hx hb dX8_night_32 (by decide) ?_
      refine lv_isub hx hb dX8_night_33 ?_
      have hF := Option.some.inj hF
      subst hF
      exact E _ _ _ _ w dX8_night_34
    · have hF := (if_pos c).symm.trans hF
      refine lv_bipush (v := (-4 : Int32)) hx hb dX8_night_20 (by decide) ?_
      have hF := Option.some.inj hF
      subst hF
      exact E _ _ _ _ w dX8_night_22
  · have hF := (if_pos c).symm.trans hF
    refine lv_bipush (v := (-2 : Int32)) hx hb dX8_night_8 (by decide) ?_
    have hF := Option.some.inj hF
    subst hF
    exact E _ _ _ _ w dX8_night_10

theorem mX8_night {l : Launch} {γ : wx_G} {o : Nat} {ad : Nat → Nat} {f : xF} {g : xG} {v1 : Int32} {z : Int32 × xF × xG} (hF : pX8_night f g v1 = some z) : wx_M γ l yX8_night (ws_ yX8_night cX8_night 2 (some .int)) rmX8_night [.ref o, .int v1] (mw γ o ad f g) (fun v ws => v = some (.int z.1) ∧ ws = (mw γ o ad z.2.1 z.2.2)) 0 0 := by
  refine wx_M.of (by decide) (Nat.le_of_ble_eq_true rfl) ?_
  intro p e s m as below meth c A ls C K w hr hlocks _ hl
  exact bX8_night_0 C K (fun H locs ls pc w d => wx_iret C hr hlocks w ⟨rfl, rfl⟩ d) w hl hF

/-! WalkingStonesModel.how(II)I -/
abbrev rmX8_how : Room := { frames := 1, cells := 0, slots := 0, locals := 23 }
def pX8_how_21 (f : xF) (g : xG) : Option (Int32 × xF × xG) := some ((-2 : Int32), f, g)

def pX8_how_0 (f : xF) (g : xG) (v1 : Int32) (v2 : Int32) : Option (Int32 × xF × xG) := (pX8_in f g v1 (0 : Int32) (5 : Int32)).bind (fun r4 => if r4 = 0 then pX8_how_21 f g else (pX8_in f g v2 (0 : Int32) (20 : Int32)).bind (fun r15 => if r15 = 0 then pX8_how_21 f g else (if (f 2) = (8 : Int32) then some ((-4 : Int32), f, g) else (if gin (f 2) 8 = true then if gin (f 2) 8 = true then some (((upd f 2 ((f 2) + (1 : Int32))) 2) - (1 : Int32), upd f 2 ((f 2) + (1 : Int32)), va_up (va_up g 9 (upd (g 9) (f 2).toNatClampNeg v1)) 10 (upd ((va_up g 9 (upd (g 9) (f 2).toNatClampNeg v1)) 10) (f 2).toNatClampNeg v2)) else none else none))))

abbrev pX8_how (f : xF) (g : xG) (v1 : Int32) (v2 : Int32) : Option (Int32 × xF × xG) := pX8_how_0 f g v1 v2
theorem bX8_how_21 {p : Program} {l : Launch} {e : Env} {s : State} {m : MethodId} {as : Array Value} {below : List Frame} {meth : Method} {c : Code} {A : Nat → Prop} {Q : State → Prop} {γ : wx_G} {o : Nat} {ad : Nat → Nat} {z : Int32 × xF × xG} (C : CallFix p m c cX8_how 3 s as lw_all RX8) (K : wx_C γ A s) (E : ∀ (H : Heap) (locs : List Loc) (ls : Array Slot) (pc : Nat), wx_w γ A s H locs (mw γ o ad z.2.1 z.2.2) → decode cX8_how pc = .ok (.ireturn, 1) → W p l e rmX8_how s m as below meth c H locs 0 0 Q (F0 m pc ls [.int z.1])) {f : xF} {g : xG} {H : Heap} {locs : List Loc} {ls : Array Slot} (w : wx_w γ A s H locs (mw γ o ad f g)) (hl : lv_has ls 3 []) (hF : pX8_how_21 f g = some z) : W p l e rmX8_how s m as below meth c H locs 0 0 Q (F0 m 21 ls []) := by
  have hx := C.1
  have hb := C.2.1
  unfold pX8_how_21 at hF
  refine lv_bipush (v := (-2 : Int32)) hx hb dX8_how_21 (by decide) ?_
  have hF := Option.some.inj hF
  subst hF
  exact E _ _ _ _ w dX8_how_23

theorem bX8_how_0 {p : Program} {l : Launch} {e : Env} {s : State} {m : MethodId} {as : Array Value} {below : List Frame} {meth : Method} {c : Code} {A : Nat → Prop} {Q : State → Prop} {γ : wx_G} {o : Nat} {ad : Nat → Nat} {z : Int32 × xF × xG} (C : CallFix p m c cX8_how 3 s as lw_all RX8) (K : wx_C γ A s) (E : ∀ (H : Heap) (locs : List Loc) (ls : Array Slot) (pc : Nat), wx_w γ A s H locs (mw γ o ad z.2.1 z.2.2) → decode cX8_how pc = .ok (.ireturn, 1) → W p l e rmX8_how s m as below meth c H locs 0 0 Q (F0 m pc ls [.int z.1])) {f : xF} {g : xG} {v1 : Int32} {v2 : Int32} {H : Heap} {locs : List Loc} {ls : Array Slot} (w : wx_w γ A s H locs (mw γ o ad f g)) (hl : lv_has ls 3 [(0, .ref o), (1, .int v1), (2, .int v2)]) (hF : pX8_how_0 f g v1 v2 = some z) : W p l e rmX8_how s m as below meth c H locs 0 0 Q (F0 m 0 ls []) := by
  have hx := C.1
  have hb := C.2.1
  unfold pX8_how_0 at hF
  refine lv_aload_n hx hb dX8_how_0 rfl (lv_at hl 0 rfl) ?_
  refine lv_iload_n hx hb dX8_how_1 rfl (lv_at hl 1 rfl) ?_
  refine lv_iconst (v := (0 : Int32)) hx hb dX8_how_2 (by decide) ?_
  refine lv_iconst (v := (5 : Int32)) hx hb dX8_how_3 (by decide) ?_
  obtain ⟨r4, hr, hF⟩ := obd hF
  refine rX8_in C K w hr hl.1 ⟨Nat.le_of_ble_eq_true rfl, Nat.le_of_ble_eq_true rfl⟩ (Nat.le_of_ble_eq_true rfl) dX8_how_4 (fun H locs w => ?_)
  refine lv_if_eq (tgt := 21) hx hb dX8_how_7 (by decide) (fun c => ?_) (fun c => ?_)
  · have hF := (if_pos c).symm.trans hF
    exact bX8_how_21 C K E w (lv_sub hl [] rfl) hF
  · have hF := (if_neg c).symm.trans hF
    refine lv_aload_n hx hb dX8_how_10 rfl (lv_at hl 0 rfl) ?_
    refine lv_iload_n hx hb dX8_how_11 rfl (lv_at hl 2 rfl) ?_
    refine lv_iconst (v := (0 : Int32)) hx hb dX8_how_12 (by decide) ?_
    refine lv_bipush (v := (20 : Int32)) hx hb dX8_how_13 (by decide) ?_
    obtain ⟨r15, hr, hF⟩ := obd hF
    refine rX8_in C K w hr hl.1 ⟨Nat.le_of_ble_eq_true rfl, Nat.le_of_ble_eq_true rfl⟩ (Nat.le_of_ble_eq_true rfl) dX8_how_15 (fun H locs w => ?_)
    refine lv_if_ne (tgt := 24) hx hb dX8_how_18 (by decide) (fun c => ?_) (fun c => ?_)
    · have hF := (if_neg c).symm.trans hF
      refine lv_aload_n hx hb dX8_how_24 rfl (lv_at hl 0 rfl) ?_
      refine mget_2 C K w dX8_how_25 ?_
      refine lv_bipush (v := (8 : Int32)) hx hb dX8_how_28 (by decide) ?_
      refine lv_icmp_ne (tgt := 36) hx hb dX8_how_30 (by decide) (fun c => ?_) (fun c => ?_)
      · have hF := (if_neg c).symm.trans hF
        refine lv_aload_n hx hb dX8_how_36 rfl (lv_at hl 0 rfl) ?_
        refine mget_9 C K w dX8_how_37 ?_
        refine lv_aload_n hx hb dX8_how_40 rfl (lv_at hl 0 rfl) ?_
        refine mget_2 C K w dX8_how_41 ?_
        refine lv_iload_n hx hb dX8_how_44 rfl (lv_at hl 1 rfl) ?_
        obtain ⟨hi, hF⟩ := gin_if hF
        refine mast_9 C K w hi dX8_how_45 (fun H locs w => ?_)
        refine lv_aload_n hx hb dX8_how_46 rfl (lv_at hl 0 rfl) ?_
        refine mget_10 C K w dX8_how_47 ?_
        refine lv_aload_n hx hb dX8_how_50 rfl (lv_at hl 0 rfl) ?_
        refine mget_2 C K w dX8_how_51 ?_
        refine lv_iload_n hx hb dX8_how_54 rfl (lv_at hl 2 rfl) ?_
        obtain ⟨hi, hF⟩ := gin_if hF
        refine mast_10 C K w hi dX8_how_55 (fun H locs w => ?_)
        refine lv_aload_n hx hb dX8_how_56 rfl (lv_at hl 0 rfl) ?_
        refine lv_dup hx hb dX8_how_57 rfl ?_
        refine mget_2 C K w dX8_how_58 ?_
        refine lv_iconst (v := (1 : Int32)) hx hb dX8_how_61 (by decide) ?_
        refine lv_iadd hx hb dX8_how_62 ?_
        refine mput_2 C K w dX8_how_63 (fun H locs w => ?_)
        refine lv_aload_n hx hb dX8_how_66 rfl (lv_at hl 0 rfl) ?_
        refine mget_2 C K w dX8_how_67 ?_
        refine lv_iconst (v := (1 : Int32)) hx hb dX8_how_70 (by decide) ?_
        refine lv_isub hx hb dX8_how_71 ?_
        have hF := Option.some.inj hF
        subst hF
        exact E _ _ _ _ w dX8_how_72
      · have hF := (if_pos c).symm.trans hF
        refine lv_bipush (v := (-4 : Int32)) hx hb dX8_how_33 (by decide) ?_
        have hF := Option.some.inj hF
        subst hF
        exact E _ _ _ _ w dX8_how_35
    · have hF := (if_pos c).symm.trans hF
      exact bX8_how_21 C K E w (lv_sub hl [] rfl) hF

theorem mX8_how {l : Launch} {γ : wx_G} {o : Nat} {ad : Nat → Nat} {f : xF} {g : xG} {v1 : Int32} {v2 : Int32} {z : Int32 × xF × xG} (hF : pX8_how f g v1 v2 = some z) : wx_M γ l yX8_how (ws_ yX8_how cX8_how 3 (some .int)) rmX8_how [.ref o, .int v1, .int v2] (mw γ o ad f g) (fun v ws => v = some (.int z.1) ∧ ws = (mw γ o ad z.2.1 z.2.2)) 0 0 := by
  refine wx_M.of (by decide) (Nat.le_of_ble_eq_true rfl) ?_
  intro p e s m as below meth c A ls C K w hr hlocks _ hl
  exact bX8_how_0 C K (fun H locs ls pc w d => wx_iret C hr hlocks w ⟨rfl, rfl⟩ d) w hl hF

/-! WalkingStonesModel.isStone(I)Z -/
abbrev rmX8_isStone : Room := { frames := 1, cells := 0, slots := 0, locals := 23 }
def pX8_isStone_0 (f : xF) (g : xG) (v1 : Int32) : Option (Int32) := (pX8_in f g v1 (0 : Int32) ((f 0) - (1 : Int32))).bind (fun r9 => if gbz r9 = true then some (r9) else none)

abbrev pX8_isStone (f : xF) (g : xG) (v1 : Int32) : Option (Int32) := pX8_isStone_0 f g v1
theorem bX8_isStone_0 {p : Program} {l : Launch} {e : Env} {s : State} {m : MethodId} {as : Array Value} {below : List Frame} {meth : Method} {c : Code} {A : Nat → Prop} {Q : State → Prop} {γ : wx_G} {o : Nat} {ad : Nat → Nat} {z : Int32} {f : xF} {g : xG} (C : CallFix p m c cX8_isStone 2 s as lw_all RX8) (K : wx_C γ A s) (E : ∀ (H : Heap) (locs : List Loc) (ls : Array Slot) (pc : Nat), narrow .boolean (.int z) = .int z → wx_w γ A s H locs (mw γ o ad f g) → decode cX8_isStone pc = .ok (.ireturn, 1) → W p l e rmX8_isStone s m as below meth c H locs 0 0 Q (F0 m pc ls [.int z])) {v1 : Int32} {H : Heap} {locs : List Loc} {ls : Array Slot} (w : wx_w γ A s H locs (mw γ o ad f g)) (hl : lv_has ls 2 [(0, .ref o), (1, .int v1)]) (hF : pX8_isStone_0 f g v1 = some z) : W p l e rmX8_isStone s m as below meth c H locs 0 0 Q (F0 m 0 ls []) := by
  have hx := C.1
  have hb := C.2.1
  unfold pX8_isStone_0 at hF
  refine lv_aload_n hx hb dX8_isStone_0 rfl (lv_at hl 0 rfl) ?_
  refine lv_iload_n hx hb dX8_isStone_1 rfl (lv_at hl 1 rfl) ?_
  refine lv_iconst (v := (0 : Int32)) hx hb dX8_isStone_2 (by decide) ?_
  refine lv_aload_n hx hb dX8_isStone_3 rfl (lv_at hl 0 rfl) ?_
  refine mget_0 C K w dX8_isStone_4 ?_
  refine lv_iconst (v := (1 : Int32)) hx hb dX8_isStone_7 (by decide) ?_
  refine lv_isub hx hb dX8_isStone_8 ?_
  obtain ⟨r9, hr, hF⟩ := obd hF
  refine rX8_in C K w hr hl.1 ⟨Nat.le_of_ble_eq_true rfl, Nat.le_of_ble_eq_true rfl⟩ (Nat.le_of_ble_eq_true rfl) dX8_isStone_9 (fun H locs w => ?_)
  obtain ⟨hz, hF⟩ := gbz_if hF
  have hF := Option.some.inj hF
  subst hF
  exact E _ _ _ _ hz w dX8_isStone_12

theorem mX8_isStone {l : Launch} {γ : wx_G} {o : Nat} {ad : Nat → Nat} {f : xF} {g : xG} {v1 : Int32} {z : Int32} (hF : pX8_isStone f g v1 = some z) : wx_M γ l yX8_isStone (ws_ yX8_isStone cX8_isStone 2 (some .boolean)) rmX8_isStone [.ref o, .int v1] (mw γ o ad f g) (fun v ws => v = some (.int z) ∧ ws = (mw γ o ad f g)) 0 0 := by
  refine wx_M.of (by decide) (Nat.le_of_ble_eq_true rfl) ?_
  intro p e s m as below meth c A ls C K w hr hlocks _ hl
  exact bX8_isStone_0 C K (fun H locs ls pc hz w d => wx_zret C hr hlocks hz w ⟨rfl, rfl⟩ d) w hl hF
theorem rX8_isStone {p : Program} {l : Launch} {e : Env} {R : Room} {s : State} {m : MethodId} {as : Array Value} {below : List Frame} {meth : Method} {c : Code} {H : Heap} {locs : List Loc} {cells slots : Nat} {Q : State → Prop} {cc : ByteArray} {nL pc : Nat} {ls : Array Slot} {rest : List Value} {γ : wx_G} {A : Nat → Prop} {o : Nat} {ad : Nat → Nat} {f : xF} {g : xG} {v1 : Int32} {z : Int32} (C : CallFix p m c cc nL s as lw_all RX8) (K : wx_C γ A s) (w : wx_w γ A s H locs (mw γ o ad f g)) (hF : pX8_isStone f g v1 = some z) (hls : ls.size = nL) (hR : rmX8_isStone.frames + 1 ≤ R.frames ∧ 8 + (2 + 11) + rmX8_isStone.locals ≤ R.locals) (hW : (rest.map fun v => v.category).sum ≤ 8) (d : decode cc pc = .ok (.invokevirtual 51, 3)) (kk : ∀ (H : Heap) (locs : List Loc), wx_w γ A s H locs (mw γ o ad f g) → W p l e R s m as below meth c H locs cells slots Q (F0 m (pc + 3) ls (.int z :: rest))) (hf : cells ≤ R.cells ∧ slots ≤ R.slots := by exact ⟨Nat.le_of_ble_eq_true rfl, Nat.le_of_ble_eq_true rfl⟩) : W p l e R s m as below meth c H locs cells slots Q (F0 m pc ls (.int v1 :: .ref o :: rest)) :=
  wx_callV (n := 1) C K w (mX8_isStone (l := l) hF) q1309 q1311 qs52 q123 q1312 rfl rfl (by decide +kernel) (va_recv K.1.1 w.1 (ci := 0) (q0 := 0) rfl rfl) rfl rfl hR hls hW hf d (fun v ws H1 locs1 hp w => by obtain ⟨rfl, rfl⟩ := hp; exact kk H1 locs1 w)

/-! WalkingStonesModel.stoneTold(II)I -/
abbrev rmX8_stoneTold : Room := { frames := 2, cells := 0, slots := 0, locals := 44 }
def pX8_stoneTold_18 (f : xF) (g : xG) : Option (Int32) := some ((-5 : Int32))

def pX8_stoneTold_40 (f : xF) (g : xG) (t0 : Int32) : Option (Int32) := some (t0)

def pX8_stoneTold_0 (f : xF) (g : xG) (v1 : Int32) (v2 : Int32) : Option (Int32) := (pX8_isStone f g v1).bind (fun r2 => if r2 = 0 then pX8_stoneTold_18 f g else (pX8_in f g v2 (0 : Int32) (1 : Int32)).bind (fun r12 => if r12 = 0 then pX8_stoneTold_18 f g else (if v2 = 0 then (if gin v1 10 = true then pX8_stoneTold_40 f g (g 3 v1.toNatClampNeg) else none) else (if gin v1 10 = true then pX8_stoneTold_40 f g (g 4 v1.toNatClampNeg) else none))))

abbrev pX8_stoneTold (f : xF) (g : xG) (v1 : Int32) (v2 : Int32) : Option (Int32) := pX8_stoneTold_0 f g v1 v2
theorem bX8_stoneTold_18 {p : Program} {l : Launch} {e : Env} {s : State} {m : MethodId} {as : Array Value} {below : List Frame} {meth : Method} {c : Code} {A : Nat → Prop} {Q : State → Prop} {γ : wx_G} {o : Nat} {ad : Nat → Nat} {z : Int32} {f : xF} {g : xG} (C : CallFix p m c cX8_stoneTold 3 s as lw_all RX8) (K : wx_C γ A s) (E : ∀ (H : Heap) (locs : List Loc) (ls : Array Slot) (pc : Nat), wx_w γ A s H locs (mw γ o ad f g) → decode cX8_stoneTold pc = .ok (.ireturn, 1) → W p l e rmX8_stoneTold s m as below meth c H locs 0 0 Q (F0 m pc ls [.int z])) {H : Heap} {locs : List Loc} {ls : Array Slot} (w : wx_w γ A s H locs (mw γ o ad f g)) (hl : lv_has ls 3 []) (hF : pX8_stoneTold_18 f g = some z) : W p l e rmX8_stoneTold s m as below meth c H locs 0 0 Q (F0 m 18 ls []) := by
  have hx := C.1
  have hb := C.2.1
  unfold pX8_stoneTold_18 at hF
  refine lv_bipush (v := (-5 : Int32)) hx hb dX8_stoneTold_18 (by decide) ?_
  have hF := Option.some.inj hF
  subst hF
  exact E _ _ _ _ w dX8_stoneTold_20

theorem bX8_stoneTold_40 {p : Program} {l : Launch} {e : Env} {s : State} {m : MethodId} {as : Array Value} {below : List Frame} {meth : Method} {c : Code} {A : Nat → Prop} {Q : State → Prop} {γ : wx_G} {o : Nat} {ad : Nat → Nat} {z : Int32} {f : xF} {g : xG} (C : CallFix p m c cX8_stoneTold 3 s as lw_all RX8) (K : wx_C γ A s) (E : ∀ (H : Heap) (locs : List Loc) (ls : Array Slot) (pc : Nat), wx_w γ A s H locs (mw γ o ad f g) → decode cX8_stoneTold pc = .ok (.ireturn, 1) → W p l e rmX8_stoneTold s m as below meth c H locs 0 0 Q (F0 m pc ls [.int z])) {t0 : Int32} {H : Heap} {locs : List Loc} {ls : Array Slot} (w : wx_w γ A s H locs (mw γ o ad f g)) (hl : lv_has ls 3 []) (hF : pX8_stoneTold_40 f g t0 = some z) : W p l e rmX8_stoneTold s m as below meth c H locs 0 0 Q (F0 m 40 ls [.int t0]) := by
  have hx := C.1
  have hb := C.2.1
  unfold pX8_stoneTold_40 at hF
  have hF := Option.some.inj hF
  subst hF
  exact E _ _ _ _ w dX8_stoneTold_40

theorem bX8_stoneTold_0 {p : Program} {l : Launch} {e : Env} {s : State} {m : MethodId} {as : Array Value} {below : List Frame} {meth : Method} {c : Code} {A : Nat → Prop} {Q : State → Prop} {γ : wx_G} {o : Nat} {ad : Nat → Nat} {z : Int32} {f : xF} {g : xG} (C : CallFix p m c cX8_stoneTold 3 s as lw_all RX8) (K : wx_C γ A s) (E : ∀ (H : Heap) (locs : List Loc) (ls : Array Slot) (pc : Nat), wx_w γ A s H locs (mw γ o ad f g) → decode cX8_stoneTold pc = .ok (.ireturn, 1) → W p l e rmX8_stoneTold s m as below meth c H locs 0 0 Q (F0 m pc ls [.int z])) {v1 : Int32} {v2 : Int32} {H : Heap} {locs : List Loc} {ls : Array Slot} (w : wx_w γ A s H locs (mw γ o ad f g)) (hl : lv_has ls 3 [(0, .ref o), (1, .int v1), (2, .int v2)]) (hF : pX8_stoneTold_0 f g v1 v2 = some z) : W p l e rmX8_stoneTold s m as below meth c H locs 0 0 Q (F0 m 0 ls []) := by
  have hx := C.1
  have hb := C.2.1
  unfold pX8_stoneTold_0 at hF
  refine lv_aload_n hx hb dX8_stoneTold_0 rfl (lv_at hl 0 rfl) ?_
  refine lv_iload_n hx hb dX8_stoneTold_1 rfl (lv_at hl 1 rfl) ?_
  obtain ⟨r2, hr, hF⟩ := obd hF
  refine rX8_isStone C K w hr hl.1 ⟨Nat.le_of_ble_eq_true rfl, Nat.le_of_ble_eq_true rfl⟩ (Nat.le_of_ble_eq_true rfl) dX8_stoneTold_2 (fun H locs w => ?_)
  refine lv_if_eq (tgt := 18) hx hb dX8_stoneTold_5 (by decide) (fun c => ?_) (fun c => ?_)
  · have hF := (if_pos c).symm.trans hF
    exact bX8_stoneTold_18 C K E w (lv_sub hl [] rfl) hF
  · have hF := (if_neg c).symm.trans hF
    refine lv_aload_n hx hb dX8_stoneTold_8 rfl (lv_at hl 0 rfl) ?_
    refine lv_iload_n hx hb dX8_stoneTold_9 rfl (lv_at hl 2 rfl) ?_
    refine lv_iconst (v := (0 : Int32)) hx hb dX8_stoneTold_10 (by decide) ?_
    refine lv_iconst (v := (1 : Int32)) hx hb dX8_stoneTold_11 (by decide) ?_
    obtain ⟨r12, hr, hF⟩ := obd hF
    refine rX8_in C K w hr hl.1 ⟨Nat.le_of_ble_eq_true rfl, Nat.le_of_ble_eq_true rfl⟩ (Nat.le_of_ble_eq_true rfl) dX8_stoneTold_12 (fun H locs w => ?_)
    refine lv_if_ne (tgt := 21) hx hb dX8_stoneTold_15 (by decide) (fun c => ?_) (fun c => ?_)
    · have hF := (if_neg c).symm.trans hF
      refine lv_iload_n hx hb dX8_stoneTold_21 rfl (lv_at hl 2 rfl) ?_
      refine lv_if_ne (tgt := 34) hx hb dX8_stoneTold_22 (by decide) (fun c => ?_) (fun c => ?_)
      · have hF := (if_neg c).symm.trans hF
        refine lv_aload_n hx hb dX8_stoneTold_34 rfl (lv_at hl 0 rfl) ?_
        refine mget_4 C K w dX8_stoneTold_35 ?_
        refine lv_iload_n hx hb dX8_stoneTold_38 rfl (lv_at hl 1 rfl) ?_
        obtain ⟨hi, hF⟩ := gin_if hF
        refine mald_4 C K w hi dX8_stoneTold_39 ?_
        exact bX8_stoneTold_40 C K E w (lv_sub hl [] rfl) hF
      · have hF := (if_pos c).symm.trans hF
        refine lv_aload_n hx hb dX8_stoneTold_25 rfl (lv_at hl 0 rfl) ?_
        refine mget_3 C K w dX8_stoneTold_26 ?_
        refine lv_iload_n hx hb dX8_stoneTold_29 rfl (lv_at hl 1 rfl) ?_
        obtain ⟨hi, hF⟩ := gin_if hF
        refine mald_3 C K w hi dX8_stoneTold_30 ?_
        refine lv_goto (tgt := 40) hx hb dX8_stoneTold_31 (by decide) ?_
        exact bX8_stoneTold_40 C K E w (lv_sub hl [] rfl) hF
    · have hF := (if_pos c).symm.trans hF
      exact bX8_stoneTold_18 C K E w (lv_sub hl [] rfl) hF

theorem mX8_stoneTold {l : Launch} {γ : wx_G} {o : Nat} {ad : Nat → Nat} {f : xF} {g : xG} {v1 : Int32} {v2 : Int32} {z : Int32} (hF : pX8_stoneTold f g v1 v2 = some z) : wx_M γ l yX8_stoneTold (ws_ yX8_stoneTold cX8_stoneTold 3 (some .int)) rmX8_stoneTold [.ref o, .int v1, .int v2] (mw γ o ad f g) (fun v ws => v = some (.int z) ∧ ws = (mw γ o ad f g)) 0 0 := by
  refine wx_M.of (by decide) (Nat.le_of_ble_eq_true rfl) ?_
  intro p e s m as below meth c A ls C K w hr hlocks _ hl
  exact bX8_stoneTold_0 C K (fun H locs ls pc w d => wx_iret C hr hlocks w ⟨rfl, rfl⟩ d) w hl hF

/-! WalkingStonesModel.feed(IJ)I -/
abbrev rmX8_feed : Room := { frames := 1, cells := 0, slots := 0, locals := 23 }
def pX8_feed_32 : Nat → xF → xG → Int32 → Int64 → Int32 → Option (Int32 × xF × xG)
  | 0, _, _, _, _, _ => none
  | n + 1, f, g, v1, v2, v4 => if v1 ≤ v4 then some (f 13, f, g) else (if gin (f 13) 160 = true then pX8_feed_32 n (upd f 13 ((f 13) + (1 : Int32))) (va_up g 21 (upd (g 21) (f 13).toNatClampNeg (((v2 >>> (((8 : Int32) * v4).toInt64 &&& 63)) &&& (255 : Int64)).toInt32))) v1 v2 (v4 + 1) else none)

def pX8_feed_0 (f : xF) (g : xG) (v1 : Int32) (v2 : Int64) : Option (Int32 × xF × xG) := (pX8_in f g v1 (1 : Int32) (8 : Int32)).bind (fun r5 => if r5 = 0 then some ((-2 : Int32), f, g) else (if ((f 13) + v1) ≤ (160 : Int32) then pX8_feed_32 5000 f g v1 v2 (0 : Int32) else some ((-4 : Int32), f, g)))

abbrev pX8_feed (f : xF) (g : xG) (v1 : Int32) (v2 : Int64) : Option (Int32 × xF × xG) := pX8_feed_0 f g v1 v2
theorem bX8_feed_32 {p : Program} {l : Launch} {e : Env} {s : State} {m : MethodId} {as : Array Value} {below : List Frame} {meth : Method} {c : Code} {A : Nat → Prop} {Q : State → Prop} {γ : wx_G} {o : Nat} {ad : Nat → Nat} {z : Int32 × xF × xG} (C : CallFix p m c cX8_feed 5 s as lw_all RX8) (K : wx_C γ A s) (E : ∀ (H : Heap) (locs : List Loc) (ls : Array Slot) (pc : Nat), wx_w γ A s H locs (mw γ o ad z.2.1 z.2.2) → decode cX8_feed pc = .ok (.ireturn, 1) → W p l e rmX8_feed s m as below meth c H locs 0 0 Q (F0 m pc ls [.int z.1])) : ∀ (n : Nat) (f : xF) (g : xG) (v1 : Int32) (v2 : Int64) (v4 : Int32) (H : Heap) (locs : List Loc) (ls : Array Slot), pX8_feed_32 n f g v1 v2 v4 = some z → wx_w γ A s H locs (mw γ o ad f g) → lv_has ls 5 [(0, .ref o), (1, .int v1), (2, .long v2), (4, .int v4)] → W p l e rmX8_feed s m as below meth c H locs 0 0 Q (F0 m 32 ls []) := by
  have hx := C.1
  have hb := C.2.1
  intro n
  induction n with
  | zero =>
    intro f g v1 v2 v4 H locs ls hF w hl
    have hF : (none : Option (Int32 × xF × xG)) = some z := hF
    cases hF
  | succ n ih =>
    intro f g v1 v2 v4 H locs ls hF w hl
    rw [pX8_feed_32] at hF
    refine lv_iload hx hb dX8_feed_32 (lv_at hl 3 rfl) ?_
    refine lv_iload_n hx hb dX8_feed_34 rfl (lv_at hl 1 rfl) ?_
    refine lv_icmp_ge (tgt := 75) hx hb dX8_feed_35 (by decide) (fun c => ?_) (fun c => ?_)
    · have hF := (if_pos c).symm.trans hF
      refine lv_aload_n hx hb dX8_feed_75 rfl (lv_at hl 0 rfl) ?_
      refine mget_13 C K w dX8_feed_76 ?_
      have hF := Option.some.inj hF
      subst hF
      exact E _ _ _ _ w dX8_feed_79
    · have hF := (if_neg c).symm.trans hF
      refine lv_aload_n hx hb dX8_feed_38 rfl (lv_at hl 0 rfl) ?_
      refine mget_21 C K w dX8_feed_39 ?_
      refine lv_aload_n hx hb dX8_feed_42 rfl (lv_at hl 0 rfl) ?_
      refine mget_13 C K w dX8_feed_43 ?_
      refine lv_lload_n hx hb dX8_feed_46 rfl (lv_at hl 2 rfl) ?_
      refine lv_bipush (v := (8 : Int32)) hx hb dX8_feed_47 (by decide) ?_
      refine lv_iload hx hb dX8_feed_49 (lv_at hl 3 rfl) ?_
      refine lv_imul hx hb dX8_feed_51 ?_
      refine lv_lshr hx hb dX8_feed_52 rfl ?_
      refine lv_ldc2 (v := (255 : Int64)) hx hb C.2.2.2.1 (C.2.2.2.2 _ q1485) dX8_feed_53 ?_
      refine lv_land hx hb dX8_feed_56 ?_
      refine lv_l2i hx hb dX8_feed_57 rfl ?_
      obtain ⟨hi, hF⟩ := gin_if hF
      refine mast_21 C K w hi dX8_feed_58 (fun H locs w => ?_)
      refine lv_aload_n hx hb dX8_feed_59 rfl (lv_at hl 0 rfl) ?_
      refine lv_dup hx hb dX8_feed_60 rfl ?_
      refine mget_13 C K w dX8_feed_61 ?_
      refine lv_iconst (v := (1 : Int32)) hx hb dX8_feed_64 (by decide) ?_
      refine lv_iadd hx hb dX8_feed_65 ?_
      refine mput_13 C K w dX8_feed_66 (fun H locs w => ?_)
      refine lv_iinc (v := v4 + 1) (lv' := [(4, .int (v4 + 1)), (0, .ref o), (1, .int v1), (2, .long v2)]) hx hb dX8_feed_69 hl (k := 3) rfl rfl (by decide) rfl (fun ls hl => ?_)
      refine lv_goto (tgt := 32) hx hb dX8_feed_72 (by decide) ?_
      exact ih _ _ _ _ _ _ _ _ hF w (lv_sub hl [1, 2, 3, 0] rfl)

theorem bX8_feed_0 {p : Program} {l : Launch} {e : Env} {s : State} {m : MethodId} {as : Array Value} {below : List Frame} {meth : Method} {c : Code} {A : Nat → Prop} {Q : State → Prop} {γ : wx_G} {o : Nat} {ad : Nat → Nat} {z : Int32 × xF × xG} (C : CallFix p m c cX8_feed 5 s as lw_all RX8) (K : wx_C γ A s) (E : ∀ (H : Heap) (locs : List Loc) (ls : Array Slot) (pc : Nat), wx_w γ A s H locs (mw γ o ad z.2.1 z.2.2) → decode cX8_feed pc = .ok (.ireturn, 1) → W p l e rmX8_feed s m as below meth c H locs 0 0 Q (F0 m pc ls [.int z.1])) {f : xF} {g : xG} {v1 : Int32} {v2 : Int64} {H : Heap} {locs : List Loc} {ls : Array Slot} (w : wx_w γ A s H locs (mw γ o ad f g)) (hl : lv_has ls 5 [(0, .ref o), (1, .int v1), (2, .long v2)]) (hF : pX8_feed_0 f g v1 v2 = some z) : W p l e rmX8_feed s m as below meth c H locs 0 0 Q (F0 m 0 ls []) := by
  have hx := C.1
  have hb := C.2.1
  unfold pX8_feed_0 at hF
  refine lv_aload_n hx hb dX8_feed_0 rfl (lv_at hl 0 rfl) ?_
  refine lv_iload_n hx hb dX8_feed_1 rfl (lv_at hl 1 rfl) ?_
  refine lv_iconst (v := (1 : Int32)) hx hb dX8_feed_2 (by decide) ?_
  refine lv_bipush (v := (8 : Int32)) hx hb dX8_feed_3 (by decide) ?_
  obtain ⟨r5, hr, hF⟩ := obd hF
  refine rX8_in C K w hr hl.1 ⟨Nat.le_of_ble_eq_true rfl, Nat.le_of_ble_eq_true rfl⟩ (Nat.le_of_ble_eq_true rfl) dX8_feed_5 (fun H locs w => ?_)
  refine lv_if_ne (tgt := 14) hx hb dX8_feed_8 (by decide) (fun c => ?_) (fun c => ?_)
  · have hF := (if_neg c).symm.trans hF
    refine lv_aload_n hx hb dX8_feed_14 rfl (lv_at hl 0 rfl) ?_
    refine mget_13 C K w dX8_feed_15 ?_
    refine lv_iload_n hx hb dX8_feed_18 rfl (lv_at hl 1 rfl) ?_
    refine lv_iadd hx hb dX8_feed_19 ?_
    refine lv_sipush (v := (160 : Int32)) hx hb dX8_feed_20 (by decide) ?_
    refine lv_icmp_le (tgt := 29) hx hb dX8_feed_23 (by decide) (fun c => ?_) (fun c => ?_)
    · have hF := (if_pos c).symm.trans hF
      refine lv_iconst (v := (0 : Int32)) hx hb dX8_feed_29 (by decide) ?_
      refine lv_istore (lv' := [(4, .int (0 : Int32)), (0, .ref o), (1, .int v1), (2, .long v2)]) hx hb dX8_feed_30 hl (by decide) rfl (fun ls hl => ?_)
      exact bX8_feed_32 C K E 5000 _ _ _ _ _ _ _ _ hF w (lv_sub hl [1, 2, 3, 0] rfl)
    · have hF := (if_neg c).symm.trans hF
      refine lv_bipush (v := (-4 : Int32)) hx hb dX8_feed_26 (by decide) ?_
      have hF := Option.some.inj hF
      subst hF
      exact E _ _ _ _ w dX8_feed_28
  · have hF := (if_pos c).symm.trans hF
    refine lv_bipush (v := (-2 : Int32)) hx hb dX8_feed_11 (by decide) ?_
    have hF := Option.some.inj hF
    subst hF
    exact E _ _ _ _ w dX8_feed_13

theorem mX8_feed {l : Launch} {γ : wx_G} {o : Nat} {ad : Nat → Nat} {f : xF} {g : xG} {v1 : Int32} {v2 : Int64} {z : Int32 × xF × xG} (hF : pX8_feed f g v1 v2 = some z) : wx_M γ l yX8_feed (ws_ yX8_feed cX8_feed 5 (some .int)) rmX8_feed [.ref o, .int v1, .long v2] (mw γ o ad f g) (fun v ws => v = some (.int z.1) ∧ ws = (mw γ o ad z.2.1 z.2.2)) 0 0 := by
  refine wx_M.of (by decide) (Nat.le_of_ble_eq_true rfl) ?_
  intro p e s m as below meth c A ls C K w hr hlocks _ hl
  exact bX8_feed_0 C K (fun H locs ls pc w d => wx_iret C hr hlocks w ⟨rfl, rfl⟩ d) w hl hF

/-! WalkingStonesModel.byteAt(I)I -/
abbrev rmX8_byteAt : Room := { frames := 0, cells := 0, slots := 0, locals := 0 }
def pX8_byteAt_18 (f : xF) (g : xG) (t0 : Int32) : Option (Int32) := some (t0)

def pX8_byteAt_0 (f : xF) (g : xG) (v1 : Int32) : Option (Int32) := if (f 13) ≤ v1 then pX8_byteAt_18 f g (-1 : Int32) else (if gin v1 160 = true then pX8_byteAt_18 f g (g 21 v1.toNatClampNeg) else none)

abbrev pX8_byteAt (f : xF) (g : xG) (v1 : Int32) : Option (Int32) := pX8_byteAt_0 f g v1
theorem bX8_byteAt_18 {p : Program} {l : Launch} {e : Env} {s : State} {m : MethodId} {as : Array Value} {below : List Frame} {meth : Method} {c : Code} {A : Nat → Prop} {Q : State → Prop} {γ : wx_G} {o : Nat} {ad : Nat → Nat} {z : Int32} {f : xF} {g : xG} (C : CallFix p m c cX8_byteAt 2 s as lw_all RX8) (K : wx_C γ A s) (E : ∀ (H : Heap) (locs : List Loc) (ls : Array Slot) (pc : Nat), wx_w γ A s H locs (mw γ o ad f g) → decode cX8_byteAt pc = .ok (.ireturn, 1) → W p l e rmX8_byteAt s m as below meth c H locs 0 0 Q (F0 m pc ls [.int z])) {t0 : Int32} {H : Heap} {locs : List Loc} {ls : Array Slot} (w : wx_w γ A s H locs (mw γ o ad f g)) (hl : lv_has ls 2 []) (hF : pX8_byteAt_18 f g t0 = some z) : W p l e rmX8_byteAt s m as below meth c H locs 0 0 Q (F0 m 18 ls [.int t0]) := by
  have hx := C.1
  have hb := C.2.1
  unfold pX8_byteAt_18 at hF
  have hF := Option.some.inj hF
  subst hF
  exact E _ _ _ _ w dX8_byteAt_18

theorem bX8_byteAt_0 {p : Program} {l : Launch} {e : Env} {s : State} {m : MethodId} {as : Array Value} {below : List Frame} {meth : Method} {c : Code} {A : Nat → Prop} {Q : State → Prop} {γ : wx_G} {o : Nat} {ad : Nat → Nat} {z : Int32} {f : xF} {g : xG} (C : CallFix p m c cX8_byteAt 2 s as lw_all RX8) (K : wx_C γ A s) (E : ∀ (H : Heap) (locs : List Loc) (ls : Array Slot) (pc : Nat), wx_w γ A s H locs (mw γ o ad f g) → decode cX8_byteAt pc = .ok (.ireturn, 1) → W p l e rmX8_byteAt s m as below meth c H locs 0 0 Q (F0 m pc ls [.int z])) {v1 : Int32} {H : Heap} {locs : List Loc} {ls : Array Slot} (w : wx_w γ A s H locs (mw γ o ad f g)) (hl : lv_has ls 2 [(0, .ref o), (1, .int v1)]) (hF : pX8_byteAt_0 f g v1 = some z) : W p l e rmX8_byteAt s m as below meth c H locs 0 0 Q (F0 m 0 ls []) := by
  have hx := C.1
  have hb := C.2.1
  unfold pX8_byteAt_0 at hF
  refine lv_iload_n hx hb dX8_byteAt_0 rfl (lv_at hl 1 rfl) ?_
  refine lv_aload_n hx hb dX8_byteAt_1 rfl (lv_at hl 0 rfl) ?_
  refine mget_13 C K w dX8_byteAt_2 ?_
  refine lv_icmp_ge (tgt := 17) hx hb dX8_byteAt_5 (by decide) (fun c => ?_) (fun c => ?_)
  · have hF := (if_pos c).symm.trans hF
    refine lv_iconst (v := (-1 : Int32)) hx hb dX8_byteAt_17 (by decide) ?_
    exact bX8_byteAt_18 C K E w (lv_sub hl [] rfl) hF
  · have hF := (if_neg c).symm.trans hF
    refine lv_aload_n hx hb dX8_byteAt_8 rfl (lv_at hl 0 rfl) ?_
    refine mget_21 C K w dX8_byteAt_9 ?_
    refine lv_iload_n hx hb dX8_byteAt_12 rfl (lv_at hl 1 rfl) ?_
    obtain ⟨hi, hF⟩ := gin_if hF
    refine mald_21 C K w hi dX8_byteAt_13 ?_
    refine lv_goto (tgt := 18) hx hb dX8_byteAt_14 (by decide) ?_
    exact bX8_byteAt_18 C K E w (lv_sub hl [] rfl) hF

theorem mX8_byteAt {l : Launch} {γ : wx_G} {o : Nat} {ad : Nat → Nat} {f : xF} {g : xG} {v1 : Int32} {z : Int32} (hF : pX8_byteAt f g v1 = some z) : wx_M γ l yX8_byteAt (ws_ yX8_byteAt cX8_byteAt 2 (some .int)) rmX8_byteAt [.ref o, .int v1] (mw γ o ad f g) (fun v ws => v = some (.int z) ∧ ws = (mw γ o ad f g)) 0 0 := by
  refine wx_M.of (by decide) (Nat.le_of_ble_eq_true rfl) ?_
  intro p e s m as below meth c A ls C K w hr hlocks _ hl
  exact bX8_byteAt_0 C K (fun H locs ls pc w d => wx_iret C hr hlocks w ⟨rfl, rfl⟩ d) w hl hF
theorem rX8_byteAt {p : Program} {l : Launch} {e : Env} {R : Room} {s : State} {m : MethodId} {as : Array Value} {below : List Frame} {meth : Method} {c : Code} {H : Heap} {locs : List Loc} {cells slots : Nat} {Q : State → Prop} {cc : ByteArray} {nL pc : Nat} {ls : Array Slot} {rest : List Value} {γ : wx_G} {A : Nat → Prop} {o : Nat} {ad : Nat → Nat} {f : xF} {g : xG} {v1 : Int32} {z : Int32} (C : CallFix p m c cc nL s as lw_all RX8) (K : wx_C γ A s) (w : wx_w γ A s H locs (mw γ o ad f g)) (hF : pX8_byteAt f g v1 = some z) (hls : ls.size = nL) (hR : rmX8_byteAt.frames + 1 ≤ R.frames ∧ 8 + (2 + 11) + rmX8_byteAt.locals ≤ R.locals) (hW : (rest.map fun v => v.category).sum ≤ 8) (d : decode cc pc = .ok (.invokevirtual 192, 3)) (kk : ∀ (H : Heap) (locs : List Loc), wx_w γ A s H locs (mw γ o ad f g) → W p l e R s m as below meth c H locs cells slots Q (F0 m (pc + 3) ls (.int z :: rest))) (hf : cells ≤ R.cells ∧ slots ≤ R.slots := by exact ⟨Nat.le_of_ble_eq_true rfl, Nat.le_of_ble_eq_true rfl⟩) : W p l e R s m as below meth c H locs cells slots Q (F0 m pc ls (.int v1 :: .ref o :: rest)) :=
  wx_callV (n := 1) C K w (mX8_byteAt (l := l) hF) q1494 q1496 qs54 q123 q1497 rfl rfl (by decide +kernel) (va_recv K.1.1 w.1 (ci := 0) (q0 := 0) rfl rfl) rfl rfl hR hls hW hf d (fun v ws H1 locs1 hp w => by obtain ⟨rfl, rfl⟩ := hp; exact kk H1 locs1 w)

/-! WalkingStonesModel.isDigit(I)Z -/
abbrev rmX8_isDigit : Room := { frames := 1, cells := 0, slots := 0, locals := 23 }
def pX8_isDigit_0 (f : xF) (g : xG) (v1 : Int32) : Option (Int32) := (pX8_in f g v1 (48 : Int32) (57 : Int32)).bind (fun r6 => if gbz r6 = true then some (r6) else none)

abbrev pX8_isDigit (f : xF) (g : xG) (v1 : Int32) : Option (Int32) := pX8_isDigit_0 f g v1
theorem bX8_isDigit_0 {p : Program} {l : Launch} {e : Env} {s : State} {m : MethodId} {as : Array Value} {below : List Frame} {meth : Method} {c : Code} {A : Nat → Prop} {Q : State → Prop} {γ : wx_G} {o : Nat} {ad : Nat → Nat} {z : Int32} {f : xF} {g : xG} (C : CallFix p m c cX8_isDigit 2 s as lw_all RX8) (K : wx_C γ A s) (E : ∀ (H : Heap) (locs : List Loc) (ls : Array Slot) (pc : Nat), narrow .boolean (.int z) = .int z → wx_w γ A s H locs (mw γ o ad f g) → decode cX8_isDigit pc = .ok (.ireturn, 1) → W p l e rmX8_isDigit s m as below meth c H locs 0 0 Q (F0 m pc ls [.int z])) {v1 : Int32} {H : Heap} {locs : List Loc} {ls : Array Slot} (w : wx_w γ A s H locs (mw γ o ad f g)) (hl : lv_has ls 2 [(0, .ref o), (1, .int v1)]) (hF : pX8_isDigit_0 f g v1 = some z) : W p l e rmX8_isDigit s m as below meth c H locs 0 0 Q (F0 m 0 ls []) := by
  have hx := C.1
  have hb := C.2.1
  unfold pX8_isDigit_0 at hF
  refine lv_aload_n hx hb dX8_isDigit_0 rfl (lv_at hl 0 rfl) ?_
  refine lv_iload_n hx hb dX8_isDigit_1 rfl (lv_at hl 1 rfl) ?_
  refine lv_bipush (v := (48 : Int32)) hx hb dX8_isDigit_2 (by decide) ?_
  refine lv_bipush (v := (57 : Int32)) hx hb dX8_isDigit_4 (by decide) ?_
  obtain ⟨r6, hr, hF⟩ := obd hF
  refine rX8_in C K w hr hl.1 ⟨Nat.le_of_ble_eq_true rfl, Nat.le_of_ble_eq_true rfl⟩ (Nat.le_of_ble_eq_true rfl) dX8_isDigit_6 (fun H locs w => ?_)
  obtain ⟨hz, hF⟩ := gbz_if hF
  have hF := Option.some.inj hF
  subst hF
  exact E _ _ _ _ hz w dX8_isDigit_9

theorem mX8_isDigit {l : Launch} {γ : wx_G} {o : Nat} {ad : Nat → Nat} {f : xF} {g : xG} {v1 : Int32} {z : Int32} (hF : pX8_isDigit f g v1 = some z) : wx_M γ l yX8_isDigit (ws_ yX8_isDigit cX8_isDigit 2 (some .boolean)) rmX8_isDigit [.ref o, .int v1] (mw γ o ad f g) (fun v ws => v = some (.int z) ∧ ws = (mw γ o ad f g)) 0 0 := by
  refine wx_M.of (by decide) (Nat.le_of_ble_eq_true rfl) ?_
  intro p e s m as below meth c A ls C K w hr hlocks _ hl
  exact bX8_isDigit_0 C K (fun H locs ls pc hz w d => wx_zret C hr hlocks hz w ⟨rfl, rfl⟩ d) w hl hF
theorem rX8_isDigit {p : Program} {l : Launch} {e : Env} {R : Room} {s : State} {m : MethodId} {as : Array Value} {below : List Frame} {meth : Method} {c : Code} {H : Heap} {locs : List Loc} {cells slots : Nat} {Q : State → Prop} {cc : ByteArray} {nL pc : Nat} {ls : Array Slot} {rest : List Value} {γ : wx_G} {A : Nat → Prop} {o : Nat} {ad : Nat → Nat} {f : xF} {g : xG} {v1 : Int32} {z : Int32} (C : CallFix p m c cc nL s as lw_all RX8) (K : wx_C γ A s) (w : wx_w γ A s H locs (mw γ o ad f g)) (hF : pX8_isDigit f g v1 = some z) (hls : ls.size = nL) (hR : rmX8_isDigit.frames + 1 ≤ R.frames ∧ 8 + (2 + 11) + rmX8_isDigit.locals ≤ R.locals) (hW : (rest.map fun v => v.category).sum ≤ 8) (d : decode cc pc = .ok (.invokevirtual 196, 3)) (kk : ∀ (H : Heap) (locs : List Loc), wx_w γ A s H locs (mw γ o ad f g) → W p l e R s m as below meth c H locs cells slots Q (F0 m (pc + 3) ls (.int z :: rest))) (hf : cells ≤ R.cells ∧ slots ≤ R.slots := by exact ⟨Nat.le_of_ble_eq_true rfl, Nat.le_of_ble_eq_true rfl⟩) : W p l e R s m as below meth c H locs cells slots Q (F0 m pc ls (.int v1 :: .ref o :: rest)) :=
  wx_callV (n := 1) C K w (mX8_isDigit (l := l) hF) q1498 q1500 qs55 q123 q1501 rfl rfl (by decide +kernel) (va_recv K.1.1 w.1 (ci := 0) (q0 := 0) rfl rfl) rfl rfl hR hls hW hf d (fun v ws H1 locs1 hp w => by obtain ⟨rfl, rfl⟩ := hp; exact kk H1 locs1 w)

/-! WalkingStonesModel.isLetter(I)Z -/
abbrev rmX8_isLetter : Room := { frames := 1, cells := 0, slots := 0, locals := 23 }
def pX8_isLetter_0 (f : xF) (g : xG) (v1 : Int32) : Option (Int32) := (pX8_in f g v1 (97 : Int32) (122 : Int32)).bind (fun r6 => if gbz r6 = true then some (r6) else none)

abbrev pX8_isLetter (f : xF) (g : xG) (v1 : Int32) : Option (Int32) := pX8_isLetter_0 f g v1
theorem bX8_isLetter_0 {p : Program} {l : Launch} {e : Env} {s : State} {m : MethodId} {as : Array Value} {below : List Frame} {meth : Method} {c : Code} {A : Nat → Prop} {Q : State → Prop} {γ : wx_G} {o : Nat} {ad : Nat → Nat} {z : Int32} {f : xF} {g : xG} (C : CallFix p m c cX8_isLetter 2 s as lw_all RX8) (K : wx_C γ A s) (E : ∀ (H : Heap) (locs : List Loc) (ls : Array Slot) (pc : Nat), narrow .boolean (.int z) = .int z → wx_w γ A s H locs (mw γ o ad f g) → decode cX8_isLetter pc = .ok (.ireturn, 1) → W p l e rmX8_isLetter s m as below meth c H locs 0 0 Q (F0 m pc ls [.int z])) {v1 : Int32} {H : Heap} {locs : List Loc} {ls : Array Slot} (w : wx_w γ A s H locs (mw γ o ad f g)) (hl : lv_has ls 2 [(0, .ref o), (1, .int v1)]) (hF : pX8_isLetter_0 f g v1 = some z) : W p l e rmX8_isLetter s m as below meth c H locs 0 0 Q (F0 m 0 ls []) := by
  have hx := C.1
  have hb := C.2.1
  unfold pX8_isLetter_0 at hF
  refine lv_aload_n hx hb dX8_isLetter_0 rfl (lv_at hl 0 rfl) ?_
  refine lv_iload_n hx hb dX8_isLetter_1 rfl (lv_at hl 1 rfl) ?_
  refine lv_bipush (v := (97 : Int32)) hx hb dX8_isLetter_2 (by decide) ?_
  refine lv_bipush (v := (122 : Int32)) hx hb dX8_isLetter_4 (by decide) ?_
  obtain ⟨r6, hr, hF⟩ := obd hF
  refine rX8_in C K w hr hl.1 ⟨Nat.le_of_ble_eq_true rfl, Nat.le_of_ble_eq_true rfl⟩ (Nat.le_of_ble_eq_true rfl) dX8_isLetter_6 (fun H locs w => ?_)
  obtain ⟨hz, hF⟩ := gbz_if hF
  have hF := Option.some.inj hF
  subst hF
  exact E _ _ _ _ hz w dX8_isLetter_9

theorem mX8_isLetter {l : Launch} {γ : wx_G} {o : Nat} {ad : Nat → Nat} {f : xF} {g : xG} {v1 : Int32} {z : Int32} (hF : pX8_isLetter f g v1 = some z) : wx_M γ l yX8_isLetter (ws_ yX8_isLetter cX8_isLetter 2 (some .boolean)) rmX8_isLetter [.ref o, .int v1] (mw γ o ad f g) (fun v ws => v = some (.int z) ∧ ws = (mw γ o ad f g)) 0 0 := by
  refine wx_M.of (by decide) (Nat.le_of_ble_eq_true rfl) ?_
  intro p e s m as below meth c A ls C K w hr hlocks _ hl
  exact bX8_isLetter_0 C K (fun H locs ls pc hz w d => wx_zret C hr hlocks hz w ⟨rfl, rfl⟩ d) w hl hF
theorem rX8_isLetter {p : Program} {l : Launch} {e : Env} {R : Room} {s : State} {m : MethodId} {as : Array Value} {below : List Frame} {meth : Method} {c : Code} {H : Heap} {locs : List Loc} {cells slots : Nat} {Q : State → Prop} {cc : ByteArray} {nL pc : Nat} {ls : Array Slot} {rest : List Value} {γ : wx_G} {A : Nat → Prop} {o : Nat} {ad : Nat → Nat} {f : xF} {g : xG} {v1 : Int32} {z : Int32} (C : CallFix p m c cc nL s as lw_all RX8) (K : wx_C γ A s) (w : wx_w γ A s H locs (mw γ o ad f g)) (hF : pX8_isLetter f g v1 = some z) (hls : ls.size = nL) (hR : rmX8_isLetter.frames + 1 ≤ R.frames ∧ 8 + (2 + 11) + rmX8_isLetter.locals ≤ R.locals) (hW : (rest.map fun v => v.category).sum ≤ 8) (d : decode cc pc = .ok (.invokevirtual 199, 3)) (kk : ∀ (H : Heap) (locs : List Loc), wx_w γ A s H locs (mw γ o ad f g) → W p l e R s m as below meth c H locs cells slots Q (F0 m (pc + 3) ls (.int z :: rest))) (hf : cells ≤ R.cells ∧ slots ≤ R.slots := by exact ⟨Nat.le_of_ble_eq_true rfl, Nat.le_of_ble_eq_true rfl⟩) : W p l e R s m as below meth c H locs cells slots Q (F0 m pc ls (.int v1 :: .ref o :: rest)) :=
  wx_callV (n := 1) C K w (mX8_isLetter (l := l) hF) q1502 q1504 qs56 q123 q1505 rfl rfl (by decide +kernel) (va_recv K.1.1 w.1 (ci := 0) (q0 := 0) rfl rfl) rfl rfl hR hls hW hf d (fun v ws H1 locs1 hp w => by obtain ⟨rfl, rfl⟩ := hp; exact kk H1 locs1 w)

/-! WalkingStonesModel.nameOf(I)I -/
abbrev rmX8_nameOf : Room := { frames := 0, cells := 0, slots := 0, locals := 0 }
def pX8_nameOf_63 (f : xF) (g : xG) (t0 : Int32) : Option (Int32) := some (t0)

def pX8_nameOf_0 (f : xF) (g : xG) (v1 : Int32) : Option (Int32) := if v1 = (777297172 : Int32) then pX8_nameOf_63 f g (0 : Int32) else (if v1 = (23732 : Int32) then pX8_nameOf_63 f g (1 : Int32) else (if v1 = (9317 : Int32) then pX8_nameOf_63 f g (2 : Int32) else (if v1 = (763332 : Int32) then pX8_nameOf_63 f g (3 : Int32) else (if v1 = (492210354 : Int32) then pX8_nameOf_63 f g (4 : Int32) else (if v1 = (14982420 : Int32) then pX8_nameOf_63 f g (5 : Int32) else pX8_nameOf_63 f g (-1 : Int32))))))

abbrev pX8_nameOf (f : xF) (g : xG) (v1 : Int32) : Option (Int32) := pX8_nameOf_0 f g v1
theorem bX8_nameOf_63 {p : Program} {l : Launch} {e : Env} {s : State} {m : MethodId} {as : Array Value} {below : List Frame} {meth : Method} {c : Code} {A : Nat → Prop} {Q : State → Prop} {γ : wx_G} {o : Nat} {ad : Nat → Nat} {z : Int32} {f : xF} {g : xG} (C : CallFix p m c cX8_nameOf 2 s as lw_all RX8) (K : wx_C γ A s) (E : ∀ (H : Heap) (locs : List Loc) (ls : Array Slot) (pc : Nat), wx_w γ A s H locs (mw γ o ad f g) → decode cX8_nameOf pc = .ok (.ireturn, 1) → W p l e rmX8_nameOf s m as below meth c H locs 0 0 Q (F0 m pc ls [.int z])) {t0 : Int32} {H : Heap} {locs : List Loc} {ls : Array Slot} (w : wx_w γ A s H locs (mw γ o ad f g)) (hl : lv_has ls 2 []) (hF : pX8_nameOf_63 f g t0 = some z) : W p l e rmX8_nameOf s m as below meth c H locs 0 0 Q (F0 m 63 ls [.int t0]) := by
  have hx := C.1
  have hb := C.2.1
  unfold pX8_nameOf_63 at hF
  have hF := Option.some.inj hF
  subst hF
  exact E _ _ _ _ w dX8_nameOf_63

theorem bX8_nameOf_0 {p : Program} {l : Launch} {e : Env} {s : State} {m : MethodId} {as : Array Value} {below : List Frame} {meth : Method} {c : Code} {A : Nat → Prop} {Q : State → Prop} {γ : wx_G} {o : Nat} {ad : Nat → Nat} {z : Int32} {f : xF} {g : xG} (C : CallFix p m c cX8_nameOf 2 s as lw_all RX8) (K : wx_C γ A s) (E : ∀ (H : Heap) (locs : List Loc) (ls : Array Slot) (pc : Nat), wx_w γ A s H locs (mw γ o ad f g) → decode cX8_nameOf pc = .ok (.ireturn, 1) → W p l e rmX8_nameOf s m as below meth c H locs 0 0 Q (F0 m pc ls [.int z])) {v1 : Int32} {H : Heap} {locs : List Loc} {ls : Array Slot} (w : wx_w γ A s H locs (mw γ o ad f g)) (hl : lv_has ls 2 [(0, .ref o), (1, .int v1)]) (hF : pX8_nameOf_0 f g v1 = some z) : W p l e rmX8_nameOf s m as below meth c H locs 0 0 Q (F0 m 0 ls []) := by
  have hx := C.1
  have hb := C.2.1
  unfold pX8_nameOf_0 at hF
  refine lv_iload_n hx hb dX8_nameOf_0 rfl (lv_at hl 1 rfl) ?_
  refine lv_ldc (v := (777297172 : Int32)) hx hb C.2.2.2.1 (C.2.2.2.2 _ q1510) dX8_nameOf_1 ?_
  refine lv_icmp_ne (tgt := 10) hx hb dX8_nameOf_3 (by decide) (fun c => ?_) (fun c => ?_)
  · have hF := (if_neg c).symm.trans hF
    refine lv_iload_n hx hb dX8_nameOf_10 rfl (lv_at hl 1 rfl) ?_
    refine lv_sipush (v := (23732 : Int32)) hx hb dX8_nameOf_11 (by decide) ?_
    refine lv_icmp_ne (tgt := 21) hx hb dX8_nameOf_14 (by decide) (fun c => ?_) (fun c => ?_)
    · have hF := (if_neg c).symm.trans hF
      refine lv_iload_n hx hb dX8_nameOf_21 rfl (lv_at hl 1 rfl) ?_
      refine lv_sipush (v := (9317 : Int32)) hx hb dX8_nameOf_22 (by decide) ?_
      refine lv_icmp_ne (tgt := 32) hx hb dX8_nameOf_25 (by decide) (fun c => ?_) (fun c => ?_)
      · have hF := (if_neg c).symm.trans hF
        refine lv_iload_n hx hb dX8_nameOf_32 rfl (lv_at hl 1 rfl) ?_
        refine lv_ldc (v := (763332 : Int32)) hx hb C.2.2.2.1 (C.2.2.2.2 _ q1511) dX8_nameOf_33 ?_
        refine lv_icmp_ne (tgt := 42) hx hb dX8_nameOf_35 (by decide) (fun c => ?_) (fun c => ?_)
        · have hF := (if_neg c).symm.trans hF
          refine lv_iload_n hx hb dX8_nameOf_42 rfl (lv_at hl 1 rfl) ?_
          refine lv_ldc (v := (492210354 : Int32)) hx hb C.2.2.2.1 (C.2.2.2.2 _ q1512) dX8_nameOf_43 ?_
          refine lv_icmp_ne (tgt := 52) hx hb dX8_nameOf_45 (by decide) (fun c => ?_) (fun c => ?_)
          · have hF := (if_neg c).symm.trans hF
            refine lv_iload_n hx hb dX8_nameOf_52 rfl (lv_at hl 1 rfl) ?_
            refine lv_ldc (v := (14982420 : Int32)) hx hb C.2.2.2.1 (C.2.2.2.2 _ q1513) dX8_nameOf_53 ?_
            refine lv_icmp_ne (tgt := 62) hx hb dX8_nameOf_55 (by decide) (fun c => ?_) (fun c => ?_)
            · have hF := (if_neg c).symm.trans hF
              refine lv_iconst (v := (-1 : Int32)) hx hb dX8_nameOf_62 (by decide) ?_
              exact bX8_nameOf_63 C K E w (lv_sub hl [] rfl) hF
            · have hF := (if_pos c).symm.trans hF
              refine lv_iconst (v := (5 : Int32)) hx hb dX8_nameOf_58 (by decide) ?_
              refine lv_goto (tgt := 63) hx hb dX8_nameOf_59 (by decide) ?_
              exact bX8_nameOf_63 C K E w (lv_sub hl [] rfl) hF
          · have hF := (if_pos c).symm.trans hF
            refine lv_iconst (v := (4 : Int32)) hx hb dX8_nameOf_48 (by decide) ?_
            refine lv_goto (tgt := 63) hx hb dX8_nameOf_49 (by decide) ?_
            exact bX8_nameOf_63 C K E w (lv_sub hl [] rfl) hF
        · have hF := (if_pos c).symm.trans hF
          refine lv_iconst (v := (3 : Int32)) hx hb dX8_nameOf_38 (by decide) ?_
          refine lv_goto (tgt := 63) hx hb dX8_nameOf_39 (by decide) ?_
          exact bX8_nameOf_63 C K E w (lv_sub hl [] rfl) hF
      · have hF := (if_pos c).symm.trans hF
        refine lv_iconst (v := (2 : Int32)) hx hb dX8_nameOf_28 (by decide) ?_
        refine lv_goto (tgt := 63) hx hb dX8_nameOf_29 (by decide) ?_
        exact bX8_nameOf_63 C K E w (lv_sub hl [] rfl) hF
    · have hF := (if_pos c).symm.trans hF
      refine lv_iconst (v := (1 : Int32)) hx hb dX8_nameOf_17 (by decide) ?_
      refine lv_goto (tgt := 63) hx hb dX8_nameOf_18 (by decide) ?_
      exact bX8_nameOf_63 C K E w (lv_sub hl [] rfl) hF
  · have hF := (if_pos c).symm.trans hF
    refine lv_iconst (v := (0 : Int32)) hx hb dX8_nameOf_6 (by decide) ?_
    refine lv_goto (tgt := 63) hx hb dX8_nameOf_7 (by decide) ?_
    exact bX8_nameOf_63 C K E w (lv_sub hl [] rfl) hF

theorem mX8_nameOf {l : Launch} {γ : wx_G} {o : Nat} {ad : Nat → Nat} {f : xF} {g : xG} {v1 : Int32} {z : Int32} (hF : pX8_nameOf f g v1 = some z) : wx_M γ l yX8_nameOf (ws_ yX8_nameOf cX8_nameOf 2 (some .int)) rmX8_nameOf [.ref o, .int v1] (mw γ o ad f g) (fun v ws => v = some (.int z) ∧ ws = (mw γ o ad f g)) 0 0 := by
  refine wx_M.of (by decide) (Nat.le_of_ble_eq_true rfl) ?_
  intro p e s m as below meth c A ls C K w hr hlocks _ hl
  exact bX8_nameOf_0 C K (fun H locs ls pc w d => wx_iret C hr hlocks w ⟨rfl, rfl⟩ d) w hl hF
theorem rX8_nameOf {p : Program} {l : Launch} {e : Env} {R : Room} {s : State} {m : MethodId} {as : Array Value} {below : List Frame} {meth : Method} {c : Code} {H : Heap} {locs : List Loc} {cells slots : Nat} {Q : State → Prop} {cc : ByteArray} {nL pc : Nat} {ls : Array Slot} {rest : List Value} {γ : wx_G} {A : Nat → Prop} {o : Nat} {ad : Nat → Nat} {f : xF} {g : xG} {v1 : Int32} {z : Int32} (C : CallFix p m c cc nL s as lw_all RX8) (K : wx_C γ A s) (w : wx_w γ A s H locs (mw γ o ad f g)) (hF : pX8_nameOf f g v1 = some z) (hls : ls.size = nL) (hR : rmX8_nameOf.frames + 1 ≤ R.frames ∧ 8 + (2 + 11) + rmX8_nameOf.locals ≤ R.locals) (hW : (rest.map fun v => v.category).sum ≤ 8) (d : decode cc pc = .ok (.invokevirtual 202, 3)) (kk : ∀ (H : Heap) (locs : List Loc), wx_w γ A s H locs (mw γ o ad f g) → W p l e R s m as below meth c H locs cells slots Q (F0 m (pc + 3) ls (.int z :: rest))) (hf : cells ≤ R.cells ∧ slots ≤ R.slots := by exact ⟨Nat.le_of_ble_eq_true rfl, Nat.le_of_ble_eq_true rfl⟩) : W p l e R s m as below meth c H locs cells slots Q (F0 m pc ls (.int v1 :: .ref o :: rest)) :=
  wx_callV (n := 1) C K w (mX8_nameOf (l := l) hF) q1506 q1508 qs57 q123 q1509 rfl rfl (by decide +kernel) (va_recv K.1.1 w.1 (ci := 0) (q0 := 0) rfl rfl) rfl rfl hR hls hW hf d (fun v ws H1 locs1 hp w => by obtain ⟨rfl, rfl⟩ := hp; exact kk H1 locs1 w)

/-! WalkingStonesModel.isKey(I)Z -/
abbrev rmX8_isKey : Room := { frames := 0, cells := 0, slots := 0, locals := 0 }
def pX8_isKey_45 (f : xF) (g : xG) (t0 : Int32) : Option (Int32) := if gbz t0 = true then some (t0) else none

def pX8_isKey_40 (f : xF) (g : xG) : Option (Int32) := pX8_isKey_45 f g (1 : Int32)

def pX8_isKey_0 (f : xF) (g : xG) (v1 : Int32) : Option (Int32) := if v1 = (1156 : Int32) then pX8_isKey_40 f g else (if v1 = (99724 : Int32) then pX8_isKey_40 f g else (if v1 = (24627848 : Int32) then pX8_isKey_40 f g else (if v1 = (498 : Int32) then pX8_isKey_40 f g else (if v1 = (1476 : Int32) then pX8_isKey_40 f g else (if v1 = (14836 : Int32) then pX8_isKey_40 f g else pX8_isKey_45 f g (0 : Int32))))))

abbrev pX8_isKey (f : xF) (g : xG) (v1 : Int32) : Option (Int32) := pX8_isKey_0 f g v1
theorem bX8_isKey_45 {p : Program} {l : Launch} {e : Env} {s : State} {m : MethodId} {as : Array Value} {below : List Frame} {meth : Method} {c : Code} {A : Nat → Prop} {Q : State → Prop} {γ : wx_G} {o : Nat} {ad : Nat → Nat} {z : Int32} {f : xF} {g : xG} (C : CallFix p m c cX8_isKey 2 s as lw_all RX8) (K : wx_C γ A s) (E : ∀ (H : Heap) (locs : List Loc) (ls : Array Slot) (pc : Nat), narrow .boolean (.int z) = .int z → wx_w γ A s H locs (mw γ o ad f g) → decode cX8_isKey pc = .ok (.ireturn, 1) → W p l e rmX8_isKey s m as below meth c H locs 0 0 Q (F0 m pc ls [.int z])) {t0 : Int32} {H : Heap} {locs : List Loc} {ls : Array Slot} (w : wx_w γ A s H locs (mw γ o ad f g)) (hl : lv_has ls 2 []) (hF : pX8_isKey_45 f g t0 = some z) : W p l e rmX8_isKey s m as below meth c H locs 0 0 Q (F0 m 45 ls [.int t0]) := by
  have hx := C.1
  have hb := C.2.1
  unfold pX8_isKey_45 at hF
  obtain ⟨hz, hF⟩ := gbz_if hF
  have hF := Option.some.inj hF
  subst hF
  exact E _ _ _ _ hz w dX8_isKey_45

theorem bX8_isKey_40 {p : Program} {l : Launch} {e : Env} {s : State} {m : MethodId} {as : Array Value} {below : List Frame} {meth : Method} {c : Code} {A : Nat → Prop} {Q : State → Prop} {γ : wx_G} {o : Nat} {ad : Nat → Nat} {z : Int32} {f : xF} {g : xG} (C : CallFix p m c cX8_isKey 2 s as lw_all RX8) (K : wx_C γ A s) (E : ∀ (H : Heap) (locs : List Loc) (ls : Array Slot) (pc : Nat), narrow .boolean (.int z) = .int z → wx_w γ A s H locs (mw γ o ad f g) → decode cX8_isKey pc = .ok (.ireturn, 1) → W p l e rmX8_isKey s m as below meth c H locs 0 0 Q (F0 m pc ls [.int z])) {H : Heap} {locs : List Loc} {ls : Array Slot} (w : wx_w γ A s H locs (mw γ o ad f g)) (hl : lv_has ls 2 []) (hF : pX8_isKey_40 f g = some z) : W p l e rmX8_isKey s m as below meth c H locs 0 0 Q (F0 m 40 ls []) := by
  have hx := C.1
  have hb := C.2.1
  unfold pX8_isKey_40 at hF
  refine lv_iconst (v := (1 : Int32)) hx hb dX8_isKey_40 (by decide) ?_
  refine lv_goto (tgt := 45) hx hb dX8_isKey_41 (by decide) ?_
  exact bX8_isKey_45 C K E w hl hF

theorem bX8_isKey_0 {p : Program} {l : Launch} {e : Env} {s : State} {m : MethodId} {as : Array Value} {below : List Frame} {meth : Method} {c : Code} {A : Nat → Prop} {Q : State → Prop} {γ : wx_G} {o : Nat} {ad : Nat → Nat} {z : Int32} {f : xF} {g : xG} (C : CallFix p m c cX8_isKey 2 s as lw_all RX8) (K : wx_C γ A s) (E : ∀ (H : Heap) (locs : List Loc) (ls : Array Slot) (pc : Nat), narrow .boolean (.int z) = .int z → wx_w γ A s H locs (mw γ o ad f g) → decode cX8_isKey pc = .ok (.ireturn, 1) → W p l e rmX8_isKey s m as below meth c H locs 0 0 Q (F0 m pc ls [.int z])) {v1 : Int32} {H : Heap} {locs : List Loc} {ls : Array Slot} (w : wx_w γ A s H locs (mw γ o ad f g)) (hl : lv_has ls 2 [(0, .ref o), (1, .int v1)]) (hF : pX8_isKey_0 f g v1 = some z) : W p l e rmX8_isKey s m as below meth c H locs 0 0 Q (F0 m 0 ls []) := by
  have hx := C.1
  have hb := C.2.1
  unfold pX8_isKey_0 at hF
  refine lv_iload_n hx hb dX8_isKey_0 rfl (lv_at hl 1 rfl) ?_
  refine lv_sipush (v := (1156 : Int32)) hx hb dX8_isKey_1 (by decide) ?_
  refine lv_icmp_eq (tgt := 40) hx hb dX8_isKey_4 (by decide) (fun c => ?_) (fun c => ?_)
  · have hF := (if_pos c).symm.trans hF
    exact bX8_isKey_40 C K E w (lv_sub hl [] rfl) hF
  · have hF := (if_neg c).symm.trans hF
    refine lv_iload_n hx hb dX8_isKey_7 rfl (lv_at hl 1 rfl) ?_
    refine lv_ldc (v := (99724 : Int32)) hx hb C.2.2.2.1 (C.2.2.2.2 _ q1518) dX8_isKey_8 ?_
    refine lv_icmp_eq (tgt := 40) hx hb dX8_isKey_10 (by decide) (fun c => ?_) (fun c => ?_)
    · have hF := (if_pos c).symm.trans hF
      exact bX8_isKey_40 C K E w (lv_sub hl [] rfl) hF
    · have hF := (if_neg c).symm.trans hF
      refine lv_iload_n hx hb dX8_isKey_13 rfl (lv_at hl 1 rfl) ?_
      refine lv_ldc (v := (24627848 : Int32)) hx hb C.2.2.2.1 (C.2.2.2.2 _ q1519) dX8_isKey_14 ?_
      refine lv_icmp_eq (tgt := 40) hx hb dX8_isKey_16 (by decide) (fun c => ?_) (fun c => ?_)
      · have hF := (if_pos c).symm.trans hF
        exact bX8_isKey_40 C K E w (lv_sub hl [] rfl) hF
      · have hF := (if_neg c).symm.trans hF
        refine lv_iload_n hx hb dX8_isKey_19 rfl (lv_at hl 1 rfl) ?_
        refine lv_sipush (v := (498 : Int32)) hx hb dX8_isKey_20 (by decide) ?_
        refine lv_icmp_eq (tgt := 40) hx hb dX8_isKey_23 (by decide) (fun c => ?_) (fun c => ?_)
        · have hF := (if_pos c).symm.trans hF
          exact bX8_isKey_40 C K E w (lv_sub hl [] rfl) hF
        · have hF := (if_neg c).symm.trans hF
          refine lv_iload_n hx hb dX8_isKey_26 rfl (lv_at hl 1 rfl) ?_
          refine lv_sipush (v := (1476 : Int32)) hx hb dX8_isKey_27 (by decide) ?_
          refine lv_icmp_eq (tgt := 40) hx hb dX8_isKey_30 (by decide) (fun c => ?_) (fun c => ?_)
          · have hF := (if_pos c).symm.trans hF
            exact bX8_isKey_40 C K E w (lv_sub hl [] rfl) hF
          · have hF := (if_neg c).symm.trans hF
            refine lv_iload_n hx hb dX8_isKey_33 rfl (lv_at hl 1 rfl) ?_
            refine lv_sipush (v := (14836 : Int32)) hx hb dX8_isKey_34 (by decide) ?_
            refine lv_icmp_ne (tgt := 44) hx hb dX8_isKey_37 (by decide) (fun c => ?_) (fun c => ?_)
            · have hF := (if_neg c).symm.trans hF
              refine lv_iconst (v := (0 : Int32)) hx hb dX8_isKey_44 (by decide) ?_
              exact bX8_isKey_45 C K E w (lv_sub hl [] rfl) hF
            · have hF := (if_pos c).symm.trans hF
              exact bX8_isKey_40 C K E w (lv_sub hl [] rfl) hF

theorem mX8_isKey {l : Launch} {γ : wx_G} {o : Nat} {ad : Nat → Nat} {f : xF} {g : xG} {v1 : Int32} {z : Int32} (hF : pX8_isKey f g v1 = some z) : wx_M γ l yX8_isKey (ws_ yX8_isKey cX8_isKey 2 (some .boolean)) rmX8_isKey [.ref o, .int v1] (mw γ o ad f g) (fun v ws => v = some (.int z) ∧ ws = (mw γ o ad f g)) 0 0 := by
  refine wx_M.of (by decide) (Nat.le_of_ble_eq_true rfl) ?_
  intro p e s m as below meth c A ls C K w hr hlocks _ hl
  exact bX8_isKey_0 C K (fun H locs ls pc hz w d => wx_zret C hr hlocks hz w ⟨rfl, rfl⟩ d) w hl hF
theorem rX8_isKey {p : Program} {l : Launch} {e : Env} {R : Room} {s : State} {m : MethodId} {as : Array Value} {below : List Frame} {meth : Method} {c : Code} {H : Heap} {locs : List Loc} {cells slots : Nat} {Q : State → Prop} {cc : ByteArray} {nL pc : Nat} {ls : Array Slot} {rest : List Value} {γ : wx_G} {A : Nat → Prop} {o : Nat} {ad : Nat → Nat} {f : xF} {g : xG} {v1 : Int32} {z : Int32} (C : CallFix p m c cc nL s as lw_all RX8) (K : wx_C γ A s) (w : wx_w γ A s H locs (mw γ o ad f g)) (hF : pX8_isKey f g v1 = some z) (hls : ls.size = nL) (hR : rmX8_isKey.frames + 1 ≤ R.frames ∧ 8 + (2 + 11) + rmX8_isKey.locals ≤ R.locals) (hW : (rest.map fun v => v.category).sum ≤ 8) (d : decode cc pc = .ok (.invokevirtual 205, 3)) (kk : ∀ (H : Heap) (locs : List Loc), wx_w γ A s H locs (mw γ o ad f g) → W p l e R s m as below meth c H locs cells slots Q (F0 m (pc + 3) ls (.int z :: rest))) (hf : cells ≤ R.cells ∧ slots ≤ R.slots := by exact ⟨Nat.le_of_ble_eq_true rfl, Nat.le_of_ble_eq_true rfl⟩) : W p l e R s m as below meth c H locs cells slots Q (F0 m pc ls (.int v1 :: .ref o :: rest)) :=
  wx_callV (n := 1) C K w (mX8_isKey (l := l) hF) q1514 q1516 qs58 q123 q1517 rfl rfl (by decide +kernel) (va_recv K.1.1 w.1 (ci := 0) (q0 := 0) rfl rfl) rfl rfl hR hls hW hf d (fun v ws H1 locs1 hp w => by obtain ⟨rfl, rfl⟩ := hp; exact kk H1 locs1 w)

/-! WalkingStonesModel.look()V -/
abbrev rmX8_look : Room := { frames := 2, cells := 0, slots := 0, locals := 44 }
def pX8_look_26 (k0 : xF → xG → Option (xF × xG)) (f : xF) (g : xG) : Option (xF × xG) := k0 (upd f 14 ((f 14) + (1 : Int32))) g

def pX8_look_382 (f : xF) (g : xG) : Option (xF × xG) := some (f, g)

def pX8_look_379 (f : xF) (g : xG) (t1 : Int32) : Option (xF × xG) := pX8_look_382 (upd f 15 t1) g

def pX8_look_365 (f : xF) (g : xG) (v1 : Int32) : Option (xF × xG) := pX8_look_379 f g v1

def pX8_look_310 (f : xF) (g : xG) (t1 : Int32) : Option (xF × xG) := pX8_look_382 (upd f 15 t1) g

def pX8_look_304 (f : xF) (g : xG) : Option (xF × xG) := pX8_look_310 f g (2 : Int32)

def pX8_look_278 (f : xF) (g : xG) (t1 : Int32) : Option (xF × xG) := (pX8_nameOf (upd f 16 t1) g ((upd f 16 t1) 16)).bind (fun r287 => if 0 ≤ r287 then pX8_look_304 (upd f 16 t1) g else (pX8_isKey (upd f 16 t1) g ((upd f 16 t1) 16)).bind (fun r298 => if r298 = 0 then pX8_look_310 (upd f 16 t1) g (-2 : Int32) else pX8_look_304 (upd f 16 t1) g))

def pX8_look_260 (f : xF) (g : xG) : Option (xF × xG) := if (f 17) ≤ (6 : Int32) then pX8_look_278 f g (f 16) else pX8_look_278 f g (0 : Int32)

def pX8_look_244 (k186 : xF → xG → Option (xF × xG)) (f : xF) (g : xG) (t1 : Int32) : Option (xF × xG) := k186 (upd (upd f 16 t1) 17 (((upd f 16 t1) 17) + (1 : Int32))) g

def pX8_look_186 : Nat → xF → xG → Option (xF × xG)
  | 0, _, _ => none
  | n + 1, f, g => (pX8_byteAt f g ((f 14) + (f 17))).bind (fun r197 => (pX8_isLetter f g r197).bind (fun r200 => if r200 = 0 then pX8_look_260 f g else (if (6 : Int32) ≤ (f 17) then pX8_look_244 (pX8_look_186 n) f g (0 : Int32) else (pX8_byteAt f g ((f 14) + (f 17))).bind (fun r233 => pX8_look_244 (pX8_look_186 n) f g ((((32 : Int32) * (f 16)) + r233) - (96 : Int32))))))

def pX8_look_167 (f : xF) (g : xG) (t1 : Int32) : Option (xF × xG) := pX8_look_382 (upd f 15 t1) g

def pX8_look_152 (f : xF) (g : xG) : Option (xF × xG) := if (f 17) ≤ (4 : Int32) then pX8_look_167 f g (1 : Int32) else pX8_look_167 f g (-2 : Int32)

def pX8_look_136 (k76 : xF → xG → Option (xF × xG)) (f : xF) (g : xG) (t1 : Int32) : Option (xF × xG) := k76 (upd (upd f 16 t1) 17 (((upd f 16 t1) 17) + (1 : Int32))) g

def pX8_look_76 : Nat → xF → xG → Option (xF × xG)
  | 0, _, _ => none
  | n + 1, f, g => (pX8_byteAt f g ((f 14) + (f 17))).bind (fun r87 => (pX8_isDigit f g r87).bind (fun r90 => if r90 = 0 then pX8_look_152 f g else (if (4 : Int32) ≤ (f 17) then pX8_look_136 (pX8_look_76 n) f g (f 16) else (pX8_byteAt f g ((f 14) + (f 17))).bind (fun r122 => pX8_look_136 (pX8_look_76 n) f g ((((10 : Int32) * (f 16)) + r122) - (48 : Int32))))))

def pX8_look_39 (f : xF) (g : xG) : Option (xF × xG) := (pX8_byteAt f g (f 14)).bind (fun r44 => (pX8_isDigit (upd (upd f 17 (1 : Int32)) 16 (0 : Int32)) g r44).bind (fun r60 => if r60 = 0 then (pX8_isLetter (upd (upd f 17 (1 : Int32)) 16 (0 : Int32)) g r44).bind (fun r175 => if r175 = 0 then (if r44 = (40 : Int32) then pX8_look_365 (upd (upd f 17 (1 : Int32)) 16 (0 : Int32)) g r44 else (if r44 = (41 : Int32) then pX8_look_365 (upd (upd f 17 (1 : Int32)) 16 (0 : Int32)) g r44 else (if r44 = (59 : Int32) then pX8_look_365 (upd (upd f 17 (1 : Int32)) 16 (0 : Int32)) g r44 else (if r44 = (43 : Int32) then pX8_look_365 (upd (upd f 17 (1 : Int32)) 16 (0 : Int32)) g r44 else (if r44 = (45 : Int32) then pX8_look_365 (upd (upd f 17 (1 : Int32)) 16 (0 : Int32)) g r44 else (if r44 = (42 : Int32) then pX8_look_365 (upd (upd f 17 (1 : Int32)) 16 (0 : Int32)) g r44 else (if r44 = (60 : Int32) then pX8_look_365 (upd (upd f 17 (1 : Int32)) 16 (0 : Int32)) g r44 else (if r44 = (61 : Int32) then pX8_look_365 (upd (upd f 17 (1 : Int32)) 16 (0 : Int32)) g r44 else (if 0 ≤ r44 then pX8_look_379 (upd (upd f 17 (1 : Int32)) 16 (0 : Int32)) g (-2 : Int32) else pX8_look_379 (upd (upd f 17 (1 : Int32)) 16 (0 : Int32)) g (-1 : Int32)))))))))) else pX8_look_186 5000 (upd (upd (upd f 17 (1 : Int32)) 16 (0 : Int32)) 17 (0 : Int32)) g) else pX8_look_76 5000 (upd (upd (upd (upd f 17 (1 : Int32)) 16 (0 : Int32)) 15 (1 : Int32)) 17 (0 : Int32)) g))

def pX8_look_0 : Nat → xF → xG → Option (xF × xG)
  | 0, _, _ => none
  | n + 1, f, g => (pX8_byteAt f g (f 14)).bind (fun r5 => if r5 = (32 : Int32) then pX8_look_26 (pX8_look_0 n) f g else (pX8_byteAt f g (f 14)).bind (fun r18 => if r18 = (10 : Int32) then pX8_look_26 (pX8_look_0 n) f g else pX8_look_39 f g))

abbrev pX8_look (f : xF) (g : xG) : Option (xF × xG) := pX8_look_0 5000 f g
theorem bX8_look_26 {p : Program} {l : Launch} {e : Env} {s : State} {m : MethodId} {as : Array Value} {below : List Frame} {meth : Method} {c : Code} {A : Nat → Prop} {Q : State → Prop} {γ : wx_G} {o : Nat} {ad : Nat → Nat} {z : xF × xG} (C : CallFix p m c cX8_look 2 s as lw_all RX8) (K : wx_C γ A s) (E : ∀ (H : Heap) (locs : List Loc) (ls : Array Slot) (pc : Nat), wx_w γ A s H locs (mw γ o ad z.1 z.2) → decode cX8_look pc = .ok (.return_, 1) → W p l e rmX8_look s m as below meth c H locs 0 0 Q (F0 m pc ls [])) {k0 : xF → xG → Option (xF × xG)} (hk0 : ∀ (f : xF) (g : xG) (H : Heap) (locs : List Loc) (ls : Array Slot), k0 f g = some z → wx_w γ A s H locs (mw γ o ad f g) → lv_has ls 2 [(0, .ref o)] → W p l e rmX8_look s m as below meth c H locs 0 0 Q (F0 m 0 ls [])) {f : xF} {g : xG} {H : Heap} {locs : List Loc} {ls : Array Slot} (w : wx_w γ A s H locs (mw γ o ad f g)) (hl : lv_has ls 2 [(0, .ref o)]) (hF : pX8_look_26 k0 f g = some z) : W p l e rmX8_look s m as below meth c H locs 0 0 Q (F0 m 26 ls []) := by
  have hx := C.1
  have hb := C.2.1
  unfold pX8_look_26 at hF
  refine lv_aload_n hx hb dX8_look_26 rfl (lv_at hl 0 rfl) ?_
  refine lv_dup hx hb dX8_look_27 rfl ?_
  refine mget_14 C K w dX8_look_28 ?_
  refine lv_iconst (v := (1 : Int32)) hx hb dX8_look_31 (by decide) ?_
  refine lv_iadd hx hb dX8_look_32 ?_
  refine mput_14 C K w dX8_look_33 (fun H locs w => ?_)
  refine lv_goto (tgt := 0) hx hb dX8_look_36 (by decide) ?_
  exact hk0 _ _ _ _ _ hF w hl

theorem bX8_look_382 {p : Program} {l : Launch} {e : Env} {s : State} {m : MethodId} {as : Array Value} {below : List Frame} {meth : Method} {c : Code} {A : Nat → Prop} {Q : State → Prop} {γ : wx_G} {o : Nat} {ad : Nat → Nat} {z : xF × xG} (C : CallFix p m c cX8_look 2 s as lw_all RX8) (K : wx_C γ A s) (E : ∀ (H : Heap) (locs : List Loc) (ls : Array Slot) (pc : Nat), wx_w γ A s H locs (mw γ o ad z.1 z.2) → decode cX8_look pc = .ok (.return_, 1) → W p l e rmX8_look s m as below meth c H locs 0 0 Q (F0 m pc ls [])) {f : xF} {g : xG} {H : Heap} {locs : List Loc} {ls : Array Slot} (w : wx_w γ A s H locs (mw γ o ad f g)) (hl : lv_has ls 2 []) (hF : pX8_look_382 f g = some z) : W p l e rmX8_look s m as below meth c H locs 0 0 Q (F0 m 382 ls []) := by
  have hx := C.1
  have hb := C.2.1
  unfold pX8_look_382 at hF
  have hF := Option.some.inj hF
  subst hF
  exact E _ _ _ _ w dX8_look_382

theorem bX8_look_379 {p : Program} {l : Launch} {e : Env} {s : State} {m : MethodId} {as : Array Value} {below : List Frame} {meth : Method} {c : Code} {A : Nat → Prop} {Q : State → Prop} {γ : wx_G} {o : Nat} {ad : Nat → Nat} {z : xF × xG} (C : CallFix p m c cX8_look 2 s as lw_all RX8) (K : wx_C γ A s) (E : ∀ (H : Heap) (locs : List Loc) (ls : Array Slot) (pc : Nat), wx_w γ A s H locs (mw γ o ad z.1 z.2) → decode cX8_look pc = .ok (.return_, 1) → W p l e rmX8_look s m as below meth c H locs 0 0 Q (F0 m pc ls [])) {f : xF} {g : xG} {t1 : Int32} {H : Heap} {locs : List Loc} {ls : Array Slot} (w : wx_w γ A s H locs (mw γ o ad f g)) (hl : lv_has ls 2 []) (hF : pX8_look_379 f g t1 = some z) : W p l e rmX8_look s m as below meth c H locs 0 0 Q (F0 m 379 ls [.int t1, .ref o]) := by
  have hx := C.1
  have hb := C.2.1
  unfold pX8_look_379 at hF
  refine mput_15 C K w dX8_look_379 (fun H locs w => ?_)
  exact bX8_look_382 C K E w hl hF

theorem bX8_look_365 {p : Program} {l : Launch} {e : Env} {s : State} {m : MethodId} {as : Array Value} {below : List Frame} {meth : Method} {c : Code} {A : Nat → Prop} {Q : State → Prop} {γ : wx_G} {o : Nat} {ad : Nat → Nat} {z : xF × xG} (C : CallFix p m c cX8_look 2 s as lw_all RX8) (K : wx_C γ A s) (E : ∀ (H : Heap) (locs : List Loc) (ls : Array Slot) (pc : Nat), wx_w γ A s H locs (mw γ o ad z.1 z.2) → decode cX8_look pc = .ok (.return_, 1) → W p l e rmX8_look s m as below meth c H locs 0 0 Q (F0 m pc ls [])) {f : xF} {g : xG} {v1 : Int32} {H : Heap} {locs : List Loc} {ls : Array Slot} (w : wx_w γ A s H locs (mw γ o ad f g)) (hl : lv_has ls 2 [(1, .int v1)]) (hF : pX8_look_365 f g v1 = some z) : W p l e rmX8_look s m as below meth c H locs 0 0 Q (F0 m 365 ls [.ref o]) := by
  have hx := C.1
  have hb := C.2.1
  unfold pX8_look_365 at hF
  refine lv_iload_n hx hb dX8_look_365 rfl (lv_at hl 0 rfl) ?_
  refine lv_goto (tgt := 379) hx hb dX8_look_366 (by decide) ?_
  exact bX8_look_379 C K E w (lv_sub hl [] rfl) hF

theorem bX8_look_310 {p : Program} {l : Launch} {e : Env} {s : State} {m : MethodId} {as : Array Value} {below : List Frame} {meth : Method} {c : Code} {A : Nat → Prop} {Q : State → Prop} {γ : wx_G} {o : Nat} {ad : Nat → Nat} {z : xF × xG} (C : CallFix p m c cX8_look 2 s as lw_all RX8) (K : wx_C γ A s) (E : ∀ (H : Heap) (locs : List Loc) (ls : Array Slot) (pc : Nat), wx_w γ A s H locs (mw γ o ad z.1 z.2) → decode cX8_look pc = .ok (.return_, 1) → W p l e rmX8_look s m as below meth c H locs 0 0 Q (F0 m pc ls [])) {f : xF} {g : xG} {t1 : Int32} {H : Heap} {locs : List Loc} {ls : Array Slot} (w : wx_w γ A s H locs (mw γ o ad f g)) (hl : lv_has ls 2 []) (hF : pX8_look_310 f g t1 = some z) : W p l e rmX8_look s m as below meth c H locs 0 0 Q (F0 m 310 ls [.int t1, .ref o]) := by
  have hx := C.1
  have hb := C.2.1
  unfold pX8_look_310 at hF
  refine mput_15 C K w dX8_look_310 (fun H locs w => ?_)
  refine lv_goto (tgt := 382) hx hb dX8_look_313 (by decide) ?_
  exact bX8_look_382 C K E w hl hF

theorem bX8_look_304 {p : Program} {l : Launch} {e : Env} {s : State} {m : MethodId} {as : Array Value} {below : List Frame} {meth : Method} {c : Code} {A : Nat → Prop} {Q : State → Prop} {γ : wx_G} {o : Nat} {ad : Nat → Nat} {z : xF × xG} (C : CallFix p m c cX8_look 2 s as lw_all RX8) (K : wx_C γ A s) (E : ∀ (H : Heap) (locs : List Loc) (ls : Array Slot) (pc : Nat), wx_w γ A s H locs (mw γ o ad z.1 z.2) → decode cX8_look pc = .ok (.return_, 1) → W p l e rmX8_look s m as below meth c H locs 0 0 Q (F0 m pc ls [])) {f : xF} {g : xG} {H : Heap} {locs : List Loc} {ls : Array Slot} (w : wx_w γ A s H locs (mw γ o ad f g)) (hl : lv_has ls 2 []) (hF : pX8_look_304 f g = some z) : W p l e rmX8_look s m as below meth c H locs 0 0 Q (F0 m 304 ls [.ref o]) := by
  have hx := C.1
  have hb := C.2.1
  unfold pX8_look_304 at hF
  refine lv_iconst (v := (2 : Int32)) hx hb dX8_look_304 (by decide) ?_
  refine lv_goto (tgt := 310) hx hb dX8_look_305 (by decide) ?_
  exact bX8_look_310 C K E w hl hF

theorem bX8_look_278 {p : Program} {l : Launch} {e : Env} {s : State} {m : MethodId} {as : Array Value} {below : List Frame} {meth : Method} {c : Code} {A : Nat → Prop} {Q : State → Prop} {γ : wx_G} {o : Nat} {ad : Nat → Nat} {z : xF × xG} (C : CallFix p m c cX8_look 2 s as lw_all RX8) (K : wx_C γ A s) (E : ∀ (H : Heap) (locs : List Loc) (ls : Array Slot) (pc : Nat), wx_w γ A s H locs (mw γ o ad z.1 z.2) → decode cX8_look pc = .ok (.return_, 1) → W p l e rmX8_look s m as below meth c H locs 0 0 Q (F0 m pc ls [])) {f : xF} {g : xG} {t1 : Int32} {H : Heap} {locs : List Loc} {ls : Array Slot} (w : wx_w γ A s H locs (mw γ o ad f g)) (hl : lv_has ls 2 [(0, .ref o)]) (hF : pX8_look_278 f g t1 = some z) : W p l e rmX8_look s m as below meth c H locs 0 0 Q (F0 m 278 ls [.int t1, .ref o]) := by
  have hx := C.1
  have hb := C.2.1
  unfold pX8_look_278 at hF
  refine mput_16 C K w dX8_look_278 (fun H locs w => ?_)
  refine lv_aload_n hx hb dX8_look_281 rfl (lv_at hl 0 rfl) ?_
  refine lv_aload_n hx hb dX8_look_282 rfl (lv_at hl 0 rfl) ?_
  refine lv_aload_n hx hb dX8_look_283 rfl (lv_at hl 0 rfl) ?_
  refine mget_16 C K w dX8_look_284 ?_
  obtain ⟨r287, hr, hF⟩ := obd hF
  refine rX8_nameOf C K w hr hl.1 ⟨Nat.le_of_ble_eq_true rfl, Nat.le_of_ble_eq_true rfl⟩ (Nat.le_of_ble_eq_true rfl) dX8_look_287 (fun H locs w => ?_)
  refine lv_if_ge (tgt := 304) hx hb dX8_look_290 (by decide) (fun c => ?_) (fun c => ?_)
  · have hF := (if_pos c).symm.trans hF
    exact bX8_look_304 C K E w (lv_sub hl [] rfl) hF
  · have hF := (if_neg c).symm.trans hF
    refine lv_aload_n hx hb dX8_look_293 rfl (lv_at hl 0 rfl) ?_
    refine lv_aload_n hx hb dX8_look_294 rfl (lv_at hl 0 rfl) ?_
    refine mget_16 C K w dX8_look_295 ?_
    obtain ⟨r298, hr, hF⟩ := obd hF
    refine rX8_isKey C K w hr hl.1 ⟨Nat.le_of_ble_eq_true rfl, Nat.le_of_ble_eq_true rfl⟩ (Nat.le_of_ble_eq_true rfl) dX8_look_298 (fun H locs w => ?_)
    refine lv_if_eq (tgt := 308) hx hb dX8_look_301 (by decide) (fun c => ?_) (fun c => ?_)
    · have hF := (if_pos c).symm.trans hF
      refine lv_bipush (v := (-2 : Int32)) hx hb dX8_look_308 (by decide) ?_
      exact bX8_look_310 C K E w (lv_sub hl [] rfl) hF
    · have hF := (if_neg c).symm.trans hF
      exact bX8_look_304 C K E w (lv_sub hl [] rfl) hF

theorem bX8_look_260 {p : Program} {l : Launch} {e : Env} {s : State} {m : MethodId} {as : Array Value} {below : List Frame} {meth : Method} {c : Code} {A : Nat → Prop} {Q : State → Prop} {γ : wx_G} {o : Nat} {ad : Nat → Nat} {z : xF × xG} (C : CallFix p m c cX8_look 2 s as lw_all RX8) (K : wx_C γ A s) (E : ∀ (H : Heap) (locs : List Loc) (ls : Array Slot) (pc : Nat), wx_w γ A s H locs (mw γ o ad z.1 z.2) → decode cX8_look pc = .ok (.return_, 1) → W p l e rmX8_look s m as below meth c H locs 0 0 Q (F0 m pc ls [])) {f : xF} {g : xG} {H : Heap} {locs : List Loc} {ls : Array Slot} (w : wx_w γ A s H locs (mw γ o ad f g)) (hl : lv_has ls 2 [(0, .ref o)]) (hF : pX8_look_260 f g = some z) : W p l e rmX8_look s m as below meth c H locs 0 0 Q (F0 m 260 ls []) := by
  have hx := C.1
  have hb := C.2.1
  unfold pX8_look_260 at hF
  refine lv_aload_n hx hb dX8_look_260 rfl (lv_at hl 0 rfl) ?_
  refine lv_aload_n hx hb dX8_look_261 rfl (lv_at hl 0 rfl) ?_
  refine mget_17 C K w dX8_look_262 ?_
  refine lv_bipush (v := (6 : Int32)) hx hb dX8_look_265 (by decide) ?_
  refine lv_icmp_le (tgt := 274) hx hb dX8_look_267 (by decide) (fun c => ?_) (fun c => ?_)
  · have hF := (if_pos c).symm.trans hF
    refine lv_aload_n hx hb dX8_look_274 rfl (lv_at hl 0 rfl) ?_
    refine mget_16 C K w dX8_look_275 ?_
    exact bX8_look_278 C K E w hl hF
  · have hF := (if_neg c).symm.trans hF
    refine lv_iconst (v := (0 : Int32)) hx hb dX8_look_270 (by decide) ?_
    refine lv_goto (tgt := 278) hx hb dX8_look_271 (by decide) ?_
    exact bX8_look_278 C K E w hl hF

theorem bX8_look_244 {p : Program} {l : Launch} {e : Env} {s : State} {m : MethodId} {as : Array Value} {below : List Frame} {meth : Method} {c : Code} {A : Nat → Prop} {Q : State → Prop} {γ : wx_G} {o : Nat} {ad : Nat → Nat} {z : xF × xG} (C : CallFix p m c cX8_look 2 s as lw_all RX8) (K : wx_C γ A s) (E : ∀ (H : Heap) (locs : List Loc) (ls : Array Slot) (pc : Nat), wx_w γ A s H locs (mw γ o ad z.1 z.2) → decode cX8_look pc = .ok (.return_, 1) → W p l e rmX8_look s m as below meth c H locs 0 0 Q (F0 m pc ls [])) {k186 : xF → xG → Option (xF × xG)} (hk186 : ∀ (f : xF) (g : xG) (H : Heap) (locs : List Loc) (ls : Array Slot), k186 f g = some z → wx_w γ A s H locs (mw γ o ad f g) → lv_has ls 2 [(0, .ref o)] → W p l e rmX8_look s m as below meth c H locs 0 0 Q (F0 m 186 ls [])) {f : xF} {g : xG} {t1 : Int32} {H : Heap} {locs : List Loc} {ls : Array Slot} (w : wx_w γ A s H locs (mw γ o ad f g)) (hl : lv_has ls 2 [(0, .ref o)]) (hF : pX8_look_244 k186 f g t1 = some z) : W p l e rmX8_look s m as below meth c H locs 0 0 Q (F0 m 244 ls [.int t1, .ref o]) := by
  have hx := C.1
  have hb := C.2.1
  unfold pX8_look_244 at hF
  refine mput_16 C K w dX8_look_244 (fun H locs w => ?_)
  refine lv_aload_n hx hb dX8_look_247 rfl (lv_at hl 0 rfl) ?_
  refine lv_dup hx hb dX8_look_248 rfl ?_
  refine mget_17 C K w dX8_look_249 ?_
  refine lv_iconst (v := (1 : Int32)) hx hb dX8_look_252 (by decide) ?_
  refine lv_iadd hx hb dX8_look_253 ?_
  refine mput_17 C K w dX8_look_254 (fun H locs w => ?_)
  refine lv_goto (tgt := 186) hx hb dX8_look_257 (by decide) ?_
  exact hk186 _ _ _ _ _ hF w hl

theorem bX8_look_186 {p : Program} {l : Launch} {e : Env} {s : State} {m : MethodId} {as : Array Value} {below : List Frame} {meth : Method} {c : Code} {A : Nat → Prop} {Q : State → Prop} {γ : wx_G} {o : Nat} {ad : Nat → Nat} {z : xF × xG} (C : CallFix p m c cX8_look 2 s as lw_all RX8) (K : wx_C γ A s) (E : ∀ (H : Heap) (locs : List Loc) (ls : Array Slot) (pc : Nat), wx_w γ A s H locs (mw γ o ad z.1 z.2) → decode cX8_look pc = .ok (.return_, 1) → W p l e rmX8_look s m as below meth c H locs 0 0 Q (F0 m pc ls [])) : ∀ (n : Nat) (f : xF) (g : xG) (H : Heap) (locs : List Loc) (ls : Array Slot), pX8_look_186 n f g = some z → wx_w γ A s H locs (mw γ o ad f g) → lv_has ls 2 [(0, .ref o)] → W p l e rmX8_look s m as below meth c H locs 0 0 Q (F0 m 186 ls []) := by
  have hx := C.1
  have hb := C.2.1
  intro n
  induction n with
  | zero =>
    intro f g H locs ls hF w hl
    have hF : (none : Option (xF × xG)) = some z := hF
    cases hF
  | succ n ih =>
    intro f g H locs ls hF w hl
    rw [pX8_look_186] at hF
    refine lv_aload_n hx hb dX8_look_186 rfl (lv_at hl 0 rfl) ?_
    refine lv_aload_n hx hb dX8_look_187 rfl (lv_at hl 0 rfl) ?_
    refine lv_aload_n hx hb dX8_look_188 rfl (lv_at hl 0 rfl) ?_
    refine mget_14 C K w dX8_look_189 ?_
    refine lv_aload_n hx hb dX8_look_192 rfl (lv_at hl 0 rfl) ?_
    refine mget_17 C K w dX8_look_193 ?_
    refine lv_iadd hx hb dX8_look_196 ?_
    obtain ⟨r197, hr, hF⟩ := obd hF
    refine rX8_byteAt C K w hr hl.1 ⟨Nat.le_of_ble_eq_true rfl, Nat.le_of_ble_eq_true rfl⟩ (Nat.le_of_ble_eq_true rfl) dX8_look_197 (fun H locs w => ?_)
    obtain ⟨r200, hr, hF⟩ := obd hF
    refine rX8_isLetter C K w hr hl.1 ⟨Nat.le_of_ble_eq_true rfl, Nat.le_of_ble_eq_true rfl⟩ (Nat.le_of_ble_eq_true rfl) dX8_look_200 (fun H locs w => ?_)
    refine lv_if_eq (tgt := 260) hx hb dX8_look_203 (by decide) (fun c => ?_) (fun c => ?_)
    · have hF := (if_pos c).symm.trans hF
      exact bX8_look_260 C K E w hl hF
    · have hF := (if_neg c).symm.trans hF
      refine lv_aload_n hx hb dX8_look_206 rfl (lv_at hl 0 rfl) ?_
      refine lv_aload_n hx hb dX8_look_207 rfl (lv_at hl 0 rfl) ?_
      refine mget_17 C K w dX8_look_208 ?_
      refine lv_bipush (v := (6 : Int32)) hx hb dX8_look_211 (by decide) ?_
      refine lv_icmp_ge (tgt := 243) hx hb dX8_look_213 (by decide) (fun c => ?_) (fun c => ?_)
      · have hF := (if_pos c).symm.trans hF
        refine lv_iconst (v := (0 : Int32)) hx hb dX8_look_243 (by decide) ?_
        exact bX8_look_244 C K E ih w hl hF
      · have hF := (if_neg c).symm.trans hF
        refine lv_bipush (v := (32 : Int32)) hx hb dX8_look_216 (by decide) ?_
        refine lv_aload_n hx hb dX8_look_218 rfl (lv_at hl 0 rfl) ?_
        refine mget_16 C K w dX8_look_219 ?_
        refine lv_imul hx hb dX8_look_222 ?_
        refine lv_aload_n hx hb dX8_look_223 rfl (lv_at hl 0 rfl) ?_
        refine lv_aload_n hx hb dX8_look_224 rfl (lv_at hl 0 rfl) ?_
        refine mget_14 C K w dX8_look_225 ?_
        refine lv_aload_n hx hb dX8_look_228 rfl (lv_at hl 0 rfl) ?_
        refine mget_17 C K w dX8_look_229 ?_
        refine lv_iadd hx hb dX8_look_232 ?_
        obtain ⟨r233, hr, hF⟩ := obd hF
        refine rX8_byteAt C K w hr hl.1 ⟨Nat.le_of_ble_eq_true rfl, Nat.le_of_ble_eq_true rfl⟩ (Nat.le_of_ble_eq_true rfl) dX8_look_233 (fun H locs w => ?_)
        refine lv_iadd hx hb dX8_look_236 ?_
        refine lv_bipush (v := (96 : Int32)) hx hb dX8_look_237 (by decide) ?_
        refine lv_isub hx hb dX8_look_239 ?_
        refine lv_goto (tgt := 244) hx hb dX8_look_240 (by decide) ?_
        exact bX8_look_244 C K E ih w hl hF

theorem bX8_look_167 {p : Program} {l : Launch} {e : Env} {s : State} {m : MethodId} {as : Array Value} {below : List Frame} {meth : Method} {c : Code} {A : Nat → Prop} {Q : State → Prop} {γ : wx_G} {o : Nat} {ad : Nat → Nat} {z : xF × xG} (C : CallFix p m c cX8_look 2 s as lw_all RX8) (K : wx_C γ A s) (E : ∀ (H : Heap) (locs : List Loc) (ls : Array Slot) (pc : Nat), wx_w γ A s H locs (mw γ o ad z.1 z.2) → decode cX8_look pc = .ok (.return_, 1) → W p l e rmX8_look s m as below meth c H locs 0 0 Q (F0 m pc ls [])) {f : xF} {g : xG} {t1 : Int32} {H : Heap} {locs : List Loc} {ls : Array Slot} (w : wx_w γ A s H locs (mw γ o ad f g)) (hl : lv_has ls 2 []) (hF : pX8_look_167 f g t1 = some z) : W p l e rmX8_look s m as below meth c H locs 0 0 Q (F0 m 167 ls [.int t1, .ref o]) := by
  have hx := C.1
  have hb := C.2.1
  unfold pX8_look_167 at hF
  refine mput_15 C K w dX8_look_167 (fun H locs w => ?_)
  refine lv_goto (tgt := 382) hx hb dX8_look_170 (by decide) ?_
  exact bX8_look_382 C K E w hl hF

theorem bX8_look_152 {p : Program} {l : Launch} {e : Env} {s : State} {m : MethodId} {as : Array Value} {below : List Frame} {meth : Method} {c : Code} {A : Nat → Prop} {Q : State → Prop} {γ : wx_G} {o : Nat} {ad : Nat → Nat} {z : xF × xG} (C : CallFix p m c cX8_look 2 s as lw_all RX8) (K : wx_C γ A s) (E : ∀ (H : Heap) (locs : List Loc) (ls : Array Slot) (pc : Nat), wx_w γ A s H locs (mw γ o ad z.1 z.2) → decode cX8_look pc = .ok (.return_, 1) → W p l e rmX8_look s m as below meth c H locs 0 0 Q (F0 m pc ls [])) {f : xF} {g : xG} {H : Heap} {locs : List Loc} {ls : Array Slot} (w : wx_w γ A s H locs (mw γ o ad f g)) (hl : lv_has ls 2 [(0, .ref o)]) (hF : pX8_look_152 f g = some z) : W p l e rmX8_look s m as below meth c H locs 0 0 Q (F0 m 152 ls []) := by
  have hx := C.1
  have hb := C.2.1
  unfold pX8_look_152 at hF
  refine lv_aload_n hx hb dX8_look_152 rfl (lv_at hl 0 rfl) ?_
  refine lv_aload_n hx hb dX8_look_153 rfl (lv_at hl 0 rfl) ?_
  refine mget_17 C K w dX8_look_154 ?_
  refine lv_iconst (v := (4 : Int32)) hx hb dX8_look_157 (by decide) ?_
  refine lv_icmp_le (tgt := 166) hx hb dX8_look_158 (by decide) (fun c => ?_) (fun c => ?_)
  · have hF := (if_pos c).symm.trans hF
    refine lv_iconst (v := (1 : Int32)) hx hb dX8_look_166 (by decide) ?_
    exact bX8_look_167 C K E w (lv_sub hl [] rfl) hF
  · have hF := (if_neg c).symm.trans hF
    refine lv_bipush (v := (-2 : Int32)) hx hb dX8_look_161 (by decide) ?_
    refine lv_goto (tgt := 167) hx hb dX8_look_163 (by decide) ?_
    exact bX8_look_167 C K E w (lv_sub hl [] rfl) hF

theorem bX8_look_136 {p : Program} {l : Launch} {e : Env} {s : State} {m : MethodId} {as : Array Value} {below : List Frame} {meth : Method} {c : Code} {A : Nat → Prop} {Q : State → Prop} {γ : wx_G} {o : Nat} {ad : Nat → Nat} {z : xF × xG} (C : CallFix p m c cX8_look 2 s as lw_all RX8) (K : wx_C γ A s) (E : ∀ (H : Heap) (locs : List Loc) (ls : Array Slot) (pc : Nat), wx_w γ A s H locs (mw γ o ad z.1 z.2) → decode cX8_look pc = .ok (.return_, 1) → W p l e rmX8_look s m as below meth c H locs 0 0 Q (F0 m pc ls [])) {k76 : xF → xG → Option (xF × xG)} (hk76 : ∀ (f : xF) (g : xG) (H : Heap) (locs : List Loc) (ls : Array Slot), k76 f g = some z → wx_w γ A s H locs (mw γ o ad f g) → lv_has ls 2 [(0, .ref o)] → W p l e rmX8_look s m as below meth c H locs 0 0 Q (F0 m 76 ls [])) {f : xF} {g : xG} {t1 : Int32} {H : Heap} {locs : List Loc} {ls : Array Slot} (w : wx_w γ A s H locs (mw γ o ad f g)) (hl : lv_has ls 2 [(0, .ref o)]) (hF : pX8_look_136 k76 f g t1 = some z) : W p l e rmX8_look s m as below meth c H locs 0 0 Q (F0 m 136 ls [.int t1, .ref o]) := by
  have hx := C.1
  have hb := C.2.1
  unfold pX8_look_136 at hF
  refine mput_16 C K w dX8_look_136 (fun H locs w => ?_)
  refine lv_aload_n hx hb dX8_look_139 rfl (lv_at hl 0 rfl) ?_
  refine lv_dup hx hb dX8_look_140 rfl ?_
  refine mget_17 C K w dX8_look_141 ?_
  refine lv_iconst (v := (1 : Int32)) hx hb dX8_look_144 (by decide) ?_
  refine lv_iadd hx hb dX8_look_145 ?_
  refine mput_17 C K w dX8_look_146 (fun H locs w => ?_)
  refine lv_goto (tgt := 76) hx hb dX8_look_149 (by decide) ?_
  exact hk76 _ _ _ _ _ hF w hl

theorem bX8_look_76 {p : Program} {l : Launch} {e : Env} {s : State} {m : MethodId} {as : Array Value} {below : List Frame} {meth : Method} {c : Code} {A : Nat → Prop} {Q : State → Prop} {γ : wx_G} {o : Nat} {ad : Nat → Nat} {z : xF × xG} (C : CallFix p m c cX8_look 2 s as lw_all RX8) (K : wx_C γ A s) (E : ∀ (H : Heap) (locs : List Loc) (ls : Array Slot) (pc : Nat), wx_w γ A s H locs (mw γ o ad z.1 z.2) → decode cX8_look pc = .ok (.return_, 1) → W p l e rmX8_look s m as below meth c H locs 0 0 Q (F0 m pc ls [])) : ∀ (n : Nat) (f : xF) (g : xG) (H : Heap) (locs : List Loc) (ls : Array Slot), pX8_look_76 n f g = some z → wx_w γ A s H locs (mw γ o ad f g) → lv_has ls 2 [(0, .ref o)] → W p l e rmX8_look s m as below meth c H locs 0 0 Q (F0 m 76 ls []) := by
  have hx := C.1
  have hb := C.2.1
  intro n
  induction n with
  | zero =>
    intro f g H locs ls hF w hl
    have hF : (none : Option (xF × xG)) = some z := hF
    cases hF
  | succ n ih =>
    intro f g H locs ls hF w hl
    rw [pX8_look_76] at hF
    refine lv_aload_n hx hb dX8_look_76 rfl (lv_at hl 0 rfl) ?_
    refine lv_aload_n hx hb dX8_look_77 rfl (lv_at hl 0 rfl) ?_
    refine lv_aload_n hx hb dX8_look_78 rfl (lv_at hl 0 rfl) ?_
    refine mget_14 C K w dX8_look_79 ?_
    refine lv_aload_n hx hb dX8_look_82 rfl (lv_at hl 0 rfl) ?_
    refine mget_17 C K w dX8_look_83 ?_
    refine lv_iadd hx hb dX8_look_86 ?_
    obtain ⟨r87, hr, hF⟩ := obd hF
    refine rX8_byteAt C K w hr hl.1 ⟨Nat.le_of_ble_eq_true rfl, Nat.le_of_ble_eq_true rfl⟩ (Nat.le_of_ble_eq_true rfl) dX8_look_87 (fun H locs w => ?_)
    obtain ⟨r90, hr, hF⟩ := obd hF
    refine rX8_isDigit C K w hr hl.1 ⟨Nat.le_of_ble_eq_true rfl, Nat.le_of_ble_eq_true rfl⟩ (Nat.le_of_ble_eq_true rfl) dX8_look_90 (fun H locs w => ?_)
    refine lv_if_eq (tgt := 152) hx hb dX8_look_93 (by decide) (fun c => ?_) (fun c => ?_)
    · have hF := (if_pos c).symm.trans hF
      exact bX8_look_152 C K E w hl hF
    · have hF := (if_neg c).symm.trans hF
      refine lv_aload_n hx hb dX8_look_96 rfl (lv_at hl 0 rfl) ?_
      refine lv_aload_n hx hb dX8_look_97 rfl (lv_at hl 0 rfl) ?_
      refine mget_17 C K w dX8_look_98 ?_
      refine lv_iconst (v := (4 : Int32)) hx hb dX8_look_101 (by decide) ?_
      refine lv_icmp_ge (tgt := 132) hx hb dX8_look_102 (by decide) (fun c => ?_) (fun c => ?_)
      · have hF := (if_pos c).symm.trans hF
        refine lv_aload_n hx hb dX8_look_132 rfl (lv_at hl 0 rfl) ?_
        refine mget_16 C K w dX8_look_133 ?_
        exact bX8_look_136 C K E ih w hl hF
      · have hF := (if_neg c).symm.trans hF
        refine lv_bipush (v := (10 : Int32)) hx hb dX8_look_105 (by decide) ?_
        refine lv_aload_n hx hb dX8_look_107 rfl (lv_at hl 0 rfl) ?_
        refine mget_16 C K w dX8_look_108 ?_
        refine lv_imul hx hb dX8_look_111 ?_
        refine lv_aload_n hx hb dX8_look_112 rfl (lv_at hl 0 rfl) ?_
        refine lv_aload_n hx hb dX8_look_113 rfl (lv_at hl 0 rfl) ?_
        refine mget_14 C K w dX8_look_114 ?_
        refine lv_aload_n hx hb dX8_look_117 rfl (lv_at hl 0 rfl) ?_
        refine mget_17 C K w dX8_look_118 ?_
        refine lv_iadd hx hb dX8_look_121 ?_
        obtain ⟨r122, hr, hF⟩ := obd hF
        refine rX8_byteAt C K w hr hl.1 ⟨Nat.le_of_ble_eq_true rfl, Nat.le_of_ble_eq_true rfl⟩ (Nat.le_of_ble_eq_true rfl) dX8_look_122 (fun H locs w => ?_)
        refine lv_iadd hx hb dX8_look_125 ?_
        refine lv_bipush (v := (48 : Int32)) hx hb dX8_look_126 (by decide) ?_
        refine lv_isub hx hb dX8_look_128 ?_
        refine lv_goto (tgt := 136) hx hb dX8_look_129 (by decide) ?_
        exact bX8_look_136 C K E ih w hl hF

theorem bX8_look_39 {p : Program} {l : Launch} {e : Env} {s : State} {m : MethodId} {as : Array Value} {below : List Frame} {meth : Method} {c : Code} {A : Nat → Prop} {Q : State → Prop} {γ : wx_G} {o : Nat} {ad : Nat → Nat} {z : xF × xG} (C : CallFix p m c cX8_look 2 s as lw_all RX8) (K : wx_C γ A s) (E : ∀ (H : Heap) (locs : List Loc) (ls : Array Slot) (pc : Nat), wx_w γ A s H locs (mw γ o ad z.1 z.2) → decode cX8_look pc = .ok (.return_, 1) → W p l e rmX8_look s m as below meth c H locs 0 0 Q (F0 m pc ls [])) {f : xF} {g : xG} {H : Heap} {locs : List Loc} {ls : Array Slot} (w : wx_w γ A s H locs (mw γ o ad f g)) (hl : lv_has ls 2 [(0, .ref o)]) (hF : pX8_look_39 f g = some z) : W p l e rmX8_look s m as below meth c H locs 0 0 Q (F0 m 39 ls []) := by
  have hx := C.1
  have hb := C.2.1
  unfold pX8_look_39 at hF
  refine lv_aload_n hx hb dX8_look_39 rfl (lv_at hl 0 rfl) ?_
  refine lv_aload_n hx hb dX8_look_40 rfl (lv_at hl 0 rfl) ?_
  refine mget_14 C K w dX8_look_41 ?_
  obtain ⟨r44, hr, hF⟩ := obd hF
  refine rX8_byteAt C K w hr hl.1 ⟨Nat.le_of_ble_eq_true rfl, Nat.le_of_ble_eq_true rfl⟩ (Nat.le_of_ble_eq_true rfl) dX8_look_44 (fun H locs w => ?_)
  refine lv_istore_n (lv' := [(1, .int r44), (0, .ref o)]) hx hb dX8_look_47 rfl hl (by decide) rfl (fun ls hl => ?_)
  refine lv_aload_n hx hb dX8_look_48 rfl (lv_at hl 1 rfl) ?_
  refine lv_iconst (v := (1 : Int32)) hx hb dX8_look_49 (by decide) ?_
  refine mput_17 C K w dX8_look_50 (fun H locs w => ?_)
  refine lv_aload_n hx hb dX8_look_53 rfl (lv_at hl 1 rfl) ?_
  refine lv_iconst (v := (0 : Int32)) hx hb dX8_look_54 (by decide) ?_
  refine mput_16 C K w dX8_look_55 (fun H locs w => ?_)
  refine lv_aload_n hx hb dX8_look_58 rfl (lv_at hl 1 rfl) ?_
  refine lv_iload_n hx hb dX8_look_59 rfl (lv_at hl 0 rfl) ?_
  obtain ⟨r60, hr, hF⟩ := obd hF
  refine rX8_isDigit C K w hr hl.1 ⟨Nat.le_of_ble_eq_true rfl, Nat.le_of_ble_eq_true rfl⟩ (Nat.le_of_ble_eq_true rfl) dX8_look_60 (fun H locs w => ?_)
  refine lv_if_eq (tgt := 173) hx hb dX8_look_63 (by decide) (fun c => ?_) (fun c => ?_)
  · have hF := (if_pos c).symm.trans hF
    refine lv_aload_n hx hb dX8_look_173 rfl (lv_at hl 1 rfl) ?_
    refine lv_iload_n hx hb dX8_look_174 rfl (lv_at hl 0 rfl) ?_
    obtain ⟨r175, hr, hF⟩ := obd hF
    refine rX8_isLetter C K w hr hl.1 ⟨Nat.le_of_ble_eq_true rfl, Nat.le_of_ble_eq_true rfl⟩ (Nat.le_of_ble_eq_true rfl) dX8_look_175 (fun H locs w => ?_)
    refine lv_if_eq (tgt := 316) hx hb dX8_look_178 (by decide) (fun c => ?_) (fun c => ?_)
    · have hF := (if_pos c).symm.trans hF
      refine lv_aload_n hx hb dX8_look_316 rfl (lv_at hl 1 rfl) ?_
      refine lv_iload_n hx hb dX8_look_317 rfl (lv_at hl 0 rfl) ?_
      refine lv_bipush (v := (40 : Int32)) hx hb dX8_look_318 (by decide) ?_
      refine lv_icmp_eq (tgt := 365) hx hb dX8_look_320 (by decide) (fun c => ?_) (fun c => ?_)
      · have hF := (if_pos c).symm.trans hF
        exact bX8_look_365 C K E w (lv_sub hl [0] rfl) hF
      · have hF := (if_neg c).symm.trans hF
        refine lv_iload_n hx hb dX8_look_323 rfl (lv_at hl 0 rfl) ?_
        refine lv_bipush (v := (41 : Int32)) hx hb dX8_look_324 (by decide) ?_
        refine lv_icmp_eq (tgt := 365) hx hb dX8_look_326 (by decide) (fun c => ?_) (fun c => ?_)
        · have hF := (if_pos c).symm.trans hF
          exact bX8_look_365 C K E w (lv_sub hl [0] rfl) hF
        · have hF := (if_neg c).symm.trans hF
          refine lv_iload_n hx hb dX8_look_329 rfl (lv_at hl 0 rfl) ?_
          refine lv_bipush (v := (59 : Int32)) hx hb dX8_look_330 (by decide) ?_
          refine lv_icmp_eq (tgt := 365) hx hb dX8_look_332 (by decide) (fun c => ?_) (fun c => ?_)
          · have hF := (if_pos c).symm.trans hF
            exact bX8_look_365 C K E w (lv_sub hl [0] rfl) hF
          · have hF := (if_neg c).symm.trans hF
            refine lv_iload_n hx hb dX8_look_335 rfl (lv_at hl 0 rfl) ?_
            refine lv_bipush (v := (43 : Int32)) hx hb dX8_look_336 (by decide) ?_
            refine lv_icmp_eq (tgt := 365) hx hb dX8_look_338 (by decide) (fun c => ?_) (fun c => ?_)
            · have hF := (if_pos c).symm.trans hF
              exact bX8_look_365 C K E w (lv_sub hl [0] rfl) hF
            · have hF := (if_neg c).symm.trans hF
              refine lv_iload_n hx hb dX8_look_341 rfl (lv_at hl 0 rfl) ?_
              refine lv_bipush (v := (45 : Int32)) hx hb dX8_look_342 (by decide) ?_
              refine lv_icmp_eq (tgt := 365) hx hb dX8_look_344 (by decide) (fun c => ?_) (fun c => ?_)
              · have hF := (if_pos c).symm.trans hF
                exact bX8_look_365 C K E w (lv_sub hl [0] rfl) hF
              · have hF := (if_neg c).symm.trans hF
                refine lv_iload_n hx hb dX8_look_347 rfl (lv_at hl 0 rfl) ?_
                refine lv_bipush (v := (42 : Int32)) hx hb dX8_look_348 (by decide) ?_
                refine lv_icmp_eq (tgt := 365) hx hb dX8_look_350 (by decide) (fun c => ?_) (fun c => ?_)
                · have hF := (if_pos c).symm.trans hF
                  exact bX8_look_365 C K E w (lv_sub hl [0] rfl) hF
                · have hF := (if_neg c).symm.trans hF
                  refine lv_iload_n hx hb dX8_look_353 rfl (lv_at hl 0 rfl) ?_
                  refine lv_bipush (v := (60 : Int32)) hx hb dX8_look_354 (by decide) ?_
                  refine lv_icmp_eq (tgt := 365) hx hb dX8_look_356 (by decide) (fun c => ?_) (fun c => ?_)
                  · have hF := (if_pos c).symm.trans hF
                    exact bX8_look_365 C K E w (lv_sub hl [0] rfl) hF
                  · have hF := (if_neg c).symm.trans hF
                    refine lv_iload_n hx hb dX8_look_359 rfl (lv_at hl 0 rfl) ?_
                    refine lv_bipush (v := (61 : Int32)) hx hb dX8_look_360 (by decide) ?_
                    refine lv_icmp_ne (tgt := 369) hx hb dX8_look_362 (by decide) (fun c => ?_) (fun c => ?_)
                    · have hF := (if_neg c).symm.trans hF
                      refine lv_iload_n hx hb dX8_look_369 rfl (lv_at hl 0 rfl) ?_
                      refine lv_if_ge (tgt := 377) hx hb dX8_look_370 (by decide) (fun c => ?_) (fun c => ?_)
                      · have hF := (if_pos c).symm.trans hF
                        refine lv_bipush (v := (-2 : Int32)) hx hb dX8_look_377 (by decide) ?_
                        exact bX8_look_379 C K E w (lv_sub hl [] rfl) hF
                      · have hF := (if_neg c).symm.trans hF
                        refine lv_iconst (v := (-1 : Int32)) hx hb dX8_look_373 (by decide) ?_
                        refine lv_goto (tgt := 379) hx hb dX8_look_374 (by decide) ?_
                        exact bX8_look_379 C K E w (lv_sub hl [] rfl) hF
                    · have hF := (if_pos c).symm.trans hF
                      exact bX8_look_365 C K E w (lv_sub hl [0] rfl) hF
    · have hF := (if_neg c).symm.trans hF
      refine lv_aload_n hx hb dX8_look_181 rfl (lv_at hl 1 rfl) ?_
      refine lv_iconst (v := (0 : Int32)) hx hb dX8_look_182 (by decide) ?_
      refine mput_17 C K w dX8_look_183 (fun H locs w => ?_)
      exact bX8_look_186 C K E 5000 _ _ _ _ _ hF w (lv_sub hl [1] rfl)
  · have hF := (if_neg c).symm.trans hF
    refine lv_aload_n hx hb dX8_look_66 rfl (lv_at hl 1 rfl) ?_
    refine lv_iconst (v := (1 : Int32)) hx hb dX8_look_67 (by decide) ?_
    refine mput_15 C K w dX8_look_68 (fun H locs w => ?_)
    refine lv_aload_n hx hb dX8_look_71 rfl (lv_at hl 1 rfl) ?_
    refine lv_iconst (v := (0 : Int32)) hx hb dX8_look_72 (by decide) ?_
    refine mput_17 C K w dX8_look_73 (fun H locs w => ?_)
    exact bX8_look_76 C K E 5000 _ _ _ _ _ hF w (lv_sub hl [1] rfl)

theorem bX8_look_0 {p : Program} {l : Launch} {e : Env} {s : State} {m : MethodId} {as : Array Value} {below : List Frame} {meth : Method} {c : Code} {A : Nat → Prop} {Q : State → Prop} {γ : wx_G} {o : Nat} {ad : Nat → Nat} {z : xF × xG} (C : CallFix p m c cX8_look 2 s as lw_all RX8) (K : wx_C γ A s) (E : ∀ (H : Heap) (locs : List Loc) (ls : Array Slot) (pc : Nat), wx_w γ A s H locs (mw γ o ad z.1 z.2) → decode cX8_look pc = .ok (.return_, 1) → W p l e rmX8_look s m as below meth c H locs 0 0 Q (F0 m pc ls [])) : ∀ (n : Nat) (f : xF) (g : xG) (H : Heap) (locs : List Loc) (ls : Array Slot), pX8_look_0 n f g = some z → wx_w γ A s H locs (mw γ o ad f g) → lv_has ls 2 [(0, .ref o)] → W p l e rmX8_look s m as below meth c H locs 0 0 Q (F0 m 0 ls []) := by
  have hx := C.1
  have hb := C.2.1
  intro n
  induction n with
  | zero =>
    intro f g H locs ls hF w hl
    have hF : (none : Option (xF × xG)) = some z := hF
    cases hF
  | succ n ih =>
    intro f g H locs ls hF w hl
    rw [pX8_look_0] at hF
    refine lv_aload_n hx hb dX8_look_0 rfl (lv_at hl 0 rfl) ?_
    refine lv_aload_n hx hb dX8_look_1 rfl (lv_at hl 0 rfl) ?_
    refine mget_14 C K w dX8_look_2 ?_
    obtain ⟨r5, hr, hF⟩ := obd hF
    refine rX8_byteAt C K w hr hl.1 ⟨Nat.le_of_ble_eq_true rfl, Nat.le_of_ble_eq_true rfl⟩ (Nat.le_of_ble_eq_true rfl) dX8_look_5 (fun H locs w => ?_)
    refine lv_bipush (v := (32 : Int32)) hx hb dX8_look_8 (by decide) ?_
    refine lv_icmp_eq (tgt := 26) hx hb dX8_look_10 (by decide) (fun c => ?_) (fun c => ?_)
    · have hF := (if_pos c).symm.trans hF
      exact bX8_look_26 C K E ih w hl hF
    · have hF := (if_neg c).symm.trans hF
      refine lv_aload_n hx hb dX8_look_13 rfl (lv_at hl 0 rfl) ?_
      refine lv_aload_n hx hb dX8_look_14 rfl (lv_at hl 0 rfl) ?_
      refine mget_14 C K w dX8_look_15 ?_
      obtain ⟨r18, hr, hF⟩ := obd hF
      refine rX8_byteAt C K w hr hl.1 ⟨Nat.le_of_ble_eq_true rfl, Nat.le_of_ble_eq_true rfl⟩ (Nat.le_of_ble_eq_true rfl) dX8_look_18 (fun H locs w => ?_)
      refine lv_bipush (v := (10 : Int32)) hx hb dX8_look_21 (by decide) ?_
      refine lv_icmp_ne (tgt := 39) hx hb dX8_look_23 (by decide) (fun c => ?_) (fun c => ?_)
      · have hF := (if_neg c).symm.trans hF
        exact bX8_look_39 C K E w hl hF
      · have hF := (if_pos c).symm.trans hF
        exact bX8_look_26 C K E ih w hl hF

theorem mX8_look {l : Launch} {γ : wx_G} {o : Nat} {ad : Nat → Nat} {f : xF} {g : xG} {z : xF × xG} (hF : pX8_look f g = some z) : wx_M γ l yX8_look (ws_ yX8_look cX8_look 2 none) rmX8_look [.ref o] (mw γ o ad f g) (fun v ws => v = none ∧ ws = (mw γ o ad z.1 z.2)) 0 0 := by
  refine wx_M.of (by decide) (Nat.le_of_ble_eq_true rfl) ?_
  intro p e s m as below meth c A ls C K w hr hlocks _ hl
  exact bX8_look_0 C K (fun H locs ls pc w d => wx_vret C hr hlocks w ⟨rfl, rfl⟩ d) 5000 f g _ _ _ hF w hl
theorem rX8_look {p : Program} {l : Launch} {e : Env} {R : Room} {s : State} {m : MethodId} {as : Array Value} {below : List Frame} {meth : Method} {c : Code} {H : Heap} {locs : List Loc} {cells slots : Nat} {Q : State → Prop} {cc : ByteArray} {nL pc : Nat} {ls : Array Slot} {rest : List Value} {γ : wx_G} {A : Nat → Prop} {o : Nat} {ad : Nat → Nat} {f : xF} {g : xG} {z : xF × xG} (C : CallFix p m c cc nL s as lw_all RX8) (K : wx_C γ A s) (w : wx_w γ A s H locs (mw γ o ad f g)) (hF : pX8_look f g = some z) (hls : ls.size = nL) (hR : rmX8_look.frames + 1 ≤ R.frames ∧ 8 + (2 + 11) + rmX8_look.locals ≤ R.locals) (hW : (rest.map fun v => v.category).sum ≤ 8) (d : decode cc pc = .ok (.invokevirtual 208, 3)) (kk : ∀ (H : Heap) (locs : List Loc), wx_w γ A s H locs (mw γ o ad z.1 z.2) → W p l e R s m as below meth c H locs cells slots Q (F0 m (pc + 3) ls rest)) (hf : cells ≤ R.cells ∧ slots ≤ R.slots := by exact ⟨Nat.le_of_ble_eq_true rfl, Nat.le_of_ble_eq_true rfl⟩) : W p l e R s m as below meth c H locs cells slots Q (F0 m pc ls (.ref o :: rest)) :=
  wx_callV (n := 0) C K w (mX8_look (l := l) hF) q1490 q1492 qs53 q123 q1493 rfl rfl (by decide +kernel) (va_recv K.1.1 w.1 (ci := 0) (q0 := 0) rfl rfl) rfl rfl hR hls hW hf d (fun v ws H1 locs1 hp w => by obtain ⟨rfl, rfl⟩ := hp; exact kk H1 locs1 w)

/-! WalkingStonesModel.isWord(I)Z -/
abbrev rmX8_isWord : Room := { frames := 0, cells := 0, slots := 0, locals := 0 }
def pX8_isWord_21 (f : xF) (g : xG) (t0 : Int32) : Option (Int32) := if gbz t0 = true then some (t0) else none

def pX8_isWord_20 (f : xF) (g : xG) : Option (Int32) := pX8_isWord_21 f g (0 : Int32)

def pX8_isWord_0 (f : xF) (g : xG) (v1 : Int32) : Option (Int32) := if (f 15) = (2 : Int32) then (if (f 16) = v1 then pX8_isWord_21 f g (1 : Int32) else pX8_isWord_20 f g) else pX8_isWord_20 f g

abbrev pX8_isWord (f : xF) (g : xG) (v1 : Int32) : Option (Int32) := pX8_isWord_0 f g v1
theorem bX8_isWord_21 {p : Program} {l : Launch} {e : Env} {s : State} {m : MethodId} {as : Array Value} {below : List Frame} {meth : Method} {c : Code} {A : Nat → Prop} {Q : State → Prop} {γ : wx_G} {o : Nat} {ad : Nat → Nat} {z : Int32} {f : xF} {g : xG} (C : CallFix p m c cX8_isWord 2 s as lw_all RX8) (K : wx_C γ A s) (E : ∀ (H : Heap) (locs : List Loc) (ls : Array Slot) (pc : Nat), narrow .boolean (.int z) = .int z → wx_w γ A s H locs (mw γ o ad f g) → decode cX8_isWord pc = .ok (.ireturn, 1) → W p l e rmX8_isWord s m as below meth c H locs 0 0 Q (F0 m pc ls [.int z])) {t0 : Int32} {H : Heap} {locs : List Loc} {ls : Array Slot} (w : wx_w γ A s H locs (mw γ o ad f g)) (hl : lv_has ls 2 []) (hF : pX8_isWord_21 f g t0 = some z) : W p l e rmX8_isWord s m as below meth c H locs 0 0 Q (F0 m 21 ls [.int t0]) := by
  have hx := C.1
  have hb := C.2.1
  unfold pX8_isWord_21 at hF
  obtain ⟨hz, hF⟩ := gbz_if hF
  have hF := Option.some.inj hF
  subst hF
  exact E _ _ _ _ hz w dX8_isWord_21

theorem bX8_isWord_20 {p : Program} {l : Launch} {e : Env} {s : State} {m : MethodId} {as : Array Value} {below : List Frame} {meth : Method} {c : Code} {A : Nat → Prop} {Q : State → Prop} {γ : wx_G} {o : Nat} {ad : Nat → Nat} {z : Int32} {f : xF} {g : xG} (C : CallFix p m c cX8_isWord 2 s as lw_all RX8) (K : wx_C γ A s) (E : ∀ (H : Heap) (locs : List Loc) (ls : Array Slot) (pc : Nat), narrow .boolean (.int z) = .int z → wx_w γ A s H locs (mw γ o ad f g) → decode cX8_isWord pc = .ok (.ireturn, 1) → W p l e rmX8_isWord s m as below meth c H locs 0 0 Q (F0 m pc ls [.int z])) {H : Heap} {locs : List Loc} {ls : Array Slot} (w : wx_w γ A s H locs (mw γ o ad f g)) (hl : lv_has ls 2 []) (hF : pX8_isWord_20 f g = some z) : W p l e rmX8_isWord s m as below meth c H locs 0 0 Q (F0 m 20 ls []) := by
  have hx := C.1
  have hb := C.2.1
  unfold pX8_isWord_20 at hF
  refine lv_iconst (v := (0 : Int32)) hx hb dX8_isWord_20 (by decide) ?_
  exact bX8_isWord_21 C K E w hl hF

theorem bX8_isWord_0 {p : Program} {l : Launch} {e : Env} {s : State} {m : MethodId} {as : Array Value} {below : List Frame} {meth : Method} {c : Code} {A : Nat → Prop} {Q : State → Prop} {γ : wx_G} {o : Nat} {ad : Nat → Nat} {z : Int32} {f : xF} {g : xG} (C : CallFix p m c cX8_isWord 2 s as lw_all RX8) (K : wx_C γ A s) (E : ∀ (H : Heap) (locs : List Loc) (ls : Array Slot) (pc : Nat), narrow .boolean (.int z) = .int z → wx_w γ A s H locs (mw γ o ad f g) → decode cX8_isWord pc = .ok (.ireturn, 1) → W p l e rmX8_isWord s m as below meth c H locs 0 0 Q (F0 m pc ls [.int z])) {v1 : Int32} {H : Heap} {locs : List Loc} {ls : Array Slot} (w : wx_w γ A s H locs (mw γ o ad f g)) (hl : lv_has ls 2 [(0, .ref o), (1, .int v1)]) (hF : pX8_isWord_0 f g v1 = some z) : W p l e rmX8_isWord s m as below meth c H locs 0 0 Q (F0 m 0 ls []) := by
  have hx := C.1
  have hb := C.2.1
  unfold pX8_isWord_0 at hF
  refine lv_aload_n hx hb dX8_isWord_0 rfl (lv_at hl 0 rfl) ?_
  refine mget_15 C K w dX8_isWord_1 ?_
  refine lv_iconst (v := (2 : Int32)) hx hb dX8_isWord_4 (by decide) ?_
  refine lv_icmp_ne (tgt := 20) hx hb dX8_isWord_5 (by decide) (fun c => ?_) (fun c => ?_)
  · have hF := (if_neg c).symm.trans hF
    exact bX8_isWord_20 C K E w (lv_sub hl [] rfl) hF
  · have hF := (if_pos c).symm.trans hF
    refine lv_aload_n hx hb dX8_isWord_8 rfl (lv_at hl 0 rfl) ?_
    refine mget_16 C K w dX8_isWord_9 ?_
    refine lv_iload_n hx hb dX8_isWord_12 rfl (lv_at hl 1 rfl) ?_
    refine lv_icmp_ne (tgt := 20) hx hb dX8_isWord_13 (by decide) (fun c => ?_) (fun c => ?_)
    · have hF := (if_neg c).symm.trans hF
      exact bX8_isWord_20 C K E w (lv_sub hl [] rfl) hF
    · have hF := (if_pos c).symm.trans hF
      refine lv_iconst (v := (1 : Int32)) hx hb dX8_isWord_16 (by decide) ?_
      refine lv_goto (tgt := 21) hx hb dX8_isWord_17 (by decide) ?_
      exact bX8_isWord_21 C K E w (lv_sub hl [] rfl) hF

theorem mX8_isWord {l : Launch} {γ : wx_G} {o : Nat} {ad : Nat → Nat} {f : xF} {g : xG} {v1 : Int32} {z : Int32} (hF : pX8_isWord f g v1 = some z) : wx_M γ l yX8_isWord (ws_ yX8_isWord cX8_isWord 2 (some .boolean)) rmX8_isWord [.ref o, .int v1] (mw γ o ad f g) (fun v ws => v = some (.int z) ∧ ws = (mw γ o ad f g)) 0 0 := by
  refine wx_M.of (by decide) (Nat.le_of_ble_eq_true rfl) ?_
  intro p e s m as below meth c A ls C K w hr hlocks _ hl
  exact bX8_isWord_0 C K (fun H locs ls pc hz w d => wx_zret C hr hlocks hz w ⟨rfl, rfl⟩ d) w hl hF
theorem rX8_isWord {p : Program} {l : Launch} {e : Env} {R : Room} {s : State} {m : MethodId} {as : Array Value} {below : List Frame} {meth : Method} {c : Code} {H : Heap} {locs : List Loc} {cells slots : Nat} {Q : State → Prop} {cc : ByteArray} {nL pc : Nat} {ls : Array Slot} {rest : List Value} {γ : wx_G} {A : Nat → Prop} {o : Nat} {ad : Nat → Nat} {f : xF} {g : xG} {v1 : Int32} {z : Int32} (C : CallFix p m c cc nL s as lw_all RX8) (K : wx_C γ A s) (w : wx_w γ A s H locs (mw γ o ad f g)) (hF : pX8_isWord f g v1 = some z) (hls : ls.size = nL) (hR : rmX8_isWord.frames + 1 ≤ R.frames ∧ 8 + (2 + 11) + rmX8_isWord.locals ≤ R.locals) (hW : (rest.map fun v => v.category).sum ≤ 8) (d : decode cc pc = .ok (.invokevirtual 237, 3)) (kk : ∀ (H : Heap) (locs : List Loc), wx_w γ A s H locs (mw γ o ad f g) → W p l e R s m as below meth c H locs cells slots Q (F0 m (pc + 3) ls (.int z :: rest))) (hf : cells ≤ R.cells ∧ slots ≤ R.slots := by exact ⟨Nat.le_of_ble_eq_true rfl, Nat.le_of_ble_eq_true rfl⟩) : W p l e R s m as below meth c H locs cells slots Q (F0 m pc ls (.int v1 :: .ref o :: rest)) :=
  wx_callV (n := 1) C K w (mX8_isWord (l := l) hF) q1524 q1526 qs60 q123 q1527 rfl rfl (by decide +kernel) (va_recv K.1.1 w.1 (ci := 0) (q0 := 0) rfl rfl) rfl rfl hR hls hW hf d (fun v ws H1 locs1 hp w => by obtain ⟨rfl, rfl⟩ := hp; exact kk H1 locs1 w)

/-! WalkingStonesModel.goOn()V -/
abbrev rmX8_goOn : Room := { frames := 3, cells := 0, slots := 0, locals := 65 }
def pX8_goOn_0 (f : xF) (g : xG) : Option (xF × xG) := (pX8_look (upd f 14 ((f 14) + (f 17))) g).bind (fun r14 => some (r14.1, r14.2))

abbrev pX8_goOn (f : xF) (g : xG) : Option (xF × xG) := pX8_goOn_0 f g
theorem bX8_goOn_0 {p : Program} {l : Launch} {e : Env} {s : State} {m : MethodId} {as : Array Value} {below : List Frame} {meth : Method} {c : Code} {A : Nat → Prop} {Q : State → Prop} {γ : wx_G} {o : Nat} {ad : Nat → Nat} {z : xF × xG} (C : CallFix p m c cX8_goOn 1 s as lw_all RX8) (K : wx_C γ A s) (E : ∀ (H : Heap) (locs : List Loc) (ls : Array Slot) (pc : Nat), wx_w γ A s H locs (mw γ o ad z.1 z.2) → decode cX8_goOn pc = .ok (.return_, 1) → W p l e rmX8_goOn s m as below meth c H locs 0 0 Q (F0 m pc ls [])) {f : xF} {g : xG} {H : Heap} {locs : List Loc} {ls : Array Slot} (w : wx_w γ A s H locs (mw γ o ad f g)) (hl : lv_has ls 1 [(0, .ref o)]) (hF : pX8_goOn_0 f g = some z) : W p l e rmX8_goOn s m as below meth c H locs 0 0 Q (F0 m 0 ls []) := by
  have hx := C.1
  have hb := C.2.1
  unfold pX8_goOn_0 at hF
  refine lv_aload_n hx hb dX8_goOn_0 rfl (lv_at hl 0 rfl) ?_
  refine lv_dup hx hb dX8_goOn_1 rfl ?_
  refine mget_14 C K w dX8_goOn_2 ?_
  refine lv_aload_n hx hb dX8_goOn_5 rfl (lv_at hl 0 rfl) ?_
  refine mget_17 C K w dX8_goOn_6 ?_
  refine lv_iadd hx hb dX8_goOn_9 ?_
  refine mput_14 C K w dX8_goOn_10 (fun H locs w => ?_)
  refine lv_aload_n hx hb dX8_goOn_13 rfl (lv_at hl 0 rfl) ?_
  obtain ⟨r14, hr, hF⟩ := obd hF
  refine rX8_look C K w hr hl.1 ⟨Nat.le_of_ble_eq_true rfl, Nat.le_of_ble_eq_true rfl⟩ (Nat.le_of_ble_eq_true rfl) dX8_goOn_14 (fun H locs w => ?_)
  have hF := Option.some.inj hF
  subst hF
  exact E _ _ _ _ w dX8_goOn_17

theorem mX8_goOn {l : Launch} {γ : wx_G} {o : Nat} {ad : Nat → Nat} {f : xF} {g : xG} {z : xF × xG} (hF : pX8_goOn f g = some z) : wx_M γ l yX8_goOn (ws_ yX8_goOn cX8_goOn 1 none) rmX8_goOn [.ref o] (mw γ o ad f g) (fun v ws => v = none ∧ ws = (mw γ o ad z.1 z.2)) 0 0 := by
  refine wx_M.of (by decide) (Nat.le_of_ble_eq_true rfl) ?_
  intro p e s m as below meth c A ls C K w hr hlocks _ hl
  exact bX8_goOn_0 C K (fun H locs ls pc w d => wx_vret C hr hlocks w ⟨rfl, rfl⟩ d) w hl hF
theorem rX8_goOn {p : Program} {l : Launch} {e : Env} {R : Room} {s : State} {m : MethodId} {as : Array Value} {below : List Frame} {meth : Method} {c : Code} {H : Heap} {locs : List Loc} {cells slots : Nat} {Q : State → Prop} {cc : ByteArray} {nL pc : Nat} {ls : Array Slot} {rest : List Value} {γ : wx_G} {A : Nat → Prop} {o : Nat} {ad : Nat → Nat} {f : xF} {g : xG} {z : xF × xG} (C : CallFix p m c cc nL s as lw_all RX8) (K : wx_C γ A s) (w : wx_w γ A s H locs (mw γ o ad f g)) (hF : pX8_goOn f g = some z) (hls : ls.size = nL) (hR : rmX8_goOn.frames + 1 ≤ R.frames ∧ 8 + (1 + 11) + rmX8_goOn.locals ≤ R.locals) (hW : (rest.map fun v => v.category).sum ≤ 8) (d : decode cc pc = .ok (.invokevirtual 247, 3)) (kk : ∀ (H : Heap) (locs : List Loc), wx_w γ A s H locs (mw γ o ad z.1 z.2) → W p l e R s m as below meth c H locs cells slots Q (F0 m (pc + 3) ls rest)) (hf : cells ≤ R.cells ∧ slots ≤ R.slots := by exact ⟨Nat.le_of_ble_eq_true rfl, Nat.le_of_ble_eq_true rfl⟩) : W p l e R s m as below meth c H locs cells slots Q (F0 m pc ls (.ref o :: rest)) :=
  wx_callV (n := 0) C K w (mX8_goOn (l := l) hF) q1528 q1530 qs61 q123 q1531 rfl rfl (by decide +kernel) (va_recv K.1.1 w.1 (ci := 0) (q0 := 0) rfl rfl) rfl rfl hR hls hW hf d (fun v ws H1 locs1 hp w => by obtain ⟨rfl, rfl⟩ := hp; exact kk H1 locs1 w)

/-! WalkingStonesModel.top()I -/
abbrev rmX8_top : Room := { frames := 0, cells := 0, slots := 0, locals := 0 }
def pX8_top_22 (f : xF) (g : xG) (t0 : Int32) : Option (Int32) := some (t0)

def pX8_top_0 (f : xF) (g : xG) : Option (Int32) := if (f 19) ≤ 0 then pX8_top_22 f g (-1 : Int32) else (if gin ((f 19) - (1 : Int32)) 161 = true then pX8_top_22 f g (g 25 ((f 19) - (1 : Int32)).toNatClampNeg) else none)

abbrev pX8_top (f : xF) (g : xG) : Option (Int32) := pX8_top_0 f g
theorem bX8_top_22 {p : Program} {l : Launch} {e : Env} {s : State} {m : MethodId} {as : Array Value} {below : List Frame} {meth : Method} {c : Code} {A : Nat → Prop} {Q : State → Prop} {γ : wx_G} {o : Nat} {ad : Nat → Nat} {z : Int32} {f : xF} {g : xG} (C : CallFix p m c cX8_top 1 s as lw_all RX8) (K : wx_C γ A s) (E : ∀ (H : Heap) (locs : List Loc) (ls : Array Slot) (pc : Nat), wx_w γ A s H locs (mw γ o ad f g) → decode cX8_top pc = .ok (.ireturn, 1) → W p l e rmX8_top s m as below meth c H locs 0 0 Q (F0 m pc ls [.int z])) {t0 : Int32} {H : Heap} {locs : List Loc} {ls : Array Slot} (w : wx_w γ A s H locs (mw γ o ad f g)) (hl : lv_has ls 1 []) (hF : pX8_top_22 f g t0 = some z) : W p l e rmX8_top s m as below meth c H locs 0 0 Q (F0 m 22 ls [.int t0]) := by
  have hx := C.1
  have hb := C.2.1
  unfold pX8_top_22 at hF
  have hF := Option.some.inj hF
  subst hF
  exact E _ _ _ _ w dX8_top_22

theorem bX8_top_0 {p : Program} {l : Launch} {e : Env} {s : State} {m : MethodId} {as : Array Value} {below : List Frame} {meth : Method} {c : Code} {A : Nat → Prop} {Q : State → Prop} {γ : wx_G} {o : Nat} {ad : Nat → Nat} {z : Int32} {f : xF} {g : xG} (C : CallFix p m c cX8_top 1 s as lw_all RX8) (K : wx_C γ A s) (E : ∀ (H : Heap) (locs : List Loc) (ls : Array Slot) (pc : Nat), wx_w γ A s H locs (mw γ o ad f g) → decode cX8_top pc = .ok (.ireturn, 1) → W p l e rmX8_top s m as below meth c H locs 0 0 Q (F0 m pc ls [.int z])) {H : Heap} {locs : List Loc} {ls : Array Slot} (w : wx_w γ A s H locs (mw γ o ad f g)) (hl : lv_has ls 1 [(0, .ref o)]) (hF : pX8_top_0 f g = some z) : W p l e rmX8_top s m as below meth c H locs 0 0 Q (F0 m 0 ls []) := by
  have hx := C.1
  have hb := C.2.1
  unfold pX8_top_0 at hF
  refine lv_aload_n hx hb dX8_top_0 rfl (lv_at hl 0 rfl) ?_
  refine mget_19 C K w dX8_top_1 ?_
  refine lv_if_le (tgt := 21) hx hb dX8_top_4 (by decide) (fun c => ?_) (fun c => ?_)
  · have hF := (if_pos c).symm.trans hF
    refine lv_iconst (v := (-1 : Int32)) hx hb dX8_top_21 (by decide) ?_
    exact bX8_top_22 C K E w (lv_sub hl [] rfl) hF
  · have hF := (if_neg c).symm.trans hF
    refine lv_aload_n hx hb dX8_top_7 rfl (lv_at hl 0 rfl) ?_
    refine mget_25 C K w dX8_top_8 ?_
    refine lv_aload_n hx hb dX8_top_11 rfl (lv_at hl 0 rfl) ?_
    refine mget_19 C K w dX8_top_12 ?_
    refine lv_iconst (v := (1 : Int32)) hx hb dX8_top_15 (by decide) ?_
    refine lv_isub hx hb dX8_top_16 ?_
    obtain ⟨hi, hF⟩ := gin_if hF
    refine mald_25 C K w hi dX8_top_17 ?_
    refine lv_goto (tgt := 22) hx hb dX8_top_18 (by decide) ?_
    exact bX8_top_22 C K E w (lv_sub hl [] rfl) hF

theorem mX8_top {l : Launch} {γ : wx_G} {o : Nat} {ad : Nat → Nat} {f : xF} {g : xG} {z : Int32} (hF : pX8_top f g = some z) : wx_M γ l yX8_top (ws_ yX8_top cX8_top 1 (some .int)) rmX8_top [.ref o] (mw γ o ad f g) (fun v ws => v = some (.int z) ∧ ws = (mw γ o ad f g)) 0 0 := by
  refine wx_M.of (by decide) (Nat.le_of_ble_eq_true rfl) ?_
  intro p e s m as below meth c A ls C K w hr hlocks _ hl
  exact bX8_top_0 C K (fun H locs ls pc w d => wx_iret C hr hlocks w ⟨rfl, rfl⟩ d) w hl hF
theorem rX8_top {p : Program} {l : Launch} {e : Env} {R : Room} {s : State} {m : MethodId} {as : Array Value} {below : List Frame} {meth : Method} {c : Code} {H : Heap} {locs : List Loc} {cells slots : Nat} {Q : State → Prop} {cc : ByteArray} {nL pc : Nat} {ls : Array Slot} {rest : List Value} {γ : wx_G} {A : Nat → Prop} {o : Nat} {ad : Nat → Nat} {f : xF} {g : xG} {z : Int32} (C : CallFix p m c cc nL s as lw_all RX8) (K : wx_C γ A s) (w : wx_w γ A s H locs (mw γ o ad f g)) (hF : pX8_top f g = some z) (hls : ls.size = nL) (hR : rmX8_top.frames + 1 ≤ R.frames ∧ 8 + (1 + 11) + rmX8_top.locals ≤ R.locals) (hW : (rest.map fun v => v.category).sum ≤ 8) (d : decode cc pc = .ok (.invokevirtual 217, 3)) (kk : ∀ (H : Heap) (locs : List Loc), wx_w γ A s H locs (mw γ o ad f g) → W p l e R s m as below meth c H locs cells slots Q (F0 m (pc + 3) ls (.int z :: rest))) (hf : cells ≤ R.cells ∧ slots ≤ R.slots := by exact ⟨Nat.le_of_ble_eq_true rfl, Nat.le_of_ble_eq_true rfl⟩) : W p l e R s m as below meth c H locs cells slots Q (F0 m pc ls (.ref o :: rest)) :=
  wx_callV (n := 0) C K w (mX8_top (l := l) hF) q1540 q1542 qs64 q123 q1543 rfl rfl (by decide +kernel) (va_recv K.1.1 w.1 (ci := 0) (q0 := 0) rfl rfl) rfl rfl hR hls hW hf d (fun v ws H1 locs1 hp w => by obtain ⟨rfl, rfl⟩ := hp; exact kk H1 locs1 w)

/-! WalkingStonesModel.strength(I)I -/
abbrev rmX8_strength : Room := { frames := 0, cells := 0, slots := 0, locals := 0 }
def pX8_strength_81 (f : xF) (g : xG) (t0 : Int32) : Option (Int32) := some (t0)

def pX8_strength_38 (f : xF) (g : xG) : Option (Int32) := pX8_strength_81 f g (4 : Int32)

def pX8_strength_54 (f : xF) (g : xG) : Option (Int32) := pX8_strength_81 f g (5 : Int32)

def pX8_strength_0 (f : xF) (g : xG) (v1 : Int32) : Option (Int32) := if v1 = (2 : Int32) then pX8_strength_81 f g (1 : Int32) else (if v1 = (3 : Int32) then pX8_strength_81 f g (2 : Int32) else (if v1 = (4 : Int32) then pX8_strength_81 f g (3 : Int32) else (if v1 = (5 : Int32) then pX8_strength_38 f g else (if v1 = (6 : Int32) then pX8_strength_38 f g else (if v1 = (7 : Int32) then pX8_strength_54 f g else (if v1 = (8 : Int32) then pX8_strength_54 f g else (if v1 = (9 : Int32) then pX8_strength_81 f g (6 : Int32) else (if v1 = (10 : Int32) then pX8_strength_81 f g (7 : Int32) else pX8_strength_81 f g (0 : Int32)))))))))

abbrev pX8_strength (f : xF) (g : xG) (v1 : Int32) : Option (Int32) := pX8_strength_0 f g v1
theorem bX8_strength_81 {p : Program} {l : Launch} {e : Env} {s : State} {m : MethodId} {as : Array Value} {below : List Frame} {meth : Method} {c : Code} {A : Nat → Prop} {Q : State → Prop} {γ : wx_G} {o : Nat} {ad : Nat → Nat} {z : Int32} {f : xF} {g : xG} (C : CallFix p m c cX8_strength 2 s as lw_all RX8) (K : wx_C γ A s) (E : ∀ (H : Heap) (locs : List Loc) (ls : Array Slot) (pc : Nat), wx_w γ A s H locs (mw γ o ad f g) → decode cX8_strength pc = .ok (.ireturn, 1) → W p l e rmX8_strength s m as below meth c H locs 0 0 Q (F0 m pc ls [.int z])) {t0 : Int32} {H : Heap} {locs : List Loc} {ls : Array Slot} (w : wx_w γ A s H locs (mw γ o ad f g)) (hl : lv_has ls 2 []) (hF : pX8_strength_81 f g t0 = some z) : W p l e rmX8_strength s m as below meth c H locs 0 0 Q (F0 m 81 ls [.int t0]) := by
  have hx := C.1
  have hb := C.2.1
  unfold pX8_strength_81 at hF
  have hF := Option.some.inj hF
  subst hF
  exact E _ _ _ _ w dX8_strength_81

theorem bX8_strength_38 {p : Program} {l : Launch} {e : Env} {s : State} {m : MethodId} {as : Array Value} {below : List Frame} {meth : Method} {c : Code} {A : Nat → Prop} {Q : State → Prop} {γ : wx_G} {o : Nat} {ad : Nat → Nat} {z : Int32} {f : xF} {g : xG} (C : CallFix p m c cX8_strength 2 s as lw_all RX8) (K : wx_C γ A s) (E : ∀ (H : Heap) (locs : List Loc) (ls : Array Slot) (pc : Nat), wx_w γ A s H locs (mw γ o ad f g) → decode cX8_strength pc = .ok (.ireturn, 1) → W p l e rmX8_strength s m as below meth c H locs 0 0 Q (F0 m pc ls [.int z])) {H : Heap} {locs : List Loc} {ls : Array Slot} (w : wx_w γ A s H locs (mw γ o ad f g)) (hl : lv_has ls 2 []) (hF : pX8_strength_38 f g = some z) : W p l e rmX8_strength s m as below meth c H locs 0 0 Q (F0 m 38 ls []) := by
  have hx := C.1
  have hb := C.2.1
  unfold pX8_strength_38 at hF
  refine lv_iconst (v := (4 : Int32)) hx hb dX8_strength_38 (by decide) ?_
  refine lv_goto (tgt := 81) hx hb dX8_strength_39 (by decide) ?_
  exact bX8_strength_81 C K E w hl hF

theorem bX8_strength_54 {p : Program} {l : Launch} {e : Env} {s : State} {m : MethodId} {as : Array Value} {below : List Frame} {meth : Method} {c : Code} {A : Nat → Prop} {Q : State → Prop} {γ : wx_G} {o : Nat} {ad : Nat → Nat} {z : Int32} {f : xF} {g : xG} (C : CallFix p m c cX8_strength 2 s as lw_all RX8) (K : wx_C γ A s) (E : ∀ (H : Heap) (locs : List Loc) (ls : Array Slot) (pc : Nat), wx_w γ A s H locs (mw γ o ad f g) → decode cX8_strength pc = .ok (.ireturn, 1) → W p l e rmX8_strength s m as below meth c H locs 0 0 Q (F0 m pc ls [.int z])) {H : Heap} {locs : List Loc} {ls : Array Slot} (w : wx_w γ A s H locs (mw γ o ad f g)) (hl : lv_has ls 2 []) (hF : pX8_strength_54 f g = some z) : W p l e rmX8_strength s m as below meth c H locs 0 0 Q (F0 m 54 ls []) := by
  have hx := C.1
  have hb := C.2.1
  unfold pX8_strength_54 at hF
  refine lv_iconst (v := (5 : Int32)) hx hb dX8_strength_54 (by decide) ?_
  refine lv_goto (tgt := 81) hx hb dX8_strength_55 (by decide) ?_
  exact bX8_strength_81 C K E w hl hF

theorem bX8_strength_0 {p : Program} {l : Launch} {e : Env} {s : State} {m : MethodId} {as : Array Value} {below : List Frame} {meth : Method} {c : Code} {A : Nat → Prop} {Q : State → Prop} {γ : wx_G} {o : Nat} {ad : Nat → Nat} {z : Int32} {f : xF} {g : xG} (C : CallFix p m c cX8_strength 2 s as lw_all RX8) (K : wx_C γ A s) (E : ∀ (H : Heap) (locs : List Loc) (ls : Array Slot) (pc : Nat), wx_w γ A s H locs (mw γ o ad f g) → decode cX8_strength pc = .ok (.ireturn, 1) → W p l e rmX8_strength s m as below meth c H locs 0 0 Q (F0 m pc ls [.int z])) {v1 : Int32} {H : Heap} {locs : List Loc} {ls : Array Slot} (w : wx_w γ A s H locs (mw γ o ad f g)) (hl : lv_has ls 2 [(0, .ref o), (1, .int v1)]) (hF : pX8_strength_0 f g v1 = some z) : W p l e rmX8_strength s m as below meth c H locs 0 0 Q (F0 m 0 ls []) := by
  have hx := C.1
  have hb := C.2.1
  unfold pX8_strength_0 at hF
  refine lv_iload_n hx hb dX8_strength_0 rfl (lv_at hl 1 rfl) ?_
  refine lv_iconst (v := (2 : Int32)) hx hb dX8_strength_1 (by decide) ?_
  refine lv_icmp_ne (tgt := 9) hx hb dX8_strength_2 (by decide) (fun c => ?_) (fun c => ?_)
  · have hF := (if_neg c).symm.trans hF
    refine lv_iload_n hx hb dX8_strength_9 rfl (lv_at hl 1 rfl) ?_
    refine lv_iconst (v := (3 : Int32)) hx hb dX8_strength_10 (by decide) ?_
    refine lv_icmp_ne (tgt := 18) hx hb dX8_strength_11 (by decide) (fun c => ?_) (fun c => ?_)
    · have hF := (if_neg c).symm.trans hF
      refine lv_iload_n hx hb dX8_strength_18 rfl (lv_at hl 1 rfl) ?_
      refine lv_iconst (v := (4 : Int32)) hx hb dX8_strength_19 (by decide) ?_
      refine lv_icmp_ne (tgt := 27) hx hb dX8_strength_20 (by decide) (fun c => ?_) (fun c => ?_)
      · have hF := (if_neg c).symm.trans hF
        refine lv_iload_n hx hb dX8_strength_27 rfl (lv_at hl 1 rfl) ?_
        refine lv_iconst (v := (5 : Int32)) hx hb dX8_strength_28 (by decide) ?_
        refine lv_icmp_eq (tgt := 38) hx hb dX8_strength_29 (by decide) (fun c => ?_) (fun c => ?_)
        · have hF := (if_pos c).symm.trans hF
          exact bX8_strength_38 C K E w (lv_sub hl [] rfl) hF
        · have hF := (if_neg c).symm.trans hF
          refine lv_iload_n hx hb dX8_strength_32 rfl (lv_at hl 1 rfl) ?_
          refine lv_bipush (v := (6 : Int32)) hx hb dX8_strength_33 (by decide) ?_
          refine lv_icmp_ne (tgt := 42) hx hb dX8_strength_35 (by decide) (fun c => ?_) (fun c => ?_)
          · have hF := (if_neg c).symm.trans hF
            refine lv_iload_n hx hb dX8_strength_42 rfl (lv_at hl 1 rfl) ?_
            refine lv_bipush (v := (7 : Int32)) hx hb dX8_strength_43 (by decide) ?_
            refine lv_icmp_eq (tgt := 54) hx hb dX8_strength_45 (by decide) (fun c => ?_) (fun c => ?_)
            · have hF := (if_pos c).symm.trans hF
              exact bX8_strength_54 C K E w (lv_sub hl [] rfl) hF
            · have hF := (if_neg c).symm.trans hF
              refine lv_iload_n hx hb dX8_strength_48 rfl (lv_at hl 1 rfl) ?_
              refine lv_bipush (v := (8 : Int32)) hx hb dX8_strength_49 (by decide) ?_
              refine lv_icmp_ne (tgt := 58) hx hb dX8_strength_51 (by decide) (fun c => ?_) (fun c => ?_)
              · have hF := (if_neg c).symm.trans hF
                refine lv_iload_n hx hb dX8_strength_58 rfl (lv_at hl 1 rfl) ?_
                refine lv_bipush (v := (9 : Int32)) hx hb dX8_strength_59 (by decide) ?_
                refine lv_icmp_ne (tgt := 69) hx hb dX8_strength_61 (by decide) (fun c => ?_) (fun c => ?_)
                · have hF := (if_neg c).symm.trans hF
                  refine lv_iload_n hx hb dX8_strength_69 rfl (lv_at hl 1 rfl) ?_
                  refine lv_bipush (v := (10 : Int32)) hx hb dX8_strength_70 (by decide) ?_
                  refine lv_icmp_ne (tgt := 80) hx hb dX8_strength_72 (by decide) (fun c => ?_) (fun c => ?_)
                  · have hF := (if_neg c).symm.trans hF
                    refine lv_iconst (v := (0 : Int32)) hx hb dX8_strength_80 (by decide) ?_
                    exact bX8_strength_81 C K E w (lv_sub hl [] rfl) hF
                  · have hF := (if_pos c).symm.trans hF
                    refine lv_bipush (v := (7 : Int32)) hx hb dX8_strength_75 (by decide) ?_
                    refine lv_goto (tgt := 81) hx hb dX8_strength_77 (by decide) ?_
                    exact bX8_strength_81 C K E w (lv_sub hl [] rfl) hF
                · have hF := (if_pos c).symm.trans hF
                  refine lv_bipush (v := (6 : Int32)) hx hb dX8_strength_64 (by decide) ?_
                  refine lv_goto (tgt := 81) hx hb dX8_strength_66 (by decide) ?_
                  exact bX8_strength_81 C K E w (lv_sub hl [] rfl) hF
              · have hF := (if_pos c).symm.trans hF
                exact bX8_strength_54 C K E w (lv_sub hl [] rfl) hF
          · have hF := (if_pos c).symm.trans hF
            exact bX8_strength_38 C K E w (lv_sub hl [] rfl) hF
      · have hF := (if_pos c).symm.trans hF
        refine lv_iconst (v := (3 : Int32)) hx hb dX8_strength_23 (by decide) ?_
        refine lv_goto (tgt := 81) hx hb dX8_strength_24 (by decide) ?_
        exact bX8_strength_81 C K E w (lv_sub hl [] rfl) hF
    · have hF := (if_pos c).symm.trans hF
      refine lv_iconst (v := (2 : Int32)) hx hb dX8_strength_14 (by decide) ?_
      refine lv_goto (tgt := 81) hx hb dX8_strength_15 (by decide) ?_
      exact bX8_strength_81 C K E w (lv_sub hl [] rfl) hF
  · have hF := (if_pos c).symm.trans hF
    refine lv_iconst (v := (1 : Int32)) hx hb dX8_strength_5 (by decide) ?_
    refine lv_goto (tgt := 81) hx hb dX8_strength_6 (by decide) ?_
    exact bX8_strength_81 C K E w (lv_sub hl [] rfl) hF

theorem mX8_strength {l : Launch} {γ : wx_G} {o : Nat} {ad : Nat → Nat} {f : xF} {g : xG} {v1 : Int32} {z : Int32} (hF : pX8_strength f g v1 = some z) : wx_M γ l yX8_strength (ws_ yX8_strength cX8_strength 2 (some .int)) rmX8_strength [.ref o, .int v1] (mw γ o ad f g) (fun v ws => v = some (.int z) ∧ ws = (mw γ o ad f g)) 0 0 := by
  refine wx_M.of (by decide) (Nat.le_of_ble_eq_true rfl) ?_
  intro p e s m as below meth c A ls C K w hr hlocks _ hl
  exact bX8_strength_0 C K (fun H locs ls pc w d => wx_iret C hr hlocks w ⟨rfl, rfl⟩ d) w hl hF
theorem rX8_strength {p : Program} {l : Launch} {e : Env} {R : Room} {s : State} {m : MethodId} {as : Array Value} {below : List Frame} {meth : Method} {c : Code} {H : Heap} {locs : List Loc} {cells slots : Nat} {Q : State → Prop} {cc : ByteArray} {nL pc : Nat} {ls : Array Slot} {rest : List Value} {γ : wx_G} {A : Nat → Prop} {o : Nat} {ad : Nat → Nat} {f : xF} {g : xG} {v1 : Int32} {z : Int32} (C : CallFix p m c cc nL s as lw_all RX8) (K : wx_C γ A s) (w : wx_w γ A s H locs (mw γ o ad f g)) (hF : pX8_strength f g v1 = some z) (hls : ls.size = nL) (hR : rmX8_strength.frames + 1 ≤ R.frames ∧ 8 + (2 + 11) + rmX8_strength.locals ≤ R.locals) (hW : (rest.map fun v => v.category).sum ≤ 8) (d : decode cc pc = .ok (.invokevirtual 221, 3)) (kk : ∀ (H : Heap) (locs : List Loc), wx_w γ A s H locs (mw γ o ad f g) → W p l e R s m as below meth c H locs cells slots Q (F0 m (pc + 3) ls (.int z :: rest))) (hf : cells ≤ R.cells ∧ slots ≤ R.slots := by exact ⟨Nat.le_of_ble_eq_true rfl, Nat.le_of_ble_eq_true rfl⟩) : W p l e R s m as below meth c H locs cells slots Q (F0 m pc ls (.int v1 :: .ref o :: rest)) :=
  wx_callV (n := 1) C K w (mX8_strength (l := l) hF) q1544 q1546 qs65 q123 q1547 rfl rfl (by decide +kernel) (va_recv K.1.1 w.1 (ci := 0) (q0 := 0) rfl rfl) rfl rfl hR hls hW hf d (fun v ws H1 locs1 hp w => by obtain ⟨rfl, rfl⟩ := hp; exact kk H1 locs1 w)

/-! WalkingStonesModel.put(II)V -/
abbrev rmX8_put : Room := { frames := 0, cells := 0, slots := 0, locals := 0 }
def pX8_put_0 (f : xF) (g : xG) (v1 : Int32) (v2 : Int32) : Option (xF × xG) := if gin (f 20) 2880 = true then if gin (f 20) 2880 = true then some (upd f 20 ((f 20) + (1 : Int32)), va_up (va_up g 22 (upd (g 22) (f 20).toNatClampNeg v1)) 23 (upd ((va_up g 22 (upd (g 22) (f 20).toNatClampNeg v1)) 23) (f 20).toNatClampNeg v2)) else none else none

abbrev pX8_put (f : xF) (g : xG) (v1 : Int32) (v2 : Int32) : Option (xF × xG) := pX8_put_0 f g v1 v2
theorem bX8_put_0 {p : Program} {l : Launch} {e : Env} {s : State} {m : MethodId} {as : Array Value} {below : List Frame} {meth : Method} {c : Code} {A : Nat → Prop} {Q : State → Prop} {γ : wx_G} {o : Nat} {ad : Nat → Nat} {z : xF × xG} (C : CallFix p m c cX8_put 3 s as lw_all RX8) (K : wx_C γ A s) (E : ∀ (H : Heap) (locs : List Loc) (ls : Array Slot) (pc : Nat), wx_w γ A s H locs (mw γ o ad z.1 z.2) → decode cX8_put pc = .ok (.return_, 1) → W p l e rmX8_put s m as below meth c H locs 0 0 Q (F0 m pc ls [])) {f : xF} {g : xG} {v1 : Int32} {v2 : Int32} {H : Heap} {locs : List Loc} {ls : Array Slot} (w : wx_w γ A s H locs (mw γ o ad f g)) (hl : lv_has ls 3 [(0, .ref o), (1, .int v1), (2, .int v2)]) (hF : pX8_put_0 f g v1 v2 = some z) : W p l e rmX8_put s m as below meth c H locs 0 0 Q (F0 m 0 ls []) := by
  have hx := C.1
  have hb := C.2.1
  unfold pX8_put_0 at hF
  refine lv_aload_n hx hb dX8_put_0 rfl (lv_at hl 0 rfl) ?_
  refine mget_22 C K w dX8_put_1 ?_
  refine lv_aload_n hx hb dX8_put_4 rfl (lv_at hl 0 rfl) ?_
  refine mget_20 C K w dX8_put_5 ?_
  refine lv_iload_n hx hb dX8_put_8 rfl (lv_at hl 1 rfl) ?_
  obtain ⟨hi, hF⟩ := gin_if hF
  refine mast_22 C K w hi dX8_put_9 (fun H locs w => ?_)
  refine lv_aload_n hx hb dX8_put_10 rfl (lv_at hl 0 rfl) ?_
  refine mget_23 C K w dX8_put_11 ?_
  refine lv_aload_n hx hb dX8_put_14 rfl (lv_at hl 0 rfl) ?_
  refine mget_20 C K w dX8_put_15 ?_
  refine lv_iload_n hx hb dX8_put_18 rfl (lv_at hl 2 rfl) ?_
  obtain ⟨hi, hF⟩ := gin_if hF
  refine mast_23 C K w hi dX8_put_19 (fun H locs w => ?_)
  refine lv_aload_n hx hb dX8_put_20 rfl (lv_at hl 0 rfl) ?_
  refine lv_dup hx hb dX8_put_21 rfl ?_
  refine mget_20 C K w dX8_put_22 ?_
  refine lv_iconst (v := (1 : Int32)) hx hb dX8_put_25 (by decide) ?_
  refine lv_iadd hx hb dX8_put_26 ?_
  refine mput_20 C K w dX8_put_27 (fun H locs w => ?_)
  have hF := Option.some.inj hF
  subst hF
  exact E _ _ _ _ w dX8_put_30

theorem mX8_put {l : Launch} {γ : wx_G} {o : Nat} {ad : Nat → Nat} {f : xF} {g : xG} {v1 : Int32} {v2 : Int32} {z : xF × xG} (hF : pX8_put f g v1 v2 = some z) : wx_M γ l yX8_put (ws_ yX8_put cX8_put 3 none) rmX8_put [.ref o, .int v1, .int v2] (mw γ o ad f g) (fun v ws => v = none ∧ ws = (mw γ o ad z.1 z.2)) 0 0 := by
  refine wx_M.of (by decide) (Nat.le_of_ble_eq_true rfl) ?_
  intro p e s m as below meth c A ls C K w hr hlocks _ hl
  exact bX8_put_0 C K (fun H locs ls pc w d => wx_vret C hr hlocks w ⟨rfl, rfl⟩ d) w hl hF
theorem rX8_put {p : Program} {l : Launch} {e : Env} {R : Room} {s : State} {m : MethodId} {as : Array Value} {below : List Frame} {meth : Method} {c : Code} {H : Heap} {locs : List Loc} {cells slots : Nat} {Q : State → Prop} {cc : ByteArray} {nL pc : Nat} {ls : Array Slot} {rest : List Value} {γ : wx_G} {A : Nat → Prop} {o : Nat} {ad : Nat → Nat} {f : xF} {g : xG} {v1 : Int32} {v2 : Int32} {z : xF × xG} (C : CallFix p m c cc nL s as lw_all RX8) (K : wx_C γ A s) (w : wx_w γ A s H locs (mw γ o ad f g)) (hF : pX8_put f g v1 v2 = some z) (hls : ls.size = nL) (hR : rmX8_put.frames + 1 ≤ R.frames ∧ 8 + (3 + 11) + rmX8_put.locals ≤ R.locals) (hW : (rest.map fun v => v.category).sum ≤ 8) (d : decode cc pc = .ok (.invokevirtual 224, 3)) (kk : ∀ (H : Heap) (locs : List Loc), wx_w γ A s H locs (mw γ o ad z.1 z.2) → W p l e R s m as below meth c H locs cells slots Q (F0 m (pc + 3) ls rest)) (hf : cells ≤ R.cells ∧ slots ≤ R.slots := by exact ⟨Nat.le_of_ble_eq_true rfl, Nat.le_of_ble_eq_true rfl⟩) : W p l e R s m as below meth c H locs cells slots Q (F0 m pc ls (.int v2 :: .int v1 :: .ref o :: rest)) :=
  wx_callV (n := 2) C K w (mX8_put (l := l) hF) q1548 q1550 qs66 q123 q1551 rfl rfl (by decide +kernel) (va_recv K.1.1 w.1 (ci := 0) (q0 := 0) rfl rfl) rfl rfl hR hls hW hf d (fun v ws H1 locs1 hp w => by obtain ⟨rfl, rfl⟩ := hp; exact kk H1 locs1 w)

/-! WalkingStonesModel.settle(I)V -/
abbrev rmX8_settle : Room := { frames := 1, cells := 0, slots := 0, locals := 22 }
def pX8_settle_73 (f : xF) (g : xG) : Option (xF × xG) := some (f, g)

def pX8_settle_60 (k0 : xF → xG → Int32 → Option (xF × xG)) (f : xF) (g : xG) (v1 : Int32) (v2 : Int32) (t1 : Int32) (t2 : Int32) : Option (xF × xG) := (pX8_put (upd f 18 (t1 - t2)) g v2 (0 : Int32)).bind (fun r67 => k0 r67.1 r67.2 v1)

def pX8_settle_55 (k0 : xF → xG → Int32 → Option (xF × xG)) (f : xF) (g : xG) (v1 : Int32) (v2 : Int32) (t1 : Int32) : Option (xF × xG) := pX8_settle_60 k0 f g v1 v2 t1 (1 : Int32)

def pX8_settle_0 : Nat → xF → xG → Int32 → Option (xF × xG)
  | 0, _, _, _ => none
  | n + 1, f, g, v1 => if (f 19) ≤ 0 then pX8_settle_73 f g else (pX8_top f g).bind (fun r9 => (pX8_strength f g r9).bind (fun r12 => if r12 < v1 then pX8_settle_73 f g else (if gin ((upd f 19 ((f 19) - (1 : Int32))) 19) 161 = true then if (g 25 ((upd f 19 ((f 19) - (1 : Int32))) 19).toNatClampNeg) = (4 : Int32) then pX8_settle_55 (pX8_settle_0 n) (upd f 19 ((f 19) - (1 : Int32))) g v1 (g 25 ((upd f 19 ((f 19) - (1 : Int32))) 19).toNatClampNeg) ((upd f 19 ((f 19) - (1 : Int32))) 18) else (if (g 25 ((upd f 19 ((f 19) - (1 : Int32))) 19).toNatClampNeg) = (10 : Int32) then pX8_settle_55 (pX8_settle_0 n) (upd f 19 ((f 19) - (1 : Int32))) g v1 (g 25 ((upd f 19 ((f 19) - (1 : Int32))) 19).toNatClampNeg) ((upd f 19 ((f 19) - (1 : Int32))) 18) else pX8_settle_60 (pX8_settle_0 n) (upd f 19 ((f 19) - (1 : Int32))) g v1 (g 25 ((upd f 19 ((f 19) - (1 : Int32))) 19).toNatClampNeg) ((upd f 19 ((f 19) - (1 : Int32))) 18) (0 : Int32)) else none)))

abbrev pX8_settle (f : xF) (g : xG) (v1 : Int32) : Option (xF × xG) := pX8_settle_0 5000 f g v1
theorem bX8_settle_73 {p : Program} {l : Launch} {e : Env} {s : State} {m : MethodId} {as : Array Value} {below : List Frame} {meth : Method} {c : Code} {A : Nat → Prop} {Q : State → Prop} {γ : wx_G} {o : Nat} {ad : Nat → Nat} {z : xF × xG} (C : CallFix p m c cX8_settle 3 s as lw_all RX8) (K : wx_C γ A s) (E : ∀ (H : Heap) (locs : List Loc) (ls : Array Slot) (pc : Nat), wx_w γ A s H locs (mw γ o ad z.1 z.2) → decode cX8_settle pc = .ok (.return_, 1) → W p l e rmX8_settle s m as below meth c H locs 0 0 Q (F0 m pc ls [])) {f : xF} {g : xG} {H : Heap} {locs : List Loc} {ls : Array Slot} (w : wx_w γ A s H locs (mw γ o ad f g)) (hl : lv_has ls 3 []) (hF : pX8_settle_73 f g = some z) : W p l e rmX8_settle s m as below meth c H locs 0 0 Q (F0 m 73 ls []) := by
  have hx := C.1
  have hb := C.2.1
  unfold pX8_settle_73 at hF
  have hF := Option.some.inj hF
  subst hF
  exact E _ _ _ _ w dX8_settle_73

theorem bX8_settle_60 {p : Program} {l : Launch} {e : Env} {s : State} {m : MethodId} {as : Array Value} {below : List Frame} {meth : Method} {c : Code} {A : Nat → Prop} {Q : State → Prop} {γ : wx_G} {o : Nat} {ad : Nat → Nat} {z : xF × xG} (C : CallFix p m c cX8_settle 3 s as lw_all RX8) (K : wx_C γ A s) (E : ∀ (H : Heap) (locs : List Loc) (ls : Array Slot) (pc : Nat), wx_w γ A s H locs (mw γ o ad z.1 z.2) → decode cX8_settle pc = .ok (.return_, 1) → W p l e rmX8_settle s m as below meth c H locs 0 0 Q (F0 m pc ls [])) {k0 : xF → xG → Int32 → Option (xF × xG)} (hk0 : ∀ (f : xF) (g : xG) (v1 : Int32) (H : Heap) (locs : List Loc) (ls : Array Slot), k0 f g v1 = some z → wx_w γ A s H locs (mw γ o ad f g) → lv_has ls 3 [(0, .ref o), (1, .int v1)] → W p l e rmX8_settle s m as below meth c H locs 0 0 Q (F0 m 0 ls [])) {f : xF} {g : xG} {v1 : Int32} {v2 : Int32} {t1 : Int32} {t2 : Int32} {H : Heap} {locs : List Loc} {ls : Array Slot} (w : wx_w γ A s H locs (mw γ o ad f g)) (hl : lv_has ls 3 [(0, .ref o), (1, .int v1), (2, .int v2)]) (hF : pX8_settle_60 k0 f g v1 v2 t1 t2 = some z) : W p l e rmX8_settle s m as below meth c H locs 0 0 Q (F0 m 60 ls [.int t2, .int t1, .ref o]) := by
  have hx := C.1
  have hb := C.2.1
  unfold pX8_settle_60 at hF
  refine lv_isub hx hb dX8_settle_60 ?_
  refine mput_18 C K w dX8_settle_61 (fun H locs w => ?_)
  refine lv_aload_n hx hb dX8_settle_64 rfl (lv_at hl 0 rfl) ?_
  refine lv_iload_n hx hb dX8_settle_65 rfl (lv_at hl 2 rfl) ?_
  refine lv_iconst (v := (0 : Int32)) hx hb dX8_settle_66 (by decide) ?_
  obtain ⟨r67, hr, hF⟩ := obd hF
  refine rX8_put C K w hr hl.1 ⟨Nat.le_of_ble_eq_true rfl, Nat.le_of_ble_eq_true rfl⟩ (Nat.le_of_ble_eq_true rfl) dX8_settle_67 (fun H locs w => ?_)
  refine lv_goto (tgt := 0) hx hb dX8_settle_70 (by decide) ?_
  exact hk0 _ _ _ _ _ _ hF w (lv_sub hl [0, 1] rfl)

theorem bX8_settle_55 {p : Program} {l : Launch} {e : Env} {s : State} {m : MethodId} {as : Array Value} {below : List Frame} {meth : Method} {c : Code} {A : Nat → Prop} {Q : State → Prop} {γ : wx_G} {o : Nat} {ad : Nat → Nat} {z : xF × xG} (C : CallFix p m c cX8_settle 3 s as lw_all RX8) (K : wx_C γ A s) (E : ∀ (H : Heap) (locs : List Loc) (ls : Array Slot) (pc : Nat), wx_w γ A s H locs (mw γ o ad z.1 z.2) → decode cX8_settle pc = .ok (.return_, 1) → W p l e rmX8_settle s m as below meth c H locs 0 0 Q (F0 m pc ls [])) {k0 : xF → xG → Int32 → Option (xF × xG)} (hk0 : ∀ (f : xF) (g : xG) (v1 : Int32) (H : Heap) (locs : List Loc) (ls : Array Slot), k0 f g v1 = some z → wx_w γ A s H locs (mw γ o ad f g) → lv_has ls 3 [(0, .ref o), (1, .int v1)] → W p l e rmX8_settle s m as below meth c H locs 0 0 Q (F0 m 0 ls [])) {f : xF} {g : xG} {v1 : Int32} {v2 : Int32} {t1 : Int32} {H : Heap} {locs : List Loc} {ls : Array Slot} (w : wx_w γ A s H locs (mw γ o ad f g)) (hl : lv_has ls 3 [(0, .ref o), (1, .int v1), (2, .int v2)]) (hF : pX8_settle_55 k0 f g v1 v2 t1 = some z) : W p l e rmX8_settle s m as below meth c H locs 0 0 Q (F0 m 55 ls [.int t1, .ref o]) := by
  have hx := C.1
  have hb := C.2.1
  unfold pX8_settle_55 at hF
  refine lv_iconst (v := (1 : Int32)) hx hb dX8_settle_55 (by decide) ?_
  refine lv_goto (tgt := 60) hx hb dX8_settle_56 (by decide) ?_
  exact bX8_settle_60 C K E hk0 w hl hF

theorem bX8_settle_0 {p : Program} {l : Launch} {e : Env} {s : State} {m : MethodId} {as : Array Value} {below : List Frame} {meth : Method} {c : Code} {A : Nat → Prop} {Q : State → Prop} {γ : wx_G} {o : Nat} {ad : Nat → Nat} {z : xF × xG} (C : CallFix p m c cX8_settle 3 s as lw_all RX8) (K : wx_C γ A s) (E : ∀ (H : Heap) (locs : List Loc) (ls : Array Slot) (pc : Nat), wx_w γ A s H locs (mw γ o ad z.1 z.2) → decode cX8_settle pc = .ok (.return_, 1) → W p l e rmX8_settle s m as below meth c H locs 0 0 Q (F0 m pc ls [])) : ∀ (n : Nat) (f : xF) (g : xG) (v1 : Int32) (H : Heap) (locs : List Loc) (ls : Array Slot), pX8_settle_0 n f g v1 = some z → wx_w γ A s H locs (mw γ o ad f g) → lv_has ls 3 [(0, .ref o), (1, .int v1)] → W p l e rmX8_settle s m as below meth c H locs 0 0 Q (F0 m 0 ls []) := by
  have hx := C.1
  have hb := C.2.1
  intro n
  induction n with
  | zero =>
    intro f g v1 H locs ls hF w hl
    have hF : (none : Option (xF × xG)) = some z := hF
    cases hF
  | succ n ih =>
    intro f g v1 H locs ls hF w hl
    rw [pX8_settle_0] at hF
    refine lv_aload_n hx hb dX8_settle_0 rfl (lv_at hl 0 rfl) ?_
    refine mget_19 C K w dX8_settle_1 ?_
    refine lv_if_le (tgt := 73) hx hb dX8_settle_4 (by decide) (fun c => ?_) (fun c => ?_)
    · have hF := (if_pos c).symm.trans hF
      exact bX8_settle_73 C K E w (lv_sub hl [] rfl) hF
    · have hF := (if_neg c).symm.trans hF
      refine lv_aload_n hx hb dX8_settle_7 rfl (lv_at hl 0 rfl) ?_
      refine lv_aload_n hx hb dX8_settle_8 rfl (lv_at hl 0 rfl) ?_
      obtain ⟨r9, hr, hF⟩ := obd hF
      refine rX8_top C K w hr hl.1 ⟨Nat.le_of_ble_eq_true rfl, Nat.le_of_ble_eq_true rfl⟩ (Nat.le_of_ble_eq_true rfl) dX8_settle_9 (fun H locs w => ?_)
      obtain ⟨r12, hr, hF⟩ := obd hF
      refine rX8_strength C K w hr hl.1 ⟨Nat.le_of_ble_eq_true rfl, Nat.le_of_ble_eq_true rfl⟩ (Nat.le_of_ble_eq_true rfl) dX8_settle_12 (fun H locs w => ?_)
      refine lv_iload_n hx hb dX8_settle_15 rfl (lv_at hl 1 rfl) ?_
      refine lv_icmp_lt (tgt := 73) hx hb dX8_settle_16 (by decide) (fun c => ?_) (fun c => ?_)
      · have hF := (if_pos c).symm.trans hF
        exact bX8_settle_73 C K E w (lv_sub hl [] rfl) hF
      · have hF := (if_neg c).symm.trans hF
        refine lv_aload_n hx hb dX8_settle_19 rfl (lv_at hl 0 rfl) ?_
        refine lv_dup hx hb dX8_settle_20 rfl ?_
        refine mget_19 C K w dX8_settle_21 ?_
        refine lv_iconst (v := (1 : Int32)) hx hb dX8_settle_24 (by decide) ?_
        refine lv_isub hx hb dX8_settle_25 ?_
        refine mput_19 C K w dX8_settle_26 (fun H locs w => ?_)
        refine lv_aload_n hx hb dX8_settle_29 rfl (lv_at hl 0 rfl) ?_
        refine mget_25 C K w dX8_settle_30 ?_
        refine lv_aload_n hx hb dX8_settle_33 rfl (lv_at hl 0 rfl) ?_
        refine mget_19 C K w dX8_settle_34 ?_
        obtain ⟨hi, hF⟩ := gin_if hF
        refine mald_25 C K w hi dX8_settle_37 ?_
        refine lv_istore_n (lv' := [(2, .int (g 25 ((upd f 19 ((f 19) - (1 : Int32))) 19).toNatClampNeg)), (0, .ref o), (1, .int v1)]) hx hb dX8_settle_38 rfl hl (by decide) rfl (fun ls hl => ?_)
        refine lv_aload_n hx hb dX8_settle_39 rfl (lv_at hl 1 rfl) ?_
        refine lv_dup hx hb dX8_settle_40 rfl ?_
        refine mget_18 C K w dX8_settle_41 ?_
        refine lv_iload_n hx hb dX8_settle_44 rfl (lv_at hl 0 rfl) ?_
        refine lv_iconst (v := (4 : Int32)) hx hb dX8_settle_45 (by decide) ?_
        refine lv_icmp_eq (tgt := 55) hx hb dX8_settle_46 (by decide) (fun c => ?_) (fun c => ?_)
        · have hF := (if_pos c).symm.trans hF
          exact bX8_settle_55 C K E ih w (lv_sub hl [1, 2, 0] rfl) hF
        · have hF := (if_neg c).symm.trans hF
          refine lv_iload_n hx hb dX8_settle_49 rfl (lv_at hl 0 rfl) ?_
          refine lv_bipush (v := (10 : Int32)) hx hb dX8_settle_50 (by decide) ?_
          refine lv_icmp_ne (tgt := 59) hx hb dX8_settle_52 (by decide) (fun c => ?_) (fun c => ?_)
          · have hF := (if_neg c).symm.trans hF
            refine lv_iconst (v := (0 : Int32)) hx hb dX8_settle_59 (by decide) ?_
            exact bX8_settle_60 C K E ih w (lv_sub hl [1, 2, 0] rfl) hF
          · have hF := (if_pos c).symm.trans hF
            exact bX8_settle_55 C K E ih w (lv_sub hl [1, 2, 0] rfl) hF

theorem mX8_settle {l : Launch} {γ : wx_G} {o : Nat} {ad : Nat → Nat} {f : xF} {g : xG} {v1 : Int32} {z : xF × xG} (hF : pX8_settle f g v1 = some z) : wx_M γ l yX8_settle (ws_ yX8_settle cX8_settle 3 none) rmX8_settle [.ref o, .int v1] (mw γ o ad f g) (fun v ws => v = none ∧ ws = (mw γ o ad z.1 z.2)) 0 0 := by
  refine wx_M.of (by decide) (Nat.le_of_ble_eq_true rfl) ?_
  intro p e s m as below meth c A ls C K w hr hlocks _ hl
  exact bX8_settle_0 C K (fun H locs ls pc w d => wx_vret C hr hlocks w ⟨rfl, rfl⟩ d) 5000 f g v1 _ _ _ hF w hl
theorem rX8_settle {p : Program} {l : Launch} {e : Env} {R : Room} {s : State} {m : MethodId} {as : Array Value} {below : List Frame} {meth : Method} {c : Code} {H : Heap} {locs : List Loc} {cells slots : Nat} {Q : State → Prop} {cc : ByteArray} {nL pc : Nat} {ls : Array Slot} {rest : List Value} {γ : wx_G} {A : Nat → Prop} {o : Nat} {ad : Nat → Nat} {f : xF} {g : xG} {v1 : Int32} {z : xF × xG} (C : CallFix p m c cc nL s as lw_all RX8) (K : wx_C γ A s) (w : wx_w γ A s H locs (mw γ o ad f g)) (hF : pX8_settle f g v1 = some z) (hls : ls.size = nL) (hR : rmX8_settle.frames + 1 ≤ R.frames ∧ 8 + (3 + 11) + rmX8_settle.locals ≤ R.locals) (hW : (rest.map fun v => v.category).sum ≤ 8) (d : decode cc pc = .ok (.invokevirtual 231, 3)) (kk : ∀ (H : Heap) (locs : List Loc), wx_w γ A s H locs (mw γ o ad z.1 z.2) → W p l e R s m as below meth c H locs cells slots Q (F0 m (pc + 3) ls rest)) (hf : cells ≤ R.cells ∧ slots ≤ R.slots := by exact ⟨Nat.le_of_ble_eq_true rfl, Nat.le_of_ble_eq_true rfl⟩) : W p l e R s m as below meth c H locs cells slots Q (F0 m pc ls (.int v1 :: .ref o :: rest)) :=
  wx_callV (n := 1) C K w (mX8_settle (l := l) hF) q1536 q1538 qs63 q123 q1539 rfl rfl (by decide +kernel) (va_recv K.1.1 w.1 (ci := 0) (q0 := 0) rfl rfl) rfl rfl hR hls hW hf d (fun v ws H1 locs1 hp w => by obtain ⟨rfl, rfl⟩ := hp; exact kk H1 locs1 w)

/-! WalkingStonesModel.pushSign(I)V -/
abbrev rmX8_pushSign : Room := { frames := 0, cells := 0, slots := 0, locals := 0 }
def pX8_pushSign_0 (f : xF) (g : xG) (v1 : Int32) : Option (xF × xG) := if gin (f 19) 161 = true then some (upd f 19 ((f 19) + (1 : Int32)), va_up g 25 (upd (g 25) (f 19).toNatClampNeg v1)) else none

abbrev pX8_pushSign (f : xF) (g : xG) (v1 : Int32) : Option (xF × xG) := pX8_pushSign_0 f g v1
theorem bX8_pushSign_0 {p : Program} {l : Launch} {e : Env} {s : State} {m : MethodId} {as : Array Value} {below : List Frame} {meth : Method} {c : Code} {A : Nat → Prop} {Q : State → Prop} {γ : wx_G} {o : Nat} {ad : Nat → Nat} {z : xF × xG} (C : CallFix p m c cX8_pushSign 2 s as lw_all RX8) (K : wx_C γ A s) (E : ∀ (H : Heap) (locs : List Loc) (ls : Array Slot) (pc : Nat), wx_w γ A s H locs (mw γ o ad z.1 z.2) → decode cX8_pushSign pc = .ok (.return_, 1) → W p l e rmX8_pushSign s m as below meth c H locs 0 0 Q (F0 m pc ls [])) {f : xF} {g : xG} {v1 : Int32} {H : Heap} {locs : List Loc} {ls : Array Slot} (w : wx_w γ A s H locs (mw γ o ad f g)) (hl : lv_has ls 2 [(0, .ref o), (1, .int v1)]) (hF : pX8_pushSign_0 f g v1 = some z) : W p l e rmX8_pushSign s m as below meth c H locs 0 0 Q (F0 m 0 ls []) := by
  have hx := C.1
  have hb := C.2.1
  unfold pX8_pushSign_0 at hF
  refine lv_aload_n hx hb dX8_pushSign_0 rfl (lv_at hl 0 rfl) ?_
  refine mget_25 C K w dX8_pushSign_1 ?_
  refine lv_aload_n hx hb dX8_pushSign_4 rfl (lv_at hl 0 rfl) ?_
  refine mget_19 C K w dX8_pushSign_5 ?_
  refine lv_iload_n hx hb dX8_pushSign_8 rfl (lv_at hl 1 rfl) ?_
  obtain ⟨hi, hF⟩ := gin_if hF
  refine mast_25 C K w hi dX8_pushSign_9 (fun H locs w => ?_)
  refine lv_aload_n hx hb dX8_pushSign_10 rfl (lv_at hl 0 rfl) ?_
  refine lv_dup hx hb dX8_pushSign_11 rfl ?_
  refine mget_19 C K w dX8_pushSign_12 ?_
  refine lv_iconst (v := (1 : Int32)) hx hb dX8_pushSign_15 (by decide) ?_
  refine lv_iadd hx hb dX8_pushSign_16 ?_
  refine mput_19 C K w dX8_pushSign_17 (fun H locs w => ?_)
  have hF := Option.some.inj hF
  subst hF
  exact E _ _ _ _ w dX8_pushSign_20

theorem mX8_pushSign {l : Launch} {γ : wx_G} {o : Nat} {ad : Nat → Nat} {f : xF} {g : xG} {v1 : Int32} {z : xF × xG} (hF : pX8_pushSign f g v1 = some z) : wx_M γ l yX8_pushSign (ws_ yX8_pushSign cX8_pushSign 2 none) rmX8_pushSign [.ref o, .int v1] (mw γ o ad f g) (fun v ws => v = none ∧ ws = (mw γ o ad z.1 z.2)) 0 0 := by
  refine wx_M.of (by decide) (Nat.le_of_ble_eq_true rfl) ?_
  intro p e s m as below meth c A ls C K w hr hlocks _ hl
  exact bX8_pushSign_0 C K (fun H locs ls pc w d => wx_vret C hr hlocks w ⟨rfl, rfl⟩ d) w hl hF
theorem rX8_pushSign {p : Program} {l : Launch} {e : Env} {R : Room} {s : State} {m : MethodId} {as : Array Value} {below : List Frame} {meth : Method} {c : Code} {H : Heap} {locs : List Loc} {cells slots : Nat} {Q : State → Prop} {cc : ByteArray} {nL pc : Nat} {ls : Array Slot} {rest : List Value} {γ : wx_G} {A : Nat → Prop} {o : Nat} {ad : Nat → Nat} {f : xF} {g : xG} {v1 : Int32} {z : xF × xG} (C : CallFix p m c cc nL s as lw_all RX8) (K : wx_C γ A s) (w : wx_w γ A s H locs (mw γ o ad f g)) (hF : pX8_pushSign f g v1 = some z) (hls : ls.size = nL) (hR : rmX8_pushSign.frames + 1 ≤ R.frames ∧ 8 + (2 + 11) + rmX8_pushSign.locals ≤ R.locals) (hW : (rest.map fun v => v.category).sum ≤ 8) (d : decode cc pc = .ok (.invokevirtual 228, 3)) (kk : ∀ (H : Heap) (locs : List Loc), wx_w γ A s H locs (mw γ o ad z.1 z.2) → W p l e R s m as below meth c H locs cells slots Q (F0 m (pc + 3) ls rest)) (hf : cells ≤ R.cells ∧ slots ≤ R.slots := by exact ⟨Nat.le_of_ble_eq_true rfl, Nat.le_of_ble_eq_true rfl⟩) : W p l e R s m as below meth c H locs cells slots Q (F0 m pc ls (.int v1 :: .ref o :: rest)) :=
  wx_callV (n := 1) C K w (mX8_pushSign (l := l) hF) q1560 q1562 qs69 q123 q1563 rfl rfl (by decide +kernel) (va_recv K.1.1 w.1 (ci := 0) (q0 := 0) rfl rfl) rfl rfl hR hls hW hf d (fun v ws H1 locs1 hp w => by obtain ⟨rfl, rfl⟩ := hp; exact kk H1 locs1 w)

/-! WalkingStonesModel.opens(I)Z -/
abbrev rmX8_opens : Room := { frames := 1, cells := 0, slots := 0, locals := 21 }
def pX8_opens_0 (f : xF) (g : xG) (v1 : Int32) : Option (Int32 × xF × xG) := if (f 18) = (5 : Int32) then some ((0 : Int32), f, g) else (pX8_pushSign (upd f 18 ((f 18) + (1 : Int32))) g v1).bind (fun r22 => some ((1 : Int32), r22.1, r22.2))

abbrev pX8_opens (f : xF) (g : xG) (v1 : Int32) : Option (Int32 × xF × xG) := pX8_opens_0 f g v1
theorem bX8_opens_0 {p : Program} {l : Launch} {e : Env} {s : State} {m : MethodId} {as : Array Value} {below : List Frame} {meth : Method} {c : Code} {A : Nat → Prop} {Q : State → Prop} {γ : wx_G} {o : Nat} {ad : Nat → Nat} {z : Int32 × xF × xG} (C : CallFix p m c cX8_opens 2 s as lw_all RX8) (K : wx_C γ A s) (E : ∀ (H : Heap) (locs : List Loc) (ls : Array Slot) (pc : Nat), narrow .boolean (.int z.1) = .int z.1 → wx_w γ A s H locs (mw γ o ad z.2.1 z.2.2) → decode cX8_opens pc = .ok (.ireturn, 1) → W p l e rmX8_opens s m as below meth c H locs 0 0 Q (F0 m pc ls [.int z.1])) {f : xF} {g : xG} {v1 : Int32} {H : Heap} {locs : List Loc} {ls : Array Slot} (w : wx_w γ A s H locs (mw γ o ad f g)) (hl : lv_has ls 2 [(0, .ref o), (1, .int v1)]) (hF : pX8_opens_0 f g v1 = some z) : W p l e rmX8_opens s m as below meth c H locs 0 0 Q (F0 m 0 ls []) := by
  have hx := C.1
  have hb := C.2.1
  unfold pX8_opens_0 at hF
  refine lv_aload_n hx hb dX8_opens_0 rfl (lv_at hl 0 rfl) ?_
  refine mget_18 C K w dX8_opens_1 ?_
  refine lv_iconst (v := (5 : Int32)) hx hb dX8_opens_4 (by decide) ?_
  refine lv_icmp_ne (tgt := 10) hx hb dX8_opens_5 (by decide) (fun c => ?_) (fun c => ?_)
  · have hF := (if_neg c).symm.trans hF
    refine lv_aload_n hx hb dX8_opens_10 rfl (lv_at hl 0 rfl) ?_
    refine lv_dup hx hb dX8_opens_11 rfl ?_
    refine mget_18 C K w dX8_opens_12 ?_
    refine lv_iconst (v := (1 : Int32)) hx hb dX8_opens_15 (by decide) ?_
    refine lv_iadd hx hb dX8_opens_16 ?_
    refine mput_18 C K w dX8_opens_17 (fun H locs w => ?_)
    refine lv_aload_n hx hb dX8_opens_20 rfl (lv_at hl 0 rfl) ?_
    refine lv_iload_n hx hb dX8_opens_21 rfl (lv_at hl 1 rfl) ?_
    obtain ⟨r22, hr, hF⟩ := obd hF
    refine rX8_pushSign C K w hr hl.1 ⟨Nat.le_of_ble_eq_true rfl, Nat.le_of_ble_eq_true rfl⟩ (Nat.le_of_ble_eq_true rfl) dX8_opens_22 (fun H locs w => ?_)
    refine lv_iconst (v := (1 : Int32)) hx hb dX8_opens_25 (by decide) ?_
    have hF := Option.some.inj hF
    subst hF
    exact E _ _ _ _ wx_nz1 w dX8_opens_26
  · have hF := (if_pos c).symm.trans hF
    refine lv_iconst (v := (0 : Int32)) hx hb dX8_opens_8 (by decide) ?_
    have hF := Option.some.inj hF
    subst hF
    exact E _ _ _ _ wx_nz0 w dX8_opens_9

theorem mX8_opens {l : Launch} {γ : wx_G} {o : Nat} {ad : Nat → Nat} {f : xF} {g : xG} {v1 : Int32} {z : Int32 × xF × xG} (hF : pX8_opens f g v1 = some z) : wx_M γ l yX8_opens (ws_ yX8_opens cX8_opens 2 (some .boolean)) rmX8_opens [.ref o, .int v1] (mw γ o ad f g) (fun v ws => v = some (.int z.1) ∧ ws = (mw γ o ad z.2.1 z.2.2)) 0 0 := by
  refine wx_M.of (by decide) (Nat.le_of_ble_eq_true rfl) ?_
  intro p e s m as below meth c A ls C K w hr hlocks _ hl
  exact bX8_opens_0 C K (fun H locs ls pc hz w d => wx_zret C hr hlocks hz w ⟨rfl, rfl⟩ d) w hl hF
theorem rX8_opens {p : Program} {l : Launch} {e : Env} {R : Room} {s : State} {m : MethodId} {as : Array Value} {below : List Frame} {meth : Method} {c : Code} {H : Heap} {locs : List Loc} {cells slots : Nat} {Q : State → Prop} {cc : ByteArray} {nL pc : Nat} {ls : Array Slot} {rest : List Value} {γ : wx_G} {A : Nat → Prop} {o : Nat} {ad : Nat → Nat} {f : xF} {g : xG} {v1 : Int32} {z : Int32 × xF × xG} (C : CallFix p m c cc nL s as lw_all RX8) (K : wx_C γ A s) (w : wx_w γ A s H locs (mw γ o ad f g)) (hF : pX8_opens f g v1 = some z) (hls : ls.size = nL) (hR : rmX8_opens.frames + 1 ≤ R.frames ∧ 8 + (2 + 11) + rmX8_opens.locals ≤ R.locals) (hW : (rest.map fun v => v.category).sum ≤ 8) (d : decode cc pc = .ok (.invokevirtual 234, 3)) (kk : ∀ (H : Heap) (locs : List Loc), wx_w γ A s H locs (mw γ o ad z.2.1 z.2.2) → W p l e R s m as below meth c H locs cells slots Q (F0 m (pc + 3) ls (.int z.1 :: rest))) (hf : cells ≤ R.cells ∧ slots ≤ R.slots := by exact ⟨Nat.le_of_ble_eq_true rfl, Nat.le_of_ble_eq_true rfl⟩) : W p l e R s m as below meth c H locs cells slots Q (F0 m pc ls (.int v1 :: .ref o :: rest)) :=
  wx_callV (n := 1) C K w (mX8_opens (l := l) hF) q1556 q1558 qs68 q123 q1559 rfl rfl (by decide +kernel) (va_recv K.1.1 w.1 (ci := 0) (q0 := 0) rfl rfl) rfl rfl hR hls hW hf d (fun v ws H1 locs1 hp w => by obtain ⟨rfl, rfl⟩ := hp; exact kk H1 locs1 w)

/-! WalkingStonesModel.takesOne(Z)I -/
abbrev rmX8_takesOne : Room := { frames := 2, cells := 0, slots := 0, locals := 44 }
def pX8_takesOne_64 (f : xF) (g : xG) (t1 : Int32) (t2 : Int32) : Option (Int32 × xF × xG) := (pX8_put f g t1 t2).bind (fun r64 => (pX8_settle r64.1 r64.2 (7 : Int32)).bind (fun r70 => some ((2 : Int32), r70.1, r70.2)))

def pX8_takesOne_41 (f : xF) (g : xG) (t1 : Int32) : Option (Int32 × xF × xG) := if (f 15) = (1 : Int32) then pX8_takesOne_64 f g t1 (f 16) else (pX8_nameOf f g (f 16)).bind (fun r61 => pX8_takesOne_64 f g t1 r61)

def pX8_takesOne_27 (f : xF) (g : xG) : Option (Int32 × xF × xG) := if (f 15) = (1 : Int32) then pX8_takesOne_41 f g (0 : Int32) else pX8_takesOne_41 f g (1 : Int32)

def pX8_takesOne_150 (f : xF) (g : xG) (t0 : Int32) : Option (Int32 × xF × xG) := some (t0, f, g)

def pX8_takesOne_149 (f : xF) (g : xG) : Option (Int32 × xF × xG) := pX8_takesOne_150 f g (0 : Int32)

def pX8_takesOne_122 (f : xF) (g : xG) (t0 : Int32) : Option (Int32 × xF × xG) := some (t0, f, g)

def pX8_takesOne_98 (f : xF) (g : xG) (t0 : Int32) : Option (Int32 × xF × xG) := some (t0, f, g)

def pX8_takesOne_75 (f : xF) (g : xG) (v1 : Int32) : Option (Int32 × xF × xG) := if (f 15) = (45 : Int32) then (pX8_opens f g (10 : Int32)).bind (fun r87 => if r87.1 = 0 then pX8_takesOne_98 r87.2.1 r87.2.2 (0 : Int32) else pX8_takesOne_98 r87.2.1 r87.2.2 (1 : Int32)) else (if (f 15) = (40 : Int32) then (pX8_opens f g (20 : Int32)).bind (fun r111 => if r111.1 = 0 then pX8_takesOne_122 r111.2.1 r111.2.2 (0 : Int32) else pX8_takesOne_122 r111.2.1 r111.2.2 (1 : Int32)) else (pX8_isWord f g (14836 : Int32)).bind (fun r127 => if r127 = 0 then pX8_takesOne_149 f g else (if v1 = 0 then pX8_takesOne_149 f g else (pX8_opens f g (4 : Int32)).bind (fun r139 => if r139.1 = 0 then pX8_takesOne_149 r139.2.1 r139.2.2 else pX8_takesOne_150 r139.2.1 r139.2.2 (1 : Int32)))))

def pX8_takesOne_0 (f : xF) (g : xG) (v1 : Int32) : Option (Int32 × xF × xG) := if (f 15) = (1 : Int32) then pX8_takesOne_27 f g else (if (f 15) = (2 : Int32) then (pX8_nameOf f g (f 16)).bind (fun r21 => if r21 < 0 then pX8_takesOne_75 f g v1 else pX8_takesOne_27 f g) else pX8_takesOne_75 f g v1)

abbrev pX8_takesOne (f : xF) (g : xG) (v1 : Int32) : Option (Int32 × xF × xG) := pX8_takesOne_0 f g v1
theorem bX8_takesOne_64 {p : Program} {l : Launch} {e : Env} {s : State} {m : MethodId} {as : Array Value} {below : List Frame} {meth : Method} {c : Code} {A : Nat → Prop} {Q : State → Prop} {γ : wx_G} {o : Nat} {ad : Nat → Nat} {z : Int32 × xF × xG} (C : CallFix p m c cX8_takesOne 2 s as lw_all RX8) (K : wx_C γ A s) (E : ∀ (H : Heap) (locs : List Loc) (ls : Array Slot) (pc : Nat), wx_w γ A s H locs (mw γ o ad z.2.1 z.2.2) → decode cX8_takesOne pc = .ok (.ireturn, 1) → W p l e rmX8_takesOne s m as below meth c H locs 0 0 Q (F0 m pc ls [.int z.1])) {f : xF} {g : xG} {t1 : Int32} {t2 : Int32} {H : Heap} {locs : List Loc} {ls : Array Slot} (w : wx_w γ A s H locs (mw γ o ad f g)) (hl : lv_has ls 2 [(0, .ref o)]) (hF : pX8_takesOne_64 f g t1 t2 = some z) : W p l e rmX8_takesOne s m as below meth c H locs 0 0 Q (F0 m 64 ls [.int t2, .int t1, .ref o]) := by
  have hx := C.1
  have hb := C.2.1
  unfold pX8_takesOne_64 at hF
  obtain ⟨r64, hr, hF⟩ := obd hF
  refine rX8_put C K w hr hl.1 ⟨Nat.le_of_ble_eq_true rfl, Nat.le_of_ble_eq_true rfl⟩ (Nat.le_of_ble_eq_true rfl) dX8_takesOne_64 (fun H locs w => ?_)
  refine lv_aload_n hx hb dX8_takesOne_67 rfl (lv_at hl 0 rfl) ?_
  refine lv_bipush (v := (7 : Int32)) hx hb dX8_takesOne_68 (by decide) ?_
  obtain ⟨r70, hr, hF⟩ := obd hF
  refine rX8_settle C K w hr hl.1 ⟨Nat.le_of_ble_eq_true rfl, Nat.le_of_ble_eq_true rfl⟩ (Nat.le_of_ble_eq_true rfl) dX8_takesOne_70 (fun H locs w => ?_)
  refine lv_iconst (v := (2 : Int32)) hx hb dX8_takesOne_73 (by decide) ?_
  have hF := Option.some.inj hF
  subst hF
  exact E _ _ _ _ w dX8_takesOne_74

theorem bX8_takesOne_41 {p : Program} {l : Launch} {e : Env} {s : State} {m : MethodId} {as : Array Value} {below : List Frame} {meth : Method} {c : Code} {A : Nat → Prop} {Q : State → Prop} {γ : wx_G} {o : Nat} {ad : Nat → Nat} {z : Int32 × xF × xG} (C : CallFix p m c cX8_takesOne 2 s as lw_all RX8) (K : wx_C γ A s) (E : ∀ (H : Heap) (locs : List Loc) (ls : Array Slot) (pc : Nat), wx_w γ A s H locs (mw γ o ad z.2.1 z.2.2) → decode cX8_takesOne pc = .ok (.ireturn, 1) → W p l e rmX8_takesOne s m as below meth c H locs 0 0 Q (F0 m pc ls [.int z.1])) {f : xF} {g : xG} {t1 : Int32} {H : Heap} {locs : List Loc} {ls : Array Slot} (w : wx_w γ A s H locs (mw γ o ad f g)) (hl : lv_has ls 2 [(0, .ref o)]) (hF : pX8_takesOne_41 f g t1 = some z) : W p l e rmX8_takesOne s m as below meth c H locs 0 0 Q (F0 m 41 ls [.int t1, .ref o]) := by
  have hx := C.1
  have hb := C.2.1
  unfold pX8_takesOne_41 at hF
  refine lv_aload_n hx hb dX8_takesOne_41 rfl (lv_at hl 0 rfl) ?_
  refine mget_15 C K w dX8_takesOne_42 ?_
  refine lv_iconst (v := (1 : Int32)) hx hb dX8_takesOne_45 (by decide) ?_
  refine lv_icmp_ne (tgt := 56) hx hb dX8_takesOne_46 (by decide) (fun c => ?_) (fun c => ?_)
  · have hF := (if_neg c).symm.trans hF
    refine lv_aload_n hx hb dX8_takesOne_56 rfl (lv_at hl 0 rfl) ?_
    refine lv_aload_n hx hb dX8_takesOne_57 rfl (lv_at hl 0 rfl) ?_
    refine mget_16 C K w dX8_takesOne_58 ?_
    obtain ⟨r61, hr, hF⟩ := obd hF
    refine rX8_nameOf C K w hr hl.1 ⟨Nat.le_of_ble_eq_true rfl, Nat.le_of_ble_eq_true rfl⟩ (Nat.le_of_ble_eq_true rfl) dX8_takesOne_61 (fun H locs w => ?_)
    exact bX8_takesOne_64 C K E w hl hF
  · have hF := (if_pos c).symm.trans hF
    refine lv_aload_n hx hb dX8_takesOne_49 rfl (lv_at hl 0 rfl) ?_
    refine mget_16 C K w dX8_takesOne_50 ?_
    refine lv_goto (tgt := 64) hx hb dX8_takesOne_53 (by decide) ?_
    exact bX8_takesOne_64 C K E w hl hF

theorem bX8_takesOne_27 {p : Program} {l : Launch} {e : Env} {s : State} {m : MethodId} {as : Array Value} {below : List Frame} {meth : Method} {c : Code} {A : Nat → Prop} {Q : State → Prop} {γ : wx_G} {o : Nat} {ad : Nat → Nat} {z : Int32 × xF × xG} (C : CallFix p m c cX8_takesOne 2 s as lw_all RX8) (K : wx_C γ A s) (E : ∀ (H : Heap) (locs : List Loc) (ls : Array Slot) (pc : Nat), wx_w γ A s H locs (mw γ o ad z.2.1 z.2.2) → decode cX8_takesOne pc = .ok (.ireturn, 1) → W p l e rmX8_takesOne s m as below meth c H locs 0 0 Q (F0 m pc ls [.int z.1])) {f : xF} {g : xG} {H : Heap} {locs : List Loc} {ls : Array Slot} (w : wx_w γ A s H locs (mw γ o ad f g)) (hl : lv_has ls 2 [(0, .ref o)]) (hF : pX8_takesOne_27 f g = some z) : W p l e rmX8_takesOne s m as below meth c H locs 0 0 Q (F0 m 27 ls []) := by
  have hx := C.1
  have hb := C.2.1
  unfold pX8_takesOne_27 at hF
  refine lv_aload_n hx hb dX8_takesOne_27 rfl (lv_at hl 0 rfl) ?_
  refine lv_aload_n hx hb dX8_takesOne_28 rfl (lv_at hl 0 rfl) ?_
  refine mget_15 C K w dX8_takesOne_29 ?_
  refine lv_iconst (v := (1 : Int32)) hx hb dX8_takesOne_32 (by decide) ?_
  refine lv_icmp_ne (tgt := 40) hx hb dX8_takesOne_33 (by decide) (fun c => ?_) (fun c => ?_)
  · have hF := (if_neg c).symm.trans hF
    refine lv_iconst (v := (1 : Int32)) hx hb dX8_takesOne_40 (by decide) ?_
    exact bX8_takesOne_41 C K E w hl hF
  · have hF := (if_pos c).symm.trans hF
    refine lv_iconst (v := (0 : Int32)) hx hb dX8_takesOne_36 (by decide) ?_
    refine lv_goto (tgt := 41) hx hb dX8_takesOne_37 (by decide) ?_
    exact bX8_takesOne_41 C K E w hl hF

theorem bX8_takesOne_150 {p : Program} {l : Launch} {e : Env} {s : State} {m : MethodId} {as : Array Value} {below : List Frame} {meth : Method} {c : Code} {A : Nat → Prop} {Q : State → Prop} {γ : wx_G} {o : Nat} {ad : Nat → Nat} {z : Int32 × xF × xG} (C : CallFix p m c cX8_takesOne 2 s as lw_all RX8) (K : wx_C γ A s) (E : ∀ (H : Heap) (locs : List Loc) (ls : Array Slot) (pc : Nat), wx_w γ A s H locs (mw γ o ad z.2.1 z.2.2) → decode cX8_takesOne pc = .ok (.ireturn, 1) → W p l e rmX8_takesOne s m as below meth c H locs 0 0 Q (F0 m pc ls [.int z.1])) {f : xF} {g : xG} {t0 : Int32} {H : Heap} {locs : List Loc} {ls : Array Slot} (w : wx_w γ A s H locs (mw γ o ad f g)) (hl : lv_has ls 2 []) (hF : pX8_takesOne_150 f g t0 = some z) : W p l e rmX8_takesOne s m as below meth c H locs 0 0 Q (F0 m 150 ls [.int t0]) := by
  have hx := C.1
  have hb := C.2.1
  unfold pX8_takesOne_150 at hF
  have hF := Option.some.inj hF
  subst hF
  exact E _ _ _ _ w dX8_takesOne_150

theorem bX8_takesOne_149 {p : Program} {l : Launch} {e : Env} {s : State} {m : MethodId} {as : Array Value} {below : List Frame} {meth : Method} {c : Code} {A : Nat → Prop} {Q : State → Prop} {γ : wx_G} {o : Nat} {ad : Nat → Nat} {z : Int32 × xF × xG} (C : CallFix p m c cX8_takesOne 2 s as lw_all RX8) (K : wx_C γ A s) (E : ∀ (H : Heap) (locs : List Loc) (ls : Array Slot) (pc : Nat), wx_w γ A s H locs (mw γ o ad z.2.1 z.2.2) → decode cX8_takesOne pc = .ok (.ireturn, 1) → W p l e rmX8_takesOne s m as below meth c H locs 0 0 Q (F0 m pc ls [.int z.1])) {f : xF} {g : xG} {H : Heap} {locs : List Loc} {ls : Array Slot} (w : wx_w γ A s H locs (mw γ o ad f g)) (hl : lv_has ls 2 []) (hF : pX8_takesOne_149 f g = some z) : W p l e rmX8_takesOne s m as below meth c H locs 0 0 Q (F0 m 149 ls []) := by
  have hx := C.1
  have hb := C.2.1
  unfold pX8_takesOne_149 at hF
  refine lv_iconst (v := (0 : Int32)) hx hb dX8_takesOne_149 (by decide) ?_
  exact bX8_takesOne_150 C K E w hl hF

theorem bX8_takesOne_122 {p : Program} {l : Launch} {e : Env} {s : State} {m : MethodId} {as : Array Value} {below : List Frame} {meth : Method} {c : Code} {A : Nat → Prop} {Q : State → Prop} {γ : wx_G} {o : Nat} {ad : Nat → Nat} {z : Int32 × xF × xG} (C : CallFix p m c cX8_takesOne 2 s as lw_all RX8) (K : wx_C γ A s) (E : ∀ (H : Heap) (locs : List Loc) (ls : Array Slot) (pc : Nat), wx_w γ A s H locs (mw γ o ad z.2.1 z.2.2) → decode cX8_takesOne pc = .ok (.ireturn, 1) → W p l e rmX8_takesOne s m as below meth c H locs 0 0 Q (F0 m pc ls [.int z.1])) {f : xF} {g : xG} {t0 : Int32} {H : Heap} {locs : List Loc} {ls : Array Slot} (w : wx_w γ A s H locs (mw γ o ad f g)) (hl : lv_has ls 2 []) (hF : pX8_takesOne_122 f g t0 = some z) : W p l e rmX8_takesOne s m as below meth c H locs 0 0 Q (F0 m 122 ls [.int t0]) := by
  have hx := C.1
  have hb := C.2.1
  unfold pX8_takesOne_122 at hF
  have hF := Option.some.inj hF
  subst hF
  exact E _ _ _ _ w dX8_takesOne_122

theorem bX8_takesOne_98 {p : Program} {l : Launch} {e : Env} {s : State} {m : MethodId} {as : Array Value} {below : List Frame} {meth : Method} {c : Code} {A : Nat → Prop} {Q : State → Prop} {γ : wx_G} {o : Nat} {ad : Nat → Nat} {z : Int32 × xF × xG} (C : CallFix p m c cX8_takesOne 2 s as lw_all RX8) (K : wx_C γ A s) (E : ∀ (H : Heap) (locs : List Loc) (ls : Array Slot) (pc : Nat), wx_w γ A s H locs (mw γ o ad z.2.1 z.2.2) → decode cX8_takesOne pc = .ok (.ireturn, 1) → W p l e rmX8_takesOne s m as below meth c H locs 0 0 Q (F0 m pc ls [.int z.1])) {f : xF} {g : xG} {t0 : Int32} {H : Heap} {locs : List Loc} {ls : Array Slot} (w : wx_w γ A s H locs (mw γ o ad f g)) (hl : lv_has ls 2 []) (hF : pX8_takesOne_98 f g t0 = some z) : W p l e rmX8_takesOne s m as below meth c H locs 0 0 Q (F0 m 98 ls [.int t0]) := by
  have hx := C.1
  have hb := C.2.1
  unfold pX8_takesOne_98 at hF
  have hF := Option.some.inj hF
  subst hF
  exact E _ _ _ _ w dX8_takesOne_98

theorem bX8_takesOne_75 {p : Program} {l : Launch} {e : Env} {s : State} {m : MethodId} {as : Array Value} {below : List Frame} {meth : Method} {c : Code} {A : Nat → Prop} {Q : State → Prop} {γ : wx_G} {o : Nat} {ad : Nat → Nat} {z : Int32 × xF × xG} (C : CallFix p m c cX8_takesOne 2 s as lw_all RX8) (K : wx_C γ A s) (E : ∀ (H : Heap) (locs : List Loc) (ls : Array Slot) (pc : Nat), wx_w γ A s H locs (mw γ o ad z.2.1 z.2.2) → decode cX8_takesOne pc = .ok (.ireturn, 1) → W p l e rmX8_takesOne s m as below meth c H locs 0 0 Q (F0 m pc ls [.int z.1])) {f : xF} {g : xG} {v1 : Int32} {H : Heap} {locs : List Loc} {ls : Array Slot} (w : wx_w γ A s H locs (mw γ o ad f g)) (hl : lv_has ls 2 [(0, .ref o), (1, .int v1)]) (hF : pX8_takesOne_75 f g v1 = some z) : W p l e rmX8_takesOne s m as below meth c H locs 0 0 Q (F0 m 75 ls []) := by
  have hx := C.1
  have hb := C.2.1
  unfold pX8_takesOne_75 at hF
  refine lv_aload_n hx hb dX8_takesOne_75 rfl (lv_at hl 0 rfl) ?_
  refine mget_15 C K w dX8_takesOne_76 ?_
  refine lv_bipush (v := (45 : Int32)) hx hb dX8_takesOne_79 (by decide) ?_
  refine lv_icmp_ne (tgt := 99) hx hb dX8_takesOne_81 (by decide) (fun c => ?_) (fun c => ?_)
  · have hF := (if_neg c).symm.trans hF
    refine lv_aload_n hx hb dX8_takesOne_99 rfl (lv_at hl 0 rfl) ?_
    refine mget_15 C K w dX8_takesOne_100 ?_
    refine lv_bipush (v := (40 : Int32)) hx hb dX8_takesOne_103 (by decide) ?_
    refine lv_icmp_ne (tgt := 123) hx hb dX8_takesOne_105 (by decide) (fun c => ?_) (fun c => ?_)
    · have hF := (if_neg c).symm.trans hF
      refine lv_aload_n hx hb dX8_takesOne_123 rfl (lv_at hl 0 rfl) ?_
      refine lv_sipush (v := (14836 : Int32)) hx hb dX8_takesOne_124 (by decide) ?_
      obtain ⟨r127, hr, hF⟩ := obd hF
      refine rX8_isWord C K w hr hl.1 ⟨Nat.le_of_ble_eq_true rfl, Nat.le_of_ble_eq_true rfl⟩ (Nat.le_of_ble_eq_true rfl) dX8_takesOne_127 (fun H locs w => ?_)
      refine lv_if_eq (tgt := 149) hx hb dX8_takesOne_130 (by decide) (fun c => ?_) (fun c => ?_)
      · have hF := (if_pos c).symm.trans hF
        exact bX8_takesOne_149 C K E w (lv_sub hl [] rfl) hF
      · have hF := (if_neg c).symm.trans hF
        refine lv_iload_n hx hb dX8_takesOne_133 rfl (lv_at hl 1 rfl) ?_
        refine lv_if_eq (tgt := 149) hx hb dX8_takesOne_134 (by decide) (fun c => ?_) (fun c => ?_)
        · have hF := (if_pos c).symm.trans hF
          exact bX8_takesOne_149 C K E w (lv_sub hl [] rfl) hF
        · have hF := (if_neg c).symm.trans hF
          refine lv_aload_n hx hb dX8_takesOne_137 rfl (lv_at hl 0 rfl) ?_
          refine lv_iconst (v := (4 : Int32)) hx hb dX8_takesOne_138 (by decide) ?_
          obtain ⟨r139, hr, hF⟩ := obd hF
          refine rX8_opens C K w hr hl.1 ⟨Nat.le_of_ble_eq_true rfl, Nat.le_of_ble_eq_true rfl⟩ (Nat.le_of_ble_eq_true rfl) dX8_takesOne_139 (fun H locs w => ?_)
          refine lv_if_eq (tgt := 149) hx hb dX8_takesOne_142 (by decide) (fun c => ?_) (fun c => ?_)
          · have hF := (if_pos c).symm.trans hF
            exact bX8_takesOne_149 C K E w (lv_sub hl [] rfl) hF
          · have hF := (if_neg c).symm.trans hF
            refine lv_iconst (v := (1 : Int32)) hx hb dX8_takesOne_145 (by decide) ?_
            refine lv_goto (tgt := 150) hx hb dX8_takesOne_146 (by decide) ?_
            exact bX8_takesOne_150 C K E w (lv_sub hl [] rfl) hF
    · have hF := (if_pos c).symm.trans hF
      refine lv_aload_n hx hb dX8_takesOne_108 rfl (lv_at hl 0 rfl) ?_
      refine lv_bipush (v := (20 : Int32)) hx hb dX8_takesOne_109 (by decide) ?_
      obtain ⟨r111, hr, hF⟩ := obd hF
      refine rX8_opens C K w hr hl.1 ⟨Nat.le_of_ble_eq_true rfl, Nat.le_of_ble_eq_true rfl⟩ (Nat.le_of_ble_eq_true rfl) dX8_takesOne_111 (fun H locs w => ?_)
      refine lv_if_eq (tgt := 121) hx hb dX8_takesOne_114 (by decide) (fun c => ?_) (fun c => ?_)
      · have hF := (if_pos c).symm.trans hF
        refine lv_iconst (v := (0 : Int32)) hx hb dX8_takesOne_121 (by decide) ?_
        exact bX8_takesOne_122 C K E w (lv_sub hl [] rfl) hF
      · have hF := (if_neg c).symm.trans hF
        refine lv_iconst (v := (1 : Int32)) hx hb dX8_takesOne_117 (by decide) ?_
        refine lv_goto (tgt := 122) hx hb dX8_takesOne_118 (by decide) ?_
        exact bX8_takesOne_122 C K E w (lv_sub hl [] rfl) hF
  · have hF := (if_pos c).symm.trans hF
    refine lv_aload_n hx hb dX8_takesOne_84 rfl (lv_at hl 0 rfl) ?_
    refine lv_bipush (v := (10 : Int32)) hx hb dX8_takesOne_85 (by decide) ?_
    obtain ⟨r87, hr, hF⟩ := obd hF
    refine rX8_opens C K w hr hl.1 ⟨Nat.le_of_ble_eq_true rfl, Nat.le_of_ble_eq_true rfl⟩ (Nat.le_of_ble_eq_true rfl) dX8_takesOne_87 (fun H locs w => ?_)
    refine lv_if_eq (tgt := 97) hx hb dX8_takesOne_90 (by decide) (fun c => ?_) (fun c => ?_)
    · have hF := (if_pos c).symm.trans hF
      refine lv_iconst (v := (0 : Int32)) hx hb dX8_takesOne_97 (by decide) ?_
      exact bX8_takesOne_98 C K E w (lv_sub hl [] rfl) hF
    · have hF := (if_neg c).symm.trans hF
      refine lv_iconst (v := (1 : Int32)) hx hb dX8_takesOne_93 (by decide) ?_
      refine lv_goto (tgt := 98) hx hb dX8_takesOne_94 (by decide) ?_
      exact bX8_takesOne_98 C K E w (lv_sub hl [] rfl) hF

theorem bX8_takesOne_0 {p : Program} {l : Launch} {e : Env} {s : State} {m : MethodId} {as : Array Value} {below : List Frame} {meth : Method} {c : Code} {A : Nat → Prop} {Q : State → Prop} {γ : wx_G} {o : Nat} {ad : Nat → Nat} {z : Int32 × xF × xG} (C : CallFix p m c cX8_takesOne 2 s as lw_all RX8) (K : wx_C γ A s) (E : ∀ (H : Heap) (locs : List Loc) (ls : Array Slot) (pc : Nat), wx_w γ A s H locs (mw γ o ad z.2.1 z.2.2) → decode cX8_takesOne pc = .ok (.ireturn, 1) → W p l e rmX8_takesOne s m as below meth c H locs 0 0 Q (F0 m pc ls [.int z.1])) {f : xF} {g : xG} {v1 : Int32} {H : Heap} {locs : List Loc} {ls : Array Slot} (w : wx_w γ A s H locs (mw γ o ad f g)) (hl : lv_has ls 2 [(0, .ref o), (1, .int v1)]) (hF : pX8_takesOne_0 f g v1 = some z) : W p l e rmX8_takesOne s m as below meth c H locs 0 0 Q (F0 m 0 ls []) := by
  have hx := C.1
  have hb := C.2.1
  unfold pX8_takesOne_0 at hF
  refine lv_aload_n hx hb dX8_takesOne_0 rfl (lv_at hl 0 rfl) ?_
  refine mget_15 C K w dX8_takesOne_1 ?_
  refine lv_iconst (v := (1 : Int32)) hx hb dX8_takesOne_4 (by decide) ?_
  refine lv_icmp_eq (tgt := 27) hx hb dX8_takesOne_5 (by decide) (fun c => ?_) (fun c => ?_)
  · have hF := (if_pos c).symm.trans hF
    exact bX8_takesOne_27 C K E w (lv_sub hl [0] rfl) hF
  · have hF := (if_neg c).symm.trans hF
    refine lv_aload_n hx hb dX8_takesOne_8 rfl (lv_at hl 0 rfl) ?_
    refine mget_15 C K w dX8_takesOne_9 ?_
    refine lv_iconst (v := (2 : Int32)) hx hb dX8_takesOne_12 (by decide) ?_
    refine lv_icmp_ne (tgt := 75) hx hb dX8_takesOne_13 (by decide) (fun c => ?_) (fun c => ?_)
    · have hF := (if_neg c).symm.trans hF
      exact bX8_takesOne_75 C K E w hl hF
    · have hF := (if_pos c).symm.trans hF
      refine lv_aload_n hx hb dX8_takesOne_16 rfl (lv_at hl 0 rfl) ?_
      refine lv_aload_n hx hb dX8_takesOne_17 rfl (lv_at hl 0 rfl) ?_
      refine mget_16 C K w dX8_takesOne_18 ?_
      obtain ⟨r21, hr, hF⟩ := obd hF
      refine rX8_nameOf C K w hr hl.1 ⟨Nat.le_of_ble_eq_true rfl, Nat.le_of_ble_eq_true rfl⟩ (Nat.le_of_ble_eq_true rfl) dX8_takesOne_21 (fun H locs w => ?_)
      refine lv_if_lt (tgt := 75) hx hb dX8_takesOne_24 (by decide) (fun c => ?_) (fun c => ?_)
      · have hF := (if_pos c).symm.trans hF
        exact bX8_takesOne_75 C K E w hl hF
      · have hF := (if_neg c).symm.trans hF
        exact bX8_takesOne_27 C K E w (lv_sub hl [0] rfl) hF

theorem mX8_takesOne {l : Launch} {γ : wx_G} {o : Nat} {ad : Nat → Nat} {f : xF} {g : xG} {v1 : Int32} {z : Int32 × xF × xG} (hF : pX8_takesOne f g v1 = some z) : wx_M γ l yX8_takesOne (ws_ yX8_takesOne cX8_takesOne 2 (some .int)) rmX8_takesOne [.ref o, .int v1] (mw γ o ad f g) (fun v ws => v = some (.int z.1) ∧ ws = (mw γ o ad z.2.1 z.2.2)) 0 0 := by
  refine wx_M.of (by decide) (Nat.le_of_ble_eq_true rfl) ?_
  intro p e s m as below meth c A ls C K w hr hlocks _ hl
  exact bX8_takesOne_0 C K (fun H locs ls pc w d => wx_iret C hr hlocks w ⟨rfl, rfl⟩ d) w hl hF
theorem rX8_takesOne {p : Program} {l : Launch} {e : Env} {R : Room} {s : State} {m : MethodId} {as : Array Value} {below : List Frame} {meth : Method} {c : Code} {H : Heap} {locs : List Loc} {cells slots : Nat} {Q : State → Prop} {cc : ByteArray} {nL pc : Nat} {ls : Array Slot} {rest : List Value} {γ : wx_G} {A : Nat → Prop} {o : Nat} {ad : Nat → Nat} {f : xF} {g : xG} {v1 : Int32} {z : Int32 × xF × xG} (C : CallFix p m c cc nL s as lw_all RX8) (K : wx_C γ A s) (w : wx_w γ A s H locs (mw γ o ad f g)) (hF : pX8_takesOne f g v1 = some z) (hls : ls.size = nL) (hR : rmX8_takesOne.frames + 1 ≤ R.frames ∧ 8 + (2 + 11) + rmX8_takesOne.locals ≤ R.locals) (hW : (rest.map fun v => v.category).sum ≤ 8) (d : decode cc pc = .ok (.invokevirtual 240, 3)) (kk : ∀ (H : Heap) (locs : List Loc), wx_w γ A s H locs (mw γ o ad z.2.1 z.2.2) → W p l e R s m as below meth c H locs cells slots Q (F0 m (pc + 3) ls (.int z.1 :: rest))) (hf : cells ≤ R.cells ∧ slots ≤ R.slots := by exact ⟨Nat.le_of_ble_eq_true rfl, Nat.le_of_ble_eq_true rfl⟩) : W p l e R s m as below meth c H locs cells slots Q (F0 m pc ls (.int v1 :: .ref o :: rest)) :=
  wx_callV (n := 1) C K w (mX8_takesOne (l := l) hF) q1552 q1554 qs67 q123 q1555 rfl rfl (by decide +kernel) (va_recv K.1.1 w.1 (ci := 0) (q0 := 0) rfl rfl) rfl rfl hR hls hW hf d (fun v ws H1 locs1 hp w => by obtain ⟨rfl, rfl⟩ := hp; exact kk H1 locs1 w)

/-! WalkingStonesModel.takesSign()I -/
abbrev rmX8_takesSign : Room := { frames := 2, cells := 0, slots := 0, locals := 44 }
def pX8_takesSign_152 (f : xF) (g : xG) (v1 : Int32) : Option (Int32 × xF × xG) := (pX8_pushSign f g v1).bind (fun r154 => some ((1 : Int32), r154.1, r154.2))

def pX8_takesSign_138 (f : xF) (g : xG) (v1 : Int32) : Option (Int32 × xF × xG) := (pX8_top f g).bind (fun r140 => (pX8_strength f g r140).bind (fun r143 => if r143 = (4 : Int32) then some ((0 : Int32), f, g) else pX8_takesSign_152 f g v1))

def pX8_takesSign_124 (f : xF) (g : xG) (v1 : Int32) (t1 : Int32) : Option (Int32 × xF × xG) := (pX8_settle f g t1).bind (fun r124 => if v1 = (5 : Int32) then pX8_takesSign_138 r124.1 r124.2 v1 else (if v1 = (6 : Int32) then pX8_takesSign_138 r124.1 r124.2 v1 else pX8_takesSign_152 r124.1 r124.2 v1))

def pX8_takesSign_115 (f : xF) (g : xG) (v1 : Int32) : Option (Int32 × xF × xG) := pX8_takesSign_124 f g v1 (5 : Int32)

def pX8_takesSign_98 (f : xF) (g : xG) (t0 : Int32) : Option (Int32 × xF × xG) := if t0 < 0 then (if (f 15) = (41 : Int32) then (pX8_settle f g (1 : Int32)).bind (fun r172 => (pX8_top r172.1 r172.2).bind (fun r176 => if r176 = (20 : Int32) then (pX8_settle (upd (upd r172.1 19 ((r172.1 19) - (1 : Int32))) 18 (((upd r172.1 19 ((r172.1 19) - (1 : Int32))) 18) - (1 : Int32))) r172.2 (7 : Int32)).bind (fun r209 => some ((2 : Int32), r209.1, r209.2)) else some ((0 : Int32), r172.1, r172.2))) else some ((0 : Int32), f, g)) else (if t0 = (5 : Int32) then pX8_takesSign_115 f g t0 else (if t0 = (6 : Int32) then pX8_takesSign_115 f g t0 else (pX8_strength f g t0).bind (fun r121 => pX8_takesSign_124 f g t0 r121)))

def pX8_takesSign_0 (f : xF) (g : xG) : Option (Int32 × xF × xG) := if (f 15) = (42 : Int32) then pX8_takesSign_98 f g (9 : Int32) else (if (f 15) = (43 : Int32) then pX8_takesSign_98 f g (7 : Int32) else (if (f 15) = (45 : Int32) then pX8_takesSign_98 f g (8 : Int32) else (if (f 15) = (60 : Int32) then pX8_takesSign_98 f g (5 : Int32) else (if (f 15) = (61 : Int32) then pX8_takesSign_98 f g (6 : Int32) else (pX8_isWord f g (1476 : Int32)).bind (fun r73 => if r73 = 0 then (pX8_isWord f g (498 : Int32)).bind (fun r87 => if r87 = 0 then pX8_takesSign_98 f g (-1 : Int32) else pX8_takesSign_98 f g (2 : Int32)) else pX8_takesSign_98 f g (3 : Int32))))))

abbrev pX8_takesSign (f : xF) (g : xG) : Option (Int32 × xF × xG) := pX8_takesSign_0 f g
theorem bX8_takesSign_152 {p : Program} {l : Launch} {e : Env} {s : State} {m : MethodId} {as : Array Value} {below : List Frame} {meth : Method} {c : Code} {A : Nat → Prop} {Q : State → Prop} {γ : wx_G} {o : Nat} {ad : Nat → Nat} {z : Int32 × xF × xG} (C : CallFix p m c cX8_takesSign 2 s as lw_all RX8) (K : wx_C γ A s) (E : ∀ (H : Heap) (locs : List Loc) (ls : Array Slot) (pc : Nat), wx_w γ A s H locs (mw γ o ad z.2.1 z.2.2) → decode cX8_takesSign pc = .ok (.ireturn, 1) → W p l e rmX8_takesSign s m as below meth c H locs 0 0 Q (F0 m pc ls [.int z.1])) {f : xF} {g : xG} {v1 : Int32} {H : Heap} {locs : List Loc} {ls : Array Slot} (w : wx_w γ A s H locs (mw γ o ad f g)) (hl : lv_has ls 2 [(0, .ref o), (1, .int v1)]) (hF : pX8_takesSign_152 f g v1 = some z) : W p l e rmX8_takesSign s m as below meth c H locs 0 0 Q (F0 m 152 ls []) := by
  have hx := C.1
  have hb := C.2.1
  unfold pX8_takesSign_152 at hF
  refine lv_aload_n hx hb dX8_takesSign_152 rfl (lv_at hl 0 rfl) ?_
  refine lv_iload_n hx hb dX8_takesSign_153 rfl (lv_at hl 1 rfl) ?_
  obtain ⟨r154, hr, hF⟩ := obd hF
  refine rX8_pushSign C K w hr hl.1 ⟨Nat.le_of_ble_eq_true rfl, Nat.le_of_ble_eq_true rfl⟩ (Nat.le_of_ble_eq_true rfl) dX8_takesSign_154 (fun H locs w => ?_)
  refine lv_iconst (v := (1 : Int32)) hx hb dX8_takesSign_157 (by decide) ?_
  have hF := Option.some.inj hF
  subst hF
  exact E _ _ _ _ w dX8_takesSign_158

theorem bX8_takesSign_138 {p : Program} {l : Launch} {e : Env} {s : State} {m : MethodId} {as : Array Value} {below : List Frame} {meth : Method} {c : Code} {A : Nat → Prop} {Q : State → Prop} {γ : wx_G} {o : Nat} {ad : Nat → Nat} {z : Int32 × xF × xG} (C : CallFix p m c cX8_takesSign 2 s as lw_all RX8) (K : wx_C γ A s) (E : ∀ (H : Heap) (locs : List Loc) (ls : Array Slot) (pc : Nat), wx_w γ A s H locs (mw γ o ad z.2.1 z.2.2) → decode cX8_takesSign pc = .ok (.ireturn, 1) → W p l e rmX8_takesSign s m as below meth c H locs 0 0 Q (F0 m pc ls [.int z.1])) {f : xF} {g : xG} {v1 : Int32} {H : Heap} {locs : List Loc} {ls : Array Slot} (w : wx_w γ A s H locs (mw γ o ad f g)) (hl : lv_has ls 2 [(0, .ref o), (1, .int v1)]) (hF : pX8_takesSign_138 f g v1 = some z) : W p l e rmX8_takesSign s m as below meth c H locs 0 0 Q (F0 m 138 ls []) := by
  have hx := C.1
  have hb := C.2.1
  unfold pX8_takesSign_138 at hF
  refine lv_aload_n hx hb dX8_takesSign_138 rfl (lv_at hl 0 rfl) ?_
  refine lv_aload_n hx hb dX8_takesSign_139 rfl (lv_at hl 0 rfl) ?_
  obtain ⟨r140, hr, hF⟩ := obd hF
  refine rX8_top C K w hr hl.1 ⟨Nat.le_of_ble_eq_true rfl, Nat.le_of_ble_eq_true rfl⟩ (Nat.le_of_ble_eq_true rfl) dX8_takesSign_140 (fun H locs w => ?_)
  obtain ⟨r143, hr, hF⟩ := obd hF
  refine rX8_strength C K w hr hl.1 ⟨Nat.le_of_ble_eq_true rfl, Nat.le_of_ble_eq_true rfl⟩ (Nat.le_of_ble_eq_true rfl) dX8_takesSign_143 (fun H locs w => ?_)
  refine lv_iconst (v := (4 : Int32)) hx hb dX8_takesSign_146 (by decide) ?_
  refine lv_icmp_ne (tgt := 152) hx hb dX8_takesSign_147 (by decide) (fun c => ?_) (fun c => ?_)
  · have hF := (if_neg c).symm.trans hF
    exact bX8_takesSign_152 C K E w hl hF
  · have hF := (if_pos c).symm.trans hF
    refine lv_iconst (v := (0 : Int32)) hx hb dX8_takesSign_150 (by decide) ?_
    have hF := Option.some.inj hF
    subst hF
    exact E _ _ _ _ w dX8_takesSign_151

theorem bX8_takesSign_124 {p : Program} {l : Launch} {e : Env} {s : State} {m : MethodId} {as : Array Value} {below : List Frame} {meth : Method} {c : Code} {A : Nat → Prop} {Q : State → Prop} {γ : wx_G} {o : Nat} {ad : Nat → Nat} {z : Int32 × xF × xG} (C : CallFix p m c cX8_takesSign 2 s as lw_all RX8) (K : wx_C γ A s) (E : ∀ (H : Heap) (locs : List Loc) (ls : Array Slot) (pc : Nat), wx_w γ A s H locs (mw γ o ad z.2.1 z.2.2) → decode cX8_takesSign pc = .ok (.ireturn, 1) → W p l e rmX8_takesSign s m as below meth c H locs 0 0 Q (F0 m pc ls [.int z.1])) {f : xF} {g : xG} {v1 : Int32} {t1 : Int32} {H : Heap} {locs : List Loc} {ls : Array Slot} (w : wx_w γ A s H locs (mw γ o ad f g)) (hl : lv_has ls 2 [(0, .ref o), (1, .int v1)]) (hF : pX8_takesSign_124 f g v1 t1 = some z) : W p l e rmX8_takesSign s m as below meth c H locs 0 0 Q (F0 m 124 ls [.int t1, .ref o]) := by
  have hx := C.1
  have hb := C.2.1
  unfold pX8_takesSign_124 at hF
  obtain ⟨r124, hr, hF⟩ := obd hF
  refine rX8_settle C K w hr hl.1 ⟨Nat.le_of_ble_eq_true rfl, Nat.le_of_ble_eq_true rfl⟩ (Nat.le_of_ble_eq_true rfl) dX8_takesSign_124 (fun H locs w => ?_)
  refine lv_iload_n hx hb dX8_takesSign_127 rfl (lv_at hl 1 rfl) ?_
  refine lv_iconst (v := (5 : Int32)) hx hb dX8_takesSign_128 (by decide) ?_
  refine lv_icmp_eq (tgt := 138) hx hb dX8_takesSign_129 (by decide) (fun c => ?_) (fun c => ?_)
  · have hF := (if_pos c).symm.trans hF
    exact bX8_takesSign_138 C K E w hl hF
  · have hF := (if_neg c).symm.trans hF
    refine lv_iload_n hx hb dX8_takesSign_132 rfl (lv_at hl 1 rfl) ?_
    refine lv_bipush (v := (6 : Int32)) hx hb dX8_takesSign_133 (by decide) ?_
    refine lv_icmp_ne (tgt := 152) hx hb dX8_takesSign_135 (by decide) (fun c => ?_) (fun c => ?_)
    · have hF := (if_neg c).symm.trans hF
      exact bX8_takesSign_152 C K E w hl hF
    · have hF := (if_pos c).symm.trans hF
      exact bX8_takesSign_138 C K E w hl hF

theorem bX8_takesSign_115 {p : Program} {l : Launch} {e : Env} {s : State} {m : MethodId} {as : Array Value} {below : List Frame} {meth : Method} {c : Code} {A : Nat → Prop} {Q : State → Prop} {γ : wx_G} {o : Nat} {ad : Nat → Nat} {z : Int32 × xF × xG} (C : CallFix p m c cX8_takesSign 2 s as lw_all RX8) (K : wx_C γ A s) (E : ∀ (H : Heap) (locs : List Loc) (ls : Array Slot) (pc : Nat), wx_w γ A s H locs (mw γ o ad z.2.1 z.2.2) → decode cX8_takesSign pc = .ok (.ireturn, 1) → W p l e rmX8_takesSign s m as below meth c H locs 0 0 Q (F0 m pc ls [.int z.1])) {f : xF} {g : xG} {v1 : Int32} {H : Heap} {locs : List Loc} {ls : Array Slot} (w : wx_w γ A s H locs (mw γ o ad f g)) (hl : lv_has ls 2 [(0, .ref o), (1, .int v1)]) (hF : pX8_takesSign_115 f g v1 = some z) : W p l e rmX8_takesSign s m as below meth c H locs 0 0 Q (F0 m 115 ls [.ref o]) := by
  have hx := C.1
  have hb := C.2.1
  unfold pX8_takesSign_115 at hF
  refine lv_iconst (v := (5 : Int32)) hx hb dX8_takesSign_115 (by decide) ?_
  refine lv_goto (tgt := 124) hx hb dX8_takesSign_116 (by decide) ?_
  exact bX8_takesSign_124 C K E w hl hF

theorem bX8_takesSign_98 {p : Program} {l : Launch} {e : Env} {s : State} {m : MethodId} {as : Array Value} {below : List Frame} {meth : Method} {c : Code} {A : Nat → Prop} {Q : State → Prop} {γ : wx_G} {o : Nat} {ad : Nat → Nat} {z : Int32 × xF × xG} (C : CallFix p m c cX8_takesSign 2 s as lw_all RX8) (K : wx_C γ A s) (E : ∀ (H : Heap) (locs : List Loc) (ls : Array Slot) (pc : Nat), wx_w γ A s H locs (mw γ o ad z.2.1 z.2.2) → decode cX8_takesSign pc = .ok (.ireturn, 1) → W p l e rmX8_takesSign s m as below meth c H locs 0 0 Q (F0 m pc ls [.int z.1])) {f : xF} {g : xG} {t0 : Int32} {H : Heap} {locs : List Loc} {ls : Array Slot} (w : wx_w γ A s H locs (mw γ o ad f g)) (hl : lv_has ls 2 [(0, .ref o)]) (hF : pX8_takesSign_98 f g t0 = some z) : W p l e rmX8_takesSign s m as below meth c H locs 0 0 Q (F0 m 98 ls [.int t0]) := by
  have hx := C.1
  have hb := C.2.1
  unfold pX8_takesSign_98 at hF
  refine lv_istore_n (lv' := [(1, .int t0), (0, .ref o)]) hx hb dX8_takesSign_98 rfl hl (by decide) rfl (fun ls hl => ?_)
  refine lv_iload_n hx hb dX8_takesSign_99 rfl (lv_at hl 0 rfl) ?_
  refine lv_if_lt (tgt := 159) hx hb dX8_takesSign_100 (by decide) (fun c => ?_) (fun c => ?_)
  · have hF := (if_pos c).symm.trans hF
    refine lv_aload_n hx hb dX8_takesSign_159 rfl (lv_at hl 1 rfl) ?_
    refine mget_15 C K w dX8_takesSign_160 ?_
    refine lv_bipush (v := (41 : Int32)) hx hb dX8_takesSign_163 (by decide) ?_
    refine lv_icmp_eq (tgt := 170) hx hb dX8_takesSign_165 (by decide) (fun c => ?_) (fun c => ?_)
    · have hF := (if_pos c).symm.trans hF
      refine lv_aload_n hx hb dX8_takesSign_170 rfl (lv_at hl 1 rfl) ?_
      refine lv_iconst (v := (1 : Int32)) hx hb dX8_takesSign_171 (by decide) ?_
      obtain ⟨r172, hr, hF⟩ := obd hF
      refine rX8_settle C K w hr hl.1 ⟨Nat.le_of_ble_eq_true rfl, Nat.le_of_ble_eq_true rfl⟩ (Nat.le_of_ble_eq_true rfl) dX8_takesSign_172 (fun H locs w => ?_)
      refine lv_aload_n hx hb dX8_takesSign_175 rfl (lv_at hl 1 rfl) ?_
      obtain ⟨r176, hr, hF⟩ := obd hF
      refine rX8_top C K w hr hl.1 ⟨Nat.le_of_ble_eq_true rfl, Nat.le_of_ble_eq_true rfl⟩ (Nat.le_of_ble_eq_true rfl) dX8_takesSign_176 (fun H locs w => ?_)
      refine lv_bipush (v := (20 : Int32)) hx hb dX8_takesSign_179 (by decide) ?_
      refine lv_icmp_eq (tgt := 186) hx hb dX8_takesSign_181 (by decide) (fun c => ?_) (fun c => ?_)
      · have hF := (if_pos c).symm.trans hF
        refine lv_aload_n hx hb dX8_takesSign_186 rfl (lv_at hl 1 rfl) ?_
        refine lv_dup hx hb dX8_takesSign_187 rfl ?_
        refine mget_19 C K w dX8_takesSign_188 ?_
        refine lv_iconst (v := (1 : Int32)) hx hb dX8_takesSign_191 (by decide) ?_
        refine lv_isub hx hb dX8_takesSign_192 ?_
        refine mput_19 C K w dX8_takesSign_193 (fun H locs w => ?_)
        refine lv_aload_n hx hb dX8_takesSign_196 rfl (lv_at hl 1 rfl) ?_
        refine lv_dup hx hb dX8_takesSign_197 rfl ?_
        refine mget_18 C K w dX8_takesSign_198 ?_
        refine lv_iconst (v := (1 : Int32)) hx hb dX8_takesSign_201 (by decide) ?_
        refine lv_isub hx hb dX8_takesSign_202 ?_
        refine mput_18 C K w dX8_takesSign_203 (fun H locs w => ?_)
        refine lv_aload_n hx hb dX8_takesSign_206 rfl (lv_at hl 1 rfl) ?_
        refine lv_bipush (v := (7 : Int32)) hx hb dX8_takesSign_207 (by decide) ?_
        obtain ⟨r209, hr, hF⟩ := obd hF
        refine rX8_settle C K w hr hl.1 ⟨Nat.le_of_ble_eq_true rfl, Nat.le_of_ble_eq_true rfl⟩ (Nat.le_of_ble_eq_true rfl) dX8_takesSign_209 (fun H locs w => ?_)
        refine lv_iconst (v := (2 : Int32)) hx hb dX8_takesSign_212 (by decide) ?_
        have hF := Option.some.inj hF
        subst hF
        exact E _ _ _ _ w dX8_takesSign_213
      · have hF := (if_neg c).symm.trans hF
        refine lv_iconst (v := (0 : Int32)) hx hb dX8_takesSign_184 (by decide) ?_
        have hF := Option.some.inj hF
        subst hF
        exact E _ _ _ _ w dX8_takesSign_185
    · have hF := (if_neg c).symm.trans hF
      refine lv_iconst (v := (0 : Int32)) hx hb dX8_takesSign_168 (by decide) ?_
      have hF := Option.some.inj hF
      subst hF
      exact E _ _ _ _ w dX8_takesSign_169
  · have hF := (if_neg c).symm.trans hF
    refine lv_aload_n hx hb dX8_takesSign_103 rfl (lv_at hl 1 rfl) ?_
    refine lv_iload_n hx hb dX8_takesSign_104 rfl (lv_at hl 0 rfl) ?_
    refine lv_iconst (v := (5 : Int32)) hx hb dX8_takesSign_105 (by decide) ?_
    refine lv_icmp_eq (tgt := 115) hx hb dX8_takesSign_106 (by decide) (fun c => ?_) (fun c => ?_)
    · have hF := (if_pos c).symm.trans hF
      exact bX8_takesSign_115 C K E w (lv_sub hl [1, 0] rfl) hF
    · have hF := (if_neg c).symm.trans hF
      refine lv_iload_n hx hb dX8_takesSign_109 rfl (lv_at hl 0 rfl) ?_
      refine lv_bipush (v := (6 : Int32)) hx hb dX8_takesSign_110 (by decide) ?_
      refine lv_icmp_ne (tgt := 119) hx hb dX8_takesSign_112 (by decide) (fun c => ?_) (fun c => ?_)
      · have hF := (if_neg c).symm.trans hF
        refine lv_aload_n hx hb dX8_takesSign_119 rfl (lv_at hl 1 rfl) ?_
        refine lv_iload_n hx hb dX8_takesSign_120 rfl (lv_at hl 0 rfl) ?_
        obtain ⟨r121, hr, hF⟩ := obd hF
        refine rX8_strength C K w hr hl.1 ⟨Nat.le_of_ble_eq_true rfl, Nat.le_of_ble_eq_true rfl⟩ (Nat.le_of_ble_eq_true rfl) dX8_takesSign_121 (fun H locs w => ?_)
        exact bX8_takesSign_124 C K E w (lv_sub hl [1, 0] rfl) hF
      · have hF := (if_pos c).symm.trans hF
        exact bX8_takesSign_115 C K E w (lv_sub hl [1, 0] rfl) hF

theorem bX8_takesSign_0 {p : Program} {l : Launch} {e : Env} {s : State} {m : MethodId} {as : Array Value} {below : List Frame} {meth : Method} {c : Code} {A : Nat → Prop} {Q : State → Prop} {γ : wx_G} {o : Nat} {ad : Nat → Nat} {z : Int32 × xF × xG} (C : CallFix p m c cX8_takesSign 2 s as lw_all RX8) (K : wx_C γ A s) (E : ∀ (H : Heap) (locs : List Loc) (ls : Array Slot) (pc : Nat), wx_w γ A s H locs (mw γ o ad z.2.1 z.2.2) → decode cX8_takesSign pc = .ok (.ireturn, 1) → W p l e rmX8_takesSign s m as below meth c H locs 0 0 Q (F0 m pc ls [.int z.1])) {f : xF} {g : xG} {H : Heap} {locs : List Loc} {ls : Array Slot} (w : wx_w γ A s H locs (mw γ o ad f g)) (hl : lv_has ls 2 [(0, .ref o)]) (hF : pX8_takesSign_0 f g = some z) : W p l e rmX8_takesSign s m as below meth c H locs 0 0 Q (F0 m 0 ls []) := by
  have hx := C.1
  have hb := C.2.1
  unfold pX8_takesSign_0 at hF
  refine lv_aload_n hx hb dX8_takesSign_0 rfl (lv_at hl 0 rfl) ?_
  refine mget_15 C K w dX8_takesSign_1 ?_
  refine lv_bipush (v := (42 : Int32)) hx hb dX8_takesSign_4 (by decide) ?_
  refine lv_icmp_ne (tgt := 14) hx hb dX8_takesSign_6 (by decide) (fun c => ?_) (fun c => ?_)
  · have hF := (if_neg c).symm.trans hF
    refine lv_aload_n hx hb dX8_takesSign_14 rfl (lv_at hl 0 rfl) ?_
    refine mget_15 C K w dX8_takesSign_15 ?_
    refine lv_bipush (v := (43 : Int32)) hx hb dX8_takesSign_18 (by decide) ?_
    refine lv_icmp_ne (tgt := 28) hx hb dX8_takesSign_20 (by decide) (fun c => ?_) (fun c => ?_)
    · have hF := (if_neg c).symm.trans hF
      refine lv_aload_n hx hb dX8_takesSign_28 rfl (lv_at hl 0 rfl) ?_
      refine mget_15 C K w dX8_takesSign_29 ?_
      refine lv_bipush (v := (45 : Int32)) hx hb dX8_takesSign_32 (by decide) ?_
      refine lv_icmp_ne (tgt := 42) hx hb dX8_takesSign_34 (by decide) (fun c => ?_) (fun c => ?_)
      · have hF := (if_neg c).symm.trans hF
        refine lv_aload_n hx hb dX8_takesSign_42 rfl (lv_at hl 0 rfl) ?_
        refine mget_15 C K w dX8_takesSign_43 ?_
        refine lv_bipush (v := (60 : Int32)) hx hb dX8_takesSign_46 (by decide) ?_
        refine lv_icmp_ne (tgt := 55) hx hb dX8_takesSign_48 (by decide) (fun c => ?_) (fun c => ?_)
        · have hF := (if_neg c).symm.trans hF
          refine lv_aload_n hx hb dX8_takesSign_55 rfl (lv_at hl 0 rfl) ?_
          refine mget_15 C K w dX8_takesSign_56 ?_
          refine lv_bipush (v := (61 : Int32)) hx hb dX8_takesSign_59 (by decide) ?_
          refine lv_icmp_ne (tgt := 69) hx hb dX8_takesSign_61 (by decide) (fun c => ?_) (fun c => ?_)
          · have hF := (if_neg c).symm.trans hF
            refine lv_aload_n hx hb dX8_takesSign_69 rfl (lv_at hl 0 rfl) ?_
            refine lv_sipush (v := (1476 : Int32)) hx hb dX8_takesSign_70 (by decide) ?_
            obtain ⟨r73, hr, hF⟩ := obd hF
            refine rX8_isWord C K w hr hl.1 ⟨Nat.le_of_ble_eq_true rfl, Nat.le_of_ble_eq_true rfl⟩ (Nat.le_of_ble_eq_true rfl) dX8_takesSign_73 (fun H locs w => ?_)
            refine lv_if_eq (tgt := 83) hx hb dX8_takesSign_76 (by decide) (fun c => ?_) (fun c => ?_)
            · have hF := (if_pos c).symm.trans hF
              refine lv_aload_n hx hb dX8_takesSign_83 rfl (lv_at hl 0 rfl) ?_
              refine lv_sipush (v := (498 : Int32)) hx hb dX8_takesSign_84 (by decide) ?_
              obtain ⟨r87, hr, hF⟩ := obd hF
              refine rX8_isWord C K w hr hl.1 ⟨Nat.le_of_ble_eq_true rfl, Nat.le_of_ble_eq_true rfl⟩ (Nat.le_of_ble_eq_true rfl) dX8_takesSign_87 (fun H locs w => ?_)
              refine lv_if_eq (tgt := 97) hx hb dX8_takesSign_90 (by decide) (fun c => ?_) (fun c => ?_)
              · have hF := (if_pos c).symm.trans hF
                refine lv_iconst (v := (-1 : Int32)) hx hb dX8_takesSign_97 (by decide) ?_
                exact bX8_takesSign_98 C K E w hl hF
              · have hF := (if_neg c).symm.trans hF
                refine lv_iconst (v := (2 : Int32)) hx hb dX8_takesSign_93 (by decide) ?_
                refine lv_goto (tgt := 98) hx hb dX8_takesSign_94 (by decide) ?_
                exact bX8_takesSign_98 C K E w hl hF
            · have hF := (if_neg c).symm.trans hF
              refine lv_iconst (v := (3 : Int32)) hx hb dX8_takesSign_79 (by decide) ?_
              refine lv_goto (tgt := 98) hx hb dX8_takesSign_80 (by decide) ?_
              exact bX8_takesSign_98 C K E w hl hF
          · have hF := (if_pos c).symm.trans hF
            refine lv_bipush (v := (6 : Int32)) hx hb dX8_takesSign_64 (by decide) ?_
            refine lv_goto (tgt := 98) hx hb dX8_takesSign_66 (by decide) ?_
            exact bX8_takesSign_98 C K E w hl hF
        · have hF := (if_pos c).symm.trans hF
          refine lv_iconst (v := (5 : Int32)) hx hb dX8_takesSign_51 (by decide) ?_
          refine lv_goto (tgt := 98) hx hb dX8_takesSign_52 (by decide) ?_
          exact bX8_takesSign_98 C K E w hl hF
      · have hF := (if_pos c).symm.trans hF
        refine lv_bipush (v := (8 : Int32)) hx hb dX8_takesSign_37 (by decide) ?_
        refine lv_goto (tgt := 98) hx hb dX8_takesSign_39 (by decide) ?_
        exact bX8_takesSign_98 C K E w hl hF
    · have hF := (if_pos c).symm.trans hF
      refine lv_bipush (v := (7 : Int32)) hx hb dX8_takesSign_23 (by decide) ?_
      refine lv_goto (tgt := 98) hx hb dX8_takesSign_25 (by decide) ?_
      exact bX8_takesSign_98 C K E w hl hF
  · have hF := (if_pos c).symm.trans hF
    refine lv_bipush (v := (9 : Int32)) hx hb dX8_takesSign_9 (by decide) ?_
    refine lv_goto (tgt := 98) hx hb dX8_takesSign_11 (by decide) ?_
    exact bX8_takesSign_98 C K E w hl hF

theorem mX8_takesSign {l : Launch} {γ : wx_G} {o : Nat} {ad : Nat → Nat} {f : xF} {g : xG} {z : Int32 × xF × xG} (hF : pX8_takesSign f g = some z) : wx_M γ l yX8_takesSign (ws_ yX8_takesSign cX8_takesSign 2 (some .int)) rmX8_takesSign [.ref o] (mw γ o ad f g) (fun v ws => v = some (.int z.1) ∧ ws = (mw γ o ad z.2.1 z.2.2)) 0 0 := by
  refine wx_M.of (by decide) (Nat.le_of_ble_eq_true rfl) ?_
  intro p e s m as below meth c A ls C K w hr hlocks _ hl
  exact bX8_takesSign_0 C K (fun H locs ls pc w d => wx_iret C hr hlocks w ⟨rfl, rfl⟩ d) w hl hF
theorem rX8_takesSign {p : Program} {l : Launch} {e : Env} {R : Room} {s : State} {m : MethodId} {as : Array Value} {below : List Frame} {meth : Method} {c : Code} {H : Heap} {locs : List Loc} {cells slots : Nat} {Q : State → Prop} {cc : ByteArray} {nL pc : Nat} {ls : Array Slot} {rest : List Value} {γ : wx_G} {A : Nat → Prop} {o : Nat} {ad : Nat → Nat} {f : xF} {g : xG} {z : Int32 × xF × xG} (C : CallFix p m c cc nL s as lw_all RX8) (K : wx_C γ A s) (w : wx_w γ A s H locs (mw γ o ad f g)) (hF : pX8_takesSign f g = some z) (hls : ls.size = nL) (hR : rmX8_takesSign.frames + 1 ≤ R.frames ∧ 8 + (2 + 11) + rmX8_takesSign.locals ≤ R.locals) (hW : (rest.map fun v => v.category).sum ≤ 8) (d : decode cc pc = .ok (.invokevirtual 244, 3)) (kk : ∀ (H : Heap) (locs : List Loc), wx_w γ A s H locs (mw γ o ad z.2.1 z.2.2) → W p l e R s m as below meth c H locs cells slots Q (F0 m (pc + 3) ls (.int z.1 :: rest))) (hf : cells ≤ R.cells ∧ slots ≤ R.slots := by exact ⟨Nat.le_of_ble_eq_true rfl, Nat.le_of_ble_eq_true rfl⟩) : W p l e R s m as below meth c H locs cells slots Q (F0 m pc ls (.ref o :: rest)) :=
  wx_callV (n := 0) C K w (mX8_takesSign (l := l) hF) q1564 q1566 qs70 q123 q1567 rfl rfl (by decide +kernel) (va_recv K.1.1 w.1 (ci := 0) (q0 := 0) rfl rfl) rfl rfl hR hls hW hf d (fun v ws H1 locs1 hp w => by obtain ⟨rfl, rfl⟩ := hp; exact kk H1 locs1 w)

/-! WalkingStonesModel.takesE(I)Z -/
abbrev rmX8_takesE : Room := { frames := 4, cells := 0, slots := 0, locals := 85 }
def pX8_takesE_176 (k19 : xF → xG → Int32 → Int32 → Option (Int32 × xF × xG)) (f : xF) (g : xG) (v3 : Int32) (t0 : Int32) : Option (Int32 × xF × xG) := (pX8_goOn f g).bind (fun r178 => k19 r178.1 r178.2 t0 v3)

def pX8_takesE_164 (k19 : xF → xG → Int32 → Int32 → Option (Int32 × xF × xG)) (f : xF) (g : xG) (v7 : Int32) (t0 : Int32) : Option (Int32 × xF × xG) := if v7 = (1 : Int32) then pX8_takesE_176 k19 f g t0 (1 : Int32) else pX8_takesE_176 k19 f g t0 (0 : Int32)

def pX8_takesE_154 (k19 : xF → xG → Int32 → Int32 → Option (Int32 × xF × xG)) (f : xF) (g : xG) (v7 : Int32) : Option (Int32 × xF × xG) := pX8_takesE_164 k19 f g v7 (1 : Int32)

def pX8_takesE_131 (k19 : xF → xG → Int32 → Int32 → Option (Int32 × xF × xG)) (f : xF) (g : xG) (v2 : Int32) (v4 : Int32) (v5 : Int32) (v6 : Int32) (t0 : Int32) : Option (Int32 × xF × xG) := if t0 = 0 then some ((0 : Int32), f, g) else (if v2 = 0 then pX8_takesE_164 k19 f g t0 v6 else (if v4 = 0 then (if v5 = 0 then pX8_takesE_164 k19 f g t0 (0 : Int32) else pX8_takesE_154 k19 f g t0) else pX8_takesE_154 k19 f g t0))

def pX8_takesE_113 (k19 : xF → xG → Int32 → Int32 → Option (Int32 × xF × xG)) (f : xF) (g : xG) (v2 : Int32) (v3 : Int32) (v4 : Int32) (v5 : Int32) (t0 : Int32) : Option (Int32 × xF × xG) := if v2 = 0 then (pX8_takesSign f g).bind (fun r128 => pX8_takesE_131 k19 r128.2.1 r128.2.2 v2 v4 v5 t0 r128.1) else (pX8_takesOne f g v3).bind (fun r121 => pX8_takesE_131 k19 r121.2.1 r121.2.2 v2 v4 v5 t0 r121.1)

def pX8_takesE_98 (k19 : xF → xG → Int32 → Int32 → Option (Int32 × xF × xG)) (f : xF) (g : xG) (v2 : Int32) (v3 : Int32) (v4 : Int32) (t0 : Int32) : Option (Int32 × xF × xG) := if (f 15) = (2 : Int32) then pX8_takesE_113 k19 f g v2 v3 v4 t0 (1 : Int32) else pX8_takesE_113 k19 f g v2 v3 v4 t0 (0 : Int32)

def pX8_takesE_75 (k19 : xF → xG → Int32 → Int32 → Option (Int32 × xF × xG)) (f : xF) (g : xG) (v2 : Int32) (v3 : Int32) : Option (Int32 × xF × xG) := (pX8_isWord f g (14836 : Int32)).bind (fun r79 => if (f 15) = (40 : Int32) then pX8_takesE_98 k19 f g v2 v3 r79 (1 : Int32) else pX8_takesE_98 k19 f g v2 v3 r79 (0 : Int32))

def pX8_takesE_74 (f : xF) (g : xG) (t0 : Int32) : Option (Int32 × xF × xG) := if gbz t0 = true then some (t0, f, g) else none

def pX8_takesE_73 (f : xF) (g : xG) : Option (Int32 × xF × xG) := pX8_takesE_74 f g (0 : Int32)

def pX8_takesE_48 (f : xF) (g : xG) : Option (Int32 × xF × xG) := (pX8_settle f g (1 : Int32)).bind (fun r50 => if (r50.1 19) = 0 then (if (r50.1 15) = (59 : Int32) then pX8_takesE_74 r50.1 r50.2 (1 : Int32) else pX8_takesE_73 r50.1 r50.2) else pX8_takesE_73 r50.1 r50.2)

def pX8_takesE_19 : Nat → xF → xG → Int32 → Int32 → Option (Int32 × xF × xG)
  | 0, _, _, _, _ => none
  | n + 1, f, g, v2, v3 => if v2 = 0 then (if (f 15) = (41 : Int32) then pX8_takesE_75 (pX8_takesE_19 n) f g v2 v3 else (if (f 15) = (59 : Int32) then pX8_takesE_48 f g else (if 0 ≤ (f 15) then pX8_takesE_75 (pX8_takesE_19 n) f g v2 v3 else pX8_takesE_48 f g))) else pX8_takesE_75 (pX8_takesE_19 n) f g v2 v3

def pX8_takesE_0 (f : xF) (g : xG) (v1 : Int32) : Option (Int32 × xF × xG) := pX8_takesE_19 5000 (upd (upd (upd f 20 v1) 19 (0 : Int32)) 18 (0 : Int32)) g (1 : Int32) (1 : Int32)

abbrev pX8_takesE (f : xF) (g : xG) (v1 : Int32) : Option (Int32 × xF × xG) := pX8_takesE_0 f g v1
theorem bX8_takesE_176 {p : Program} {l : Launch} {e : Env} {s : State} {m : MethodId} {as : Array Value} {below : List Frame} {meth : Method} {c : Code} {A : Nat → Prop} {Q : State → Prop} {γ : wx_G} {o : Nat} {ad : Nat → Nat} {z : Int32 × xF × xG} (C : CallFix p m c cX8_takesE 8 s as lw_all RX8) (K : wx_C γ A s) (E : ∀ (H : Heap) (locs : List Loc) (ls : Array Slot) (pc : Nat), narrow .boolean (.int z.1) = .int z.1 → wx_w γ A s H locs (mw γ o ad z.2.1 z.2.2) → decode cX8_takesE pc = .ok (.ireturn, 1) → W p l e rmX8_takesE s m as below meth c H locs 0 0 Q (F0 m pc ls [.int z.1])) {k19 : xF → xG → Int32 → Int32 → Option (Int32 × xF × xG)} (hk19 : ∀ (f : xF) (g : xG) (v2 : Int32) (v3 : Int32) (H : Heap) (locs : List Loc) (ls : Array Slot), k19 f g v2 v3 = some z → wx_w γ A s H locs (mw γ o ad f g) → lv_has ls 8 [(0, .ref o), (2, .int v2), (3, .int v3)] → W p l e rmX8_takesE s m as below meth c H locs 0 0 Q (F0 m 19 ls [])) {f : xF} {g : xG} {v3 : Int32} {t0 : Int32} {H : Heap} {locs : List Loc} {ls : Array Slot} (w : wx_w γ A s H locs (mw γ o ad f g)) (hl : lv_has ls 8 [(0, .ref o), (3, .int v3)]) (hF : pX8_takesE_176 k19 f g v3 t0 = some z) : W p l e rmX8_takesE s m as below meth c H locs 0 0 Q (F0 m 176 ls [.int t0]) := by
  have hx := C.1
  have hb := C.2.1
  unfold pX8_takesE_176 at hF
  refine lv_istore_n (lv' := [(2, .int t0), (0, .ref o), (3, .int v3)]) hx hb dX8_takesE_176 rfl hl (by decide) rfl (fun ls hl => ?_)
  refine lv_aload_n hx hb dX8_takesE_177 rfl (lv_at hl 1 rfl) ?_
  obtain ⟨r178, hr, hF⟩ := obd hF
  refine rX8_goOn C K w hr hl.1 ⟨Nat.le_of_ble_eq_true rfl, Nat.le_of_ble_eq_true rfl⟩ (Nat.le_of_ble_eq_true rfl) dX8_takesE_178 (fun H locs w => ?_)
  refine lv_goto (tgt := 19) hx hb dX8_takesE_181 (by decide) ?_
  exact hk19 _ _ _ _ _ _ _ hF w (lv_sub hl [1, 0, 2] rfl)

theorem bX8_takesE_164 {p : Program} {l : Launch} {e : Env} {s : State} {m : MethodId} {as : Array Value} {below : List Frame} {meth : Method} {c : Code} {A : Nat → Prop} {Q : State → Prop} {γ : wx_G} {o : Nat} {ad : Nat → Nat} {z : Int32 × xF × xG} (C : CallFix p m c cX8_takesE 8 s as lw_all RX8) (K : wx_C γ A s) (E : ∀ (H : Heap) (locs : List Loc) (ls : Array Slot) (pc : Nat), narrow .boolean (.int z.1) = .int z.1 → wx_w γ A s H locs (mw γ o ad z.2.1 z.2.2) → decode cX8_takesE pc = .ok (.ireturn, 1) → W p l e rmX8_takesE s m as below meth c H locs 0 0 Q (F0 m pc ls [.int z.1])) {k19 : xF → xG → Int32 → Int32 → Option (Int32 × xF × xG)} (hk19 : ∀ (f : xF) (g : xG) (v2 : Int32) (v3 : Int32) (H : Heap) (locs : List Loc) (ls : Array Slot), k19 f g v2 v3 = some z → wx_w γ A s H locs (mw γ o ad f g) → lv_has ls 8 [(0, .ref o), (2, .int v2), (3, .int v3)] → W p l e rmX8_takesE s m as below meth c H locs 0 0 Q (F0 m 19 ls [])) {f : xF} {g : xG} {v7 : Int32} {t0 : Int32} {H : Heap} {locs : List Loc} {ls : Array Slot} (w : wx_w γ A s H locs (mw γ o ad f g)) (hl : lv_has ls 8 [(0, .ref o), (7, .int v7)]) (hF : pX8_takesE_164 k19 f g v7 t0 = some z) : W p l e rmX8_takesE s m as below meth c H locs 0 0 Q (F0 m 164 ls [.int t0]) := by
  have hx := C.1
  have hb := C.2.1
  unfold pX8_takesE_164 at hF
  refine lv_istore_n (lv' := [(3, .int t0), (0, .ref o), (7, .int v7)]) hx hb dX8_takesE_164 rfl hl (by decide) rfl (fun ls hl => ?_)
  refine lv_iload hx hb dX8_takesE_165 (lv_at hl 2 rfl) ?_
  refine lv_iconst (v := (1 : Int32)) hx hb dX8_takesE_167 (by decide) ?_
  refine lv_icmp_ne (tgt := 175) hx hb dX8_takesE_168 (by decide) (fun c => ?_) (fun c => ?_)
  · have hF := (if_neg c).symm.trans hF
    refine lv_iconst (v := (0 : Int32)) hx hb dX8_takesE_175 (by decide) ?_
    exact bX8_takesE_176 C K E hk19 w (lv_sub hl [1, 0] rfl) hF
  · have hF := (if_pos c).symm.trans hF
    refine lv_iconst (v := (1 : Int32)) hx hb dX8_takesE_171 (by decide) ?_
    refine lv_goto (tgt := 176) hx hb dX8_takesE_172 (by decide) ?_
    exact bX8_takesE_176 C K E hk19 w (lv_sub hl [1, 0] rfl) hF

theorem bX8_takesE_154 {p : Program} {l : Launch} {e : Env} {s : State} {m : MethodId} {as : Array Value} {below : List Frame} {meth : Method} {c : Code} {A : Nat → Prop} {Q : State → Prop} {γ : wx_G} {o : Nat} {ad : Nat → Nat} {z : Int32 × xF × xG} (C : CallFix p m c cX8_takesE 8 s as lw_all RX8) (K : wx_C γ A s) (E : ∀ (H : Heap) (locs : List Loc) (ls : Array Slot) (pc : Nat), narrow .boolean (.int z.1) = .int z.1 → wx_w γ A s H locs (mw γ o ad z.2.1 z.2.2) → decode cX8_takesE pc = .ok (.ireturn, 1) → W p l e rmX8_takesE s m as below meth c H locs 0 0 Q (F0 m pc ls [.int z.1])) {k19 : xF → xG → Int32 → Int32 → Option (Int32 × xF × xG)} (hk19 : ∀ (f : xF) (g : xG) (v2 : Int32) (v3 : Int32) (H : Heap) (locs : List Loc) (ls : Array Slot), k19 f g v2 v3 = some z → wx_w γ A s H locs (mw γ o ad f g) → lv_has ls 8 [(0, .ref o), (2, .int v2), (3, .int v3)] → W p l e rmX8_takesE s m as below meth c H locs 0 0 Q (F0 m 19 ls [])) {f : xF} {g : xG} {v7 : Int32} {H : Heap} {locs : List Loc} {ls : Array Slot} (w : wx_w γ A s H locs (mw γ o ad f g)) (hl : lv_has ls 8 [(0, .ref o), (7, .int v7)]) (hF : pX8_takesE_154 k19 f g v7 = some z) : W p l e rmX8_takesE s m as below meth c H locs 0 0 Q (F0 m 154 ls []) := by
  have hx := C.1
  have hb := C.2.1
  unfold pX8_takesE_154 at hF
  refine lv_iconst (v := (1 : Int32)) hx hb dX8_takesE_154 (by decide) ?_
  refine lv_goto (tgt := 164) hx hb dX8_takesE_155 (by decide) ?_
  exact bX8_takesE_164 C K E hk19 w hl hF

theorem bX8_takesE_131 {p : Program} {l : Launch} {e : Env} {s : State} {m : MethodId} {as : Array Value} {below : List Frame} {meth : Method} {c : Code} {A : Nat → Prop} {Q : State → Prop} {γ : wx_G} {o : Nat} {ad : Nat → Nat} {z : Int32 × xF × xG} (C : CallFix p m c cX8_takesE 8 s as lw_all RX8) (K : wx_C γ A s) (E : ∀ (H : Heap) (locs : List Loc) (ls : Array Slot) (pc : Nat), narrow .boolean (.int z.1) = .int z.1 → wx_w γ A s H locs (mw γ o ad z.2.1 z.2.2) → decode cX8_takesE pc = .ok (.ireturn, 1) → W p l e rmX8_takesE s m as below meth c H locs 0 0 Q (F0 m pc ls [.int z.1])) {k19 : xF → xG → Int32 → Int32 → Option (Int32 × xF × xG)} (hk19 : ∀ (f : xF) (g : xG) (v2 : Int32) (v3 : Int32) (H : Heap) (locs : List Loc) (ls : Array Slot), k19 f g v2 v3 = some z → wx_w γ A s H locs (mw γ o ad f g) → lv_has ls 8 [(0, .ref o), (2, .int v2), (3, .int v3)] → W p l e rmX8_takesE s m as below meth c H locs 0 0 Q (F0 m 19 ls [])) {f : xF} {g : xG} {v2 : Int32} {v4 : Int32} {v5 : Int32} {v6 : Int32} {t0 : Int32} {H : Heap} {locs : List Loc} {ls : Array Slot} (w : wx_w γ A s H locs (mw γ o ad f g)) (hl : lv_has ls 8 [(0, .ref o), (2, .int v2), (4, .int v4), (5, .int v5), (6, .int v6)]) (hF : pX8_takesE_131 k19 f g v2 v4 v5 v6 t0 = some z) : W p l e rmX8_takesE s m as below meth c H locs 0 0 Q (F0 m 131 ls [.int t0]) := by
  have hx := C.1
  have hb := C.2.1
  unfold pX8_takesE_131 at hF
  refine lv_istore (lv' := [(7, .int t0), (0, .ref o), (2, .int v2), (4, .int v4), (5, .int v5), (6, .int v6)]) hx hb dX8_takesE_131 hl (by decide) rfl (fun ls hl => ?_)
  refine lv_iload hx hb dX8_takesE_133 (lv_at hl 0 rfl) ?_
  refine lv_if_ne (tgt := 140) hx hb dX8_takesE_135 (by decide) (fun c => ?_) (fun c => ?_)
  · have hF := (if_neg c).symm.trans hF
    refine lv_iload_n hx hb dX8_takesE_140 rfl (lv_at hl 2 rfl) ?_
    refine lv_if_eq (tgt := 162) hx hb dX8_takesE_141 (by decide) (fun c => ?_) (fun c => ?_)
    · have hF := (if_pos c).symm.trans hF
      refine lv_iload hx hb dX8_takesE_162 (lv_at hl 5 rfl) ?_
      exact bX8_takesE_164 C K E hk19 w (lv_sub hl [1, 0] rfl) hF
    · have hF := (if_neg c).symm.trans hF
      refine lv_iload hx hb dX8_takesE_144 (lv_at hl 3 rfl) ?_
      refine lv_if_ne (tgt := 154) hx hb dX8_takesE_146 (by decide) (fun c => ?_) (fun c => ?_)
      · have hF := (if_neg c).symm.trans hF
        exact bX8_takesE_154 C K E hk19 w (lv_sub hl [1, 0] rfl) hF
      · have hF := (if_pos c).symm.trans hF
        refine lv_iload hx hb dX8_takesE_149 (lv_at hl 4 rfl) ?_
        refine lv_if_eq (tgt := 158) hx hb dX8_takesE_151 (by decide) (fun c => ?_) (fun c => ?_)
        · have hF := (if_pos c).symm.trans hF
          refine lv_iconst (v := (0 : Int32)) hx hb dX8_takesE_158 (by decide) ?_
          refine lv_goto (tgt := 164) hx hb dX8_takesE_159 (by decide) ?_
          exact bX8_takesE_164 C K E hk19 w (lv_sub hl [1, 0] rfl) hF
        · have hF := (if_neg c).symm.trans hF
          exact bX8_takesE_154 C K E hk19 w (lv_sub hl [1, 0] rfl) hF
  · have hF := (if_pos c).symm.trans hF
    refine lv_iconst (v := (0 : Int32)) hx hb dX8_takesE_138 (by decide) ?_
    have hF := Option.some.inj hF
    subst hF
    exact E _ _ _ _ wx_nz0 w dX8_takesE_139

theorem bX8_takesE_113 {p : Program} {l : Launch} {e : Env} {s : State} {m : MethodId} {as : Array Value} {below : List Frame} {meth : Method} {c : Code} {A : Nat → Prop} {Q : State → Prop} {γ : wx_G} {o : Nat} {ad : Nat → Nat} {z : Int32 × xF × xG} (C : CallFix p m c cX8_takesE 8 s as lw_all RX8) (K : wx_C γ A s) (E : ∀ (H : Heap) (locs : List Loc) (ls : Array Slot) (pc : Nat), narrow .boolean (.int z.1) = .int z.1 → wx_w γ A s H locs (mw γ o ad z.2.1 z.2.2) → decode cX8_takesE pc = .ok (.ireturn, 1) → W p l e rmX8_takesE s m as below meth c H locs 0 0 Q (F0 m pc ls [.int z.1])) {k19 : xF → xG → Int32 → Int32 → Option (Int32 × xF × xG)} (hk19 : ∀ (f : xF) (g : xG) (v2 : Int32) (v3 : Int32) (H : Heap) (locs : List Loc) (ls : Array Slot), k19 f g v2 v3 = some z → wx_w γ A s H locs (mw γ o ad f g) → lv_has ls 8 [(0, .ref o), (2, .int v2), (3, .int v3)] → W p l e rmX8_takesE s m as below meth c H locs 0 0 Q (F0 m 19 ls [])) {f : xF} {g : xG} {v2 : Int32} {v3 : Int32} {v4 : Int32} {v5 : Int32} {t0 : Int32} {H : Heap} {locs : List Loc} {ls : Array Slot} (w : wx_w γ A s H locs (mw γ o ad f g)) (hl : lv_has ls 8 [(0, .ref o), (2, .int v2), (3, .int v3), (4, .int v4), (5, .int v5)]) (hF : pX8_takesE_113 k19 f g v2 v3 v4 v5 t0 = some z) : W p l e rmX8_takesE s m as below meth c H locs 0 0 Q (F0 m 113 ls [.int t0]) := by
  have hx := C.1
  have hb := C.2.1
  unfold pX8_takesE_113 at hF
  refine lv_istore (lv' := [(6, .int t0), (0, .ref o), (2, .int v2), (3, .int v3), (4, .int v4), (5, .int v5)]) hx hb dX8_takesE_113 hl (by decide) rfl (fun ls hl => ?_)
  refine lv_iload_n hx hb dX8_takesE_115 rfl (lv_at hl 2 rfl) ?_
  refine lv_if_eq (tgt := 127) hx hb dX8_takesE_116 (by decide) (fun c => ?_) (fun c => ?_)
  · have hF := (if_pos c).symm.trans hF
    refine lv_aload_n hx hb dX8_takesE_127 rfl (lv_at hl 1 rfl) ?_
    obtain ⟨r128, hr, hF⟩ := obd hF
    refine rX8_takesSign C K w hr hl.1 ⟨Nat.le_of_ble_eq_true rfl, Nat.le_of_ble_eq_true rfl⟩ (Nat.le_of_ble_eq_true rfl) dX8_takesE_128 (fun H locs w => ?_)
    exact bX8_takesE_131 C K E hk19 w (lv_sub hl [1, 2, 4, 5, 0] rfl) hF
  · have hF := (if_neg c).symm.trans hF
    refine lv_aload_n hx hb dX8_takesE_119 rfl (lv_at hl 1 rfl) ?_
    refine lv_iload_n hx hb dX8_takesE_120 rfl (lv_at hl 3 rfl) ?_
    obtain ⟨r121, hr, hF⟩ := obd hF
    refine rX8_takesOne C K w hr hl.1 ⟨Nat.le_of_ble_eq_true rfl, Nat.le_of_ble_eq_true rfl⟩ (Nat.le_of_ble_eq_true rfl) dX8_takesE_121 (fun H locs w => ?_)
    refine lv_goto (tgt := 131) hx hb dX8_takesE_124 (by decide) ?_
    exact bX8_takesE_131 C K E hk19 w (lv_sub hl [1, 2, 4, 5, 0] rfl) hF

theorem bX8_takesE_98 {p : Program} {l : Launch} {e : Env} {s : State} {m : MethodId} {as : Array Value} {below : List Frame} {meth : Method} {c : Code} {A : Nat → Prop} {Q : State → Prop} {γ : wx_G} {o : Nat} {ad : Nat → Nat} {z : Int32 × xF × xG} (C : CallFix p m c cX8_takesE 8 s as lw_all RX8) (K : wx_C γ A s) (E : ∀ (H : Heap) (locs : List Loc) (ls : Array Slot) (pc : Nat), narrow .boolean (.int z.1) = .int z.1 → wx_w γ A s H locs (mw γ o ad z.2.1 z.2.2) → decode cX8_takesE pc = .ok (.ireturn, 1) → W p l e rmX8_takesE s m as below meth c H locs 0 0 Q (F0 m pc ls [.int z.1])) {k19 : xF → xG → Int32 → Int32 → Option (Int32 × xF × xG)} (hk19 : ∀ (f : xF) (g : xG) (v2 : Int32) (v3 : Int32) (H : Heap) (locs : List Loc) (ls : Array Slot), k19 f g v2 v3 = some z → wx_w γ A s H locs (mw γ o ad f g) → lv_has ls 8 [(0, .ref o), (2, .int v2), (3, .int v3)] → W p l e rmX8_takesE s m as below meth c H locs 0 0 Q (F0 m 19 ls [])) {f : xF} {g : xG} {v2 : Int32} {v3 : Int32} {v4 : Int32} {t0 : Int32} {H : Heap} {locs : List Loc} {ls : Array Slot} (w : wx_w γ A s H locs (mw γ o ad f g)) (hl : lv_has ls 8 [(0, .ref o), (2, .int v2), (3, .int v3), (4, .int v4)]) (hF : pX8_takesE_98 k19 f g v2 v3 v4 t0 = some z) : W p l e rmX8_takesE s m as below meth c H locs 0 0 Q (F0 m 98 ls [.int t0]) := by
  have hx := C.1
  have hb := C.2.1
  unfold pX8_takesE_98 at hF
  refine lv_istore (lv' := [(5, .int t0), (0, .ref o), (2, .int v2), (3, .int v3), (4, .int v4)]) hx hb dX8_takesE_98 hl (by decide) rfl (fun ls hl => ?_)
  refine lv_aload_n hx hb dX8_takesE_100 rfl (lv_at hl 1 rfl) ?_
  refine mget_15 C K w dX8_takesE_101 ?_
  refine lv_iconst (v := (2 : Int32)) hx hb dX8_takesE_104 (by decide) ?_
  refine lv_icmp_ne (tgt := 112) hx hb dX8_takesE_105 (by decide) (fun c => ?_) (fun c => ?_)
  · have hF := (if_neg c).symm.trans hF
    refine lv_iconst (v := (0 : Int32)) hx hb dX8_takesE_112 (by decide) ?_
    exact bX8_takesE_113 C K E hk19 w (lv_sub hl [1, 2, 3, 4, 0] rfl) hF
  · have hF := (if_pos c).symm.trans hF
    refine lv_iconst (v := (1 : Int32)) hx hb dX8_takesE_108 (by decide) ?_
    refine lv_goto (tgt := 113) hx hb dX8_takesE_109 (by decide) ?_
    exact bX8_takesE_113 C K E hk19 w (lv_sub hl [1, 2, 3, 4, 0] rfl) hF

theorem bX8_takesE_75 {p : Program} {l : Launch} {e : Env} {s : State} {m : MethodId} {as : Array Value} {below : List Frame} {meth : Method} {c : Code} {A : Nat → Prop} {Q : State → Prop} {γ : wx_G} {o : Nat} {ad : Nat → Nat} {z : Int32 × xF × xG} (C : CallFix p m c cX8_takesE 8 s as lw_all RX8) (K : wx_C γ A s) (E : ∀ (H : Heap) (locs : List Loc) (ls : Array Slot) (pc : Nat), narrow .boolean (.int z.1) = .int z.1 → wx_w γ A s H locs (mw γ o ad z.2.1 z.2.2) → decode cX8_takesE pc = .ok (.ireturn, 1) → W p l e rmX8_takesE s m as below meth c H locs 0 0 Q (F0 m pc ls [.int z.1])) {k19 : xF → xG → Int32 → Int32 → Option (Int32 × xF × xG)} (hk19 : ∀ (f : xF) (g : xG) (v2 : Int32) (v3 : Int32) (H : Heap) (locs : List Loc) (ls : Array Slot), k19 f g v2 v3 = some z → wx_w γ A s H locs (mw γ o ad f g) → lv_has ls 8 [(0, .ref o), (2, .int v2), (3, .int v3)] → W p l e rmX8_takesE s m as below meth c H locs 0 0 Q (F0 m 19 ls [])) {f : xF} {g : xG} {v2 : Int32} {v3 : Int32} {H : Heap} {locs : List Loc} {ls : Array Slot} (w : wx_w γ A s H locs (mw γ o ad f g)) (hl : lv_has ls 8 [(0, .ref o), (2, .int v2), (3, .int v3)]) (hF : pX8_takesE_75 k19 f g v2 v3 = some z) : W p l e rmX8_takesE s m as below meth c H locs 0 0 Q (F0 m 75 ls []) := by
  have hx := C.1
  have hb := C.2.1
  unfold pX8_takesE_75 at hF
  refine lv_aload_n hx hb dX8_takesE_75 rfl (lv_at hl 0 rfl) ?_
  refine lv_sipush (v := (14836 : Int32)) hx hb dX8_takesE_76 (by decide) ?_
  obtain ⟨r79, hr, hF⟩ := obd hF
  refine rX8_isWord C K w hr hl.1 ⟨Nat.le_of_ble_eq_true rfl, Nat.le_of_ble_eq_true rfl⟩ (Nat.le_of_ble_eq_true rfl) dX8_takesE_79 (fun H locs w => ?_)
  refine lv_istore (lv' := [(4, .int r79), (0, .ref o), (2, .int v2), (3, .int v3)]) hx hb dX8_takesE_82 hl (by decide) rfl (fun ls hl => ?_)
  refine lv_aload_n hx hb dX8_takesE_84 rfl (lv_at hl 1 rfl) ?_
  refine mget_15 C K w dX8_takesE_85 ?_
  refine lv_bipush (v := (40 : Int32)) hx hb dX8_takesE_88 (by decide) ?_
  refine lv_icmp_ne (tgt := 97) hx hb dX8_takesE_90 (by decide) (fun c => ?_) (fun c => ?_)
  · have hF := (if_neg c).symm.trans hF
    refine lv_iconst (v := (0 : Int32)) hx hb dX8_takesE_97 (by decide) ?_
    exact bX8_takesE_98 C K E hk19 w (lv_sub hl [1, 2, 3, 0] rfl) hF
  · have hF := (if_pos c).symm.trans hF
    refine lv_iconst (v := (1 : Int32)) hx hb dX8_takesE_93 (by decide) ?_
    refine lv_goto (tgt := 98) hx hb dX8_takesE_94 (by decide) ?_
    exact bX8_takesE_98 C K E hk19 w (lv_sub hl [1, 2, 3, 0] rfl) hF

theorem bX8_takesE_74 {p : Program} {l : Launch} {e : Env} {s : State} {m : MethodId} {as : Array Value} {below : List Frame} {meth : Method} {c : Code} {A : Nat → Prop} {Q : State → Prop} {γ : wx_G} {o : Nat} {ad : Nat → Nat} {z : Int32 × xF × xG} (C : CallFix p m c cX8_takesE 8 s as lw_all RX8) (K : wx_C γ A s) (E : ∀ (H : Heap) (locs : List Loc) (ls : Array Slot) (pc : Nat), narrow .boolean (.int z.1) = .int z.1 → wx_w γ A s H locs (mw γ o ad z.2.1 z.2.2) → decode cX8_takesE pc = .ok (.ireturn, 1) → W p l e rmX8_takesE s m as below meth c H locs 0 0 Q (F0 m pc ls [.int z.1])) {f : xF} {g : xG} {t0 : Int32} {H : Heap} {locs : List Loc} {ls : Array Slot} (w : wx_w γ A s H locs (mw γ o ad f g)) (hl : lv_has ls 8 []) (hF : pX8_takesE_74 f g t0 = some z) : W p l e rmX8_takesE s m as below meth c H locs 0 0 Q (F0 m 74 ls [.int t0]) := by
  have hx := C.1
  have hb := C.2.1
  unfold pX8_takesE_74 at hF
  obtain ⟨hz, hF⟩ := gbz_if hF
  have hF := Option.some.inj hF
  subst hF
  exact E _ _ _ _ hz w dX8_takesE_74

theorem bX8_takesE_73 {p : Program} {l : Launch} {e : Env} {s : State} {m : MethodId} {as : Array Value} {below : List Frame} {meth : Method} {c : Code} {A : Nat → Prop} {Q : State → Prop} {γ : wx_G} {o : Nat} {ad : Nat → Nat} {z : Int32 × xF × xG} (C : CallFix p m c cX8_takesE 8 s as lw_all RX8) (K : wx_C γ A s) (E : ∀ (H : Heap) (locs : List Loc) (ls : Array Slot) (pc : Nat), narrow .boolean (.int z.1) = .int z.1 → wx_w γ A s H locs (mw γ o ad z.2.1 z.2.2) → decode cX8_takesE pc = .ok (.ireturn, 1) → W p l e rmX8_takesE s m as below meth c H locs 0 0 Q (F0 m pc ls [.int z.1])) {f : xF} {g : xG} {H : Heap} {locs : List Loc} {ls : Array Slot} (w : wx_w γ A s H locs (mw γ o ad f g)) (hl : lv_has ls 8 []) (hF : pX8_takesE_73 f g = some z) : W p l e rmX8_takesE s m as below meth c H locs 0 0 Q (F0 m 73 ls []) := by
  have hx := C.1
  have hb := C.2.1
  unfold pX8_takesE_73 at hF
  refine lv_iconst (v := (0 : Int32)) hx hb dX8_takesE_73 (by decide) ?_
  exact bX8_takesE_74 C K E w hl hF

theorem bX8_takesE_48 {p : Program} {l : Launch} {e : Env} {s : State} {m : MethodId} {as : Array Value} {below : List Frame} {meth : Method} {c : Code} {A : Nat → Prop} {Q : State → Prop} {γ : wx_G} {o : Nat} {ad : Nat → Nat} {z : Int32 × xF × xG} (C : CallFix p m c cX8_takesE 8 s as lw_all RX8) (K : wx_C γ A s) (E : ∀ (H : Heap) (locs : List Loc) (ls : Array Slot) (pc : Nat), narrow .boolean (.int z.1) = .int z.1 → wx_w γ A s H locs (mw γ o ad z.2.1 z.2.2) → decode cX8_takesE pc = .ok (.ireturn, 1) → W p l e rmX8_takesE s m as below meth c H locs 0 0 Q (F0 m pc ls [.int z.1])) {f : xF} {g : xG} {H : Heap} {locs : List Loc} {ls : Array Slot} (w : wx_w γ A s H locs (mw γ o ad f g)) (hl : lv_has ls 8 [(0, .ref o)]) (hF : pX8_takesE_48 f g = some z) : W p l e rmX8_takesE s m as below meth c H locs 0 0 Q (F0 m 48 ls []) := by
  have hx := C.1
  have hb := C.2.1
  unfold pX8_takesE_48 at hF
  refine lv_aload_n hx hb dX8_takesE_48 rfl (lv_at hl 0 rfl) ?_
  refine lv_iconst (v := (1 : Int32)) hx hb dX8_takesE_49 (by decide) ?_
  obtain ⟨r50, hr, hF⟩ := obd hF
  refine rX8_settle C K w hr hl.1 ⟨Nat.le_of_ble_eq_true rfl, Nat.le_of_ble_eq_true rfl⟩ (Nat.le_of_ble_eq_true rfl) dX8_takesE_50 (fun H locs w => ?_)
  refine lv_aload_n hx hb dX8_takesE_53 rfl (lv_at hl 0 rfl) ?_
  refine mget_19 C K w dX8_takesE_54 ?_
  refine lv_if_ne (tgt := 73) hx hb dX8_takesE_57 (by decide) (fun c => ?_) (fun c => ?_)
  · have hF := (if_neg c).symm.trans hF
    exact bX8_takesE_73 C K E w (lv_sub hl [] rfl) hF
  · have hF := (if_pos c).symm.trans hF
    refine lv_aload_n hx hb dX8_takesE_60 rfl (lv_at hl 0 rfl) ?_
    refine mget_15 C K w dX8_takesE_61 ?_
    refine lv_bipush (v := (59 : Int32)) hx hb dX8_takesE_64 (by decide) ?_
    refine lv_icmp_ne (tgt := 73) hx hb dX8_takesE_66 (by decide) (fun c => ?_) (fun c => ?_)
    · have hF := (if_neg c).symm.trans hF
      exact bX8_takesE_73 C K E w (lv_sub hl [] rfl) hF
    · have hF := (if_pos c).symm.trans hF
      refine lv_iconst (v := (1 : Int32)) hx hb dX8_takesE_69 (by decide) ?_
      refine lv_goto (tgt := 74) hx hb dX8_takesE_70 (by decide) ?_
      exact bX8_takesE_74 C K E w (lv_sub hl [] rfl) hF

theorem bX8_takesE_19 {p : Program} {l : Launch} {e : Env} {s : State} {m : MethodId} {as : Array Value} {below : List Frame} {meth : Method} {c : Code} {A : Nat → Prop} {Q : State → Prop} {γ : wx_G} {o : Nat} {ad : Nat → Nat} {z : Int32 × xF × xG} (C : CallFix p m c cX8_takesE 8 s as lw_all RX8) (K : wx_C γ A s) (E : ∀ (H : Heap) (locs : List Loc) (ls : Array Slot) (pc : Nat), narrow .boolean (.int z.1) = .int z.1 → wx_w γ A s H locs (mw γ o ad z.2.1 z.2.2) → decode cX8_takesE pc = .ok (.ireturn, 1) → W p l e rmX8_takesE s m as below meth c H locs 0 0 Q (F0 m pc ls [.int z.1])) : ∀ (n : Nat) (f : xF) (g : xG) (v2 : Int32) (v3 : Int32) (H : Heap) (locs : List Loc) (ls : Array Slot), pX8_takesE_19 n f g v2 v3 = some z → wx_w γ A s H locs (mw γ o ad f g) → lv_has ls 8 [(0, .ref o), (2, .int v2), (3, .int v3)] → W p l e rmX8_takesE s m as below meth c H locs 0 0 Q (F0 m 19 ls []) := by
  have hx := C.1
  have hb := C.2.1
  intro n
  induction n with
  | zero =>
    intro f g v2 v3 H locs ls hF w hl
    have hF : (none : Option (Int32 × xF × xG)) = some z := hF
    cases hF
  | succ n ih =>
    intro f g v2 v3 H locs ls hF w hl
    rw [pX8_takesE_19] at hF
    refine lv_iload_n hx hb dX8_takesE_19 rfl (lv_at hl 1 rfl) ?_
    refine lv_if_ne (tgt := 75) hx hb dX8_takesE_20 (by decide) (fun c => ?_) (fun c => ?_)
    · have hF := (if_neg c).symm.trans hF
      exact bX8_takesE_75 C K E ih w hl hF
    · have hF := (if_pos c).symm.trans hF
      refine lv_aload_n hx hb dX8_takesE_23 rfl (lv_at hl 0 rfl) ?_
      refine mget_15 C K w dX8_takesE_24 ?_
      refine lv_bipush (v := (41 : Int32)) hx hb dX8_takesE_27 (by decide) ?_
      refine lv_icmp_eq (tgt := 75) hx hb dX8_takesE_29 (by decide) (fun c => ?_) (fun c => ?_)
      · have hF := (if_pos c).symm.trans hF
        exact bX8_takesE_75 C K E ih w hl hF
      · have hF := (if_neg c).symm.trans hF
        refine lv_aload_n hx hb dX8_takesE_32 rfl (lv_at hl 0 rfl) ?_
        refine mget_15 C K w dX8_takesE_33 ?_
        refine lv_bipush (v := (59 : Int32)) hx hb dX8_takesE_36 (by decide) ?_
        refine lv_icmp_eq (tgt := 48) hx hb dX8_takesE_38 (by decide) (fun c => ?_) (fun c => ?_)
        · have hF := (if_pos c).symm.trans hF
          exact bX8_takesE_48 C K E w (lv_sub hl [0] rfl) hF
        · have hF := (if_neg c).symm.trans hF
          refine lv_aload_n hx hb dX8_takesE_41 rfl (lv_at hl 0 rfl) ?_
          refine mget_15 C K w dX8_takesE_42 ?_
          refine lv_if_ge (tgt := 75) hx hb dX8_takesE_45 (by decide) (fun c => ?_) (fun c => ?_)
          · have hF := (if_pos c).symm.trans hF
            exact bX8_takesE_75 C K E ih w hl hF
          · have hF := (if_neg c).symm.trans hF
            exact bX8_takesE_48 C K E w (lv_sub hl [0] rfl) hF

theorem bX8_takesE_0 {p : Program} {l : Launch} {e : Env} {s : State} {m : MethodId} {as : Array Value} {below : List Frame} {meth : Method} {c : Code} {A : Nat → Prop} {Q : State → Prop} {γ : wx_G} {o : Nat} {ad : Nat → Nat} {z : Int32 × xF × xG} (C : CallFix p m c cX8_takesE 8 s as lw_all RX8) (K : wx_C γ A s) (E : ∀ (H : Heap) (locs : List Loc) (ls : Array Slot) (pc : Nat), narrow .boolean (.int z.1) = .int z.1 → wx_w γ A s H locs (mw γ o ad z.2.1 z.2.2) → decode cX8_takesE pc = .ok (.ireturn, 1) → W p l e rmX8_takesE s m as below meth c H locs 0 0 Q (F0 m pc ls [.int z.1])) {f : xF} {g : xG} {v1 : Int32} {H : Heap} {locs : List Loc} {ls : Array Slot} (w : wx_w γ A s H locs (mw γ o ad f g)) (hl : lv_has ls 8 [(0, .ref o), (1, .int v1)]) (hF : pX8_takesE_0 f g v1 = some z) : W p l e rmX8_takesE s m as below meth c H locs 0 0 Q (F0 m 0 ls []) := by
  have hx := C.1
  have hb := C.2.1
  unfold pX8_takesE_0 at hF
  refine lv_aload_n hx hb dX8_takesE_0 rfl (lv_at hl 0 rfl) ?_
  refine lv_iload_n hx hb dX8_takesE_1 rfl (lv_at hl 1 rfl) ?_
  refine mput_20 C K w dX8_takesE_2 (fun H locs w => ?_)
  refine lv_aload_n hx hb dX8_takesE_5 rfl (lv_at hl 0 rfl) ?_
  refine lv_iconst (v := (0 : Int32)) hx hb dX8_takesE_6 (by decide) ?_
  refine mput_19 C K w dX8_takesE_7 (fun H locs w => ?_)
  refine lv_aload_n hx hb dX8_takesE_10 rfl (lv_at hl 0 rfl) ?_
  refine lv_iconst (v := (0 : Int32)) hx hb dX8_takesE_11 (by decide) ?_
  refine mput_18 C K w dX8_takesE_12 (fun H locs w => ?_)
  refine lv_iconst (v := (1 : Int32)) hx hb dX8_takesE_15 (by decide) ?_
  refine lv_istore_n (lv' := [(2, .int (1 : Int32)), (0, .ref o), (1, .int v1)]) hx hb dX8_takesE_16 rfl hl (by decide) rfl (fun ls hl => ?_)
  refine lv_iconst (v := (1 : Int32)) hx hb dX8_takesE_17 (by decide) ?_
  refine lv_istore_n (lv' := [(3, .int (1 : Int32)), (2, .int (1 : Int32)), (0, .ref o), (1, .int v1)]) hx hb dX8_takesE_18 rfl hl (by decide) rfl (fun ls hl => ?_)
  exact bX8_takesE_19 C K E 5000 _ _ _ _ _ _ _ hF w (lv_sub hl [2, 1, 0] rfl)

theorem mX8_takesE {l : Launch} {γ : wx_G} {o : Nat} {ad : Nat → Nat} {f : xF} {g : xG} {v1 : Int32} {z : Int32 × xF × xG} (hF : pX8_takesE f g v1 = some z) : wx_M γ l yX8_takesE (ws_ yX8_takesE cX8_takesE 8 (some .boolean)) rmX8_takesE [.ref o, .int v1] (mw γ o ad f g) (fun v ws => v = some (.int z.1) ∧ ws = (mw γ o ad z.2.1 z.2.2)) 0 0 := by
  refine wx_M.of (by decide) (Nat.le_of_ble_eq_true rfl) ?_
  intro p e s m as below meth c A ls C K w hr hlocks _ hl
  exact bX8_takesE_0 C K (fun H locs ls pc hz w d => wx_zret C hr hlocks hz w ⟨rfl, rfl⟩ d) w hl hF
theorem rX8_takesE {p : Program} {l : Launch} {e : Env} {R : Room} {s : State} {m : MethodId} {as : Array Value} {below : List Frame} {meth : Method} {c : Code} {H : Heap} {locs : List Loc} {cells slots : Nat} {Q : State → Prop} {cc : ByteArray} {nL pc : Nat} {ls : Array Slot} {rest : List Value} {γ : wx_G} {A : Nat → Prop} {o : Nat} {ad : Nat → Nat} {f : xF} {g : xG} {v1 : Int32} {z : Int32 × xF × xG} (C : CallFix p m c cc nL s as lw_all RX8) (K : wx_C γ A s) (w : wx_w γ A s H locs (mw γ o ad f g)) (hF : pX8_takesE f g v1 = some z) (hls : ls.size = nL) (hR : rmX8_takesE.frames + 1 ≤ R.frames ∧ 8 + (8 + 11) + rmX8_takesE.locals ≤ R.locals) (hW : (rest.map fun v => v.category).sum ≤ 8) (d : decode cc pc = .ok (.invokevirtual 250, 3)) (kk : ∀ (H : Heap) (locs : List Loc), wx_w γ A s H locs (mw γ o ad z.2.1 z.2.2) → W p l e R s m as below meth c H locs cells slots Q (F0 m (pc + 3) ls (.int z.1 :: rest))) (hf : cells ≤ R.cells ∧ slots ≤ R.slots := by exact ⟨Nat.le_of_ble_eq_true rfl, Nat.le_of_ble_eq_true rfl⟩) : W p l e R s m as below meth c H locs cells slots Q (F0 m pc ls (.int v1 :: .ref o :: rest)) :=
  wx_callV (n := 1) C K w (mX8_takesE (l := l) hF) q1532 q1534 qs62 q123 q1535 rfl rfl (by decide +kernel) (va_recv K.1.1 w.1 (ci := 0) (q0 := 0) rfl rfl) rfl rfl hR hls hW hf d (fun v ws H1 locs1 hp w => by obtain ⟨rfl, rfl⟩ := hp; exact kk H1 locs1 w)

/-! WalkingStonesModel.takesPart(III)Z -/
abbrev rmX8_takesPart : Room := { frames := 5, cells := 0, slots := 0, locals := 112 }
def pX8_takesPart_0 (f : xF) (g : xG) (v1 : Int32) (v2 : Int32) (v3 : Int32) : Option (Int32 × xF × xG) := (pX8_isWord f g v3).bind (fun r2 => if r2 = 0 then some ((0 : Int32), f, g) else (pX8_goOn f g).bind (fun r11 => (pX8_takesE r11.1 r11.2 (((480 : Int32) * v1) + ((160 : Int32) * v2))).bind (fun r30 => if r30.1 = 0 then some ((0 : Int32), r30.2.1, r30.2.2) else (if gin (((3 : Int32) * v1) + v2) 18 = true then (pX8_goOn r30.2.1 (va_up r30.2.2 24 (upd (r30.2.2 24) (((3 : Int32) * v1) + v2).toNatClampNeg ((r30.2.1 20) - (((480 : Int32) * v1) + ((160 : Int32) * v2)))))).bind (fun r56 => some ((1 : Int32), r56.1, r56.2)) else none))))

abbrev pX8_takesPart (f : xF) (g : xG) (v1 : Int32) (v2 : Int32) (v3 : Int32) : Option (Int32 × xF × xG) := pX8_takesPart_0 f g v1 v2 v3
theorem bX8_takesPart_0 {p : Program} {l : Launch} {e : Env} {s : State} {m : MethodId} {as : Array Value} {below : List Frame} {meth : Method} {c : Code} {A : Nat → Prop} {Q : State → Prop} {γ : wx_G} {o : Nat} {ad : Nat → Nat} {z : Int32 × xF × xG} (C : CallFix p m c cX8_takesPart 5 s as lw_all RX8) (K : wx_C γ A s) (E : ∀ (H : Heap) (locs : List Loc) (ls : Array Slot) (pc : Nat), narrow .boolean (.int z.1) = .int z.1 → wx_w γ A s H locs (mw γ o ad z.2.1 z.2.2) → decode cX8_takesPart pc = .ok (.ireturn, 1) → W p l e rmX8_takesPart s m as below meth c H locs 0 0 Q (F0 m pc ls [.int z.1])) {f : xF} {g : xG} {v1 : Int32} {v2 : Int32} {v3 : Int32} {H : Heap} {locs : List Loc} {ls : Array Slot} (w : wx_w γ A s H locs (mw γ o ad f g)) (hl : lv_has ls 5 [(0, .ref o), (1, .int v1), (2, .int v2), (3, .int v3)]) (hF : pX8_takesPart_0 f g v1 v2 v3 = some z) : W p l e rmX8_takesPart s m as below meth c H locs 0 0 Q (F0 m 0 ls []) := by
  have hx := C.1
  have hb := C.2.1
  unfold pX8_takesPart_0 at hF
  refine lv_aload_n hx hb dX8_takesPart_0 rfl (lv_at hl 0 rfl) ?_
  refine lv_iload_n hx hb dX8_takesPart_1 rfl (lv_at hl 3 rfl) ?_
  obtain ⟨r2, hr, hF⟩ := obd hF
  refine rX8_isWord C K w hr hl.1 ⟨Nat.le_of_ble_eq_true rfl, Nat.le_of_ble_eq_true rfl⟩ (Nat.le_of_ble_eq_true rfl) dX8_takesPart_2 (fun H locs w => ?_)
  refine lv_if_ne (tgt := 10) hx hb dX8_takesPart_5 (by decide) (fun c => ?_) (fun c => ?_)
  · have hF := (if_neg c).symm.trans hF
    refine lv_aload_n hx hb dX8_takesPart_10 rfl (lv_at hl 0 rfl) ?_
    obtain ⟨r11, hr, hF⟩ := obd hF
    refine rX8_goOn C K w hr hl.1 ⟨Nat.le_of_ble_eq_true rfl, Nat.le_of_ble_eq_true rfl⟩ (Nat.le_of_ble_eq_true rfl) dX8_takesPart_11 (fun H locs w => ?_)
    refine lv_sipush (v := (480 : Int32)) hx hb dX8_takesPart_14 (by decide) ?_
    refine lv_iload_n hx hb dX8_takesPart_17 rfl (lv_at hl 1 rfl) ?_
    refine lv_imul hx hb dX8_takesPart_18 ?_
    refine lv_sipush (v := (160 : Int32)) hx hb dX8_takesPart_19 (by decide) ?_
    refine lv_iload_n hx hb dX8_takesPart_22 rfl (lv_at hl 2 rfl) ?_
    refine lv_imul hx hb dX8_takesPart_23 ?_
    refine lv_iadd hx hb dX8_takesPart_24 ?_
    refine lv_istore (lv' := [(4, .int (((480 : Int32) * v1) + ((160 : Int32) * v2))), (0, .ref o), (1, .int v1), (2, .int v2), (3, .int v3)]) hx hb dX8_takesPart_25 hl (by decide) rfl (fun ls hl => ?_)
    refine lv_aload_n hx hb dX8_takesPart_27 rfl (lv_at hl 1 rfl) ?_
    refine lv_iload hx hb dX8_takesPart_28 (lv_at hl 0 rfl) ?_
    obtain ⟨r30, hr, hF⟩ := obd hF
    refine rX8_takesE C K w hr hl.1 ⟨Nat.le_of_ble_eq_true rfl, Nat.le_of_ble_eq_true rfl⟩ (Nat.le_of_ble_eq_true rfl) dX8_takesPart_30 (fun H locs w => ?_)
    refine lv_if_ne (tgt := 38) hx hb dX8_takesPart_33 (by decide) (fun c => ?_) (fun c => ?_)
    · have hF := (if_neg c).symm.trans hF
      refine lv_aload_n hx hb dX8_takesPart_38 rfl (lv_at hl 1 rfl) ?_
      refine mget_24 C K w dX8_takesPart_39 ?_
      refine lv_iconst (v := (3 : Int32)) hx hb dX8_takesPart_42 (by decide) ?_
      refine lv_iload_n hx hb dX8_takesPart_43 rfl (lv_at hl 2 rfl) ?_
      refine lv_imul hx hb dX8_takesPart_44 ?_
      refine lv_iload_n hx hb dX8_takesPart_45 rfl (lv_at hl 3 rfl) ?_
      refine lv_iadd hx hb dX8_takesPart_46 ?_
      refine lv_aload_n hx hb dX8_takesPart_47 rfl (lv_at hl 1 rfl) ?_
      refine mget_20 C K w dX8_takesPart_48 ?_
      refine lv_iload hx hb dX8_takesPart_51 (lv_at hl 0 rfl) ?_
      refine lv_isub hx hb dX8_takesPart_53 ?_
      obtain ⟨hi, hF⟩ := gin_if hF
      refine mast_24 C K w hi dX8_takesPart_54 (fun H locs w => ?_)
      refine lv_aload_n hx hb dX8_takesPart_55 rfl (lv_at hl 1 rfl) ?_
      obtain ⟨r56, hr, hF⟩ := obd hF
      refine rX8_goOn C K w hr hl.1 ⟨Nat.le_of_ble_eq_true rfl, Nat.le_of_ble_eq_true rfl⟩ (Nat.le_of_ble_eq_true rfl) dX8_takesPart_56 (fun H locs w => ?_)
      refine lv_iconst (v := (1 : Int32)) hx hb dX8_takesPart_59 (by decide) ?_
      have hF := Option.some.inj hF
      subst hF
      exact E _ _ _ _ wx_nz1 w dX8_takesPart_60
    · have hF := (if_pos c).symm.trans hF
      refine lv_iconst (v := (0 : Int32)) hx hb dX8_takesPart_36 (by decide) ?_
      have hF := Option.some.inj hF
      subst hF
      exact E _ _ _ _ wx_nz0 w dX8_takesPart_37
  · have hF := (if_pos c).symm.trans hF
    refine lv_iconst (v := (0 : Int32)) hx hb dX8_takesPart_8 (by decide) ?_
    have hF := Option.some.inj hF
    subst hF
    exact E _ _ _ _ wx_nz0 w dX8_takesPart_9

theorem mX8_takesPart {l : Launch} {γ : wx_G} {o : Nat} {ad : Nat → Nat} {f : xF} {g : xG} {v1 : Int32} {v2 : Int32} {v3 : Int32} {z : Int32 × xF × xG} (hF : pX8_takesPart f g v1 v2 v3 = some z) : wx_M γ l yX8_takesPart (ws_ yX8_takesPart cX8_takesPart 5 (some .boolean)) rmX8_takesPart [.ref o, .int v1, .int v2, .int v3] (mw γ o ad f g) (fun v ws => v = some (.int z.1) ∧ ws = (mw γ o ad z.2.1 z.2.2)) 0 0 := by
  refine wx_M.of (by decide) (Nat.le_of_ble_eq_true rfl) ?_
  intro p e s m as below meth c A ls C K w hr hlocks _ hl
  exact bX8_takesPart_0 C K (fun H locs ls pc hz w d => wx_zret C hr hlocks hz w ⟨rfl, rfl⟩ d) w hl hF
theorem rX8_takesPart {p : Program} {l : Launch} {e : Env} {R : Room} {s : State} {m : MethodId} {as : Array Value} {below : List Frame} {meth : Method} {c : Code} {H : Heap} {locs : List Loc} {cells slots : Nat} {Q : State → Prop} {cc : ByteArray} {nL pc : Nat} {ls : Array Slot} {rest : List Value} {γ : wx_G} {A : Nat → Prop} {o : Nat} {ad : Nat → Nat} {f : xF} {g : xG} {v1 : Int32} {v2 : Int32} {v3 : Int32} {z : Int32 × xF × xG} (C : CallFix p m c cc nL s as lw_all RX8) (K : wx_C γ A s) (w : wx_w γ A s H locs (mw γ o ad f g)) (hF : pX8_takesPart f g v1 v2 v3 = some z) (hls : ls.size = nL) (hR : rmX8_takesPart.frames + 1 ≤ R.frames ∧ 8 + (5 + 11) + rmX8_takesPart.locals ≤ R.locals) (hW : (rest.map fun v => v.category).sum ≤ 8) (d : decode cc pc = .ok (.invokevirtual 253, 3)) (kk : ∀ (H : Heap) (locs : List Loc), wx_w γ A s H locs (mw γ o ad z.2.1 z.2.2) → W p l e R s m as below meth c H locs cells slots Q (F0 m (pc + 3) ls (.int z.1 :: rest))) (hf : cells ≤ R.cells ∧ slots ≤ R.slots := by exact ⟨Nat.le_of_ble_eq_true rfl, Nat.le_of_ble_eq_true rfl⟩) : W p l e R s m as below meth c H locs cells slots Q (F0 m pc ls (.int v3 :: .int v2 :: .int v1 :: .ref o :: rest)) :=
  wx_callV (n := 3) C K w (mX8_takesPart (l := l) hF) q1520 q1522 qs59 q123 q1523 rfl rfl (by decide +kernel) (va_recv K.1.1 w.1 (ci := 0) (q0 := 0) rfl rfl) rfl rfl hR hls hW hf d (fun v ws H1 locs1 hp w => by obtain ⟨rfl, rfl⟩ := hp; exact kk H1 locs1 w)

/-! WalkingStonesModel.text()I -/
abbrev rmX8_text : Room := { frames := 6, cells := 0, slots := 0, locals := 136 }
def pX8_text_77 (f : xF) (g : xG) (t0 : Int32) : Option (Int32 × xF × xG) := if t0 = 0 then some ((-100 : Int32) - ((upd f 13 (0 : Int32)) 14), upd f 13 (0 : Int32), g) else some (((upd (upd f 13 (0 : Int32)) 11 (((upd f 13 (0 : Int32)) 11) + (1 : Int32))) 11) - (1 : Int32), upd (upd f 13 (0 : Int32)) 11 (((upd f 13 (0 : Int32)) 11) + (1 : Int32)), g)

def pX8_text_76 (f : xF) (g : xG) : Option (Int32 × xF × xG) := pX8_text_77 f g (0 : Int32)

def pX8_text_0 (f : xF) (g : xG) : Option (Int32 × xF × xG) := if (f 11) = (6 : Int32) then some ((-4 : Int32), f, g) else (pX8_look (upd f 14 (0 : Int32)) g).bind (fun r18 => (pX8_takesPart r18.1 r18.2 (r18.1 11) (0 : Int32) (1156 : Int32)).bind (fun r30 => if r30.1 = 0 then pX8_text_76 r30.2.1 r30.2.2 else (pX8_takesPart r30.2.1 r30.2.2 (r30.2.1 11) (1 : Int32) (99724 : Int32)).bind (fun r44 => if r44.1 = 0 then pX8_text_76 r44.2.1 r44.2.2 else (pX8_takesPart r44.2.1 r44.2.2 (r44.2.1 11) (2 : Int32) (24627848 : Int32)).bind (fun r58 => if r58.1 = 0 then pX8_text_76 r58.2.1 r58.2.2 else (if (r58.2.1 15) = (-1 : Int32) then pX8_text_77 r58.2.1 r58.2.2 (1 : Int32) else pX8_text_76 r58.2.1 r58.2.2)))))

abbrev pX8_text (f : xF) (g : xG) : Option (Int32 × xF × xG) := pX8_text_0 f g
theorem bX8_text_77 {p : Program} {l : Launch} {e : Env} {s : State} {m : MethodId} {as : Array Value} {below : List Frame} {meth : Method} {c : Code} {A : Nat → Prop} {Q : State → Prop} {γ : wx_G} {o : Nat} {ad : Nat → Nat} {z : Int32 × xF × xG} (C : CallFix p m c cX8_text 2 s as lw_all RX8) (K : wx_C γ A s) (E : ∀ (H : Heap) (locs : List Loc) (ls : Array Slot) (pc : Nat), wx_w γ A s H locs (mw γ o ad z.2.1 z.2.2) → decode cX8_text pc = .ok (.ireturn, 1) → W p l e rmX8_text s m as below meth c H locs 0 0 Q (F0 m pc ls [.int z.1])) {f : xF} {g : xG} {t0 : Int32} {H : Heap} {locs : List Loc} {ls : Array Slot} (w : wx_w γ A s H locs (mw γ o ad f g)) (hl : lv_has ls 2 [(0, .ref o)]) (hF : pX8_text_77 f g t0 = some z) : W p l e rmX8_text s m as below meth c H locs 0 0 Q (F0 m 77 ls [.int t0]) := by
  have hx := C.1
  have hb := C.2.1
  unfold pX8_text_77 at hF
  refine lv_istore_n (lv' := [(1, .int t0), (0, .ref o)]) hx hb dX8_text_77 rfl hl (by decide) rfl (fun ls hl => ?_)
  refine lv_aload_n hx hb dX8_text_78 rfl (lv_at hl 1 rfl) ?_
  refine lv_iconst (v := (0 : Int32)) hx hb dX8_text_79 (by decide) ?_
  refine mput_13 C K w dX8_text_80 (fun H locs w => ?_)
  refine lv_iload_n hx hb dX8_text_83 rfl (lv_at hl 0 rfl) ?_
  refine lv_if_ne (tgt := 95) hx hb dX8_text_84 (by decide) (fun c => ?_) (fun c => ?_)
  · have hF := (if_neg c).symm.trans hF
    refine lv_aload_n hx hb dX8_text_95 rfl (lv_at hl 1 rfl) ?_
    refine lv_dup hx hb dX8_text_96 rfl ?_
    refine mget_11 C K w dX8_text_97 ?_
    refine lv_iconst (v := (1 : Int32)) hx hb dX8_text_100 (by decide) ?_
    refine lv_iadd hx hb dX8_text_101 ?_
    refine mput_11 C K w dX8_text_102 (fun H locs w => ?_)
    refine lv_aload_n hx hb dX8_text_105 rfl (lv_at hl 1 rfl) ?_
    refine mget_11 C K w dX8_text_106 ?_
    refine lv_iconst (v := (1 : Int32)) hx hb dX8_text_109 (by decide) ?_
    refine lv_isub hx hb dX8_text_110 ?_
    have hF := Option.some.inj hF
    subst hF
    exact E _ _ _ _ w dX8_text_111
  · have hF := (if_pos c).symm.trans hF
    refine lv_bipush (v := (-100 : Int32)) hx hb dX8_text_87 (by decide) ?_
    refine lv_aload_n hx hb dX8_text_89 rfl (lv_at hl 1 rfl) ?_
    refine mget_14 C K w dX8_text_90 ?_
    refine lv_isub hx hb dX8_text_93 ?_
    have hF := Option.some.inj hF
    subst hF
    exact E _ _ _ _ w dX8_text_94

theorem bX8_text_76 {p : Program} {l : Launch} {e : Env} {s : State} {m : MethodId} {as : Array Value} {below : List Frame} {meth : Method} {c : Code} {A : Nat → Prop} {Q : State → Prop} {γ : wx_G} {o : Nat} {ad : Nat → Nat} {z : Int32 × xF × xG} (C : CallFix p m c cX8_text 2 s as lw_all RX8) (K : wx_C γ A s) (E : ∀ (H : Heap) (locs : List Loc) (ls : Array Slot) (pc : Nat), wx_w γ A s H locs (mw γ o ad z.2.1 z.2.2) → decode cX8_text pc = .ok (.ireturn, 1) → W p l e rmX8_text s m as below meth c H locs 0 0 Q (F0 m pc ls [.int z.1])) {f : xF} {g : xG} {H : Heap} {locs : List Loc} {ls : Array Slot} (w : wx_w γ A s H locs (mw γ o ad f g)) (hl : lv_has ls 2 [(0, .ref o)]) (hF : pX8_text_76 f g = some z) : W p l e rmX8_text s m as below meth c H locs 0 0 Q (F0 m 76 ls []) := by
  have hx := C.1
  have hb := C.2.1
  unfold pX8_text_76 at hF
  refine lv_iconst (v := (0 : Int32)) hx hb dX8_text_76 (by decide) ?_
  exact bX8_text_77 C K E w hl hF

theorem bX8_text_0 {p : Program} {l : Launch} {e : Env} {s : State} {m : MethodId} {as : Array Value} {below : List Frame} {meth : Method} {c : Code} {A : Nat → Prop} {Q : State → Prop} {γ : wx_G} {o : Nat} {ad : Nat → Nat} {z : Int32 × xF × xG} (C : CallFix p m c cX8_text 2 s as lw_all RX8) (K : wx_C γ A s) (E : ∀ (H : Heap) (locs : List Loc) (ls : Array Slot) (pc : Nat), wx_w γ A s H locs (mw γ o ad z.2.1 z.2.2) → decode cX8_text pc = .ok (.ireturn, 1) → W p l e rmX8_text s m as below meth c H locs 0 0 Q (F0 m pc ls [.int z.1])) {f : xF} {g : xG} {H : Heap} {locs : List Loc} {ls : Array Slot} (w : wx_w γ A s H locs (mw γ o ad f g)) (hl : lv_has ls 2 [(0, .ref o)]) (hF : pX8_text_0 f g = some z) : W p l e rmX8_text s m as below meth c H locs 0 0 Q (F0 m 0 ls []) := by
  have hx := C.1
  have hb := C.2.1
  unfold pX8_text_0 at hF
  refine lv_aload_n hx hb dX8_text_0 rfl (lv_at hl 0 rfl) ?_
  refine mget_11 C K w dX8_text_1 ?_
  refine lv_bipush (v := (6 : Int32)) hx hb dX8_text_4 (by decide) ?_
  refine lv_icmp_ne (tgt := 12) hx hb dX8_text_6 (by decide) (fun c => ?_) (fun c => ?_)
  · have hF := (if_neg c).symm.trans hF
    refine lv_aload_n hx hb dX8_text_12 rfl (lv_at hl 0 rfl) ?_
    refine lv_iconst (v := (0 : Int32)) hx hb dX8_text_13 (by decide) ?_
    refine mput_14 C K w dX8_text_14 (fun H locs w => ?_)
    refine lv_aload_n hx hb dX8_text_17 rfl (lv_at hl 0 rfl) ?_
    obtain ⟨r18, hr, hF⟩ := obd hF
    refine rX8_look C K w hr hl.1 ⟨Nat.le_of_ble_eq_true rfl, Nat.le_of_ble_eq_true rfl⟩ (Nat.le_of_ble_eq_true rfl) dX8_text_18 (fun H locs w => ?_)
    refine lv_aload_n hx hb dX8_text_21 rfl (lv_at hl 0 rfl) ?_
    refine lv_aload_n hx hb dX8_text_22 rfl (lv_at hl 0 rfl) ?_
    refine mget_11 C K w dX8_text_23 ?_
    refine lv_iconst (v := (0 : Int32)) hx hb dX8_text_26 (by decide) ?_
    refine lv_sipush (v := (1156 : Int32)) hx hb dX8_text_27 (by decide) ?_
    obtain ⟨r30, hr, hF⟩ := obd hF
    refine rX8_takesPart C K w hr hl.1 ⟨Nat.le_of_ble_eq_true rfl, Nat.le_of_ble_eq_true rfl⟩ (Nat.le_of_ble_eq_true rfl) dX8_text_30 (fun H locs w => ?_)
    refine lv_if_eq (tgt := 76) hx hb dX8_text_33 (by decide) (fun c => ?_) (fun c => ?_)
    · have hF := (if_pos c).symm.trans hF
      exact bX8_text_76 C K E w hl hF
    · have hF := (if_neg c).symm.trans hF
      refine lv_aload_n hx hb dX8_text_36 rfl (lv_at hl 0 rfl) ?_
      refine lv_aload_n hx hb dX8_text_37 rfl (lv_at hl 0 rfl) ?_
      refine mget_11 C K w dX8_text_38 ?_
      refine lv_iconst (v := (1 : Int32)) hx hb dX8_text_41 (by decide) ?_
      refine lv_ldc (v := (99724 : Int32)) hx hb C.2.2.2.1 (C.2.2.2.2 _ q1518) dX8_text_42 ?_
      obtain ⟨r44, hr, hF⟩ := obd hF
      refine rX8_takesPart C K w hr hl.1 ⟨Nat.le_of_ble_eq_true rfl, Nat.le_of_ble_eq_true rfl⟩ (Nat.le_of_ble_eq_true rfl) dX8_text_44 (fun H locs w => ?_)
      refine lv_if_eq (tgt := 76) hx hb dX8_text_47 (by decide) (fun c => ?_) (fun c => ?_)
      · have hF := (if_pos c).symm.trans hF
        exact bX8_text_76 C K E w hl hF
      · have hF := (if_neg c).symm.trans hF
        refine lv_aload_n hx hb dX8_text_50 rfl (lv_at hl 0 rfl) ?_
        refine lv_aload_n hx hb dX8_text_51 rfl (lv_at hl 0 rfl) ?_
        refine mget_11 C K w dX8_text_52 ?_
        refine lv_iconst (v := (2 : Int32)) hx hb dX8_text_55 (by decide) ?_
        refine lv_ldc (v := (24627848 : Int32)) hx hb C.2.2.2.1 (C.2.2.2.2 _ q1519) dX8_text_56 ?_
        obtain ⟨r58, hr, hF⟩ := obd hF
        refine rX8_takesPart C K w hr hl.1 ⟨Nat.le_of_ble_eq_true rfl, Nat.le_of_ble_eq_true rfl⟩ (Nat.le_of_ble_eq_true rfl) dX8_text_58 (fun H locs w => ?_)
        refine lv_if_eq (tgt := 76) hx hb dX8_text_61 (by decide) (fun c => ?_) (fun c => ?_)
        · have hF := (if_pos c).symm.trans hF
          exact bX8_text_76 C K E w hl hF
        · have hF := (if_neg c).symm.trans hF
          refine lv_aload_n hx hb dX8_text_64 rfl (lv_at hl 0 rfl) ?_
          refine mget_15 C K w dX8_text_65 ?_
          refine lv_iconst (v := (-1 : Int32)) hx hb dX8_text_68 (by decide) ?_
          refine lv_icmp_ne (tgt := 76) hx hb dX8_text_69 (by decide) (fun c => ?_) (fun c => ?_)
          · have hF := (if_neg c).symm.trans hF
            exact bX8_text_76 C K E w hl hF
          · have hF := (if_pos c).symm.trans hF
            refine lv_iconst (v := (1 : Int32)) hx hb dX8_text_72 (by decide) ?_
            refine lv_goto (tgt := 77) hx hb dX8_text_73 (by decide) ?_
            exact bX8_text_77 C K E w hl hF
  · have hF := (if_pos c).symm.trans hF
    refine lv_bipush (v := (-4 : Int32)) hx hb dX8_text_9 (by decide) ?_
    have hF := Option.some.inj hF
    subst hF
    exact E _ _ _ _ w dX8_text_11

theorem mX8_text {l : Launch} {γ : wx_G} {o : Nat} {ad : Nat → Nat} {f : xF} {g : xG} {z : Int32 × xF × xG} (hF : pX8_text f g = some z) : wx_M γ l yX8_text (ws_ yX8_text cX8_text 2 (some .int)) rmX8_text [.ref o] (mw γ o ad f g) (fun v ws => v = some (.int z.1) ∧ ws = (mw γ o ad z.2.1 z.2.2)) 0 0 := by
  refine wx_M.of (by decide) (Nat.le_of_ble_eq_true rfl) ?_
  intro p e s m as below meth c A ls C K w hr hlocks _ hl
  exact bX8_text_0 C K (fun H locs ls pc w d => wx_iret C hr hlocks w ⟨rfl, rfl⟩ d) w hl hF

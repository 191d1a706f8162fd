/-! the model's methods: pure block functions p.., block lemmas b.., contracts m.., call rows r.. (printed by gen/allm.py) -/
set_option maxRecDepth 100000
/-! WalkingStonesModel.force(I)I -/
abbrev rmX8_force : Room := { frames := 1, cells := 0, slots := 0, locals := 23 }
def pX8_force_0 (f : xF) (g : xG) (v1 : Int32) : Option (Int32 × xF × xG) := (pX8_in f g v1 (0 : Int32) ((f 11) - (1 : Int32))).bind (fun r9 => if r9 = 0 then some ((-2 : Int32), f, g) else some (f 12, upd f 12 v1, g))

abbrev pX8_force (f : xF) (g : xG) (v1 : Int32) : Option (Int32 × xF × xG) := pX8_force_0 f g v1
theorem bX8_force_0 {p : Program} {l : Launch} {e : Env} {s : State} {m : MethodId} {as : Array Value} {below : List Frame} {meth : Method} {c : Code} {A : Nat → Prop} {Q : State → Prop} {γ : wx_G} {o : Nat} {ad : Nat → Nat} {z : Int32 × xF × xG} (C : CallFix p m c cX8_force 3 s as lw_all RX8) (K : wx_C γ A s) (E : ∀ (H : Heap) (locs : List Loc) (ls : Array Slot) (pc : Nat), wx_w γ A s H locs (mw γ o ad z.2.1 z.2.2) → decode cX8_force pc = .ok (.ireturn, 1) → W p l e rmX8_force s m as below meth c H locs 0 0 Q (F0 m pc ls [.int z.1])) {f : xF} {g : xG} {v1 : Int32} {H : Heap} {locs : List Loc} {ls : Array Slot} (w : wx_w γ A s H locs (mw γ o ad f g)) (hl : lv_has ls 3 [(0, .ref o), (1, .int v1)]) (hF : pX8_force_0 f g v1 = some z) : W p l e rmX8_force s m as below meth c H locs 0 0 Q (F0 m 0 ls []) := by
  have hx := C.1
  have hb := C.2.1
  unfold pX8_force_0 at hF
  refine lv_aload_n hx hb dX8_force_0 rfl (lv_at hl 0 rfl) ?_
  refine lv_iload_n hx hb dX8_force_1 rfl (lv_at hl 1 rfl) ?_
  refine lv_iconst (v := (0 : Int32)) hx hb dX8_force_2 (by decide) ?_
  refine lv_aload_n hx hb dX8_force_3 rfl (lv_at hl 0 rfl) ?_
  refine mget_11 C K w dX8_force_4 ?_
  refine lv_iconst (v := (1 : Int32)) hx hb dX8_force_7 (by decide) ?_
  refine lv_isub hx hb dX8_force_8 ?_
  obtain ⟨r9, hr, hF⟩ := obd hF
  refine rX8_in C K w hr hl.1 ⟨Nat.le_of_ble_eq_true rfl, Nat.le_of_ble_eq_true rfl⟩ (Nat.le_of_ble_eq_true rfl) dX8_force_9 (fun H locs w => ?_)
  refine lv_if_ne (tgt := 18) hx hb dX8_force_12 (by decide) (fun c => ?_) (fun c => ?_)
  · have hF := (if_neg c).symm.trans hF
    refine lv_aload_n hx hb dX8_force_18 rfl (lv_at hl 0 rfl) ?_
    refine mget_12 C K w dX8_force_19 ?_
    refine lv_istore_n (lv' := [(2, .int (f 12)), (0, .ref o), (1, .int v1)]) hx hb dX8_force_22 rfl hl (by decide) rfl (fun ls hl => ?_)
    refine lv_aload_n hx hb dX8_force_23 rfl (lv_at hl 1 rfl) ?_
    refine lv_iload_n hx hb dX8_force_24 rfl (lv_at hl 2 rfl) ?_
    refine mput_12 C K w dX8_force_25 (fun H locs w => ?_)
    refine lv_iload_n hx hb dX8_force_28 rfl (lv_at hl 0 rfl) ?_
    have hF := Option.some.inj hF
    subst hF
    exact E _ _ _ _ w dX8_force_29
  · have hF := (if_pos c).symm.trans hF
    refine lv_bipush (v := (-2 : Int32)) hx hb dX8_force_15 (by decide) ?_
    have hF := Option.some.inj hF
    subst hF
    exact E _ _ _ _ w dX8_force_17

theorem mX8_force {l : Launch} {γ : wx_G} {o : Nat} {ad : Nat → Nat} {f : xF} {g : xG} {v1 : Int32} {z : Int32 × xF × xG} (hF : pX8_force f g v1 = some z) : wx_M γ l yX8_force (ws_ yX8_force cX8_force 3 (some .int)) rmX8_force [.ref o, .int v1] (mw γ o ad f g) (fun v ws => v = some (.int z.1) ∧ ws = (mw γ o ad z.2.1 z.2.2)) 0 0 := by
  refine wx_M.of (by decide) (Nat.le_of_ble_eq_true rfl) ?_
  intro p e s m as below meth c A ls C K w hr hlocks _ hl
  exact bX8_force_0 C K (fun H locs ls pc w d => wx_iret C hr hlocks w ⟨rfl, rfl⟩ d) w hl hF

/-! WalkingStonesModel.isHow(I)Z -/
abbrev rmX8_isHow : Room := { frames := 1, cells := 0, slots := 0, locals := 23 }
def pX8_isHow_0 (f : xF) (g : xG) (v1 : Int32) : Option (Int32) := (pX8_in f g v1 (0 : Int32) ((f 2) - (1 : Int32))).bind (fun r9 => if gbz r9 = true then some (r9) else none)

abbrev pX8_isHow (f : xF) (g : xG) (v1 : Int32) : Option (Int32) := pX8_isHow_0 f g v1
theorem bX8_isHow_0 {p : Program} {l : Launch} {e : Env} {s : State} {m : MethodId} {as : Array Value} {below : List Frame} {meth : Method} {c : Code} {A : Nat → Prop} {Q : State → Prop} {γ : wx_G} {o : Nat} {ad : Nat → Nat} {z : Int32} {f : xF} {g : xG} (C : CallFix p m c cX8_isHow 2 s as lw_all RX8) (K : wx_C γ A s) (E : ∀ (H : Heap) (locs : List Loc) (ls : Array Slot) (pc : Nat), narrow .boolean (.int z) = .int z → wx_w γ A s H locs (mw γ o ad f g) → decode cX8_isHow pc = .ok (.ireturn, 1) → W p l e rmX8_isHow s m as below meth c H locs 0 0 Q (F0 m pc ls [.int z])) {v1 : Int32} {H : Heap} {locs : List Loc} {ls : Array Slot} (w : wx_w γ A s H locs (mw γ o ad f g)) (hl : lv_has ls 2 [(0, .ref o), (1, .int v1)]) (hF : pX8_isHow_0 f g v1 = some z) : W p l e rmX8_isHow s m as below meth c H locs 0 0 Q (F0 m 0 ls []) := by
  have hx := C.1
  have hb := C.2.1
  unfold pX8_isHow_0 at hF
  refine lv_aload_n hx hb dX8_isHow_0 rfl (lv_at hl 0 rfl) ?_
  refine lv_iload_n hx hb dX8_isHow_1 rfl (lv_at hl 1 rfl) ?_
  refine lv_iconst (v := (0 : Int32)) hx hb dX8_isHow_2 (by decide) ?_
  refine lv_aload_n hx hb dX8_isHow_3 rfl (lv_at hl 0 rfl) ?_
  refine mget_2 C K w dX8_isHow_4 ?_
  refine lv_iconst (v := (1 : Int32)) hx hb dX8_isHow_7 (by decide) ?_
  refine lv_isub hx hb dX8_isHow_8 ?_
  obtain ⟨r9, hr, hF⟩ := obd hF
  refine rX8_in C K w hr hl.1 ⟨Nat.le_of_ble_eq_true rfl, Nat.le_of_ble_eq_true rfl⟩ (Nat.le_of_ble_eq_true rfl) dX8_isHow_9 (fun H locs w => ?_)
  obtain ⟨hz, hF⟩ := gbz_if hF
  have hF := Option.some.inj hF
  subst hF
  exact E _ _ _ _ hz w dX8_isHow_12

theorem mX8_isHow {l : Launch} {γ : wx_G} {o : Nat} {ad : Nat → Nat} {f : xF} {g : xG} {v1 : Int32} {z : Int32} (hF : pX8_isHow f g v1 = some z) : wx_M γ l yX8_isHow (ws_ yX8_isHow cX8_isHow 2 (some .boolean)) rmX8_isHow [.ref o, .int v1] (mw γ o ad f g) (fun v ws => v = some (.int z) ∧ ws = (mw γ o ad f g)) 0 0 := by
  refine wx_M.of (by decide) (Nat.le_of_ble_eq_true rfl) ?_
  intro p e s m as below meth c A ls C K w hr hlocks _ hl
  exact bX8_isHow_0 C K (fun H locs ls pc hz w d => wx_zret C hr hlocks hz w ⟨rfl, rfl⟩ d) w hl hF
theorem rX8_isHow {p : Program} {l : Launch} {e : Env} {R : Room} {s : State} {m : MethodId} {as : Array Value} {below : List Frame} {meth : Method} {c : Code} {H : Heap} {locs : List Loc} {cells slots : Nat} {Q : State → Prop} {cc : ByteArray} {nL pc : Nat} {ls : Array Slot} {rest : List Value} {γ : wx_G} {A : Nat → Prop} {o : Nat} {ad : Nat → Nat} {f : xF} {g : xG} {v1 : Int32} {z : Int32} (C : CallFix p m c cc nL s as lw_all RX8) (K : wx_C γ A s) (w : wx_w γ A s H locs (mw γ o ad f g)) (hF : pX8_isHow f g v1 = some z) (hls : ls.size = nL) (hR : rmX8_isHow.frames + 1 ≤ R.frames ∧ 8 + (2 + 11) + rmX8_isHow.locals ≤ R.locals) (hW : (rest.map fun v => v.category).sum ≤ 8) (d : decode cc pc = .ok (.invokevirtual 281, 3)) (kk : ∀ (H : Heap) (locs : List Loc), wx_w γ A s H locs (mw γ o ad f g) → W p l e R s m as below meth c H locs cells slots Q (F0 m (pc + 3) ls (.int z :: rest))) (hf : cells ≤ R.cells ∧ slots ≤ R.slots := by exact ⟨Nat.le_of_ble_eq_true rfl, Nat.le_of_ble_eq_true rfl⟩) : W p l e R s m as below meth c H locs cells slots Q (F0 m pc ls (.int v1 :: .ref o :: rest)) :=
  wx_callV (n := 1) C K w (mX8_isHow (l := l) hF) q1576 q1578 qs71 q123 q1579 rfl rfl (by decide +kernel) (va_recv K.1.1 w.1 (ci := 0) (q0 := 0) rfl rfl) rfl rfl hR hls hW hf d (fun v ws H1 locs1 hp w => by obtain ⟨rfl, rfl⟩ := hp; exact kk H1 locs1 w)

/-! WalkingStonesModel.isNight(I)Z -/
abbrev rmX8_isNight : Room := { frames := 1, cells := 0, slots := 0, locals := 23 }
def pX8_isNight_0 (f : xF) (g : xG) (v1 : Int32) : Option (Int32) := (pX8_in f g v1 (0 : Int32) ((f 1) - (1 : Int32))).bind (fun r9 => if gbz r9 = true then some (r9) else none)

abbrev pX8_isNight (f : xF) (g : xG) (v1 : Int32) : Option (Int32) := pX8_isNight_0 f g v1
theorem bX8_isNight_0 {p : Program} {l : Launch} {e : Env} {s : State} {m : MethodId} {as : Array Value} {below : List Frame} {meth : Method} {c : Code} {A : Nat → Prop} {Q : State → Prop} {γ : wx_G} {o : Nat} {ad : Nat → Nat} {z : Int32} {f : xF} {g : xG} (C : CallFix p m c cX8_isNight 2 s as lw_all RX8) (K : wx_C γ A s) (E : ∀ (H : Heap) (locs : List Loc) (ls : Array Slot) (pc : Nat), narrow .boolean (.int z) = .int z → wx_w γ A s H locs (mw γ o ad f g) → decode cX8_isNight pc = .ok (.ireturn, 1) → W p l e rmX8_isNight s m as below meth c H locs 0 0 Q (F0 m pc ls [.int z])) {v1 : Int32} {H : Heap} {locs : List Loc} {ls : Array Slot} (w : wx_w γ A s H locs (mw γ o ad f g)) (hl : lv_has ls 2 [(0, .ref o), (1, .int v1)]) (hF : pX8_isNight_0 f g v1 = some z) : W p l e rmX8_isNight s m as below meth c H locs 0 0 Q (F0 m 0 ls []) := by
  have hx := C.1
  have hb := C.2.1
  unfold pX8_isNight_0 at hF
  refine lv_aload_n hx hb dX8_isNight_0 rfl (lv_at hl 0 rfl) ?_
  refine lv_iload_n hx hb dX8_isNight_1 rfl (lv_at hl 1 rfl) ?_
  refine lv_iconst (v := (0 : Int32)) hx hb dX8_isNight_2 (by decide) ?_
  refine lv_aload_n hx hb dX8_isNight_3 rfl (lv_at hl 0 rfl) ?_
  refine mget_1 C K w dX8_isNight_4 ?_
  refine lv_iconst (v := (1 : Int32)) hx hb dX8_isNight_7 (by decide) ?_
  refine lv_isub hx hb dX8_isNight_8 ?_
  obtain ⟨r9, hr, hF⟩ := obd hF
  refine rX8_in C K w hr hl.1 ⟨Nat.le_of_ble_eq_true rfl, Nat.le_of_ble_eq_true rfl⟩ (Nat.le_of_ble_eq_true rfl) dX8_isNight_9 (fun H locs w => ?_)
  obtain ⟨hz, hF⟩ := gbz_if hF
  have hF := Option.some.inj hF
  subst hF
  exact E _ _ _ _ hz w dX8_isNight_12

theorem mX8_isNight {l : Launch} {γ : wx_G} {o : Nat} {ad : Nat → Nat} {f : xF} {g : xG} {v1 : Int32} {z : Int32} (hF : pX8_isNight f g v1 = some z) : wx_M γ l yX8_isNight (ws_ yX8_isNight cX8_isNight 2 (some .boolean)) rmX8_isNight [.ref o, .int v1] (mw γ o ad f g) (fun v ws => v = some (.int z) ∧ ws = (mw γ o ad f g)) 0 0 := by
  refine wx_M.of (by decide) (Nat.le_of_ble_eq_true rfl) ?_
  intro p e s m as below meth c A ls C K w hr hlocks _ hl
  exact bX8_isNight_0 C K (fun H locs ls pc hz w d => wx_zret C hr hlocks hz w ⟨rfl, rfl⟩ d) w hl hF
theorem rX8_isNight {p : Program} {l : Launch} {e : Env} {R : Room} {s : State} {m : MethodId} {as : Array Value} {below : List Frame} {meth : Method} {c : Code} {H : Heap} {locs : List Loc} {cells slots : Nat} {Q : State → Prop} {cc : ByteArray} {nL pc : Nat} {ls : Array Slot} {rest : List Value} {γ : wx_G} {A : Nat → Prop} {o : Nat} {ad : Nat → Nat} {f : xF} {g : xG} {v1 : Int32} {z : Int32} (C : CallFix p m c cc nL s as lw_all RX8) (K : wx_C γ A s) (w : wx_w γ A s H locs (mw γ o ad f g)) (hF : pX8_isNight f g v1 = some z) (hls : ls.size = nL) (hR : rmX8_isNight.frames + 1 ≤ R.frames ∧ 8 + (2 + 11) + rmX8_isNight.locals ≤ R.locals) (hW : (rest.map fun v => v.category).sum ≤ 8) (d : decode cc pc = .ok (.invokevirtual 284, 3)) (kk : ∀ (H : Heap) (locs : List Loc), wx_w γ A s H locs (mw γ o ad f g) → W p l e R s m as below meth c H locs cells slots Q (F0 m (pc + 3) ls (.int z :: rest))) (hf : cells ≤ R.cells ∧ slots ≤ R.slots := by exact ⟨Nat.le_of_ble_eq_true rfl, Nat.le_of_ble_eq_true rfl⟩) : W p l e R s m as below meth c H locs cells slots Q (F0 m pc ls (.int v1 :: .ref o :: rest)) :=
  wx_callV (n := 1) C K w (mX8_isNight (l := l) hF) q1580 q1582 qs72 q123 q1583 rfl rfl (by decide +kernel) (va_recv K.1.1 w.1 (ci := 0) (q0 := 0) rfl rfl) rfl rfl hR hls hW hf d (fun v ws H1 locs1 hp w => by obtain ⟨rfl, rfl⟩ := hp; exact kk H1 locs1 w)

/-! WalkingStonesModel.may(II)Z -/
abbrev rmX8_may : Room := { frames := 1, cells := 0, slots := 0, locals := 23 }
def pX8_may_59 (f : xF) (g : xG) (t0 : Int32) : Option (Int32) := if gbz t0 = true then some (t0) else none

def pX8_may_75 (f : xF) (g : xG) (t0 : Int32) : Option (Int32) := if gbz t0 = true then some (t0) else none

def pX8_may_0 (f : xF) (g : xG) (v1 : Int32) (v2 : Int32) : Option (Int32) := if gin v2 60 = true then if (g 5 v2.toNatClampNeg) = 0 then some ((0 : Int32)) else (if gin v1 8 = true then if (g 9 v1.toNatClampNeg) = (2 : Int32) then (if gin v2 60 = true then if (g 6 v2.toNatClampNeg) ≤ (2 : Int32) then pX8_may_59 f g (0 : Int32) else pX8_may_59 f g (1 : Int32) else none) else if (g 9 v1.toNatClampNeg) = (3 : Int32) then (if gin v2 60 = true then if (g 6 v2.toNatClampNeg) ≤ (5 : Int32) then pX8_may_75 f g (0 : Int32) else pX8_may_75 f g (1 : Int32) else none) else if (g 9 v1.toNatClampNeg) = (4 : Int32) then (if gin v2 60 = true then (pX8_in f g (g 6 v2.toNatClampNeg) (1 : Int32) (4 : Int32)).bind (fun r85 => if gbz r85 = true then some (r85) else none) else none) else some ((1 : Int32)) else none) else none

abbrev pX8_may (f : xF) (g : xG) (v1 : Int32) (v2 : Int32) : Option (Int32) := pX8_may_0 f g v1 v2
theorem bX8_may_59 {p : Program} {l : Launch} {e : Env} {s : State} {m : MethodId} {as : Array Value} {below : List Frame} {meth : Method} {c : Code} {A : Nat → Prop} {Q : State → Prop} {γ : wx_G} {o : Nat} {ad : Nat → Nat} {z : Int32} {f : xF} {g : xG} (C : CallFix p m c cX8_may 3 s as lw_all RX8) (K : wx_C γ A s) (E : ∀ (H : Heap) (locs : List Loc) (ls : Array Slot) (pc : Nat), narrow .boolean (.int z) = .int z → wx_w γ A s H locs (mw γ o ad f g) → decode cX8_may pc = .ok (.ireturn, 1) → W p l e rmX8_may s m as below meth c H locs 0 0 Q (F0 m pc ls [.int z])) {t0 : Int32} {H : Heap} {locs : List Loc} {ls : Array Slot} (w : wx_w γ A s H locs (mw γ o ad f g)) (hl : lv_has ls 3 []) (hF : pX8_may_59 f g t0 = some z) : W p l e rmX8_may s m as below meth c H locs 0 0 Q (F0 m 59 ls [.int t0]) := by
  have hx := C.1
  have hb := C.2.1
  unfold pX8_may_59 at hF
  obtain ⟨hz, hF⟩ := gbz_if hF
  have hF := Option.some.inj hF
  subst hF
  exact E _ _ _ _ hz w dX8_may_59

theorem bX8_may_75 {p : Program} {l : Launch} {e : Env} {s : State} {m : MethodId} {as : Array Value} {below : List Frame} {meth : Method} {c : Code} {A : Nat → Prop} {Q : State → Prop} {γ : wx_G} {o : Nat} {ad : Nat → Nat} {z : Int32} {f : xF} {g : xG} (C : CallFix p m c cX8_may 3 s as lw_all RX8) (K : wx_C γ A s) (E : ∀ (H : Heap) (locs : List Loc) (ls : Array Slot) (pc : Nat), narrow .boolean (.int z) = .int z → wx_w γ A s H locs (mw γ o ad f g) → decode cX8_may pc = .ok (.ireturn, 1) → W p l e rmX8_may s m as below meth c H locs 0 0 Q (F0 m pc ls [.int z])) {t0 : Int32} {H : Heap} {locs : List Loc} {ls : Array Slot} (w : wx_w γ A s H locs (mw γ o ad f g)) (hl : lv_has ls 3 []) (hF : pX8_may_75 f g t0 = some z) : W p l e rmX8_may s m as below meth c H locs 0 0 Q (F0 m 75 ls [.int t0]) := by
  have hx := C.1
  have hb := C.2.1
  unfold pX8_may_75 at hF
  obtain ⟨hz, hF⟩ := gbz_if hF
  have hF := Option.some.inj hF
  subst hF
  exact E _ _ _ _ hz w dX8_may_75

theorem bX8_may_0 {p : Program} {l : Launch} {e : Env} {s : State} {m : MethodId} {as : Array Value} {below : List Frame} {meth : Method} {c : Code} {A : Nat → Prop} {Q : State → Prop} {γ : wx_G} {o : Nat} {ad : Nat → Nat} {z : Int32} {f : xF} {g : xG} (C : CallFix p m c cX8_may 3 s as lw_all RX8) (K : wx_C γ A s) (E : ∀ (H : Heap) (locs : List Loc) (ls : Array Slot) (pc : Nat), narrow .boolean (.int z) = .int z → wx_w γ A s H locs (mw γ o ad f g) → decode cX8_may pc = .ok (.ireturn, 1) → W p l e rmX8_may s m as below meth c H locs 0 0 Q (F0 m pc ls [.int z])) {v1 : Int32} {v2 : Int32} {H : Heap} {locs : List Loc} {ls : Array Slot} (w : wx_w γ A s H locs (mw γ o ad f g)) (hl : lv_has ls 3 [(0, .ref o), (1, .int v1), (2, .int v2)]) (hF : pX8_may_0 f g v1 v2 = some z) : W p l e rmX8_may s m as below meth c H locs 0 0 Q (F0 m 0 ls []) := by
  have hx := C.1
  have hb := C.2.1
  unfold pX8_may_0 at hF
  refine lv_aload_n hx hb dX8_may_0 rfl (lv_at hl 0 rfl) ?_
  refine mget_5 C K w dX8_may_1 ?_
  refine lv_iload_n hx hb dX8_may_4 rfl (lv_at hl 2 rfl) ?_
  obtain ⟨hi, hF⟩ := gin_if hF
  refine mald_5 C K w hi dX8_may_5 ?_
  refine lv_if_ne (tgt := 11) hx hb dX8_may_6 (by decide) (fun c => ?_) (fun c => ?_)
  · have hF := (if_neg c).symm.trans hF
    refine lv_aload_n hx hb dX8_may_11 rfl (lv_at hl 0 rfl) ?_
    refine mget_9 C K w dX8_may_12 ?_
    refine lv_iload_n hx hb dX8_may_15 rfl (lv_at hl 1 rfl) ?_
    obtain ⟨hi, hF⟩ := gin_if hF
    refine mald_9 C K w hi dX8_may_16 ?_
    by_cases c2 : (g 9 v1.toNatClampNeg) = (2 : Int32)
    · have hF := (if_pos c2).symm.trans hF
      refine lv_tableIn (off := 27) (tgt := 44) hx hb dX8_may_17 (by rw [c2]; decide) (by rw [c2]; decide) (by rw [c2]; rfl) (by decide) ?_
      refine lv_aload_n hx hb dX8_may_44 rfl (lv_at hl 0 rfl) ?_
      refine mget_6 C K w dX8_may_45 ?_
      refine lv_iload_n hx hb dX8_may_48 rfl (lv_at hl 2 rfl) ?_
      obtain ⟨hi, hF⟩ := gin_if hF
      refine mald_6 C K w hi dX8_may_49 ?_
      refine lv_iconst (v := (2 : Int32)) hx hb dX8_may_50 (by decide) ?_
      refine lv_icmp_le (tgt := 58) hx hb dX8_may_51 (by decide) (fun c => ?_) (fun c => ?_)
      · have hF := (if_pos c).symm.trans hF
        refine lv_iconst (v := (0 : Int32)) hx hb dX8_may_58 (by decide) ?_
        exact bX8_may_59 C K E w (lv_sub hl [] rfl) hF
      · have hF := (if_neg c).symm.trans hF
        refine lv_iconst (v := (1 : Int32)) hx hb dX8_may_54 (by decide) ?_
        refine lv_goto (tgt := 59) hx hb dX8_may_55 (by decide) ?_
        exact bX8_may_59 C K E w (lv_sub hl [] rfl) hF
    have hF := (if_neg c2).symm.trans hF
    by_cases c3 : (g 9 v1.toNatClampNeg) = (3 : Int32)
    · have hF := (if_pos c3).symm.trans hF
      refine lv_tableIn (off := 43) (tgt := 60) hx hb dX8_may_17 (by rw [c3]; decide) (by rw [c3]; decide) (by rw [c3]; rfl) (by decide) ?_
      refine lv_aload_n hx hb dX8_may_60 rfl (lv_at hl 0 rfl) ?_
      refine mget_6 C K w dX8_may_61 ?_
      refine lv_iload_n hx hb dX8_may_64 rfl (lv_at hl 2 rfl) ?_
      obtain ⟨hi, hF⟩ := gin_if hF
      refine mald_6 C K w hi dX8_may_65 ?_
      refine lv_iconst (v := (5 : Int32)) hx hb dX8_may_66 (by decide) ?_
      refine lv_icmp_le (tgt := 74) hx hb dX8_may_67 (by decide) (fun c => ?_) (fun c => ?_)
      · have hF := (if_pos c).symm.trans hF
        refine lv_iconst (v := (0 : Int32)) hx hb dX8_may_74 (by decide) ?_
        exact bX8_may_75 C K E w (lv_sub hl [] rfl) hF
      · have hF := (if_neg c).symm.trans hF
        refine lv_iconst (v := (1 : Int32)) hx hb dX8_may_70 (by decide) ?_
        refine lv_goto (tgt := 75) hx hb dX8_may_71 (by decide) ?_
        exact bX8_may_75 C K E w (lv_sub hl [] rfl) hF
    have hF := (if_neg c3).symm.trans hF
    by_cases c4 : (g 9 v1.toNatClampNeg) = (4 : Int32)
    · have hF := (if_pos c4).symm.trans hF
      refine lv_tableIn (off := 59) (tgt := 76) hx hb dX8_may_17 (by rw [c4]; decide) (by rw [c4]; decide) (by rw [c4]; rfl) (by decide) ?_
      refine lv_aload_n hx hb dX8_may_76 rfl (lv_at hl 0 rfl) ?_
      refine lv_aload_n hx hb dX8_may_77 rfl (lv_at hl 0 rfl) ?_
      refine mget_6 C K w dX8_may_78 ?_
      refine lv_iload_n hx hb dX8_may_81 rfl (lv_at hl 2 rfl) ?_
      obtain ⟨hi, hF⟩ := gin_if hF
      refine mald_6 C K w hi dX8_may_82 ?_
      refine lv_iconst (v := (1 : Int32)) hx hb dX8_may_83 (by decide) ?_
      refine lv_iconst (v := (4 : Int32)) hx hb dX8_may_84 (by decide) ?_
      obtain ⟨r85, hr, hF⟩ := obd hF
      refine rX8_in C K w hr hl.1 ⟨Nat.le_of_ble_eq_true rfl, Nat.le_of_ble_eq_true rfl⟩ (Nat.le_of_ble_eq_true rfl) dX8_may_85 (fun H locs w => ?_)
      obtain ⟨hz, hF⟩ := gbz_if hF
      have hF := Option.some.inj hF
      subst hF
      exact E _ _ _ _ hz w dX8_may_88
    have hF := (if_neg c4).symm.trans hF
    have n2 := wx_ne c2 (k := 2) (by decide)
    have n3 := wx_ne c3 (k := 3) (by decide)
    have n4 := wx_ne c4 (k := 4) (by decide)
    refine lv_tableOut (tgt := 89) hx hb dX8_may_17 (by omega) (by decide) ?_
    refine lv_iconst (v := (1 : Int32)) hx hb dX8_may_89 (by decide) ?_
    have hF := Option.some.inj hF
    subst hF
    exact E _ _ _ _ wx_nz1 w dX8_may_90
  · have hF := (if_pos c).symm.trans hF
    refine lv_iconst (v := (0 : Int32)) hx hb dX8_may_9 (by decide) ?_
    have hF := Option.some.inj hF
    subst hF
    exact E _ _ _ _ wx_nz0 w dX8_may_10

theorem mX8_may {l : Launch} {γ : wx_G} {o : Nat} {ad : Nat → Nat} {f : xF} {g : xG} {v1 : Int32} {v2 : Int32} {z : Int32} (hF : pX8_may f g v1 v2 = some z) : wx_M γ l yX8_may (ws_ yX8_may cX8_may 3 (some .boolean)) rmX8_may [.ref o, .int v1, .int v2] (mw γ o ad f g) (fun v ws => v = some (.int z) ∧ ws = (mw γ o ad f g)) 0 0 := by
  refine wx_M.of (by decide) (Nat.le_of_ble_eq_true rfl) ?_
  intro p e s m as below meth c A ls C K w hr hlocks _ hl
  exact bX8_may_0 C K (fun H locs ls pc hz w d => wx_zret C hr hlocks hz w ⟨rfl, rfl⟩ d) w hl hF
theorem rX8_may {p : Program} {l : Launch} {e : Env} {R : Room} {s : State} {m : MethodId} {as : Array Value} {below : List Frame} {meth : Method} {c : Code} {H : Heap} {locs : List Loc} {cells slots : Nat} {Q : State → Prop} {cc : ByteArray} {nL pc : Nat} {ls : Array Slot} {rest : List Value} {γ : wx_G} {A : Nat → Prop} {o : Nat} {ad : Nat → Nat} {f : xF} {g : xG} {v1 : Int32} {v2 : Int32} {z : Int32} (C : CallFix p m c cc nL s as lw_all RX8) (K : wx_C γ A s) (w : wx_w γ A s H locs (mw γ o ad f g)) (hF : pX8_may f g v1 v2 = some z) (hls : ls.size = nL) (hR : rmX8_may.frames + 1 ≤ R.frames ∧ 8 + (3 + 11) + rmX8_may.locals ≤ R.locals) (hW : (rest.map fun v => v.category).sum ≤ 8) (d : decode cc pc = .ok (.invokevirtual 267, 3)) (kk : ∀ (H : Heap) (locs : List Loc), wx_w γ A s H locs (mw γ o ad f g) → W p l e R s m as below meth c H locs cells slots Q (F0 m (pc + 3) ls (.int z :: rest))) (hf : cells ≤ R.cells ∧ slots ≤ R.slots := by exact ⟨Nat.le_of_ble_eq_true rfl, Nat.le_of_ble_eq_true rfl⟩) : W p l e R s m as below meth c H locs cells slots Q (F0 m pc ls (.int v2 :: .int v1 :: .ref o :: rest)) :=
  wx_callV (n := 2) C K w (mX8_may (l := l) hF) q1584 q1586 qs73 q123 q1587 rfl rfl (by decide +kernel) (va_recv K.1.1 w.1 (ci := 0) (q0 := 0) rfl rfl) rfl rfl hR hls hW hf d (fun v ws H1 locs1 hp w => by obtain ⟨rfl, rfl⟩ := hp; exact kk H1 locs1 w)

/-! WalkingStonesModel.drag(II)I -/
abbrev rmX8_drag : Room := { frames := 0, cells := 0, slots := 0, locals := 0 }
def pX8_drag_0 (f : xF) (g : xG) (v1 : Int32) (v2 : Int32) : Option (Int32) := if gin v2 10 = true then if gin v1 8 = true then if gin v1 8 = true then if (g 9 v1.toNatClampNeg) = (0 : Int32) then (if gin v2 10 = true then some ((2 : Int32) * (g 3 v2.toNatClampNeg)) else none) else if (g 9 v1.toNatClampNeg) = (1 : Int32) then some (((2 : Int32) * (g 3 v2.toNatClampNeg)) + (g 10 v1.toNatClampNeg)) else if (g 9 v1.toNatClampNeg) = (2 : Int32) then some ((((2 : Int32) * (g 3 v2.toNatClampNeg)) + (g 10 v1.toNatClampNeg)) / (4 : Int32)) else if (g 9 v1.toNatClampNeg) = (3 : Int32) then (if gin v1 8 = true then some (g 10 v1.toNatClampNeg) else none) else if (g 9 v1.toNatClampNeg) = (4 : Int32) then some (((((2 : Int32) * (g 3 v2.toNatClampNeg)) + (g 10 v1.toNatClampNeg)) / (4 : Int32)) / (2 : Int32)) else some ((0 : Int32)) else none else none else none

abbrev pX8_drag (f : xF) (g : xG) (v1 : Int32) (v2 : Int32) : Option (Int32) := pX8_drag_0 f g v1 v2
theorem bX8_drag_0 {p : Program} {l : Launch} {e : Env} {s : State} {m : MethodId} {as : Array Value} {below : List Frame} {meth : Method} {c : Code} {A : Nat → Prop} {Q : State → Prop} {γ : wx_G} {o : Nat} {ad : Nat → Nat} {z : Int32} {f : xF} {g : xG} (C : CallFix p m c cX8_drag 4 s as lw_all RX8) (K : wx_C γ A s) (E : ∀ (H : Heap) (locs : List Loc) (ls : Array Slot) (pc : Nat), wx_w γ A s H locs (mw γ o ad f g) → decode cX8_drag pc = .ok (.ireturn, 1) → W p l e rmX8_drag s m as below meth c H locs 0 0 Q (F0 m pc ls [.int z])) {v1 : Int32} {v2 : Int32} {H : Heap} {locs : List Loc} {ls : Array Slot} (w : wx_w γ A s H locs (mw γ o ad f g)) (hl : lv_has ls 4 [(0, .ref o), (1, .int v1), (2, .int v2)]) (hF : pX8_drag_0 f g v1 v2 = some z) : W p l e rmX8_drag s m as below meth c H locs 0 0 Q (F0 m 0 ls []) := by
  have hx := C.1
  have hb := C.2.1
  unfold pX8_drag_0 at hF
  refine lv_iconst (v := (2 : Int32)) hx hb dX8_drag_0 (by decide) ?_
  refine lv_aload_n hx hb dX8_drag_1 rfl (lv_at hl 0 rfl) ?_
  refine mget_3 C K w dX8_drag_2 ?_
  refine lv_iload_n hx hb dX8_drag_5 rfl (lv_at hl 2 rfl) ?_
  obtain ⟨hi, hF⟩ := gin_if hF
  refine mald_3 C K w hi dX8_drag_6 ?_
  refine lv_imul hx hb dX8_drag_7 ?_
  refine lv_aload_n hx hb dX8_drag_8 rfl (lv_at hl 0 rfl) ?_
  refine mget_10 C K w dX8_drag_9 ?_
  refine lv_iload_n hx hb dX8_drag_12 rfl (lv_at hl 1 rfl) ?_
  obtain ⟨hi, hF⟩ := gin_if hF
  refine mald_10 C K w hi dX8_drag_13 ?_
  refine lv_iadd hx hb dX8_drag_14 ?_
  refine lv_istore_n (lv' := [(3, .int (((2 : Int32) * (g 3 v2.toNatClampNeg)) + (g 10 v1.toNatClampNeg))), (0, .ref o), (1, .int v1), (2, .int v2)]) hx hb dX8_drag_15 rfl hl (by decide) rfl (fun ls hl => ?_)
  refine lv_aload_n hx hb dX8_drag_16 rfl (lv_at hl 1 rfl) ?_
  refine mget_9 C K w dX8_drag_17 ?_
  refine lv_iload_n hx hb dX8_drag_20 rfl (lv_at hl 2 rfl) ?_
  obtain ⟨hi, hF⟩ := gin_if hF
  refine mald_9 C K w hi dX8_drag_21 ?_
  by_cases c0 : (g 9 v1.toNatClampNeg) = (0 : Int32)
  · have hF := (if_pos c0).symm.trans hF
    refine lv_tableIn (off := 34) (tgt := 56) hx hb dX8_drag_22 (by rw [c0]; decide) (by rw [c0]; decide) (by rw [c0]; rfl) (by decide) ?_
    refine lv_iconst (v := (2 : Int32)) hx hb dX8_drag_56 (by decide) ?_
    refine lv_aload_n hx hb dX8_drag_57 rfl (lv_at hl 1 rfl) ?_
    refine mget_3 C K w dX8_drag_58 ?_
    refine lv_iload_n hx hb dX8_drag_61 rfl (lv_at hl 3 rfl) ?_
    obtain ⟨hi, hF⟩ := gin_if hF
    refine mald_3 C K w hi dX8_drag_62 ?_
    refine lv_imul hx hb dX8_drag_63 ?_
    have hF := Option.some.inj hF
    subst hF
    exact E _ _ _ _ w dX8_drag_64
  have hF := (if_neg c0).symm.trans hF
  by_cases c1 : (g 9 v1.toNatClampNeg) = (1 : Int32)
  · have hF := (if_pos c1).symm.trans hF
    refine lv_tableIn (off := 43) (tgt := 65) hx hb dX8_drag_22 (by rw [c1]; decide) (by rw [c1]; decide) (by rw [c1]; rfl) (by decide) ?_
    refine lv_iload_n hx hb dX8_drag_65 rfl (lv_at hl 0 rfl) ?_
    have hF := Option.some.inj hF
    subst hF
    exact E _ _ _ _ w dX8_drag_66
  have hF := (if_neg c1).symm.trans hF
  by_cases c2 : (g 9 v1.toNatClampNeg) = (2 : Int32)
  · have hF := (if_pos c2).symm.trans hF
    refine lv_tableIn (off := 45) (tgt := 67) hx hb dX8_drag_22 (by rw [c2]; decide) (by rw [c2]; decide) (by rw [c2]; rfl) (by decide) ?_
    refine lv_iload_n hx hb dX8_drag_67 rfl (lv_at hl 0 rfl) ?_
    refine lv_iconst (v := (4 : Int32)) hx hb dX8_drag_68 (by decide) ?_
    refine lv_idiv hx hb dX8_drag_69 (by decide) ?_
    have hF := Option.some.inj hF
    subst hF
    exact E _ _ _ _ w dX8_drag_70
  have hF := (if_neg c2).symm.trans hF
  by_cases c3 : (g 9 v1.toNatClampNeg) = (3 : Int32)
  · have hF := (if_pos c3).symm.trans hF
    refine lv_tableIn (off := 49) (tgt := 71) hx hb dX8_drag_22 (by rw [c3]; decide) (by rw [c3]; decide) (by rw [c3]; rfl) (by decide) ?_
    refine lv_aload_n hx hb dX8_drag_71 rfl (lv_at hl 1 rfl) ?_
    refine mget_10 C K w dX8_drag_72 ?_
    refine lv_iload_n hx hb dX8_drag_75 rfl (lv_at hl 2 rfl) ?_
    obtain ⟨hi, hF⟩ := gin_if hF
    refine mald_10 C K w hi dX8_drag_76 ?_
    have hF := Option.some.inj hF
    subst hF
    exact E _ _ _ _ w dX8_drag_77
  have hF := (if_neg c3).symm.trans hF
  by_cases c4 : (g 9 v1.toNatClampNeg) = (4 : Int32)
  · have hF := (if_pos c4).symm.trans hF
    refine lv_tableIn (off := 56) (tgt := 78) hx hb dX8_drag_22 (by rw [c4]; decide) (by rw [c4]; decide) (by rw [c4]; rfl) (by decide) ?_
    refine lv_iload_n hx hb dX8_drag_78 rfl (lv_at hl 0 rfl) ?_
    refine lv_iconst (v := (4 : Int32)) hx hb dX8_drag_79 (by decide) ?_
    refine lv_idiv hx hb dX8_drag_80 (by decide) ?_
    refine lv_iconst (v := (2 : Int32)) hx hb dX8_drag_81 (by decide) ?_
    refine lv_idiv hx hb dX8_drag_82 (by decide) ?_
    have hF := Option.some.inj hF
    subst hF
    exact E _ _ _ _ w dX8_drag_83
  have hF := (if_neg c4).symm.trans hF
  have n0 := wx_ne c0 (k := 0) (by decide)
  have n1 := wx_ne c1 (k := 1) (by decide)
  have n2 := wx_ne c2 (k := 2) (by decide)
  have n3 := wx_ne c3 (k := 3) (by decide)
  have n4 := wx_ne c4 (k := 4) (by decide)
  refine lv_tableOut (tgt := 84) hx hb dX8_drag_22 (by omega) (by decide) ?_
  refine lv_iconst (v := (0 : Int32)) hx hb dX8_drag_84 (by decide) ?_
  have hF := Option.some.inj hF
  subst hF
  exact E _ _ _ _ w dX8_drag_85

theorem mX8_drag {l : Launch} {γ : wx_G} {o : Nat} {ad : Nat → Nat} {f : xF} {g : xG} {v1 : Int32} {v2 : Int32} {z : Int32} (hF : pX8_drag f g v1 v2 = some z) : wx_M γ l yX8_drag (ws_ yX8_drag cX8_drag 4 (some .int)) rmX8_drag [.ref o, .int v1, .int v2] (mw γ o ad f g) (fun v ws => v = some (.int z) ∧ ws = (mw γ o ad f g)) 0 0 := by
  refine wx_M.of (by decide) (Nat.le_of_ble_eq_true rfl) ?_
  intro p e s m as below meth c A ls C K w hr hlocks _ hl
  exact bX8_drag_0 C K (fun H locs ls pc w d => wx_iret C hr hlocks w ⟨rfl, rfl⟩ d) w hl hF
theorem rX8_drag {p : Program} {l : Launch} {e : Env} {R : Room} {s : State} {m : MethodId} {as : Array Value} {below : List Frame} {meth : Method} {c : Code} {H : Heap} {locs : List Loc} {cells slots : Nat} {Q : State → Prop} {cc : ByteArray} {nL pc : Nat} {ls : Array Slot} {rest : List Value} {γ : wx_G} {A : Nat → Prop} {o : Nat} {ad : Nat → Nat} {f : xF} {g : xG} {v1 : Int32} {v2 : Int32} {z : Int32} (C : CallFix p m c cc nL s as lw_all RX8) (K : wx_C γ A s) (w : wx_w γ A s H locs (mw γ o ad f g)) (hF : pX8_drag f g v1 v2 = some z) (hls : ls.size = nL) (hR : rmX8_drag.frames + 1 ≤ R.frames ∧ 8 + (4 + 11) + rmX8_drag.locals ≤ R.locals) (hW : (rest.map fun v => v.category).sum ≤ 8) (d : decode cc pc = .ok (.invokevirtual 271, 3)) (kk : ∀ (H : Heap) (locs : List Loc), wx_w γ A s H locs (mw γ o ad f g) → W p l e R s m as below meth c H locs cells slots Q (F0 m (pc + 3) ls (.int z :: rest))) (hf : cells ≤ R.cells ∧ slots ≤ R.slots := by exact ⟨Nat.le_of_ble_eq_true rfl, Nat.le_of_ble_eq_true rfl⟩) : W p l e R s m as below meth c H locs cells slots Q (F0 m pc ls (.int v2 :: .int v1 :: .ref o :: rest)) :=
  wx_callV (n := 2) C K w (mX8_drag (l := l) hF) q1588 q1590 qs74 q123 q1591 rfl rfl (by decide +kernel) (va_recv K.1.1 w.1 (ci := 0) (q0 := 0) rfl rfl) rfl rfl hR hls hW hf d (fun v ws H1 locs1 hp w => by obtain ⟨rfl, rfl⟩ := hp; exact kk H1 locs1 w)

/-! WalkingStonesModel.windNow(I)I -/
abbrev rmX8_windNow : Room := { frames := 0, cells := 0, slots := 0, locals := 0 }
def pX8_windNow_20 (f : xF) (g : xG) (t0 : Int32) : Option (Int32) := some (t0)

def pX8_windNow_0 (f : xF) (g : xG) (v1 : Int32) : Option (Int32) := if 0 ≤ (f 27) then pX8_windNow_20 f g (f 27) else (if gin v1 60 = true then pX8_windNow_20 f g (g 7 v1.toNatClampNeg) else none)

abbrev pX8_windNow (f : xF) (g : xG) (v1 : Int32) : Option (Int32) := pX8_windNow_0 f g v1
theorem bX8_windNow_20 {p : Program} {l : Launch} {e : Env} {s : State} {m : MethodId} {as : Array Value} {below : List Frame} {meth : Method} {c : Code} {A : Nat → Prop} {Q : State → Prop} {γ : wx_G} {o : Nat} {ad : Nat → Nat} {z : Int32} {f : xF} {g : xG} (C : CallFix p m c cX8_windNow 2 s as lw_all RX8) (K : wx_C γ A s) (E : ∀ (H : Heap) (locs : List Loc) (ls : Array Slot) (pc : Nat), wx_w γ A s H locs (mw γ o ad f g) → decode cX8_windNow pc = .ok (.ireturn, 1) → W p l e rmX8_windNow s m as below meth c H locs 0 0 Q (F0 m pc ls [.int z])) {t0 : Int32} {H : Heap} {locs : List Loc} {ls : Array Slot} (w : wx_w γ A s H locs (mw γ o ad f g)) (hl : lv_has ls 2 []) (hF : pX8_windNow_20 f g t0 = some z) : W p l e rmX8_windNow s m as below meth c H locs 0 0 Q (F0 m 20 ls [.int t0]) := by
  have hx := C.1
  have hb := C.2.1
  unfold pX8_windNow_20 at hF
  have hF := Option.some.inj hF
  subst hF
  exact E _ _ _ _ w dX8_windNow_20

theorem bX8_windNow_0 {p : Program} {l : Launch} {e : Env} {s : State} {m : MethodId} {as : Array Value} {below : List Frame} {meth : Method} {c : Code} {A : Nat → Prop} {Q : State → Prop} {γ : wx_G} {o : Nat} {ad : Nat → Nat} {z : Int32} {f : xF} {g : xG} (C : CallFix p m c cX8_windNow 2 s as lw_all RX8) (K : wx_C γ A s) (E : ∀ (H : Heap) (locs : List Loc) (ls : Array Slot) (pc : Nat), wx_w γ A s H locs (mw γ o ad f g) → decode cX8_windNow pc = .ok (.ireturn, 1) → W p l e rmX8_windNow s m as below meth c H locs 0 0 Q (F0 m pc ls [.int z])) {v1 : Int32} {H : Heap} {locs : List Loc} {ls : Array Slot} (w : wx_w γ A s H locs (mw γ o ad f g)) (hl : lv_has ls 2 [(0, .ref o), (1, .int v1)]) (hF : pX8_windNow_0 f g v1 = some z) : W p l e rmX8_windNow s m as below meth c H locs 0 0 Q (F0 m 0 ls []) := by
  have hx := C.1
  have hb := C.2.1
  unfold pX8_windNow_0 at hF
  refine lv_aload_n hx hb dX8_windNow_0 rfl (lv_at hl 0 rfl) ?_
  refine mget_27 C K w dX8_windNow_1 ?_
  refine lv_if_ge (tgt := 16) hx hb dX8_windNow_4 (by decide) (fun c => ?_) (fun c => ?_)
  · have hF := (if_pos c).symm.trans hF
    refine lv_aload_n hx hb dX8_windNow_16 rfl (lv_at hl 0 rfl) ?_
    refine mget_27 C K w dX8_windNow_17 ?_
    exact bX8_windNow_20 C K E w (lv_sub hl [] rfl) hF
  · have hF := (if_neg c).symm.trans hF
    refine lv_aload_n hx hb dX8_windNow_7 rfl (lv_at hl 0 rfl) ?_
    refine mget_7 C K w dX8_windNow_8 ?_
    refine lv_iload_n hx hb dX8_windNow_11 rfl (lv_at hl 1 rfl) ?_
    obtain ⟨hi, hF⟩ := gin_if hF
    refine mald_7 C K w hi dX8_windNow_12 ?_
    refine lv_goto (tgt := 20) hx hb dX8_windNow_13 (by decide) ?_
    exact bX8_windNow_20 C K E w (lv_sub hl [] rfl) hF

theorem mX8_windNow {l : Launch} {γ : wx_G} {o : Nat} {ad : Nat → Nat} {f : xF} {g : xG} {v1 : Int32} {z : Int32} (hF : pX8_windNow f g v1 = some z) : wx_M γ l yX8_windNow (ws_ yX8_windNow cX8_windNow 2 (some .int)) rmX8_windNow [.ref o, .int v1] (mw γ o ad f g) (fun v ws => v = some (.int z) ∧ ws = (mw γ o ad f g)) 0 0 := by
  refine wx_M.of (by decide) (Nat.le_of_ble_eq_true rfl) ?_
  intro p e s m as below meth c A ls C K w hr hlocks _ hl
  exact bX8_windNow_0 C K (fun H locs ls pc w d => wx_iret C hr hlocks w ⟨rfl, rfl⟩ d) w hl hF
theorem rX8_windNow {p : Program} {l : Launch} {e : Env} {R : Room} {s : State} {m : MethodId} {as : Array Value} {below : List Frame} {meth : Method} {c : Code} {H : Heap} {locs : List Loc} {cells slots : Nat} {Q : State → Prop} {cc : ByteArray} {nL pc : Nat} {ls : Array Slot} {rest : List Value} {γ : wx_G} {A : Nat → Prop} {o : Nat} {ad : Nat → Nat} {f : xF} {g : xG} {v1 : Int32} {z : Int32} (C : CallFix p m c cc nL s as lw_all RX8) (K : wx_C γ A s) (w : wx_w γ A s H locs (mw γ o ad f g)) (hF : pX8_windNow f g v1 = some z) (hls : ls.size = nL) (hR : rmX8_windNow.frames + 1 ≤ R.frames ∧ 8 + (2 + 11) + rmX8_windNow.locals ≤ R.locals) (hW : (rest.map fun v => v.category).sum ≤ 8) (d : decode cc pc = .ok (.invokevirtual 256, 3)) (kk : ∀ (H : Heap) (locs : List Loc), wx_w γ A s H locs (mw γ o ad f g) → W p l e R s m as below meth c H locs cells slots Q (F0 m (pc + 3) ls (.int z :: rest))) (hf : cells ≤ R.cells ∧ slots ≤ R.slots := by exact ⟨Nat.le_of_ble_eq_true rfl, Nat.le_of_ble_eq_true rfl⟩) : W p l e R s m as below meth c H locs cells slots Q (F0 m pc ls (.int v1 :: .ref o :: rest)) :=
  wx_callV (n := 1) C K w (mX8_windNow (l := l) hF) q1600 q1602 qs77 q123 q1603 rfl rfl (by decide +kernel) (va_recv K.1.1 w.1 (ci := 0) (q0 := 0) rfl rfl) rfl rfl hR hls hW hf d (fun v ws H1 locs1 hp w => by obtain ⟨rfl, rfl⟩ := hp; exact kk H1 locs1 w)

/-! WalkingStonesModel.plainPush(III)I -/
abbrev rmX8_plainPush : Room := { frames := 2, cells := 0, slots := 0, locals := 45 }
def pX8_plainPush_114 (f : xF) (g : xG) (t0 : Int32) : Option (Int32) := some (t0)

def pX8_plainPush_43 (f : xF) (g : xG) (t0 : Int32) : Option (Int32) := some (t0)

def pX8_plainPush_0 (f : xF) (g : xG) (v1 : Int32) (v2 : Int32) (v3 : Int32) : Option (Int32) := (pX8_may f g v1 v3).bind (fun r3 => if r3 = 0 then some ((0 : Int32)) else (if gin v1 8 = true then if (g 9 v1.toNatClampNeg) = (5 : Int32) then (if gin v1 8 = true then if gin v2 10 = true then if (g 10 v1.toNatClampNeg) ≤ ((g 3 v2.toNatClampNeg) / (5 : Int32)) then pX8_plainPush_43 f g (0 : Int32) else pX8_plainPush_43 f g (1 : Int32) else none else none) else (pX8_windNow f g v3).bind (fun r46 => (pX8_drag f g v1 v2).bind (fun r52 => if 0 < ((r46 - r52) / (10 : Int32)) then (if gin v1 8 = true then if (g 9 v1.toNatClampNeg) = (3 : Int32) then (if ((r46 - r52) / (10 : Int32)) ≤ (9 : Int32) then pX8_plainPush_114 f g ((r46 - r52) / (10 : Int32)) else pX8_plainPush_114 f g (9 : Int32)) else (if gin v1 8 = true then if (g 9 v1.toNatClampNeg) = (4 : Int32) then pX8_plainPush_114 f g (((r46 - r52) / (10 : Int32)) + (1 : Int32)) else pX8_plainPush_114 f g ((r46 - r52) / (10 : Int32)) else none) else none) else some ((0 : Int32)))) else none))

abbrev pX8_plainPush (f : xF) (g : xG) (v1 : Int32) (v2 : Int32) (v3 : Int32) : Option (Int32) := pX8_plainPush_0 f g v1 v2 v3
theorem bX8_plainPush_114 {p : Program} {l : Launch} {e : Env} {s : State} {m : MethodId} {as : Array Value} {below : List Frame} {meth : Method} {c : Code} {A : Nat → Prop} {Q : State → Prop} {γ : wx_G} {o : Nat} {ad : Nat → Nat} {z : Int32} {f : xF} {g : xG} (C : CallFix p m c cX8_plainPush 5 s as lw_all RX8) (K : wx_C γ A s) (E : ∀ (H : Heap) (locs : List Loc) (ls : Array Slot) (pc : Nat), wx_w γ A s H locs (mw γ o ad f g) → decode cX8_plainPush pc = .ok (.ireturn, 1) → W p l e rmX8_plainPush s m as below meth c H locs 0 0 Q (F0 m pc ls [.int z])) {t0 : Int32} {H : Heap} {locs : List Loc} {ls : Array Slot} (w : wx_w γ A s H locs (mw γ o ad f g)) (hl : lv_has ls 5 []) (hF : pX8_plainPush_114 f g t0 = some z) : W p l e rmX8_plainPush s m as below meth c H locs 0 0 Q (F0 m 114 ls [.int t0]) := by
  have hx := C.1
  have hb := C.2.1
  unfold pX8_plainPush_114 at hF
  have hF := Option.some.inj hF
  subst hF
  exact E _ _ _ _ w dX8_plainPush_114

theorem bX8_plainPush_43 {p : Program} {l : Launch} {e : Env} {s : State} {m : MethodId} {as : Array Value} {below : List Frame} {meth : Method} {c : Code} {A : Nat → Prop} {Q : State → Prop} {γ : wx_G} {o : Nat} {ad : Nat → Nat} {z : Int32} {f : xF} {g : xG} (C : CallFix p m c cX8_plainPush 5 s as lw_all RX8) (K : wx_C γ A s) (E : ∀ (H : Heap) (locs : List Loc) (ls : Array Slot) (pc : Nat), wx_w γ A s H locs (mw γ o ad f g) → decode cX8_plainPush pc = .ok (.ireturn, 1) → W p l e rmX8_plainPush s m as below meth c H locs 0 0 Q (F0 m pc ls [.int z])) {t0 : Int32} {H : Heap} {locs : List Loc} {ls : Array Slot} (w : wx_w γ A s H locs (mw γ o ad f g)) (hl : lv_has ls 5 []) (hF : pX8_plainPush_43 f g t0 = some z) : W p l e rmX8_plainPush s m as below meth c H locs 0 0 Q (F0 m 43 ls [.int t0]) := by
  have hx := C.1
  have hb := C.2.1
  unfold pX8_plainPush_43 at hF
  have hF := Option.some.inj hF
  subst hF
  exact E _ _ _ _ w dX8_plainPush_43

theorem bX8_plainPush_0 {p : Program} {l : Launch} {e : Env} {s : State} {m : MethodId} {as : Array Value} {below : List Frame} {meth : Method} {c : Code} {A : Nat → Prop} {Q : State → Prop} {γ : wx_G} {o : Nat} {ad : Nat → Nat} {z : Int32} {f : xF} {g : xG} (C : CallFix p m c cX8_plainPush 5 s as lw_all RX8) (K : wx_C γ A s) (E : ∀ (H : Heap) (locs : List Loc) (ls : Array Slot) (pc : Nat), wx_w γ A s H locs (mw γ o ad f g) → decode cX8_plainPush pc = .ok (.ireturn, 1) → W p l e rmX8_plainPush s m as below meth c H locs 0 0 Q (F0 m pc ls [.int z])) {v1 : Int32} {v2 : Int32} {v3 : Int32} {H : Heap} {locs : List Loc} {ls : Array Slot} (w : wx_w γ A s H locs (mw γ o ad f g)) (hl : lv_has ls 5 [(0, .ref o), (1, .int v1), (2, .int v2), (3, .int v3)]) (hF : pX8_plainPush_0 f g v1 v2 v3 = some z) : W p l e rmX8_plainPush s m as below meth c H locs 0 0 Q (F0 m 0 ls []) := by
  have hx := C.1
  have hb := C.2.1
  unfold pX8_plainPush_0 at hF
  refine lv_aload_n hx hb dX8_plainPush_0 rfl (lv_at hl 0 rfl) ?_
  refine lv_iload_n hx hb dX8_plainPush_1 rfl (lv_at hl 1 rfl) ?_
  refine lv_iload_n hx hb dX8_plainPush_2 rfl (lv_at hl 3 rfl) ?_
  obtain ⟨r3, hr, hF⟩ := obd hF
  refine rX8_may C K w hr hl.1 ⟨Nat.le_of_ble_eq_true rfl, Nat.le_of_ble_eq_true rfl⟩ (Nat.le_of_ble_eq_true rfl) dX8_plainPush_3 (fun H locs w => ?_)
  refine lv_if_ne (tgt := 11) hx hb dX8_plainPush_6 (by decide) (fun c => ?_) (fun c => ?_)
  · have hF := (if_neg c).symm.trans hF
    refine lv_aload_n hx hb dX8_plainPush_11 rfl (lv_at hl 0 rfl) ?_
    refine mget_9 C K w dX8_plainPush_12 ?_
    refine lv_iload_n hx hb dX8_plainPush_15 rfl (lv_at hl 1 rfl) ?_
    obtain ⟨hi, hF⟩ := gin_if hF
    refine mald_9 C K w hi dX8_plainPush_16 ?_
    refine lv_iconst (v := (5 : Int32)) hx hb dX8_plainPush_17 (by decide) ?_
    refine lv_icmp_ne (tgt := 44) hx hb dX8_plainPush_18 (by decide) (fun c => ?_) (fun c => ?_)
    · have hF := (if_neg c).symm.trans hF
      refine lv_aload_n hx hb dX8_plainPush_44 rfl (lv_at hl 0 rfl) ?_
      refine lv_iload_n hx hb dX8_plainPush_45 rfl (lv_at hl 3 rfl) ?_
      obtain ⟨r46, hr, hF⟩ := obd hF
      refine rX8_windNow C K w hr hl.1 ⟨Nat.le_of_ble_eq_true rfl, Nat.le_of_ble_eq_true rfl⟩ (Nat.le_of_ble_eq_true rfl) dX8_plainPush_46 (fun H locs w => ?_)
      refine lv_aload_n hx hb dX8_plainPush_49 rfl (lv_at hl 0 rfl) ?_
      refine lv_iload_n hx hb dX8_plainPush_50 rfl (lv_at hl 1 rfl) ?_
      refine lv_iload_n hx hb dX8_plainPush_51 rfl (lv_at hl 2 rfl) ?_
      obtain ⟨r52, hr, hF⟩ := obd hF
      refine rX8_drag C K w hr hl.1 ⟨Nat.le_of_ble_eq_true rfl, Nat.le_of_ble_eq_true rfl⟩ (Nat.le_of_ble_eq_true rfl) dX8_plainPush_52 (fun H locs w => ?_)
      refine lv_isub hx hb dX8_plainPush_55 ?_
      refine lv_bipush (v := (10 : Int32)) hx hb dX8_plainPush_56 (by decide) ?_
      refine lv_idiv hx hb dX8_plainPush_58 (by decide) ?_
      refine lv_istore (lv' := [(4, .int ((r46 - r52) / (10 : Int32))), (0, .ref o), (1, .int v1), (2, .int v2), (3, .int v3)]) hx hb dX8_plainPush_59 hl (by decide) rfl (fun ls hl => ?_)
      refine lv_iload hx hb dX8_plainPush_61 (lv_at hl 0 rfl) ?_
      refine lv_if_gt (tgt := 68) hx hb dX8_plainPush_63 (by decide) (fun c => ?_) (fun c => ?_)
      · have hF := (if_pos c).symm.trans hF
        refine lv_aload_n hx hb dX8_plainPush_68 rfl (lv_at hl 1 rfl) ?_
        refine mget_9 C K w dX8_plainPush_69 ?_
        refine lv_iload_n hx hb dX8_plainPush_72 rfl (lv_at hl 2 rfl) ?_
        obtain ⟨hi, hF⟩ := gin_if hF
        refine mald_9 C K w hi dX8_plainPush_73 ?_
        refine lv_iconst (v := (3 : Int32)) hx hb dX8_plainPush_74 (by decide) ?_
        refine lv_icmp_ne (tgt := 95) hx hb dX8_plainPush_75 (by decide) (fun c => ?_) (fun c => ?_)
        · have hF := (if_neg c).symm.trans hF
          refine lv_aload_n hx hb dX8_plainPush_95 rfl (lv_at hl 1 rfl) ?_
          refine mget_9 C K w dX8_plainPush_96 ?_
          refine lv_iload_n hx hb dX8_plainPush_99 rfl (lv_at hl 2 rfl) ?_
          obtain ⟨hi, hF⟩ := gin_if hF
          refine mald_9 C K w hi dX8_plainPush_100 ?_
          refine lv_iconst (v := (4 : Int32)) hx hb dX8_plainPush_101 (by decide) ?_
          refine lv_icmp_ne (tgt := 112) hx hb dX8_plainPush_102 (by decide) (fun c => ?_) (fun c => ?_)
          · have hF := (if_neg c).symm.trans hF
            refine lv_iload hx hb dX8_plainPush_112 (lv_at hl 0 rfl) ?_
            exact bX8_plainPush_114 C K E w (lv_sub hl [] rfl) hF
          · have hF := (if_pos c).symm.trans hF
            refine lv_iload hx hb dX8_plainPush_105 (lv_at hl 0 rfl) ?_
            refine lv_iconst (v := (1 : Int32)) hx hb dX8_plainPush_107 (by decide) ?_
            refine lv_iadd hx hb dX8_plainPush_108 ?_
            refine lv_goto (tgt := 114) hx hb dX8_plainPush_109 (by decide) ?_
            exact bX8_plainPush_114 C K E w (lv_sub hl [] rfl) hF
        · have hF := (if_pos c).symm.trans hF
          refine lv_iload hx hb dX8_plainPush_78 (lv_at hl 0 rfl) ?_
          refine lv_bipush (v := (9 : Int32)) hx hb dX8_plainPush_80 (by decide) ?_
          refine lv_icmp_le (tgt := 90) hx hb dX8_plainPush_82 (by decide) (fun c => ?_) (fun c => ?_)
          · have hF := (if_pos c).symm.trans hF
            refine lv_iload hx hb dX8_plainPush_90 (lv_at hl 0 rfl) ?_
            refine lv_goto (tgt := 114) hx hb dX8_plainPush_92 (by decide) ?_
            exact bX8_plainPush_114 C K E w (lv_sub hl [] rfl) hF
          · have hF := (if_neg c).symm.trans hF
            refine lv_bipush (v := (9 : Int32)) hx hb dX8_plainPush_85 (by decide) ?_
            refine lv_goto (tgt := 114) hx hb dX8_plainPush_87 (by decide) ?_
            exact bX8_plainPush_114 C K E w (lv_sub hl [] rfl) hF
      · have hF := (if_neg c).symm.trans hF
        refine lv_iconst (v := (0 : Int32)) hx hb dX8_plainPush_66 (by decide) ?_
        have hF := Option.some.inj hF
        subst hF
        exact E _ _ _ _ w dX8_plainPush_67
    · have hF := (if_pos c).symm.trans hF
      refine lv_aload_n hx hb dX8_plainPush_21 rfl (lv_at hl 0 rfl) ?_
      refine mget_10 C K w dX8_plainPush_22 ?_
      refine lv_iload_n hx hb dX8_plainPush_25 rfl (lv_at hl 1 rfl) ?_
      obtain ⟨hi, hF⟩ := gin_if hF
      refine mald_10 C K w hi dX8_plainPush_26 ?_
      refine lv_aload_n hx hb dX8_plainPush_27 rfl (lv_at hl 0 rfl) ?_
      refine mget_3 C K w dX8_plainPush_28 ?_
      refine lv_iload_n hx hb dX8_plainPush_31 rfl (lv_at hl 2 rfl) ?_
      obtain ⟨hi, hF⟩ := gin_if hF
      refine mald_3 C K w hi dX8_plainPush_32 ?_
      refine lv_iconst (v := (5 : Int32)) hx hb dX8_plainPush_33 (by decide) ?_
      refine lv_idiv hx hb dX8_plainPush_34 (by decide) ?_
      refine lv_icmp_le (tgt := 42) hx hb dX8_plainPush_35 (by decide) (fun c => ?_) (fun c => ?_)
      · have hF := (if_pos c).symm.trans hF
        refine lv_iconst (v := (0 : Int32)) hx hb dX8_plainPush_42 (by decide) ?_
        exact bX8_plainPush_43 C K E w (lv_sub hl [] rfl) hF
      · have hF := (if_neg c).symm.trans hF
        refine lv_iconst (v := (1 : Int32)) hx hb dX8_plainPush_38 (by decide) ?_
        refine lv_goto (tgt := 43) hx hb dX8_plainPush_39 (by decide) ?_
        exact bX8_plainPush_43 C K E w (lv_sub hl [] rfl) hF
  · have hF := (if_pos c).symm.trans hF
    refine lv_iconst (v := (0 : Int32)) hx hb dX8_plainPush_9 (by decide) ?_
    have hF := Option.some.inj hF
    subst hF
    exact E _ _ _ _ w dX8_plainPush_10

theorem mX8_plainPush {l : Launch} {γ : wx_G} {o : Nat} {ad : Nat → Nat} {f : xF} {g : xG} {v1 : Int32} {v2 : Int32} {v3 : Int32} {z : Int32} (hF : pX8_plainPush f g v1 v2 v3 = some z) : wx_M γ l yX8_plainPush (ws_ yX8_plainPush cX8_plainPush 5 (some .int)) rmX8_plainPush [.ref o, .int v1, .int v2, .int v3] (mw γ o ad f g) (fun v ws => v = some (.int z) ∧ ws = (mw γ o ad f g)) 0 0 := by
  refine wx_M.of (by decide) (Nat.le_of_ble_eq_true rfl) ?_
  intro p e s m as below meth c A ls C K w hr hlocks _ hl
  exact bX8_plainPush_0 C K (fun H locs ls pc w d => wx_iret C hr hlocks w ⟨rfl, rfl⟩ d) w hl hF
theorem rX8_plainPush {p : Program} {l : Launch} {e : Env} {R : Room} {s : State} {m : MethodId} {as : Array Value} {below : List Frame} {meth : Method} {c : Code} {H : Heap} {locs : List Loc} {cells slots : Nat} {Q : State → Prop} {cc : ByteArray} {nL pc : Nat} {ls : Array Slot} {rest : List Value} {γ : wx_G} {A : Nat → Prop} {o : Nat} {ad : Nat → Nat} {f : xF} {g : xG} {v1 : Int32} {v2 : Int32} {v3 : Int32} {z : Int32} (C : CallFix p m c cc nL s as lw_all RX8) (K : wx_C γ A s) (w : wx_w γ A s H locs (mw γ o ad f g)) (hF : pX8_plainPush f g v1 v2 v3 = some z) (hls : ls.size = nL) (hR : rmX8_plainPush.frames + 1 ≤ R.frames ∧ 8 + (5 + 11) + rmX8_plainPush.locals ≤ R.locals) (hW : (rest.map fun v => v.category).sum ≤ 8) (d : decode cc pc = .ok (.invokevirtual 275, 3)) (kk : ∀ (H : Heap) (locs : List Loc), wx_w γ A s H locs (mw γ o ad f g) → W p l e R s m as below meth c H locs cells slots Q (F0 m (pc + 3) ls (.int z :: rest))) (hf : cells ≤ R.cells ∧ slots ≤ R.slots := by exact ⟨Nat.le_of_ble_eq_true rfl, Nat.le_of_ble_eq_true rfl⟩) : W p l e R s m as below meth c H locs cells slots Q (F0 m pc ls (.int v3 :: .int v2 :: .int v1 :: .ref o :: rest)) :=
  wx_callV (n := 3) C K w (mX8_plainPush (l := l) hF) q1596 q1598 qs76 q123 q1599 rfl rfl (by decide +kernel) (va_recv K.1.1 w.1 (ci := 0) (q0 := 0) rfl rfl) rfl rfl hR hls hW hf d (fun v ws H1 locs1 hp w => by obtain ⟨rfl, rfl⟩ := hp; exact kk H1 locs1 w)

/-! WalkingStonesModel.nameValue(IIII)I -/
abbrev rmX8_nameValue : Room := { frames := 1, cells := 0, slots := 0, locals := 21 }
def pX8_nameValue_74 (f : xF) (g : xG) (t0 : Int32) : Option (Int32) := some (t0)

def pX8_nameValue_0 (f : xF) (g : xG) (v1 : Int32) (v2 : Int32) (v3 : Int32) (v4 : Int32) : Option (Int32) := if v1 = (0 : Int32) then some (v2) else if v1 = (1 : Int32) then (if gin v3 60 = true then some (g 5 v3.toNatClampNeg) else none) else if v1 = (2 : Int32) then (if gin v3 60 = true then some (g 6 v3.toNatClampNeg) else none) else if v1 = (3 : Int32) then (pX8_windNow f g v3).bind (fun r54 => some (r54)) else if v1 = (4 : Int32) then (if 0 ≤ v4 then (if gin v4 8 = true then pX8_nameValue_74 f g (g 10 v4.toNatClampNeg) else none) else pX8_nameValue_74 f g (0 : Int32)) else some (v3)

abbrev pX8_nameValue (f : xF) (g : xG) (v1 : Int32) (v2 : Int32) (v3 : Int32) (v4 : Int32) : Option (Int32) := pX8_nameValue_0 f g v1 v2 v3 v4
theorem bX8_nameValue_74 {p : Program} {l : Launch} {e : Env} {s : State} {m : MethodId} {as : Array Value} {below : List Frame} {meth : Method} {c : Code} {A : Nat → Prop} {Q : State → Prop} {γ : wx_G} {o : Nat} {ad : Nat → Nat} {z : Int32} {f : xF} {g : xG} (C : CallFix p m c cX8_nameValue 5 s as lw_all RX8) (K : wx_C γ A s) (E : ∀ (H : Heap) (locs : List Loc) (ls : Array Slot) (pc : Nat), wx_w γ A s H locs (mw γ o ad f g) → decode cX8_nameValue pc = .ok (.ireturn, 1) → W p l e rmX8_nameValue s m as below meth c H locs 0 0 Q (F0 m pc ls [.int z])) {t0 : Int32} {H : Heap} {locs : List Loc} {ls : Array Slot} (w : wx_w γ A s H locs (mw γ o ad f g)) (hl : lv_has ls 5 []) (hF : pX8_nameValue_74 f g t0 = some z) : W p l e rmX8_nameValue s m as below meth c H locs 0 0 Q (F0 m 74 ls [.int t0]) := by
  have hx := C.1
  have hb := C.2.1
  unfold pX8_nameValue_74 at hF
  have hF := Option.some.inj hF
  subst hF
  exact E _ _ _ _ w dX8_nameValue_74

theorem bX8_nameValue_0 {p : Program} {l : Launch} {e : Env} {s : State} {m : MethodId} {as : Array Value} {below : List Frame} {meth : Method} {c : Code} {A : Nat → Prop} {Q : State → Prop} {γ : wx_G} {o : Nat} {ad : Nat → Nat} {z : Int32} {f : xF} {g : xG} (C : CallFix p m c cX8_nameValue 5 s as lw_all RX8) (K : wx_C γ A s) (E : ∀ (H : Heap) (locs : List Loc) (ls : Array Slot) (pc : Nat), wx_w γ A s H locs (mw γ o ad f g) → decode cX8_nameValue pc = .ok (.ireturn, 1) → W p l e rmX8_nameValue s m as below meth c H locs 0 0 Q (F0 m pc ls [.int z])) {v1 : Int32} {v2 : Int32} {v3 : Int32} {v4 : Int32} {H : Heap} {locs : List Loc} {ls : Array Slot} (w : wx_w γ A s H locs (mw γ o ad f g)) (hl : lv_has ls 5 [(0, .ref o), (1, .int v1), (2, .int v2), (3, .int v3), (4, .int v4)]) (hF : pX8_nameValue_0 f g v1 v2 v3 v4 = some z) : W p l e rmX8_nameValue s m as below meth c H locs 0 0 Q (F0 m 0 ls []) := by
  have hx := C.1
  have hb := C.2.1
  unfold pX8_nameValue_0 at hF
  refine lv_iload_n hx hb dX8_nameValue_0 rfl (lv_at hl 1 rfl) ?_
  by_cases c0 : v1 = (0 : Int32)
  · have hF := (if_pos c0).symm.trans hF
    refine lv_tableIn (off := 35) (tgt := 36) hx hb dX8_nameValue_1 (by rw [c0]; decide) (by rw [c0]; decide) (by rw [c0]; rfl) (by decide) ?_
    refine lv_iload_n hx hb dX8_nameValue_36 rfl (lv_at hl 2 rfl) ?_
    have hF := Option.some.inj hF
    subst hF
    exact E _ _ _ _ w dX8_nameValue_37
  have hF := (if_neg c0).symm.trans hF
  by_cases c1 : v1 = (1 : Int32)
  · have hF := (if_pos c1).symm.trans hF
    refine lv_tableIn (off := 37) (tgt := 38) hx hb dX8_nameValue_1 (by rw [c1]; decide) (by rw [c1]; decide) (by rw [c1]; rfl) (by decide) ?_
    refine lv_aload_n hx hb dX8_nameValue_38 rfl (lv_at hl 0 rfl) ?_
    refine mget_5 C K w dX8_nameValue_39 ?_
    refine lv_iload_n hx hb dX8_nameValue_42 rfl (lv_at hl 3 rfl) ?_
    obtain ⟨hi, hF⟩ := gin_if hF
    refine mald_5 C K w hi dX8_nameValue_43 ?_
    have hF := Option.some.inj hF
    subst hF
    exact E _ _ _ _ w dX8_nameValue_44
  have hF := (if_neg c1).symm.trans hF
  by_cases c2 : v1 = (2 : Int32)
  · have hF := (if_pos c2).symm.trans hF
    refine lv_tableIn (off := 44) (tgt := 45) hx hb dX8_nameValue_1 (by rw [c2]; decide) (by rw [c2]; decide) (by rw [c2]; rfl) (by decide) ?_
    refine lv_aload_n hx hb dX8_nameValue_45 rfl (lv_at hl 0 rfl) ?_
    refine mget_6 C K w dX8_nameValue_46 ?_
    refine lv_iload_n hx hb dX8_nameValue_49 rfl (lv_at hl 3 rfl) ?_
    obtain ⟨hi, hF⟩ := gin_if hF
    refine mald_6 C K w hi dX8_nameValue_50 ?_
    have hF := Option.some.inj hF
    subst hF
    exact E _ _ _ _ w dX8_nameValue_51
  have hF := (if_neg c2).symm.trans hF
  by_cases c3 : v1 = (3 : Int32)
  · have hF := (if_pos c3).symm.trans hF
    refine lv_tableIn (off := 51) (tgt := 52) hx hb dX8_nameValue_1 (by rw [c3]; decide) (by rw [c3]; decide) (by rw [c3]; rfl) (by decide) ?_
    refine lv_aload_n hx hb dX8_nameValue_52 rfl (lv_at hl 0 rfl) ?_
    refine lv_iload_n hx hb dX8_nameValue_53 rfl (lv_at hl 3 rfl) ?_
    obtain ⟨r54, hr, hF⟩ := obd hF
    refine rX8_windNow C K w hr hl.1 ⟨Nat.le_of_ble_eq_true rfl, Nat.le_of_ble_eq_true rfl⟩ (Nat.le_of_ble_eq_true rfl) dX8_nameValue_54 (fun H locs w => ?_)
    have hF := Option.some.inj hF
    subst hF
    exact E _ _ _ _ w dX8_nameValue_57
  have hF := (if_neg c3).symm.trans hF
  by_cases c4 : v1 = (4 : Int32)
  · have hF := (if_pos c4).symm.trans hF
    refine lv_tableIn (off := 57) (tgt := 58) hx hb dX8_nameValue_1 (by rw [c4]; decide) (by rw [c4]; decide) (by rw [c4]; rfl) (by decide) ?_
    refine lv_iload hx hb dX8_nameValue_58 (lv_at hl 4 rfl) ?_
    refine lv_if_ge (tgt := 67) hx hb dX8_nameValue_60 (by decide) (fun c => ?_) (fun c => ?_)
    · have hF := (if_pos c).symm.trans hF
      refine lv_aload_n hx hb dX8_nameValue_67 rfl (lv_at hl 0 rfl) ?_
      refine mget_10 C K w dX8_nameValue_68 ?_
      refine lv_iload hx hb dX8_nameValue_71 (lv_at hl 4 rfl) ?_
      obtain ⟨hi, hF⟩ := gin_if hF
      refine mald_10 C K w hi dX8_nameValue_73 ?_
      exact bX8_nameValue_74 C K E w (lv_sub hl [] rfl) hF
    · have hF := (if_neg c).symm.trans hF
      refine lv_iconst (v := (0 : Int32)) hx hb dX8_nameValue_63 (by decide) ?_
      refine lv_goto (tgt := 74) hx hb dX8_nameValue_64 (by decide) ?_
      exact bX8_nameValue_74 C K E w (lv_sub hl [] rfl) hF
  have hF := (if_neg c4).symm.trans hF
  have n0 := wx_ne c0 (k := 0) (by decide)
  have n1 := wx_ne c1 (k := 1) (by decide)
  have n2 := wx_ne c2 (k := 2) (by decide)
  have n3 := wx_ne c3 (k := 3) (by decide)
  have n4 := wx_ne c4 (k := 4) (by decide)
  refine lv_tableOut (tgt := 75) hx hb dX8_nameValue_1 (by omega) (by decide) ?_
  refine lv_iload_n hx hb dX8_nameValue_75 rfl (lv_at hl 3 rfl) ?_
  have hF := Option.some.inj hF
  subst hF
  exact E _ _ _ _ w dX8_nameValue_76

theorem mX8_nameValue {l : Launch} {γ : wx_G} {o : Nat} {ad : Nat → Nat} {f : xF} {g : xG} {v1 : Int32} {v2 : Int32} {v3 : Int32} {v4 : Int32} {z : Int32} (hF : pX8_nameValue f g v1 v2 v3 v4 = some z) : wx_M γ l yX8_nameValue (ws_ yX8_nameValue cX8_nameValue 5 (some .int)) rmX8_nameValue [.ref o, .int v1, .int v2, .int v3, .int v4] (mw γ o ad f g) (fun v ws => v = some (.int z) ∧ ws = (mw γ o ad f g)) 0 0 := by
  refine wx_M.of (by decide) (Nat.le_of_ble_eq_true rfl) ?_
  intro p e s m as below meth c A ls C K w hr hlocks _ hl
  exact bX8_nameValue_0 C K (fun H locs ls pc w d => wx_iret C hr hlocks w ⟨rfl, rfl⟩ d) w hl hF
theorem rX8_nameValue {p : Program} {l : Launch} {e : Env} {R : Room} {s : State} {m : MethodId} {as : Array Value} {below : List Frame} {meth : Method} {c : Code} {H : Heap} {locs : List Loc} {cells slots : Nat} {Q : State → Prop} {cc : ByteArray} {nL pc : Nat} {ls : Array Slot} {rest : List Value} {γ : wx_G} {A : Nat → Prop} {o : Nat} {ad : Nat → Nat} {f : xF} {g : xG} {v1 : Int32} {v2 : Int32} {v3 : Int32} {v4 : Int32} {z : Int32} (C : CallFix p m c cc nL s as lw_all RX8) (K : wx_C γ A s) (w : wx_w γ A s H locs (mw γ o ad f g)) (hF : pX8_nameValue f g v1 v2 v3 v4 = some z) (hls : ls.size = nL) (hR : rmX8_nameValue.frames + 1 ≤ R.frames ∧ 8 + (5 + 11) + rmX8_nameValue.locals ≤ R.locals) (hW : (rest.map fun v => v.category).sum ≤ 8) (d : decode cc pc = .ok (.invokevirtual 259, 3)) (kk : ∀ (H : Heap) (locs : List Loc), wx_w γ A s H locs (mw γ o ad f g) → W p l e R s m as below meth c H locs cells slots Q (F0 m (pc + 3) ls (.int z :: rest))) (hf : cells ≤ R.cells ∧ slots ≤ R.slots := by exact ⟨Nat.le_of_ble_eq_true rfl, Nat.le_of_ble_eq_true rfl⟩) : W p l e R s m as below meth c H locs cells slots Q (F0 m pc ls (.int v4 :: .int v3 :: .int v2 :: .int v1 :: .ref o :: rest)) :=
  wx_callV (n := 4) C K w (mX8_nameValue (l := l) hF) q1608 q1610 qs79 q123 q1611 rfl rfl (by decide +kernel) (va_recv K.1.1 w.1 (ci := 0) (q0 := 0) rfl rfl) rfl rfl hR hls hW hf d (fun v ws H1 locs1 hp w => by obtain ⟨rfl, rfl⟩ := hp; exact kk H1 locs1 w)

/-! WalkingStonesModel.done(III)I -/
abbrev rmX8_done : Room := { frames := 0, cells := 0, slots := 0, locals := 0 }
def pX8_done_57 (f : xF) (g : xG) (t0 : Int32) : Option (Int32) := some (t0)

def pX8_done_52 (f : xF) (g : xG) : Option (Int32) := pX8_done_57 f g (1 : Int32)

def pX8_done_71 (f : xF) (g : xG) (t0 : Int32) : Option (Int32) := some (t0)

def pX8_done_70 (f : xF) (g : xG) : Option (Int32) := pX8_done_71 f g (0 : Int32)

def pX8_done_82 (f : xF) (g : xG) (t0 : Int32) : Option (Int32) := some (t0)

def pX8_done_93 (f : xF) (g : xG) (t0 : Int32) : Option (Int32) := some (t0)

def pX8_done_0 (f : xF) (g : xG) (v1 : Int32) (v2 : Int32) (v3 : Int32) : Option (Int32) := if v1 = (2 : Int32) then (if v2 = 0 then (if v3 = 0 then pX8_done_57 f g (0 : Int32) else pX8_done_52 f g) else pX8_done_52 f g) else if v1 = (3 : Int32) then (if v2 = 0 then pX8_done_70 f g else (if v3 = 0 then pX8_done_70 f g else pX8_done_71 f g (1 : Int32))) else if v1 = (4 : Int32) then some (v2 * v3) else if v1 = (5 : Int32) then (if v3 ≤ v2 then pX8_done_82 f g (0 : Int32) else pX8_done_82 f g (1 : Int32)) else if v1 = (6 : Int32) then (if v2 = v3 then pX8_done_93 f g (1 : Int32) else pX8_done_93 f g (0 : Int32)) else if v1 = (7 : Int32) then some (v2 + v3) else if v1 = (8 : Int32) then some (v2 - v3) else some (v2 * v3)

abbrev pX8_done (f : xF) (g : xG) (v1 : Int32) (v2 : Int32) (v3 : Int32) : Option (Int32) := pX8_done_0 f g v1 v2 v3
theorem bX8_done_57 {p : Program} {l : Launch} {e : Env} {s : State} {m : MethodId} {as : Array Value} {below : List Frame} {meth : Method} {c : Code} {A : Nat → Prop} {Q : State → Prop} {γ : wx_G} {o : Nat} {ad : Nat → Nat} {z : Int32} {f : xF} {g : xG} (C : CallFix p m c cX8_done 4 s as lw_all RX8) (K : wx_C γ A s) (E : ∀ (H : Heap) (locs : List Loc) (ls : Array Slot) (pc : Nat), wx_w γ A s H locs (mw γ o ad f g) → decode cX8_done pc = .ok (.ireturn, 1) → W p l e rmX8_done s m as below meth c H locs 0 0 Q (F0 m pc ls [.int z])) {t0 : Int32} {H : Heap} {locs : List Loc} {ls : Array Slot} (w : wx_w γ A s H locs (mw γ o ad f g)) (hl : lv_has ls 4 []) (hF : pX8_done_57 f g t0 = some z) : W p l e rmX8_done s m as below meth c H locs 0 0 Q (F0 m 57 ls [.int t0]) := by
  have hx := C.1
  have hb := C.2.1
  unfold pX8_done_57 at hF
  have hF := Option.some.inj hF
  subst hF
  exact E _ _ _ _ w dX8_done_57

theorem bX8_done_52 {p : Program} {l : Launch} {e : Env} {s : State} {m : MethodId} {as : Array Value} {below : List Frame} {meth : Method} {c : Code} {A : Nat → Prop} {Q : State → Prop} {γ : wx_G} {o : Nat} {ad : Nat → Nat} {z : Int32} {f : xF} {g : xG} (C : CallFix p m c cX8_done 4 s as lw_all RX8) (K : wx_C γ A s) (E : ∀ (H : Heap) (locs : List Loc) (ls : Array Slot) (pc : Nat), wx_w γ A s H locs (mw γ o ad f g) → decode cX8_done pc = .ok (.ireturn, 1) → W p l e rmX8_done s m as below meth c H locs 0 0 Q (F0 m pc ls [.int z])) {H : Heap} {locs : List Loc} {ls : Array Slot} (w : wx_w γ A s H locs (mw γ o ad f g)) (hl : lv_has ls 4 []) (hF : pX8_done_52 f g = some z) : W p l e rmX8_done s m as below meth c H locs 0 0 Q (F0 m 52 ls []) := by
  have hx := C.1
  have hb := C.2.1
  unfold pX8_done_52 at hF
  refine lv_iconst (v := (1 : Int32)) hx hb dX8_done_52 (by decide) ?_
  refine lv_goto (tgt := 57) hx hb dX8_done_53 (by decide) ?_
  exact bX8_done_57 C K E w hl hF

theorem bX8_done_71 {p : Program} {l : Launch} {e : Env} {s : State} {m : MethodId} {as : Array Value} {below : List Frame} {meth : Method} {c : Code} {A : Nat → Prop} {Q : State → Prop} {γ : wx_G} {o : Nat} {ad : Nat → Nat} {z : Int32} {f : xF} {g : xG} (C : CallFix p m c cX8_done 4 s as lw_all RX8) (K : wx_C γ A s) (E : ∀ (H : Heap) (locs : List Loc) (ls : Array Slot) (pc : Nat), wx_w γ A s H locs (mw γ o ad f g) → decode cX8_done pc = .ok (.ireturn, 1) → W p l e rmX8_done s m as below meth c H locs 0 0 Q (F0 m pc ls [.int z])) {t0 : Int32} {H : Heap} {locs : List Loc} {ls : Array Slot} (w : wx_w γ A s H locs (mw γ o ad f g)) (hl : lv_has ls 4 []) (hF : pX8_done_71 f g t0 = some z) : W p l e rmX8_done s m as below meth c H locs 0 0 Q (F0 m 71 ls [.int t0]) := by
  have hx := C.1
  have hb := C.2.1
  unfold pX8_done_71 at hF
  have hF := Option.some.inj hF
  subst hF
  exact E _ _ _ _ w dX8_done_71

theorem bX8_done_70 {p : Program} {l : Launch} {e : Env} {s : State} {m : MethodId} {as : Array Value} {below : List Frame} {meth : Method} {c : Code} {A : Nat → Prop} {Q : State → Prop} {γ : wx_G} {o : Nat} {ad : Nat → Nat} {z : Int32} {f : xF} {g : xG} (C : CallFix p m c cX8_done 4 s as lw_all RX8) (K : wx_C γ A s) (E : ∀ (H : Heap) (locs : List Loc) (ls : Array Slot) (pc : Nat), wx_w γ A s H locs (mw γ o ad f g) → decode cX8_done pc = .ok (.ireturn, 1) → W p l e rmX8_done s m as below meth c H locs 0 0 Q (F0 m pc ls [.int z])) {H : Heap} {locs : List Loc} {ls : Array Slot} (w : wx_w γ A s H locs (mw γ o ad f g)) (hl : lv_has ls 4 []) (hF : pX8_done_70 f g = some z) : W p l e rmX8_done s m as below meth c H locs 0 0 Q (F0 m 70 ls []) := by
  have hx := C.1
  have hb := C.2.1
  unfold pX8_done_70 at hF
  refine lv_iconst (v := (0 : Int32)) hx hb dX8_done_70 (by decide) ?_
  exact bX8_done_71 C K E w hl hF

theorem bX8_done_82 {p : Program} {l : Launch} {e : Env} {s : State} {m : MethodId} {as : Array Value} {below : List Frame} {meth : Method} {c : Code} {A : Nat → Prop} {Q : State → Prop} {γ : wx_G} {o : Nat} {ad : Nat → Nat} {z : Int32} {f : xF} {g : xG} (C : CallFix p m c cX8_done 4 s as lw_all RX8) (K : wx_C γ A s) (E : ∀ (H : Heap) (locs : List Loc) (ls : Array Slot) (pc : Nat), wx_w γ A s H locs (mw γ o ad f g) → decode cX8_done pc = .ok (.ireturn, 1) → W p l e rmX8_done s m as below meth c H locs 0 0 Q (F0 m pc ls [.int z])) {t0 : Int32} {H : Heap} {locs : List Loc} {ls : Array Slot} (w : wx_w γ A s H locs (mw γ o ad f g)) (hl : lv_has ls 4 []) (hF : pX8_done_82 f g t0 = some z) : W p l e rmX8_done s m as below meth c H locs 0 0 Q (F0 m 82 ls [.int t0]) := by
  have hx := C.1
  have hb := C.2.1
  unfold pX8_done_82 at hF
  have hF := Option.some.inj hF
  subst hF
  exact E _ _ _ _ w dX8_done_82

theorem bX8_done_93 {p : Program} {l : Launch} {e : Env} {s : State} {m : MethodId} {as : Array Value} {below : List Frame} {meth : Method} {c : Code} {A : Nat → Prop} {Q : State → Prop} {γ : wx_G} {o : Nat} {ad : Nat → Nat} {z : Int32} {f : xF} {g : xG} (C : CallFix p m c cX8_done 4 s as lw_all RX8) (K : wx_C γ A s) (E : ∀ (H : Heap) (locs : List Loc) (ls : Array Slot) (pc : Nat), wx_w γ A s H locs (mw γ o ad f g) → decode cX8_done pc = .ok (.ireturn, 1) → W p l e rmX8_done s m as below meth c H locs 0 0 Q (F0 m pc ls [.int z])) {t0 : Int32} {H : Heap} {locs : List Loc} {ls : Array Slot} (w : wx_w γ A s H locs (mw γ o ad f g)) (hl : lv_has ls 4 []) (hF : pX8_done_93 f g t0 = some z) : W p l e rmX8_done s m as below meth c H locs 0 0 Q (F0 m 93 ls [.int t0]) := by
  have hx := C.1
  have hb := C.2.1
  unfold pX8_done_93 at hF
  have hF := Option.some.inj hF
  subst hF
  exact E _ _ _ _ w dX8_done_93

theorem bX8_done_0 {p : Program} {l : Launch} {e : Env} {s : State} {m : MethodId} {as : Array Value} {below : List Frame} {meth : Method} {c : Code} {A : Nat → Prop} {Q : State → Prop} {γ : wx_G} {o : Nat} {ad : Nat → Nat} {z : Int32} {f : xF} {g : xG} (C : CallFix p m c cX8_done 4 s as lw_all RX8) (K : wx_C γ A s) (E : ∀ (H : Heap) (locs : List Loc) (ls : Array Slot) (pc : Nat), wx_w γ A s H locs (mw γ o ad f g) → decode cX8_done pc = .ok (.ireturn, 1) → W p l e rmX8_done s m as below meth c H locs 0 0 Q (F0 m pc ls [.int z])) {v1 : Int32} {v2 : Int32} {v3 : Int32} {H : Heap} {locs : List Loc} {ls : Array Slot} (w : wx_w γ A s H locs (mw γ o ad f g)) (hl : lv_has ls 4 [(0, .ref o), (1, .int v1), (2, .int v2), (3, .int v3)]) (hF : pX8_done_0 f g v1 v2 v3 = some z) : W p l e rmX8_done s m as below meth c H locs 0 0 Q (F0 m 0 ls []) := by
  have hx := C.1
  have hb := C.2.1
  unfold pX8_done_0 at hF
  refine lv_iload_n hx hb dX8_done_0 rfl (lv_at hl 1 rfl) ?_
  by_cases c2 : v1 = (2 : Int32)
  · have hF := (if_pos c2).symm.trans hF
    refine lv_tableIn (off := 43) (tgt := 44) hx hb dX8_done_1 (by rw [c2]; decide) (by rw [c2]; decide) (by rw [c2]; rfl) (by decide) ?_
    refine lv_iload_n hx hb dX8_done_44 rfl (lv_at hl 2 rfl) ?_
    refine lv_if_ne (tgt := 52) hx hb dX8_done_45 (by decide) (fun c => ?_) (fun c => ?_)
    · have hF := (if_neg c).symm.trans hF
      exact bX8_done_52 C K E w (lv_sub hl [] rfl) hF
    · have hF := (if_pos c).symm.trans hF
      refine lv_iload_n hx hb dX8_done_48 rfl (lv_at hl 3 rfl) ?_
      refine lv_if_eq (tgt := 56) hx hb dX8_done_49 (by decide) (fun c => ?_) (fun c => ?_)
      · have hF := (if_pos c).symm.trans hF
        refine lv_iconst (v := (0 : Int32)) hx hb dX8_done_56 (by decide) ?_
        exact bX8_done_57 C K E w (lv_sub hl [] rfl) hF
      · have hF := (if_neg c).symm.trans hF
        exact bX8_done_52 C K E w (lv_sub hl [] rfl) hF
  have hF := (if_neg c2).symm.trans hF
  by_cases c3 : v1 = (3 : Int32)
  · have hF := (if_pos c3).symm.trans hF
    refine lv_tableIn (off := 57) (tgt := 58) hx hb dX8_done_1 (by rw [c3]; decide) (by rw [c3]; decide) (by rw [c3]; rfl) (by decide) ?_
    refine lv_iload_n hx hb dX8_done_58 rfl (lv_at hl 2 rfl) ?_
    refine lv_if_eq (tgt := 70) hx hb dX8_done_59 (by decide) (fun c => ?_) (fun c => ?_)
    · have hF := (if_pos c).symm.trans hF
      exact bX8_done_70 C K E w (lv_sub hl [] rfl) hF
    · have hF := (if_neg c).symm.trans hF
      refine lv_iload_n hx hb dX8_done_62 rfl (lv_at hl 3 rfl) ?_
      refine lv_if_eq (tgt := 70) hx hb dX8_done_63 (by decide) (fun c => ?_) (fun c => ?_)
      · have hF := (if_pos c).symm.trans hF
        exact bX8_done_70 C K E w (lv_sub hl [] rfl) hF
      · have hF := (if_neg c).symm.trans hF
        refine lv_iconst (v := (1 : Int32)) hx hb dX8_done_66 (by decide) ?_
        refine lv_goto (tgt := 71) hx hb dX8_done_67 (by decide) ?_
        exact bX8_done_71 C K E w (lv_sub hl [] rfl) hF
  have hF := (if_neg c3).symm.trans hF
  by_cases c4 : v1 = (4 : Int32)
  · have hF := (if_pos c4).symm.trans hF
    refine lv_tableIn (off := 101) (tgt := 102) hx hb dX8_done_1 (by rw [c4]; decide) (by rw [c4]; decide) (by rw [c4]; rfl) (by decide) ?_
    refine lv_iload_n hx hb dX8_done_102 rfl (lv_at hl 2 rfl) ?_
    refine lv_iload_n hx hb dX8_done_103 rfl (lv_at hl 3 rfl) ?_
    refine lv_imul hx hb dX8_done_104 ?_
    have hF := Option.some.inj hF
    subst hF
    exact E _ _ _ _ w dX8_done_105
  have hF := (if_neg c4).symm.trans hF
  by_cases c5 : v1 = (5 : Int32)
  · have hF := (if_pos c5).symm.trans hF
    refine lv_tableIn (off := 71) (tgt := 72) hx hb dX8_done_1 (by rw [c5]; decide) (by rw [c5]; decide) (by rw [c5]; rfl) (by decide) ?_
    refine lv_iload_n hx hb dX8_done_72 rfl (lv_at hl 2 rfl) ?_
    refine lv_iload_n hx hb dX8_done_73 rfl (lv_at hl 3 rfl) ?_
    refine lv_icmp_ge (tgt := 81) hx hb dX8_done_74 (by decide) (fun c => ?_) (fun c => ?_)
    · have hF := (if_pos c).symm.trans hF
      refine lv_iconst (v := (0 : Int32)) hx hb dX8_done_81 (by decide) ?_
      exact bX8_done_82 C K E w (lv_sub hl [] rfl) hF
    · have hF := (if_neg c).symm.trans hF
      refine lv_iconst (v := (1 : Int32)) hx hb dX8_done_77 (by decide) ?_
      refine lv_goto (tgt := 82) hx hb dX8_done_78 (by decide) ?_
      exact bX8_done_82 C K E w (lv_sub hl [] rfl) hF
  have hF := (if_neg c5).symm.trans hF
  by_cases c6 : v1 = (6 : Int32)
  · have hF := (if_pos c6).symm.trans hF
    refine lv_tableIn (off := 82) (tgt := 83) hx hb dX8_done_1 (by rw [c6]; decide) (by rw [c6]; decide) (by rw [c6]; rfl) (by decide) ?_
    refine lv_iload_n hx hb dX8_done_83 rfl (lv_at hl 2 rfl) ?_
    refine lv_iload_n hx hb dX8_done_84 rfl (lv_at hl 3 rfl) ?_
    refine lv_icmp_ne (tgt := 92) hx hb dX8_done_85 (by decide) (fun c => ?_) (fun c => ?_)
    · have hF := (if_neg c).symm.trans hF
      refine lv_iconst (v := (0 : Int32)) hx hb dX8_done_92 (by decide) ?_
      exact bX8_done_93 C K E w (lv_sub hl [] rfl) hF
    · have hF := (if_pos c).symm.trans hF
      refine lv_iconst (v := (1 : Int32)) hx hb dX8_done_88 (by decide) ?_
      refine lv_goto (tgt := 93) hx hb dX8_done_89 (by decide) ?_
      exact bX8_done_93 C K E w (lv_sub hl [] rfl) hF
  have hF := (if_neg c6).symm.trans hF
  by_cases c7 : v1 = (7 : Int32)
  · have hF := (if_pos c7).symm.trans hF
    refine lv_tableIn (off := 93) (tgt := 94) hx hb dX8_done_1 (by rw [c7]; decide) (by rw [c7]; decide) (by rw [c7]; rfl) (by decide) ?_
    refine lv_iload_n hx hb dX8_done_94 rfl (lv_at hl 2 rfl) ?_
    refine lv_iload_n hx hb dX8_done_95 rfl (lv_at hl 3 rfl) ?_
    refine lv_iadd hx hb dX8_done_96 ?_
    have hF := Option.some.inj hF
    subst hF
    exact E _ _ _ _ w dX8_done_97
  have hF := (if_neg c7).symm.trans hF
  by_cases c8 : v1 = (8 : Int32)
  · have hF := (if_pos c8).symm.trans hF
    refine lv_tableIn (off := 97) (tgt := 98) hx hb dX8_done_1 (by rw [c8]; decide) (by rw [c8]; decide) (by rw [c8]; rfl) (by decide) ?_
    refine lv_iload_n hx hb dX8_done_98 rfl (lv_at hl 2 rfl) ?_
    refine lv_iload_n hx hb dX8_done_99 rfl (lv_at hl 3 rfl) ?_
    refine lv_isub hx hb dX8_done_100 ?_
    have hF := Option.some.inj hF
    subst hF
    exact E _ _ _ _ w dX8_done_101
  have hF := (if_neg c8).symm.trans hF
  have n2 := wx_ne c2 (k := 2) (by decide)
  have n3 := wx_ne c3 (k := 3) (by decide)
  have n4 := wx_ne c4 (k := 4) (by decide)
  have n5 := wx_ne c5 (k := 5) (by decide)
  have n6 := wx_ne c6 (k := 6) (by decide)
  have n7 := wx_ne c7 (k := 7) (by decide)
  have n8 := wx_ne c8 (k := 8) (by decide)
  refine lv_tableOut (tgt := 102) hx hb dX8_done_1 (by omega) (by decide) ?_
  refine lv_iload_n hx hb dX8_done_102 rfl (lv_at hl 2 rfl) ?_
  refine lv_iload_n hx hb dX8_done_103 rfl (lv_at hl 3 rfl) ?_
  refine lv_imul hx hb dX8_done_104 ?_
  have hF := Option.some.inj hF
  subst hF
  exact E _ _ _ _ w dX8_done_105

theorem mX8_done {l : Launch} {γ : wx_G} {o : Nat} {ad : Nat → Nat} {f : xF} {g : xG} {v1 : Int32} {v2 : Int32} {v3 : Int32} {z : Int32} (hF : pX8_done f g v1 v2 v3 = some z) : wx_M γ l yX8_done (ws_ yX8_done cX8_done 4 (some .int)) rmX8_done [.ref o, .int v1, .int v2, .int v3] (mw γ o ad f g) (fun v ws => v = some (.int z) ∧ ws = (mw γ o ad f g)) 0 0 := by
  refine wx_M.of (by decide) (Nat.le_of_ble_eq_true rfl) ?_
  intro p e s m as below meth c A ls C K w hr hlocks _ hl
  exact bX8_done_0 C K (fun H locs ls pc w d => wx_iret C hr hlocks w ⟨rfl, rfl⟩ d) w hl hF
theorem rX8_done {p : Program} {l : Launch} {e : Env} {R : Room} {s : State} {m : MethodId} {as : Array Value} {below : List Frame} {meth : Method} {c : Code} {H : Heap} {locs : List Loc} {cells slots : Nat} {Q : State → Prop} {cc : ByteArray} {nL pc : Nat} {ls : Array Slot} {rest : List Value} {γ : wx_G} {A : Nat → Prop} {o : Nat} {ad : Nat → Nat} {f : xF} {g : xG} {v1 : Int32} {v2 : Int32} {v3 : Int32} {z : Int32} (C : CallFix p m c cc nL s as lw_all RX8) (K : wx_C γ A s) (w : wx_w γ A s H locs (mw γ o ad f g)) (hF : pX8_done f g v1 v2 v3 = some z) (hls : ls.size = nL) (hR : rmX8_done.frames + 1 ≤ R.frames ∧ 8 + (4 + 11) + rmX8_done.locals ≤ R.locals) (hW : (rest.map fun v => v.category).sum ≤ 8) (d : decode cc pc = .ok (.invokevirtual 263, 3)) (kk : ∀ (H : Heap) (locs : List Loc), wx_w γ A s H locs (mw γ o ad f g) → W p l e R s m as below meth c H locs cells slots Q (F0 m (pc + 3) ls (.int z :: rest))) (hf : cells ≤ R.cells ∧ slots ≤ R.slots := by exact ⟨Nat.le_of_ble_eq_true rfl, Nat.le_of_ble_eq_true rfl⟩) : W p l e R s m as below meth c H locs cells slots Q (F0 m pc ls (.int v3 :: .int v2 :: .int v1 :: .ref o :: rest)) :=
  wx_callV (n := 3) C K w (mX8_done (l := l) hF) q1612 q1614 qs80 q123 q1615 rfl rfl (by decide +kernel) (va_recv K.1.1 w.1 (ci := 0) (q0 := 0) rfl rfl) rfl rfl hR hls hW hf d (fun v ws H1 locs1 hp w => by obtain ⟨rfl, rfl⟩ := hp; exact kk H1 locs1 w)

/-! WalkingStonesModel.tellsRule(IIII)I -/
abbrev rmX8_tellsRule : Room := { frames := 2, cells := 0, slots := 0, locals := 45 }
def pX8_tellsRule_203 (k23 : xF → xG → Int32 → Int32 → Int32 → Int32 → Int32 → Int32 → Int32 → Option (Int32 × xF × xG)) (f : xF) (g : xG) (v1 : Int32) (v2 : Int32) (v3 : Int32) (v4 : Int32) (v5 : Int32) (v6 : Int32) (v7 : Int32) : Option (Int32 × xF × xG) := k23 f g v1 v2 v3 v4 v5 v6 (v7 + 1)

def pX8_tellsRule_100 (k23 : xF → xG → Int32 → Int32 → Int32 → Int32 → Int32 → Int32 → Int32 → Option (Int32 × xF × xG)) (f : xF) (g : xG) (v1 : Int32) (v2 : Int32) (v3 : Int32) (v4 : Int32) (v5 : Int32) (v6 : Int32) (v7 : Int32) (t1 : Int32) (t2 : Int32) : Option (Int32 × xF × xG) := if gin t1 161 = true then pX8_tellsRule_203 k23 f (va_up g 26 (upd (g 26) t1.toNatClampNeg t2)) v1 v2 v3 v4 v5 (v6 + 1) v7 else none

def pX8_tellsRule_64 (k23 : xF → xG → Int32 → Int32 → Int32 → Int32 → Int32 → Int32 → Int32 → Option (Int32 × xF × xG)) (f : xF) (g : xG) (v1 : Int32) (v2 : Int32) (v3 : Int32) (v4 : Int32) (v5 : Int32) (v6 : Int32) (v7 : Int32) (v8 : Int32) : Option (Int32 × xF × xG) := if v8 = 0 then (if gin v7 2880 = true then pX8_tellsRule_100 k23 f g v1 v2 v3 v4 v5 v6 v7 v6 (g 23 v7.toNatClampNeg) else none) else (if gin v7 2880 = true then (pX8_nameValue f g (g 23 v7.toNatClampNeg) v2 v3 v4).bind (fun r97 => pX8_tellsRule_100 k23 f g v1 v2 v3 v4 v5 v6 v7 v6 r97) else none)

def pX8_tellsRule_165 (k23 : xF → xG → Int32 → Int32 → Int32 → Int32 → Int32 → Int32 → Int32 → Option (Int32 × xF × xG)) (f : xF) (g : xG) (v1 : Int32) (v2 : Int32) (v3 : Int32) (v4 : Int32) (v5 : Int32) (v6 : Int32) (v7 : Int32) (t1 : Int32) (t2 : Int32) : Option (Int32 × xF × xG) := if gin t1 161 = true then pX8_tellsRule_203 k23 f (va_up g 26 (upd (g 26) t1.toNatClampNeg t2)) v1 v2 v3 v4 v5 v6 v7 else none

def pX8_tellsRule_120 (k23 : xF → xG → Int32 → Int32 → Int32 → Int32 → Int32 → Int32 → Int32 → Option (Int32 × xF × xG)) (f : xF) (g : xG) (v1 : Int32) (v2 : Int32) (v3 : Int32) (v4 : Int32) (v5 : Int32) (v6 : Int32) (v7 : Int32) (v8 : Int32) : Option (Int32 × xF × xG) := if v8 = (10 : Int32) then (if gin (v6 - (1 : Int32)) 161 = true then pX8_tellsRule_165 k23 f g v1 v2 v3 v4 v5 v6 v7 (v6 - (1 : Int32)) (-(g 26 (v6 - (1 : Int32)).toNatClampNeg)) else none) else (if gin (v6 - (1 : Int32)) 161 = true then if (g 26 (v6 - (1 : Int32)).toNatClampNeg) = 0 then pX8_tellsRule_165 k23 f g v1 v2 v3 v4 v5 v6 v7 (v6 - (1 : Int32)) (1 : Int32) else pX8_tellsRule_165 k23 f g v1 v2 v3 v4 v5 v6 v7 (v6 - (1 : Int32)) (0 : Int32) else none)

def pX8_tellsRule_23 : Nat → xF → xG → Int32 → Int32 → Int32 → Int32 → Int32 → Int32 → Int32 → Option (Int32 × xF × xG)
  | 0, _, _, _, _, _, _, _, _, _ => none
  | n + 1, f, g, v1, v2, v3, v4, v5, v6, v7 => if gin (((3 : Int32) * (f 12)) + v1) 18 = true then if (v5 + (g 24 (((3 : Int32) * (f 12)) + v1).toNatClampNeg)) ≤ v7 then (if gin (0 : Int32) 161 = true then some (g 26 (0 : Int32).toNatClampNeg, f, g) else none) else (if gin v7 2880 = true then if (g 22 v7.toNatClampNeg) = 0 then pX8_tellsRule_64 (pX8_tellsRule_23 n) f g v1 v2 v3 v4 v5 v6 v7 (g 22 v7.toNatClampNeg) else (if (g 22 v7.toNatClampNeg) = (1 : Int32) then pX8_tellsRule_64 (pX8_tellsRule_23 n) f g v1 v2 v3 v4 v5 v6 v7 (g 22 v7.toNatClampNeg) else (if (g 22 v7.toNatClampNeg) = (4 : Int32) then pX8_tellsRule_120 (pX8_tellsRule_23 n) f g v1 v2 v3 v4 v5 v6 v7 (g 22 v7.toNatClampNeg) else (if (g 22 v7.toNatClampNeg) = (10 : Int32) then pX8_tellsRule_120 (pX8_tellsRule_23 n) f g v1 v2 v3 v4 v5 v6 v7 (g 22 v7.toNatClampNeg) else (if gin ((v6 + (-1)) - (1 : Int32)) 161 = true then if gin (v6 + (-1)) 161 = true then (pX8_done f g (g 22 v7.toNatClampNeg) (g 26 ((v6 + (-1)) - (1 : Int32)).toNatClampNeg) (g 26 (v6 + (-1)).toNatClampNeg)).bind (fun r199 => if gin ((v6 + (-1)) - (1 : Int32)) 161 = true then pX8_tellsRule_203 (pX8_tellsRule_23 n) f (va_up g 26 (upd (g 26) ((v6 + (-1)) - (1 : Int32)).toNatClampNeg r199)) v1 v2 v3 v4 v5 (v6 + (-1)) v7 else none) else none else none)))) else none) else none

def pX8_tellsRule_0 (f : xF) (g : xG) (v1 : Int32) (v2 : Int32) (v3 : Int32) (v4 : Int32) : Option (Int32 × xF × xG) := pX8_tellsRule_23 5000 f g v1 v2 v3 v4 (((480 : Int32) * (f 12)) + ((160 : Int32) * v1)) (0 : Int32) (((480 : Int32) * (f 12)) + ((160 : Int32) * v1))

abbrev pX8_tellsRule (f : xF) (g : xG) (v1 : Int32) (v2 : Int32) (v3 : Int32) (v4 : Int32) : Option (Int32 × xF × xG) := pX8_tellsRule_0 f g v1 v2 v3 v4
theorem bX8_tellsRule_203 {p : Program} {l : Launch} {e : Env} {s : State} {m : MethodId} {as : Array Value} {below : List Frame} {meth : Method} {c : Code} {A : Nat → Prop} {Q : State → Prop} {γ : wx_G} {o : Nat} {ad : Nat → Nat} {z : Int32 × xF × xG} (C : CallFix p m c cX8_tellsRule 9 s as lw_all RX8) (K : wx_C γ A s) (E : ∀ (H : Heap) (locs : List Loc) (ls : Array Slot) (pc : Nat), wx_w γ A s H locs (mw γ o ad z.2.1 z.2.2) → decode cX8_tellsRule pc = .ok (.ireturn, 1) → W p l e rmX8_tellsRule s m as below meth c H locs 0 0 Q (F0 m pc ls [.int z.1])) {k23 : xF → xG → Int32 → Int32 → Int32 → Int32 → Int32 → Int32 → Int32 → Option (Int32 × xF × xG)} (hk23 : ∀ (f : xF) (g : xG) (v1 : Int32) (v2 : Int32) (v3 : Int32) (v4 : Int32) (v5 : Int32) (v6 : Int32) (v7 : Int32) (H : Heap) (locs : List Loc) (ls : Array Slot), k23 f g v1 v2 v3 v4 v5 v6 v7 = some z → wx_w γ A s H locs (mw γ o ad f g) → lv_has ls 9 [(0, .ref o), (1, .int v1), (2, .int v2), (3, .int v3), (4, .int v4), (5, .int v5), (6, .int v6), (7, .int v7)] → W p l e rmX8_tellsRule s m as below meth c H locs 0 0 Q (F0 m 23 ls [])) {f : xF} {g : xG} {v1 : Int32} {v2 : Int32} {v3 : Int32} {v4 : Int32} {v5 : Int32} {v6 : Int32} {v7 : Int32} {H : Heap} {locs : List Loc} {ls : Array Slot} (w : wx_w γ A s H locs (mw γ o ad f g)) (hl : lv_has ls 9 [(0, .ref o), (1, .int v1), (2, .int v2), (3, .int v3), (4, .int v4), (5, .int v5), (6, .int v6), (7, .int v7)]) (hF : pX8_tellsRule_203 k23 f g v1 v2 v3 v4 v5 v6 v7 = some z) : W p l e rmX8_tellsRule s m as below meth c H locs 0 0 Q (F0 m 203 ls []) := by
  have hx := C.1
  have hb := C.2.1
  unfold pX8_tellsRule_203 at hF
  refine lv_iinc (v := v7 + 1) (lv' := [(7, .int (v7 + 1)), (0, .ref o), (1, .int v1), (2, .int v2), (3, .int v3), (4, .int v4), (5, .int v5), (6, .int v6)]) hx hb dX8_tellsRule_203 hl (k := 7) rfl rfl (by decide) rfl (fun ls hl => ?_)
  refine lv_goto (tgt := 23) hx hb dX8_tellsRule_206 (by decide) ?_
  exact hk23 _ _ _ _ _ _ _ _ _ _ _ _ hF w (lv_sub hl [1, 2, 3, 4, 5, 6, 7, 0] rfl)

theorem bX8_tellsRule_100 {p : Program} {l : Launch} {e : Env} {s : State} {m : MethodId} {as : Array Value} {below : List Frame} {meth : Method} {c : Code} {A : Nat → Prop} {Q : State → Prop} {γ : wx_G} {o : Nat} {ad : Nat → Nat} {z : Int32 × xF × xG} (C : CallFix p m c cX8_tellsRule 9 s as lw_all RX8) (K : wx_C γ A s) (E : ∀ (H : Heap) (locs : List Loc) (ls : Array Slot) (pc : Nat), wx_w γ A s H locs (mw γ o ad z.2.1 z.2.2) → decode cX8_tellsRule pc = .ok (.ireturn, 1) → W p l e rmX8_tellsRule s m as below meth c H locs 0 0 Q (F0 m pc ls [.int z.1])) {k23 : xF → xG → Int32 → Int32 → Int32 → Int32 → Int32 → Int32 → Int32 → Option (Int32 × xF × xG)} (hk23 : ∀ (f : xF) (g : xG) (v1 : Int32) (v2 : Int32) (v3 : Int32) (v4 : Int32) (v5 : Int32) (v6 : Int32) (v7 : Int32) (H : Heap) (locs : List Loc) (ls : Array Slot), k23 f g v1 v2 v3 v4 v5 v6 v7 = some z → wx_w γ A s H locs (mw γ o ad f g) → lv_has ls 9 [(0, .ref o), (1, .int v1), (2, .int v2), (3, .int v3), (4, .int v4), (5, .int v5), (6, .int v6), (7, .int v7)] → W p l e rmX8_tellsRule s m as below meth c H locs 0 0 Q (F0 m 23 ls [])) {f : xF} {g : xG} {v1 : Int32} {v2 : Int32} {v3 : Int32} {v4 : Int32} {v5 : Int32} {v6 : Int32} {v7 : Int32} {t1 : Int32} {t2 : Int32} {H : Heap} {locs : List Loc} {ls : Array Slot} (w : wx_w γ A s H locs (mw γ o ad f g)) (hl : lv_has ls 9 [(0, .ref o), (1, .int v1), (2, .int v2), (3, .int v3), (4, .int v4), (5, .int v5), (6, .int v6), (7, .int v7)]) (hF : pX8_tellsRule_100 k23 f g v1 v2 v3 v4 v5 v6 v7 t1 t2 = some z) : W p l e rmX8_tellsRule s m as below meth c H locs 0 0 Q (F0 m 100 ls [.int t2, .int t1, .ref (ad 26)]) := by
  have hx := C.1
  have hb := C.2.1
  unfold pX8_tellsRule_100 at hF
  obtain ⟨hi, hF⟩ := gin_if hF
  refine mast_26 C K w hi dX8_tellsRule_100 (fun H locs w => ?_)
  refine lv_iinc (v := v6 + 1) (lv' := [(6, .int (v6 + 1)), (0, .ref o), (1, .int v1), (2, .int v2), (3, .int v3), (4, .int v4), (5, .int v5), (7, .int v7)]) hx hb dX8_tellsRule_101 hl (k := 6) rfl rfl (by decide) rfl (fun ls hl => ?_)
  refine lv_goto (tgt := 203) hx hb dX8_tellsRule_104 (by decide) ?_
  exact bX8_tellsRule_203 C K E hk23 w (lv_sub hl [1, 2, 3, 4, 5, 6, 0, 7] rfl) hF

theorem bX8_tellsRule_64 {p : Program} {l : Launch} {e : Env} {s : State} {m : MethodId} {as : Array Value} {below : List Frame} {meth : Method} {c : Code} {A : Nat → Prop} {Q : State → Prop} {γ : wx_G} {o : Nat} {ad : Nat → Nat} {z : Int32 × xF × xG} (C : CallFix p m c cX8_tellsRule 9 s as lw_all RX8) (K : wx_C γ A s) (E : ∀ (H : Heap) (locs : List Loc) (ls : Array Slot) (pc : Nat), wx_w γ A s H locs (mw γ o ad z.2.1 z.2.2) → decode cX8_tellsRule pc = .ok (.ireturn, 1) → W p l e rmX8_tellsRule s m as below meth c H locs 0 0 Q (F0 m pc ls [.int z.1])) {k23 : xF → xG → Int32 → Int32 → Int32 → Int32 → Int32 → Int32 → Int32 → Option (Int32 × xF × xG)} (hk23 : ∀ (f : xF) (g : xG) (v1 : Int32) (v2 : Int32) (v3 : Int32) (v4 : Int32) (v5 : Int32) (v6 : Int32) (v7 : Int32) (H : Heap) (locs : List Loc) (ls : Array Slot), k23 f g v1 v2 v3 v4 v5 v6 v7 = some z → wx_w γ A s H locs (mw γ o ad f g) → lv_has ls 9 [(0, .ref o), (1, .int v1), (2, .int v2), (3, .int v3), (4, .int v4), (5, .int v5), (6, .int v6), (7, .int v7)] → W p l e rmX8_tellsRule s m as below meth c H locs 0 0 Q (F0 m 23 ls [])) {f : xF} {g : xG} {v1 : Int32} {v2 : Int32} {v3 : Int32} {v4 : Int32} {v5 : Int32} {v6 : Int32} {v7 : Int32} {v8 : Int32} {H : Heap} {locs : List Loc} {ls : Array Slot} (w : wx_w γ A s H locs (mw γ o ad f g)) (hl : lv_has ls 9 [(0, .ref o), (1, .int v1), (2, .int v2), (3, .int v3), (4, .int v4), (5, .int v5), (6, .int v6), (7, .int v7), (8, .int v8)]) (hF : pX8_tellsRule_64 k23 f g v1 v2 v3 v4 v5 v6 v7 v8 = some z) : W p l e rmX8_tellsRule s m as below meth c H locs 0 0 Q (F0 m 64 ls []) := by
  have hx := C.1
  have hb := C.2.1
  unfold pX8_tellsRule_64 at hF
  refine lv_aload_n hx hb dX8_tellsRule_64 rfl (lv_at hl 0 rfl) ?_
  refine mget_26 C K w dX8_tellsRule_65 ?_
  refine lv_iload hx hb dX8_tellsRule_68 (lv_at hl 6 rfl) ?_
  refine lv_iload hx hb dX8_tellsRule_70 (lv_at hl 8 rfl) ?_
  refine lv_if_ne (tgt := 85) hx hb dX8_tellsRule_72 (by decide) (fun c => ?_) (fun c => ?_)
  · have hF := (if_neg c).symm.trans hF
    refine lv_aload_n hx hb dX8_tellsRule_85 rfl (lv_at hl 0 rfl) ?_
    refine lv_aload_n hx hb dX8_tellsRule_86 rfl (lv_at hl 0 rfl) ?_
    refine mget_23 C K w dX8_tellsRule_87 ?_
    refine lv_iload hx hb dX8_tellsRule_90 (lv_at hl 7 rfl) ?_
    obtain ⟨hi, hF⟩ := gin_if hF
    refine mald_23 C K w hi dX8_tellsRule_92 ?_
    refine lv_iload_n hx hb dX8_tellsRule_93 rfl (lv_at hl 2 rfl) ?_
    refine lv_iload_n hx hb dX8_tellsRule_94 rfl (lv_at hl 3 rfl) ?_
    refine lv_iload hx hb dX8_tellsRule_95 (lv_at hl 4 rfl) ?_
    obtain ⟨r97, hr, hF⟩ := obd hF
    refine rX8_nameValue C K w hr hl.1 ⟨Nat.le_of_ble_eq_true rfl, Nat.le_of_ble_eq_true rfl⟩ (Nat.le_of_ble_eq_true rfl) dX8_tellsRule_97 (fun H locs w => ?_)
    exact bX8_tellsRule_100 C K E hk23 w (lv_sub hl [0, 1, 2, 3, 4, 5, 6, 7] rfl) hF
  · have hF := (if_pos c).symm.trans hF
    refine lv_aload_n hx hb dX8_tellsRule_75 rfl (lv_at hl 0 rfl) ?_
    refine mget_23 C K w dX8_tellsRule_76 ?_
    refine lv_iload hx hb dX8_tellsRule_79 (lv_at hl 7 rfl) ?_
    obtain ⟨hi, hF⟩ := gin_if hF
    refine mald_23 C K w hi dX8_tellsRule_81 ?_
    refine lv_goto (tgt := 100) hx hb dX8_tellsRule_82 (by decide) ?_
    exact bX8_tellsRule_100 C K E hk23 w (lv_sub hl [0, 1, 2, 3, 4, 5, 6, 7] rfl) hF

theorem bX8_tellsRule_165 {p : Program} {l : Launch} {e : Env} {s : State} {m : MethodId} {as : Array Value} {below : List Frame} {meth : Method} {c : Code} {A : Nat → Prop} {Q : State → Prop} {γ : wx_G} {o : Nat} {ad : Nat → Nat} {z : Int32 × xF × xG} (C : CallFix p m c cX8_tellsRule 9 s as lw_all RX8) (K : wx_C γ A s) (E : ∀ (H : Heap) (locs : List Loc) (ls : Array Slot) (pc : Nat), wx_w γ A s H locs (mw γ o ad z.2.1 z.2.2) → decode cX8_tellsRule pc = .ok (.ireturn, 1) → W p l e rmX8_tellsRule s m as below meth c H locs 0 0 Q (F0 m pc ls [.int z.1])) {k23 : xF → xG → Int32 → Int32 → Int32 → Int32 → Int32 → Int32 → Int32 → Option (Int32 × xF × xG)} (hk23 : ∀ (f : xF) (g : xG) (v1 : Int32) (v2 : Int32) (v3 : Int32) (v4 : Int32) (v5 : Int32) (v6 : Int32) (v7 : Int32) (H : Heap) (locs : List Loc) (ls : Array Slot), k23 f g v1 v2 v3 v4 v5 v6 v7 = some z → wx_w γ A s H locs (mw γ o ad f g) → lv_has ls 9 [(0, .ref o), (1, .int v1), (2, .int v2), (3, .int v3), (4, .int v4), (5, .int v5), (6, .int v6), (7, .int v7)] → W p l e rmX8_tellsRule s m as below meth c H locs 0 0 Q (F0 m 23 ls [])) {f : xF} {g : xG} {v1 : Int32} {v2 : Int32} {v3 : Int32} {v4 : Int32} {v5 : Int32} {v6 : Int32} {v7 : Int32} {t1 : Int32} {t2 : Int32} {H : Heap} {locs : List Loc} {ls : Array Slot} (w : wx_w γ A s H locs (mw γ o ad f g)) (hl : lv_has ls 9 [(0, .ref o), (1, .int v1), (2, .int v2), (3, .int v3), (4, .int v4), (5, .int v5), (6, .int v6), (7, .int v7)]) (hF : pX8_tellsRule_165 k23 f g v1 v2 v3 v4 v5 v6 v7 t1 t2 = some z) : W p l e rmX8_tellsRule s m as below meth c H locs 0 0 Q (F0 m 165 ls [.int t2, .int t1, .ref (ad 26)]) := by
  have hx := C.1
  have hb := C.2.1
  unfold pX8_tellsRule_165 at hF
  obtain ⟨hi, hF⟩ := gin_if hF
  refine mast_26 C K w hi dX8_tellsRule_165 (fun H locs w => ?_)
  refine lv_goto (tgt := 203) hx hb dX8_tellsRule_166 (by decide) ?_
  exact bX8_tellsRule_203 C K E hk23 w hl hF

theorem bX8_tellsRule_120 {p : Program} {l : Launch} {e : Env} {s : State} {m : MethodId} {as : Array Value} {below : List Frame} {meth : Method} {c : Code} {A : Nat → Prop} {Q : State → Prop} {γ : wx_G} {o : Nat} {ad : Nat → Nat} {z : Int32 × xF × xG} (C : CallFix p m c cX8_tellsRule 9 s as lw_all RX8) (K : wx_C γ A s) (E : ∀ (H : Heap) (locs : List Loc) (ls : Array Slot) (pc : Nat), wx_w γ A s H locs (mw γ o ad z.2.1 z.2.2) → decode cX8_tellsRule pc = .ok (.ireturn, 1) → W p l e rmX8_tellsRule s m as below meth c H locs 0 0 Q (F0 m pc ls [.int z.1])) {k23 : xF → xG → Int32 → Int32 → Int32 → Int32 → Int32 → Int32 → Int32 → Option (Int32 × xF × xG)} (hk23 : ∀ (f : xF) (g : xG) (v1 : Int32) (v2 : Int32) (v3 : Int32) (v4 : Int32) (v5 : Int32) (v6 : Int32) (v7 : Int32) (H : Heap) (locs : List Loc) (ls : Array Slot), k23 f g v1 v2 v3 v4 v5 v6 v7 = some z → wx_w γ A s H locs (mw γ o ad f g) → lv_has ls 9 [(0, .ref o), (1, .int v1), (2, .int v2), (3, .int v3), (4, .int v4), (5, .int v5), (6, .int v6), (7, .int v7)] → W p l e rmX8_tellsRule s m as below meth c H locs 0 0 Q (F0 m 23 ls [])) {f : xF} {g : xG} {v1 : Int32} {v2 : Int32} {v3 : Int32} {v4 : Int32} {v5 : Int32} {v6 : Int32} {v7 : Int32} {v8 : Int32} {H : Heap} {locs : List Loc} {ls : Array Slot} (w : wx_w γ A s H locs (mw γ o ad f g)) (hl : lv_has ls 9 [(0, .ref o), (1, .int v1), (2, .int v2), (3, .int v3), (4, .int v4), (5, .int v5), (6, .int v6), (7, .int v7), (8, .int v8)]) (hF : pX8_tellsRule_120 k23 f g v1 v2 v3 v4 v5 v6 v7 v8 = some z) : W p l e rmX8_tellsRule s m as below meth c H locs 0 0 Q (F0 m 120 ls []) := by
  have hx := C.1
  have hb := C.2.1
  unfold pX8_tellsRule_120 at hF
  refine lv_aload_n hx hb dX8_tellsRule_120 rfl (lv_at hl 0 rfl) ?_
  refine mget_26 C K w dX8_tellsRule_121 ?_
  refine lv_iload hx hb dX8_tellsRule_124 (lv_at hl 6 rfl) ?_
  refine lv_iconst (v := (1 : Int32)) hx hb dX8_tellsRule_126 (by decide) ?_
  refine lv_isub hx hb dX8_tellsRule_127 ?_
  refine lv_iload hx hb dX8_tellsRule_128 (lv_at hl 8 rfl) ?_
  refine lv_bipush (v := (10 : Int32)) hx hb dX8_tellsRule_130 (by decide) ?_
  refine lv_icmp_ne (tgt := 148) hx hb dX8_tellsRule_132 (by decide) (fun c => ?_) (fun c => ?_)
  · have hF := (if_neg c).symm.trans hF
    refine lv_aload_n hx hb dX8_tellsRule_148 rfl (lv_at hl 0 rfl) ?_
    refine mget_26 C K w dX8_tellsRule_149 ?_
    refine lv_iload hx hb dX8_tellsRule_152 (lv_at hl 6 rfl) ?_
    refine lv_iconst (v := (1 : Int32)) hx hb dX8_tellsRule_154 (by decide) ?_
    refine lv_isub hx hb dX8_tellsRule_155 ?_
    obtain ⟨hi, hF⟩ := gin_if hF
    refine mald_26 C K w hi dX8_tellsRule_156 ?_
    refine lv_if_ne (tgt := 164) hx hb dX8_tellsRule_157 (by decide) (fun c => ?_) (fun c => ?_)
    · have hF := (if_neg c).symm.trans hF
      refine lv_iconst (v := (0 : Int32)) hx hb dX8_tellsRule_164 (by decide) ?_
      exact bX8_tellsRule_165 C K E hk23 w (lv_sub hl [0, 1, 2, 3, 4, 5, 6, 7] rfl) hF
    · have hF := (if_pos c).symm.trans hF
      refine lv_iconst (v := (1 : Int32)) hx hb dX8_tellsRule_160 (by decide) ?_
      refine lv_goto (tgt := 165) hx hb dX8_tellsRule_161 (by decide) ?_
      exact bX8_tellsRule_165 C K E hk23 w (lv_sub hl [0, 1, 2, 3, 4, 5, 6, 7] rfl) hF
  · have hF := (if_pos c).symm.trans hF
    refine lv_aload_n hx hb dX8_tellsRule_135 rfl (lv_at hl 0 rfl) ?_
    refine mget_26 C K w dX8_tellsRule_136 ?_
    refine lv_iload hx hb dX8_tellsRule_139 (lv_at hl 6 rfl) ?_
    refine lv_iconst (v := (1 : Int32)) hx hb dX8_tellsRule_141 (by decide) ?_
    refine lv_isub hx hb dX8_tellsRule_142 ?_
    obtain ⟨hi, hF⟩ := gin_if hF
    refine mald_26 C K w hi dX8_tellsRule_143 ?_
    refine lv_ineg hx hb dX8_tellsRule_144 ?_
    refine lv_goto (tgt := 165) hx hb dX8_tellsRule_145 (by decide) ?_
    exact bX8_tellsRule_165 C K E hk23 w (lv_sub hl [0, 1, 2, 3, 4, 5, 6, 7] rfl) hF

theorem bX8_tellsRule_23 {p : Program} {l : Launch} {e : Env} {s : State} {m : MethodId} {as : Array Value} {below : List Frame} {meth : Method} {c : Code} {A : Nat → Prop} {Q : State → Prop} {γ : wx_G} {o : Nat} {ad : Nat → Nat} {z : Int32 × xF × xG} (C : CallFix p m c cX8_tellsRule 9 s as lw_all RX8) (K : wx_C γ A s) (E : ∀ (H : Heap) (locs : List Loc) (ls : Array Slot) (pc : Nat), wx_w γ A s H locs (mw γ o ad z.2.1 z.2.2) → decode cX8_tellsRule pc = .ok (.ireturn, 1) → W p l e rmX8_tellsRule s m as below meth c H locs 0 0 Q (F0 m pc ls [.int z.1])) : ∀ (n : Nat) (f : xF) (g : xG) (v1 : Int32) (v2 : Int32) (v3 : Int32) (v4 : Int32) (v5 : Int32) (v6 : Int32) (v7 : Int32) (H : Heap) (locs : List Loc) (ls : Array Slot), pX8_tellsRule_23 n f g v1 v2 v3 v4 v5 v6 v7 = some z → wx_w γ A s H locs (mw γ o ad f g) → lv_has ls 9 [(0, .ref o), (1, .int v1), (2, .int v2), (3, .int v3), (4, .int v4), (5, .int v5), (6, .int v6), (7, .int v7)] → W p l e rmX8_tellsRule s m as below meth c H locs 0 0 Q (F0 m 23 ls []) := by
  have hx := C.1
  have hb := C.2.1
  intro n
  induction n with
  | zero =>
    intro f g v1 v2 v3 v4 v5 v6 v7 H locs ls hF w hl
    have hF : (none : Option (Int32 × xF × xG)) = some z := hF
    cases hF
  | succ n ih =>
    intro f g v1 v2 v3 v4 v5 v6 v7 H locs ls hF w hl
    rw [pX8_tellsRule_23] at hF
    refine lv_iload hx hb dX8_tellsRule_23 (lv_at hl 7 rfl) ?_
    refine lv_iload hx hb dX8_tellsRule_25 (lv_at hl 5 rfl) ?_
    refine lv_aload_n hx hb dX8_tellsRule_27 rfl (lv_at hl 0 rfl) ?_
    refine mget_24 C K w dX8_tellsRule_28 ?_
    refine lv_iconst (v := (3 : Int32)) hx hb dX8_tellsRule_31 (by decide) ?_
    refine lv_aload_n hx hb dX8_tellsRule_32 rfl (lv_at hl 0 rfl) ?_
    refine mget_12 C K w dX8_tellsRule_33 ?_
    refine lv_imul hx hb dX8_tellsRule_36 ?_
    refine lv_iload_n hx hb dX8_tellsRule_37 rfl (lv_at hl 1 rfl) ?_
    refine lv_iadd hx hb dX8_tellsRule_38 ?_
    obtain ⟨hi, hF⟩ := gin_if hF
    refine mald_24 C K w hi dX8_tellsRule_39 ?_
    refine lv_iadd hx hb dX8_tellsRule_40 ?_
    refine lv_icmp_ge (tgt := 209) hx hb dX8_tellsRule_41 (by decide) (fun c => ?_) (fun c => ?_)
    · have hF := (if_pos c).symm.trans hF
      refine lv_aload_n hx hb dX8_tellsRule_209 rfl (lv_at hl 0 rfl) ?_
      refine mget_26 C K w dX8_tellsRule_210 ?_
      refine lv_iconst (v := (0 : Int32)) hx hb dX8_tellsRule_213 (by decide) ?_
      obtain ⟨hi, hF⟩ := gin_if hF
      refine mald_26 C K w hi dX8_tellsRule_214 ?_
      have hF := Option.some.inj hF
      subst hF
      exact E _ _ _ _ w dX8_tellsRule_215
    · have hF := (if_neg c).symm.trans hF
      refine lv_aload_n hx hb dX8_tellsRule_44 rfl (lv_at hl 0 rfl) ?_
      refine mget_22 C K w dX8_tellsRule_45 ?_
      refine lv_iload hx hb dX8_tellsRule_48 (lv_at hl 7 rfl) ?_
      obtain ⟨hi, hF⟩ := gin_if hF
      refine mald_22 C K w hi dX8_tellsRule_50 ?_
      refine lv_istore (lv' := [(8, .int (g 22 v7.toNatClampNeg)), (0, .ref o), (1, .int v1), (2, .int v2), (3, .int v3), (4, .int v4), (5, .int v5), (6, .int v6), (7, .int v7)]) hx hb dX8_tellsRule_51 hl (by decide) rfl (fun ls hl => ?_)
      refine lv_iload hx hb dX8_tellsRule_53 (lv_at hl 0 rfl) ?_
      refine lv_if_eq (tgt := 64) hx hb dX8_tellsRule_55 (by decide) (fun c => ?_) (fun c => ?_)
      · have hF := (if_pos c).symm.trans hF
        exact bX8_tellsRule_64 C K E ih w (lv_sub hl [1, 2, 3, 4, 5, 6, 7, 8, 0] rfl) hF
      · have hF := (if_neg c).symm.trans hF
        refine lv_iload hx hb dX8_tellsRule_58 (lv_at hl 0 rfl) ?_
        refine lv_iconst (v := (1 : Int32)) hx hb dX8_tellsRule_60 (by decide) ?_
        refine lv_icmp_ne (tgt := 107) hx hb dX8_tellsRule_61 (by decide) (fun c => ?_) (fun c => ?_)
        · have hF := (if_neg c).symm.trans hF
          refine lv_iload hx hb dX8_tellsRule_107 (lv_at hl 0 rfl) ?_
          refine lv_iconst (v := (4 : Int32)) hx hb dX8_tellsRule_109 (by decide) ?_
          refine lv_icmp_eq (tgt := 120) hx hb dX8_tellsRule_110 (by decide) (fun c => ?_) (fun c => ?_)
          · have hF := (if_pos c).symm.trans hF
            exact bX8_tellsRule_120 C K E ih w (lv_sub hl [1, 2, 3, 4, 5, 6, 7, 8, 0] rfl) hF
          · have hF := (if_neg c).symm.trans hF
            refine lv_iload hx hb dX8_tellsRule_113 (lv_at hl 0 rfl) ?_
            refine lv_bipush (v := (10 : Int32)) hx hb dX8_tellsRule_115 (by decide) ?_
            refine lv_icmp_ne (tgt := 169) hx hb dX8_tellsRule_117 (by decide) (fun c => ?_) (fun c => ?_)
            · have hF := (if_neg c).symm.trans hF
              refine lv_iinc (v := v6 + (-1)) (lv' := [(6, .int (v6 + (-1))), (8, .int (g 22 v7.toNatClampNeg)), (0, .ref o), (1, .int v1), (2, .int v2), (3, .int v3), (4, .int v4), (5, .int v5), (7, .int v7)]) hx hb dX8_tellsRule_169 hl (k := 7) rfl rfl (by decide) rfl (fun ls hl => ?_)
              refine lv_aload_n hx hb dX8_tellsRule_172 rfl (lv_at hl 2 rfl) ?_
              refine mget_26 C K w dX8_tellsRule_173 ?_
              refine lv_iload hx hb dX8_tellsRule_176 (lv_at hl 0 rfl) ?_
              refine lv_iconst (v := (1 : Int32)) hx hb dX8_tellsRule_178 (by decide) ?_
              refine lv_isub hx hb dX8_tellsRule_179 ?_
              refine lv_aload_n hx hb dX8_tellsRule_180 rfl (lv_at hl 2 rfl) ?_
              refine lv_iload hx hb dX8_tellsRule_181 (lv_at hl 1 rfl) ?_
              refine lv_aload_n hx hb dX8_tellsRule_183 rfl (lv_at hl 2 rfl) ?_
              refine mget_26 C K w dX8_tellsRule_184 ?_
              refine lv_iload hx hb dX8_tellsRule_187 (lv_at hl 0 rfl) ?_
              refine lv_iconst (v := (1 : Int32)) hx hb dX8_tellsRule_189 (by decide) ?_
              refine lv_isub hx hb dX8_tellsRule_190 ?_
              obtain ⟨hi, hF⟩ := gin_if hF
              refine mald_26 C K w hi dX8_tellsRule_191 ?_
              refine lv_aload_n hx hb dX8_tellsRule_192 rfl (lv_at hl 2 rfl) ?_
              refine mget_26 C K w dX8_tellsRule_193 ?_
              refine lv_iload hx hb dX8_tellsRule_196 (lv_at hl 0 rfl) ?_
              obtain ⟨hi, hF⟩ := gin_if hF
              refine mald_26 C K w hi dX8_tellsRule_198 ?_
              obtain ⟨r199, hr, hF⟩ := obd hF
              refine rX8_done C K w hr hl.1 ⟨Nat.le_of_ble_eq_true rfl, Nat.le_of_ble_eq_true rfl⟩ (Nat.le_of_ble_eq_true rfl) dX8_tellsRule_199 (fun H locs w => ?_)
              obtain ⟨hi, hF⟩ := gin_if hF
              refine mast_26 C K w hi dX8_tellsRule_202 (fun H locs w => ?_)
              exact bX8_tellsRule_203 C K E ih w (lv_sub hl [2, 3, 4, 5, 6, 7, 0, 8] rfl) hF
            · have hF := (if_pos c).symm.trans hF
              exact bX8_tellsRule_120 C K E ih w (lv_sub hl [1, 2, 3, 4, 5, 6, 7, 8, 0] rfl) hF
        · have hF := (if_pos c).symm.trans hF
          exact bX8_tellsRule_64 C K E ih w (lv_sub hl [1, 2, 3, 4, 5, 6, 7, 8, 0] rfl) hF

theorem bX8_tellsRule_0 {p : Program} {l : Launch} {e : Env} {s : State} {m : MethodId} {as : Array Value} {below : List Frame} {meth : Method} {c : Code} {A : Nat → Prop} {Q : State → Prop} {γ : wx_G} {o : Nat} {ad : Nat → Nat} {z : Int32 × xF × xG} (C : CallFix p m c cX8_tellsRule 9 s as lw_all RX8) (K : wx_C γ A s) (E : ∀ (H : Heap) (locs : List Loc) (ls : Array Slot) (pc : Nat), wx_w γ A s H locs (mw γ o ad z.2.1 z.2.2) → decode cX8_tellsRule pc = .ok (.ireturn, 1) → W p l e rmX8_tellsRule s m as below meth c H locs 0 0 Q (F0 m pc ls [.int z.1])) {f : xF} {g : xG} {v1 : Int32} {v2 : Int32} {v3 : Int32} {v4 : Int32} {H : Heap} {locs : List Loc} {ls : Array Slot} (w : wx_w γ A s H locs (mw γ o ad f g)) (hl : lv_has ls 9 [(0, .ref o), (1, .int v1), (2, .int v2), (3, .int v3), (4, .int v4)]) (hF : pX8_tellsRule_0 f g v1 v2 v3 v4 = some z) : W p l e rmX8_tellsRule s m as below meth c H locs 0 0 Q (F0 m 0 ls []) := by
  have hx := C.1
  have hb := C.2.1
  unfold pX8_tellsRule_0 at hF
  refine lv_sipush (v := (480 : Int32)) hx hb dX8_tellsRule_0 (by decide) ?_
  refine lv_aload_n hx hb dX8_tellsRule_3 rfl (lv_at hl 0 rfl) ?_
  refine mget_12 C K w dX8_tellsRule_4 ?_
  refine lv_imul hx hb dX8_tellsRule_7 ?_
  refine lv_sipush (v := (160 : Int32)) hx hb dX8_tellsRule_8 (by decide) ?_
  refine lv_iload_n hx hb dX8_tellsRule_11 rfl (lv_at hl 1 rfl) ?_
  refine lv_imul hx hb dX8_tellsRule_12 ?_
  refine lv_iadd hx hb dX8_tellsRule_13 ?_
  refine lv_istore (lv' := [(5, .int (((480 : Int32) * (f 12)) + ((160 : Int32) * v1))), (0, .ref o), (1, .int v1), (2, .int v2), (3, .int v3), (4, .int v4)]) hx hb dX8_tellsRule_14 hl (by decide) rfl (fun ls hl => ?_)
  refine lv_iconst (v := (0 : Int32)) hx hb dX8_tellsRule_16 (by decide) ?_
  refine lv_istore (lv' := [(6, .int (0 : Int32)), (5, .int (((480 : Int32) * (f 12)) + ((160 : Int32) * v1))), (0, .ref o), (1, .int v1), (2, .int v2), (3, .int v3), (4, .int v4)]) hx hb dX8_tellsRule_17 hl (by decide) rfl (fun ls hl => ?_)
  refine lv_iload hx hb dX8_tellsRule_19 (lv_at hl 1 rfl) ?_
  refine lv_istore (lv' := [(7, .int (((480 : Int32) * (f 12)) + ((160 : Int32) * v1))), (6, .int (0 : Int32)), (5, .int (((480 : Int32) * (f 12)) + ((160 : Int32) * v1))), (0, .ref o), (1, .int v1), (2, .int v2), (3, .int v3), (4, .int v4)]) hx hb dX8_tellsRule_21 hl (by decide) rfl (fun ls hl => ?_)
  exact bX8_tellsRule_23 C K E 5000 _ _ _ _ _ _ _ _ _ _ _ _ hF w (lv_sub hl [3, 4, 5, 6, 7, 2, 1, 0] rfl)

theorem mX8_tellsRule {l : Launch} {γ : wx_G} {o : Nat} {ad : Nat → Nat} {f : xF} {g : xG} {v1 : Int32} {v2 : Int32} {v3 : Int32} {v4 : Int32} {z : Int32 × xF × xG} (hF : pX8_tellsRule f g v1 v2 v3 v4 = some z) : wx_M γ l yX8_tellsRule (ws_ yX8_tellsRule cX8_tellsRule 9 (some .int)) rmX8_tellsRule [.ref o, .int v1, .int v2, .int v3, .int v4] (mw γ o ad f g) (fun v ws => v = some (.int z.1) ∧ ws = (mw γ o ad z.2.1 z.2.2)) 0 0 := by
  refine wx_M.of (by decide) (Nat.le_of_ble_eq_true rfl) ?_
  intro p e s m as below meth c A ls C K w hr hlocks _ hl
  exact bX8_tellsRule_0 C K (fun H locs ls pc w d => wx_iret C hr hlocks w ⟨rfl, rfl⟩ d) w hl hF
theorem rX8_tellsRule {p : Program} {l : Launch} {e : Env} {R : Room} {s : State} {m : MethodId} {as : Array Value} {below : List Frame} {meth : Method} {c : Code} {H : Heap} {locs : List Loc} {cells slots : Nat} {Q : State → Prop} {cc : ByteArray} {nL pc : Nat} {ls : Array Slot} {rest : List Value} {γ : wx_G} {A : Nat → Prop} {o : Nat} {ad : Nat → Nat} {f : xF} {g : xG} {v1 : Int32} {v2 : Int32} {v3 : Int32} {v4 : Int32} {z : Int32 × xF × xG} (C : CallFix p m c cc nL s as lw_all RX8) (K : wx_C γ A s) (w : wx_w γ A s H locs (mw γ o ad f g)) (hF : pX8_tellsRule f g v1 v2 v3 v4 = some z) (hls : ls.size = nL) (hR : rmX8_tellsRule.frames + 1 ≤ R.frames ∧ 8 + (9 + 11) + rmX8_tellsRule.locals ≤ R.locals) (hW : (rest.map fun v => v.category).sum ≤ 8) (d : decode cc pc = .ok (.invokevirtual 278, 3)) (kk : ∀ (H : Heap) (locs : List Loc), wx_w γ A s H locs (mw γ o ad z.2.1 z.2.2) → W p l e R s m as below meth c H locs cells slots Q (F0 m (pc + 3) ls (.int z.1 :: rest))) (hf : cells ≤ R.cells ∧ slots ≤ R.slots := by exact ⟨Nat.le_of_ble_eq_true rfl, Nat.le_of_ble_eq_true rfl⟩) : W p l e R s m as below meth c H locs cells slots Q (F0 m pc ls (.int v4 :: .int v3 :: .int v2 :: .int v1 :: .ref o :: rest)) :=
  wx_callV (n := 4) C K w (mX8_tellsRule (l := l) hF) q1604 q1606 qs78 q123 q1607 rfl rfl (by decide +kernel) (va_recv K.1.1 w.1 (ci := 0) (q0 := 0) rfl rfl) rfl rfl hR hls hW hf d (fun v ws H1 locs1 hp w => by obtain ⟨rfl, rfl⟩ := hp; exact kk H1 locs1 w)

/-! WalkingStonesModel.pushes(III)I -/
abbrev rmX8_pushes : Room := { frames := 3, cells := 0, slots := 0, locals := 73 }
def pX8_pushes_73 (f : xF) (g : xG) (t0 : Int32) : Option (Int32 × xF × xG) := some (t0, f, g)

def pX8_pushes_59 (f : xF) (g : xG) (t0 : Int32) (t1 : Int32) : Option (Int32 × xF × xG) := if 0 ≤ (t0 + t1) then pX8_pushes_73 f g (t0 + t1) else pX8_pushes_73 f g (0 : Int32)

def pX8_pushes_0 (f : xF) (g : xG) (v1 : Int32) (v2 : Int32) (v3 : Int32) : Option (Int32 × xF × xG) := (pX8_plainPush f g v1 v2 v3).bind (fun r4 => if r4 = 0 then some ((0 : Int32), f, g) else (if gin v2 10 = true then (pX8_tellsRule f g (0 : Int32) (g 3 v2.toNatClampNeg) v3 v1).bind (fun r26 => if r26.1 ≤ (9 : Int32) then (if (-9 : Int32) ≤ r26.1 then pX8_pushes_59 r26.2.1 r26.2.2 r4 r26.1 else pX8_pushes_59 r26.2.1 r26.2.2 r4 (-9 : Int32)) else pX8_pushes_59 r26.2.1 r26.2.2 r4 (9 : Int32)) else none))

abbrev pX8_pushes (f : xF) (g : xG) (v1 : Int32) (v2 : Int32) (v3 : Int32) : Option (Int32 × xF × xG) := pX8_pushes_0 f g v1 v2 v3
theorem bX8_pushes_73 {p : Program} {l : Launch} {e : Env} {s : State} {m : MethodId} {as : Array Value} {below : List Frame} {meth : Method} {c : Code} {A : Nat → Prop} {Q : State → Prop} {γ : wx_G} {o : Nat} {ad : Nat → Nat} {z : Int32 × xF × xG} (C : CallFix p m c cX8_pushes 6 s as lw_all RX8) (K : wx_C γ A s) (E : ∀ (H : Heap) (locs : List Loc) (ls : Array Slot) (pc : Nat), wx_w γ A s H locs (mw γ o ad z.2.1 z.2.2) → decode cX8_pushes pc = .ok (.ireturn, 1) → W p l e rmX8_pushes s m as below meth c H locs 0 0 Q (F0 m pc ls [.int z.1])) {f : xF} {g : xG} {t0 : Int32} {H : Heap} {locs : List Loc} {ls : Array Slot} (w : wx_w γ A s H locs (mw γ o ad f g)) (hl : lv_has ls 6 []) (hF : pX8_pushes_73 f g t0 = some z) : W p l e rmX8_pushes s m as below meth c H locs 0 0 Q (F0 m 73 ls [.int t0]) := by
  have hx := C.1
  have hb := C.2.1
  unfold pX8_pushes_73 at hF
  have hF := Option.some.inj hF
  subst hF
  exact E _ _ _ _ w dX8_pushes_73

theorem bX8_pushes_59 {p : Program} {l : Launch} {e : Env} {s : State} {m : MethodId} {as : Array Value} {below : List Frame} {meth : Method} {c : Code} {A : Nat → Prop} {Q : State → Prop} {γ : wx_G} {o : Nat} {ad : Nat → Nat} {z : Int32 × xF × xG} (C : CallFix p m c cX8_pushes 6 s as lw_all RX8) (K : wx_C γ A s) (E : ∀ (H : Heap) (locs : List Loc) (ls : Array Slot) (pc : Nat), wx_w γ A s H locs (mw γ o ad z.2.1 z.2.2) → decode cX8_pushes pc = .ok (.ireturn, 1) → W p l e rmX8_pushes s m as below meth c H locs 0 0 Q (F0 m pc ls [.int z.1])) {f : xF} {g : xG} {t0 : Int32} {t1 : Int32} {H : Heap} {locs : List Loc} {ls : Array Slot} (w : wx_w γ A s H locs (mw γ o ad f g)) (hl : lv_has ls 6 []) (hF : pX8_pushes_59 f g t0 t1 = some z) : W p l e rmX8_pushes s m as below meth c H locs 0 0 Q (F0 m 59 ls [.int t1, .int t0]) := by
  have hx := C.1
  have hb := C.2.1
  unfold pX8_pushes_59 at hF
  refine lv_iadd hx hb dX8_pushes_59 ?_
  refine lv_istore (lv' := [(4, .int (t0 + t1))]) hx hb dX8_pushes_60 hl (by decide) rfl (fun ls hl => ?_)
  refine lv_iload hx hb dX8_pushes_62 (lv_at hl 0 rfl) ?_
  refine lv_if_ge (tgt := 71) hx hb dX8_pushes_64 (by decide) (fun c => ?_) (fun c => ?_)
  · have hF := (if_pos c).symm.trans hF
    refine lv_iload hx hb dX8_pushes_71 (lv_at hl 0 rfl) ?_
    exact bX8_pushes_73 C K E w (lv_sub hl [] rfl) hF
  · have hF := (if_neg c).symm.trans hF
    refine lv_iconst (v := (0 : Int32)) hx hb dX8_pushes_67 (by decide) ?_
    refine lv_goto (tgt := 73) hx hb dX8_pushes_68 (by decide) ?_
    exact bX8_pushes_73 C K E w (lv_sub hl [] rfl) hF

theorem bX8_pushes_0 {p : Program} {l : Launch} {e : Env} {s : State} {m : MethodId} {as : Array Value} {below : List Frame} {meth : Method} {c : Code} {A : Nat → Prop} {Q : State → Prop} {γ : wx_G} {o : Nat} {ad : Nat → Nat} {z : Int32 × xF × xG} (C : CallFix p m c cX8_pushes 6 s as lw_all RX8) (K : wx_C γ A s) (E : ∀ (H : Heap) (locs : List Loc) (ls : Array Slot) (pc : Nat), wx_w γ A s H locs (mw γ o ad z.2.1 z.2.2) → decode cX8_pushes pc = .ok (.ireturn, 1) → W p l e rmX8_pushes s m as below meth c H locs 0 0 Q (F0 m pc ls [.int z.1])) {f : xF} {g : xG} {v1 : Int32} {v2 : Int32} {v3 : Int32} {H : Heap} {locs : List Loc} {ls : Array Slot} (w : wx_w γ A s H locs (mw γ o ad f g)) (hl : lv_has ls 6 [(0, .ref o), (1, .int v1), (2, .int v2), (3, .int v3)]) (hF : pX8_pushes_0 f g v1 v2 v3 = some z) : W p l e rmX8_pushes s m as below meth c H locs 0 0 Q (F0 m 0 ls []) := by
  have hx := C.1
  have hb := C.2.1
  unfold pX8_pushes_0 at hF
  refine lv_aload_n hx hb dX8_pushes_0 rfl (lv_at hl 0 rfl) ?_
  refine lv_iload_n hx hb dX8_pushes_1 rfl (lv_at hl 1 rfl) ?_
  refine lv_iload_n hx hb dX8_pushes_2 rfl (lv_at hl 2 rfl) ?_
  refine lv_iload_n hx hb dX8_pushes_3 rfl (lv_at hl 3 rfl) ?_
  obtain ⟨r4, hr, hF⟩ := obd hF
  refine rX8_plainPush C K w hr hl.1 ⟨Nat.le_of_ble_eq_true rfl, Nat.le_of_ble_eq_true rfl⟩ (Nat.le_of_ble_eq_true rfl) dX8_pushes_4 (fun H locs w => ?_)
  refine lv_istore (lv' := [(4, .int r4), (0, .ref o), (1, .int v1), (2, .int v2), (3, .int v3)]) hx hb dX8_pushes_7 hl (by decide) rfl (fun ls hl => ?_)
  refine lv_iload hx hb dX8_pushes_9 (lv_at hl 0 rfl) ?_
  refine lv_if_ne (tgt := 16) hx hb dX8_pushes_11 (by decide) (fun c => ?_) (fun c => ?_)
  · have hF := (if_neg c).symm.trans hF
    refine lv_aload_n hx hb dX8_pushes_16 rfl (lv_at hl 1 rfl) ?_
    refine lv_iconst (v := (0 : Int32)) hx hb dX8_pushes_17 (by decide) ?_
    refine lv_aload_n hx hb dX8_pushes_18 rfl (lv_at hl 1 rfl) ?_
    refine mget_3 C K w dX8_pushes_19 ?_
    refine lv_iload_n hx hb dX8_pushes_22 rfl (lv_at hl 3 rfl) ?_
    obtain ⟨hi, hF⟩ := gin_if hF
    refine mald_3 C K w hi dX8_pushes_23 ?_
    refine lv_iload_n hx hb dX8_pushes_24 rfl (lv_at hl 4 rfl) ?_
    refine lv_iload_n hx hb dX8_pushes_25 rfl (lv_at hl 2 rfl) ?_
    obtain ⟨r26, hr, hF⟩ := obd hF
    refine rX8_tellsRule C K w hr hl.1 ⟨Nat.le_of_ble_eq_true rfl, Nat.le_of_ble_eq_true rfl⟩ (Nat.le_of_ble_eq_true rfl) dX8_pushes_26 (fun H locs w => ?_)
    refine lv_istore (lv' := [(5, .int r26.1), (4, .int r4), (0, .ref o), (1, .int v1), (2, .int v2), (3, .int v3)]) hx hb dX8_pushes_29 hl (by decide) rfl (fun ls hl => ?_)
    refine lv_iload hx hb dX8_pushes_31 (lv_at hl 1 rfl) ?_
    refine lv_iload hx hb dX8_pushes_33 (lv_at hl 0 rfl) ?_
    refine lv_bipush (v := (9 : Int32)) hx hb dX8_pushes_35 (by decide) ?_
    refine lv_icmp_le (tgt := 45) hx hb dX8_pushes_37 (by decide) (fun c => ?_) (fun c => ?_)
    · have hF := (if_pos c).symm.trans hF
      refine lv_iload hx hb dX8_pushes_45 (lv_at hl 0 rfl) ?_
      refine lv_bipush (v := (-9 : Int32)) hx hb dX8_pushes_47 (by decide) ?_
      refine lv_icmp_ge (tgt := 57) hx hb dX8_pushes_49 (by decide) (fun c => ?_) (fun c => ?_)
      · have hF := (if_pos c).symm.trans hF
        refine lv_iload hx hb dX8_pushes_57 (lv_at hl 0 rfl) ?_
        exact bX8_pushes_59 C K E w (lv_sub hl [] rfl) hF
      · have hF := (if_neg c).symm.trans hF
        refine lv_bipush (v := (-9 : Int32)) hx hb dX8_pushes_52 (by decide) ?_
        refine lv_goto (tgt := 59) hx hb dX8_pushes_54 (by decide) ?_
        exact bX8_pushes_59 C K E w (lv_sub hl [] rfl) hF
    · have hF := (if_neg c).symm.trans hF
      refine lv_bipush (v := (9 : Int32)) hx hb dX8_pushes_40 (by decide) ?_
      refine lv_goto (tgt := 59) hx hb dX8_pushes_42 (by decide) ?_
      exact bX8_pushes_59 C K E w (lv_sub hl [] rfl) hF
  · have hF := (if_pos c).symm.trans hF
    refine lv_iconst (v := (0 : Int32)) hx hb dX8_pushes_14 (by decide) ?_
    have hF := Option.some.inj hF
    subst hF
    exact E _ _ _ _ w dX8_pushes_15

theorem mX8_pushes {l : Launch} {γ : wx_G} {o : Nat} {ad : Nat → Nat} {f : xF} {g : xG} {v1 : Int32} {v2 : Int32} {v3 : Int32} {z : Int32 × xF × xG} (hF : pX8_pushes f g v1 v2 v3 = some z) : wx_M γ l yX8_pushes (ws_ yX8_pushes cX8_pushes 6 (some .int)) rmX8_pushes [.ref o, .int v1, .int v2, .int v3] (mw γ o ad f g) (fun v ws => v = some (.int z.1) ∧ ws = (mw γ o ad z.2.1 z.2.2)) 0 0 := by
  refine wx_M.of (by decide) (Nat.le_of_ble_eq_true rfl) ?_
  intro p e s m as below meth c A ls C K w hr hlocks _ hl
  exact bX8_pushes_0 C K (fun H locs ls pc w d => wx_iret C hr hlocks w ⟨rfl, rfl⟩ d) w hl hF
theorem rX8_pushes {p : Program} {l : Launch} {e : Env} {R : Room} {s : State} {m : MethodId} {as : Array Value} {below : List Frame} {meth : Method} {c : Code} {H : Heap} {locs : List Loc} {cells slots : Nat} {Q : State → Prop} {cc : ByteArray} {nL pc : Nat} {ls : Array Slot} {rest : List Value} {γ : wx_G} {A : Nat → Prop} {o : Nat} {ad : Nat → Nat} {f : xF} {g : xG} {v1 : Int32} {v2 : Int32} {v3 : Int32} {z : Int32 × xF × xG} (C : CallFix p m c cc nL s as lw_all RX8) (K : wx_C γ A s) (w : wx_w γ A s H locs (mw γ o ad f g)) (hF : pX8_pushes f g v1 v2 v3 = some z) (hls : ls.size = nL) (hR : rmX8_pushes.frames + 1 ≤ R.frames ∧ 8 + (6 + 11) + rmX8_pushes.locals ≤ R.locals) (hW : (rest.map fun v => v.category).sum ≤ 8) (d : decode cc pc = .ok (.invokevirtual 287, 3)) (kk : ∀ (H : Heap) (locs : List Loc), wx_w γ A s H locs (mw γ o ad z.2.1 z.2.2) → W p l e R s m as below meth c H locs cells slots Q (F0 m (pc + 3) ls (.int z.1 :: rest))) (hf : cells ≤ R.cells ∧ slots ≤ R.slots := by exact ⟨Nat.le_of_ble_eq_true rfl, Nat.le_of_ble_eq_true rfl⟩) : W p l e R s m as below meth c H locs cells slots Q (F0 m pc ls (.int v3 :: .int v2 :: .int v1 :: .ref o :: rest)) :=
  wx_callV (n := 3) C K w (mX8_pushes (l := l) hF) q1592 q1594 qs75 q123 q1595 rfl rfl (by decide +kernel) (va_recv K.1.1 w.1 (ci := 0) (q0 := 0) rfl rfl) rfl rfl hR hls hW hf d (fun v ws H1 locs1 hp w => by obtain ⟨rfl, rfl⟩ := hp; exact kk H1 locs1 w)

/-! WalkingStonesModel.told(IIII)I -/
abbrev rmX8_told : Room := { frames := 4, cells := 0, slots := 0, locals := 98 }
def pX8_told_35 (f : xF) (g : xG) : Option (Int32 × xF × xG) := some ((-2 : Int32), f, g)

def pX8_told_82 (f : xF) (g : xG) (t0 : Int32) : Option (Int32 × xF × xG) := some (t0, f, g)

def pX8_told_0 (f : xF) (g : xG) (v1 : Int32) (v2 : Int32) (v3 : Int32) (v4 : Int32) : Option (Int32 × xF × xG) := (pX8_isHow f g v1).bind (fun r2 => if r2 = 0 then pX8_told_35 f g else (pX8_isStone f g v2).bind (fun r10 => if r10 = 0 then pX8_told_35 f g else (pX8_isNight f g v3).bind (fun r18 => if r18 = 0 then pX8_told_35 f g else (pX8_in f g v4 (0 : Int32) (2 : Int32)).bind (fun r29 => if r29 = 0 then pX8_told_35 f g else (if v4 = 0 then (pX8_may f g v1 v3).bind (fun r46 => if r46 = 0 then pX8_told_82 f g (0 : Int32) else pX8_told_82 f g (1 : Int32)) else (if v4 = (1 : Int32) then (pX8_drag f g v1 v2).bind (fun r69 => pX8_told_82 f g r69) else (pX8_pushes f g v1 v2 v3).bind (fun r79 => pX8_told_82 r79.2.1 r79.2.2 r79.1)))))))

abbrev pX8_told (f : xF) (g : xG) (v1 : Int32) (v2 : Int32) (v3 : Int32) (v4 : Int32) : Option (Int32 × xF × xG) := pX8_told_0 f g v1 v2 v3 v4
theorem bX8_told_35 {p : Program} {l : Launch} {e : Env} {s : State} {m : MethodId} {as : Array Value} {below : List Frame} {meth : Method} {c : Code} {A : Nat → Prop} {Q : State → Prop} {γ : wx_G} {o : Nat} {ad : Nat → Nat} {z : Int32 × xF × xG} (C : CallFix p m c cX8_told 5 s as lw_all RX8) (K : wx_C γ A s) (E : ∀ (H : Heap) (locs : List Loc) (ls : Array Slot) (pc : Nat), wx_w γ A s H locs (mw γ o ad z.2.1 z.2.2) → decode cX8_told pc = .ok (.ireturn, 1) → W p l e rmX8_told s m as below meth c H locs 0 0 Q (F0 m pc ls [.int z.1])) {f : xF} {g : xG} {H : Heap} {locs : List Loc} {ls : Array Slot} (w : wx_w γ A s H locs (mw γ o ad f g)) (hl : lv_has ls 5 []) (hF : pX8_told_35 f g = some z) : W p l e rmX8_told s m as below meth c H locs 0 0 Q (F0 m 35 ls []) := by
  have hx := C.1
  have hb := C.2.1
  unfold pX8_told_35 at hF
  refine lv_bipush (v := (-2 : Int32)) hx hb dX8_told_35 (by decide) ?_
  have hF := Option.some.inj hF
  subst hF
  exact E _ _ _ _ w dX8_told_37

theorem bX8_told_82 {p : Program} {l : Launch} {e : Env} {s : State} {m : MethodId} {as : Array Value} {below : List Frame} {meth : Method} {c : Code} {A : Nat → Prop} {Q : State → Prop} {γ : wx_G} {o : Nat} {ad : Nat → Nat} {z : Int32 × xF × xG} (C : CallFix p m c cX8_told 5 s as lw_all RX8) (K : wx_C γ A s) (E : ∀ (H : Heap) (locs : List Loc) (ls : Array Slot) (pc : Nat), wx_w γ A s H locs (mw γ o ad z.2.1 z.2.2) → decode cX8_told pc = .ok (.ireturn, 1) → W p l e rmX8_told s m as below meth c H locs 0 0 Q (F0 m pc ls [.int z.1])) {f : xF} {g : xG} {t0 : Int32} {H : Heap} {locs : List Loc} {ls : Array Slot} (w : wx_w γ A s H locs (mw γ o ad f g)) (hl : lv_has ls 5 []) (hF : pX8_told_82 f g t0 = some z) : W p l e rmX8_told s m as below meth c H locs 0 0 Q (F0 m 82 ls [.int t0]) := by
  have hx := C.1
  have hb := C.2.1
  unfold pX8_told_82 at hF
  have hF := Option.some.inj hF
  subst hF
  exact E _ _ _ _ w dX8_told_82

theorem bX8_told_0 {p : Program} {l : Launch} {e : Env} {s : State} {m : MethodId} {as : Array Value} {below : List Frame} {meth : Method} {c : Code} {A : Nat → Prop} {Q : State → Prop} {γ : wx_G} {o : Nat} {ad : Nat → Nat} {z : Int32 × xF × xG} (C : CallFix p m c cX8_told 5 s as lw_all RX8) (K : wx_C γ A s) (E : ∀ (H : Heap) (locs : List Loc) (ls : Array Slot) (pc : Nat), wx_w γ A s H locs (mw γ o ad z.2.1 z.2.2) → decode cX8_told pc = .ok (.ireturn, 1) → W p l e rmX8_told s m as below meth c H locs 0 0 Q (F0 m pc ls [.int z.1])) {f : xF} {g : xG} {v1 : Int32} {v2 : Int32} {v3 : Int32} {v4 : Int32} {H : Heap} {locs : List Loc} {ls : Array Slot} (w : wx_w γ A s H locs (mw γ o ad f g)) (hl : lv_has ls 5 [(0, .ref o), (1, .int v1), (2, .int v2), (3, .int v3), (4, .int v4)]) (hF : pX8_told_0 f g v1 v2 v3 v4 = some z) : W p l e rmX8_told s m as below meth c H locs 0 0 Q (F0 m 0 ls []) := by
  have hx := C.1
  have hb := C.2.1
  unfold pX8_told_0 at hF
  refine lv_aload_n hx hb dX8_told_0 rfl (lv_at hl 0 rfl) ?_
  refine lv_iload_n hx hb dX8_told_1 rfl (lv_at hl 1 rfl) ?_
  obtain ⟨r2, hr, hF⟩ := obd hF
  refine rX8_isHow C K w hr hl.1 ⟨Nat.le_of_ble_eq_true rfl, Nat.le_of_ble_eq_true rfl⟩ (Nat.le_of_ble_eq_true rfl) dX8_told_2 (fun H locs w => ?_)
  refine lv_if_eq (tgt := 35) hx hb dX8_told_5 (by decide) (fun c => ?_) (fun c => ?_)
  · have hF := (if_pos c).symm.trans hF
    exact bX8_told_35 C K E w (lv_sub hl [] rfl) hF
  · have hF := (if_neg c).symm.trans hF
    refine lv_aload_n hx hb dX8_told_8 rfl (lv_at hl 0 rfl) ?_
    refine lv_iload_n hx hb dX8_told_9 rfl (lv_at hl 2 rfl) ?_
    obtain ⟨r10, hr, hF⟩ := obd hF
    refine rX8_isStone C K w hr hl.1 ⟨Nat.le_of_ble_eq_true rfl, Nat.le_of_ble_eq_true rfl⟩ (Nat.le_of_ble_eq_true rfl) dX8_told_10 (fun H locs w => ?_)
    refine lv_if_eq (tgt := 35) hx hb dX8_told_13 (by decide) (fun c => ?_) (fun c => ?_)
    · have hF := (if_pos c).symm.trans hF
      exact bX8_told_35 C K E w (lv_sub hl [] rfl) hF
    · have hF := (if_neg c).symm.trans hF
      refine lv_aload_n hx hb dX8_told_16 rfl (lv_at hl 0 rfl) ?_
      refine lv_iload_n hx hb dX8_told_17 rfl (lv_at hl 3 rfl) ?_
      obtain ⟨r18, hr, hF⟩ := obd hF
      refine rX8_isNight C K w hr hl.1 ⟨Nat.le_of_ble_eq_true rfl, Nat.le_of_ble_eq_true rfl⟩ (Nat.le_of_ble_eq_true rfl) dX8_told_18 (fun H locs w => ?_)
      refine lv_if_eq (tgt := 35) hx hb dX8_told_21 (by decide) (fun c => ?_) (fun c => ?_)
      · have hF := (if_pos c).symm.trans hF
        exact bX8_told_35 C K E w (lv_sub hl [] rfl) hF
      · have hF := (if_neg c).symm.trans hF
        refine lv_aload_n hx hb dX8_told_24 rfl (lv_at hl 0 rfl) ?_
        refine lv_iload hx hb dX8_told_25 (lv_at hl 4 rfl) ?_
        refine lv_iconst (v := (0 : Int32)) hx hb dX8_told_27 (by decide) ?_
        refine lv_iconst (v := (2 : Int32)) hx hb dX8_told_28 (by decide) ?_
        obtain ⟨r29, hr, hF⟩ := obd hF
        refine rX8_in C K w hr hl.1 ⟨Nat.le_of_ble_eq_true rfl, Nat.le_of_ble_eq_true rfl⟩ (Nat.le_of_ble_eq_true rfl) dX8_told_29 (fun H locs w => ?_)
        refine lv_if_ne (tgt := 38) hx hb dX8_told_32 (by decide) (fun c => ?_) (fun c => ?_)
        · have hF := (if_neg c).symm.trans hF
          refine lv_iload hx hb dX8_told_38 (lv_at hl 4 rfl) ?_
          refine lv_if_ne (tgt := 60) hx hb dX8_told_40 (by decide) (fun c => ?_) (fun c => ?_)
          · have hF := (if_neg c).symm.trans hF
            refine lv_iload hx hb dX8_told_60 (lv_at hl 4 rfl) ?_
            refine lv_iconst (v := (1 : Int32)) hx hb dX8_told_62 (by decide) ?_
            refine lv_icmp_ne (tgt := 75) hx hb dX8_told_63 (by decide) (fun c => ?_) (fun c => ?_)
            · have hF := (if_neg c).symm.trans hF
              refine lv_aload_n hx hb dX8_told_75 rfl (lv_at hl 0 rfl) ?_
              refine lv_iload_n hx hb dX8_told_76 rfl (lv_at hl 1 rfl) ?_
              refine lv_iload_n hx hb dX8_told_77 rfl (lv_at hl 2 rfl) ?_
              refine lv_iload_n hx hb dX8_told_78 rfl (lv_at hl 3 rfl) ?_
              obtain ⟨r79, hr, hF⟩ := obd hF
              refine rX8_pushes C K w hr hl.1 ⟨Nat.le_of_ble_eq_true rfl, Nat.le_of_ble_eq_true rfl⟩ (Nat.le_of_ble_eq_true rfl) dX8_told_79 (fun H locs w => ?_)
              exact bX8_told_82 C K E w (lv_sub hl [] rfl) hF
            · have hF := (if_pos c).symm.trans hF
              refine lv_aload_n hx hb dX8_told_66 rfl (lv_at hl 0 rfl) ?_
              refine lv_iload_n hx hb dX8_told_67 rfl (lv_at hl 1 rfl) ?_
              refine lv_iload_n hx hb dX8_told_68 rfl (lv_at hl 2 rfl) ?_
              obtain ⟨r69, hr, hF⟩ := obd hF
              refine rX8_drag C K w hr hl.1 ⟨Nat.le_of_ble_eq_true rfl, Nat.le_of_ble_eq_true rfl⟩ (Nat.le_of_ble_eq_true rfl) dX8_told_69 (fun H locs w => ?_)
              refine lv_goto (tgt := 82) hx hb dX8_told_72 (by decide) ?_
              exact bX8_told_82 C K E w (lv_sub hl [] rfl) hF
          · have hF := (if_pos c).symm.trans hF
            refine lv_aload_n hx hb dX8_told_43 rfl (lv_at hl 0 rfl) ?_
            refine lv_iload_n hx hb dX8_told_44 rfl (lv_at hl 1 rfl) ?_
            refine lv_iload_n hx hb dX8_told_45 rfl (lv_at hl 3 rfl) ?_
            obtain ⟨r46, hr, hF⟩ := obd hF
            refine rX8_may C K w hr hl.1 ⟨Nat.le_of_ble_eq_true rfl, Nat.le_of_ble_eq_true rfl⟩ (Nat.le_of_ble_eq_true rfl) dX8_told_46 (fun H locs w => ?_)
            refine lv_if_eq (tgt := 56) hx hb dX8_told_49 (by decide) (fun c => ?_) (fun c => ?_)
            · have hF := (if_pos c).symm.trans hF
              refine lv_iconst (v := (0 : Int32)) hx hb dX8_told_56 (by decide) ?_
              refine lv_goto (tgt := 82) hx hb dX8_told_57 (by decide) ?_
              exact bX8_told_82 C K E w (lv_sub hl [] rfl) hF
            · have hF := (if_neg c).symm.trans hF
              refine lv_iconst (v := (1 : Int32)) hx hb dX8_told_52 (by decide) ?_
              refine lv_goto (tgt := 82) hx hb dX8_told_53 (by decide) ?_
              exact bX8_told_82 C K E w (lv_sub hl [] rfl) hF
        · have hF := (if_pos c).symm.trans hF
          exact bX8_told_35 C K E w (lv_sub hl [] rfl) hF

theorem mX8_told {l : Launch} {γ : wx_G} {o : Nat} {ad : Nat → Nat} {f : xF} {g : xG} {v1 : Int32} {v2 : Int32} {v3 : Int32} {v4 : Int32} {z : Int32 × xF × xG} (hF : pX8_told f g v1 v2 v3 v4 = some z) : wx_M γ l yX8_told (ws_ yX8_told cX8_told 5 (some .int)) rmX8_told [.ref o, .int v1, .int v2, .int v3, .int v4] (mw γ o ad f g) (fun v ws => v = some (.int z.1) ∧ ws = (mw γ o ad z.2.1 z.2.2)) 0 0 := by
  refine wx_M.of (by decide) (Nat.le_of_ble_eq_true rfl) ?_
  intro p e s m as below meth c A ls C K w hr hlocks _ hl
  exact bX8_told_0 C K (fun H locs ls pc w d => wx_iret C hr hlocks w ⟨rfl, rfl⟩ d) w hl hF

/-! WalkingStonesModel.needs(III)I -/
abbrev rmX8_needs : Room := { frames := 4, cells := 0, slots := 0, locals := 98 }
def pX8_needs_24 (f : xF) (g : xG) : Option (Int32 × xF × xG) := some ((-2 : Int32), f, g)

def pX8_needs_59 (k34 : xF → xG → Int32 → Int32 → Int32 → Int32 → Int32 → Option (Int32 × xF × xG)) (f : xF) (g : xG) (v1 : Int32) (v2 : Int32) (v3 : Int32) (v4 : Int32) (v5 : Int32) : Option (Int32 × xF × xG) := k34 f g v1 v2 v3 v4 (v5 + (-1))

def pX8_needs_34 : Nat → xF → xG → Int32 → Int32 → Int32 → Int32 → Int32 → Option (Int32 × xF × xG)
  | 0, _, _, _, _, _, _, _ => none
  | n + 1, f, g, v1, v2, v3, v4, v5 => if v5 < 0 then some (v4, upd f 27 (-1 : Int32), g) else (pX8_pushes (upd f 27 v5) g v1 v2 v3).bind (fun r49 => if r49.1 ≤ 0 then pX8_needs_59 (pX8_needs_34 n) r49.2.1 r49.2.2 v1 v2 v3 v4 v5 else pX8_needs_59 (pX8_needs_34 n) r49.2.1 r49.2.2 v1 v2 v3 v5 v5)

def pX8_needs_0 (f : xF) (g : xG) (v1 : Int32) (v2 : Int32) (v3 : Int32) : Option (Int32 × xF × xG) := (pX8_isHow f g v1).bind (fun r2 => if r2 = 0 then pX8_needs_24 f g else (pX8_isStone f g v2).bind (fun r10 => if r10 = 0 then pX8_needs_24 f g else (pX8_isNight f g v3).bind (fun r18 => if r18 = 0 then pX8_needs_24 f g else pX8_needs_34 5000 f g v1 v2 v3 (-1 : Int32) (99 : Int32))))

abbrev pX8_needs (f : xF) (g : xG) (v1 : Int32) (v2 : Int32) (v3 : Int32) : Option (Int32 × xF × xG) := pX8_needs_0 f g v1 v2 v3
theorem bX8_needs_24 {p : Program} {l : Launch} {e : Env} {s : State} {m : MethodId} {as : Array Value} {below : List Frame} {meth : Method} {c : Code} {A : Nat → Prop} {Q : State → Prop} {γ : wx_G} {o : Nat} {ad : Nat → Nat} {z : Int32 × xF × xG} (C : CallFix p m c cX8_needs 6 s as lw_all RX8) (K : wx_C γ A s) (E : ∀ (H : Heap) (locs : List Loc) (ls : Array Slot) (pc : Nat), wx_w γ A s H locs (mw γ o ad z.2.1 z.2.2) → decode cX8_needs pc = .ok (.ireturn, 1) → W p l e rmX8_needs s m as below meth c H locs 0 0 Q (F0 m pc ls [.int z.1])) {f : xF} {g : xG} {H : Heap} {locs : List Loc} {ls : Array Slot} (w : wx_w γ A s H locs (mw γ o ad f g)) (hl : lv_has ls 6 []) (hF : pX8_needs_24 f g = some z) : W p l e rmX8_needs s m as below meth c H locs 0 0 Q (F0 m 24 ls []) := by
  have hx := C.1
  have hb := C.2.1
  unfold pX8_needs_24 at hF
  refine lv_bipush (v := (-2 : Int32)) hx hb dX8_needs_24 (by decide) ?_
  have hF := Option.some.inj hF
  subst hF
  exact E _ _ _ _ w dX8_needs_26

theorem bX8_needs_59 {p : Program} {l : Launch} {e : Env} {s : State} {m : MethodId} {as : Array Value} {below : List Frame} {meth : Method} {c : Code} {A : Nat → Prop} {Q : State → Prop} {γ : wx_G} {o : Nat} {ad : Nat → Nat} {z : Int32 × xF × xG} (C : CallFix p m c cX8_needs 6 s as lw_all RX8) (K : wx_C γ A s) (E : ∀ (H : Heap) (locs : List Loc) (ls : Array Slot) (pc : Nat), wx_w γ A s H locs (mw γ o ad z.2.1 z.2.2) → decode cX8_needs pc = .ok (.ireturn, 1) → W p l e rmX8_needs s m as below meth c H locs 0 0 Q (F0 m pc ls [.int z.1])) {k34 : xF → xG → Int32 → Int32 → Int32 → Int32 → Int32 → Option (Int32 × xF × xG)} (hk34 : ∀ (f : xF) (g : xG) (v1 : Int32) (v2 : Int32) (v3 : Int32) (v4 : Int32) (v5 : Int32) (H : Heap) (locs : List Loc) (ls : Array Slot), k34 f g v1 v2 v3 v4 v5 = some z → wx_w γ A s H locs (mw γ o ad f g) → lv_has ls 6 [(0, .ref o), (1, .int v1), (2, .int v2), (3, .int v3), (4, .int v4), (5, .int v5)] → W p l e rmX8_needs s m as below meth c H locs 0 0 Q (F0 m 34 ls [])) {f : xF} {g : xG} {v1 : Int32} {v2 : Int32} {v3 : Int32} {v4 : Int32} {v5 : Int32} {H : Heap} {locs : List Loc} {ls : Array Slot} (w : wx_w γ A s H locs (mw γ o ad f g)) (hl : lv_has ls 6 [(0, .ref o), (1, .int v1), (2, .int v2), (3, .int v3), (4, .int v4), (5, .int v5)]) (hF : pX8_needs_59 k34 f g v1 v2 v3 v4 v5 = some z) : W p l e rmX8_needs s m as below meth c H locs 0 0 Q (F0 m 59 ls []) := by
  have hx := C.1
  have hb := C.2.1
  unfold pX8_needs_59 at hF
  refine lv_iinc (v := v5 + (-1)) (lv' := [(5, .int (v5 + (-1))), (0, .ref o), (1, .int v1), (2, .int v2), (3, .int v3), (4, .int v4)]) hx hb dX8_needs_59 hl (k := 5) rfl rfl (by decide) rfl (fun ls hl => ?_)
  refine lv_goto (tgt := 34) hx hb dX8_needs_62 (by decide) ?_
  exact hk34 _ _ _ _ _ _ _ _ _ _ hF w (lv_sub hl [1, 2, 3, 4, 5, 0] rfl)

theorem bX8_needs_34 {p : Program} {l : Launch} {e : Env} {s : State} {m : MethodId} {as : Array Value} {below : List Frame} {meth : Method} {c : Code} {A : Nat → Prop} {Q : State → Prop} {γ : wx_G} {o : Nat} {ad : Nat → Nat} {z : Int32 × xF × xG} (C : CallFix p m c cX8_needs 6 s as lw_all RX8) (K : wx_C γ A s) (E : ∀ (H : Heap) (locs : List Loc) (ls : Array Slot) (pc : Nat), wx_w γ A s H locs (mw γ o ad z.2.1 z.2.2) → decode cX8_needs pc = .ok (.ireturn, 1) → W p l e rmX8_needs s m as below meth c H locs 0 0 Q (F0 m pc ls [.int z.1])) : ∀ (n : Nat) (f : xF) (g : xG) (v1 : Int32) (v2 : Int32) (v3 : Int32) (v4 : Int32) (v5 : Int32) (H : Heap) (locs : List Loc) (ls : Array Slot), pX8_needs_34 n f g v1 v2 v3 v4 v5 = some z → wx_w γ A s H locs (mw γ o ad f g) → lv_has ls 6 [(0, .ref o), (1, .int v1), (2, .int v2), (3, .int v3), (4, .int v4), (5, .int v5)] → W p l e rmX8_needs s m as below meth c H locs 0 0 Q (F0 m 34 ls []) := by
  have hx := C.1
  have hb := C.2.1
  intro n
  induction n with
  | zero =>
    intro f g v1 v2 v3 v4 v5 H locs ls hF w hl
    have hF : (none : Option (Int32 × xF × xG)) = some z := hF
    cases hF
  | succ n ih =>
    intro f g v1 v2 v3 v4 v5 H locs ls hF w hl
    rw [pX8_needs_34] at hF
    refine lv_iload hx hb dX8_needs_34 (lv_at hl 5 rfl) ?_
    refine lv_if_lt (tgt := 65) hx hb dX8_needs_36 (by decide) (fun c => ?_) (fun c => ?_)
    · have hF := (if_pos c).symm.trans hF
      refine lv_aload_n hx hb dX8_needs_65 rfl (lv_at hl 0 rfl) ?_
      refine lv_iconst (v := (-1 : Int32)) hx hb dX8_needs_66 (by decide) ?_
      refine mput_27 C K w dX8_needs_67 (fun H locs w => ?_)
      refine lv_iload hx hb dX8_needs_70 (lv_at hl 4 rfl) ?_
      have hF := Option.some.inj hF
      subst hF
      exact E _ _ _ _ w dX8_needs_72
    · have hF := (if_neg c).symm.trans hF
      refine lv_aload_n hx hb dX8_needs_39 rfl (lv_at hl 0 rfl) ?_
      refine lv_iload hx hb dX8_needs_40 (lv_at hl 5 rfl) ?_
      refine mput_27 C K w dX8_needs_42 (fun H locs w => ?_)
      refine lv_aload_n hx hb dX8_needs_45 rfl (lv_at hl 0 rfl) ?_
      refine lv_iload_n hx hb dX8_needs_46 rfl (lv_at hl 1 rfl) ?_
      refine lv_iload_n hx hb dX8_needs_47 rfl (lv_at hl 2 rfl) ?_
      refine lv_iload_n hx hb dX8_needs_48 rfl (lv_at hl 3 rfl) ?_
      obtain ⟨r49, hr, hF⟩ := obd hF
      refine rX8_pushes C K w hr hl.1 ⟨Nat.le_of_ble_eq_true rfl, Nat.le_of_ble_eq_true rfl⟩ (Nat.le_of_ble_eq_true rfl) dX8_needs_49 (fun H locs w => ?_)
      refine lv_if_le (tgt := 59) hx hb dX8_needs_52 (by decide) (fun c => ?_) (fun c => ?_)
      · have hF := (if_pos c).symm.trans hF
        exact bX8_needs_59 C K E ih w hl hF
      · have hF := (if_neg c).symm.trans hF
        refine lv_iload hx hb dX8_needs_55 (lv_at hl 5 rfl) ?_
        refine lv_istore (lv' := [(4, .int v5), (0, .ref o), (1, .int v1), (2, .int v2), (3, .int v3), (5, .int v5)]) hx hb dX8_needs_57 hl (by decide) rfl (fun ls hl => ?_)
        exact bX8_needs_59 C K E ih w (lv_sub hl [1, 2, 3, 4, 0, 5] rfl) hF

theorem bX8_needs_0 {p : Program} {l : Launch} {e : Env} {s : State} {m : MethodId} {as : Array Value} {below : List Frame} {meth : Method} {c : Code} {A : Nat → Prop} {Q : State → Prop} {γ : wx_G} {o : Nat} {ad : Nat → Nat} {z : Int32 × xF × xG} (C : CallFix p m c cX8_needs 6 s as lw_all RX8) (K : wx_C γ A s) (E : ∀ (H : Heap) (locs : List Loc) (ls : Array Slot) (pc : Nat), wx_w γ A s H locs (mw γ o ad z.2.1 z.2.2) → decode cX8_needs pc = .ok (.ireturn, 1) → W p l e rmX8_needs s m as below meth c H locs 0 0 Q (F0 m pc ls [.int z.1])) {f : xF} {g : xG} {v1 : Int32} {v2 : Int32} {v3 : Int32} {H : Heap} {locs : List Loc} {ls : Array Slot} (w : wx_w γ A s H locs (mw γ o ad f g)) (hl : lv_has ls 6 [(0, .ref o), (1, .int v1), (2, .int v2), (3, .int v3)]) (hF : pX8_needs_0 f g v1 v2 v3 = some z) : W p l e rmX8_needs s m as below meth c H locs 0 0 Q (F0 m 0 ls []) := by
  have hx := C.1
  have hb := C.2.1
  unfold pX8_needs_0 at hF
  refine lv_aload_n hx hb dX8_needs_0 rfl (lv_at hl 0 rfl) ?_
  refine lv_iload_n hx hb dX8_needs_1 rfl (lv_at hl 1 rfl) ?_
  obtain ⟨r2, hr, hF⟩ := obd hF
  refine rX8_isHow C K w hr hl.1 ⟨Nat.le_of_ble_eq_true rfl, Nat.le_of_ble_eq_true rfl⟩ (Nat.le_of_ble_eq_true rfl) dX8_needs_2 (fun H locs w => ?_)
  refine lv_if_eq (tgt := 24) hx hb dX8_needs_5 (by decide) (fun c => ?_) (fun c => ?_)
  · have hF := (if_pos c).symm.trans hF
    exact bX8_needs_24 C K E w (lv_sub hl [] rfl) hF
  · have hF := (if_neg c).symm.trans hF
    refine lv_aload_n hx hb dX8_needs_8 rfl (lv_at hl 0 rfl) ?_
    refine lv_iload_n hx hb dX8_needs_9 rfl (lv_at hl 2 rfl) ?_
    obtain ⟨r10, hr, hF⟩ := obd hF
    refine rX8_isStone C K w hr hl.1 ⟨Nat.le_of_ble_eq_true rfl, Nat.le_of_ble_eq_true rfl⟩ (Nat.le_of_ble_eq_true rfl) dX8_needs_10 (fun H locs w => ?_)
    refine lv_if_eq (tgt := 24) hx hb dX8_needs_13 (by decide) (fun c => ?_) (fun c => ?_)
    · have hF := (if_pos c).symm.trans hF
      exact bX8_needs_24 C K E w (lv_sub hl [] rfl) hF
    · have hF := (if_neg c).symm.trans hF
      refine lv_aload_n hx hb dX8_needs_16 rfl (lv_at hl 0 rfl) ?_
      refine lv_iload_n hx hb dX8_needs_17 rfl (lv_at hl 3 rfl) ?_
      obtain ⟨r18, hr, hF⟩ := obd hF
      refine rX8_isNight C K w hr hl.1 ⟨Nat.le_of_ble_eq_true rfl, Nat.le_of_ble_eq_true rfl⟩ (Nat.le_of_ble_eq_true rfl) dX8_needs_18 (fun H locs w => ?_)
      refine lv_if_ne (tgt := 27) hx hb dX8_needs_21 (by decide) (fun c => ?_) (fun c => ?_)
      · have hF := (if_neg c).symm.trans hF
        refine lv_iconst (v := (-1 : Int32)) hx hb dX8_needs_27 (by decide) ?_
        refine lv_istore (lv' := [(4, .int (-1 : Int32)), (0, .ref o), (1, .int v1), (2, .int v2), (3, .int v3)]) hx hb dX8_needs_28 hl (by decide) rfl (fun ls hl => ?_)
        refine lv_bipush (v := (99 : Int32)) hx hb dX8_needs_30 (by decide) ?_
        refine lv_istore (lv' := [(5, .int (99 : Int32)), (4, .int (-1 : Int32)), (0, .ref o), (1, .int v1), (2, .int v2), (3, .int v3)]) hx hb dX8_needs_32 hl (by decide) rfl (fun ls hl => ?_)
        exact bX8_needs_34 C K E 5000 _ _ _ _ _ _ _ _ _ _ hF w (lv_sub hl [2, 3, 4, 5, 1, 0] rfl)
      · have hF := (if_pos c).symm.trans hF
        exact bX8_needs_24 C K E w (lv_sub hl [] rfl) hF

theorem mX8_needs {l : Launch} {γ : wx_G} {o : Nat} {ad : Nat → Nat} {f : xF} {g : xG} {v1 : Int32} {v2 : Int32} {v3 : Int32} {z : Int32 × xF × xG} (hF : pX8_needs f g v1 v2 v3 = some z) : wx_M γ l yX8_needs (ws_ yX8_needs cX8_needs 6 (some .int)) rmX8_needs [.ref o, .int v1, .int v2, .int v3] (mw γ o ad f g) (fun v ws => v = some (.int z.1) ∧ ws = (mw γ o ad z.2.1 z.2.2)) 0 0 := by
  refine wx_M.of (by decide) (Nat.le_of_ble_eq_true rfl) ?_
  intro p e s m as below meth c A ls C K w hr hlocks _ hl
  exact bX8_needs_0 C K (fun H locs ls pc w d => wx_iret C hr hlocks w ⟨rfl, rfl⟩ d) w hl hF

/-! WalkingStonesModel.isRow(I)Z -/
abbrev rmX8_isRow : Room := { frames := 2, cells := 0, slots := 0, locals := 44 }
def pX8_isRow_50 (f : xF) (g : xG) (t0 : Int32) : Option (Int32) := if gbz t0 = true then some (t0) else none

def pX8_isRow_49 (f : xF) (g : xG) : Option (Int32) := pX8_isRow_50 f g (0 : Int32)

def pX8_isRow_0 (f : xF) (g : xG) (v1 : Int32) : Option (Int32) := (pX8_in f g v1 (0 : Int32) (5959 : Int32)).bind (fun r6 => if r6 = 0 then pX8_isRow_49 f g else (pX8_isNight f g (v1 / (100 : Int32))).bind (fun r17 => if r17 = 0 then pX8_isRow_49 f g else (pX8_isNight f g (v1 - v1 / (100 : Int32) * (100 : Int32))).bind (fun r28 => if r28 = 0 then pX8_isRow_49 f g else (if (v1 - v1 / (100 : Int32) * (100 : Int32)) < (v1 / (100 : Int32)) then pX8_isRow_49 f g else pX8_isRow_50 f g (1 : Int32)))))

abbrev pX8_isRow (f : xF) (g : xG) (v1 : Int32) : Option (Int32) := pX8_isRow_0 f g v1
theorem bX8_isRow_50 {p : Program} {l : Launch} {e : Env} {s : State} {m : MethodId} {as : Array Value} {below : List Frame} {meth : Method} {c : Code} {A : Nat → Prop} {Q : State → Prop} {γ : wx_G} {o : Nat} {ad : Nat → Nat} {z : Int32} {f : xF} {g : xG} (C : CallFix p m c cX8_isRow 2 s as lw_all RX8) (K : wx_C γ A s) (E : ∀ (H : Heap) (locs : List Loc) (ls : Array Slot) (pc : Nat), narrow .boolean (.int z) = .int z → wx_w γ A s H locs (mw γ o ad f g) → decode cX8_isRow pc = .ok (.ireturn, 1) → W p l e rmX8_isRow s m as below meth c H locs 0 0 Q (F0 m pc ls [.int z])) {t0 : Int32} {H : Heap} {locs : List Loc} {ls : Array Slot} (w : wx_w γ A s H locs (mw γ o ad f g)) (hl : lv_has ls 2 []) (hF : pX8_isRow_50 f g t0 = some z) : W p l e rmX8_isRow s m as below meth c H locs 0 0 Q (F0 m 50 ls [.int t0]) := by
  have hx := C.1
  have hb := C.2.1
  unfold pX8_isRow_50 at hF
  obtain ⟨hz, hF⟩ := gbz_if hF
  have hF := Option.some.inj hF
  subst hF
  exact E _ _ _ _ hz w dX8_isRow_50

theorem bX8_isRow_49 {p : Program} {l : Launch} {e : Env} {s : State} {m : MethodId} {as : Array Value} {below : List Frame} {meth : Method} {c : Code} {A : Nat → Prop} {Q : State → Prop} {γ : wx_G} {o : Nat} {ad : Nat → Nat} {z : Int32} {f : xF} {g : xG} (C : CallFix p m c cX8_isRow 2 s as lw_all RX8) (K : wx_C γ A s) (E : ∀ (H : Heap) (locs : List Loc) (ls : Array Slot) (pc : Nat), narrow .boolean (.int z) = .int z → wx_w γ A s H locs (mw γ o ad f g) → decode cX8_isRow pc = .ok (.ireturn, 1) → W p l e rmX8_isRow s m as below meth c H locs 0 0 Q (F0 m pc ls [.int z])) {H : Heap} {locs : List Loc} {ls : Array Slot} (w : wx_w γ A s H locs (mw γ o ad f g)) (hl : lv_has ls 2 []) (hF : pX8_isRow_49 f g = some z) : W p l e rmX8_isRow s m as below meth c H locs 0 0 Q (F0 m 49 ls []) := by
  have hx := C.1
  have hb := C.2.1
  unfold pX8_isRow_49 at hF
  refine lv_iconst (v := (0 : Int32)) hx hb dX8_isRow_49 (by decide) ?_
  exact bX8_isRow_50 C K E w hl hF

theorem bX8_isRow_0 {p : Program} {l : Launch} {e : Env} {s : State} {m : MethodId} {as : Array Value} {below : List Frame} {meth : Method} {c : Code} {A : Nat → Prop} {Q : State → Prop} {γ : wx_G} {o : Nat} {ad : Nat → Nat} {z : Int32} {f : xF} {g : xG} (C : CallFix p m c cX8_isRow 2 s as lw_all RX8) (K : wx_C γ A s) (E : ∀ (H : Heap) (locs : List Loc) (ls : Array Slot) (pc : Nat), narrow .boolean (.int z) = .int z → wx_w γ A s H locs (mw γ o ad f g) → decode cX8_isRow pc = .ok (.ireturn, 1) → W p l e rmX8_isRow s m as below meth c H locs 0 0 Q (F0 m pc ls [.int z])) {v1 : Int32} {H : Heap} {locs : List Loc} {ls : Array Slot} (w : wx_w γ A s H locs (mw γ o ad f g)) (hl : lv_has ls 2 [(0, .ref o), (1, .int v1)]) (hF : pX8_isRow_0 f g v1 = some z) : W p l e rmX8_isRow s m as below meth c H locs 0 0 Q (F0 m 0 ls []) := by
  have hx := C.1
  have hb := C.2.1
  unfold pX8_isRow_0 at hF
  refine lv_aload_n hx hb dX8_isRow_0 rfl (lv_at hl 0 rfl) ?_
  refine lv_iload_n hx hb dX8_isRow_1 rfl (lv_at hl 1 rfl) ?_
  refine lv_iconst (v := (0 : Int32)) hx hb dX8_isRow_2 (by decide) ?_
  refine lv_sipush (v := (5959 : Int32)) hx hb dX8_isRow_3 (by decide) ?_
  obtain ⟨r6, hr, hF⟩ := obd hF
  refine rX8_in C K w hr hl.1 ⟨Nat.le_of_ble_eq_true rfl, Nat.le_of_ble_eq_true rfl⟩ (Nat.le_of_ble_eq_true rfl) dX8_isRow_6 (fun H locs w => ?_)
  refine lv_if_eq (tgt := 49) hx hb dX8_isRow_9 (by decide) (fun c => ?_) (fun c => ?_)
  · have hF := (if_pos c).symm.trans hF
    exact bX8_isRow_49 C K E w (lv_sub hl [] rfl) hF
  · have hF := (if_neg c).symm.trans hF
    refine lv_aload_n hx hb dX8_isRow_12 rfl (lv_at hl 0 rfl) ?_
    refine lv_iload_n hx hb dX8_isRow_13 rfl (lv_at hl 1 rfl) ?_
    refine lv_bipush (v := (100 : Int32)) hx hb dX8_isRow_14 (by decide) ?_
    refine lv_idiv hx hb dX8_isRow_16 (by decide) ?_
    obtain ⟨r17, hr, hF⟩ := obd hF
    refine rX8_isNight C K w hr hl.1 ⟨Nat.le_of_ble_eq_true rfl, Nat.le_of_ble_eq_true rfl⟩ (Nat.le_of_ble_eq_true rfl) dX8_isRow_17 (fun H locs w => ?_)
    refine lv_if_eq (tgt := 49) hx hb dX8_isRow_20 (by decide) (fun c => ?_) (fun c => ?_)
    · have hF := (if_pos c).symm.trans hF
      exact bX8_isRow_49 C K E w (lv_sub hl [] rfl) hF
    · have hF := (if_neg c).symm.trans hF
      refine lv_aload_n hx hb dX8_isRow_23 rfl (lv_at hl 0 rfl) ?_
      refine lv_iload_n hx hb dX8_isRow_24 rfl (lv_at hl 1 rfl) ?_
      refine lv_bipush (v := (100 : Int32)) hx hb dX8_isRow_25 (by decide) ?_
      refine lv_irem hx hb dX8_isRow_27 (by decide) ?_
      obtain ⟨r28, hr, hF⟩ := obd hF
      refine rX8_isNight C K w hr hl.1 ⟨Nat.le_of_ble_eq_true rfl, Nat.le_of_ble_eq_true rfl⟩ (Nat.le_of_ble_eq_true rfl) dX8_isRow_28 (fun H locs w => ?_)
      refine lv_if_eq (tgt := 49) hx hb dX8_isRow_31 (by decide) (fun c => ?_) (fun c => ?_)
      · have hF := (if_pos c).symm.trans hF
        exact bX8_isRow_49 C K E w (lv_sub hl [] rfl) hF
      · have hF := (if_neg c).symm.trans hF
        refine lv_iload_n hx hb dX8_isRow_34 rfl (lv_at hl 1 rfl) ?_
        refine lv_bipush (v := (100 : Int32)) hx hb dX8_isRow_35 (by decide) ?_
        refine lv_idiv hx hb dX8_isRow_37 (by decide) ?_
        refine lv_iload_n hx hb dX8_isRow_38 rfl (lv_at hl 1 rfl) ?_
        refine lv_bipush (v := (100 : Int32)) hx hb dX8_isRow_39 (by decide) ?_
        refine lv_irem hx hb dX8_isRow_41 (by decide) ?_
        refine lv_icmp_gt (tgt := 49) hx hb dX8_isRow_42 (by decide) (fun c => ?_) (fun c => ?_)
        · have hF := (if_pos c).symm.trans hF
          exact bX8_isRow_49 C K E w (lv_sub hl [] rfl) hF
        · have hF := (if_neg c).symm.trans hF
          refine lv_iconst (v := (1 : Int32)) hx hb dX8_isRow_45 (by decide) ?_
          refine lv_goto (tgt := 50) hx hb dX8_isRow_46 (by decide) ?_
          exact bX8_isRow_50 C K E w (lv_sub hl [] rfl) hF

theorem mX8_isRow {l : Launch} {γ : wx_G} {o : Nat} {ad : Nat → Nat} {f : xF} {g : xG} {v1 : Int32} {z : Int32} (hF : pX8_isRow f g v1 = some z) : wx_M γ l yX8_isRow (ws_ yX8_isRow cX8_isRow 2 (some .boolean)) rmX8_isRow [.ref o, .int v1] (mw γ o ad f g) (fun v ws => v = some (.int z) ∧ ws = (mw γ o ad f g)) 0 0 := by
  refine wx_M.of (by decide) (Nat.le_of_ble_eq_true rfl) ?_
  intro p e s m as below meth c A ls C K w hr hlocks _ hl
  exact bX8_isRow_0 C K (fun H locs ls pc hz w d => wx_zret C hr hlocks hz w ⟨rfl, rfl⟩ d) w hl hF
theorem rX8_isRow {p : Program} {l : Launch} {e : Env} {R : Room} {s : State} {m : MethodId} {as : Array Value} {below : List Frame} {meth : Method} {c : Code} {H : Heap} {locs : List Loc} {cells slots : Nat} {Q : State → Prop} {cc : ByteArray} {nL pc : Nat} {ls : Array Slot} {rest : List Value} {γ : wx_G} {A : Nat → Prop} {o : Nat} {ad : Nat → Nat} {f : xF} {g : xG} {v1 : Int32} {z : Int32} (C : CallFix p m c cc nL s as lw_all RX8) (K : wx_C γ A s) (w : wx_w γ A s H locs (mw γ o ad f g)) (hF : pX8_isRow f g v1 = some z) (hls : ls.size = nL) (hR : rmX8_isRow.frames + 1 ≤ R.frames ∧ 8 + (2 + 11) + rmX8_isRow.locals ≤ R.locals) (hW : (rest.map fun v => v.category).sum ≤ 8) (d : decode cc pc = .ok (.invokevirtual 305, 3)) (kk : ∀ (H : Heap) (locs : List Loc), wx_w γ A s H locs (mw γ o ad f g) → W p l e R s m as below meth c H locs cells slots Q (F0 m (pc + 3) ls (.int z :: rest))) (hf : cells ≤ R.cells ∧ slots ≤ R.slots := by exact ⟨Nat.le_of_ble_eq_true rfl, Nat.le_of_ble_eq_true rfl⟩) : W p l e R s m as below meth c H locs cells slots Q (F0 m pc ls (.int v1 :: .ref o :: rest)) :=
  wx_callV (n := 1) C K w (mX8_isRow (l := l) hF) q1624 q1626 qs81 q123 q1627 rfl rfl (by decide +kernel) (va_recv K.1.1 w.1 (ci := 0) (q0 := 0) rfl rfl) rfl rfl hR hls hW hf d (fun v ws H1 locs1 hp w => by obtain ⟨rfl, rfl⟩ := hp; exact kk H1 locs1 w)

/-! WalkingStonesModel.begin()V -/
abbrev rmX8_begin : Room := { frames := 0, cells := 0, slots := 0, locals := 0 }
def pX8_begin_2 : Nat → xF → xG → Int32 → Option (xF × xG)
  | 0, _, _, _ => none
  | n + 1, f, g, v1 => if (f 0) ≤ v1 then some (f, g) else (if gin v1 10 = true then if gin v1 10 = true then if gin v1 10 = true then if gin v1 10 = true then if gin v1 10 = true then pX8_begin_2 n f (va_up (va_up (va_up (va_up g 28 (upd (g 28) v1.toNatClampNeg (g 4 v1.toNatClampNeg))) 29 (upd ((va_up g 28 (upd (g 28) v1.toNatClampNeg (g 4 v1.toNatClampNeg))) 29) v1.toNatClampNeg (0 : Int32))) 30 (upd ((va_up (va_up g 28 (upd (g 28) v1.toNatClampNeg (g 4 v1.toNatClampNeg))) 29 (upd ((va_up g 28 (upd (g 28) v1.toNatClampNeg (g 4 v1.toNatClampNeg))) 29) v1.toNatClampNeg (0 : Int32))) 30) v1.toNatClampNeg (0 : Int32))) 31 (upd ((va_up (va_up (va_up g 28 (upd (g 28) v1.toNatClampNeg (g 4 v1.toNatClampNeg))) 29 (upd ((va_up g 28 (upd (g 28) v1.toNatClampNeg (g 4 v1.toNatClampNeg))) 29) v1.toNatClampNeg (0 : Int32))) 30 (upd ((va_up (va_up g 28 (upd (g 28) v1.toNatClampNeg (g 4 v1.toNatClampNeg))) 29 (upd ((va_up g 28 (upd (g 28) v1.toNatClampNeg (g 4 v1.toNatClampNeg))) 29) v1.toNatClampNeg (0 : Int32))) 30) v1.toNatClampNeg (0 : Int32))) 31) v1.toNatClampNeg (-1 : Int32))) (v1 + 1) else none else none else none else none else none)

def pX8_begin_0 (f : xF) (g : xG) : Option (xF × xG) := pX8_begin_2 5000 f g (0 : Int32)

abbrev pX8_begin (f : xF) (g : xG) : Option (xF × xG) := pX8_begin_0 f g
theorem bX8_begin_2 {p : Program} {l : Launch} {e : Env} {s : State} {m : MethodId} {as : Array Value} {below : List Frame} {meth : Method} {c : Code} {A : Nat → Prop} {Q : State → Prop} {γ : wx_G} {o : Nat} {ad : Nat → Nat} {z : xF × xG} (C : CallFix p m c cX8_begin 2 s as lw_all RX8) (K : wx_C γ A s) (E : ∀ (H : Heap) (locs : List Loc) (ls : Array Slot) (pc : Nat), wx_w γ A s H locs (mw γ o ad z.1 z.2) → decode cX8_begin pc = .ok (.return_, 1) → W p l e rmX8_begin s m as below meth c H locs 0 0 Q (F0 m pc ls [])) : ∀ (n : Nat) (f : xF) (g : xG) (v1 : Int32) (H : Heap) (locs : List Loc) (ls : Array Slot), pX8_begin_2 n f g v1 = some z → wx_w γ A s H locs (mw γ o ad f g) → lv_has ls 2 [(0, .ref o), (1, .int v1)] → W p l e rmX8_begin s m as below meth c H locs 0 0 Q (F0 m 2 ls []) := by
  have hx := C.1
  have hb := C.2.1
  intro n
  induction n with
  | zero =>
    intro f g v1 H locs ls hF w hl
    have hF : (none : Option (xF × xG)) = some z := hF
    cases hF
  | succ n ih =>
    intro f g v1 H locs ls hF w hl
    rw [pX8_begin_2] at hF
    refine lv_iload_n hx hb dX8_begin_2 rfl (lv_at hl 1 rfl) ?_
    refine lv_aload_n hx hb dX8_begin_3 rfl (lv_at hl 0 rfl) ?_
    refine mget_0 C K w dX8_begin_4 ?_
    refine lv_icmp_ge (tgt := 49) hx hb dX8_begin_7 (by decide) (fun c => ?_) (fun c => ?_)
    · have hF := (if_pos c).symm.trans hF
      have hF := Option.some.inj hF
      subst hF
      exact E _ _ _ _ w dX8_begin_49
    · have hF := (if_neg c).symm.trans hF
      refine lv_aload_n hx hb dX8_begin_10 rfl (lv_at hl 0 rfl) ?_
      refine mget_28 C K w dX8_begin_11 ?_
      refine lv_iload_n hx hb dX8_begin_14 rfl (lv_at hl 1 rfl) ?_
      refine lv_aload_n hx hb dX8_begin_15 rfl (lv_at hl 0 rfl) ?_
      refine mget_4 C K w dX8_begin_16 ?_
      refine lv_iload_n hx hb dX8_begin_19 rfl (lv_at hl 1 rfl) ?_
      obtain ⟨hi, hF⟩ := gin_if hF
      refine mald_4 C K w hi dX8_begin_20 ?_
      obtain ⟨hi, hF⟩ := gin_if hF
      refine mast_28 C K w hi dX8_begin_21 (fun H locs w => ?_)
      refine lv_aload_n hx hb dX8_begin_22 rfl (lv_at hl 0 rfl) ?_
      refine mget_29 C K w dX8_begin_23 ?_
      refine lv_iload_n hx hb dX8_begin_26 rfl (lv_at hl 1 rfl) ?_
      refine lv_iconst (v := (0 : Int32)) hx hb dX8_begin_27 (by decide) ?_
      obtain ⟨hi, hF⟩ := gin_if hF
      refine mast_29 C K w hi dX8_begin_28 (fun H locs w => ?_)
      refine lv_aload_n hx hb dX8_begin_29 rfl (lv_at hl 0 rfl) ?_
      refine mget_30 C K w dX8_begin_30 ?_
      refine lv_iload_n hx hb dX8_begin_33 rfl (lv_at hl 1 rfl) ?_
      refine lv_iconst (v := (0 : Int32)) hx hb dX8_begin_34 (by decide) ?_
      obtain ⟨hi, hF⟩ := gin_if hF
      refine mast_30 C K w hi dX8_begin_35 (fun H locs w => ?_)
      refine lv_aload_n hx hb dX8_begin_36 rfl (lv_at hl 0 rfl) ?_
      refine mget_31 C K w dX8_begin_37 ?_
      refine lv_iload_n hx hb dX8_begin_40 rfl (lv_at hl 1 rfl) ?_
      refine lv_iconst (v := (-1 : Int32)) hx hb dX8_begin_41 (by decide) ?_
      obtain ⟨hi, hF⟩ := gin_if hF
      refine mast_31 C K w hi dX8_begin_42 (fun H locs w => ?_)
      refine lv_iinc (v := v1 + 1) (lv' := [(1, .int (v1 + 1)), (0, .ref o)]) hx hb dX8_begin_43 hl (k := 1) rfl rfl (by decide) rfl (fun ls hl => ?_)
      refine lv_goto (tgt := 2) hx hb dX8_begin_46 (by decide) ?_
      exact ih _ _ _ _ _ _ hF w (lv_sub hl [1, 0] rfl)

theorem bX8_begin_0 {p : Program} {l : Launch} {e : Env} {s : State} {m : MethodId} {as : Array Value} {below : List Frame} {meth : Method} {c : Code} {A : Nat → Prop} {Q : State → Prop} {γ : wx_G} {o : Nat} {ad : Nat → Nat} {z : xF × xG} (C : CallFix p m c cX8_begin 2 s as lw_all RX8) (K : wx_C γ A s) (E : ∀ (H : Heap) (locs : List Loc) (ls : Array Slot) (pc : Nat), wx_w γ A s H locs (mw γ o ad z.1 z.2) → decode cX8_begin pc = .ok (.return_, 1) → W p l e rmX8_begin s m as below meth c H locs 0 0 Q (F0 m pc ls [])) {f : xF} {g : xG} {H : Heap} {locs : List Loc} {ls : Array Slot} (w : wx_w γ A s H locs (mw γ o ad f g)) (hl : lv_has ls 2 [(0, .ref o)]) (hF : pX8_begin_0 f g = some z) : W p l e rmX8_begin s m as below meth c H locs 0 0 Q (F0 m 0 ls []) := by
  have hx := C.1
  have hb := C.2.1
  unfold pX8_begin_0 at hF
  refine lv_iconst (v := (0 : Int32)) hx hb dX8_begin_0 (by decide) ?_
  refine lv_istore_n (lv' := [(1, .int (0 : Int32)), (0, .ref o)]) hx hb dX8_begin_1 rfl hl (by decide) rfl (fun ls hl => ?_)
  exact bX8_begin_2 C K E 5000 _ _ _ _ _ _ hF w (lv_sub hl [1, 0] rfl)

theorem mX8_begin {l : Launch} {γ : wx_G} {o : Nat} {ad : Nat → Nat} {f : xF} {g : xG} {z : xF × xG} (hF : pX8_begin f g = some z) : wx_M γ l yX8_begin (ws_ yX8_begin cX8_begin 2 none) rmX8_begin [.ref o] (mw γ o ad f g) (fun v ws => v = none ∧ ws = (mw γ o ad z.1 z.2)) 0 0 := by
  refine wx_M.of (by decide) (Nat.le_of_ble_eq_true rfl) ?_
  intro p e s m as below meth c A ls C K w hr hlocks _ hl
  exact bX8_begin_0 C K (fun H locs ls pc w d => wx_vret C hr hlocks w ⟨rfl, rfl⟩ d) w hl hF
theorem rX8_begin {p : Program} {l : Launch} {e : Env} {R : Room} {s : State} {m : MethodId} {as : Array Value} {below : List Frame} {meth : Method} {c : Code} {H : Heap} {locs : List Loc} {cells slots : Nat} {Q : State → Prop} {cc : ByteArray} {nL pc : Nat} {ls : Array Slot} {rest : List Value} {γ : wx_G} {A : Nat → Prop} {o : Nat} {ad : Nat → Nat} {f : xF} {g : xG} {z : xF × xG} (C : CallFix p m c cc nL s as lw_all RX8) (K : wx_C γ A s) (w : wx_w γ A s H locs (mw γ o ad f g)) (hF : pX8_begin f g = some z) (hls : ls.size = nL) (hR : rmX8_begin.frames + 1 ≤ R.frames ∧ 8 + (2 + 11) + rmX8_begin.locals ≤ R.locals) (hW : (rest.map fun v => v.category).sum ≤ 8) (d : decode cc pc = .ok (.invokevirtual 299, 3)) (kk : ∀ (H : Heap) (locs : List Loc), wx_w γ A s H locs (mw γ o ad z.1 z.2) → W p l e R s m as below meth c H locs cells slots Q (F0 m (pc + 3) ls rest)) (hf : cells ≤ R.cells ∧ slots ≤ R.slots := by exact ⟨Nat.le_of_ble_eq_true rfl, Nat.le_of_ble_eq_true rfl⟩) : W p l e R s m as below meth c H locs cells slots Q (F0 m pc ls (.ref o :: rest)) :=
  wx_callV (n := 0) C K w (mX8_begin (l := l) hF) q1632 q1634 qs83 q123 q1635 rfl rfl (by decide +kernel) (va_recv K.1.1 w.1 (ci := 0) (q0 := 0) rfl rfl) rfl rfl hR hls hW hf d (fun v ws H1 locs1 hp w => by obtain ⟨rfl, rfl⟩ := hp; exact kk H1 locs1 w)

/-! WalkingStonesModel.wayOf(II)I -/
abbrev rmX8_wayOf : Room := { frames := 0, cells := 0, slots := 0, locals := 0 }
def pX8_wayOf_20 (f : xF) (g : xG) (t0 : Int32) : Option (Int32) := some (t0)

def pX8_wayOf_0 (f : xF) (g : xG) (v1 : Int32) (v2 : Int32) : Option (Int32) := if gin v1 8 = true then if (g 9 v1.toNatClampNeg) = (5 : Int32) then pX8_wayOf_20 f g (1 : Int32) else (if gin v2 60 = true then pX8_wayOf_20 f g (g 8 v2.toNatClampNeg) else none) else none

abbrev pX8_wayOf (f : xF) (g : xG) (v1 : Int32) (v2 : Int32) : Option (Int32) := pX8_wayOf_0 f g v1 v2
theorem bX8_wayOf_20 {p : Program} {l : Launch} {e : Env} {s : State} {m : MethodId} {as : Array Value} {below : List Frame} {meth : Method} {c : Code} {A : Nat → Prop} {Q : State → Prop} {γ : wx_G} {o : Nat} {ad : Nat → Nat} {z : Int32} {f : xF} {g : xG} (C : CallFix p m c cX8_wayOf 3 s as lw_all RX8) (K : wx_C γ A s) (E : ∀ (H : Heap) (locs : List Loc) (ls : Array Slot) (pc : Nat), wx_w γ A s H locs (mw γ o ad f g) → decode cX8_wayOf pc = .ok (.ireturn, 1) → W p l e rmX8_wayOf s m as below meth c H locs 0 0 Q (F0 m pc ls [.int z])) {t0 : Int32} {H : Heap} {locs : List Loc} {ls : Array Slot} (w : wx_w γ A s H locs (mw γ o ad f g)) (hl : lv_has ls 3 []) (hF : pX8_wayOf_20 f g t0 = some z) : W p l e rmX8_wayOf s m as below meth c H locs 0 0 Q (F0 m 20 ls [.int t0]) := by
  have hx := C.1
  have hb := C.2.1
  unfold pX8_wayOf_20 at hF
  have hF := Option.some.inj hF
  subst hF
  exact E _ _ _ _ w dX8_wayOf_20

theorem bX8_wayOf_0 {p : Program} {l : Launch} {e : Env} {s : State} {m : MethodId} {as : Array Value} {below : List Frame} {meth : Method} {c : Code} {A : Nat → Prop} {Q : State → Prop} {γ : wx_G} {o : Nat} {ad : Nat → Nat} {z : Int32} {f : xF} {g : xG} (C : CallFix p m c cX8_wayOf 3 s as lw_all RX8) (K : wx_C γ A s) (E : ∀ (H : Heap) (locs : List Loc) (ls : Array Slot) (pc : Nat), wx_w γ A s H locs (mw γ o ad f g) → decode cX8_wayOf pc = .ok (.ireturn, 1) → W p l e rmX8_wayOf s m as below meth c H locs 0 0 Q (F0 m pc ls [.int z])) {v1 : Int32} {v2 : Int32} {H : Heap} {locs : List Loc} {ls : Array Slot} (w : wx_w γ A s H locs (mw γ o ad f g)) (hl : lv_has ls 3 [(0, .ref o), (1, .int v1), (2, .int v2)]) (hF : pX8_wayOf_0 f g v1 v2 = some z) : W p l e rmX8_wayOf s m as below meth c H locs 0 0 Q (F0 m 0 ls []) := by
  have hx := C.1
  have hb := C.2.1
  unfold pX8_wayOf_0 at hF
  refine lv_aload_n hx hb dX8_wayOf_0 rfl (lv_at hl 0 rfl) ?_
  refine mget_9 C K w dX8_wayOf_1 ?_
  refine lv_iload_n hx hb dX8_wayOf_4 rfl (lv_at hl 1 rfl) ?_
  obtain ⟨hi, hF⟩ := gin_if hF
  refine mald_9 C K w hi dX8_wayOf_5 ?_
  refine lv_iconst (v := (5 : Int32)) hx hb dX8_wayOf_6 (by decide) ?_
  refine lv_icmp_ne (tgt := 14) hx hb dX8_wayOf_7 (by decide) (fun c => ?_) (fun c => ?_)
  · have hF := (if_neg c).symm.trans hF
    refine lv_aload_n hx hb dX8_wayOf_14 rfl (lv_at hl 0 rfl) ?_
    refine mget_8 C K w dX8_wayOf_15 ?_
    refine lv_iload_n hx hb dX8_wayOf_18 rfl (lv_at hl 2 rfl) ?_
    obtain ⟨hi, hF⟩ := gin_if hF
    refine mald_8 C K w hi dX8_wayOf_19 ?_
    exact bX8_wayOf_20 C K E w (lv_sub hl [] rfl) hF
  · have hF := (if_pos c).symm.trans hF
    refine lv_iconst (v := (1 : Int32)) hx hb dX8_wayOf_10 (by decide) ?_
    refine lv_goto (tgt := 20) hx hb dX8_wayOf_11 (by decide) ?_
    exact bX8_wayOf_20 C K E w (lv_sub hl [] rfl) hF

theorem mX8_wayOf {l : Launch} {γ : wx_G} {o : Nat} {ad : Nat → Nat} {f : xF} {g : xG} {v1 : Int32} {v2 : Int32} {z : Int32} (hF : pX8_wayOf f g v1 v2 = some z) : wx_M γ l yX8_wayOf (ws_ yX8_wayOf cX8_wayOf 3 (some .int)) rmX8_wayOf [.ref o, .int v1, .int v2] (mw γ o ad f g) (fun v ws => v = some (.int z) ∧ ws = (mw γ o ad f g)) 0 0 := by
  refine wx_M.of (by decide) (Nat.le_of_ble_eq_true rfl) ?_
  intro p e s m as below meth c A ls C K w hr hlocks _ hl
  exact bX8_wayOf_0 C K (fun H locs ls pc w d => wx_iret C hr hlocks w ⟨rfl, rfl⟩ d) w hl hF
theorem rX8_wayOf {p : Program} {l : Launch} {e : Env} {R : Room} {s : State} {m : MethodId} {as : Array Value} {below : List Frame} {meth : Method} {c : Code} {H : Heap} {locs : List Loc} {cells slots : Nat} {Q : State → Prop} {cc : ByteArray} {nL pc : Nat} {ls : Array Slot} {rest : List Value} {γ : wx_G} {A : Nat → Prop} {o : Nat} {ad : Nat → Nat} {f : xF} {g : xG} {v1 : Int32} {v2 : Int32} {z : Int32} (C : CallFix p m c cc nL s as lw_all RX8) (K : wx_C γ A s) (w : wx_w γ A s H locs (mw γ o ad f g)) (hF : pX8_wayOf f g v1 v2 = some z) (hls : ls.size = nL) (hR : rmX8_wayOf.frames + 1 ≤ R.frames ∧ 8 + (3 + 11) + rmX8_wayOf.locals ≤ R.locals) (hW : (rest.map fun v => v.category).sum ≤ 8) (d : decode cc pc = .ok (.invokevirtual 290, 3)) (kk : ∀ (H : Heap) (locs : List Loc), wx_w γ A s H locs (mw γ o ad f g) → W p l e R s m as below meth c H locs cells slots Q (F0 m (pc + 3) ls (.int z :: rest))) (hf : cells ≤ R.cells ∧ slots ≤ R.slots := by exact ⟨Nat.le_of_ble_eq_true rfl, Nat.le_of_ble_eq_true rfl⟩) : W p l e R s m as below meth c H locs cells slots Q (F0 m pc ls (.int v2 :: .int v1 :: .ref o :: rest)) :=
  wx_callV (n := 2) C K w (mX8_wayOf (l := l) hF) q1640 q1642 qs85 q123 q1643 rfl rfl (by decide +kernel) (va_recv K.1.1 w.1 (ci := 0) (q0 := 0) rfl rfl) rfl rfl hR hls hW hf d (fun v ws H1 locs1 hp w => by obtain ⟨rfl, rfl⟩ := hp; exact kk H1 locs1 w)

/-! WalkingStonesModel.ahead(II)I -/
abbrev rmX8_ahead : Room := { frames := 1, cells := 0, slots := 0, locals := 23 }
def pX8_ahead_84 (f : xF) (g : xG) (t0 : Int32) : Option (Int32) := some (t0)

def pX8_ahead_83 (f : xF) (g : xG) : Option (Int32) := pX8_ahead_84 f g (-1 : Int32)

def pX8_ahead_47 (f : xF) (g : xG) (v3 : Int32) (t0 : Int32) (t1 : Int32) : Option (Int32) := (pX8_in f g v3 (0 : Int32) (63 : Int32)).bind (fun r55 => if r55 = 0 then pX8_ahead_83 f g else (pX8_in f g (t0 + t1) (0 : Int32) (63 : Int32)).bind (fun r67 => if r67 = 0 then pX8_ahead_83 f g else pX8_ahead_84 f g (((64 : Int32) * (t0 + t1)) + v3)))

def pX8_ahead_22 (f : xF) (g : xG) (v1 : Int32) (v2 : Int32) (t0 : Int32) (t1 : Int32) : Option (Int32) := if v2 = (1 : Int32) then pX8_ahead_47 f g (t0 + t1) (v1 / (64 : Int32)) (1 : Int32) else (if v2 = (3 : Int32) then pX8_ahead_47 f g (t0 + t1) (v1 / (64 : Int32)) (-1 : Int32) else pX8_ahead_47 f g (t0 + t1) (v1 / (64 : Int32)) (0 : Int32))

def pX8_ahead_0 (f : xF) (g : xG) (v1 : Int32) (v2 : Int32) : Option (Int32) := if v2 = 0 then pX8_ahead_22 f g v1 v2 (v1 - v1 / (64 : Int32) * (64 : Int32)) (1 : Int32) else (if v2 = (2 : Int32) then pX8_ahead_22 f g v1 v2 (v1 - v1 / (64 : Int32) * (64 : Int32)) (-1 : Int32) else pX8_ahead_22 f g v1 v2 (v1 - v1 / (64 : Int32) * (64 : Int32)) (0 : Int32))

abbrev pX8_ahead (f : xF) (g : xG) (v1 : Int32) (v2 : Int32) : Option (Int32) := pX8_ahead_0 f g v1 v2
theorem bX8_ahead_84 {p : Program} {l : Launch} {e : Env} {s : State} {m : MethodId} {as : Array Value} {below : List Frame} {meth : Method} {c : Code} {A : Nat → Prop} {Q : State → Prop} {γ : wx_G} {o : Nat} {ad : Nat → Nat} {z : Int32} {f : xF} {g : xG} (C : CallFix p m c cX8_ahead 5 s as lw_all RX8) (K : wx_C γ A s) (E : ∀ (H : Heap) (locs : List Loc) (ls : Array Slot) (pc : Nat), wx_w γ A s H locs (mw γ o ad f g) → decode cX8_ahead pc = .ok (.ireturn, 1) → W p l e rmX8_ahead s m as below meth c H locs 0 0 Q (F0 m pc ls [.int z])) {t0 : Int32} {H : Heap} {locs : List Loc} {ls : Array Slot} (w : wx_w γ A s H locs (mw γ o ad f g)) (hl : lv_has ls 5 []) (hF : pX8_ahead_84 f g t0 = some z) : W p l e rmX8_ahead s m as below meth c H locs 0 0 Q (F0 m 84 ls [.int t0]) := by
  have hx := C.1
  have hb := C.2.1
  unfold pX8_ahead_84 at hF
  have hF := Option.some.inj hF
  subst hF
  exact E _ _ _ _ w dX8_ahead_84

theorem bX8_ahead_83 {p : Program} {l : Launch} {e : Env} {s : State} {m : MethodId} {as : Array Value} {below : List Frame} {meth : Method} {c : Code} {A : Nat → Prop} {Q : State → Prop} {γ : wx_G} {o : Nat} {ad : Nat → Nat} {z : Int32} {f : xF} {g : xG} (C : CallFix p m c cX8_ahead 5 s as lw_all RX8) (K : wx_C γ A s) (E : ∀ (H : Heap) (locs : List Loc) (ls : Array Slot) (pc : Nat), wx_w γ A s H locs (mw γ o ad f g) → decode cX8_ahead pc = .ok (.ireturn, 1) → W p l e rmX8_ahead s m as below meth c H locs 0 0 Q (F0 m pc ls [.int z])) {H : Heap} {locs : List Loc} {ls : Array Slot} (w : wx_w γ A s H locs (mw γ o ad f g)) (hl : lv_has ls 5 []) (hF : pX8_ahead_83 f g = some z) : W p l e rmX8_ahead s m as below meth c H locs 0 0 Q (F0 m 83 ls []) := by
  have hx := C.1
  have hb := C.2.1
  unfold pX8_ahead_83 at hF
  refine lv_iconst (v := (-1 : Int32)) hx hb dX8_ahead_83 (by decide) ?_
  exact bX8_ahead_84 C K E w hl hF

theorem bX8_ahead_47 {p : Program} {l : Launch} {e : Env} {s : State} {m : MethodId} {as : Array Value} {below : List Frame} {meth : Method} {c : Code} {A : Nat → Prop} {Q : State → Prop} {γ : wx_G} {o : Nat} {ad : Nat → Nat} {z : Int32} {f : xF} {g : xG} (C : CallFix p m c cX8_ahead 5 s as lw_all RX8) (K : wx_C γ A s) (E : ∀ (H : Heap) (locs : List Loc) (ls : Array Slot) (pc : Nat), wx_w γ A s H locs (mw γ o ad f g) → decode cX8_ahead pc = .ok (.ireturn, 1) → W p l e rmX8_ahead s m as below meth c H locs 0 0 Q (F0 m pc ls [.int z])) {v3 : Int32} {t0 : Int32} {t1 : Int32} {H : Heap} {locs : List Loc} {ls : Array Slot} (w : wx_w γ A s H locs (mw γ o ad f g)) (hl : lv_has ls 5 [(0, .ref o), (3, .int v3)]) (hF : pX8_ahead_47 f g v3 t0 t1 = some z) : W p l e rmX8_ahead s m as below meth c H locs 0 0 Q (F0 m 47 ls [.int t1, .int t0]) := by
  have hx := C.1
  have hb := C.2.1
  unfold pX8_ahead_47 at hF
  refine lv_iadd hx hb dX8_ahead_47 ?_
  refine lv_istore (lv' := [(4, .int (t0 + t1)), (0, .ref o), (3, .int v3)]) hx hb dX8_ahead_48 hl (by decide) rfl (fun ls hl => ?_)
  refine lv_aload_n hx hb dX8_ahead_50 rfl (lv_at hl 1 rfl) ?_
  refine lv_iload_n hx hb dX8_ahead_51 rfl (lv_at hl 2 rfl) ?_
  refine lv_iconst (v := (0 : Int32)) hx hb dX8_ahead_52 (by decide) ?_
  refine lv_bipush (v := (63 : Int32)) hx hb dX8_ahead_53 (by decide) ?_
  obtain ⟨r55, hr, hF⟩ := obd hF
  refine rX8_in C K w hr hl.1 ⟨Nat.le_of_ble_eq_true rfl, Nat.le_of_ble_eq_true rfl⟩ (Nat.le_of_ble_eq_true rfl) dX8_ahead_55 (fun H locs w => ?_)
  refine lv_if_eq (tgt := 83) hx hb dX8_ahead_58 (by decide) (fun c => ?_) (fun c => ?_)
  · have hF := (if_pos c).symm.trans hF
    exact bX8_ahead_83 C K E w (lv_sub hl [] rfl) hF
  · have hF := (if_neg c).symm.trans hF
    refine lv_aload_n hx hb dX8_ahead_61 rfl (lv_at hl 1 rfl) ?_
    refine lv_iload hx hb dX8_ahead_62 (lv_at hl 0 rfl) ?_
    refine lv_iconst (v := (0 : Int32)) hx hb dX8_ahead_64 (by decide) ?_
    refine lv_bipush (v := (63 : Int32)) hx hb dX8_ahead_65 (by decide) ?_
    obtain ⟨r67, hr, hF⟩ := obd hF
    refine rX8_in C K w hr hl.1 ⟨Nat.le_of_ble_eq_true rfl, Nat.le_of_ble_eq_true rfl⟩ (Nat.le_of_ble_eq_true rfl) dX8_ahead_67 (fun H locs w => ?_)
    refine lv_if_eq (tgt := 83) hx hb dX8_ahead_70 (by decide) (fun c => ?_) (fun c => ?_)
    · have hF := (if_pos c).symm.trans hF
      exact bX8_ahead_83 C K E w (lv_sub hl [] rfl) hF
    · have hF := (if_neg c).symm.trans hF
      refine lv_bipush (v := (64 : Int32)) hx hb dX8_ahead_73 (by decide) ?_
      refine lv_iload hx hb dX8_ahead_75 (lv_at hl 0 rfl) ?_
      refine lv_imul hx hb dX8_ahead_77 ?_
      refine lv_iload_n hx hb dX8_ahead_78 rfl (lv_at hl 2 rfl) ?_
      refine lv_iadd hx hb dX8_ahead_79 ?_
      refine lv_goto (tgt := 84) hx hb dX8_ahead_80 (by decide) ?_
      exact bX8_ahead_84 C K E w (lv_sub hl [] rfl) hF

theorem bX8_ahead_22 {p : Program} {l : Launch} {e : Env} {s : State} {m : MethodId} {as : Array Value} {below : List Frame} {meth : Method} {c : Code} {A : Nat → Prop} {Q : State → Prop} {γ : wx_G} {o : Nat} {ad : Nat → Nat} {z : Int32} {f : xF} {g : xG} (C : CallFix p m c cX8_ahead 5 s as lw_all RX8) (K : wx_C γ A s) (E : ∀ (H : Heap) (locs : List Loc) (ls : Array Slot) (pc : Nat), wx_w γ A s H locs (mw γ o ad f g) → decode cX8_ahead pc = .ok (.ireturn, 1) → W p l e rmX8_ahead s m as below meth c H locs 0 0 Q (F0 m pc ls [.int z])) {v1 : Int32} {v2 : Int32} {t0 : Int32} {t1 : Int32} {H : Heap} {locs : List Loc} {ls : Array Slot} (w : wx_w γ A s H locs (mw γ o ad f g)) (hl : lv_has ls 5 [(0, .ref o), (1, .int v1), (2, .int v2)]) (hF : pX8_ahead_22 f g v1 v2 t0 t1 = some z) : W p l e rmX8_ahead s m as below meth c H locs 0 0 Q (F0 m 22 ls [.int t1, .int t0]) := by
  have hx := C.1
  have hb := C.2.1
  unfold pX8_ahead_22 at hF
  refine lv_iadd hx hb dX8_ahead_22 ?_
  refine lv_istore_n (lv' := [(3, .int (t0 + t1)), (0, .ref o), (1, .int v1), (2, .int v2)]) hx hb dX8_ahead_23 rfl hl (by decide) rfl (fun ls hl => ?_)
  refine lv_iload_n hx hb dX8_ahead_24 rfl (lv_at hl 2 rfl) ?_
  refine lv_bipush (v := (64 : Int32)) hx hb dX8_ahead_25 (by decide) ?_
  refine lv_idiv hx hb dX8_ahead_27 (by decide) ?_
  refine lv_iload_n hx hb dX8_ahead_28 rfl (lv_at hl 3 rfl) ?_
  refine lv_iconst (v := (1 : Int32)) hx hb dX8_ahead_29 (by decide) ?_
  refine lv_icmp_ne (tgt := 37) hx hb dX8_ahead_30 (by decide) (fun c => ?_) (fun c => ?_)
  · have hF := (if_neg c).symm.trans hF
    refine lv_iload_n hx hb dX8_ahead_37 rfl (lv_at hl 3 rfl) ?_
    refine lv_iconst (v := (3 : Int32)) hx hb dX8_ahead_38 (by decide) ?_
    refine lv_icmp_ne (tgt := 46) hx hb dX8_ahead_39 (by decide) (fun c => ?_) (fun c => ?_)
    · have hF := (if_neg c).symm.trans hF
      refine lv_iconst (v := (0 : Int32)) hx hb dX8_ahead_46 (by decide) ?_
      exact bX8_ahead_47 C K E w (lv_sub hl [1, 0] rfl) hF
    · have hF := (if_pos c).symm.trans hF
      refine lv_iconst (v := (-1 : Int32)) hx hb dX8_ahead_42 (by decide) ?_
      refine lv_goto (tgt := 47) hx hb dX8_ahead_43 (by decide) ?_
      exact bX8_ahead_47 C K E w (lv_sub hl [1, 0] rfl) hF
  · have hF := (if_pos c).symm.trans hF
    refine lv_iconst (v := (1 : Int32)) hx hb dX8_ahead_33 (by decide) ?_
    refine lv_goto (tgt := 47) hx hb dX8_ahead_34 (by decide) ?_
    exact bX8_ahead_47 C K E w (lv_sub hl [1, 0] rfl) hF

theorem bX8_ahead_0 {p : Program} {l : Launch} {e : Env} {s : State} {m : MethodId} {as : Array Value} {below : List Frame} {meth : Method} {c : Code} {A : Nat → Prop} {Q : State → Prop} {γ : wx_G} {o : Nat} {ad : Nat → Nat} {z : Int32} {f : xF} {g : xG} (C : CallFix p m c cX8_ahead 5 s as lw_all RX8) (K : wx_C γ A s) (E : ∀ (H : Heap) (locs : List Loc) (ls : Array Slot) (pc : Nat), wx_w γ A s H locs (mw γ o ad f g) → decode cX8_ahead pc = .ok (.ireturn, 1) → W p l e rmX8_ahead s m as below meth c H locs 0 0 Q (F0 m pc ls [.int z])) {v1 : Int32} {v2 : Int32} {H : Heap} {locs : List Loc} {ls : Array Slot} (w : wx_w γ A s H locs (mw γ o ad f g)) (hl : lv_has ls 5 [(0, .ref o), (1, .int v1), (2, .int v2)]) (hF : pX8_ahead_0 f g v1 v2 = some z) : W p l e rmX8_ahead s m as below meth c H locs 0 0 Q (F0 m 0 ls []) := by
  have hx := C.1
  have hb := C.2.1
  unfold pX8_ahead_0 at hF
  refine lv_iload_n hx hb dX8_ahead_0 rfl (lv_at hl 1 rfl) ?_
  refine lv_bipush (v := (64 : Int32)) hx hb dX8_ahead_1 (by decide) ?_
  refine lv_irem hx hb dX8_ahead_3 (by decide) ?_
  refine lv_iload_n hx hb dX8_ahead_4 rfl (lv_at hl 2 rfl) ?_
  refine lv_if_ne (tgt := 12) hx hb dX8_ahead_5 (by decide) (fun c => ?_) (fun c => ?_)
  · have hF := (if_neg c).symm.trans hF
    refine lv_iload_n hx hb dX8_ahead_12 rfl (lv_at hl 2 rfl) ?_
    refine lv_iconst (v := (2 : Int32)) hx hb dX8_ahead_13 (by decide) ?_
    refine lv_icmp_ne (tgt := 21) hx hb dX8_ahead_14 (by decide) (fun c => ?_) (fun c => ?_)
    · have hF := (if_neg c).symm.trans hF
      refine lv_iconst (v := (0 : Int32)) hx hb dX8_ahead_21 (by decide) ?_
      exact bX8_ahead_22 C K E w hl hF
    · have hF := (if_pos c).symm.trans hF
      refine lv_iconst (v := (-1 : Int32)) hx hb dX8_ahead_17 (by decide) ?_
      refine lv_goto (tgt := 22) hx hb dX8_ahead_18 (by decide) ?_
      exact bX8_ahead_22 C K E w hl hF
  · have hF := (if_pos c).symm.trans hF
    refine lv_iconst (v := (1 : Int32)) hx hb dX8_ahead_8 (by decide) ?_
    refine lv_goto (tgt := 22) hx hb dX8_ahead_9 (by decide) ?_
    exact bX8_ahead_22 C K E w hl hF

theorem mX8_ahead {l : Launch} {γ : wx_G} {o : Nat} {ad : Nat → Nat} {f : xF} {g : xG} {v1 : Int32} {v2 : Int32} {z : Int32} (hF : pX8_ahead f g v1 v2 = some z) : wx_M γ l yX8_ahead (ws_ yX8_ahead cX8_ahead 5 (some .int)) rmX8_ahead [.ref o, .int v1, .int v2] (mw γ o ad f g) (fun v ws => v = some (.int z) ∧ ws = (mw γ o ad f g)) 0 0 := by
  refine wx_M.of (by decide) (Nat.le_of_ble_eq_true rfl) ?_
  intro p e s m as below meth c A ls C K w hr hlocks _ hl
  exact bX8_ahead_0 C K (fun H locs ls pc w d => wx_iret C hr hlocks w ⟨rfl, rfl⟩ d) w hl hF
theorem rX8_ahead {p : Program} {l : Launch} {e : Env} {R : Room} {s : State} {m : MethodId} {as : Array Value} {below : List Frame} {meth : Method} {c : Code} {H : Heap} {locs : List Loc} {cells slots : Nat} {Q : State → Prop} {cc : ByteArray} {nL pc : Nat} {ls : Array Slot} {rest : List Value} {γ : wx_G} {A : Nat → Prop} {o : Nat} {ad : Nat → Nat} {f : xF} {g : xG} {v1 : Int32} {v2 : Int32} {z : Int32} (C : CallFix p m c cc nL s as lw_all RX8) (K : wx_C γ A s) (w : wx_w γ A s H locs (mw γ o ad f g)) (hF : pX8_ahead f g v1 v2 = some z) (hls : ls.size = nL) (hR : rmX8_ahead.frames + 1 ≤ R.frames ∧ 8 + (5 + 11) + rmX8_ahead.locals ≤ R.locals) (hW : (rest.map fun v => v.category).sum ≤ 8) (d : decode cc pc = .ok (.invokevirtual 293, 3)) (kk : ∀ (H : Heap) (locs : List Loc), wx_w γ A s H locs (mw γ o ad f g) → W p l e R s m as below meth c H locs cells slots Q (F0 m (pc + 3) ls (.int z :: rest))) (hf : cells ≤ R.cells ∧ slots ≤ R.slots := by exact ⟨Nat.le_of_ble_eq_true rfl, Nat.le_of_ble_eq_true rfl⟩) : W p l e R s m as below meth c H locs cells slots Q (F0 m pc ls (.int v2 :: .int v1 :: .ref o :: rest)) :=
  wx_callV (n := 2) C K w (mX8_ahead (l := l) hF) q1644 q1646 qs86 q123 q1647 rfl rfl (by decide +kernel) (va_recv K.1.1 w.1 (ci := 0) (q0 := 0) rfl rfl) rfl rfl hR hls hW hf d (fun v ws H1 locs1 hp w => by obtain ⟨rfl, rfl⟩ := hp; exact kk H1 locs1 w)

/-! WalkingStonesModel.isFree(I)Z -/
abbrev rmX8_isFree : Room := { frames := 0, cells := 0, slots := 0, locals := 0 }
def pX8_isFree_2 (f : xF) (g : xG) : Nat → Int32 → Int32 → Option (Int32)
  | 0, _, _ => none
  | n + 1, v1, v2 => if (f 0) ≤ v2 then some ((1 : Int32)) else (if gin v2 10 = true then if (g 28 v2.toNatClampNeg) = v1 then some ((0 : Int32)) else pX8_isFree_2 f g n v1 (v2 + 1) else none)

def pX8_isFree_0 (f : xF) (g : xG) (v1 : Int32) : Option (Int32) := pX8_isFree_2 f g 5000 v1 (0 : Int32)

abbrev pX8_isFree (f : xF) (g : xG) (v1 : Int32) : Option (Int32) := pX8_isFree_0 f g v1
theorem bX8_isFree_2 {p : Program} {l : Launch} {e : Env} {s : State} {m : MethodId} {as : Array Value} {below : List Frame} {meth : Method} {c : Code} {A : Nat → Prop} {Q : State → Prop} {γ : wx_G} {o : Nat} {ad : Nat → Nat} {z : Int32} {f : xF} {g : xG} (C : CallFix p m c cX8_isFree 3 s as lw_all RX8) (K : wx_C γ A s) (E : ∀ (H : Heap) (locs : List Loc) (ls : Array Slot) (pc : Nat), narrow .boolean (.int z) = .int z → wx_w γ A s H locs (mw γ o ad f g) → decode cX8_isFree pc = .ok (.ireturn, 1) → W p l e rmX8_isFree s m as below meth c H locs 0 0 Q (F0 m pc ls [.int z])) : ∀ (n : Nat) (v1 : Int32) (v2 : Int32) (H : Heap) (locs : List Loc) (ls : Array Slot), pX8_isFree_2 f g n v1 v2 = some z → wx_w γ A s H locs (mw γ o ad f g) → lv_has ls 3 [(0, .ref o), (1, .int v1), (2, .int v2)] → W p l e rmX8_isFree s m as below meth c H locs 0 0 Q (F0 m 2 ls []) := by
  have hx := C.1
  have hb := C.2.1
  intro n
  induction n with
  | zero =>
    intro v1 v2 H locs ls hF w hl
    have hF : (none : Option (Int32)) = some z := hF
    cases hF
  | succ n ih =>
    intro v1 v2 H locs ls hF w hl
    rw [pX8_isFree_2] at hF
    refine lv_iload_n hx hb dX8_isFree_2 rfl (lv_at hl 2 rfl) ?_
    refine lv_aload_n hx hb dX8_isFree_3 rfl (lv_at hl 0 rfl) ?_
    refine mget_0 C K w dX8_isFree_4 ?_
    refine lv_icmp_ge (tgt := 28) hx hb dX8_isFree_7 (by decide) (fun c => ?_) (fun c => ?_)
    · have hF := (if_pos c).symm.trans hF
      refine lv_iconst (v := (1 : Int32)) hx hb dX8_isFree_28 (by decide) ?_
      have hF := Option.some.inj hF
      subst hF
      exact E _ _ _ _ wx_nz1 w dX8_isFree_29
    · have hF := (if_neg c).symm.trans hF
      refine lv_aload_n hx hb dX8_isFree_10 rfl (lv_at hl 0 rfl) ?_
      refine mget_28 C K w dX8_isFree_11 ?_
      refine lv_iload_n hx hb dX8_isFree_14 rfl (lv_at hl 2 rfl) ?_
      obtain ⟨hi, hF⟩ := gin_if hF
      refine mald_28 C K w hi dX8_isFree_15 ?_
      refine lv_iload_n hx hb dX8_isFree_16 rfl (lv_at hl 1 rfl) ?_
      refine lv_icmp_ne (tgt := 22) hx hb dX8_isFree_17 (by decide) (fun c => ?_) (fun c => ?_)
      · have hF := (if_neg c).symm.trans hF
        refine lv_iinc (v := v2 + 1) (lv' := [(2, .int (v2 + 1)), (0, .ref o), (1, .int v1)]) hx hb dX8_isFree_22 hl (k := 2) rfl rfl (by decide) rfl (fun ls hl => ?_)
        refine lv_goto (tgt := 2) hx hb dX8_isFree_25 (by decide) ?_
        exact ih _ _ _ _ _ hF w (lv_sub hl [1, 2, 0] rfl)
      · have hF := (if_pos c).symm.trans hF
        refine lv_iconst (v := (0 : Int32)) hx hb dX8_isFree_20 (by decide) ?_
        have hF := Option.some.inj hF
        subst hF
        exact E _ _ _ _ wx_nz0 w dX8_isFree_21

theorem bX8_isFree_0 {p : Program} {l : Launch} {e : Env} {s : State} {m : MethodId} {as : Array Value} {below : List Frame} {meth : Method} {c : Code} {A : Nat → Prop} {Q : State → Prop} {γ : wx_G} {o : Nat} {ad : Nat → Nat} {z : Int32} {f : xF} {g : xG} (C : CallFix p m c cX8_isFree 3 s as lw_all RX8) (K : wx_C γ A s) (E : ∀ (H : Heap) (locs : List Loc) (ls : Array Slot) (pc : Nat), narrow .boolean (.int z) = .int z → wx_w γ A s H locs (mw γ o ad f g) → decode cX8_isFree pc = .ok (.ireturn, 1) → W p l e rmX8_isFree s m as below meth c H locs 0 0 Q (F0 m pc ls [.int z])) {v1 : Int32} {H : Heap} {locs : List Loc} {ls : Array Slot} (w : wx_w γ A s H locs (mw γ o ad f g)) (hl : lv_has ls 3 [(0, .ref o), (1, .int v1)]) (hF : pX8_isFree_0 f g v1 = some z) : W p l e rmX8_isFree s m as below meth c H locs 0 0 Q (F0 m 0 ls []) := by
  have hx := C.1
  have hb := C.2.1
  unfold pX8_isFree_0 at hF
  refine lv_iconst (v := (0 : Int32)) hx hb dX8_isFree_0 (by decide) ?_
  refine lv_istore_n (lv' := [(2, .int (0 : Int32)), (0, .ref o), (1, .int v1)]) hx hb dX8_isFree_1 rfl hl (by decide) rfl (fun ls hl => ?_)
  exact bX8_isFree_2 C K E 5000 _ _ _ _ _ hF w (lv_sub hl [1, 2, 0] rfl)

theorem mX8_isFree {l : Launch} {γ : wx_G} {o : Nat} {ad : Nat → Nat} {f : xF} {g : xG} {v1 : Int32} {z : Int32} (hF : pX8_isFree f g v1 = some z) : wx_M γ l yX8_isFree (ws_ yX8_isFree cX8_isFree 3 (some .boolean)) rmX8_isFree [.ref o, .int v1] (mw γ o ad f g) (fun v ws => v = some (.int z) ∧ ws = (mw γ o ad f g)) 0 0 := by
  refine wx_M.of (by decide) (Nat.le_of_ble_eq_true rfl) ?_
  intro p e s m as below meth c A ls C K w hr hlocks _ hl
  exact bX8_isFree_0 C K (fun H locs ls pc hz w d => wx_zret C hr hlocks hz w ⟨rfl, rfl⟩ d) w hl hF
theorem rX8_isFree {p : Program} {l : Launch} {e : Env} {R : Room} {s : State} {m : MethodId} {as : Array Value} {below : List Frame} {meth : Method} {c : Code} {H : Heap} {locs : List Loc} {cells slots : Nat} {Q : State → Prop} {cc : ByteArray} {nL pc : Nat} {ls : Array Slot} {rest : List Value} {γ : wx_G} {A : Nat → Prop} {o : Nat} {ad : Nat → Nat} {f : xF} {g : xG} {v1 : Int32} {z : Int32} (C : CallFix p m c cc nL s as lw_all RX8) (K : wx_C γ A s) (w : wx_w γ A s H locs (mw γ o ad f g)) (hF : pX8_isFree f g v1 = some z) (hls : ls.size = nL) (hR : rmX8_isFree.frames + 1 ≤ R.frames ∧ 8 + (3 + 11) + rmX8_isFree.locals ≤ R.locals) (hW : (rest.map fun v => v.category).sum ≤ 8) (d : decode cc pc = .ok (.invokevirtual 296, 3)) (kk : ∀ (H : Heap) (locs : List Loc), wx_w γ A s H locs (mw γ o ad f g) → W p l e R s m as below meth c H locs cells slots Q (F0 m (pc + 3) ls (.int z :: rest))) (hf : cells ≤ R.cells ∧ slots ≤ R.slots := by exact ⟨Nat.le_of_ble_eq_true rfl, Nat.le_of_ble_eq_true rfl⟩) : W p l e R s m as below meth c H locs cells slots Q (F0 m pc ls (.int v1 :: .ref o :: rest)) :=
  wx_callV (n := 1) C K w (mX8_isFree (l := l) hF) q1648 q1650 qs87 q123 q1651 rfl rfl (by decide +kernel) (va_recv K.1.1 w.1 (ci := 0) (q0 := 0) rfl rfl) rfl rfl hR hls hW hf d (fun v ws H1 locs1 hp w => by obtain ⟨rfl, rfl⟩ := hp; exact kk H1 locs1 w)

/-! WalkingStonesModel.goNight(II)V -/
abbrev rmX8_goNight : Room := { frames := 4, cells := 0, slots := 0, locals := 98 }
def pX8_goNight_155 (k10 : xF → xG → Int32 → Int32 → Int32 → Int32 → Option (xF × xG)) (f : xF) (g : xG) (v1 : Int32) (v2 : Int32) (v3 : Int32) (v4 : Int32) : Option (xF × xG) := k10 f g v1 v2 v3 (v4 + 1)

def pX8_goNight_145 (k10 : xF → xG → Int32 → Int32 → Int32 → Int32 → Option (xF × xG)) (f : xF) (g : xG) (v1 : Int32) (v2 : Int32) (v3 : Int32) (v4 : Int32) (t1 : Int32) (t2 : Int32) (t3 : Int32) : Option (xF × xG) := if gin t1 10 = true then if gin v4 10 = true then pX8_goNight_155 k10 f (va_up (va_up g 30 (upd (g 30) t1.toNatClampNeg (t2 + t3))) 31 (upd ((va_up g 30 (upd (g 30) t1.toNatClampNeg (t2 + t3))) 31) v4.toNatClampNeg v3)) v1 v2 v3 v4 else none else none

def pX8_goNight_144 (k10 : xF → xG → Int32 → Int32 → Int32 → Int32 → Option (xF × xG)) (f : xF) (g : xG) (v1 : Int32) (v2 : Int32) (v3 : Int32) (v4 : Int32) (t1 : Int32) (t2 : Int32) : Option (xF × xG) := pX8_goNight_145 k10 f g v1 v2 v3 v4 t1 t2 (0 : Int32)

def pX8_goNight_103 (k10 : xF → xG → Int32 → Int32 → Int32 → Int32 → Option (xF × xG)) (f : xF) (g : xG) (v1 : Int32) (v2 : Int32) (v3 : Int32) (v4 : Int32) (v7 : Int32) : Option (xF × xG) := if v7 = 0 then pX8_goNight_155 k10 f g v1 v2 v3 v4 else (if gin v4 10 = true then if gin v4 10 = true then if (g 31 v4.toNatClampNeg) < 0 then pX8_goNight_144 k10 f g v1 v2 v3 v4 v4 (g 30 v4.toNatClampNeg) else (if gin v4 10 = true then if (g 31 v4.toNatClampNeg) = v3 then pX8_goNight_144 k10 f g v1 v2 v3 v4 v4 (g 30 v4.toNatClampNeg) else pX8_goNight_145 k10 f g v1 v2 v3 v4 v4 (g 30 v4.toNatClampNeg) (1 : Int32) else none) else none else none)

def pX8_goNight_46 (k10 : xF → xG → Int32 → Int32 → Int32 → Int32 → Option (xF × xG)) : Nat → xF → xG → Int32 → Int32 → Int32 → Int32 → Int32 → Int32 → Int32 → Option (xF × xG)
  | 0, _, _, _, _, _, _, _, _, _ => none
  | n + 1, f, g, v1, v2, v3, v4, v5, v6, v7 => if v5 ≤ 0 then pX8_goNight_103 k10 f g v1 v2 v3 v4 v7 else (if v6 < 0 then pX8_goNight_103 k10 f g v1 v2 v3 v4 v7 else (pX8_isFree f g v6).bind (fun r59 => if r59 = 0 then pX8_goNight_103 k10 f g v1 v2 v3 v4 v7 else (if gin v4 10 = true then if gin v4 10 = true then if gin v4 10 = true then (pX8_ahead f (va_up (va_up g 28 (upd (g 28) v4.toNatClampNeg v6)) 29 (upd ((va_up g 28 (upd (g 28) v4.toNatClampNeg v6)) 29) v4.toNatClampNeg (((va_up g 28 (upd (g 28) v4.toNatClampNeg v6)) 29 v4.toNatClampNeg) + (1 : Int32)))) v6 v3).bind (fun r95 => pX8_goNight_46 k10 n f (va_up (va_up g 28 (upd (g 28) v4.toNatClampNeg v6)) 29 (upd ((va_up g 28 (upd (g 28) v4.toNatClampNeg v6)) 29) v4.toNatClampNeg (((va_up g 28 (upd (g 28) v4.toNatClampNeg v6)) 29 v4.toNatClampNeg) + (1 : Int32)))) v1 v2 v3 v4 (v5 + (-1)) r95 (1 : Int32)) else none else none else none)))

def pX8_goNight_10 : Nat → xF → xG → Int32 → Int32 → Int32 → Int32 → Option (xF × xG)
  | 0, _, _, _, _, _, _ => none
  | n + 1, f, g, v1, v2, v3, v4 => if (f 0) ≤ v4 then some (f, g) else (pX8_pushes f g v1 v4 v2).bind (fun r24 => if gin v4 10 = true then (pX8_ahead r24.2.1 r24.2.2 (r24.2.2 28 v4.toNatClampNeg) v3).bind (fun r38 => pX8_goNight_46 (pX8_goNight_10 n) 5000 r24.2.1 r24.2.2 v1 v2 v3 v4 r24.1 r38 (0 : Int32)) else none)

def pX8_goNight_0 (f : xF) (g : xG) (v1 : Int32) (v2 : Int32) : Option (xF × xG) := (pX8_wayOf f g v1 v2).bind (fun r3 => pX8_goNight_10 5000 f g v1 v2 r3 (0 : Int32))

abbrev pX8_goNight (f : xF) (g : xG) (v1 : Int32) (v2 : Int32) : Option (xF × xG) := pX8_goNight_0 f g v1 v2
theorem bX8_goNight_155 {p : Program} {l : Launch} {e : Env} {s : State} {m : MethodId} {as : Array Value} {below : List Frame} {meth : Method} {c : Code} {A : Nat → Prop} {Q : State → Prop} {γ : wx_G} {o : Nat} {ad : Nat → Nat} {z : xF × xG} (C : CallFix p m c cX8_goNight 8 s as lw_all RX8) (K : wx_C γ A s) (E : ∀ (H : Heap) (locs : List Loc) (ls : Array Slot) (pc : Nat), wx_w γ A s H locs (mw γ o ad z.1 z.2) → decode cX8_goNight pc = .ok (.return_, 1) → W p l e rmX8_goNight s m as below meth c H locs 0 0 Q (F0 m pc ls [])) {k10 : xF → xG → Int32 → Int32 → Int32 → Int32 → Option (xF × xG)} (hk10 : ∀ (f : xF) (g : xG) (v1 : Int32) (v2 : Int32) (v3 : Int32) (v4 : Int32) (H : Heap) (locs : List Loc) (ls : Array Slot), k10 f g v1 v2 v3 v4 = some z → wx_w γ A s H locs (mw γ o ad f g) → lv_has ls 8 [(0, .ref o), (1, .int v1), (2, .int v2), (3, .int v3), (4, .int v4)] → W p l e rmX8_goNight s m as below meth c H locs 0 0 Q (F0 m 10 ls [])) {f : xF} {g : xG} {v1 : Int32} {v2 : Int32} {v3 : Int32} {v4 : Int32} {H : Heap} {locs : List Loc} {ls : Array Slot} (w : wx_w γ A s H locs (mw γ o ad f g)) (hl : lv_has ls 8 [(0, .ref o), (1, .int v1), (2, .int v2), (3, .int v3), (4, .int v4)]) (hF : pX8_goNight_155 k10 f g v1 v2 v3 v4 = some z) : W p l e rmX8_goNight s m as below meth c H locs 0 0 Q (F0 m 155 ls []) := by
  have hx := C.1
  have hb := C.2.1
  unfold pX8_goNight_155 at hF
  refine lv_iinc (v := v4 + 1) (lv' := [(4, .int (v4 + 1)), (0, .ref o), (1, .int v1), (2, .int v2), (3, .int v3)]) hx hb dX8_goNight_155 hl (k := 4) rfl rfl (by decide) rfl (fun ls hl => ?_)
  refine lv_goto (tgt := 10) hx hb dX8_goNight_158 (by decide) ?_
  exact hk10 _ _ _ _ _ _ _ _ _ hF w (lv_sub hl [1, 2, 3, 4, 0] rfl)

theorem bX8_goNight_145 {p : Program} {l : Launch} {e : Env} {s : State} {m : MethodId} {as : Array Value} {below : List Frame} {meth : Method} {c : Code} {A : Nat → Prop} {Q : State → Prop} {γ : wx_G} {o : Nat} {ad : Nat → Nat} {z : xF × xG} (C : CallFix p m c cX8_goNight 8 s as lw_all RX8) (K : wx_C γ A s) (E : ∀ (H : Heap) (locs : List Loc) (ls : Array Slot) (pc : Nat), wx_w γ A s H locs (mw γ o ad z.1 z.2) → decode cX8_goNight pc = .ok (.return_, 1) → W p l e rmX8_goNight s m as below meth c H locs 0 0 Q (F0 m pc ls [])) {k10 : xF → xG → Int32 → Int32 → Int32 → Int32 → Option (xF × xG)} (hk10 : ∀ (f : xF) (g : xG) (v1 : Int32) (v2 : Int32) (v3 : Int32) (v4 : Int32) (H : Heap) (locs : List Loc) (ls : Array Slot), k10 f g v1 v2 v3 v4 = some z → wx_w γ A s H locs (mw γ o ad f g) → lv_has ls 8 [(0, .ref o), (1, .int v1), (2, .int v2), (3, .int v3), (4, .int v4)] → W p l e rmX8_goNight s m as below meth c H locs 0 0 Q (F0 m 10 ls [])) {f : xF} {g : xG} {v1 : Int32} {v2 : Int32} {v3 : Int32} {v4 : Int32} {t1 : Int32} {t2 : Int32} {t3 : Int32} {H : Heap} {locs : List Loc} {ls : Array Slot} (w : wx_w γ A s H locs (mw γ o ad f g)) (hl : lv_has ls 8 [(0, .ref o), (1, .int v1), (2, .int v2), (3, .int v3), (4, .int v4)]) (hF : pX8_goNight_145 k10 f g v1 v2 v3 v4 t1 t2 t3 = some z) : W p l e rmX8_goNight s m as below meth c H locs 0 0 Q (F0 m 145 ls [.int t3, .int t2, .int t1, .ref (ad 30)]) := by
  have hx := C.1
  have hb := C.2.1
  unfold pX8_goNight_145 at hF
  refine lv_iadd hx hb dX8_goNight_145 ?_
  obtain ⟨hi, hF⟩ := gin_if hF
  refine mast_30 C K w hi dX8_goNight_146 (fun H locs w => ?_)
  refine lv_aload_n hx hb dX8_goNight_147 rfl (lv_at hl 0 rfl) ?_
  refine mget_31 C K w dX8_goNight_148 ?_
  refine lv_iload hx hb dX8_goNight_151 (lv_at hl 4 rfl) ?_
  refine lv_iload_n hx hb dX8_goNight_153 rfl (lv_at hl 3 rfl) ?_
  obtain ⟨hi, hF⟩ := gin_if hF
  refine mast_31 C K w hi dX8_goNight_154 (fun H locs w => ?_)
  exact bX8_goNight_155 C K E hk10 w hl hF

theorem bX8_goNight_144 {p : Program} {l : Launch} {e : Env} {s : State} {m : MethodId} {as : Array Value} {below : List Frame} {meth : Method} {c : Code} {A : Nat → Prop} {Q : State → Prop} {γ : wx_G} {o : Nat} {ad : Nat → Nat} {z : xF × xG} (C : CallFix p m c cX8_goNight 8 s as lw_all RX8) (K : wx_C γ A s) (E : ∀ (H : Heap) (locs : List Loc) (ls : Array Slot) (pc : Nat), wx_w γ A s H locs (mw γ o ad z.1 z.2) → decode cX8_goNight pc = .ok (.return_, 1) → W p l e rmX8_goNight s m as below meth c H locs 0 0 Q (F0 m pc ls [])) {k10 : xF → xG → Int32 → Int32 → Int32 → Int32 → Option (xF × xG)} (hk10 : ∀ (f : xF) (g : xG) (v1 : Int32) (v2 : Int32) (v3 : Int32) (v4 : Int32) (H : Heap) (locs : List Loc) (ls : Array Slot), k10 f g v1 v2 v3 v4 = some z → wx_w γ A s H locs (mw γ o ad f g) → lv_has ls 8 [(0, .ref o), (1, .int v1), (2, .int v2), (3, .int v3), (4, .int v4)] → W p l e rmX8_goNight s m as below meth c H locs 0 0 Q (F0 m 10 ls [])) {f : xF} {g : xG} {v1 : Int32} {v2 : Int32} {v3 : Int32} {v4 : Int32} {t1 : Int32} {t2 : Int32} {H : Heap} {locs : List Loc} {ls : Array Slot} (w : wx_w γ A s H locs (mw γ o ad f g)) (hl : lv_has ls 8 [(0, .ref o), (1, .int v1), (2, .int v2), (3, .int v3), (4, .int v4)]) (hF : pX8_goNight_144 k10 f g v1 v2 v3 v4 t1 t2 = some z) : W p l e rmX8_goNight s m as below meth c H locs 0 0 Q (F0 m 144 ls [.int t2, .int t1, .ref (ad 30)]) := by
  have hx := C.1
  have hb := C.2.1
  unfold pX8_goNight_144 at hF
  refine lv_iconst (v := (0 : Int32)) hx hb dX8_goNight_144 (by decide) ?_
  exact bX8_goNight_145 C K E hk10 w hl hF

theorem bX8_goNight_103 {p : Program} {l : Launch} {e : Env} {s : State} {m : MethodId} {as : Array Value} {below : List Frame} {meth : Method} {c : Code} {A : Nat → Prop} {Q : State → Prop} {γ : wx_G} {o : Nat} {ad : Nat → Nat} {z : xF × xG} (C : CallFix p m c cX8_goNight 8 s as lw_all RX8) (K : wx_C γ A s) (E : ∀ (H : Heap) (locs : List Loc) (ls : Array Slot) (pc : Nat), wx_w γ A s H locs (mw γ o ad z.1 z.2) → decode cX8_goNight pc = .ok (.return_, 1) → W p l e rmX8_goNight s m as below meth c H locs 0 0 Q (F0 m pc ls [])) {k10 : xF → xG → Int32 → Int32 → Int32 → Int32 → Option (xF × xG)} (hk10 : ∀ (f : xF) (g : xG) (v1 : Int32) (v2 : Int32) (v3 : Int32) (v4 : Int32) (H : Heap) (locs : List Loc) (ls : Array Slot), k10 f g v1 v2 v3 v4 = some z → wx_w γ A s H locs (mw γ o ad f g) → lv_has ls 8 [(0, .ref o), (1, .int v1), (2, .int v2), (3, .int v3), (4, .int v4)] → W p l e rmX8_goNight s m as below meth c H locs 0 0 Q (F0 m 10 ls [])) {f : xF} {g : xG} {v1 : Int32} {v2 : Int32} {v3 : Int32} {v4 : Int32} {v7 : Int32} {H : Heap} {locs : List Loc} {ls : Array Slot} (w : wx_w γ A s H locs (mw γ o ad f g)) (hl : lv_has ls 8 [(0, .ref o), (1, .int v1), (2, .int v2), (3, .int v3), (4, .int v4), (7, .int v7)]) (hF : pX8_goNight_103 k10 f g v1 v2 v3 v4 v7 = some z) : W p l e rmX8_goNight s m as below meth c H locs 0 0 Q (F0 m 103 ls []) := by
  have hx := C.1
  have hb := C.2.1
  unfold pX8_goNight_103 at hF
  refine lv_iload hx hb dX8_goNight_103 (lv_at hl 5 rfl) ?_
  refine lv_if_ne (tgt := 111) hx hb dX8_goNight_105 (by decide) (fun c => ?_) (fun c => ?_)
  · have hF := (if_neg c).symm.trans hF
    refine lv_aload_n hx hb dX8_goNight_111 rfl (lv_at hl 0 rfl) ?_
    refine mget_30 C K w dX8_goNight_112 ?_
    refine lv_iload hx hb dX8_goNight_115 (lv_at hl 4 rfl) ?_
    refine lv_dup2_11 hx hb dX8_goNight_117 rfl rfl ?_
    obtain ⟨hi, hF⟩ := gin_if hF
    refine mald_30 C K w hi dX8_goNight_118 ?_
    refine lv_aload_n hx hb dX8_goNight_119 rfl (lv_at hl 0 rfl) ?_
    refine mget_31 C K w dX8_goNight_120 ?_
    refine lv_iload hx hb dX8_goNight_123 (lv_at hl 4 rfl) ?_
    obtain ⟨hi, hF⟩ := gin_if hF
    refine mald_31 C K w hi dX8_goNight_125 ?_
    refine lv_if_lt (tgt := 144) hx hb dX8_goNight_126 (by decide) (fun c => ?_) (fun c => ?_)
    · have hF := (if_pos c).symm.trans hF
      exact bX8_goNight_144 C K E hk10 w (lv_sub hl [0, 1, 2, 3, 4] rfl) hF
    · have hF := (if_neg c).symm.trans hF
      refine lv_aload_n hx hb dX8_goNight_129 rfl (lv_at hl 0 rfl) ?_
      refine mget_31 C K w dX8_goNight_130 ?_
      refine lv_iload hx hb dX8_goNight_133 (lv_at hl 4 rfl) ?_
      obtain ⟨hi, hF⟩ := gin_if hF
      refine mald_31 C K w hi dX8_goNight_135 ?_
      refine lv_iload_n hx hb dX8_goNight_136 rfl (lv_at hl 3 rfl) ?_
      refine lv_icmp_eq (tgt := 144) hx hb dX8_goNight_137 (by decide) (fun c => ?_) (fun c => ?_)
      · have hF := (if_pos c).symm.trans hF
        exact bX8_goNight_144 C K E hk10 w (lv_sub hl [0, 1, 2, 3, 4] rfl) hF
      · have hF := (if_neg c).symm.trans hF
        refine lv_iconst (v := (1 : Int32)) hx hb dX8_goNight_140 (by decide) ?_
        refine lv_goto (tgt := 145) hx hb dX8_goNight_141 (by decide) ?_
        exact bX8_goNight_145 C K E hk10 w (lv_sub hl [0, 1, 2, 3, 4] rfl) hF
  · have hF := (if_pos c).symm.trans hF
    refine lv_goto (tgt := 155) hx hb dX8_goNight_108 (by decide) ?_
    exact bX8_goNight_155 C K E hk10 w (lv_sub hl [0, 1, 2, 3, 4] rfl) hF

theorem bX8_goNight_46 {p : Program} {l : Launch} {e : Env} {s : State} {m : MethodId} {as : Array Value} {below : List Frame} {meth : Method} {c : Code} {A : Nat → Prop} {Q : State → Prop} {γ : wx_G} {o : Nat} {ad : Nat → Nat} {z : xF × xG} (C : CallFix p m c cX8_goNight 8 s as lw_all RX8) (K : wx_C γ A s) (E : ∀ (H : Heap) (locs : List Loc) (ls : Array Slot) (pc : Nat), wx_w γ A s H locs (mw γ o ad z.1 z.2) → decode cX8_goNight pc = .ok (.return_, 1) → W p l e rmX8_goNight s m as below meth c H locs 0 0 Q (F0 m pc ls [])) {k10 : xF → xG → Int32 → Int32 → Int32 → Int32 → Option (xF × xG)} (hk10 : ∀ (f : xF) (g : xG) (v1 : Int32) (v2 : Int32) (v3 : Int32) (v4 : Int32) (H : Heap) (locs : List Loc) (ls : Array Slot), k10 f g v1 v2 v3 v4 = some z → wx_w γ A s H locs (mw γ o ad f g) → lv_has ls 8 [(0, .ref o), (1, .int v1), (2, .int v2), (3, .int v3), (4, .int v4)] → W p l e rmX8_goNight s m as below meth c H locs 0 0 Q (F0 m 10 ls [])) : ∀ (n : Nat) (f : xF) (g : xG) (v1 : Int32) (v2 : Int32) (v3 : Int32) (v4 : Int32) (v5 : Int32) (v6 : Int32) (v7 : Int32) (H : Heap) (locs : List Loc) (ls : Array Slot), pX8_goNight_46 k10 n f g v1 v2 v3 v4 v5 v6 v7 = some z → wx_w γ A s H locs (mw γ o ad f g) → lv_has ls 8 [(0, .ref o), (1, .int v1), (2, .int v2), (3, .int v3), (4, .int v4), (5, .int v5), (6, .int v6), (7, .int v7)] → W p l e rmX8_goNight s m as below meth c H locs 0 0 Q (F0 m 46 ls []) := by
  have hx := C.1
  have hb := C.2.1
  intro n
  induction n with
  | zero =>
    intro f g v1 v2 v3 v4 v5 v6 v7 H locs ls hF w hl
    have hF : (none : Option (xF × xG)) = some z := hF
    cases hF
  | succ n ih =>
    intro f g v1 v2 v3 v4 v5 v6 v7 H locs ls hF w hl
    rw [pX8_goNight_46] at hF
    refine lv_iload hx hb dX8_goNight_46 (lv_at hl 5 rfl) ?_
    refine lv_if_le (tgt := 103) hx hb dX8_goNight_48 (by decide) (fun c => ?_) (fun c => ?_)
    · have hF := (if_pos c).symm.trans hF
      exact bX8_goNight_103 C K E hk10 w (lv_sub hl [0, 1, 2, 3, 4, 7] rfl) hF
    · have hF := (if_neg c).symm.trans hF
      refine lv_iload hx hb dX8_goNight_51 (lv_at hl 6 rfl) ?_
      refine lv_if_lt (tgt := 103) hx hb dX8_goNight_53 (by decide) (fun c => ?_) (fun c => ?_)
      · have hF := (if_pos c).symm.trans hF
        exact bX8_goNight_103 C K E hk10 w (lv_sub hl [0, 1, 2, 3, 4, 7] rfl) hF
      · have hF := (if_neg c).symm.trans hF
        refine lv_aload_n hx hb dX8_goNight_56 rfl (lv_at hl 0 rfl) ?_
        refine lv_iload hx hb dX8_goNight_57 (lv_at hl 6 rfl) ?_
        obtain ⟨r59, hr, hF⟩ := obd hF
        refine rX8_isFree C K w hr hl.1 ⟨Nat.le_of_ble_eq_true rfl, Nat.le_of_ble_eq_true rfl⟩ (Nat.le_of_ble_eq_true rfl) dX8_goNight_59 (fun H locs w => ?_)
        refine lv_if_eq (tgt := 103) hx hb dX8_goNight_62 (by decide) (fun c => ?_) (fun c => ?_)
        · have hF := (if_pos c).symm.trans hF
          exact bX8_goNight_103 C K E hk10 w (lv_sub hl [0, 1, 2, 3, 4, 7] rfl) hF
        · have hF := (if_neg c).symm.trans hF
          refine lv_aload_n hx hb dX8_goNight_65 rfl (lv_at hl 0 rfl) ?_
          refine mget_28 C K w dX8_goNight_66 ?_
          refine lv_iload hx hb dX8_goNight_69 (lv_at hl 4 rfl) ?_
          refine lv_iload hx hb dX8_goNight_71 (lv_at hl 6 rfl) ?_
          obtain ⟨hi, hF⟩ := gin_if hF
          refine mast_28 C K w hi dX8_goNight_73 (fun H locs w => ?_)
          refine lv_aload_n hx hb dX8_goNight_74 rfl (lv_at hl 0 rfl) ?_
          refine mget_29 C K w dX8_goNight_75 ?_
          refine lv_iload hx hb dX8_goNight_78 (lv_at hl 4 rfl) ?_
          refine lv_dup2_11 hx hb dX8_goNight_80 rfl rfl ?_
          obtain ⟨hi, hF⟩ := gin_if hF
          refine mald_29 C K w hi dX8_goNight_81 ?_
          refine lv_iconst (v := (1 : Int32)) hx hb dX8_goNight_82 (by decide) ?_
          refine lv_iadd hx hb dX8_goNight_83 ?_
          obtain ⟨hi, hF⟩ := gin_if hF
          refine mast_29 C K w hi dX8_goNight_84 (fun H locs w => ?_)
          refine lv_iconst (v := (1 : Int32)) hx hb dX8_goNight_85 (by decide) ?_
          refine lv_istore (lv' := [(7, .int (1 : Int32)), (0, .ref o), (1, .int v1), (2, .int v2), (3, .int v3), (4, .int v4), (5, .int v5), (6, .int v6)]) hx hb dX8_goNight_86 hl (by decide) rfl (fun ls hl => ?_)
          refine lv_iinc (v := v5 + (-1)) (lv' := [(5, .int (v5 + (-1))), (7, .int (1 : Int32)), (0, .ref o), (1, .int v1), (2, .int v2), (3, .int v3), (4, .int v4), (6, .int v6)]) hx hb dX8_goNight_88 hl (k := 6) rfl rfl (by decide) rfl (fun ls hl => ?_)
          refine lv_aload_n hx hb dX8_goNight_91 rfl (lv_at hl 2 rfl) ?_
          refine lv_iload hx hb dX8_goNight_92 (lv_at hl 7 rfl) ?_
          refine lv_iload_n hx hb dX8_goNight_94 rfl (lv_at hl 5 rfl) ?_
          obtain ⟨r95, hr, hF⟩ := obd hF
          refine rX8_ahead C K w hr hl.1 ⟨Nat.le_of_ble_eq_true rfl, Nat.le_of_ble_eq_true rfl⟩ (Nat.le_of_ble_eq_true rfl) dX8_goNight_95 (fun H locs w => ?_)
          refine lv_istore (lv' := [(6, .int r95), (5, .int (v5 + (-1))), (7, .int (1 : Int32)), (0, .ref o), (1, .int v1), (2, .int v2), (3, .int v3), (4, .int v4)]) hx hb dX8_goNight_98 hl (by decide) rfl (fun ls hl => ?_)
          refine lv_goto (tgt := 46) hx hb dX8_goNight_100 (by decide) ?_
          exact ih _ _ _ _ _ _ _ _ _ _ _ _ hF w (lv_sub hl [3, 4, 5, 6, 7, 1, 0, 2] rfl)

theorem bX8_goNight_10 {p : Program} {l : Launch} {e : Env} {s : State} {m : MethodId} {as : Array Value} {below : List Frame} {meth : Method} {c : Code} {A : Nat → Prop} {Q : State → Prop} {γ : wx_G} {o : Nat} {ad : Nat → Nat} {z : xF × xG} (C : CallFix p m c cX8_goNight 8 s as lw_all RX8) (K : wx_C γ A s) (E : ∀ (H : Heap) (locs : List Loc) (ls : Array Slot) (pc : Nat), wx_w γ A s H locs (mw γ o ad z.1 z.2) → decode cX8_goNight pc = .ok (.return_, 1) → W p l e rmX8_goNight s m as below meth c H locs 0 0 Q (F0 m pc ls [])) : ∀ (n : Nat) (f : xF) (g : xG) (v1 : Int32) (v2 : Int32) (v3 : Int32) (v4 : Int32) (H : Heap) (locs : List Loc) (ls : Array Slot), pX8_goNight_10 n f g v1 v2 v3 v4 = some z → wx_w γ A s H locs (mw γ o ad f g) → lv_has ls 8 [(0, .ref o), (1, .int v1), (2, .int v2), (3, .int v3), (4, .int v4)] → W p l e rmX8_goNight s m as below meth c H locs 0 0 Q (F0 m 10 ls []) := by
  have hx := C.1
  have hb := C.2.1
  intro n
  induction n with
  | zero =>
    intro f g v1 v2 v3 v4 H locs ls hF w hl
    have hF : (none : Option (xF × xG)) = some z := hF
    cases hF
  | succ n ih =>
    intro f g v1 v2 v3 v4 H locs ls hF w hl
    rw [pX8_goNight_10] at hF
    refine lv_iload hx hb dX8_goNight_10 (lv_at hl 4 rfl) ?_
    refine lv_aload_n hx hb dX8_goNight_12 rfl (lv_at hl 0 rfl) ?_
    refine mget_0 C K w dX8_goNight_13 ?_
    refine lv_icmp_ge (tgt := 161) hx hb dX8_goNight_16 (by decide) (fun c => ?_) (fun c => ?_)
    · have hF := (if_pos c).symm.trans hF
      have hF := Option.some.inj hF
      subst hF
      exact E _ _ _ _ w dX8_goNight_161
    · have hF := (if_neg c).symm.trans hF
      refine lv_aload_n hx hb dX8_goNight_19 rfl (lv_at hl 0 rfl) ?_
      refine lv_iload_n hx hb dX8_goNight_20 rfl (lv_at hl 1 rfl) ?_
      refine lv_iload hx hb dX8_goNight_21 (lv_at hl 4 rfl) ?_
      refine lv_iload_n hx hb dX8_goNight_23 rfl (lv_at hl 2 rfl) ?_
      obtain ⟨r24, hr, hF⟩ := obd hF
      refine rX8_pushes C K w hr hl.1 ⟨Nat.le_of_ble_eq_true rfl, Nat.le_of_ble_eq_true rfl⟩ (Nat.le_of_ble_eq_true rfl) dX8_goNight_24 (fun H locs w => ?_)
      refine lv_istore (lv' := [(5, .int r24.1), (0, .ref o), (1, .int v1), (2, .int v2), (3, .int v3), (4, .int v4)]) hx hb dX8_goNight_27 hl (by decide) rfl (fun ls hl => ?_)
      refine lv_aload_n hx hb dX8_goNight_29 rfl (lv_at hl 1 rfl) ?_
      refine lv_aload_n hx hb dX8_goNight_30 rfl (lv_at hl 1 rfl) ?_
      refine mget_28 C K w dX8_goNight_31 ?_
      refine lv_iload hx hb dX8_goNight_34 (lv_at hl 5 rfl) ?_
      obtain ⟨hi, hF⟩ := gin_if hF
      refine mald_28 C K w hi dX8_goNight_36 ?_
      refine lv_iload_n hx hb dX8_goNight_37 rfl (lv_at hl 4 rfl) ?_
      obtain ⟨r38, hr, hF⟩ := obd hF
      refine rX8_ahead C K w hr hl.1 ⟨Nat.le_of_ble_eq_true rfl, Nat.le_of_ble_eq_true rfl⟩ (Nat.le_of_ble_eq_true rfl) dX8_goNight_38 (fun H locs w => ?_)
      refine lv_istore (lv' := [(6, .int r38), (5, .int r24.1), (0, .ref o), (1, .int v1), (2, .int v2), (3, .int v3), (4, .int v4)]) hx hb dX8_goNight_41 hl (by decide) rfl (fun ls hl => ?_)
      refine lv_iconst (v := (0 : Int32)) hx hb dX8_goNight_43 (by decide) ?_
      refine lv_istore (lv' := [(7, .int (0 : Int32)), (6, .int r38), (5, .int r24.1), (0, .ref o), (1, .int v1), (2, .int v2), (3, .int v3), (4, .int v4)]) hx hb dX8_goNight_44 hl (by decide) rfl (fun ls hl => ?_)
      exact bX8_goNight_46 C K E ih 5000 _ _ _ _ _ _ _ _ _ _ _ _ hF w (lv_sub hl [3, 4, 5, 6, 7, 2, 1, 0] rfl)

theorem bX8_goNight_0 {p : Program} {l : Launch} {e : Env} {s : State} {m : MethodId} {as : Array Value} {below : List Frame} {meth : Method} {c : Code} {A : Nat → Prop} {Q : State → Prop} {γ : wx_G} {o : Nat} {ad : Nat → Nat} {z : xF × xG} (C : CallFix p m c cX8_goNight 8 s as lw_all RX8) (K : wx_C γ A s) (E : ∀ (H : Heap) (locs : List Loc) (ls : Array Slot) (pc : Nat), wx_w γ A s H locs (mw γ o ad z.1 z.2) → decode cX8_goNight pc = .ok (.return_, 1) → W p l e rmX8_goNight s m as below meth c H locs 0 0 Q (F0 m pc ls [])) {f : xF} {g : xG} {v1 : Int32} {v2 : Int32} {H : Heap} {locs : List Loc} {ls : Array Slot} (w : wx_w γ A s H locs (mw γ o ad f g)) (hl : lv_has ls 8 [(0, .ref o), (1, .int v1), (2, .int v2)]) (hF : pX8_goNight_0 f g v1 v2 = some z) : W p l e rmX8_goNight s m as below meth c H locs 0 0 Q (F0 m 0 ls []) := by
  have hx := C.1
  have hb := C.2.1
  unfold pX8_goNight_0 at hF
  refine lv_aload_n hx hb dX8_goNight_0 rfl (lv_at hl 0 rfl) ?_
  refine lv_iload_n hx hb dX8_goNight_1 rfl (lv_at hl 1 rfl) ?_
  refine lv_iload_n hx hb dX8_goNight_2 rfl (lv_at hl 2 rfl) ?_
  obtain ⟨r3, hr, hF⟩ := obd hF
  refine rX8_wayOf C K w hr hl.1 ⟨Nat.le_of_ble_eq_true rfl, Nat.le_of_ble_eq_true rfl⟩ (Nat.le_of_ble_eq_true rfl) dX8_goNight_3 (fun H locs w => ?_)
  refine lv_istore_n (lv' := [(3, .int r3), (0, .ref o), (1, .int v1), (2, .int v2)]) hx hb dX8_goNight_6 rfl hl (by decide) rfl (fun ls hl => ?_)
  refine lv_iconst (v := (0 : Int32)) hx hb dX8_goNight_7 (by decide) ?_
  refine lv_istore (lv' := [(4, .int (0 : Int32)), (3, .int r3), (0, .ref o), (1, .int v1), (2, .int v2)]) hx hb dX8_goNight_8 hl (by decide) rfl (fun ls hl => ?_)
  exact bX8_goNight_10 C K E 5000 _ _ _ _ _ _ _ _ _ hF w (lv_sub hl [2, 3, 4, 1, 0] rfl)

theorem mX8_goNight {l : Launch} {γ : wx_G} {o : Nat} {ad : Nat → Nat} {f : xF} {g : xG} {v1 : Int32} {v2 : Int32} {z : xF × xG} (hF : pX8_goNight f g v1 v2 = some z) : wx_M γ l yX8_goNight (ws_ yX8_goNight cX8_goNight 8 none) rmX8_goNight [.ref o, .int v1, .int v2] (mw γ o ad f g) (fun v ws => v = none ∧ ws = (mw γ o ad z.1 z.2)) 0 0 := by
  refine wx_M.of (by decide) (Nat.le_of_ble_eq_true rfl) ?_
  intro p e s m as below meth c A ls C K w hr hlocks _ hl
  exact bX8_goNight_0 C K (fun H locs ls pc w d => wx_vret C hr hlocks w ⟨rfl, rfl⟩ d) w hl hF
theorem rX8_goNight {p : Program} {l : Launch} {e : Env} {R : Room} {s : State} {m : MethodId} {as : Array Value} {below : List Frame} {meth : Method} {c : Code} {H : Heap} {locs : List Loc} {cells slots : Nat} {Q : State → Prop} {cc : ByteArray} {nL pc : Nat} {ls : Array Slot} {rest : List Value} {γ : wx_G} {A : Nat → Prop} {o : Nat} {ad : Nat → Nat} {f : xF} {g : xG} {v1 : Int32} {v2 : Int32} {z : xF × xG} (C : CallFix p m c cc nL s as lw_all RX8) (K : wx_C γ A s) (w : wx_w γ A s H locs (mw γ o ad f g)) (hF : pX8_goNight f g v1 v2 = some z) (hls : ls.size = nL) (hR : rmX8_goNight.frames + 1 ≤ R.frames ∧ 8 + (8 + 11) + rmX8_goNight.locals ≤ R.locals) (hW : (rest.map fun v => v.category).sum ≤ 8) (d : decode cc pc = .ok (.invokevirtual 302, 3)) (kk : ∀ (H : Heap) (locs : List Loc), wx_w γ A s H locs (mw γ o ad z.1 z.2) → W p l e R s m as below meth c H locs cells slots Q (F0 m (pc + 3) ls rest)) (hf : cells ≤ R.cells ∧ slots ≤ R.slots := by exact ⟨Nat.le_of_ble_eq_true rfl, Nat.le_of_ble_eq_true rfl⟩) : W p l e R s m as below meth c H locs cells slots Q (F0 m pc ls (.int v2 :: .int v1 :: .ref o :: rest)) :=
  wx_callV (n := 2) C K w (mX8_goNight (l := l) hF) q1636 q1638 qs84 q123 q1639 rfl rfl (by decide +kernel) (va_recv K.1.1 w.1 (ci := 0) (q0 := 0) rfl rfl) rfl rfl hR hls hW hf d (fun v ws H1 locs1 hp w => by obtain ⟨rfl, rfl⟩ := hp; exact kk H1 locs1 w)

/-! WalkingStonesModel.goRow(II)V -/
abbrev rmX8_goRow : Room := { frames := 5, cells := 0, slots := 0, locals := 125 }
def pX8_goRow_9 : Nat → xF → xG → Int32 → Int32 → Int32 → Option (xF × xG)
  | 0, _, _, _, _, _ => none
  | n + 1, f, g, v1, v2, v3 => if (v2 - v2 / (100 : Int32) * (100 : Int32)) < v3 then some (f, g) else (pX8_goNight f g v1 v3).bind (fun r20 => pX8_goRow_9 n r20.1 r20.2 v1 v2 (v3 + 1))

def pX8_goRow_0 (f : xF) (g : xG) (v1 : Int32) (v2 : Int32) : Option (xF × xG) := (pX8_begin f g).bind (fun r1 => pX8_goRow_9 5000 r1.1 r1.2 v1 v2 (v2 / (100 : Int32)))

abbrev pX8_goRow (f : xF) (g : xG) (v1 : Int32) (v2 : Int32) : Option (xF × xG) := pX8_goRow_0 f g v1 v2
theorem bX8_goRow_9 {p : Program} {l : Launch} {e : Env} {s : State} {m : MethodId} {as : Array Value} {below : List Frame} {meth : Method} {c : Code} {A : Nat → Prop} {Q : State → Prop} {γ : wx_G} {o : Nat} {ad : Nat → Nat} {z : xF × xG} (C : CallFix p m c cX8_goRow 4 s as lw_all RX8) (K : wx_C γ A s) (E : ∀ (H : Heap) (locs : List Loc) (ls : Array Slot) (pc : Nat), wx_w γ A s H locs (mw γ o ad z.1 z.2) → decode cX8_goRow pc = .ok (.return_, 1) → W p l e rmX8_goRow s m as below meth c H locs 0 0 Q (F0 m pc ls [])) : ∀ (n : Nat) (f : xF) (g : xG) (v1 : Int32) (v2 : Int32) (v3 : Int32) (H : Heap) (locs : List Loc) (ls : Array Slot), pX8_goRow_9 n f g v1 v2 v3 = some z → wx_w γ A s H locs (mw γ o ad f g) → lv_has ls 4 [(0, .ref o), (1, .int v1), (2, .int v2), (3, .int v3)] → W p l e rmX8_goRow s m as below meth c H locs 0 0 Q (F0 m 9 ls []) := by
  have hx := C.1
  have hb := C.2.1
  intro n
  induction n with
  | zero =>
    intro f g v1 v2 v3 H locs ls hF w hl
    have hF : (none : Option (xF × xG)) = some z := hF
    cases hF
  | succ n ih =>
    intro f g v1 v2 v3 H locs ls hF w hl
    rw [pX8_goRow_9] at hF
    refine lv_iload_n hx hb dX8_goRow_9 rfl (lv_at hl 3 rfl) ?_
    refine lv_iload_n hx hb dX8_goRow_10 rfl (lv_at hl 2 rfl) ?_
    refine lv_bipush (v := (100 : Int32)) hx hb dX8_goRow_11 (by decide) ?_
    refine lv_irem hx hb dX8_goRow_13 (by decide) ?_
    refine lv_icmp_gt (tgt := 29) hx hb dX8_goRow_14 (by decide) (fun c => ?_) (fun c => ?_)
    · have hF := (if_pos c).symm.trans hF
      have hF := Option.some.inj hF
      subst hF
      exact E _ _ _ _ w dX8_goRow_29
    · have hF := (if_neg c).symm.trans hF
      refine lv_aload_n hx hb dX8_goRow_17 rfl (lv_at hl 0 rfl) ?_
      refine lv_iload_n hx hb dX8_goRow_18 rfl (lv_at hl 1 rfl) ?_
      refine lv_iload_n hx hb dX8_goRow_19 rfl (lv_at hl 3 rfl) ?_
      obtain ⟨r20, hr, hF⟩ := obd hF
      refine rX8_goNight C K w hr hl.1 ⟨Nat.le_of_ble_eq_true rfl, Nat.le_of_ble_eq_true rfl⟩ (Nat.le_of_ble_eq_true rfl) dX8_goRow_20 (fun H locs w => ?_)
      refine lv_iinc (v := v3 + 1) (lv' := [(3, .int (v3 + 1)), (0, .ref o), (1, .int v1), (2, .int v2)]) hx hb dX8_goRow_23 hl (k := 3) rfl rfl (by decide) rfl (fun ls hl => ?_)
      refine lv_goto (tgt := 9) hx hb dX8_goRow_26 (by decide) ?_
      exact ih _ _ _ _ _ _ _ _ hF w (lv_sub hl [1, 2, 3, 0] rfl)

theorem bX8_goRow_0 {p : Program} {l : Launch} {e : Env} {s : State} {m : MethodId} {as : Array Value} {below : List Frame} {meth : Method} {c : Code} {A : Nat → Prop} {Q : State → Prop} {γ : wx_G} {o : Nat} {ad : Nat → Nat} {z : xF × xG} (C : CallFix p m c cX8_goRow 4 s as lw_all RX8) (K : wx_C γ A s) (E : ∀ (H : Heap) (locs : List Loc) (ls : Array Slot) (pc : Nat), wx_w γ A s H locs (mw γ o ad z.1 z.2) → decode cX8_goRow pc = .ok (.return_, 1) → W p l e rmX8_goRow s m as below meth c H locs 0 0 Q (F0 m pc ls [])) {f : xF} {g : xG} {v1 : Int32} {v2 : Int32} {H : Heap} {locs : List Loc} {ls : Array Slot} (w : wx_w γ A s H locs (mw γ o ad f g)) (hl : lv_has ls 4 [(0, .ref o), (1, .int v1), (2, .int v2)]) (hF : pX8_goRow_0 f g v1 v2 = some z) : W p l e rmX8_goRow s m as below meth c H locs 0 0 Q (F0 m 0 ls []) := by
  have hx := C.1
  have hb := C.2.1
  unfold pX8_goRow_0 at hF
  refine lv_aload_n hx hb dX8_goRow_0 rfl (lv_at hl 0 rfl) ?_
  obtain ⟨r1, hr, hF⟩ := obd hF
  refine rX8_begin C K w hr hl.1 ⟨Nat.le_of_ble_eq_true rfl, Nat.le_of_ble_eq_true rfl⟩ (Nat.le_of_ble_eq_true rfl) dX8_goRow_1 (fun H locs w => ?_)
  refine lv_iload_n hx hb dX8_goRow_4 rfl (lv_at hl 2 rfl) ?_
  refine lv_bipush (v := (100 : Int32)) hx hb dX8_goRow_5 (by decide) ?_
  refine lv_idiv hx hb dX8_goRow_7 (by decide) ?_
  refine lv_istore_n (lv' := [(3, .int (v2 / (100 : Int32))), (0, .ref o), (1, .int v1), (2, .int v2)]) hx hb dX8_goRow_8 rfl hl (by decide) rfl (fun ls hl => ?_)
  exact bX8_goRow_9 C K E 5000 _ _ _ _ _ _ _ _ hF w (lv_sub hl [1, 2, 3, 0] rfl)

theorem mX8_goRow {l : Launch} {γ : wx_G} {o : Nat} {ad : Nat → Nat} {f : xF} {g : xG} {v1 : Int32} {v2 : Int32} {z : xF × xG} (hF : pX8_goRow f g v1 v2 = some z) : wx_M γ l yX8_goRow (ws_ yX8_goRow cX8_goRow 4 none) rmX8_goRow [.ref o, .int v1, .int v2] (mw γ o ad f g) (fun v ws => v = none ∧ ws = (mw γ o ad z.1 z.2)) 0 0 := by
  refine wx_M.of (by decide) (Nat.le_of_ble_eq_true rfl) ?_
  intro p e s m as below meth c A ls C K w hr hlocks _ hl
  exact bX8_goRow_0 C K (fun H locs ls pc w d => wx_vret C hr hlocks w ⟨rfl, rfl⟩ d) w hl hF
theorem rX8_goRow {p : Program} {l : Launch} {e : Env} {R : Room} {s : State} {m : MethodId} {as : Array Value} {below : List Frame} {meth : Method} {c : Code} {H : Heap} {locs : List Loc} {cells slots : Nat} {Q : State → Prop} {cc : ByteArray} {nL pc : Nat} {ls : Array Slot} {rest : List Value} {γ : wx_G} {A : Nat → Prop} {o : Nat} {ad : Nat → Nat} {f : xF} {g : xG} {v1 : Int32} {v2 : Int32} {z : xF × xG} (C : CallFix p m c cc nL s as lw_all RX8) (K : wx_C γ A s) (w : wx_w γ A s H locs (mw γ o ad f g)) (hF : pX8_goRow f g v1 v2 = some z) (hls : ls.size = nL) (hR : rmX8_goRow.frames + 1 ≤ R.frames ∧ 8 + (4 + 11) + rmX8_goRow.locals ≤ R.locals) (hW : (rest.map fun v => v.category).sum ≤ 8) (d : decode cc pc = .ok (.invokevirtual 308, 3)) (kk : ∀ (H : Heap) (locs : List Loc), wx_w γ A s H locs (mw γ o ad z.1 z.2) → W p l e R s m as below meth c H locs cells slots Q (F0 m (pc + 3) ls rest)) (hf : cells ≤ R.cells ∧ slots ≤ R.slots := by exact ⟨Nat.le_of_ble_eq_true rfl, Nat.le_of_ble_eq_true rfl⟩) : W p l e R s m as below meth c H locs cells slots Q (F0 m pc ls (.int v2 :: .int v1 :: .ref o :: rest)) :=
  wx_callV (n := 2) C K w (mX8_goRow (l := l) hF) q1628 q1630 qs82 q123 q1631 rfl rfl (by decide +kernel) (va_recv K.1.1 w.1 (ci := 0) (q0 := 0) rfl rfl) rfl rfl hR hls hW hf d (fun v ws H1 locs1 hp w => by obtain ⟨rfl, rfl⟩ := hp; exact kk H1 locs1 w)

/-! WalkingStonesModel.run(IIII)I -/
abbrev rmX8_run : Room := { frames := 6, cells := 0, slots := 0, locals := 148 }
def pX8_run_35 (f : xF) (g : xG) : Option (Int32 × xF × xG) := some ((-2 : Int32), f, g)

def pX8_run_79 (f : xF) (g : xG) (t0 : Int32) : Option (Int32 × xF × xG) := some (t0, f, g)

def pX8_run_0 (f : xF) (g : xG) (v1 : Int32) (v2 : Int32) (v3 : Int32) (v4 : Int32) : Option (Int32 × xF × xG) := (pX8_isHow f g v1).bind (fun r2 => if r2 = 0 then pX8_run_35 f g else (pX8_isRow f g v2).bind (fun r10 => if r10 = 0 then pX8_run_35 f g else (pX8_isStone f g v3).bind (fun r18 => if r18 = 0 then pX8_run_35 f g else (pX8_in f g v4 (0 : Int32) (2 : Int32)).bind (fun r29 => if r29 = 0 then pX8_run_35 f g else (pX8_goRow f g v1 v2).bind (fun r41 => if v4 = 0 then (if gin v3 10 = true then pX8_run_79 r41.1 r41.2 (r41.2 29 v3.toNatClampNeg) else none) else (if v4 = (1 : Int32) then (if gin v3 10 = true then pX8_run_79 r41.1 r41.2 (r41.2 28 v3.toNatClampNeg) else none) else (if gin v3 10 = true then pX8_run_79 r41.1 r41.2 (r41.2 30 v3.toNatClampNeg) else none)))))))

abbrev pX8_run (f : xF) (g : xG) (v1 : Int32) (v2 : Int32) (v3 : Int32) (v4 : Int32) : Option (Int32 × xF × xG) := pX8_run_0 f g v1 v2 v3 v4
theorem bX8_run_35 {p : Program} {l : Launch} {e : Env} {s : State} {m : MethodId} {as : Array Value} {below : List Frame} {meth : Method} {c : Code} {A : Nat → Prop} {Q : State → Prop} {γ : wx_G} {o : Nat} {ad : Nat → Nat} {z : Int32 × xF × xG} (C : CallFix p m c cX8_run 5 s as lw_all RX8) (K : wx_C γ A s) (E : ∀ (H : Heap) (locs : List Loc) (ls : Array Slot) (pc : Nat), wx_w γ A s H locs (mw γ o ad z.2.1 z.2.2) → decode cX8_run pc = .ok (.ireturn, 1) → W p l e rmX8_run s m as below meth c H locs 0 0 Q (F0 m pc ls [.int z.1])) {f : xF} {g : xG} {H : Heap} {locs : List Loc} {ls : Array Slot} (w : wx_w γ A s H locs (mw γ o ad f g)) (hl : lv_has ls 5 []) (hF : pX8_run_35 f g = some z) : W p l e rmX8_run s m as below meth c H locs 0 0 Q (F0 m 35 ls []) := by
  have hx := C.1
  have hb := C.2.1
  unfold pX8_run_35 at hF
  refine lv_bipush (v := (-2 : Int32)) hx hb dX8_run_35 (by decide) ?_
  have hF := Option.some.inj hF
  subst hF
  exact E _ _ _ _ w dX8_run_37

theorem bX8_run_79 {p : Program} {l : Launch} {e : Env} {s : State} {m : MethodId} {as : Array Value} {below : List Frame} {meth : Method} {c : Code} {A : Nat → Prop} {Q : State → Prop} {γ : wx_G} {o : Nat} {ad : Nat → Nat} {z : Int32 × xF × xG} (C : CallFix p m c cX8_run 5 s as lw_all RX8) (K : wx_C γ A s) (E : ∀ (H : Heap) (locs : List Loc) (ls : Array Slot) (pc : Nat), wx_w γ A s H locs (mw γ o ad z.2.1 z.2.2) → decode cX8_run pc = .ok (.ireturn, 1) → W p l e rmX8_run s m as below meth c H locs 0 0 Q (F0 m pc ls [.int z.1])) {f : xF} {g : xG} {t0 : Int32} {H : Heap} {locs : List Loc} {ls : Array Slot} (w : wx_w γ A s H locs (mw γ o ad f g)) (hl : lv_has ls 5 []) (hF : pX8_run_79 f g t0 = some z) : W p l e rmX8_run s m as below meth c H locs 0 0 Q (F0 m 79 ls [.int t0]) := by
  have hx := C.1
  have hb := C.2.1
  unfold pX8_run_79 at hF
  have hF := Option.some.inj hF
  subst hF
  exact E _ _ _ _ w dX8_run_79

theorem bX8_run_0 {p : Program} {l : Launch} {e : Env} {s : State} {m : MethodId} {as : Array Value} {below : List Frame} {meth : Method} {c : Code} {A : Nat → Prop} {Q : State → Prop} {γ : wx_G} {o : Nat} {ad : Nat → Nat} {z : Int32 × xF × xG} (C : CallFix p m c cX8_run 5 s as lw_all RX8) (K : wx_C γ A s) (E : ∀ (H : Heap) (locs : List Loc) (ls : Array Slot) (pc : Nat), wx_w γ A s H locs (mw γ o ad z.2.1 z.2.2) → decode cX8_run pc = .ok (.ireturn, 1) → W p l e rmX8_run s m as below meth c H locs 0 0 Q (F0 m pc ls [.int z.1])) {f : xF} {g : xG} {v1 : Int32} {v2 : Int32} {v3 : Int32} {v4 : Int32} {H : Heap} {locs : List Loc} {ls : Array Slot} (w : wx_w γ A s H locs (mw γ o ad f g)) (hl : lv_has ls 5 [(0, .ref o), (1, .int v1), (2, .int v2), (3, .int v3), (4, .int v4)]) (hF : pX8_run_0 f g v1 v2 v3 v4 = some z) : W p l e rmX8_run s m as below meth c H locs 0 0 Q (F0 m 0 ls []) := by
  have hx := C.1
  have hb := C.2.1
  unfold pX8_run_0 at hF
  refine lv_aload_n hx hb dX8_run_0 rfl (lv_at hl 0 rfl) ?_
  refine lv_iload_n hx hb dX8_run_1 rfl (lv_at hl 1 rfl) ?_
  obtain ⟨r2, hr, hF⟩ := obd hF
  refine rX8_isHow C K w hr hl.1 ⟨Nat.le_of_ble_eq_true rfl, Nat.le_of_ble_eq_true rfl⟩ (Nat.le_of_ble_eq_true rfl) dX8_run_2 (fun H locs w => ?_)
  refine lv_if_eq (tgt := 35) hx hb dX8_run_5 (by decide) (fun c => ?_) (fun c => ?_)
  · have hF := (if_pos c).symm.trans hF
    exact bX8_run_35 C K E w (lv_sub hl [] rfl) hF
  · have hF := (if_neg c).symm.trans hF
    refine lv_aload_n hx hb dX8_run_8 rfl (lv_at hl 0 rfl) ?_
    refine lv_iload_n hx hb dX8_run_9 rfl (lv_at hl 2 rfl) ?_
    obtain ⟨r10, hr, hF⟩ := obd hF
    refine rX8_isRow C K w hr hl.1 ⟨Nat.le_of_ble_eq_true rfl, Nat.le_of_ble_eq_true rfl⟩ (Nat.le_of_ble_eq_true rfl) dX8_run_10 (fun H locs w => ?_)
    refine lv_if_eq (tgt := 35) hx hb dX8_run_13 (by decide) (fun c => ?_) (fun c => ?_)
    · have hF := (if_pos c).symm.trans hF
      exact bX8_run_35 C K E w (lv_sub hl [] rfl) hF
    · have hF := (if_neg c).symm.trans hF
      refine lv_aload_n hx hb dX8_run_16 rfl (lv_at hl 0 rfl) ?_
      refine lv_iload_n hx hb dX8_run_17 rfl (lv_at hl 3 rfl) ?_
      obtain ⟨r18, hr, hF⟩ := obd hF
      refine rX8_isStone C K w hr hl.1 ⟨Nat.le_of_ble_eq_true rfl, Nat.le_of_ble_eq_true rfl⟩ (Nat.le_of_ble_eq_true rfl) dX8_run_18 (fun H locs w => ?_)
      refine lv_if_eq (tgt := 35) hx hb dX8_run_21 (by decide) (fun c => ?_) (fun c => ?_)
      · have hF := (if_pos c).symm.trans hF
        exact bX8_run_35 C K E w (lv_sub hl [] rfl) hF
      · have hF := (if_neg c).symm.trans hF
        refine lv_aload_n hx hb dX8_run_24 rfl (lv_at hl 0 rfl) ?_
        refine lv_iload hx hb dX8_run_25 (lv_at hl 4 rfl) ?_
        refine lv_iconst (v := (0 : Int32)) hx hb dX8_run_27 (by decide) ?_
        refine lv_iconst (v := (2 : Int32)) hx hb dX8_run_28 (by decide) ?_
        obtain ⟨r29, hr, hF⟩ := obd hF
        refine rX8_in C K w hr hl.1 ⟨Nat.le_of_ble_eq_true rfl, Nat.le_of_ble_eq_true rfl⟩ (Nat.le_of_ble_eq_true rfl) dX8_run_29 (fun H locs w => ?_)
        refine lv_if_ne (tgt := 38) hx hb dX8_run_32 (by decide) (fun c => ?_) (fun c => ?_)
        · have hF := (if_neg c).symm.trans hF
          refine lv_aload_n hx hb dX8_run_38 rfl (lv_at hl 0 rfl) ?_
          refine lv_iload_n hx hb dX8_run_39 rfl (lv_at hl 1 rfl) ?_
          refine lv_iload_n hx hb dX8_run_40 rfl (lv_at hl 2 rfl) ?_
          obtain ⟨r41, hr, hF⟩ := obd hF
          refine rX8_goRow C K w hr hl.1 ⟨Nat.le_of_ble_eq_true rfl, Nat.le_of_ble_eq_true rfl⟩ (Nat.le_of_ble_eq_true rfl) dX8_run_41 (fun H locs w => ?_)
          refine lv_iload hx hb dX8_run_44 (lv_at hl 4 rfl) ?_
          refine lv_if_ne (tgt := 58) hx hb dX8_run_46 (by decide) (fun c => ?_) (fun c => ?_)
          · have hF := (if_neg c).symm.trans hF
            refine lv_iload hx hb dX8_run_58 (lv_at hl 4 rfl) ?_
            refine lv_iconst (v := (1 : Int32)) hx hb dX8_run_60 (by decide) ?_
            refine lv_icmp_ne (tgt := 73) hx hb dX8_run_61 (by decide) (fun c => ?_) (fun c => ?_)
            · have hF := (if_neg c).symm.trans hF
              refine lv_aload_n hx hb dX8_run_73 rfl (lv_at hl 0 rfl) ?_
              refine mget_30 C K w dX8_run_74 ?_
              refine lv_iload_n hx hb dX8_run_77 rfl (lv_at hl 3 rfl) ?_
              obtain ⟨hi, hF⟩ := gin_if hF
              refine mald_30 C K w hi dX8_run_78 ?_
              exact bX8_run_79 C K E w (lv_sub hl [] rfl) hF
            · have hF := (if_pos c).symm.trans hF
              refine lv_aload_n hx hb dX8_run_64 rfl (lv_at hl 0 rfl) ?_
              refine mget_28 C K w dX8_run_65 ?_
              refine lv_iload_n hx hb dX8_run_68 rfl (lv_at hl 3 rfl) ?_
              obtain ⟨hi, hF⟩ := gin_if hF
              refine mald_28 C K w hi dX8_run_69 ?_
              refine lv_goto (tgt := 79) hx hb dX8_run_70 (by decide) ?_
              exact bX8_run_79 C K E w (lv_sub hl [] rfl) hF
          · have hF := (if_pos c).symm.trans hF
            refine lv_aload_n hx hb dX8_run_49 rfl (lv_at hl 0 rfl) ?_
            refine mget_29 C K w dX8_run_50 ?_
            refine lv_iload_n hx hb dX8_run_53 rfl (lv_at hl 3 rfl) ?_
            obtain ⟨hi, hF⟩ := gin_if hF
            refine mald_29 C K w hi dX8_run_54 ?_
            refine lv_goto (tgt := 79) hx hb dX8_run_55 (by decide) ?_
            exact bX8_run_79 C K E w (lv_sub hl [] rfl) hF
        · have hF := (if_pos c).symm.trans hF
          exact bX8_run_35 C K E w (lv_sub hl [] rfl) hF

theorem mX8_run {l : Launch} {γ : wx_G} {o : Nat} {ad : Nat → Nat} {f : xF} {g : xG} {v1 : Int32} {v2 : Int32} {v3 : Int32} {v4 : Int32} {z : Int32 × xF × xG} (hF : pX8_run f g v1 v2 v3 v4 = some z) : wx_M γ l yX8_run (ws_ yX8_run cX8_run 5 (some .int)) rmX8_run [.ref o, .int v1, .int v2, .int v3, .int v4] (mw γ o ad f g) (fun v ws => v = some (.int z.1) ∧ ws = (mw γ o ad z.2.1 z.2.2)) 0 0 := by
  refine wx_M.of (by decide) (Nat.le_of_ble_eq_true rfl) ?_
  intro p e s m as below meth c A ls C K w hr hlocks _ hl
  exact bX8_run_0 C K (fun H locs ls pc w d => wx_iret C hr hlocks w ⟨rfl, rfl⟩ d) w hl hF

/-! WalkingStonesModel.lay(II)I -/
abbrev rmX8_lay : Room := { frames := 6, cells := 0, slots := 0, locals := 148 }
def pX8_lay_16 (f : xF) (g : xG) : Option (Int32 × xF × xG) := some ((-2 : Int32), f, g)

def pX8_lay_30 : Nat → xF → xG → Int32 → Int32 → Option (Int32 × xF × xG)
  | 0, _, _, _, _ => none
  | n + 1, f, g, v3, v4 => if (f 0) ≤ v4 then some (v3, f, g) else (if gin v4 10 = true then if gin v4 10 = true then if gin v4 10 = true then pX8_lay_30 n f (va_up g 4 (upd (g 4) v4.toNatClampNeg (g 28 v4.toNatClampNeg))) (v3 + ((va_up g 4 (upd (g 4) v4.toNatClampNeg (g 28 v4.toNatClampNeg))) 29 v4.toNatClampNeg)) (v4 + 1) else none else none else none)

def pX8_lay_0 (f : xF) (g : xG) (v1 : Int32) (v2 : Int32) : Option (Int32 × xF × xG) := (pX8_isHow f g v1).bind (fun r2 => if r2 = 0 then pX8_lay_16 f g else (pX8_isRow f g v2).bind (fun r10 => if r10 = 0 then pX8_lay_16 f g else (pX8_goRow f g v1 v2).bind (fun r22 => pX8_lay_30 5000 r22.1 r22.2 (0 : Int32) (0 : Int32))))

abbrev pX8_lay (f : xF) (g : xG) (v1 : Int32) (v2 : Int32) : Option (Int32 × xF × xG) := pX8_lay_0 f g v1 v2
theorem bX8_lay_16 {p : Program} {l : Launch} {e : Env} {s : State} {m : MethodId} {as : Array Value} {below : List Frame} {meth : Method} {c : Code} {A : Nat → Prop} {Q : State → Prop} {γ : wx_G} {o : Nat} {ad : Nat → Nat} {z : Int32 × xF × xG} (C : CallFix p m c cX8_lay 5 s as lw_all RX8) (K : wx_C γ A s) (E : ∀ (H : Heap) (locs : List Loc) (ls : Array Slot) (pc : Nat), wx_w γ A s H locs (mw γ o ad z.2.1 z.2.2) → decode cX8_lay pc = .ok (.ireturn, 1) → W p l e rmX8_lay s m as below meth c H locs 0 0 Q (F0 m pc ls [.int z.1])) {f : xF} {g : xG} {H : Heap} {locs : List Loc} {ls : Array Slot} (w : wx_w γ A s H locs (mw γ o ad f g)) (hl : lv_has ls 5 []) (hF : pX8_lay_16 f g = some z) : W p l e rmX8_lay s m as below meth c H locs 0 0 Q (F0 m 16 ls []) := by
  have hx := C.1
  have hb := C.2.1
  unfold pX8_lay_16 at hF
  refine lv_bipush (v := (-2 : Int32)) hx hb dX8_lay_16 (by decide) ?_
  have hF := Option.some.inj hF
  subst hF
  exact E _ _ _ _ w dX8_lay_18

theorem bX8_lay_30 {p : Program} {l : Launch} {e : Env} {s : State} {m : MethodId} {as : Array Value} {below : List Frame} {meth : Method} {c : Code} {A : Nat → Prop} {Q : State → Prop} {γ : wx_G} {o : Nat} {ad : Nat → Nat} {z : Int32 × xF × xG} (C : CallFix p m c cX8_lay 5 s as lw_all RX8) (K : wx_C γ A s) (E : ∀ (H : Heap) (locs : List Loc) (ls : Array Slot) (pc : Nat), wx_w γ A s H locs (mw γ o ad z.2.1 z.2.2) → decode cX8_lay pc = .ok (.ireturn, 1) → W p l e rmX8_lay s m as below meth c H locs 0 0 Q (F0 m pc ls [.int z.1])) : ∀ (n : Nat) (f : xF) (g : xG) (v3 : Int32) (v4 : Int32) (H : Heap) (locs : List Loc) (ls : Array Slot), pX8_lay_30 n f g v3 v4 = some z → wx_w γ A s H locs (mw γ o ad f g) → lv_has ls 5 [(0, .ref o), (3, .int v3), (4, .int v4)] → W p l e rmX8_lay s m as below meth c H locs 0 0 Q (F0 m 30 ls []) := by
  have hx := C.1
  have hb := C.2.1
  intro n
  induction n with
  | zero =>
    intro f g v3 v4 H locs ls hF w hl
    have hF : (none : Option (Int32 × xF × xG)) = some z := hF
    cases hF
  | succ n ih =>
    intro f g v3 v4 H locs ls hF w hl
    rw [pX8_lay_30] at hF
    refine lv_iload hx hb dX8_lay_30 (lv_at hl 2 rfl) ?_
    refine lv_aload_n hx hb dX8_lay_32 rfl (lv_at hl 0 rfl) ?_
    refine mget_0 C K w dX8_lay_33 ?_
    refine lv_icmp_ge (tgt := 69) hx hb dX8_lay_36 (by decide) (fun c => ?_) (fun c => ?_)
    · have hF := (if_pos c).symm.trans hF
      refine lv_iload_n hx hb dX8_lay_69 rfl (lv_at hl 1 rfl) ?_
      have hF := Option.some.inj hF
      subst hF
      exact E _ _ _ _ w dX8_lay_70
    · have hF := (if_neg c).symm.trans hF
      refine lv_aload_n hx hb dX8_lay_39 rfl (lv_at hl 0 rfl) ?_
      refine mget_4 C K w dX8_lay_40 ?_
      refine lv_iload hx hb dX8_lay_43 (lv_at hl 2 rfl) ?_
      refine lv_aload_n hx hb dX8_lay_45 rfl (lv_at hl 0 rfl) ?_
      refine mget_28 C K w dX8_lay_46 ?_
      refine lv_iload hx hb dX8_lay_49 (lv_at hl 2 rfl) ?_
      obtain ⟨hi, hF⟩ := gin_if hF
      refine mald_28 C K w hi dX8_lay_51 ?_
      obtain ⟨hi, hF⟩ := gin_if hF
      refine mast_4 C K w hi dX8_lay_52 (fun H locs w => ?_)
      refine lv_iload_n hx hb dX8_lay_53 rfl (lv_at hl 1 rfl) ?_
      refine lv_aload_n hx hb dX8_lay_54 rfl (lv_at hl 0 rfl) ?_
      refine mget_29 C K w dX8_lay_55 ?_
      refine lv_iload hx hb dX8_lay_58 (lv_at hl 2 rfl) ?_
      obtain ⟨hi, hF⟩ := gin_if hF
      refine mald_29 C K w hi dX8_lay_60 ?_
      refine lv_iadd hx hb dX8_lay_61 ?_
      refine lv_istore_n (lv' := [(3, .int (v3 + ((va_up g 4 (upd (g 4) v4.toNatClampNeg (g 28 v4.toNatClampNeg))) 29 v4.toNatClampNeg))), (0, .ref o), (4, .int v4)]) hx hb dX8_lay_62 rfl hl (by decide) rfl (fun ls hl => ?_)
      refine lv_iinc (v := v4 + 1) (lv' := [(4, .int (v4 + 1)), (3, .int (v3 + ((va_up g 4 (upd (g 4) v4.toNatClampNeg (g 28 v4.toNatClampNeg))) 29 v4.toNatClampNeg))), (0, .ref o)]) hx hb dX8_lay_63 hl (k := 2) rfl rfl (by decide) rfl (fun ls hl => ?_)
      refine lv_goto (tgt := 30) hx hb dX8_lay_66 (by decide) ?_
      exact ih _ _ _ _ _ _ _ hF w (lv_sub hl [2, 1, 0] rfl)

theorem bX8_lay_0 {p : Program} {l : Launch} {e : Env} {s : State} {m : MethodId} {as : Array Value} {below : List Frame} {meth : Method} {c : Code} {A : Nat → Prop} {Q : State → Prop} {γ : wx_G} {o : Nat} {ad : Nat → Nat} {z : Int32 × xF × xG} (C : CallFix p m c cX8_lay 5 s as lw_all RX8) (K : wx_C γ A s) (E : ∀ (H : Heap) (locs : List Loc) (ls : Array Slot) (pc : Nat), wx_w γ A s H locs (mw γ o ad z.2.1 z.2.2) → decode cX8_lay pc = .ok (.ireturn, 1) → W p l e rmX8_lay s m as below meth c H locs 0 0 Q (F0 m pc ls [.int z.1])) {f : xF} {g : xG} {v1 : Int32} {v2 : Int32} {H : Heap} {locs : List Loc} {ls : Array Slot} (w : wx_w γ A s H locs (mw γ o ad f g)) (hl : lv_has ls 5 [(0, .ref o), (1, .int v1), (2, .int v2)]) (hF : pX8_lay_0 f g v1 v2 = some z) : W p l e rmX8_lay s m as below meth c H locs 0 0 Q (F0 m 0 ls []) := by
  have hx := C.1
  have hb := C.2.1
  unfold pX8_lay_0 at hF
  refine lv_aload_n hx hb dX8_lay_0 rfl (lv_at hl 0 rfl) ?_
  refine lv_iload_n hx hb dX8_lay_1 rfl (lv_at hl 1 rfl) ?_
  obtain ⟨r2, hr, hF⟩ := obd hF
  refine rX8_isHow C K w hr hl.1 ⟨Nat.le_of_ble_eq_true rfl, Nat.le_of_ble_eq_true rfl⟩ (Nat.le_of_ble_eq_true rfl) dX8_lay_2 (fun H locs w => ?_)
  refine lv_if_eq (tgt := 16) hx hb dX8_lay_5 (by decide) (fun c => ?_) (fun c => ?_)
  · have hF := (if_pos c).symm.trans hF
    exact bX8_lay_16 C K E w (lv_sub hl [] rfl) hF
  · have hF := (if_neg c).symm.trans hF
    refine lv_aload_n hx hb dX8_lay_8 rfl (lv_at hl 0 rfl) ?_
    refine lv_iload_n hx hb dX8_lay_9 rfl (lv_at hl 2 rfl) ?_
    obtain ⟨r10, hr, hF⟩ := obd hF
    refine rX8_isRow C K w hr hl.1 ⟨Nat.le_of_ble_eq_true rfl, Nat.le_of_ble_eq_true rfl⟩ (Nat.le_of_ble_eq_true rfl) dX8_lay_10 (fun H locs w => ?_)
    refine lv_if_ne (tgt := 19) hx hb dX8_lay_13 (by decide) (fun c => ?_) (fun c => ?_)
    · have hF := (if_neg c).symm.trans hF
      refine lv_aload_n hx hb dX8_lay_19 rfl (lv_at hl 0 rfl) ?_
      refine lv_iload_n hx hb dX8_lay_20 rfl (lv_at hl 1 rfl) ?_
      refine lv_iload_n hx hb dX8_lay_21 rfl (lv_at hl 2 rfl) ?_
      obtain ⟨r22, hr, hF⟩ := obd hF
      refine rX8_goRow C K w hr hl.1 ⟨Nat.le_of_ble_eq_true rfl, Nat.le_of_ble_eq_true rfl⟩ (Nat.le_of_ble_eq_true rfl) dX8_lay_22 (fun H locs w => ?_)
      refine lv_iconst (v := (0 : Int32)) hx hb dX8_lay_25 (by decide) ?_
      refine lv_istore_n (lv' := [(3, .int (0 : Int32)), (0, .ref o), (1, .int v1), (2, .int v2)]) hx hb dX8_lay_26 rfl hl (by decide) rfl (fun ls hl => ?_)
      refine lv_iconst (v := (0 : Int32)) hx hb dX8_lay_27 (by decide) ?_
      refine lv_istore (lv' := [(4, .int (0 : Int32)), (3, .int (0 : Int32)), (0, .ref o), (1, .int v1), (2, .int v2)]) hx hb dX8_lay_28 hl (by decide) rfl (fun ls hl => ?_)
      exact bX8_lay_30 C K E 5000 _ _ _ _ _ _ _ hF w (lv_sub hl [2, 1, 0] rfl)
    · have hF := (if_pos c).symm.trans hF
      exact bX8_lay_16 C K E w (lv_sub hl [] rfl) hF

theorem mX8_lay {l : Launch} {γ : wx_G} {o : Nat} {ad : Nat → Nat} {f : xF} {g : xG} {v1 : Int32} {v2 : Int32} {z : Int32 × xF × xG} (hF : pX8_lay f g v1 v2 = some z) : wx_M γ l yX8_lay (ws_ yX8_lay cX8_lay 5 (some .int)) rmX8_lay [.ref o, .int v1, .int v2] (mw γ o ad f g) (fun v ws => v = some (.int z.1) ∧ ws = (mw γ o ad z.2.1 z.2.2)) 0 0 := by
  refine wx_M.of (by decide) (Nat.le_of_ble_eq_true rfl) ?_
  intro p e s m as below meth c A ls C K w hr hlocks _ hl
  exact bX8_lay_0 C K (fun H locs ls pc w d => wx_iret C hr hlocks w ⟨rfl, rfl⟩ d) w hl hF

/-! WalkingStonesModel.track(III)I -/
abbrev rmX8_track : Room := { frames := 2, cells := 0, slots := 0, locals := 44 }
def pX8_track_31 (f : xF) (g : xG) : Option (Int32 × xF × xG) := some ((-2 : Int32), f, g)

def pX8_track_0 (f : xF) (g : xG) (v1 : Int32) (v2 : Int32) (v3 : Int32) : Option (Int32 × xF × xG) := (pX8_isStone f g v1).bind (fun r2 => if r2 = 0 then pX8_track_31 f g else (pX8_in f g v2 (0 : Int32) (999 : Int32)).bind (fun r14 => if r14 = 0 then pX8_track_31 f g else (pX8_in f g v3 (0 : Int32) (99 : Int32)).bind (fun r25 => if r25 = 0 then pX8_track_31 f g else (if (f 32) = (24 : Int32) then some ((-4 : Int32), f, g) else (if gin (f 32) 24 = true then if gin (f 32) 24 = true then if gin (f 32) 24 = true then some (((upd f 32 ((f 32) + (1 : Int32))) 32) - (1 : Int32), upd f 32 ((f 32) + (1 : Int32)), va_up (va_up (va_up g 33 (upd (g 33) (f 32).toNatClampNeg v1)) 34 (upd ((va_up g 33 (upd (g 33) (f 32).toNatClampNeg v1)) 34) (f 32).toNatClampNeg v2)) 35 (upd ((va_up (va_up g 33 (upd (g 33) (f 32).toNatClampNeg v1)) 34 (upd ((va_up g 33 (upd (g 33) (f 32).toNatClampNeg v1)) 34) (f 32).toNatClampNeg v2)) 35) (f 32).toNatClampNeg v3)) else none else none else none)))))

abbrev pX8_track (f : xF) (g : xG) (v1 : Int32) (v2 : Int32) (v3 : Int32) : Option (Int32 × xF × xG) := pX8_track_0 f g v1 v2 v3
theorem bX8_track_31 {p : Program} {l : Launch} {e : Env} {s : State} {m : MethodId} {as : Array Value} {below : List Frame} {meth : Method} {c : Code} {A : Nat → Prop} {Q : State → Prop} {γ : wx_G} {o : Nat} {ad : Nat → Nat} {z : Int32 × xF × xG} (C : CallFix p m c cX8_track 4 s as lw_all RX8) (K : wx_C γ A s) (E : ∀ (H : Heap) (locs : List Loc) (ls : Array Slot) (pc : Nat), wx_w γ A s H locs (mw γ o ad z.2.1 z.2.2) → decode cX8_track pc = .ok (.ireturn, 1) → W p l e rmX8_track s m as below meth c H locs 0 0 Q (F0 m pc ls [.int z.1])) {f : xF} {g : xG} {H : Heap} {locs : List Loc} {ls : Array Slot} (w : wx_w γ A s H locs (mw γ o ad f g)) (hl : lv_has ls 4 []) (hF : pX8_track_31 f g = some z) : W p l e rmX8_track s m as below meth c H locs 0 0 Q (F0 m 31 ls []) := by
  have hx := C.1
  have hb := C.2.1
  unfold pX8_track_31 at hF
  refine lv_bipush (v := (-2 : Int32)) hx hb dX8_track_31 (by decide) ?_
  have hF := Option.some.inj hF
  subst hF
  exact E _ _ _ _ w dX8_track_33

theorem bX8_track_0 {p : Program} {l : Launch} {e : Env} {s : State} {m : MethodId} {as : Array Value} {below : List Frame} {meth : Method} {c : Code} {A : Nat → Prop} {Q : State → Prop} {γ : wx_G} {o : Nat} {ad : Nat → Nat} {z : Int32 × xF × xG} (C : CallFix p m c cX8_track 4 s as lw_all RX8) (K : wx_C γ A s) (E : ∀ (H : Heap) (locs : List Loc) (ls : Array Slot) (pc : Nat), wx_w γ A s H locs (mw γ o ad z.2.1 z.2.2) → decode cX8_track pc = .ok (.ireturn, 1) → W p l e rmX8_track s m as below meth c H locs 0 0 Q (F0 m pc ls [.int z.1])) {f : xF} {g : xG} {v1 : Int32} {v2 : Int32} {v3 : Int32} {H : Heap} {locs : List Loc} {ls : Array Slot} (w : wx_w γ A s H locs (mw γ o ad f g)) (hl : lv_has ls 4 [(0, .ref o), (1, .int v1), (2, .int v2), (3, .int v3)]) (hF : pX8_track_0 f g v1 v2 v3 = some z) : W p l e rmX8_track s m as below meth c H locs 0 0 Q (F0 m 0 ls []) := by
  have hx := C.1
  have hb := C.2.1
  unfold pX8_track_0 at hF
  refine lv_aload_n hx hb dX8_track_0 rfl (lv_at hl 0 rfl) ?_
  refine lv_iload_n hx hb dX8_track_1 rfl (lv_at hl 1 rfl) ?_
  obtain ⟨r2, hr, hF⟩ := obd hF
  refine rX8_isStone C K w hr hl.1 ⟨Nat.le_of_ble_eq_true rfl, Nat.le_of_ble_eq_true rfl⟩ (Nat.le_of_ble_eq_true rfl) dX8_track_2 (fun H locs w => ?_)
  refine lv_if_eq (tgt := 31) hx hb dX8_track_5 (by decide) (fun c => ?_) (fun c => ?_)
  · have hF := (if_pos c).symm.trans hF
    exact bX8_track_31 C K E w (lv_sub hl [] rfl) hF
  · have hF := (if_neg c).symm.trans hF
    refine lv_aload_n hx hb dX8_track_8 rfl (lv_at hl 0 rfl) ?_
    refine lv_iload_n hx hb dX8_track_9 rfl (lv_at hl 2 rfl) ?_
    refine lv_iconst (v := (0 : Int32)) hx hb dX8_track_10 (by decide) ?_
    refine lv_sipush (v := (999 : Int32)) hx hb dX8_track_11 (by decide) ?_
    obtain ⟨r14, hr, hF⟩ := obd hF
    refine rX8_in C K w hr hl.1 ⟨Nat.le_of_ble_eq_true rfl, Nat.le_of_ble_eq_true rfl⟩ (Nat.le_of_ble_eq_true rfl) dX8_track_14 (fun H locs w => ?_)
    refine lv_if_eq (tgt := 31) hx hb dX8_track_17 (by decide) (fun c => ?_) (fun c => ?_)
    · have hF := (if_pos c).symm.trans hF
      exact bX8_track_31 C K E w (lv_sub hl [] rfl) hF
    · have hF := (if_neg c).symm.trans hF
      refine lv_aload_n hx hb dX8_track_20 rfl (lv_at hl 0 rfl) ?_
      refine lv_iload_n hx hb dX8_track_21 rfl (lv_at hl 3 rfl) ?_
      refine lv_iconst (v := (0 : Int32)) hx hb dX8_track_22 (by decide) ?_
      refine lv_bipush (v := (99 : Int32)) hx hb dX8_track_23 (by decide) ?_
      obtain ⟨r25, hr, hF⟩ := obd hF
      refine rX8_in C K w hr hl.1 ⟨Nat.le_of_ble_eq_true rfl, Nat.le_of_ble_eq_true rfl⟩ (Nat.le_of_ble_eq_true rfl) dX8_track_25 (fun H locs w => ?_)
      refine lv_if_ne (tgt := 34) hx hb dX8_track_28 (by decide) (fun c => ?_) (fun c => ?_)
      · have hF := (if_neg c).symm.trans hF
        refine lv_aload_n hx hb dX8_track_34 rfl (lv_at hl 0 rfl) ?_
        refine mget_32 C K w dX8_track_35 ?_
        refine lv_bipush (v := (24 : Int32)) hx hb dX8_track_38 (by decide) ?_
        refine lv_icmp_ne (tgt := 46) hx hb dX8_track_40 (by decide) (fun c => ?_) (fun c => ?_)
        · have hF := (if_neg c).symm.trans hF
          refine lv_aload_n hx hb dX8_track_46 rfl (lv_at hl 0 rfl) ?_
          refine mget_33 C K w dX8_track_47 ?_
          refine lv_aload_n hx hb dX8_track_50 rfl (lv_at hl 0 rfl) ?_
          refine mget_32 C K w dX8_track_51 ?_
          refine lv_iload_n hx hb dX8_track_54 rfl (lv_at hl 1 rfl) ?_
          obtain ⟨hi, hF⟩ := gin_if hF
          refine mast_33 C K w hi dX8_track_55 (fun H locs w => ?_)
          refine lv_aload_n hx hb dX8_track_56 rfl (lv_at hl 0 rfl) ?_
          refine mget_34 C K w dX8_track_57 ?_
          refine lv_aload_n hx hb dX8_track_60 rfl (lv_at hl 0 rfl) ?_
          refine mget_32 C K w dX8_track_61 ?_
          refine lv_iload_n hx hb dX8_track_64 rfl (lv_at hl 2 rfl) ?_
          obtain ⟨hi, hF⟩ := gin_if hF
          refine mast_34 C K w hi dX8_track_65 (fun H locs w => ?_)
          refine lv_aload_n hx hb dX8_track_66 rfl (lv_at hl 0 rfl) ?_
          refine mget_35 C K w dX8_track_67 ?_
          refine lv_aload_n hx hb dX8_track_70 rfl (lv_at hl 0 rfl) ?_
          refine mget_32 C K w dX8_track_71 ?_
          refine lv_iload_n hx hb dX8_track_74 rfl (lv_at hl 3 rfl) ?_
          obtain ⟨hi, hF⟩ := gin_if hF
          refine mast_35 C K w hi dX8_track_75 (fun H locs w => ?_)
          refine lv_aload_n hx hb dX8_track_76 rfl (lv_at hl 0 rfl) ?_
          refine lv_dup hx hb dX8_track_77 rfl ?_
          refine mget_32 C K w dX8_track_78 ?_
          refine lv_iconst (v := (1 : Int32)) hx hb dX8_track_81 (by decide) ?_
          refine lv_iadd hx hb dX8_track_82 ?_
          refine mput_32 C K w dX8_track_83 (fun H locs w => ?_)
          refine lv_aload_n hx hb dX8_track_86 rfl (lv_at hl 0 rfl) ?_
          refine mget_32 C K w dX8_track_87 ?_
          refine lv_iconst (v := (1 : Int32)) hx hb dX8_track_90 (by decide) ?_
          refine lv_isub hx hb dX8_track_91 ?_
          have hF := Option.some.inj hF
          subst hF
          exact E _ _ _ _ w dX8_track_92
        · have hF := (if_pos c).symm.trans hF
          refine lv_bipush (v := (-4 : Int32)) hx hb dX8_track_43 (by decide) ?_
          have hF := Option.some.inj hF
          subst hF
          exact E _ _ _ _ w dX8_track_45
      · have hF := (if_pos c).symm.trans hF
        exact bX8_track_31 C K E w (lv_sub hl [] rfl) hF

theorem mX8_track {l : Launch} {γ : wx_G} {o : Nat} {ad : Nat → Nat} {f : xF} {g : xG} {v1 : Int32} {v2 : Int32} {v3 : Int32} {z : Int32 × xF × xG} (hF : pX8_track f g v1 v2 v3 = some z) : wx_M γ l yX8_track (ws_ yX8_track cX8_track 4 (some .int)) rmX8_track [.ref o, .int v1, .int v2, .int v3] (mw γ o ad f g) (fun v ws => v = some (.int z.1) ∧ ws = (mw γ o ad z.2.1 z.2.2)) 0 0 := by
  refine wx_M.of (by decide) (Nat.le_of_ble_eq_true rfl) ?_
  intro p e s m as below meth c A ls C K w hr hlocks _ hl
  exact bX8_track_0 C K (fun H locs ls pc w d => wx_iret C hr hlocks w ⟨rfl, rfl⟩ d) w hl hF

/-! WalkingStonesModel.isTrack(I)Z -/
abbrev rmX8_isTrack : Room := { frames := 1, cells := 0, slots := 0, locals := 23 }
def pX8_isTrack_0 (f : xF) (g : xG) (v1 : Int32) : Option (Int32) := (pX8_in f g v1 (0 : Int32) ((f 32) - (1 : Int32))).bind (fun r9 => if gbz r9 = true then some (r9) else none)

abbrev pX8_isTrack (f : xF) (g : xG) (v1 : Int32) : Option (Int32) := pX8_isTrack_0 f g v1
theorem bX8_isTrack_0 {p : Program} {l : Launch} {e : Env} {s : State} {m : MethodId} {as : Array Value} {below : List Frame} {meth : Method} {c : Code} {A : Nat → Prop} {Q : State → Prop} {γ : wx_G} {o : Nat} {ad : Nat → Nat} {z : Int32} {f : xF} {g : xG} (C : CallFix p m c cX8_isTrack 2 s as lw_all RX8) (K : wx_C γ A s) (E : ∀ (H : Heap) (locs : List Loc) (ls : Array Slot) (pc : Nat), narrow .boolean (.int z) = .int z → wx_w γ A s H locs (mw γ o ad f g) → decode cX8_isTrack pc = .ok (.ireturn, 1) → W p l e rmX8_isTrack s m as below meth c H locs 0 0 Q (F0 m pc ls [.int z])) {v1 : Int32} {H : Heap} {locs : List Loc} {ls : Array Slot} (w : wx_w γ A s H locs (mw γ o ad f g)) (hl : lv_has ls 2 [(0, .ref o), (1, .int v1)]) (hF : pX8_isTrack_0 f g v1 = some z) : W p l e rmX8_isTrack s m as below meth c H locs 0 0 Q (F0 m 0 ls []) := by
  have hx := C.1
  have hb := C.2.1
  unfold pX8_isTrack_0 at hF
  refine lv_aload_n hx hb dX8_isTrack_0 rfl (lv_at hl 0 rfl) ?_
  refine lv_iload_n hx hb dX8_isTrack_1 rfl (lv_at hl 1 rfl) ?_
  refine lv_iconst (v := (0 : Int32)) hx hb dX8_isTrack_2 (by decide) ?_
  refine lv_aload_n hx hb dX8_isTrack_3 rfl (lv_at hl 0 rfl) ?_
  refine mget_32 C K w dX8_isTrack_4 ?_
  refine lv_iconst (v := (1 : Int32)) hx hb dX8_isTrack_7 (by decide) ?_
  refine lv_isub hx hb dX8_isTrack_8 ?_
  obtain ⟨r9, hr, hF⟩ := obd hF
  refine rX8_in C K w hr hl.1 ⟨Nat.le_of_ble_eq_true rfl, Nat.le_of_ble_eq_true rfl⟩ (Nat.le_of_ble_eq_true rfl) dX8_isTrack_9 (fun H locs w => ?_)
  obtain ⟨hz, hF⟩ := gbz_if hF
  have hF := Option.some.inj hF
  subst hF
  exact E _ _ _ _ hz w dX8_isTrack_12

theorem mX8_isTrack {l : Launch} {γ : wx_G} {o : Nat} {ad : Nat → Nat} {f : xF} {g : xG} {v1 : Int32} {z : Int32} (hF : pX8_isTrack f g v1 = some z) : wx_M γ l yX8_isTrack (ws_ yX8_isTrack cX8_isTrack 2 (some .boolean)) rmX8_isTrack [.ref o, .int v1] (mw γ o ad f g) (fun v ws => v = some (.int z) ∧ ws = (mw γ o ad f g)) 0 0 := by
  refine wx_M.of (by decide) (Nat.le_of_ble_eq_true rfl) ?_
  intro p e s m as below meth c A ls C K w hr hlocks _ hl
  exact bX8_isTrack_0 C K (fun H locs ls pc hz w d => wx_zret C hr hlocks hz w ⟨rfl, rfl⟩ d) w hl hF
theorem rX8_isTrack {p : Program} {l : Launch} {e : Env} {R : Room} {s : State} {m : MethodId} {as : Array Value} {below : List Frame} {meth : Method} {c : Code} {H : Heap} {locs : List Loc} {cells slots : Nat} {Q : State → Prop} {cc : ByteArray} {nL pc : Nat} {ls : Array Slot} {rest : List Value} {γ : wx_G} {A : Nat → Prop} {o : Nat} {ad : Nat → Nat} {f : xF} {g : xG} {v1 : Int32} {z : Int32} (C : CallFix p m c cc nL s as lw_all RX8) (K : wx_C γ A s) (w : wx_w γ A s H locs (mw γ o ad f g)) (hF : pX8_isTrack f g v1 = some z) (hls : ls.size = nL) (hR : rmX8_isTrack.frames + 1 ≤ R.frames ∧ 8 + (2 + 11) + rmX8_isTrack.locals ≤ R.locals) (hW : (rest.map fun v => v.category).sum ≤ 8) (d : decode cc pc = .ok (.invokevirtual 314, 3)) (kk : ∀ (H : Heap) (locs : List Loc), wx_w γ A s H locs (mw γ o ad f g) → W p l e R s m as below meth c H locs cells slots Q (F0 m (pc + 3) ls (.int z :: rest))) (hf : cells ≤ R.cells ∧ slots ≤ R.slots := by exact ⟨Nat.le_of_ble_eq_true rfl, Nat.le_of_ble_eq_true rfl⟩) : W p l e R s m as below meth c H locs cells slots Q (F0 m pc ls (.int v1 :: .ref o :: rest)) :=
  wx_callV (n := 1) C K w (mX8_isTrack (l := l) hF) q1664 q1666 qs88 q123 q1667 rfl rfl (by decide +kernel) (va_recv K.1.1 w.1 (ci := 0) (q0 := 0) rfl rfl) rfl rfl hR hls hW hf d (fun v ws H1 locs1 hp w => by obtain ⟨rfl, rfl⟩ := hp; exact kk H1 locs1 w)

/-! WalkingStonesModel.apart(II)I -/
abbrev rmX8_apart : Room := { frames := 0, cells := 0, slots := 0, locals := 0 }
def pX8_apart_14 (f : xF) (g : xG) (t0 : Int32) : Option (Int32) := some (t0)

def pX8_apart_0 (f : xF) (g : xG) (v1 : Int32) (v2 : Int32) : Option (Int32) := if v2 ≤ v1 then pX8_apart_14 f g (v1 - v2) else pX8_apart_14 f g (v2 - v1)

abbrev pX8_apart (f : xF) (g : xG) (v1 : Int32) (v2 : Int32) : Option (Int32) := pX8_apart_0 f g v1 v2
theorem bX8_apart_14 {p : Program} {l : Launch} {e : Env} {s : State} {m : MethodId} {as : Array Value} {below : List Frame} {meth : Method} {c : Code} {A : Nat → Prop} {Q : State → Prop} {γ : wx_G} {o : Nat} {ad : Nat → Nat} {z : Int32} {f : xF} {g : xG} (C : CallFix p m c cX8_apart 3 s as lw_all RX8) (K : wx_C γ A s) (E : ∀ (H : Heap) (locs : List Loc) (ls : Array Slot) (pc : Nat), wx_w γ A s H locs (mw γ o ad f g) → decode cX8_apart pc = .ok (.ireturn, 1) → W p l e rmX8_apart s m as below meth c H locs 0 0 Q (F0 m pc ls [.int z])) {t0 : Int32} {H : Heap} {locs : List Loc} {ls : Array Slot} (w : wx_w γ A s H locs (mw γ o ad f g)) (hl : lv_has ls 3 []) (hF : pX8_apart_14 f g t0 = some z) : W p l e rmX8_apart s m as below meth c H locs 0 0 Q (F0 m 14 ls [.int t0]) := by
  have hx := C.1
  have hb := C.2.1
  unfold pX8_apart_14 at hF
  have hF := Option.some.inj hF
  subst hF
  exact E _ _ _ _ w dX8_apart_14

theorem bX8_apart_0 {p : Program} {l : Launch} {e : Env} {s : State} {m : MethodId} {as : Array Value} {below : List Frame} {meth : Method} {c : Code} {A : Nat → Prop} {Q : State → Prop} {γ : wx_G} {o : Nat} {ad : Nat → Nat} {z : Int32} {f : xF} {g : xG} (C : CallFix p m c cX8_apart 3 s as lw_all RX8) (K : wx_C γ A s) (E : ∀ (H : Heap) (locs : List Loc) (ls : Array Slot) (pc : Nat), wx_w γ A s H locs (mw γ o ad f g) → decode cX8_apart pc = .ok (.ireturn, 1) → W p l e rmX8_apart s m as below meth c H locs 0 0 Q (F0 m pc ls [.int z])) {v1 : Int32} {v2 : Int32} {H : Heap} {locs : List Loc} {ls : Array Slot} (w : wx_w γ A s H locs (mw γ o ad f g)) (hl : lv_has ls 3 [(0, .ref o), (1, .int v1), (2, .int v2)]) (hF : pX8_apart_0 f g v1 v2 = some z) : W p l e rmX8_apart s m as below meth c H locs 0 0 Q (F0 m 0 ls []) := by
  have hx := C.1
  have hb := C.2.1
  unfold pX8_apart_0 at hF
  refine lv_iload_n hx hb dX8_apart_0 rfl (lv_at hl 1 rfl) ?_
  refine lv_iload_n hx hb dX8_apart_1 rfl (lv_at hl 2 rfl) ?_
  refine lv_icmp_ge (tgt := 11) hx hb dX8_apart_2 (by decide) (fun c => ?_) (fun c => ?_)
  · have hF := (if_pos c).symm.trans hF
    refine lv_iload_n hx hb dX8_apart_11 rfl (lv_at hl 1 rfl) ?_
    refine lv_iload_n hx hb dX8_apart_12 rfl (lv_at hl 2 rfl) ?_
    refine lv_isub hx hb dX8_apart_13 ?_
    exact bX8_apart_14 C K E w (lv_sub hl [] rfl) hF
  · have hF := (if_neg c).symm.trans hF
    refine lv_iload_n hx hb dX8_apart_5 rfl (lv_at hl 2 rfl) ?_
    refine lv_iload_n hx hb dX8_apart_6 rfl (lv_at hl 1 rfl) ?_
    refine lv_isub hx hb dX8_apart_7 ?_
    refine lv_goto (tgt := 14) hx hb dX8_apart_8 (by decide) ?_
    exact bX8_apart_14 C K E w (lv_sub hl [] rfl) hF

theorem mX8_apart {l : Launch} {γ : wx_G} {o : Nat} {ad : Nat → Nat} {f : xF} {g : xG} {v1 : Int32} {v2 : Int32} {z : Int32} (hF : pX8_apart f g v1 v2 = some z) : wx_M γ l yX8_apart (ws_ yX8_apart cX8_apart 3 (some .int)) rmX8_apart [.ref o, .int v1, .int v2] (mw γ o ad f g) (fun v ws => v = some (.int z) ∧ ws = (mw γ o ad f g)) 0 0 := by
  refine wx_M.of (by decide) (Nat.le_of_ble_eq_true rfl) ?_
  intro p e s m as below meth c A ls C K w hr hlocks _ hl
  exact bX8_apart_0 C K (fun H locs ls pc w d => wx_iret C hr hlocks w ⟨rfl, rfl⟩ d) w hl hF
theorem rX8_apart {p : Program} {l : Launch} {e : Env} {R : Room} {s : State} {m : MethodId} {as : Array Value} {below : List Frame} {meth : Method} {c : Code} {H : Heap} {locs : List Loc} {cells slots : Nat} {Q : State → Prop} {cc : ByteArray} {nL pc : Nat} {ls : Array Slot} {rest : List Value} {γ : wx_G} {A : Nat → Prop} {o : Nat} {ad : Nat → Nat} {f : xF} {g : xG} {v1 : Int32} {v2 : Int32} {z : Int32} (C : CallFix p m c cc nL s as lw_all RX8) (K : wx_C γ A s) (w : wx_w γ A s H locs (mw γ o ad f g)) (hF : pX8_apart f g v1 v2 = some z) (hls : ls.size = nL) (hR : rmX8_apart.frames + 1 ≤ R.frames ∧ 8 + (3 + 11) + rmX8_apart.locals ≤ R.locals) (hW : (rest.map fun v => v.category).sum ≤ 8) (d : decode cc pc = .ok (.invokevirtual 311, 3)) (kk : ∀ (H : Heap) (locs : List Loc), wx_w γ A s H locs (mw γ o ad f g) → W p l e R s m as below meth c H locs cells slots Q (F0 m (pc + 3) ls (.int z :: rest))) (hf : cells ≤ R.cells ∧ slots ≤ R.slots := by exact ⟨Nat.le_of_ble_eq_true rfl, Nat.le_of_ble_eq_true rfl⟩) : W p l e R s m as below meth c H locs cells slots Q (F0 m pc ls (.int v2 :: .int v1 :: .ref o :: rest)) :=
  wx_callV (n := 2) C K w (mX8_apart (l := l) hF) q1672 q1674 qs90 q123 q1675 rfl rfl (by decide +kernel) (va_recv K.1.1 w.1 (ci := 0) (q0 := 0) rfl rfl) rfl rfl hR hls hW hf d (fun v ws H1 locs1 hp w => by obtain ⟨rfl, rfl⟩ := hp; exact kk H1 locs1 w)

/-! WalkingStonesModel.areTogether(III)Z -/
abbrev rmX8_areTogether : Room := { frames := 1, cells := 0, slots := 0, locals := 22 }
def pX8_areTogether_40 (f : xF) (g : xG) (t0 : Int32) : Option (Int32) := if gbz t0 = true then some (t0) else none

def pX8_areTogether_39 (f : xF) (g : xG) : Option (Int32) := pX8_areTogether_40 f g (0 : Int32)

def pX8_areTogether_0 (f : xF) (g : xG) (v1 : Int32) (v2 : Int32) (v3 : Int32) : Option (Int32) := if gin v1 24 = true then if gin v2 24 = true then if (g 35 v1.toNatClampNeg) = (g 35 v2.toNatClampNeg) then (if gin v1 24 = true then if gin v2 24 = true then (pX8_apart f g (g 34 v1.toNatClampNeg) (g 34 v2.toNatClampNeg)).bind (fun r28 => if v3 < r28 then pX8_areTogether_39 f g else pX8_areTogether_40 f g (1 : Int32)) else none else none) else pX8_areTogether_39 f g else none else none

abbrev pX8_areTogether (f : xF) (g : xG) (v1 : Int32) (v2 : Int32) (v3 : Int32) : Option (Int32) := pX8_areTogether_0 f g v1 v2 v3
theorem bX8_areTogether_40 {p : Program} {l : Launch} {e : Env} {s : State} {m : MethodId} {as : Array Value} {below : List Frame} {meth : Method} {c : Code} {A : Nat → Prop} {Q : State → Prop} {γ : wx_G} {o : Nat} {ad : Nat → Nat} {z : Int32} {f : xF} {g : xG} (C : CallFix p m c cX8_areTogether 4 s as lw_all RX8) (K : wx_C γ A s) (E : ∀ (H : Heap) (locs : List Loc) (ls : Array Slot) (pc : Nat), narrow .boolean (.int z) = .int z → wx_w γ A s H locs (mw γ o ad f g) → decode cX8_areTogether pc = .ok (.ireturn, 1) → W p l e rmX8_areTogether s m as below meth c H locs 0 0 Q (F0 m pc ls [.int z])) {t0 : Int32} {H : Heap} {locs : List Loc} {ls : Array Slot} (w : wx_w γ A s H locs (mw γ o ad f g)) (hl : lv_has ls 4 []) (hF : pX8_areTogether_40 f g t0 = some z) : W p l e rmX8_areTogether s m as below meth c H locs 0 0 Q (F0 m 40 ls [.int t0]) := by
  have hx := C.1
  have hb := C.2.1
  unfold pX8_areTogether_40 at hF
  obtain ⟨hz, hF⟩ := gbz_if hF
  have hF := Option.some.inj hF
  subst hF
  exact E _ _ _ _ hz w dX8_areTogether_40

theorem bX8_areTogether_39 {p : Program} {l : Launch} {e : Env} {s : State} {m : MethodId} {as : Array Value} {below : List Frame} {meth : Method} {c : Code} {A : Nat → Prop} {Q : State → Prop} {γ : wx_G} {o : Nat} {ad : Nat → Nat} {z : Int32} {f : xF} {g : xG} (C : CallFix p m c cX8_areTogether 4 s as lw_all RX8) (K : wx_C γ A s) (E : ∀ (H : Heap) (locs : List Loc) (ls : Array Slot) (pc : Nat), narrow .boolean (.int z) = .int z → wx_w γ A s H locs (mw γ o ad f g) → decode cX8_areTogether pc = .ok (.ireturn, 1) → W p l e rmX8_areTogether s m as below meth c H locs 0 0 Q (F0 m pc ls [.int z])) {H : Heap} {locs : List Loc} {ls : Array Slot} (w : wx_w γ A s H locs (mw γ o ad f g)) (hl : lv_has ls 4 []) (hF : pX8_areTogether_39 f g = some z) : W p l e rmX8_areTogether s m as below meth c H locs 0 0 Q (F0 m 39 ls []) := by
  have hx := C.1
  have hb := C.2.1
  unfold pX8_areTogether_39 at hF
  refine lv_iconst (v := (0 : Int32)) hx hb dX8_areTogether_39 (by decide) ?_
  exact bX8_areTogether_40 C K E w hl hF

theorem bX8_areTogether_0 {p : Program} {l : Launch} {e : Env} {s : State} {m : MethodId} {as : Array Value} {below : List Frame} {meth : Method} {c : Code} {A : Nat → Prop} {Q : State → Prop} {γ : wx_G} {o : Nat} {ad : Nat → Nat} {z : Int32} {f : xF} {g : xG} (C : CallFix p m c cX8_areTogether 4 s as lw_all RX8) (K : wx_C γ A s) (E : ∀ (H : Heap) (locs : List Loc) (ls : Array Slot) (pc : Nat), narrow .boolean (.int z) = .int z → wx_w γ A s H locs (mw γ o ad f g) → decode cX8_areTogether pc = .ok (.ireturn, 1) → W p l e rmX8_areTogether s m as below meth c H locs 0 0 Q (F0 m pc ls [.int z])) {v1 : Int32} {v2 : Int32} {v3 : Int32} {H : Heap} {locs : List Loc} {ls : Array Slot} (w : wx_w γ A s H locs (mw γ o ad f g)) (hl : lv_has ls 4 [(0, .ref o), (1, .int v1), (2, .int v2), (3, .int v3)]) (hF : pX8_areTogether_0 f g v1 v2 v3 = some z) : W p l e rmX8_areTogether s m as below meth c H locs 0 0 Q (F0 m 0 ls []) := by
  have hx := C.1
  have hb := C.2.1
  unfold pX8_areTogether_0 at hF
  refine lv_aload_n hx hb dX8_areTogether_0 rfl (lv_at hl 0 rfl) ?_
  refine mget_35 C K w dX8_areTogether_1 ?_
  refine lv_iload_n hx hb dX8_areTogether_4 rfl (lv_at hl 1 rfl) ?_
  obtain ⟨hi, hF⟩ := gin_if hF
  refine mald_35 C K w hi dX8_areTogether_5 ?_
  refine lv_aload_n hx hb dX8_areTogether_6 rfl (lv_at hl 0 rfl) ?_
  refine mget_35 C K w dX8_areTogether_7 ?_
  refine lv_iload_n hx hb dX8_areTogether_10 rfl (lv_at hl 2 rfl) ?_
  obtain ⟨hi, hF⟩ := gin_if hF
  refine mald_35 C K w hi dX8_areTogether_11 ?_
  refine lv_icmp_ne (tgt := 39) hx hb dX8_areTogether_12 (by decide) (fun c => ?_) (fun c => ?_)
  · have hF := (if_neg c).symm.trans hF
    exact bX8_areTogether_39 C K E w (lv_sub hl [] rfl) hF
  · have hF := (if_pos c).symm.trans hF
    refine lv_aload_n hx hb dX8_areTogether_15 rfl (lv_at hl 0 rfl) ?_
    refine lv_aload_n hx hb dX8_areTogether_16 rfl (lv_at hl 0 rfl) ?_
    refine mget_34 C K w dX8_areTogether_17 ?_
    refine lv_iload_n hx hb dX8_areTogether_20 rfl (lv_at hl 1 rfl) ?_
    obtain ⟨hi, hF⟩ := gin_if hF
    refine mald_34 C K w hi dX8_areTogether_21 ?_
    refine lv_aload_n hx hb dX8_areTogether_22 rfl (lv_at hl 0 rfl) ?_
    refine mget_34 C K w dX8_areTogether_23 ?_
    refine lv_iload_n hx hb dX8_areTogether_26 rfl (lv_at hl 2 rfl) ?_
    obtain ⟨hi, hF⟩ := gin_if hF
    refine mald_34 C K w hi dX8_areTogether_27 ?_
    obtain ⟨r28, hr, hF⟩ := obd hF
    refine rX8_apart C K w hr hl.1 ⟨Nat.le_of_ble_eq_true rfl, Nat.le_of_ble_eq_true rfl⟩ (Nat.le_of_ble_eq_true rfl) dX8_areTogether_28 (fun H locs w => ?_)
    refine lv_iload_n hx hb dX8_areTogether_31 rfl (lv_at hl 3 rfl) ?_
    refine lv_icmp_gt (tgt := 39) hx hb dX8_areTogether_32 (by decide) (fun c => ?_) (fun c => ?_)
    · have hF := (if_pos c).symm.trans hF
      exact bX8_areTogether_39 C K E w (lv_sub hl [] rfl) hF
    · have hF := (if_neg c).symm.trans hF
      refine lv_iconst (v := (1 : Int32)) hx hb dX8_areTogether_35 (by decide) ?_
      refine lv_goto (tgt := 40) hx hb dX8_areTogether_36 (by decide) ?_
      exact bX8_areTogether_40 C K E w (lv_sub hl [] rfl) hF

theorem mX8_areTogether {l : Launch} {γ : wx_G} {o : Nat} {ad : Nat → Nat} {f : xF} {g : xG} {v1 : Int32} {v2 : Int32} {v3 : Int32} {z : Int32} (hF : pX8_areTogether f g v1 v2 v3 = some z) : wx_M γ l yX8_areTogether (ws_ yX8_areTogether cX8_areTogether 4 (some .boolean)) rmX8_areTogether [.ref o, .int v1, .int v2, .int v3] (mw γ o ad f g) (fun v ws => v = some (.int z) ∧ ws = (mw γ o ad f g)) 0 0 := by
  refine wx_M.of (by decide) (Nat.le_of_ble_eq_true rfl) ?_
  intro p e s m as below meth c A ls C K w hr hlocks _ hl
  exact bX8_areTogether_0 C K (fun H locs ls pc hz w d => wx_zret C hr hlocks hz w ⟨rfl, rfl⟩ d) w hl hF
theorem rX8_areTogether {p : Program} {l : Launch} {e : Env} {R : Room} {s : State} {m : MethodId} {as : Array Value} {below : List Frame} {meth : Method} {c : Code} {H : Heap} {locs : List Loc} {cells slots : Nat} {Q : State → Prop} {cc : ByteArray} {nL pc : Nat} {ls : Array Slot} {rest : List Value} {γ : wx_G} {A : Nat → Prop} {o : Nat} {ad : Nat → Nat} {f : xF} {g : xG} {v1 : Int32} {v2 : Int32} {v3 : Int32} {z : Int32} (C : CallFix p m c cc nL s as lw_all RX8) (K : wx_C γ A s) (w : wx_w γ A s H locs (mw γ o ad f g)) (hF : pX8_areTogether f g v1 v2 v3 = some z) (hls : ls.size = nL) (hR : rmX8_areTogether.frames + 1 ≤ R.frames ∧ 8 + (4 + 11) + rmX8_areTogether.locals ≤ R.locals) (hW : (rest.map fun v => v.category).sum ≤ 8) (d : decode cc pc = .ok (.invokevirtual 317, 3)) (kk : ∀ (H : Heap) (locs : List Loc), wx_w γ A s H locs (mw γ o ad f g) → W p l e R s m as below meth c H locs cells slots Q (F0 m (pc + 3) ls (.int z :: rest))) (hf : cells ≤ R.cells ∧ slots ≤ R.slots := by exact ⟨Nat.le_of_ble_eq_true rfl, Nat.le_of_ble_eq_true rfl⟩) : W p l e R s m as below meth c H locs cells slots Q (F0 m pc ls (.int v3 :: .int v2 :: .int v1 :: .ref o :: rest)) :=
  wx_callV (n := 3) C K w (mX8_areTogether (l := l) hF) q1668 q1670 qs89 q123 q1671 rfl rfl (by decide +kernel) (va_recv K.1.1 w.1 (ci := 0) (q0 := 0) rfl rfl) rfl rfl hR hls hW hf d (fun v ws H1 locs1 hp w => by obtain ⟨rfl, rfl⟩ := hp; exact kk H1 locs1 w)

/-! WalkingStonesModel.together(III)I -/
abbrev rmX8_together : Room := { frames := 2, cells := 0, slots := 0, locals := 45 }
def pX8_together_32 (f : xF) (g : xG) : Option (Int32) := some ((-2 : Int32))

def pX8_together_50 (f : xF) (g : xG) (t0 : Int32) : Option (Int32) := some (t0)

def pX8_together_0 (f : xF) (g : xG) (v1 : Int32) (v2 : Int32) (v3 : Int32) : Option (Int32) := (pX8_isTrack f g v1).bind (fun r2 => if r2 = 0 then pX8_together_32 f g else (pX8_isTrack f g v2).bind (fun r10 => if r10 = 0 then pX8_together_32 f g else (if v1 = v2 then pX8_together_32 f g else (pX8_in f g v3 (0 : Int32) (99 : Int32)).bind (fun r26 => if r26 = 0 then pX8_together_32 f g else (pX8_areTogether f g v1 v2 v3).bind (fun r39 => if r39 = 0 then pX8_together_50 f g (0 : Int32) else pX8_together_50 f g (1 : Int32))))))

abbrev pX8_together (f : xF) (g : xG) (v1 : Int32) (v2 : Int32) (v3 : Int32) : Option (Int32) := pX8_together_0 f g v1 v2 v3
theorem bX8_together_32 {p : Program} {l : Launch} {e : Env} {s : State} {m : MethodId} {as : Array Value} {below : List Frame} {meth : Method} {c : Code} {A : Nat → Prop} {Q : State → Prop} {γ : wx_G} {o : Nat} {ad : Nat → Nat} {z : Int32} {f : xF} {g : xG} (C : CallFix p m c cX8_together 4 s as lw_all RX8) (K : wx_C γ A s) (E : ∀ (H : Heap) (locs : List Loc) (ls : Array Slot) (pc : Nat), wx_w γ A s H locs (mw γ o ad f g) → decode cX8_together pc = .ok (.ireturn, 1) → W p l e rmX8_together s m as below meth c H locs 0 0 Q (F0 m pc ls [.int z])) {H : Heap} {locs : List Loc} {ls : Array Slot} (w : wx_w γ A s H locs (mw γ o ad f g)) (hl : lv_has ls 4 []) (hF : pX8_together_32 f g = some z) : W p l e rmX8_together s m as below meth c H locs 0 0 Q (F0 m 32 ls []) := by
  have hx := C.1
  have hb := C.2.1
  unfold pX8_together_32 at hF
  refine lv_bipush (v := (-2 : Int32)) hx hb dX8_together_32 (by decide) ?_
  have hF := Option.some.inj hF
  subst hF
  exact E _ _ _ _ w dX8_together_34

theorem bX8_together_50 {p : Program} {l : Launch} {e : Env} {s : State} {m : MethodId} {as : Array Value} {below : List Frame} {meth : Method} {c : Code} {A : Nat → Prop} {Q : State → Prop} {γ : wx_G} {o : Nat} {ad : Nat → Nat} {z : Int32} {f : xF} {g : xG} (C : CallFix p m c cX8_together 4 s as lw_all RX8) (K : wx_C γ A s) (E : ∀ (H : Heap) (locs : List Loc) (ls : Array Slot) (pc : Nat), wx_w γ A s H locs (mw γ o ad f g) → decode cX8_together pc = .ok (.ireturn, 1) → W p l e rmX8_together s m as below meth c H locs 0 0 Q (F0 m pc ls [.int z])) {t0 : Int32} {H : Heap} {locs : List Loc} {ls : Array Slot} (w : wx_w γ A s H locs (mw γ o ad f g)) (hl : lv_has ls 4 []) (hF : pX8_together_50 f g t0 = some z) : W p l e rmX8_together s m as below meth c H locs 0 0 Q (F0 m 50 ls [.int t0]) := by
  have hx := C.1
  have hb := C.2.1
  unfold pX8_together_50 at hF
  have hF := Option.some.inj hF
  subst hF
  exact E _ _ _ _ w dX8_together_50

theorem bX8_together_0 {p : Program} {l : Launch} {e : Env} {s : State} {m : MethodId} {as : Array Value} {below : List Frame} {meth : Method} {c : Code} {A : Nat → Prop} {Q : State → Prop} {γ : wx_G} {o : Nat} {ad : Nat → Nat} {z : Int32} {f : xF} {g : xG} (C : CallFix p m c cX8_together 4 s as lw_all RX8) (K : wx_C γ A s) (E : ∀ (H : Heap) (locs : List Loc) (ls : Array Slot) (pc : Nat), wx_w γ A s H locs (mw γ o ad f g) → decode cX8_together pc = .ok (.ireturn, 1) → W p l e rmX8_together s m as below meth c H locs 0 0 Q (F0 m pc ls [.int z])) {v1 : Int32} {v2 : Int32} {v3 : Int32} {H : Heap} {locs : List Loc} {ls : Array Slot} (w : wx_w γ A s H locs (mw γ o ad f g)) (hl : lv_has ls 4 [(0, .ref o), (1, .int v1), (2, .int v2), (3, .int v3)]) (hF : pX8_together_0 f g v1 v2 v3 = some z) : W p l e rmX8_together s m as below meth c H locs 0 0 Q (F0 m 0 ls []) := by
  have hx := C.1
  have hb := C.2.1
  unfold pX8_together_0 at hF
  refine lv_aload_n hx hb dX8_together_0 rfl (lv_at hl 0 rfl) ?_
  refine lv_iload_n hx hb dX8_together_1 rfl (lv_at hl 1 rfl) ?_
  obtain ⟨r2, hr, hF⟩ := obd hF
  refine rX8_isTrack C K w hr hl.1 ⟨Nat.le_of_ble_eq_true rfl, Nat.le_of_ble_eq_true rfl⟩ (Nat.le_of_ble_eq_true rfl) dX8_together_2 (fun H locs w => ?_)
  refine lv_if_eq (tgt := 32) hx hb dX8_together_5 (by decide) (fun c => ?_) (fun c => ?_)
  · have hF := (if_pos c).symm.trans hF
    exact bX8_together_32 C K E w (lv_sub hl [] rfl) hF
  · have hF := (if_neg c).symm.trans hF
    refine lv_aload_n hx hb dX8_together_8 rfl (lv_at hl 0 rfl) ?_
    refine lv_iload_n hx hb dX8_together_9 rfl (lv_at hl 2 rfl) ?_
    obtain ⟨r10, hr, hF⟩ := obd hF
    refine rX8_isTrack C K w hr hl.1 ⟨Nat.le_of_ble_eq_true rfl, Nat.le_of_ble_eq_true rfl⟩ (Nat.le_of_ble_eq_true rfl) dX8_together_10 (fun H locs w => ?_)
    refine lv_if_eq (tgt := 32) hx hb dX8_together_13 (by decide) (fun c => ?_) (fun c => ?_)
    · have hF := (if_pos c).symm.trans hF
      exact bX8_together_32 C K E w (lv_sub hl [] rfl) hF
    · have hF := (if_neg c).symm.trans hF
      refine lv_iload_n hx hb dX8_together_16 rfl (lv_at hl 1 rfl) ?_
      refine lv_iload_n hx hb dX8_together_17 rfl (lv_at hl 2 rfl) ?_
      refine lv_icmp_eq (tgt := 32) hx hb dX8_together_18 (by decide) (fun c => ?_) (fun c => ?_)
      · have hF := (if_pos c).symm.trans hF
        exact bX8_together_32 C K E w (lv_sub hl [] rfl) hF
      · have hF := (if_neg c).symm.trans hF
        refine lv_aload_n hx hb dX8_together_21 rfl (lv_at hl 0 rfl) ?_
        refine lv_iload_n hx hb dX8_together_22 rfl (lv_at hl 3 rfl) ?_
        refine lv_iconst (v := (0 : Int32)) hx hb dX8_together_23 (by decide) ?_
        refine lv_bipush (v := (99 : Int32)) hx hb dX8_together_24 (by decide) ?_
        obtain ⟨r26, hr, hF⟩ := obd hF
        refine rX8_in C K w hr hl.1 ⟨Nat.le_of_ble_eq_true rfl, Nat.le_of_ble_eq_true rfl⟩ (Nat.le_of_ble_eq_true rfl) dX8_together_26 (fun H locs w => ?_)
        refine lv_if_ne (tgt := 35) hx hb dX8_together_29 (by decide) (fun c => ?_) (fun c => ?_)
        · have hF := (if_neg c).symm.trans hF
          refine lv_aload_n hx hb dX8_together_35 rfl (lv_at hl 0 rfl) ?_
          refine lv_iload_n hx hb dX8_together_36 rfl (lv_at hl 1 rfl) ?_
          refine lv_iload_n hx hb dX8_together_37 rfl (lv_at hl 2 rfl) ?_
          refine lv_iload_n hx hb dX8_together_38 rfl (lv_at hl 3 rfl) ?_
          obtain ⟨r39, hr, hF⟩ := obd hF
          refine rX8_areTogether C K w hr hl.1 ⟨Nat.le_of_ble_eq_true rfl, Nat.le_of_ble_eq_true rfl⟩ (Nat.le_of_ble_eq_true rfl) dX8_together_39 (fun H locs w => ?_)
          refine lv_if_eq (tgt := 49) hx hb dX8_together_42 (by decide) (fun c => ?_) (fun c => ?_)
          · have hF := (if_pos c).symm.trans hF
            refine lv_iconst (v := (0 : Int32)) hx hb dX8_together_49 (by decide) ?_
            exact bX8_together_50 C K E w (lv_sub hl [] rfl) hF
          · have hF := (if_neg c).symm.trans hF
            refine lv_iconst (v := (1 : Int32)) hx hb dX8_together_45 (by decide) ?_
            refine lv_goto (tgt := 50) hx hb dX8_together_46 (by decide) ?_
            exact bX8_together_50 C K E w (lv_sub hl [] rfl) hF
        · have hF := (if_pos c).symm.trans hF
          exact bX8_together_32 C K E w (lv_sub hl [] rfl) hF

theorem mX8_together {l : Launch} {γ : wx_G} {o : Nat} {ad : Nat → Nat} {f : xF} {g : xG} {v1 : Int32} {v2 : Int32} {v3 : Int32} {z : Int32} (hF : pX8_together f g v1 v2 v3 = some z) : wx_M γ l yX8_together (ws_ yX8_together cX8_together 4 (some .int)) rmX8_together [.ref o, .int v1, .int v2, .int v3] (mw γ o ad f g) (fun v ws => v = some (.int z) ∧ ws = (mw γ o ad f g)) 0 0 := by
  refine wx_M.of (by decide) (Nat.le_of_ble_eq_true rfl) ?_
  intro p e s m as below meth c A ls C K w hr hlocks _ hl
  exact bX8_together_0 C K (fun H locs ls pc w d => wx_iret C hr hlocks w ⟨rfl, rfl⟩ d) w hl hF

/-! WalkingStonesModel.groups(I)I -/
abbrev rmX8_groups : Room := { frames := 2, cells := 0, slots := 0, locals := 45 }
def pX8_groups_162 (k44 : xF → xG → Int32 → Int32 → Int32 → Option (Int32 × xF × xG)) (f : xF) (g : xG) (v1 : Int32) (v2 : Int32) (v3 : Int32) : Option (Int32 × xF × xG) := k44 f g v1 v2 (v3 + 1)

def pX8_groups_156 (k44 : xF → xG → Int32 → Int32 → Int32 → Option (Int32 × xF × xG)) (k55 : xF → xG → Int32 → Int32 → Int32 → Int32 → Option (Int32 × xF × xG)) (f : xF) (g : xG) (v1 : Int32) (v2 : Int32) (v3 : Int32) (v4 : Int32) : Option (Int32 × xF × xG) := k55 f g v1 v2 v3 (v4 + 1)

def pX8_groups_153 (k44 : xF → xG → Int32 → Int32 → Int32 → Option (Int32 × xF × xG)) (k55 : xF → xG → Int32 → Int32 → Int32 → Int32 → Option (Int32 × xF × xG)) (f : xF) (g : xG) (v1 : Int32) (v2 : Int32) (v3 : Int32) (v4 : Int32) : Option (Int32 × xF × xG) := pX8_groups_156 k44 k55 f g v1 (v2 + (-1)) v3 v4

def pX8_groups_146 (k44 : xF → xG → Int32 → Int32 → Int32 → Option (Int32 × xF × xG)) (k55 : xF → xG → Int32 → Int32 → Int32 → Int32 → Option (Int32 × xF × xG)) (k102 : xF → xG → Int32 → Int32 → Int32 → Int32 → Int32 → Int32 → Option (Int32 × xF × xG)) (f : xF) (g : xG) (v1 : Int32) (v2 : Int32) (v3 : Int32) (v4 : Int32) (v5 : Int32) (v6 : Int32) (t1 : Int32) (t2 : Int32) : Option (Int32 × xF × xG) := if gin t1 24 = true then k102 f (va_up g 36 (upd (g 36) t1.toNatClampNeg t2)) v1 v2 v3 v4 v5 (v6 + 1) else none

def pX8_groups_102 (k44 : xF → xG → Int32 → Int32 → Int32 → Option (Int32 × xF × xG)) (k55 : xF → xG → Int32 → Int32 → Int32 → Int32 → Option (Int32 × xF × xG)) : Nat → xF → xG → Int32 → Int32 → Int32 → Int32 → Int32 → Int32 → Option (Int32 × xF × xG)
  | 0, _, _, _, _, _, _, _, _ => none
  | n + 1, f, g, v1, v2, v3, v4, v5, v6 => if (f 32) ≤ v6 then pX8_groups_153 k44 k55 f g v1 v2 v3 v4 else (if gin v6 24 = true then if (g 36 v6.toNatClampNeg) = v5 then (if gin v4 24 = true then pX8_groups_146 k44 k55 (pX8_groups_102 k44 k55 n) f g v1 v2 v3 v4 v5 v6 v6 (g 36 v4.toNatClampNeg) else none) else (if gin v6 24 = true then pX8_groups_146 k44 k55 (pX8_groups_102 k44 k55 n) f g v1 v2 v3 v4 v5 v6 v6 (g 36 v6.toNatClampNeg) else none) else none)

def pX8_groups_55 (k44 : xF → xG → Int32 → Int32 → Int32 → Option (Int32 × xF × xG)) : Nat → xF → xG → Int32 → Int32 → Int32 → Int32 → Option (Int32 × xF × xG)
  | 0, _, _, _, _, _, _ => none
  | n + 1, f, g, v1, v2, v3, v4 => if v3 ≤ v4 then pX8_groups_162 k44 f g v1 v2 v3 else (pX8_areTogether f g v3 v4 v1).bind (fun r66 => if r66 = 0 then pX8_groups_156 k44 (pX8_groups_55 k44 n) f g v1 v2 v3 v4 else (if gin v3 24 = true then if gin v4 24 = true then if (g 36 v3.toNatClampNeg) = (g 36 v4.toNatClampNeg) then pX8_groups_156 k44 (pX8_groups_55 k44 n) f g v1 v2 v3 v4 else (if gin v3 24 = true then pX8_groups_102 k44 (pX8_groups_55 k44 n) 5000 f g v1 v2 v3 v4 (g 36 v3.toNatClampNeg) (0 : Int32) else none) else none else none))

def pX8_groups_44 : Nat → xF → xG → Int32 → Int32 → Int32 → Option (Int32 × xF × xG)
  | 0, _, _, _, _, _ => none
  | n + 1, f, g, v1, v2, v3 => if (f 32) ≤ v3 then some (v2, f, g) else pX8_groups_55 (pX8_groups_44 n) 5000 f g v1 v2 v3 (0 : Int32)

def pX8_groups_37 (f : xF) (g : xG) (v1 : Int32) : Option (Int32 × xF × xG) := pX8_groups_44 5000 f g v1 (f 32) (0 : Int32)

def pX8_groups_16 : Nat → xF → xG → Int32 → Int32 → Option (Int32 × xF × xG)
  | 0, _, _, _, _ => none
  | n + 1, f, g, v1, v2 => if (f 32) ≤ v2 then pX8_groups_37 f g v1 else (if gin v2 24 = true then pX8_groups_16 n f (va_up g 36 (upd (g 36) v2.toNatClampNeg v2)) v1 (v2 + 1) else none)

def pX8_groups_0 (f : xF) (g : xG) (v1 : Int32) : Option (Int32 × xF × xG) := (pX8_in f g v1 (0 : Int32) (99 : Int32)).bind (fun r5 => if r5 = 0 then some ((-2 : Int32), f, g) else pX8_groups_16 5000 f g v1 (0 : Int32))

abbrev pX8_groups (f : xF) (g : xG) (v1 : Int32) : Option (Int32 × xF × xG) := pX8_groups_0 f g v1
theorem bX8_groups_162 {p : Program} {l : Launch} {e : Env} {s : State} {m : MethodId} {as : Array Value} {below : List Frame} {meth : Method} {c : Code} {A : Nat → Prop} {Q : State → Prop} {γ : wx_G} {o : Nat} {ad : Nat → Nat} {z : Int32 × xF × xG} (C : CallFix p m c cX8_groups 7 s as lw_all RX8) (K : wx_C γ A s) (E : ∀ (H : Heap) (locs : List Loc) (ls : Array Slot) (pc : Nat), wx_w γ A s H locs (mw γ o ad z.2.1 z.2.2) → decode cX8_groups pc = .ok (.ireturn, 1) → W p l e rmX8_groups s m as below meth c H locs 0 0 Q (F0 m pc ls [.int z.1])) {k44 : xF → xG → Int32 → Int32 → Int32 → Option (Int32 × xF × xG)} (hk44 : ∀ (f : xF) (g : xG) (v1 : Int32) (v2 : Int32) (v3 : Int32) (H : Heap) (locs : List Loc) (ls : Array Slot), k44 f g v1 v2 v3 = some z → wx_w γ A s H locs (mw γ o ad f g) → lv_has ls 7 [(0, .ref o), (1, .int v1), (2, .int v2), (3, .int v3)] → W p l e rmX8_groups s m as below meth c H locs 0 0 Q (F0 m 44 ls [])) {f : xF} {g : xG} {v1 : Int32} {v2 : Int32} {v3 : Int32} {H : Heap} {locs : List Loc} {ls : Array Slot} (w : wx_w γ A s H locs (mw γ o ad f g)) (hl : lv_has ls 7 [(0, .ref o), (1, .int v1), (2, .int v2), (3, .int v3)]) (hF : pX8_groups_162 k44 f g v1 v2 v3 = some z) : W p l e rmX8_groups s m as below meth c H locs 0 0 Q (F0 m 162 ls []) := by
  have hx := C.1
  have hb := C.2.1
  unfold pX8_groups_162 at hF
  refine lv_iinc (v := v3 + 1) (lv' := [(3, .int (v3 + 1)), (0, .ref o), (1, .int v1), (2, .int v2)]) hx hb dX8_groups_162 hl (k := 3) rfl rfl (by decide) rfl (fun ls hl => ?_)
  refine lv_goto (tgt := 44) hx hb dX8_groups_165 (by decide) ?_
  exact hk44 _ _ _ _ _ _ _ _ hF w (lv_sub hl [1, 2, 3, 0] rfl)

theorem bX8_groups_156 {p : Program} {l : Launch} {e : Env} {s : State} {m : MethodId} {as : Array Value} {below : List Frame} {meth : Method} {c : Code} {A : Nat → Prop} {Q : State → Prop} {γ : wx_G} {o : Nat} {ad : Nat → Nat} {z : Int32 × xF × xG} (C : CallFix p m c cX8_groups 7 s as lw_all RX8) (K : wx_C γ A s) (E : ∀ (H : Heap) (locs : List Loc) (ls : Array Slot) (pc : Nat), wx_w γ A s H locs (mw γ o ad z.2.1 z.2.2) → decode cX8_groups pc = .ok (.ireturn, 1) → W p l e rmX8_groups s m as below meth c H locs 0 0 Q (F0 m pc ls [.int z.1])) {k44 : xF → xG → Int32 → Int32 → Int32 → Option (Int32 × xF × xG)} (hk44 : ∀ (f : xF) (g : xG) (v1 : Int32) (v2 : Int32) (v3 : Int32) (H : Heap) (locs : List Loc) (ls : Array Slot), k44 f g v1 v2 v3 = some z → wx_w γ A s H locs (mw γ o ad f g) → lv_has ls 7 [(0, .ref o), (1, .int v1), (2, .int v2), (3, .int v3)] → W p l e rmX8_groups s m as below meth c H locs 0 0 Q (F0 m 44 ls [])) {k55 : xF → xG → Int32 → Int32 → Int32 → Int32 → Option (Int32 × xF × xG)} (hk55 : ∀ (f : xF) (g : xG) (v1 : Int32) (v2 : Int32) (v3 : Int32) (v4 : Int32) (H : Heap) (locs : List Loc) (ls : Array Slot), k55 f g v1 v2 v3 v4 = some z → wx_w γ A s H locs (mw γ o ad f g) → lv_has ls 7 [(0, .ref o), (1, .int v1), (2, .int v2), (3, .int v3), (4, .int v4)] → W p l e rmX8_groups s m as below meth c H locs 0 0 Q (F0 m 55 ls [])) {f : xF} {g : xG} {v1 : Int32} {v2 : Int32} {v3 : Int32} {v4 : Int32} {H : Heap} {locs : List Loc} {ls : Array Slot} (w : wx_w γ A s H locs (mw γ o ad f g)) (hl : lv_has ls 7 [(0, .ref o), (1, .int v1), (2, .int v2), (3, .int v3), (4, .int v4)]) (hF : pX8_groups_156 k44 k55 f g v1 v2 v3 v4 = some z) : W p l e rmX8_groups s m as below meth c H locs 0 0 Q (F0 m 156 ls []) := by
  have hx := C.1
  have hb := C.2.1
  unfold pX8_groups_156 at hF
  refine lv_iinc (v := v4 + 1) (lv' := [(4, .int (v4 + 1)), (0, .ref o), (1, .int v1), (2, .int v2), (3, .int v3)]) hx hb dX8_groups_156 hl (k := 4) rfl rfl (by decide) rfl (fun ls hl => ?_)
  refine lv_goto (tgt := 55) hx hb dX8_groups_159 (by decide) ?_
  exact hk55 _ _ _ _ _ _ _ _ _ hF w (lv_sub hl [1, 2, 3, 4, 0] rfl)

theorem bX8_groups_153 {p : Program} {l : Launch} {e : Env} {s : State} {m : MethodId} {as : Array Value} {below : List Frame} {meth : Method} {c : Code} {A : Nat → Prop} {Q : State → Prop} {γ : wx_G} {o : Nat} {ad : Nat → Nat} {z : Int32 × xF × xG} (C : CallFix p m c cX8_groups 7 s as lw_all RX8) (K : wx_C γ A s) (E : ∀ (H : Heap) (locs : List Loc) (ls : Array Slot) (pc : Nat), wx_w γ A s H locs (mw γ o ad z.2.1 z.2.2) → decode cX8_groups pc = .ok (.ireturn, 1) → W p l e rmX8_groups s m as below meth c H locs 0 0 Q (F0 m pc ls [.int z.1])) {k44 : xF → xG → Int32 → Int32 → Int32 → Option (Int32 × xF × xG)} (hk44 : ∀ (f : xF) (g : xG) (v1 : Int32) (v2 : Int32) (v3 : Int32) (H : Heap) (locs : List Loc) (ls : Array Slot), k44 f g v1 v2 v3 = some z → wx_w γ A s H locs (mw γ o ad f g) → lv_has ls 7 [(0, .ref o), (1, .int v1), (2, .int v2), (3, .int v3)] → W p l e rmX8_groups s m as below meth c H locs 0 0 Q (F0 m 44 ls [])) {k55 : xF → xG → Int32 → Int32 → Int32 → Int32 → Option (Int32 × xF × xG)} (hk55 : ∀ (f : xF) (g : xG) (v1 : Int32) (v2 : Int32) (v3 : Int32) (v4 : Int32) (H : Heap) (locs : List Loc) (ls : Array Slot), k55 f g v1 v2 v3 v4 = some z → wx_w γ A s H locs (mw γ o ad f g) → lv_has ls 7 [(0, .ref o), (1, .int v1), (2, .int v2), (3, .int v3), (4, .int v4)] → W p l e rmX8_groups s m as below meth c H locs 0 0 Q (F0 m 55 ls [])) {f : xF} {g : xG} {v1 : Int32} {v2 : Int32} {v3 : Int32} {v4 : Int32} {H : Heap} {locs : List Loc} {ls : Array Slot} (w : wx_w γ A s H locs (mw γ o ad f g)) (hl : lv_has ls 7 [(0, .ref o), (1, .int v1), (2, .int v2), (3, .int v3), (4, .int v4)]) (hF : pX8_groups_153 k44 k55 f g v1 v2 v3 v4 = some z) : W p l e rmX8_groups s m as below meth c H locs 0 0 Q (F0 m 153 ls []) := by
  have hx := C.1
  have hb := C.2.1
  unfold pX8_groups_153 at hF
  refine lv_iinc (v := v2 + (-1)) (lv' := [(2, .int (v2 + (-1))), (0, .ref o), (1, .int v1), (3, .int v3), (4, .int v4)]) hx hb dX8_groups_153 hl (k := 2) rfl rfl (by decide) rfl (fun ls hl => ?_)
  exact bX8_groups_156 C K E hk44 hk55 w (lv_sub hl [1, 2, 0, 3, 4] rfl) hF

theorem bX8_groups_146 {p : Program} {l : Launch} {e : Env} {s : State} {m : MethodId} {as : Array Value} {below : List Frame} {meth : Method} {c : Code} {A : Nat → Prop} {Q : State → Prop} {γ : wx_G} {o : Nat} {ad : Nat → Nat} {z : Int32 × xF × xG} (C : CallFix p m c cX8_groups 7 s as lw_all RX8) (K : wx_C γ A s) (E : ∀ (H : Heap) (locs : List Loc) (ls : Array Slot) (pc : Nat), wx_w γ A s H locs (mw γ o ad z.2.1 z.2.2) → decode cX8_groups pc = .ok (.ireturn, 1) → W p l e rmX8_groups s m as below meth c H locs 0 0 Q (F0 m pc ls [.int z.1])) {k44 : xF → xG → Int32 → Int32 → Int32 → Option (Int32 × xF × xG)} (hk44 : ∀ (f : xF) (g : xG) (v1 : Int32) (v2 : Int32) (v3 : Int32) (H : Heap) (locs : List Loc) (ls : Array Slot), k44 f g v1 v2 v3 = some z → wx_w γ A s H locs (mw γ o ad f g) → lv_has ls 7 [(0, .ref o), (1, .int v1), (2, .int v2), (3, .int v3)] → W p l e rmX8_groups s m as below meth c H locs 0 0 Q (F0 m 44 ls [])) {k55 : xF → xG → Int32 → Int32 → Int32 → Int32 → Option (Int32 × xF × xG)} (hk55 : ∀ (f : xF) (g : xG) (v1 : Int32) (v2 : Int32) (v3 : Int32) (v4 : Int32) (H : Heap) (locs : List Loc) (ls : Array Slot), k55 f g v1 v2 v3 v4 = some z → wx_w γ A s H locs (mw γ o ad f g) → lv_has ls 7 [(0, .ref o), (1, .int v1), (2, .int v2), (3, .int v3), (4, .int v4)] → W p l e rmX8_groups s m as below meth c H locs 0 0 Q (F0 m 55 ls [])) {k102 : xF → xG → Int32 → Int32 → Int32 → Int32 → Int32 → Int32 → Option (Int32 × xF × xG)} (hk102 : ∀ (f : xF) (g : xG) (v1 : Int32) (v2 : Int32) (v3 : Int32) (v4 : Int32) (v5 : Int32) (v6 : Int32) (H : Heap) (locs : List Loc) (ls : Array Slot), k102 f g v1 v2 v3 v4 v5 v6 = some z → wx_w γ A s H locs (mw γ o ad f g) → lv_has ls 7 [(0, .ref o), (1, .int v1), (2, .int v2), (3, .int v3), (4, .int v4), (5, .int v5), (6, .int v6)] → W p l e rmX8_groups s m as below meth c H locs 0 0 Q (F0 m 102 ls [])) {f : xF} {g : xG} {v1 : Int32} {v2 : Int32} {v3 : Int32} {v4 : Int32} {v5 : Int32} {v6 : Int32} {t1 : Int32} {t2 : Int32} {H : Heap} {locs : List Loc} {ls : Array Slot} (w : wx_w γ A s H locs (mw γ o ad f g)) (hl : lv_has ls 7 [(0, .ref o), (1, .int v1), (2, .int v2), (3, .int v3), (4, .int v4), (5, .int v5), (6, .int v6)]) (hF : pX8_groups_146 k44 k55 k102 f g v1 v2 v3 v4 v5 v6 t1 t2 = some z) : W p l e rmX8_groups s m as below meth c H locs 0 0 Q (F0 m 146 ls [.int t2, .int t1, .ref (ad 36)]) := by
  have hx := C.1
  have hb := C.2.1
  unfold pX8_groups_146 at hF
  obtain ⟨hi, hF⟩ := gin_if hF
  refine mast_36 C K w hi dX8_groups_146 (fun H locs w => ?_)
  refine lv_iinc (v := v6 + 1) (lv' := [(6, .int (v6 + 1)), (0, .ref o), (1, .int v1), (2, .int v2), (3, .int v3), (4, .int v4), (5, .int v5)]) hx hb dX8_groups_147 hl (k := 6) rfl rfl (by decide) rfl (fun ls hl => ?_)
  refine lv_goto (tgt := 102) hx hb dX8_groups_150 (by decide) ?_
  exact hk102 _ _ _ _ _ _ _ _ _ _ _ hF w (lv_sub hl [1, 2, 3, 4, 5, 6, 0] rfl)

theorem bX8_groups_102 {p : Program} {l : Launch} {e : Env} {s : State} {m : MethodId} {as : Array Value} {below : List Frame} {meth : Method} {c : Code} {A : Nat → Prop} {Q : State → Prop} {γ : wx_G} {o : Nat} {ad : Nat → Nat} {z : Int32 × xF × xG} (C : CallFix p m c cX8_groups 7 s as lw_all RX8) (K : wx_C γ A s) (E : ∀ (H : Heap) (locs : List Loc) (ls : Array Slot) (pc : Nat), wx_w γ A s H locs (mw γ o ad z.2.1 z.2.2) → decode cX8_groups pc = .ok (.ireturn, 1) → W p l e rmX8_groups s m as below meth c H locs 0 0 Q (F0 m pc ls [.int z.1])) {k44 : xF → xG → Int32 → Int32 → Int32 → Option (Int32 × xF × xG)} (hk44 : ∀ (f : xF) (g : xG) (v1 : Int32) (v2 : Int32) (v3 : Int32) (H : Heap) (locs : List Loc) (ls : Array Slot), k44 f g v1 v2 v3 = some z → wx_w γ A s H locs (mw γ o ad f g) → lv_has ls 7 [(0, .ref o), (1, .int v1), (2, .int v2), (3, .int v3)] → W p l e rmX8_groups s m as below meth c H locs 0 0 Q (F0 m 44 ls [])) {k55 : xF → xG → Int32 → Int32 → Int32 → Int32 → Option (Int32 × xF × xG)} (hk55 : ∀ (f : xF) (g : xG) (v1 : Int32) (v2 : Int32) (v3 : Int32) (v4 : Int32) (H : Heap) (locs : List Loc) (ls : Array Slot), k55 f g v1 v2 v3 v4 = some z → wx_w γ A s H locs (mw γ o ad f g) → lv_has ls 7 [(0, .ref o), (1, .int v1), (2, .int v2), (3, .int v3), (4, .int v4)] → W p l e rmX8_groups s m as below meth c H locs 0 0 Q (F0 m 55 ls [])) : ∀ (n : Nat) (f : xF) (g : xG) (v1 : Int32) (v2 : Int32) (v3 : Int32) (v4 : Int32) (v5 : Int32) (v6 : Int32) (H : Heap) (locs : List Loc) (ls : Array Slot), pX8_groups_102 k44 k55 n f g v1 v2 v3 v4 v5 v6 = some z → wx_w γ A s H locs (mw γ o ad f g) → lv_has ls 7 [(0, .ref o), (1, .int v1), (2, .int v2), (3, .int v3), (4, .int v4), (5, .int v5), (6, .int v6)] → W p l e rmX8_groups s m as below meth c H locs 0 0 Q (F0 m 102 ls []) := by
  have hx := C.1
  have hb := C.2.1
  intro n
  induction n with
  | zero =>
    intro f g v1 v2 v3 v4 v5 v6 H locs ls hF w hl
    have hF : (none : Option (Int32 × xF × xG)) = some z := hF
    cases hF
  | succ n ih =>
    intro f g v1 v2 v3 v4 v5 v6 H locs ls hF w hl
    rw [pX8_groups_102] at hF
    refine lv_iload hx hb dX8_groups_102 (lv_at hl 6 rfl) ?_
    refine lv_aload_n hx hb dX8_groups_104 rfl (lv_at hl 0 rfl) ?_
    refine mget_32 C K w dX8_groups_105 ?_
    refine lv_icmp_ge (tgt := 153) hx hb dX8_groups_108 (by decide) (fun c => ?_) (fun c => ?_)
    · have hF := (if_pos c).symm.trans hF
      exact bX8_groups_153 C K E hk44 hk55 w (lv_sub hl [0, 1, 2, 3, 4] rfl) hF
    · have hF := (if_neg c).symm.trans hF
      refine lv_aload_n hx hb dX8_groups_111 rfl (lv_at hl 0 rfl) ?_
      refine mget_36 C K w dX8_groups_112 ?_
      refine lv_iload hx hb dX8_groups_115 (lv_at hl 6 rfl) ?_
      refine lv_aload_n hx hb dX8_groups_117 rfl (lv_at hl 0 rfl) ?_
      refine mget_36 C K w dX8_groups_118 ?_
      refine lv_iload hx hb dX8_groups_121 (lv_at hl 6 rfl) ?_
      obtain ⟨hi, hF⟩ := gin_if hF
      refine mald_36 C K w hi dX8_groups_123 ?_
      refine lv_iload hx hb dX8_groups_124 (lv_at hl 5 rfl) ?_
      refine lv_icmp_ne (tgt := 139) hx hb dX8_groups_126 (by decide) (fun c => ?_) (fun c => ?_)
      · have hF := (if_neg c).symm.trans hF
        refine lv_aload_n hx hb dX8_groups_139 rfl (lv_at hl 0 rfl) ?_
        refine mget_36 C K w dX8_groups_140 ?_
        refine lv_iload hx hb dX8_groups_143 (lv_at hl 6 rfl) ?_
        obtain ⟨hi, hF⟩ := gin_if hF
        refine mald_36 C K w hi dX8_groups_145 ?_
        exact bX8_groups_146 C K E hk44 hk55 ih w hl hF
      · have hF := (if_pos c).symm.trans hF
        refine lv_aload_n hx hb dX8_groups_129 rfl (lv_at hl 0 rfl) ?_
        refine mget_36 C K w dX8_groups_130 ?_
        refine lv_iload hx hb dX8_groups_133 (lv_at hl 4 rfl) ?_
        obtain ⟨hi, hF⟩ := gin_if hF
        refine mald_36 C K w hi dX8_groups_135 ?_
        refine lv_goto (tgt := 146) hx hb dX8_groups_136 (by decide) ?_
        exact bX8_groups_146 C K E hk44 hk55 ih w hl hF

theorem bX8_groups_55 {p : Program} {l : Launch} {e : Env} {s : State} {m : MethodId} {as : Array Value} {below : List Frame} {meth : Method} {c : Code} {A : Nat → Prop} {Q : State → Prop} {γ : wx_G} {o : Nat} {ad : Nat → Nat} {z : Int32 × xF × xG} (C : CallFix p m c cX8_groups 7 s as lw_all RX8) (K : wx_C γ A s) (E : ∀ (H : Heap) (locs : List Loc) (ls : Array Slot) (pc : Nat), wx_w γ A s H locs (mw γ o ad z.2.1 z.2.2) → decode cX8_groups pc = .ok (.ireturn, 1) → W p l e rmX8_groups s m as below meth c H locs 0 0 Q (F0 m pc ls [.int z.1])) {k44 : xF → xG → Int32 → Int32 → Int32 → Option (Int32 × xF × xG)} (hk44 : ∀ (f : xF) (g : xG) (v1 : Int32) (v2 : Int32) (v3 : Int32) (H : Heap) (locs : List Loc) (ls : Array Slot), k44 f g v1 v2 v3 = some z → wx_w γ A s H locs (mw γ o ad f g) → lv_has ls 7 [(0, .ref o), (1, .int v1), (2, .int v2), (3, .int v3)] → W p l e rmX8_groups s m as below meth c H locs 0 0 Q (F0 m 44 ls [])) : ∀ (n : Nat) (f : xF) (g : xG) (v1 : Int32) (v2 : Int32) (v3 : Int32) (v4 : Int32) (H : Heap) (locs : List Loc) (ls : Array Slot), pX8_groups_55 k44 n f g v1 v2 v3 v4 = some z → wx_w γ A s H locs (mw γ o ad f g) → lv_has ls 7 [(0, .ref o), (1, .int v1), (2, .int v2), (3, .int v3), (4, .int v4)] → W p l e rmX8_groups s m as below meth c H locs 0 0 Q (F0 m 55 ls []) := by
  have hx := C.1
  have hb := C.2.1
  intro n
  induction n with
  | zero =>
    intro f g v1 v2 v3 v4 H locs ls hF w hl
    have hF : (none : Option (Int32 × xF × xG)) = some z := hF
    cases hF
  | succ n ih =>
    intro f g v1 v2 v3 v4 H locs ls hF w hl
    rw [pX8_groups_55] at hF
    refine lv_iload hx hb dX8_groups_55 (lv_at hl 4 rfl) ?_
    refine lv_iload_n hx hb dX8_groups_57 rfl (lv_at hl 3 rfl) ?_
    refine lv_icmp_ge (tgt := 162) hx hb dX8_groups_58 (by decide) (fun c => ?_) (fun c => ?_)
    · have hF := (if_pos c).symm.trans hF
      exact bX8_groups_162 C K E hk44 w (lv_sub hl [0, 1, 2, 3] rfl) hF
    · have hF := (if_neg c).symm.trans hF
      refine lv_aload_n hx hb dX8_groups_61 rfl (lv_at hl 0 rfl) ?_
      refine lv_iload_n hx hb dX8_groups_62 rfl (lv_at hl 3 rfl) ?_
      refine lv_iload hx hb dX8_groups_63 (lv_at hl 4 rfl) ?_
      refine lv_iload_n hx hb dX8_groups_65 rfl (lv_at hl 1 rfl) ?_
      obtain ⟨r66, hr, hF⟩ := obd hF
      refine rX8_areTogether C K w hr hl.1 ⟨Nat.le_of_ble_eq_true rfl, Nat.le_of_ble_eq_true rfl⟩ (Nat.le_of_ble_eq_true rfl) dX8_groups_66 (fun H locs w => ?_)
      refine lv_if_eq (tgt := 156) hx hb dX8_groups_69 (by decide) (fun c => ?_) (fun c => ?_)
      · have hF := (if_pos c).symm.trans hF
        exact bX8_groups_156 C K E hk44 ih w hl hF
      · have hF := (if_neg c).symm.trans hF
        refine lv_aload_n hx hb dX8_groups_72 rfl (lv_at hl 0 rfl) ?_
        refine mget_36 C K w dX8_groups_73 ?_
        refine lv_iload_n hx hb dX8_groups_76 rfl (lv_at hl 3 rfl) ?_
        obtain ⟨hi, hF⟩ := gin_if hF
        refine mald_36 C K w hi dX8_groups_77 ?_
        refine lv_aload_n hx hb dX8_groups_78 rfl (lv_at hl 0 rfl) ?_
        refine mget_36 C K w dX8_groups_79 ?_
        refine lv_iload hx hb dX8_groups_82 (lv_at hl 4 rfl) ?_
        obtain ⟨hi, hF⟩ := gin_if hF
        refine mald_36 C K w hi dX8_groups_84 ?_
        refine lv_icmp_ne (tgt := 91) hx hb dX8_groups_85 (by decide) (fun c => ?_) (fun c => ?_)
        · have hF := (if_neg c).symm.trans hF
          refine lv_aload_n hx hb dX8_groups_91 rfl (lv_at hl 0 rfl) ?_
          refine mget_36 C K w dX8_groups_92 ?_
          refine lv_iload_n hx hb dX8_groups_95 rfl (lv_at hl 3 rfl) ?_
          obtain ⟨hi, hF⟩ := gin_if hF
          refine mald_36 C K w hi dX8_groups_96 ?_
          refine lv_istore (lv' := [(5, .int (g 36 v3.toNatClampNeg)), (0, .ref o), (1, .int v1), (2, .int v2), (3, .int v3), (4, .int v4)]) hx hb dX8_groups_97 hl (by decide) rfl (fun ls hl => ?_)
          refine lv_iconst (v := (0 : Int32)) hx hb dX8_groups_99 (by decide) ?_
          refine lv_istore (lv' := [(6, .int (0 : Int32)), (5, .int (g 36 v3.toNatClampNeg)), (0, .ref o), (1, .int v1), (2, .int v2), (3, .int v3), (4, .int v4)]) hx hb dX8_groups_100 hl (by decide) rfl (fun ls hl => ?_)
          exact bX8_groups_102 C K E hk44 ih 5000 _ _ _ _ _ _ _ _ _ _ _ hF w (lv_sub hl [2, 3, 4, 5, 6, 1, 0] rfl)
        · have hF := (if_pos c).symm.trans hF
          refine lv_goto (tgt := 156) hx hb dX8_groups_88 (by decide) ?_
          exact bX8_groups_156 C K E hk44 ih w hl hF

theorem bX8_groups_44 {p : Program} {l : Launch} {e : Env} {s : State} {m : MethodId} {as : Array Value} {below : List Frame} {meth : Method} {c : Code} {A : Nat → Prop} {Q : State → Prop} {γ : wx_G} {o : Nat} {ad : Nat → Nat} {z : Int32 × xF × xG} (C : CallFix p m c cX8_groups 7 s as lw_all RX8) (K : wx_C γ A s) (E : ∀ (H : Heap) (locs : List Loc) (ls : Array Slot) (pc : Nat), wx_w γ A s H locs (mw γ o ad z.2.1 z.2.2) → decode cX8_groups pc = .ok (.ireturn, 1) → W p l e rmX8_groups s m as below meth c H locs 0 0 Q (F0 m pc ls [.int z.1])) : ∀ (n : Nat) (f : xF) (g : xG) (v1 : Int32) (v2 : Int32) (v3 : Int32) (H : Heap) (locs : List Loc) (ls : Array Slot), pX8_groups_44 n f g v1 v2 v3 = some z → wx_w γ A s H locs (mw γ o ad f g) → lv_has ls 7 [(0, .ref o), (1, .int v1), (2, .int v2), (3, .int v3)] → W p l e rmX8_groups s m as below meth c H locs 0 0 Q (F0 m 44 ls []) := by
  have hx := C.1
  have hb := C.2.1
  intro n
  induction n with
  | zero =>
    intro f g v1 v2 v3 H locs ls hF w hl
    have hF : (none : Option (Int32 × xF × xG)) = some z := hF
    cases hF
  | succ n ih =>
    intro f g v1 v2 v3 H locs ls hF w hl
    rw [pX8_groups_44] at hF
    refine lv_iload_n hx hb dX8_groups_44 rfl (lv_at hl 3 rfl) ?_
    refine lv_aload_n hx hb dX8_groups_45 rfl (lv_at hl 0 rfl) ?_
    refine mget_32 C K w dX8_groups_46 ?_
    refine lv_icmp_ge (tgt := 168) hx hb dX8_groups_49 (by decide) (fun c => ?_) (fun c => ?_)
    · have hF := (if_pos c).symm.trans hF
      refine lv_iload_n hx hb dX8_groups_168 rfl (lv_at hl 2 rfl) ?_
      have hF := Option.some.inj hF
      subst hF
      exact E _ _ _ _ w dX8_groups_169
    · have hF := (if_neg c).symm.trans hF
      refine lv_iconst (v := (0 : Int32)) hx hb dX8_groups_52 (by decide) ?_
      refine lv_istore (lv' := [(4, .int (0 : Int32)), (0, .ref o), (1, .int v1), (2, .int v2), (3, .int v3)]) hx hb dX8_groups_53 hl (by decide) rfl (fun ls hl => ?_)
      exact bX8_groups_55 C K E ih 5000 _ _ _ _ _ _ _ _ _ hF w (lv_sub hl [1, 2, 3, 4, 0] rfl)

theorem bX8_groups_37 {p : Program} {l : Launch} {e : Env} {s : State} {m : MethodId} {as : Array Value} {below : List Frame} {meth : Method} {c : Code} {A : Nat → Prop} {Q : State → Prop} {γ : wx_G} {o : Nat} {ad : Nat → Nat} {z : Int32 × xF × xG} (C : CallFix p m c cX8_groups 7 s as lw_all RX8) (K : wx_C γ A s) (E : ∀ (H : Heap) (locs : List Loc) (ls : Array Slot) (pc : Nat), wx_w γ A s H locs (mw γ o ad z.2.1 z.2.2) → decode cX8_groups pc = .ok (.ireturn, 1) → W p l e rmX8_groups s m as below meth c H locs 0 0 Q (F0 m pc ls [.int z.1])) {f : xF} {g : xG} {v1 : Int32} {H : Heap} {locs : List Loc} {ls : Array Slot} (w : wx_w γ A s H locs (mw γ o ad f g)) (hl : lv_has ls 7 [(0, .ref o), (1, .int v1)]) (hF : pX8_groups_37 f g v1 = some z) : W p l e rmX8_groups s m as below meth c H locs 0 0 Q (F0 m 37 ls []) := by
  have hx := C.1
  have hb := C.2.1
  unfold pX8_groups_37 at hF
  refine lv_aload_n hx hb dX8_groups_37 rfl (lv_at hl 0 rfl) ?_
  refine mget_32 C K w dX8_groups_38 ?_
  refine lv_istore_n (lv' := [(2, .int (f 32)), (0, .ref o), (1, .int v1)]) hx hb dX8_groups_41 rfl hl (by decide) rfl (fun ls hl => ?_)
  refine lv_iconst (v := (0 : Int32)) hx hb dX8_groups_42 (by decide) ?_
  refine lv_istore_n (lv' := [(3, .int (0 : Int32)), (2, .int (f 32)), (0, .ref o), (1, .int v1)]) hx hb dX8_groups_43 rfl hl (by decide) rfl (fun ls hl => ?_)
  exact bX8_groups_44 C K E 5000 _ _ _ _ _ _ _ _ hF w (lv_sub hl [2, 3, 1, 0] rfl)

theorem bX8_groups_16 {p : Program} {l : Launch} {e : Env} {s : State} {m : MethodId} {as : Array Value} {below : List Frame} {meth : Method} {c : Code} {A : Nat → Prop} {Q : State → Prop} {γ : wx_G} {o : Nat} {ad : Nat → Nat} {z : Int32 × xF × xG} (C : CallFix p m c cX8_groups 7 s as lw_all RX8) (K : wx_C γ A s) (E : ∀ (H : Heap) (locs : List Loc) (ls : Array Slot) (pc : Nat), wx_w γ A s H locs (mw γ o ad z.2.1 z.2.2) → decode cX8_groups pc = .ok (.ireturn, 1) → W p l e rmX8_groups s m as below meth c H locs 0 0 Q (F0 m pc ls [.int z.1])) : ∀ (n : Nat) (f : xF) (g : xG) (v1 : Int32) (v2 : Int32) (H : Heap) (locs : List Loc) (ls : Array Slot), pX8_groups_16 n f g v1 v2 = some z → wx_w γ A s H locs (mw γ o ad f g) → lv_has ls 7 [(0, .ref o), (1, .int v1), (2, .int v2)] → W p l e rmX8_groups s m as below meth c H locs 0 0 Q (F0 m 16 ls []) := by
  have hx := C.1
  have hb := C.2.1
  intro n
  induction n with
  | zero =>
    intro f g v1 v2 H locs ls hF w hl
    have hF : (none : Option (Int32 × xF × xG)) = some z := hF
    cases hF
  | succ n ih =>
    intro f g v1 v2 H locs ls hF w hl
    rw [pX8_groups_16] at hF
    refine lv_iload_n hx hb dX8_groups_16 rfl (lv_at hl 2 rfl) ?_
    refine lv_aload_n hx hb dX8_groups_17 rfl (lv_at hl 0 rfl) ?_
    refine mget_32 C K w dX8_groups_18 ?_
    refine lv_icmp_ge (tgt := 37) hx hb dX8_groups_21 (by decide) (fun c => ?_) (fun c => ?_)
    · have hF := (if_pos c).symm.trans hF
      exact bX8_groups_37 C K E w (lv_sub hl [0, 1] rfl) hF
    · have hF := (if_neg c).symm.trans hF
      refine lv_aload_n hx hb dX8_groups_24 rfl (lv_at hl 0 rfl) ?_
      refine mget_36 C K w dX8_groups_25 ?_
      refine lv_iload_n hx hb dX8_groups_28 rfl (lv_at hl 2 rfl) ?_
      refine lv_iload_n hx hb dX8_groups_29 rfl (lv_at hl 2 rfl) ?_
      obtain ⟨hi, hF⟩ := gin_if hF
      refine mast_36 C K w hi dX8_groups_30 (fun H locs w => ?_)
      refine lv_iinc (v := v2 + 1) (lv' := [(2, .int (v2 + 1)), (0, .ref o), (1, .int v1)]) hx hb dX8_groups_31 hl (k := 2) rfl rfl (by decide) rfl (fun ls hl => ?_)
      refine lv_goto (tgt := 16) hx hb dX8_groups_34 (by decide) ?_
      exact ih _ _ _ _ _ _ _ hF w (lv_sub hl [1, 2, 0] rfl)

theorem bX8_groups_0 {p : Program} {l : Launch} {e : Env} {s : State} {m : MethodId} {as : Array Value} {below : List Frame} {meth : Method} {c : Code} {A : Nat → Prop} {Q : State → Prop} {γ : wx_G} {o : Nat} {ad : Nat → Nat} {z : Int32 × xF × xG} (C : CallFix p m c cX8_groups 7 s as lw_all RX8) (K : wx_C γ A s) (E : ∀ (H : Heap) (locs : List Loc) (ls : Array Slot) (pc : Nat), wx_w γ A s H locs (mw γ o ad z.2.1 z.2.2) → decode cX8_groups pc = .ok (.ireturn, 1) → W p l e rmX8_groups s m as below meth c H locs 0 0 Q (F0 m pc ls [.int z.1])) {f : xF} {g : xG} {v1 : Int32} {H : Heap} {locs : List Loc} {ls : Array Slot} (w : wx_w γ A s H locs (mw γ o ad f g)) (hl : lv_has ls 7 [(0, .ref o), (1, .int v1)]) (hF : pX8_groups_0 f g v1 = some z) : W p l e rmX8_groups s m as below meth c H locs 0 0 Q (F0 m 0 ls []) := by
  have hx := C.1
  have hb := C.2.1
  unfold pX8_groups_0 at hF
  refine lv_aload_n hx hb dX8_groups_0 rfl (lv_at hl 0 rfl) ?_
  refine lv_iload_n hx hb dX8_groups_1 rfl (lv_at hl 1 rfl) ?_
  refine lv_iconst (v := (0 : Int32)) hx hb dX8_groups_2 (by decide) ?_
  refine lv_bipush (v := (99 : Int32)) hx hb dX8_groups_3 (by decide) ?_
  obtain ⟨r5, hr, hF⟩ := obd hF
  refine rX8_in C K w hr hl.1 ⟨Nat.le_of_ble_eq_true rfl, Nat.le_of_ble_eq_true rfl⟩ (Nat.le_of_ble_eq_true rfl) dX8_groups_5 (fun H locs w => ?_)
  refine lv_if_ne (tgt := 14) hx hb dX8_groups_8 (by decide) (fun c => ?_) (fun c => ?_)
  · have hF := (if_neg c).symm.trans hF
    refine lv_iconst (v := (0 : Int32)) hx hb dX8_groups_14 (by decide) ?_
    refine lv_istore_n (lv' := [(2, .int (0 : Int32)), (0, .ref o), (1, .int v1)]) hx hb dX8_groups_15 rfl hl (by decide) rfl (fun ls hl => ?_)
    exact bX8_groups_16 C K E 5000 _ _ _ _ _ _ _ hF w (lv_sub hl [1, 2, 0] rfl)
  · have hF := (if_pos c).symm.trans hF
    refine lv_bipush (v := (-2 : Int32)) hx hb dX8_groups_11 (by decide) ?_
    have hF := Option.some.inj hF
    subst hF
    exact E _ _ _ _ w dX8_groups_13

theorem mX8_groups {l : Launch} {γ : wx_G} {o : Nat} {ad : Nat → Nat} {f : xF} {g : xG} {v1 : Int32} {z : Int32 × xF × xG} (hF : pX8_groups f g v1 = some z) : wx_M γ l yX8_groups (ws_ yX8_groups cX8_groups 7 (some .int)) rmX8_groups [.ref o, .int v1] (mw γ o ad f g) (fun v ws => v = some (.int z.1) ∧ ws = (mw γ o ad z.2.1 z.2.2)) 0 0 := by
  refine wx_M.of (by decide) (Nat.le_of_ble_eq_true rfl) ?_
  intro p e s m as below meth c A ls C K w hr hlocks _ hl
  exact bX8_groups_0 C K (fun H locs ls pc w d => wx_iret C hr hlocks w ⟨rfl, rfl⟩ d) w hl hF

/-! WalkingStonesModel.goAll(I)V -/
abbrev rmX8_goAll : Room := { frames := 5, cells := 0, slots := 0, locals := 125 }
def pX8_goAll_6 : Nat → xF → xG → Int32 → Int32 → Option (xF × xG)
  | 0, _, _, _, _ => none
  | n + 1, f, g, v1, v2 => if (f 1) ≤ v2 then some (f, g) else (pX8_goNight f g v1 v2).bind (fun r17 => pX8_goAll_6 n r17.1 r17.2 v1 (v2 + 1))

def pX8_goAll_0 (f : xF) (g : xG) (v1 : Int32) : Option (xF × xG) := (pX8_begin f g).bind (fun r1 => pX8_goAll_6 5000 r1.1 r1.2 v1 (0 : Int32))

abbrev pX8_goAll (f : xF) (g : xG) (v1 : Int32) : Option (xF × xG) := pX8_goAll_0 f g v1
theorem bX8_goAll_6 {p : Program} {l : Launch} {e : Env} {s : State} {m : MethodId} {as : Array Value} {below : List Frame} {meth : Method} {c : Code} {A : Nat → Prop} {Q : State → Prop} {γ : wx_G} {o : Nat} {ad : Nat → Nat} {z : xF × xG} (C : CallFix p m c cX8_goAll 3 s as lw_all RX8) (K : wx_C γ A s) (E : ∀ (H : Heap) (locs : List Loc) (ls : Array Slot) (pc : Nat), wx_w γ A s H locs (mw γ o ad z.1 z.2) → decode cX8_goAll pc = .ok (.return_, 1) → W p l e rmX8_goAll s m as below meth c H locs 0 0 Q (F0 m pc ls [])) : ∀ (n : Nat) (f : xF) (g : xG) (v1 : Int32) (v2 : Int32) (H : Heap) (locs : List Loc) (ls : Array Slot), pX8_goAll_6 n f g v1 v2 = some z → wx_w γ A s H locs (mw γ o ad f g) → lv_has ls 3 [(0, .ref o), (1, .int v1), (2, .int v2)] → W p l e rmX8_goAll s m as below meth c H locs 0 0 Q (F0 m 6 ls []) := by
  have hx := C.1
  have hb := C.2.1
  intro n
  induction n with
  | zero =>
    intro f g v1 v2 H locs ls hF w hl
    have hF : (none : Option (xF × xG)) = some z := hF
    cases hF
  | succ n ih =>
    intro f g v1 v2 H locs ls hF w hl
    rw [pX8_goAll_6] at hF
    refine lv_iload_n hx hb dX8_goAll_6 rfl (lv_at hl 2 rfl) ?_
    refine lv_aload_n hx hb dX8_goAll_7 rfl (lv_at hl 0 rfl) ?_
    refine mget_1 C K w dX8_goAll_8 ?_
    refine lv_icmp_ge (tgt := 26) hx hb dX8_goAll_11 (by decide) (fun c => ?_) (fun c => ?_)
    · have hF := (if_pos c).symm.trans hF
      have hF := Option.some.inj hF
      subst hF
      exact E _ _ _ _ w dX8_goAll_26
    · have hF := (if_neg c).symm.trans hF
      refine lv_aload_n hx hb dX8_goAll_14 rfl (lv_at hl 0 rfl) ?_
      refine lv_iload_n hx hb dX8_goAll_15 rfl (lv_at hl 1 rfl) ?_
      refine lv_iload_n hx hb dX8_goAll_16 rfl (lv_at hl 2 rfl) ?_
      obtain ⟨r17, hr, hF⟩ := obd hF
      refine rX8_goNight C K w hr hl.1 ⟨Nat.le_of_ble_eq_true rfl, Nat.le_of_ble_eq_true rfl⟩ (Nat.le_of_ble_eq_true rfl) dX8_goAll_17 (fun H locs w => ?_)
      refine lv_iinc (v := v2 + 1) (lv' := [(2, .int (v2 + 1)), (0, .ref o), (1, .int v1)]) hx hb dX8_goAll_20 hl (k := 2) rfl rfl (by decide) rfl (fun ls hl => ?_)
      refine lv_goto (tgt := 6) hx hb dX8_goAll_23 (by decide) ?_
      exact ih _ _ _ _ _ _ _ hF w (lv_sub hl [1, 2, 0] rfl)

theorem bX8_goAll_0 {p : Program} {l : Launch} {e : Env} {s : State} {m : MethodId} {as : Array Value} {below : List Frame} {meth : Method} {c : Code} {A : Nat → Prop} {Q : State → Prop} {γ : wx_G} {o : Nat} {ad : Nat → Nat} {z : xF × xG} (C : CallFix p m c cX8_goAll 3 s as lw_all RX8) (K : wx_C γ A s) (E : ∀ (H : Heap) (locs : List Loc) (ls : Array Slot) (pc : Nat), wx_w γ A s H locs (mw γ o ad z.1 z.2) → decode cX8_goAll pc = .ok (.return_, 1) → W p l e rmX8_goAll s m as below meth c H locs 0 0 Q (F0 m pc ls [])) {f : xF} {g : xG} {v1 : Int32} {H : Heap} {locs : List Loc} {ls : Array Slot} (w : wx_w γ A s H locs (mw γ o ad f g)) (hl : lv_has ls 3 [(0, .ref o), (1, .int v1)]) (hF : pX8_goAll_0 f g v1 = some z) : W p l e rmX8_goAll s m as below meth c H locs 0 0 Q (F0 m 0 ls []) := by
  have hx := C.1
  have hb := C.2.1
  unfold pX8_goAll_0 at hF
  refine lv_aload_n hx hb dX8_goAll_0 rfl (lv_at hl 0 rfl) ?_
  obtain ⟨r1, hr, hF⟩ := obd hF
  refine rX8_begin C K w hr hl.1 ⟨Nat.le_of_ble_eq_true rfl, Nat.le_of_ble_eq_true rfl⟩ (Nat.le_of_ble_eq_true rfl) dX8_goAll_1 (fun H locs w => ?_)
  refine lv_iconst (v := (0 : Int32)) hx hb dX8_goAll_4 (by decide) ?_
  refine lv_istore_n (lv' := [(2, .int (0 : Int32)), (0, .ref o), (1, .int v1)]) hx hb dX8_goAll_5 rfl hl (by decide) rfl (fun ls hl => ?_)
  exact bX8_goAll_6 C K E 5000 _ _ _ _ _ _ _ hF w (lv_sub hl [1, 2, 0] rfl)

theorem mX8_goAll {l : Launch} {γ : wx_G} {o : Nat} {ad : Nat → Nat} {f : xF} {g : xG} {v1 : Int32} {z : xF × xG} (hF : pX8_goAll f g v1 = some z) : wx_M γ l yX8_goAll (ws_ yX8_goAll cX8_goAll 3 none) rmX8_goAll [.ref o, .int v1] (mw γ o ad f g) (fun v ws => v = none ∧ ws = (mw γ o ad z.1 z.2)) 0 0 := by
  refine wx_M.of (by decide) (Nat.le_of_ble_eq_true rfl) ?_
  intro p e s m as below meth c A ls C K w hr hlocks _ hl
  exact bX8_goAll_0 C K (fun H locs ls pc w d => wx_vret C hr hlocks w ⟨rfl, rfl⟩ d) w hl hF
theorem rX8_goAll {p : Program} {l : Launch} {e : Env} {R : Room} {s : State} {m : MethodId} {as : Array Value} {below : List Frame} {meth : Method} {c : Code} {H : Heap} {locs : List Loc} {cells slots : Nat} {Q : State → Prop} {cc : ByteArray} {nL pc : Nat} {ls : Array Slot} {rest : List Value} {γ : wx_G} {A : Nat → Prop} {o : Nat} {ad : Nat → Nat} {f : xF} {g : xG} {v1 : Int32} {z : xF × xG} (C : CallFix p m c cc nL s as lw_all RX8) (K : wx_C γ A s) (w : wx_w γ A s H locs (mw γ o ad f g)) (hF : pX8_goAll f g v1 = some z) (hls : ls.size = nL) (hR : rmX8_goAll.frames + 1 ≤ R.frames ∧ 8 + (3 + 11) + rmX8_goAll.locals ≤ R.locals) (hW : (rest.map fun v => v.category).sum ≤ 8) (d : decode cc pc = .ok (.invokevirtual 320, 3)) (kk : ∀ (H : Heap) (locs : List Loc), wx_w γ A s H locs (mw γ o ad z.1 z.2) → W p l e R s m as below meth c H locs cells slots Q (F0 m (pc + 3) ls rest)) (hf : cells ≤ R.cells ∧ slots ≤ R.slots := by exact ⟨Nat.le_of_ble_eq_true rfl, Nat.le_of_ble_eq_true rfl⟩) : W p l e R s m as below meth c H locs cells slots Q (F0 m pc ls (.int v1 :: .ref o :: rest)) :=
  wx_callV (n := 1) C K w (mX8_goAll (l := l) hF) q1684 q1686 qs91 q123 q1687 rfl rfl (by decide +kernel) (va_recv K.1.1 w.1 (ci := 0) (q0 := 0) rfl rfl) rfl rfl hR hls hW hf d (fun v ws H1 locs1 hp w => by obtain ⟨rfl, rfl⟩ := hp; exact kk H1 locs1 w)

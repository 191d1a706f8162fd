/-! the component's methods over its core (printed by gen/allc.py) -/
set_option maxRecDepth 100000
/-! WalkingStones.in(JJJ)Z -/
abbrev rmX0_in : Room := { frames := 0, cells := 0, slots := 0, locals := 0 }
def pX0_in_18 (f : xF) (g : xG) (t0 : Int32) : Option (Int32) := if gbz t0 = true then some (t0) else none

def pX0_in_17 (f : xF) (g : xG) : Option (Int32) := pX0_in_18 f g (0 : Int32)

def pX0_in_0 (f : xF) (g : xG) (v0 : Int64) (v2 : Int64) (v4 : Int64) : Option (Int32) := if (lg_cmp v0 v2) < 0 then pX0_in_17 f g else (if 0 < (lg_cmp v0 v4) then pX0_in_17 f g else pX0_in_18 f g (1 : Int32))

abbrev pX0_in (f : xF) (g : xG) (v0 : Int64) (v2 : Int64) (v4 : Int64) : Option (Int32) := pX0_in_0 f g v0 v2 v4
theorem bX0_in_18 {p : Program} {l : Launch} {e : Env} {s : State} {m : MethodId} {as : Array Value} {below : List Frame} {meth : Method} {c : Code} {A : Nat → Prop} {Q : State → Prop} {γ : wx_G} {o : Nat} {ad : Nat → Nat} {ρ : va_W} {z : Int32} {f : xF} {g : xG} (G : cx_ok γ) (C : CallFix p m c cX0_in 6 s as lw_all RX0) (K : wx_C γ A s) (E : ∀ (H : Heap) (locs : List Loc) (ls : Array Slot) (pc : Nat), narrow .boolean (.int z) = .int z → wx_w γ A s H locs (cw γ o ad f g ρ) → decode cX0_in pc = .ok (.ireturn, 1) → W p l e rmX0_in s m as below meth c H locs 0 0 Q (F0 m pc ls [.int z])) {t0 : Int32} {H : Heap} {locs : List Loc} {ls : Array Slot} (w : wx_w γ A s H locs (cw γ o ad f g ρ)) (hl : lv_has ls 6 []) (hF : pX0_in_18 f g t0 = some z) : W p l e rmX0_in s m as below meth c H locs 0 0 Q (F0 m 18 ls [.int t0]) := by
  have hx := C.1
  have hb := C.2.1
  unfold pX0_in_18 at hF
  obtain ⟨hz, hF⟩ := gbz_if hF
  have hF := Option.some.inj hF
  subst hF
  exact E _ _ _ _ hz w dX0_in_18

theorem bX0_in_17 {p : Program} {l : Launch} {e : Env} {s : State} {m : MethodId} {as : Array Value} {below : List Frame} {meth : Method} {c : Code} {A : Nat → Prop} {Q : State → Prop} {γ : wx_G} {o : Nat} {ad : Nat → Nat} {ρ : va_W} {z : Int32} {f : xF} {g : xG} (G : cx_ok γ) (C : CallFix p m c cX0_in 6 s as lw_all RX0) (K : wx_C γ A s) (E : ∀ (H : Heap) (locs : List Loc) (ls : Array Slot) (pc : Nat), narrow .boolean (.int z) = .int z → wx_w γ A s H locs (cw γ o ad f g ρ) → decode cX0_in pc = .ok (.ireturn, 1) → W p l e rmX0_in s m as below meth c H locs 0 0 Q (F0 m pc ls [.int z])) {H : Heap} {locs : List Loc} {ls : Array Slot} (w : wx_w γ A s H locs (cw γ o ad f g ρ)) (hl : lv_has ls 6 []) (hF : pX0_in_17 f g = some z) : W p l e rmX0_in s m as below meth c H locs 0 0 Q (F0 m 17 ls []) := by
  have hx := C.1
  have hb := C.2.1
  unfold pX0_in_17 at hF
  refine lv_iconst (v := (0 : Int32)) hx hb dX0_in_17 (by decide) ?_
  exact bX0_in_18 G C K E w hl hF

theorem bX0_in_0 {p : Program} {l : Launch} {e : Env} {s : State} {m : MethodId} {as : Array Value} {below : List Frame} {meth : Method} {c : Code} {A : Nat → Prop} {Q : State → Prop} {γ : wx_G} {o : Nat} {ad : Nat → Nat} {ρ : va_W} {z : Int32} {f : xF} {g : xG} (G : cx_ok γ) (C : CallFix p m c cX0_in 6 s as lw_all RX0) (K : wx_C γ A s) (E : ∀ (H : Heap) (locs : List Loc) (ls : Array Slot) (pc : Nat), narrow .boolean (.int z) = .int z → wx_w γ A s H locs (cw γ o ad f g ρ) → decode cX0_in pc = .ok (.ireturn, 1) → W p l e rmX0_in s m as below meth c H locs 0 0 Q (F0 m pc ls [.int z])) {v0 : Int64} {v2 : Int64} {v4 : Int64} {H : Heap} {locs : List Loc} {ls : Array Slot} (w : wx_w γ A s H locs (cw γ o ad f g ρ)) (hl : lv_has ls 6 [(0, .long v0), (2, .long v2), (4, .long v4)]) (hF : pX0_in_0 f g v0 v2 v4 = some z) : W p l e rmX0_in s m as below meth c H locs 0 0 Q (F0 m 0 ls []) := by
  have hx := C.1
  have hb := C.2.1
  unfold pX0_in_0 at hF
  refine lv_lload_n hx hb dX0_in_0 rfl (lv_at hl 0 rfl) ?_
  refine lv_lload_n hx hb dX0_in_1 rfl (lv_at hl 1 rfl) ?_
  refine W.lcmp hx hb dX0_in_2 ?_
  refine lv_if_lt (tgt := 17) hx hb dX0_in_3 (by decide) (fun c => ?_) (fun c => ?_)
  · have hF := (if_pos c).symm.trans hF
    exact bX0_in_17 G C K E w (lv_sub hl [] rfl) hF
  · have hF := (if_neg c).symm.trans hF
    refine lv_lload_n hx hb dX0_in_6 rfl (lv_at hl 0 rfl) ?_
    refine lv_lload hx hb dX0_in_7 (lv_at hl 2 rfl) ?_
    refine W.lcmp hx hb dX0_in_9 ?_
    refine lv_if_gt (tgt := 17) hx hb dX0_in_10 (by decide) (fun c => ?_) (fun c => ?_)
    · have hF := (if_pos c).symm.trans hF
      exact bX0_in_17 G C K E w (lv_sub hl [] rfl) hF
    · have hF := (if_neg c).symm.trans hF
      refine lv_iconst (v := (1 : Int32)) hx hb dX0_in_13 (by decide) ?_
      refine lv_goto (tgt := 18) hx hb dX0_in_14 (by decide) ?_
      exact bX0_in_18 G C K E w (lv_sub hl [] rfl) hF

theorem mX0_in {l : Launch} {γ : wx_G} {o : Nat} {ad : Nat → Nat} {ρ : va_W} {f : xF} {g : xG} {v0 : Int64} {v2 : Int64} {v4 : Int64} {z : Int32} (G : cx_ok γ) (hF : pX0_in f g v0 v2 v4 = some z) : wx_M γ l yX0_in (ws_ yX0_in cX0_in 6 (some .boolean)) rmX0_in [.long v0, .long v2, .long v4] (cw γ o ad f g ρ) (fun v ws => v = some (.int z) ∧ ws = (cw γ o ad f g ρ)) 0 0 := by
  refine wx_M.of (by decide) (Nat.le_of_ble_eq_true rfl) ?_
  intro p e s m as below meth c A ls C K w hr hlocks _ hl
  exact bX0_in_0 G C K (fun H locs ls pc hz w d => wx_zret C hr hlocks hz w ⟨rfl, rfl⟩ d) w hl hF
theorem rX0_in {p : Program} {l : Launch} {e : Env} {R : Room} {s : State} {m : MethodId} {as : Array Value} {below : List Frame} {meth : Method} {c : Code} {H : Heap} {locs : List Loc} {cells slots : Nat} {Q : State → Prop} {cc : ByteArray} {nL pc : Nat} {ls : Array Slot} {rest : List Value} {γ : wx_G} {A : Nat → Prop} {o : Nat} {ad : Nat → Nat} {ρ : va_W} {f : xF} {g : xG} {v0 : Int64} {v2 : Int64} {v4 : Int64} {z : Int32} (G : cx_ok γ) (C : CallFix p m c cc nL s as lw_all RX0) (K : wx_C γ A s) (w : wx_w γ A s H locs (cw γ o ad f g ρ)) (hF : pX0_in f g v0 v2 v4 = some z) (hls : ls.size = nL) (hR : rmX0_in.frames + 1 ≤ R.frames ∧ 8 + (6 + 11) + rmX0_in.locals ≤ R.locals) (hW : (rest.map fun v => v.category).sum ≤ 8) (d : decode cc pc = .ok (.invokestatic 5, 3)) (kk : ∀ (H : Heap) (locs : List Loc), wx_w γ A s H locs (cw γ o ad f g ρ) → W p l e R s m as below meth c H locs cells slots Q (F0 m (pc + 3) ls (.int z :: rest))) (hf : cells ≤ R.cells ∧ slots ≤ R.slots := by exact ⟨Nat.le_of_ble_eq_true rfl, Nat.le_of_ble_eq_true rfl⟩) : W p l e R s m as below meth c H locs cells slots Q (F0 m pc ls (.long v4 :: .long v2 :: .long v0 :: rest)) :=
  wx_callS (n := 3) C K w (mX0_in (l := l) G hF) q141 q142 q106 q143 rfl rfl (by decide +kernel) rfl rfl hR hls hW hf d (fun v ws H1 locs1 hp w => by obtain ⟨rfl, rfl⟩ := hp; exact kk H1 locs1 w)

/-! WalkingStones.isPlace(I)Z -/
abbrev rmX0_isPlace : Room := { frames := 1, cells := 0, slots := 0, locals := 25 }
def pX0_isPlace_0 (f : xF) (g : xG) (v0 : Int32) : Option (Int32) := (pX0_in f g v0.toInt64 (0 : Int64) (4095 : Int64)).bind (fun r6 => if gbz r6 = true then some (r6) else none)

abbrev pX0_isPlace (f : xF) (g : xG) (v0 : Int32) : Option (Int32) := pX0_isPlace_0 f g v0
theorem bX0_isPlace_0 {p : Program} {l : Launch} {e : Env} {s : State} {m : MethodId} {as : Array Value} {below : List Frame} {meth : Method} {c : Code} {A : Nat → Prop} {Q : State → Prop} {γ : wx_G} {o : Nat} {ad : Nat → Nat} {ρ : va_W} {z : Int32} {f : xF} {g : xG} (G : cx_ok γ) (C : CallFix p m c cX0_isPlace 1 s as lw_all RX0) (K : wx_C γ A s) (E : ∀ (H : Heap) (locs : List Loc) (ls : Array Slot) (pc : Nat), narrow .boolean (.int z) = .int z → wx_w γ A s H locs (cw γ o ad f g ρ) → decode cX0_isPlace pc = .ok (.ireturn, 1) → W p l e rmX0_isPlace s m as below meth c H locs 0 0 Q (F0 m pc ls [.int z])) {v0 : Int32} {H : Heap} {locs : List Loc} {ls : Array Slot} (w : wx_w γ A s H locs (cw γ o ad f g ρ)) (hl : lv_has ls 1 [(0, .int v0)]) (hF : pX0_isPlace_0 f g v0 = some z) : W p l e rmX0_isPlace s m as below meth c H locs 0 0 Q (F0 m 0 ls []) := by
  have hx := C.1
  have hb := C.2.1
  unfold pX0_isPlace_0 at hF
  refine lv_iload_n hx hb dX0_isPlace_0 rfl (lv_at hl 0 rfl) ?_
  refine lv_i2l hx hb dX0_isPlace_1 rfl ?_
  refine lv_lconst (v := (0 : Int64)) hx hb dX0_isPlace_2 (by decide) ?_
  refine lv_ldc2 (v := (4095 : Int64)) hx hb C.2.2.2.1 (C.2.2.2.2 _ q147) dX0_isPlace_3 ?_
  obtain ⟨r6, hr, hF⟩ := obd hF
  refine rX0_in G C K w hr hl.1 ⟨Nat.le_of_ble_eq_true rfl, Nat.le_of_ble_eq_true rfl⟩ (Nat.le_of_ble_eq_true rfl) dX0_isPlace_6 (fun H locs w => ?_)
  obtain ⟨hz, hF⟩ := gbz_if hF
  have hF := Option.some.inj hF
  subst hF
  exact E _ _ _ _ hz w dX0_isPlace_9

theorem mX0_isPlace {l : Launch} {γ : wx_G} {o : Nat} {ad : Nat → Nat} {ρ : va_W} {f : xF} {g : xG} {v0 : Int32} {z : Int32} (G : cx_ok γ) (hF : pX0_isPlace f g v0 = some z) : wx_M γ l yX0_isPlace (ws_ yX0_isPlace cX0_isPlace 1 (some .boolean)) rmX0_isPlace [.int v0] (cw γ o ad f g ρ) (fun v ws => v = some (.int z) ∧ ws = (cw γ o ad f g ρ)) 0 0 := by
  refine wx_M.of (by decide) (Nat.le_of_ble_eq_true rfl) ?_
  intro p e s m as below meth c A ls C K w hr hlocks _ hl
  exact bX0_isPlace_0 G C K (fun H locs ls pc hz w d => wx_zret C hr hlocks hz w ⟨rfl, rfl⟩ d) w hl hF
theorem rX0_isPlace {p : Program} {l : Launch} {e : Env} {R : Room} {s : State} {m : MethodId} {as : Array Value} {below : List Frame} {meth : Method} {c : Code} {H : Heap} {locs : List Loc} {cells slots : Nat} {Q : State → Prop} {cc : ByteArray} {nL pc : Nat} {ls : Array Slot} {rest : List Value} {γ : wx_G} {A : Nat → Prop} {o : Nat} {ad : Nat → Nat} {ρ : va_W} {f : xF} {g : xG} {v0 : Int32} {z : Int32} (G : cx_ok γ) (C : CallFix p m c cc nL s as lw_all RX0) (K : wx_C γ A s) (w : wx_w γ A s H locs (cw γ o ad f g ρ)) (hF : pX0_isPlace f g v0 = some z) (hls : ls.size = nL) (hR : rmX0_isPlace.frames + 1 ≤ R.frames ∧ 8 + (1 + 11) + rmX0_isPlace.locals ≤ R.locals) (hW : (rest.map fun v => v.category).sum ≤ 8) (d : decode cc pc = .ok (.invokestatic 22, 3)) (kk : ∀ (H : Heap) (locs : List Loc), wx_w γ A s H locs (cw γ o ad f g ρ) → W p l e R s m as below meth c H locs cells slots Q (F0 m (pc + 3) ls (.int z :: rest))) (hf : cells ≤ R.cells ∧ slots ≤ R.slots := by exact ⟨Nat.le_of_ble_eq_true rfl, Nat.le_of_ble_eq_true rfl⟩) : W p l e R s m as below meth c H locs cells slots Q (F0 m pc ls (.int v0 :: rest)) :=
  wx_callS (n := 1) C K w (mX0_isPlace (l := l) G hF) q144 q145 q106 q146 rfl rfl (by decide +kernel) rfl rfl hR hls hW hf d (fun v ws H1 locs1 hp w => by obtain ⟨rfl, rfl⟩ := hp; exact kk H1 locs1 w)

/-! WalkingStones.liesAt(I)Z -/
abbrev rmX0_liesAt : Room := { frames := 0, cells := 0, slots := 0, locals := 0 }
def pX0_liesAt_2 (f : xF) (g : xG) : Nat → Int32 → Int32 → Option (Int32)
  | 0, _, _ => none
  | n + 1, v1, v2 => if (f 2) ≤ v2 then some ((0 : Int32)) else (if gin v2 10 = true then if (g 1 v2.toNatClampNeg) = v1 then some ((1 : Int32)) else pX0_liesAt_2 f g n v1 (v2 + 1) else none)

def pX0_liesAt_0 (f : xF) (g : xG) (v1 : Int32) : Option (Int32) := pX0_liesAt_2 f g 5000 v1 (0 : Int32)

abbrev pX0_liesAt (f : xF) (g : xG) (v1 : Int32) : Option (Int32) := pX0_liesAt_0 f g v1
theorem bX0_liesAt_2 {p : Program} {l : Launch} {e : Env} {s : State} {m : MethodId} {as : Array Value} {below : List Frame} {meth : Method} {c : Code} {A : Nat → Prop} {Q : State → Prop} {γ : wx_G} {o : Nat} {ad : Nat → Nat} {ρ : va_W} {z : Int32} {f : xF} {g : xG} (G : cx_ok γ) (C : CallFix p m c cX0_liesAt 3 s as lw_all RX0) (K : wx_C γ A s) (E : ∀ (H : Heap) (locs : List Loc) (ls : Array Slot) (pc : Nat), narrow .boolean (.int z) = .int z → wx_w γ A s H locs (cw γ o ad f g ρ) → decode cX0_liesAt pc = .ok (.ireturn, 1) → W p l e rmX0_liesAt s m as below meth c H locs 0 0 Q (F0 m pc ls [.int z])) : ∀ (n : Nat) (v1 : Int32) (v2 : Int32) (H : Heap) (locs : List Loc) (ls : Array Slot), pX0_liesAt_2 f g n v1 v2 = some z → wx_w γ A s H locs (cw γ o ad f g ρ) → lv_has ls 3 [(0, .ref o), (1, .int v1), (2, .int v2)] → W p l e rmX0_liesAt s m as below meth c H locs 0 0 Q (F0 m 2 ls []) := by
  have hx := C.1
  have hb := C.2.1
  intro n
  induction n with
  | zero =>
    intro v1 v2 H locs ls hF w hl
    have hF : (none : Option (Int32)) = some z := hF
    cases hF
  | succ n ih =>
    intro v1 v2 H locs ls hF w hl
    rw [pX0_liesAt_2] at hF
    refine lv_iload_n hx hb dX0_liesAt_2 rfl (lv_at hl 2 rfl) ?_
    refine lv_aload_n hx hb dX0_liesAt_3 rfl (lv_at hl 0 rfl) ?_
    refine cget_2 C K w dX0_liesAt_4 ?_
    refine lv_icmp_ge (tgt := 28) hx hb dX0_liesAt_7 (by decide) (fun c => ?_) (fun c => ?_)
    · have hF := (if_pos c).symm.trans hF
      refine lv_iconst (v := (0 : Int32)) hx hb dX0_liesAt_28 (by decide) ?_
      have hF := Option.some.inj hF
      subst hF
      exact E _ _ _ _ wx_nz0 w dX0_liesAt_29
    · have hF := (if_neg c).symm.trans hF
      refine lv_aload_n hx hb dX0_liesAt_10 rfl (lv_at hl 0 rfl) ?_
      refine cget_1 C K w dX0_liesAt_11 ?_
      refine lv_iload_n hx hb dX0_liesAt_14 rfl (lv_at hl 2 rfl) ?_
      obtain ⟨hi, hF⟩ := gin_if hF
      refine cald_1 C K w hi dX0_liesAt_15 ?_
      refine lv_iload_n hx hb dX0_liesAt_16 rfl (lv_at hl 1 rfl) ?_
      refine lv_icmp_ne (tgt := 22) hx hb dX0_liesAt_17 (by decide) (fun c => ?_) (fun c => ?_)
      · have hF := (if_neg c).symm.trans hF
        refine lv_iinc (v := v2 + 1) (lv' := [(2, .int (v2 + 1)), (0, .ref o), (1, .int v1)]) hx hb dX0_liesAt_22 hl (k := 2) rfl rfl (by decide) rfl (fun ls hl => ?_)
        refine lv_goto (tgt := 2) hx hb dX0_liesAt_25 (by decide) ?_
        exact ih _ _ _ _ _ hF w (lv_sub hl [1, 2, 0] rfl)
      · have hF := (if_pos c).symm.trans hF
        refine lv_iconst (v := (1 : Int32)) hx hb dX0_liesAt_20 (by decide) ?_
        have hF := Option.some.inj hF
        subst hF
        exact E _ _ _ _ wx_nz1 w dX0_liesAt_21

theorem bX0_liesAt_0 {p : Program} {l : Launch} {e : Env} {s : State} {m : MethodId} {as : Array Value} {below : List Frame} {meth : Method} {c : Code} {A : Nat → Prop} {Q : State → Prop} {γ : wx_G} {o : Nat} {ad : Nat → Nat} {ρ : va_W} {z : Int32} {f : xF} {g : xG} (G : cx_ok γ) (C : CallFix p m c cX0_liesAt 3 s as lw_all RX0) (K : wx_C γ A s) (E : ∀ (H : Heap) (locs : List Loc) (ls : Array Slot) (pc : Nat), narrow .boolean (.int z) = .int z → wx_w γ A s H locs (cw γ o ad f g ρ) → decode cX0_liesAt pc = .ok (.ireturn, 1) → W p l e rmX0_liesAt s m as below meth c H locs 0 0 Q (F0 m pc ls [.int z])) {v1 : Int32} {H : Heap} {locs : List Loc} {ls : Array Slot} (w : wx_w γ A s H locs (cw γ o ad f g ρ)) (hl : lv_has ls 3 [(0, .ref o), (1, .int v1)]) (hF : pX0_liesAt_0 f g v1 = some z) : W p l e rmX0_liesAt s m as below meth c H locs 0 0 Q (F0 m 0 ls []) := by
  have hx := C.1
  have hb := C.2.1
  unfold pX0_liesAt_0 at hF
  refine lv_iconst (v := (0 : Int32)) hx hb dX0_liesAt_0 (by decide) ?_
  refine lv_istore_n (lv' := [(2, .int (0 : Int32)), (0, .ref o), (1, .int v1)]) hx hb dX0_liesAt_1 rfl hl (by decide) rfl (fun ls hl => ?_)
  exact bX0_liesAt_2 G C K E 5000 _ _ _ _ _ hF w (lv_sub hl [1, 2, 0] rfl)

theorem mX0_liesAt {l : Launch} {γ : wx_G} {o : Nat} {ad : Nat → Nat} {ρ : va_W} {f : xF} {g : xG} {v1 : Int32} {z : Int32} (G : cx_ok γ) (hF : pX0_liesAt f g v1 = some z) : wx_M γ l yX0_liesAt (ws_ yX0_liesAt cX0_liesAt 3 (some .boolean)) rmX0_liesAt [.ref o, .int v1] (cw γ o ad f g ρ) (fun v ws => v = some (.int z) ∧ ws = (cw γ o ad f g ρ)) 0 0 := by
  refine wx_M.of (by decide) (Nat.le_of_ble_eq_true rfl) ?_
  intro p e s m as below meth c A ls C K w hr hlocks _ hl
  exact bX0_liesAt_0 G C K (fun H locs ls pc hz w d => wx_zret C hr hlocks hz w ⟨rfl, rfl⟩ d) w hl hF
theorem rX0_liesAt {p : Program} {l : Launch} {e : Env} {R : Room} {s : State} {m : MethodId} {as : Array Value} {below : List Frame} {meth : Method} {c : Code} {H : Heap} {locs : List Loc} {cells slots : Nat} {Q : State → Prop} {cc : ByteArray} {nL pc : Nat} {ls : Array Slot} {rest : List Value} {γ : wx_G} {A : Nat → Prop} {o : Nat} {ad : Nat → Nat} {ρ : va_W} {f : xF} {g : xG} {v1 : Int32} {z : Int32} (G : cx_ok γ) (C : CallFix p m c cc nL s as lw_all RX0) (K : wx_C γ A s) (w : wx_w γ A s H locs (cw γ o ad f g ρ)) (hF : pX0_liesAt f g v1 = some z) (hls : ls.size = nL) (hR : rmX0_liesAt.frames + 1 ≤ R.frames ∧ 8 + (3 + 11) + rmX0_liesAt.locals ≤ R.locals) (hW : (rest.map fun v => v.category).sum ≤ 8) (d : decode cc pc = .ok (.invokevirtual 26, 3)) (kk : ∀ (H : Heap) (locs : List Loc), wx_w γ A s H locs (cw γ o ad f g ρ) → W p l e R s m as below meth c H locs cells slots Q (F0 m (pc + 3) ls (.int z :: rest))) (hf : cells ≤ R.cells ∧ slots ≤ R.slots := by exact ⟨Nat.le_of_ble_eq_true rfl, Nat.le_of_ble_eq_true rfl⟩) : W p l e R s m as below meth c H locs cells slots Q (F0 m pc ls (.int v1 :: .ref o :: rest)) :=
  wx_callV (n := 1) C K w (mX0_liesAt (l := l) G hF) q148 q150 qs0 q106 q152 rfl rfl (by decide +kernel) (va_recv K.1.1 w.1 (ci := 1) (q0 := 0) rfl rfl) rfl rfl hR hls hW hf d (fun v ws H1 locs1 hp w => by obtain ⟨rfl, rfl⟩ := hp; exact kk H1 locs1 w)

/-! WalkingStones.stone(II)I -/
abbrev rmX0_stone : Room := { frames := 2, cells := 0, slots := 0, locals := 45 }
def pX0_stone_19 (f : xF) (g : xG) : Option (Int32 × xF × xG) := some ((-2 : Int32), f, g)

def pX0_stone_0 (f : xF) (g : xG) (v1 : Int32) (v2 : Int32) : Option (Int32 × xF × xG) := (pX0_in f g v1.toInt64 (1 : Int64) (99 : Int64)).bind (fun r6 => if r6 = 0 then pX0_stone_19 f g else (pX0_isPlace f g v2).bind (fun r13 => if r13 = 0 then pX0_stone_19 f g else (pX0_liesAt f g v2).bind (fun r24 => if r24 = 0 then (if (f 2) = (10 : Int32) then some ((-4 : Int32), f, g) else (if gin (f 2) 10 = true then if gin (f 2) 10 = true then some (((upd f 2 ((f 2) + (1 : Int32))) 2) - (1 : Int32), upd f 2 ((f 2) + (1 : Int32)), va_up (va_up g 0 (upd (g 0) (f 2).toNatClampNeg v1)) 1 (upd ((va_up g 0 (upd (g 0) (f 2).toNatClampNeg v1)) 1) (f 2).toNatClampNeg v2)) else none else none)) else some ((-3 : Int32), f, g))))

abbrev pX0_stone (f : xF) (g : xG) (v1 : Int32) (v2 : Int32) : Option (Int32 × xF × xG) := pX0_stone_0 f g v1 v2
theorem bX0_stone_19 {p : Program} {l : Launch} {e : Env} {s : State} {m : MethodId} {as : Array Value} {below : List Frame} {meth : Method} {c : Code} {A : Nat → Prop} {Q : State → Prop} {γ : wx_G} {o : Nat} {ad : Nat → Nat} {ρ : va_W} {z : Int32 × xF × xG} (G : cx_ok γ) (C : CallFix p m c cX0_stone 3 s as lw_all RX0) (K : wx_C γ A s) (E : ∀ (H : Heap) (locs : List Loc) (ls : Array Slot) (pc : Nat), wx_w γ A s H locs (cw γ o ad z.2.1 z.2.2 ρ) → decode cX0_stone pc = .ok (.ireturn, 1) → W p l e rmX0_stone s m as below meth c H locs 0 0 Q (F0 m pc ls [.int z.1])) {f : xF} {g : xG} {H : Heap} {locs : List Loc} {ls : Array Slot} (w : wx_w γ A s H locs (cw γ o ad f g ρ)) (hl : lv_has ls 3 []) (hF : pX0_stone_19 f g = some z) : W p l e rmX0_stone s m as below meth c H locs 0 0 Q (F0 m 19 ls []) := by
  have hx := C.1
  have hb := C.2.1
  unfold pX0_stone_19 at hF
  refine lv_bipush (v := (-2 : Int32)) hx hb dX0_stone_19 (by decide) ?_
  have hF := Option.some.inj hF
  subst hF
  exact E _ _ _ _ w dX0_stone_21

theorem bX0_stone_0 {p : Program} {l : Launch} {e : Env} {s : State} {m : MethodId} {as : Array Value} {below : List Frame} {meth : Method} {c : Code} {A : Nat → Prop} {Q : State → Prop} {γ : wx_G} {o : Nat} {ad : Nat → Nat} {ρ : va_W} {z : Int32 × xF × xG} (G : cx_ok γ) (C : CallFix p m c cX0_stone 3 s as lw_all RX0) (K : wx_C γ A s) (E : ∀ (H : Heap) (locs : List Loc) (ls : Array Slot) (pc : Nat), wx_w γ A s H locs (cw γ o ad z.2.1 z.2.2 ρ) → decode cX0_stone pc = .ok (.ireturn, 1) → W p l e rmX0_stone s m as below meth c H locs 0 0 Q (F0 m pc ls [.int z.1])) {f : xF} {g : xG} {v1 : Int32} {v2 : Int32} {H : Heap} {locs : List Loc} {ls : Array Slot} (w : wx_w γ A s H locs (cw γ o ad f g ρ)) (hl : lv_has ls 3 [(0, .ref o), (1, .int v1), (2, .int v2)]) (hF : pX0_stone_0 f g v1 v2 = some z) : W p l e rmX0_stone s m as below meth c H locs 0 0 Q (F0 m 0 ls []) := by
  have hx := C.1
  have hb := C.2.1
  unfold pX0_stone_0 at hF
  refine lv_iload_n hx hb dX0_stone_0 rfl (lv_at hl 1 rfl) ?_
  refine lv_i2l hx hb dX0_stone_1 rfl ?_
  refine lv_lconst (v := (1 : Int64)) hx hb dX0_stone_2 (by decide) ?_
  refine lv_ldc2 (v := (99 : Int64)) hx hb C.2.2.2.1 (C.2.2.2.2 _ q140) dX0_stone_3 ?_
  obtain ⟨r6, hr, hF⟩ := obd hF
  refine rX0_in G C K w hr hl.1 ⟨Nat.le_of_ble_eq_true rfl, Nat.le_of_ble_eq_true rfl⟩ (Nat.le_of_ble_eq_true rfl) dX0_stone_6 (fun H locs w => ?_)
  refine lv_if_eq (tgt := 19) hx hb dX0_stone_9 (by decide) (fun c => ?_) (fun c => ?_)
  · have hF := (if_pos c).symm.trans hF
    exact bX0_stone_19 G C K E w (lv_sub hl [] rfl) hF
  · have hF := (if_neg c).symm.trans hF
    refine lv_iload_n hx hb dX0_stone_12 rfl (lv_at hl 2 rfl) ?_
    obtain ⟨r13, hr, hF⟩ := obd hF
    refine rX0_isPlace G C K w hr hl.1 ⟨Nat.le_of_ble_eq_true rfl, Nat.le_of_ble_eq_true rfl⟩ (Nat.le_of_ble_eq_true rfl) dX0_stone_13 (fun H locs w => ?_)
    refine lv_if_ne (tgt := 22) hx hb dX0_stone_16 (by decide) (fun c => ?_) (fun c => ?_)
    · have hF := (if_neg c).symm.trans hF
      refine lv_aload_n hx hb dX0_stone_22 rfl (lv_at hl 0 rfl) ?_
      refine lv_iload_n hx hb dX0_stone_23 rfl (lv_at hl 2 rfl) ?_
      obtain ⟨r24, hr, hF⟩ := obd hF
      refine rX0_liesAt G C K w hr hl.1 ⟨Nat.le_of_ble_eq_true rfl, Nat.le_of_ble_eq_true rfl⟩ (Nat.le_of_ble_eq_true rfl) dX0_stone_24 (fun H locs w => ?_)
      refine lv_if_eq (tgt := 33) hx hb dX0_stone_27 (by decide) (fun c => ?_) (fun c => ?_)
      · have hF := (if_pos c).symm.trans hF
        refine lv_aload_n hx hb dX0_stone_33 rfl (lv_at hl 0 rfl) ?_
        refine cget_2 C K w dX0_stone_34 ?_
        refine lv_bipush (v := (10 : Int32)) hx hb dX0_stone_37 (by decide) ?_
        refine lv_icmp_ne (tgt := 45) hx hb dX0_stone_39 (by decide) (fun c => ?_) (fun c => ?_)
        · have hF := (if_neg c).symm.trans hF
          refine lv_aload_n hx hb dX0_stone_45 rfl (lv_at hl 0 rfl) ?_
          refine cget_0 C K w dX0_stone_46 ?_
          refine lv_aload_n hx hb dX0_stone_49 rfl (lv_at hl 0 rfl) ?_
          refine cget_2 C K w dX0_stone_50 ?_
          refine lv_iload_n hx hb dX0_stone_53 rfl (lv_at hl 1 rfl) ?_
          obtain ⟨hi, hF⟩ := gin_if hF
          refine cast_0 C K w hi dX0_stone_54 (fun H locs w => ?_)
          refine lv_aload_n hx hb dX0_stone_55 rfl (lv_at hl 0 rfl) ?_
          refine cget_1 C K w dX0_stone_56 ?_
          refine lv_aload_n hx hb dX0_stone_59 rfl (lv_at hl 0 rfl) ?_
          refine cget_2 C K w dX0_stone_60 ?_
          refine lv_iload_n hx hb dX0_stone_63 rfl (lv_at hl 2 rfl) ?_
          obtain ⟨hi, hF⟩ := gin_if hF
          refine cast_1 C K w hi dX0_stone_64 (fun H locs w => ?_)
          refine lv_aload_n hx hb dX0_stone_65 rfl (lv_at hl 0 rfl) ?_
          refine lv_dup hx hb dX0_stone_66 rfl ?_
          refine cget_2 C K w dX0_stone_67 ?_
          refine lv_iconst (v := (1 : Int32)) hx hb dX0_stone_70 (by decide) ?_
          refine lv_iadd hx hb dX0_stone_71 ?_
          refine cput_2 C K w dX0_stone_72 (fun H locs w => ?_)
          refine lv_aload_n hx hb dX0_stone_75 rfl (lv_at hl 0 rfl) ?_
          refine cget_2 C K w dX0_stone_76 ?_
          refine lv_iconst (v := (1 : Int32)) hx hb dX0_stone_79 (by decide) ?_
          refine lv_isub hx hb dX0_stone_80 ?_
          have hF := Option.some.inj hF
          subst hF
          exact E _ _ _ _ w dX0_stone_81
        · have hF := (if_pos c).symm.trans hF
          refine lv_bipush (v := (-4 : Int32)) hx hb dX0_stone_42 (by decide) ?_
          have hF := Option.some.inj hF
          subst hF
          exact E _ _ _ _ w dX0_stone_44
      · have hF := (if_neg c).symm.trans hF
        refine lv_bipush (v := (-3 : Int32)) hx hb dX0_stone_30 (by decide) ?_
        have hF := Option.some.inj hF
        subst hF
        exact E _ _ _ _ w dX0_stone_32
    · have hF := (if_pos c).symm.trans hF
      exact bX0_stone_19 G C K E w (lv_sub hl [] rfl) hF

theorem mX0_stone {l : Launch} {γ : wx_G} {o : Nat} {ad : Nat → Nat} {ρ : va_W} {f : xF} {g : xG} {v1 : Int32} {v2 : Int32} {z : Int32 × xF × xG} (G : cx_ok γ) (hF : pX0_stone f g v1 v2 = some z) : wx_M γ l yX0_stone (ws_ yX0_stone cX0_stone 3 (some .int)) rmX0_stone [.ref o, .int v1, .int v2] (cw γ o ad f g ρ) (fun v ws => v = some (.int z.1) ∧ ws = (cw γ o ad z.2.1 z.2.2 ρ)) 0 0 := by
  refine wx_M.of (by decide) (Nat.le_of_ble_eq_true rfl) ?_
  intro p e s m as below meth c A ls C K w hr hlocks _ hl
  exact bX0_stone_0 G C K (fun H locs ls pc w d => wx_iret C hr hlocks w ⟨rfl, rfl⟩ d) w hl hF

/-! WalkingStones.night(I)I -/
abbrev rmX0_night : Room := { frames := 0, cells := 0, slots := 0, locals := 0 }
def pX0_night_22 (f : xF) (g : xG) : Option (Int32 × xF × xG) := some ((-2 : Int32), f, g)

def pX0_night_0 (f : xF) (g : xG) (v1 : Int32) : Option (Int32 × xF × xG) := if v1 < 0 then pX0_night_22 f g else (if (9 : Int32) < (v1 / (10000 : Int32)) then pX0_night_22 f g else (if (v1 - v1 / (10 : Int32) * (10 : Int32)) ≤ (3 : Int32) then (if (f 7) = (60 : Int32) then some ((-4 : Int32), f, g) else (if gin (f 7) 60 = true then if gin (f 7) 60 = true then if gin (f 7) 60 = true then if gin (f 7) 60 = true then some (((upd f 7 ((f 7) + (1 : Int32))) 7) - (1 : Int32), upd f 7 ((f 7) + (1 : Int32)), va_up (va_up (va_up (va_up g 3 (upd (g 3) (f 7).toNatClampNeg (v1 / (10000 : Int32)))) 4 (upd ((va_up g 3 (upd (g 3) (f 7).toNatClampNeg (v1 / (10000 : Int32)))) 4) (f 7).toNatClampNeg ((v1 / (1000 : Int32)) - (v1 / (1000 : Int32)) / (10 : Int32) * (10 : Int32)))) 5 (upd ((va_up (va_up g 3 (upd (g 3) (f 7).toNatClampNeg (v1 / (10000 : Int32)))) 4 (upd ((va_up g 3 (upd (g 3) (f 7).toNatClampNeg (v1 / (10000 : Int32)))) 4) (f 7).toNatClampNeg ((v1 / (1000 : Int32)) - (v1 / (1000 : Int32)) / (10 : Int32) * (10 : Int32)))) 5) (f 7).toNatClampNeg ((v1 / (10 : Int32)) - (v1 / (10 : Int32)) / (100 : Int32) * (100 : Int32)))) 6 (upd ((va_up (va_up (va_up g 3 (upd (g 3) (f 7).toNatClampNeg (v1 / (10000 : Int32)))) 4 (upd ((va_up g 3 (upd (g 3) (f 7).toNatClampNeg (v1 / (10000 : Int32)))) 4) (f 7).toNatClampNeg ((v1 / (1000 : Int32)) - (v1 / (1000 : Int32)) / (10 : Int32) * (10 : Int32)))) 5 (upd ((va_up (va_up g 3 (upd (g 3) (f 7).toNatClampNeg (v1 / (10000 : Int32)))) 4 (upd ((va_up g 3 (upd (g 3) (f 7).toNatClampNeg (v1 / (10000 : Int32)))) 4) (f 7).toNatClampNeg ((v1 / (1000 : Int32)) - (v1 / (1000 : Int32)) / (10 : Int32) * (10 : Int32)))) 5) (f 7).toNatClampNeg ((v1 / (10 : Int32)) - (v1 / (10 : Int32)) / (100 : Int32) * (100 : Int32)))) 6) (f 7).toNatClampNeg (v1 - v1 / (10 : Int32) * (10 : Int32)))) else none else none else none else none)) else pX0_night_22 f g))

abbrev pX0_night (f : xF) (g : xG) (v1 : Int32) : Option (Int32 × xF × xG) := pX0_night_0 f g v1
theorem bX0_night_22 {p : Program} {l : Launch} {e : Env} {s : State} {m : MethodId} {as : Array Value} {below : List Frame} {meth : Method} {c : Code} {A : Nat → Prop} {Q : State → Prop} {γ : wx_G} {o : Nat} {ad : Nat → Nat} {ρ : va_W} {z : Int32 × xF × xG} (G : cx_ok γ) (C : CallFix p m c cX0_night 2 s as lw_all RX0) (K : wx_C γ A s) (E : ∀ (H : Heap) (locs : List Loc) (ls : Array Slot) (pc : Nat), wx_w γ A s H locs (cw γ o ad z.2.1 z.2.2 ρ) → decode cX0_night pc = .ok (.ireturn, 1) → W p l e rmX0_night s m as below meth c H locs 0 0 Q (F0 m pc ls [.int z.1])) {f : xF} {g : xG} {H : Heap} {locs : List Loc} {ls : Array Slot} (w : wx_w γ A s H locs (cw γ o ad f g ρ)) (hl : lv_has ls 2 []) (hF : pX0_night_22 f g = some z) : W p l e rmX0_night s m as below meth c H locs 0 0 Q (F0 m 22 ls []) := by
  have hx := C.1
  have hb := C.2.1
  unfold pX0_night_22 at hF
  refine lv_bipush (v := (-2 : Int32)) hx hb dX0_night_22 (by decide) ?_
  have hF := Option.some.inj hF
  subst hF
  exact E _ _ _ _ w dX0_night_24

theorem bX0_night_0 {p : Program} {l : Launch} {e : Env} {s : State} {m : MethodId} {as : Array Value} {below : List Frame} {meth : Method} {c : Code} {A : Nat → Prop} {Q : State → Prop} {γ : wx_G} {o : Nat} {ad : Nat → Nat} {ρ : va_W} {z : Int32 × xF × xG} (G : cx_ok γ) (C : CallFix p m c cX0_night 2 s as lw_all RX0) (K : wx_C γ A s) (E : ∀ (H : Heap) (locs : List Loc) (ls : Array Slot) (pc : Nat), wx_w γ A s H locs (cw γ o ad z.2.1 z.2.2 ρ) → decode cX0_night pc = .ok (.ireturn, 1) → W p l e rmX0_night s m as below meth c H locs 0 0 Q (F0 m pc ls [.int z.1])) {f : xF} {g : xG} {v1 : Int32} {H : Heap} {locs : List Loc} {ls : Array Slot} (w : wx_w γ A s H locs (cw γ o ad f g ρ)) (hl : lv_has ls 2 [(0, .ref o), (1, .int v1)]) (hF : pX0_night_0 f g v1 = some z) : W p l e rmX0_night s m as below meth c H locs 0 0 Q (F0 m 0 ls []) := by
  have hx := C.1
  have hb := C.2.1
  unfold pX0_night_0 at hF
  refine lv_iload_n hx hb dX0_night_0 rfl (lv_at hl 1 rfl) ?_
  refine lv_if_lt (tgt := 22) hx hb dX0_night_1 (by decide) (fun c => ?_) (fun c => ?_)
  · have hF := (if_pos c).symm.trans hF
    exact bX0_night_22 G C K E w (lv_sub hl [] rfl) hF
  · have hF := (if_neg c).symm.trans hF
    refine lv_iload_n hx hb dX0_night_4 rfl (lv_at hl 1 rfl) ?_
    refine lv_sipush (v := (10000 : Int32)) hx hb dX0_night_5 (by decide) ?_
    refine lv_idiv hx hb dX0_night_8 (by decide) ?_
    refine lv_bipush (v := (9 : Int32)) hx hb dX0_night_9 (by decide) ?_
    refine lv_icmp_gt (tgt := 22) hx hb dX0_night_11 (by decide) (fun c => ?_) (fun c => ?_)
    · have hF := (if_pos c).symm.trans hF
      exact bX0_night_22 G C K E w (lv_sub hl [] rfl) hF
    · have hF := (if_neg c).symm.trans hF
      refine lv_iload_n hx hb dX0_night_14 rfl (lv_at hl 1 rfl) ?_
      refine lv_bipush (v := (10 : Int32)) hx hb dX0_night_15 (by decide) ?_
      refine lv_irem hx hb dX0_night_17 (by decide) ?_
      refine lv_iconst (v := (3 : Int32)) hx hb dX0_night_18 (by decide) ?_
      refine lv_icmp_le (tgt := 25) hx hb dX0_night_19 (by decide) (fun c => ?_) (fun c => ?_)
      · have hF := (if_pos c).symm.trans hF
        refine lv_aload_n hx hb dX0_night_25 rfl (lv_at hl 0 rfl) ?_
        refine cget_7 C K w dX0_night_26 ?_
        refine lv_bipush (v := (60 : Int32)) hx hb dX0_night_29 (by decide) ?_
        refine lv_icmp_ne (tgt := 37) hx hb dX0_night_31 (by decide) (fun c => ?_) (fun c => ?_)
        · have hF := (if_neg c).symm.trans hF
          refine lv_aload_n hx hb dX0_night_37 rfl (lv_at hl 0 rfl) ?_
          refine cget_3 C K w dX0_night_38 ?_
          refine lv_aload_n hx hb dX0_night_41 rfl (lv_at hl 0 rfl) ?_
          refine cget_7 C K w dX0_night_42 ?_
          refine lv_iload_n hx hb dX0_night_45 rfl (lv_at hl 1 rfl) ?_
          refine lv_sipush (v := (10000 : Int32)) hx hb dX0_night_46 (by decide) ?_
          refine lv_idiv hx hb dX0_night_49 (by decide) ?_
          obtain ⟨hi, hF⟩ := gin_if hF
          refine cast_3 C K w hi dX0_night_50 (fun H locs w => ?_)
          refine lv_aload_n hx hb dX0_night_51 rfl (lv_at hl 0 rfl) ?_
          refine cget_4 C K w dX0_night_52 ?_
          refine lv_aload_n hx hb dX0_night_55 rfl (lv_at hl 0 rfl) ?_
          refine cget_7 C K w dX0_night_56 ?_
          refine lv_iload_n hx hb dX0_night_59 rfl (lv_at hl 1 rfl) ?_
          refine lv_sipush (v := (1000 : Int32)) hx hb dX0_night_60 (by decide) ?_
          refine lv_idiv hx hb dX0_night_63 (by decide) ?_
          refine lv_bipush (v := (10 : Int32)) hx hb dX0_night_64 (by decide) ?_
          refine lv_irem hx hb dX0_night_66 (by decide) ?_
          obtain ⟨hi, hF⟩ := gin_if hF
          refine cast_4 C K w hi dX0_night_67 (fun H locs w => ?_)
          refine lv_aload_n hx hb dX0_night_68 rfl (lv_at hl 0 rfl) ?_
          refine cget_5 C K w dX0_night_69 ?_
          refine lv_aload_n hx hb dX0_night_72 rfl (lv_at hl 0 rfl) ?_
          refine cget_7 C K w dX0_night_73 ?_
          refine lv_iload_n hx hb dX0_night_76 rfl (lv_at hl 1 rfl) ?_
          refine lv_bipush (v := (10 : Int32)) hx hb dX0_night_77 (by decide) ?_
          refine lv_idiv hx hb dX0_night_79 (by decide) ?_
          refine lv_bipush (v := (100 : Int32)) hx hb dX0_night_80 (by decide) ?_
          refine lv_irem hx hb dX0_night_82 (by decide) ?_
          obtain ⟨hi, hF⟩ := gin_if hF
          refine cast_5 C K w hi dX0_night_83 (fun H locs w => ?_)
          refine lv_aload_n hx hb dX0_night_84 rfl (lv_at hl 0 rfl) ?_
          refine cget_6 C K w dX0_night_85 ?_
          refine lv_aload_n hx hb dX0_night_88 rfl (lv_at hl 0 rfl) ?_
          refine cget_7 C K w dX0_night_89 ?_
          refine lv_iload_n hx hb dX0_night_92 rfl (lv_at hl 1 rfl) ?_
          refine lv_bipush (v := (10 : Int32)) hx hb dX0_night_93 (by decide) ?_
          refine lv_irem hx hb dX0_night_95 (by decide) ?_
          obtain ⟨hi, hF⟩ := gin_if hF
          refine cast_6 C K w hi dX0_night_96 (fun H locs w => ?_)
          refine lv_aload_n hx hb dX0_night_97 rfl (lv_at hl 0 rfl) ?_
          refine lv_dup hx hb dX0_night_98 rfl ?_
          refine cget_7 C K w dX0_night_99 ?_
          refine lv_iconst (v := (1 : Int32)) hx hb dX0_night_102 (by decide) ?_
          refine lv_iadd hx hb dX0_night_103 ?_
          refine cput_7 C K w dX0_night_104 (fun H locs w => ?_)
          refine lv_aload_n hx hb dX0_night_107 rfl (lv_at hl 0 rfl) ?_
          refine cget_7 C K w dX0_night_108 ?_
          refine lv_iconst (v := (1 : Int32)) hx hb dX0_night_111 (by decide) ?_
          refine lv_isub hx hb dX0_night_112 ?_
          have hF := Option.some.inj hF
          subst hF
          exact E _ _ _ _ w dX0_night_113
        · have hF := (if_pos c).symm.trans hF
          refine lv_bipush (v := (-4 : Int32)) hx hb dX0_night_34 (by decide) ?_
          have hF := Option.some.inj hF
          subst hF
          exact E _ _ _ _ w dX0_night_36
      · have hF := (if_neg c).symm.trans hF
        exact bX0_night_22 G C K E w (lv_sub hl [] rfl) hF

theorem mX0_night {l : Launch} {γ : wx_G} {o : Nat} {ad : Nat → Nat} {ρ : va_W} {f : xF} {g : xG} {v1 : Int32} {z : Int32 × xF × xG} (G : cx_ok γ) (hF : pX0_night f g v1 = some z) : wx_M γ l yX0_night (ws_ yX0_night cX0_night 2 (some .int)) rmX0_night [.ref o, .int v1] (cw γ o ad f g ρ) (fun v ws => v = some (.int z.1) ∧ ws = (cw γ o ad z.2.1 z.2.2 ρ)) 0 0 := by
  refine wx_M.of (by decide) (Nat.le_of_ble_eq_true rfl) ?_
  intro p e s m as below meth c A ls C K w hr hlocks _ hl
  exact bX0_night_0 G C K (fun H locs ls pc w d => wx_iret C hr hlocks w ⟨rfl, rfl⟩ d) w hl hF
theorem rX0_night {p : Program} {l : Launch} {e : Env} {R : Room} {s : State} {m : MethodId} {as : Array Value} {below : List Frame} {meth : Method} {c : Code} {H : Heap} {locs : List Loc} {cells slots : Nat} {Q : State → Prop} {cc : ByteArray} {nL pc : Nat} {ls : Array Slot} {rest : List Value} {γ : wx_G} {A : Nat → Prop} {o : Nat} {ad : Nat → Nat} {ρ : va_W} {f : xF} {g : xG} {v1 : Int32} {z : Int32 × xF × xG} (G : cx_ok γ) (C : CallFix p m c cc nL s as lw_all RX0) (K : wx_C γ A s) (w : wx_w γ A s H locs (cw γ o ad f g ρ)) (hF : pX0_night f g v1 = some z) (hls : ls.size = nL) (hR : rmX0_night.frames + 1 ≤ R.frames ∧ 8 + (2 + 11) + rmX0_night.locals ≤ R.locals) (hW : (rest.map fun v => v.category).sum ≤ 8) (d : decode cc pc = .ok (.invokevirtual 534, 3)) (kk : ∀ (H : Heap) (locs : List Loc), wx_w γ A s H locs (cw γ o ad z.2.1 z.2.2 ρ) → W p l e R s m as below meth c H locs cells slots Q (F0 m (pc + 3) ls (.int z.1 :: rest))) (hf : cells ≤ R.cells ∧ slots ≤ R.slots := by exact ⟨Nat.le_of_ble_eq_true rfl, Nat.le_of_ble_eq_true rfl⟩) : W p l e R s m as below meth c H locs cells slots Q (F0 m pc ls (.int v1 :: .ref o :: rest)) :=
  wx_callV (n := 1) C K w (mX0_night (l := l) G hF) q1271 q154 q155 q106 q156 rfl rfl (by decide +kernel) (va_recv K.1.1 w.1 (ci := 1) (q0 := 0) rfl rfl) rfl rfl hR hls hW hf d (fun v ws H1 locs1 hp w => by obtain ⟨rfl, rfl⟩ := hp; exact kk H1 locs1 w)

/-! WalkingStones.isStone(I)Z -/
abbrev rmX0_isStone : Room := { frames := 1, cells := 0, slots := 0, locals := 25 }
def pX0_isStone_0 (f : xF) (g : xG) (v1 : Int32) : Option (Int32) := (pX0_in f g v1.toInt64 (0 : Int64) (((f 2) - (1 : Int32)).toInt64)).bind (fun r10 => if gbz r10 = true then some (r10) else none)

abbrev pX0_isStone (f : xF) (g : xG) (v1 : Int32) : Option (Int32) := pX0_isStone_0 f g v1
theorem bX0_isStone_0 {p : Program} {l : Launch} {e : Env} {s : State} {m : MethodId} {as : Array Value} {below : List Frame} {meth : Method} {c : Code} {A : Nat → Prop} {Q : State → Prop} {γ : wx_G} {o : Nat} {ad : Nat → Nat} {ρ : va_W} {z : Int32} {f : xF} {g : xG} (G : cx_ok γ) (C : CallFix p m c cX0_isStone 2 s as lw_all RX0) (K : wx_C γ A s) (E : ∀ (H : Heap) (locs : List Loc) (ls : Array Slot) (pc : Nat), narrow .boolean (.int z) = .int z → wx_w γ A s H locs (cw γ o ad f g ρ) → decode cX0_isStone pc = .ok (.ireturn, 1) → W p l e rmX0_isStone s m as below meth c H locs 0 0 Q (F0 m pc ls [.int z])) {v1 : Int32} {H : Heap} {locs : List Loc} {ls : Array Slot} (w : wx_w γ A s H locs (cw γ o ad f g ρ)) (hl : lv_has ls 2 [(0, .ref o), (1, .int v1)]) (hF : pX0_isStone_0 f g v1 = some z) : W p l e rmX0_isStone s m as below meth c H locs 0 0 Q (F0 m 0 ls []) := by
  have hx := C.1
  have hb := C.2.1
  unfold pX0_isStone_0 at hF
  refine lv_iload_n hx hb dX0_isStone_0 rfl (lv_at hl 1 rfl) ?_
  refine lv_i2l hx hb dX0_isStone_1 rfl ?_
  refine lv_lconst (v := (0 : Int64)) hx hb dX0_isStone_2 (by decide) ?_
  refine lv_aload_n hx hb dX0_isStone_3 rfl (lv_at hl 0 rfl) ?_
  refine cget_2 C K w dX0_isStone_4 ?_
  refine lv_iconst (v := (1 : Int32)) hx hb dX0_isStone_7 (by decide) ?_
  refine lv_isub hx hb dX0_isStone_8 ?_
  refine lv_i2l hx hb dX0_isStone_9 rfl ?_
  obtain ⟨r10, hr, hF⟩ := obd hF
  refine rX0_in G C K w hr hl.1 ⟨Nat.le_of_ble_eq_true rfl, Nat.le_of_ble_eq_true rfl⟩ (Nat.le_of_ble_eq_true rfl) dX0_isStone_10 (fun H locs w => ?_)
  obtain ⟨hz, hF⟩ := gbz_if hF
  have hF := Option.some.inj hF
  subst hF
  exact E _ _ _ _ hz w dX0_isStone_13

theorem mX0_isStone {l : Launch} {γ : wx_G} {o : Nat} {ad : Nat → Nat} {ρ : va_W} {f : xF} {g : xG} {v1 : Int32} {z : Int32} (G : cx_ok γ) (hF : pX0_isStone f g v1 = some z) : wx_M γ l yX0_isStone (ws_ yX0_isStone cX0_isStone 2 (some .boolean)) rmX0_isStone [.ref o, .int v1] (cw γ o ad f g ρ) (fun v ws => v = some (.int z) ∧ ws = (cw γ o ad f g ρ)) 0 0 := by
  refine wx_M.of (by decide) (Nat.le_of_ble_eq_true rfl) ?_
  intro p e s m as below meth c A ls C K w hr hlocks _ hl
  exact bX0_isStone_0 G C K (fun H locs ls pc hz w d => wx_zret C hr hlocks hz w ⟨rfl, rfl⟩ d) w hl hF
theorem rX0_isStone {p : Program} {l : Launch} {e : Env} {R : Room} {s : State} {m : MethodId} {as : Array Value} {below : List Frame} {meth : Method} {c : Code} {H : Heap} {locs : List Loc} {cells slots : Nat} {Q : State → Prop} {cc : ByteArray} {nL pc : Nat} {ls : Array Slot} {rest : List Value} {γ : wx_G} {A : Nat → Prop} {o : Nat} {ad : Nat → Nat} {ρ : va_W} {f : xF} {g : xG} {v1 : Int32} {z : Int32} (G : cx_ok γ) (C : CallFix p m c cc nL s as lw_all RX0) (K : wx_C γ A s) (w : wx_w γ A s H locs (cw γ o ad f g ρ)) (hF : pX0_isStone f g v1 = some z) (hls : ls.size = nL) (hR : rmX0_isStone.frames + 1 ≤ R.frames ∧ 8 + (2 + 11) + rmX0_isStone.locals ≤ R.locals) (hW : (rest.map fun v => v.category).sum ≤ 8) (d : decode cc pc = .ok (.invokevirtual 44, 3)) (kk : ∀ (H : Heap) (locs : List Loc), wx_w γ A s H locs (cw γ o ad f g ρ) → W p l e R s m as below meth c H locs cells slots Q (F0 m (pc + 3) ls (.int z :: rest))) (hf : cells ≤ R.cells ∧ slots ≤ R.slots := by exact ⟨Nat.le_of_ble_eq_true rfl, Nat.le_of_ble_eq_true rfl⟩) : W p l e R s m as below meth c H locs cells slots Q (F0 m pc ls (.int v1 :: .ref o :: rest)) :=
  wx_callV (n := 1) C K w (mX0_isStone (l := l) G hF) q161 q163 qs1 q106 q164 rfl rfl (by decide +kernel) (va_recv K.1.1 w.1 (ci := 1) (q0 := 0) rfl rfl) rfl rfl hR hls hW hf d (fun v ws H1 locs1 hp w => by obtain ⟨rfl, rfl⟩ := hp; exact kk H1 locs1 w)

/-! WalkingStones.stoneTold(II)I -/
abbrev rmX0_stoneTold : Room := { frames := 2, cells := 0, slots := 0, locals := 46 }
def pX0_stoneTold_42 (f : xF) (g : xG) (t0 : Int32) : Option (Int32) := some (t0)

def pX0_stoneTold_40 (f : xF) (g : xG) : Option (Int32) := pX0_stoneTold_42 f g (-5 : Int32)

def pX0_stoneTold_0 (f : xF) (g : xG) (v1 : Int32) (v2 : Int32) : Option (Int32) := (pX0_isStone f g v1).bind (fun r2 => if r2 = 0 then pX0_stoneTold_40 f g else (pX0_in f g v2.toInt64 (0 : Int64) (1 : Int64)).bind (fun r12 => if r12 = 0 then pX0_stoneTold_40 f g else (if v2 = 0 then (if gin v1 10 = true then pX0_stoneTold_42 f g (g 0 v1.toNatClampNeg) else none) else (if gin v1 10 = true then pX0_stoneTold_42 f g (g 1 v1.toNatClampNeg) else none))))

abbrev pX0_stoneTold (f : xF) (g : xG) (v1 : Int32) (v2 : Int32) : Option (Int32) := pX0_stoneTold_0 f g v1 v2
theorem bX0_stoneTold_42 {p : Program} {l : Launch} {e : Env} {s : State} {m : MethodId} {as : Array Value} {below : List Frame} {meth : Method} {c : Code} {A : Nat → Prop} {Q : State → Prop} {γ : wx_G} {o : Nat} {ad : Nat → Nat} {ρ : va_W} {z : Int32} {f : xF} {g : xG} (G : cx_ok γ) (C : CallFix p m c cX0_stoneTold 3 s as lw_all RX0) (K : wx_C γ A s) (E : ∀ (H : Heap) (locs : List Loc) (ls : Array Slot) (pc : Nat), wx_w γ A s H locs (cw γ o ad f g ρ) → decode cX0_stoneTold pc = .ok (.ireturn, 1) → W p l e rmX0_stoneTold s m as below meth c H locs 0 0 Q (F0 m pc ls [.int z])) {t0 : Int32} {H : Heap} {locs : List Loc} {ls : Array Slot} (w : wx_w γ A s H locs (cw γ o ad f g ρ)) (hl : lv_has ls 3 []) (hF : pX0_stoneTold_42 f g t0 = some z) : W p l e rmX0_stoneTold s m as below meth c H locs 0 0 Q (F0 m 42 ls [.int t0]) := by
  have hx := C.1
  have hb := C.2.1
  unfold pX0_stoneTold_42 at hF
  have hF := Option.some.inj hF
  subst hF
  exact E _ _ _ _ w dX0_stoneTold_42

theorem bX0_stoneTold_40 {p : Program} {l : Launch} {e : Env} {s : State} {m : MethodId} {as : Array Value} {below : List Frame} {meth : Method} {c : Code} {A : Nat → Prop} {Q : State → Prop} {γ : wx_G} {o : Nat} {ad : Nat → Nat} {ρ : va_W} {z : Int32} {f : xF} {g : xG} (G : cx_ok γ) (C : CallFix p m c cX0_stoneTold 3 s as lw_all RX0) (K : wx_C γ A s) (E : ∀ (H : Heap) (locs : List Loc) (ls : Array Slot) (pc : Nat), wx_w γ A s H locs (cw γ o ad f g ρ) → decode cX0_stoneTold pc = .ok (.ireturn, 1) → W p l e rmX0_stoneTold s m as below meth c H locs 0 0 Q (F0 m pc ls [.int z])) {H : Heap} {locs : List Loc} {ls : Array Slot} (w : wx_w γ A s H locs (cw γ o ad f g ρ)) (hl : lv_has ls 3 []) (hF : pX0_stoneTold_40 f g = some z) : W p l e rmX0_stoneTold s m as below meth c H locs 0 0 Q (F0 m 40 ls []) := by
  have hx := C.1
  have hb := C.2.1
  unfold pX0_stoneTold_40 at hF
  refine lv_bipush (v := (-5 : Int32)) hx hb dX0_stoneTold_40 (by decide) ?_
  exact bX0_stoneTold_42 G C K E w hl hF

theorem bX0_stoneTold_0 {p : Program} {l : Launch} {e : Env} {s : State} {m : MethodId} {as : Array Value} {below : List Frame} {meth : Method} {c : Code} {A : Nat → Prop} {Q : State → Prop} {γ : wx_G} {o : Nat} {ad : Nat → Nat} {ρ : va_W} {z : Int32} {f : xF} {g : xG} (G : cx_ok γ) (C : CallFix p m c cX0_stoneTold 3 s as lw_all RX0) (K : wx_C γ A s) (E : ∀ (H : Heap) (locs : List Loc) (ls : Array Slot) (pc : Nat), wx_w γ A s H locs (cw γ o ad f g ρ) → decode cX0_stoneTold pc = .ok (.ireturn, 1) → W p l e rmX0_stoneTold s m as below meth c H locs 0 0 Q (F0 m pc ls [.int z])) {v1 : Int32} {v2 : Int32} {H : Heap} {locs : List Loc} {ls : Array Slot} (w : wx_w γ A s H locs (cw γ o ad f g ρ)) (hl : lv_has ls 3 [(0, .ref o), (1, .int v1), (2, .int v2)]) (hF : pX0_stoneTold_0 f g v1 v2 = some z) : W p l e rmX0_stoneTold s m as below meth c H locs 0 0 Q (F0 m 0 ls []) := by
  have hx := C.1
  have hb := C.2.1
  unfold pX0_stoneTold_0 at hF
  refine lv_aload_n hx hb dX0_stoneTold_0 rfl (lv_at hl 0 rfl) ?_
  refine lv_iload_n hx hb dX0_stoneTold_1 rfl (lv_at hl 1 rfl) ?_
  obtain ⟨r2, hr, hF⟩ := obd hF
  refine rX0_isStone G C K w hr hl.1 ⟨Nat.le_of_ble_eq_true rfl, Nat.le_of_ble_eq_true rfl⟩ (Nat.le_of_ble_eq_true rfl) dX0_stoneTold_2 (fun H locs w => ?_)
  refine lv_if_eq (tgt := 40) hx hb dX0_stoneTold_5 (by decide) (fun c => ?_) (fun c => ?_)
  · have hF := (if_pos c).symm.trans hF
    exact bX0_stoneTold_40 G C K E w (lv_sub hl [] rfl) hF
  · have hF := (if_neg c).symm.trans hF
    refine lv_iload_n hx hb dX0_stoneTold_8 rfl (lv_at hl 2 rfl) ?_
    refine lv_i2l hx hb dX0_stoneTold_9 rfl ?_
    refine lv_lconst (v := (0 : Int64)) hx hb dX0_stoneTold_10 (by decide) ?_
    refine lv_lconst (v := (1 : Int64)) hx hb dX0_stoneTold_11 (by decide) ?_
    obtain ⟨r12, hr, hF⟩ := obd hF
    refine rX0_in G C K w hr hl.1 ⟨Nat.le_of_ble_eq_true rfl, Nat.le_of_ble_eq_true rfl⟩ (Nat.le_of_ble_eq_true rfl) dX0_stoneTold_12 (fun H locs w => ?_)
    refine lv_if_eq (tgt := 40) hx hb dX0_stoneTold_15 (by decide) (fun c => ?_) (fun c => ?_)
    · have hF := (if_pos c).symm.trans hF
      exact bX0_stoneTold_40 G C K E w (lv_sub hl [] rfl) hF
    · have hF := (if_neg c).symm.trans hF
      refine lv_iload_n hx hb dX0_stoneTold_18 rfl (lv_at hl 2 rfl) ?_
      refine lv_if_ne (tgt := 31) hx hb dX0_stoneTold_19 (by decide) (fun c => ?_) (fun c => ?_)
      · have hF := (if_neg c).symm.trans hF
        refine lv_aload_n hx hb dX0_stoneTold_31 rfl (lv_at hl 0 rfl) ?_
        refine cget_1 C K w dX0_stoneTold_32 ?_
        refine lv_iload_n hx hb dX0_stoneTold_35 rfl (lv_at hl 1 rfl) ?_
        obtain ⟨hi, hF⟩ := gin_if hF
        refine cald_1 C K w hi dX0_stoneTold_36 ?_
        refine lv_goto (tgt := 42) hx hb dX0_stoneTold_37 (by decide) ?_
        exact bX0_stoneTold_42 G C K E w (lv_sub hl [] rfl) hF
      · have hF := (if_pos c).symm.trans hF
        refine lv_aload_n hx hb dX0_stoneTold_22 rfl (lv_at hl 0 rfl) ?_
        refine cget_0 C K w dX0_stoneTold_23 ?_
        refine lv_iload_n hx hb dX0_stoneTold_26 rfl (lv_at hl 1 rfl) ?_
        obtain ⟨hi, hF⟩ := gin_if hF
        refine cald_0 C K w hi dX0_stoneTold_27 ?_
        refine lv_goto (tgt := 42) hx hb dX0_stoneTold_28 (by decide) ?_
        exact bX0_stoneTold_42 G C K E w (lv_sub hl [] rfl) hF

theorem mX0_stoneTold {l : Launch} {γ : wx_G} {o : Nat} {ad : Nat → Nat} {ρ : va_W} {f : xF} {g : xG} {v1 : Int32} {v2 : Int32} {z : Int32} (G : cx_ok γ) (hF : pX0_stoneTold f g v1 v2 = some z) : wx_M γ l yX0_stoneTold (ws_ yX0_stoneTold cX0_stoneTold 3 (some .int)) rmX0_stoneTold [.ref o, .int v1, .int v2] (cw γ o ad f g ρ) (fun v ws => v = some (.int z) ∧ ws = (cw γ o ad f g ρ)) 0 0 := by
  refine wx_M.of (by decide) (Nat.le_of_ble_eq_true rfl) ?_
  intro p e s m as below meth c A ls C K w hr hlocks _ hl
  exact bX0_stoneTold_0 G C K (fun H locs ls pc w d => wx_iret C hr hlocks w ⟨rfl, rfl⟩ d) w hl hF

/-! WalkingStones.isHow(I)Z -/
abbrev rmX0_isHow : Room := { frames := 1, cells := 0, slots := 0, locals := 25 }
def pX0_isHow_0 (f : xF) (g : xG) (v1 : Int32) : Option (Int32) := (pX0_in f g v1.toInt64 (0 : Int64) (((f 9) - (1 : Int32)).toInt64)).bind (fun r10 => if gbz r10 = true then some (r10) else none)

abbrev pX0_isHow (f : xF) (g : xG) (v1 : Int32) : Option (Int32) := pX0_isHow_0 f g v1
theorem bX0_isHow_0 {p : Program} {l : Launch} {e : Env} {s : State} {m : MethodId} {as : Array Value} {below : List Frame} {meth : Method} {c : Code} {A : Nat → Prop} {Q : State → Prop} {γ : wx_G} {o : Nat} {ad : Nat → Nat} {ρ : va_W} {z : Int32} {f : xF} {g : xG} (G : cx_ok γ) (C : CallFix p m c cX0_isHow 2 s as lw_all RX0) (K : wx_C γ A s) (E : ∀ (H : Heap) (locs : List Loc) (ls : Array Slot) (pc : Nat), narrow .boolean (.int z) = .int z → wx_w γ A s H locs (cw γ o ad f g ρ) → decode cX0_isHow pc = .ok (.ireturn, 1) → W p l e rmX0_isHow s m as below meth c H locs 0 0 Q (F0 m pc ls [.int z])) {v1 : Int32} {H : Heap} {locs : List Loc} {ls : Array Slot} (w : wx_w γ A s H locs (cw γ o ad f g ρ)) (hl : lv_has ls 2 [(0, .ref o), (1, .int v1)]) (hF : pX0_isHow_0 f g v1 = some z) : W p l e rmX0_isHow s m as below meth c H locs 0 0 Q (F0 m 0 ls []) := by
  have hx := C.1
  have hb := C.2.1
  unfold pX0_isHow_0 at hF
  refine lv_iload_n hx hb dX0_isHow_0 rfl (lv_at hl 1 rfl) ?_
  refine lv_i2l hx hb dX0_isHow_1 rfl ?_
  refine lv_lconst (v := (0 : Int64)) hx hb dX0_isHow_2 (by decide) ?_
  refine lv_aload_n hx hb dX0_isHow_3 rfl (lv_at hl 0 rfl) ?_
  refine cget_9 C K w dX0_isHow_4 ?_
  refine lv_iconst (v := (1 : Int32)) hx hb dX0_isHow_7 (by decide) ?_
  refine lv_isub hx hb dX0_isHow_8 ?_
  refine lv_i2l hx hb dX0_isHow_9 rfl ?_
  obtain ⟨r10, hr, hF⟩ := obd hF
  refine rX0_in G C K w hr hl.1 ⟨Nat.le_of_ble_eq_true rfl, Nat.le_of_ble_eq_true rfl⟩ (Nat.le_of_ble_eq_true rfl) dX0_isHow_10 (fun H locs w => ?_)
  obtain ⟨hz, hF⟩ := gbz_if hF
  have hF := Option.some.inj hF
  subst hF
  exact E _ _ _ _ hz w dX0_isHow_13

theorem mX0_isHow {l : Launch} {γ : wx_G} {o : Nat} {ad : Nat → Nat} {ρ : va_W} {f : xF} {g : xG} {v1 : Int32} {z : Int32} (G : cx_ok γ) (hF : pX0_isHow f g v1 = some z) : wx_M γ l yX0_isHow (ws_ yX0_isHow cX0_isHow 2 (some .boolean)) rmX0_isHow [.ref o, .int v1] (cw γ o ad f g ρ) (fun v ws => v = some (.int z) ∧ ws = (cw γ o ad f g ρ)) 0 0 := by
  refine wx_M.of (by decide) (Nat.le_of_ble_eq_true rfl) ?_
  intro p e s m as below meth c A ls C K w hr hlocks _ hl
  exact bX0_isHow_0 G C K (fun H locs ls pc hz w d => wx_zret C hr hlocks hz w ⟨rfl, rfl⟩ d) w hl hF
theorem rX0_isHow {p : Program} {l : Launch} {e : Env} {R : Room} {s : State} {m : MethodId} {as : Array Value} {below : List Frame} {meth : Method} {c : Code} {H : Heap} {locs : List Loc} {cells slots : Nat} {Q : State → Prop} {cc : ByteArray} {nL pc : Nat} {ls : Array Slot} {rest : List Value} {γ : wx_G} {A : Nat → Prop} {o : Nat} {ad : Nat → Nat} {ρ : va_W} {f : xF} {g : xG} {v1 : Int32} {z : Int32} (G : cx_ok γ) (C : CallFix p m c cc nL s as lw_all RX0) (K : wx_C γ A s) (w : wx_w γ A s H locs (cw γ o ad f g ρ)) (hF : pX0_isHow f g v1 = some z) (hls : ls.size = nL) (hR : rmX0_isHow.frames + 1 ≤ R.frames ∧ 8 + (2 + 11) + rmX0_isHow.locals ≤ R.locals) (hW : (rest.map fun v => v.category).sum ≤ 8) (d : decode cc pc = .ok (.invokevirtual 83, 3)) (kk : ∀ (H : Heap) (locs : List Loc), wx_w γ A s H locs (cw γ o ad f g ρ) → W p l e R s m as below meth c H locs cells slots Q (F0 m (pc + 3) ls (.int z :: rest))) (hf : cells ≤ R.cells ∧ slots ≤ R.slots := by exact ⟨Nat.le_of_ble_eq_true rfl, Nat.le_of_ble_eq_true rfl⟩) : W p l e R s m as below meth c H locs cells slots Q (F0 m pc ls (.int v1 :: .ref o :: rest)) :=
  wx_callV (n := 1) C K w (mX0_isHow (l := l) G hF) q266 q268 qs3 q106 q269 rfl rfl (by decide +kernel) (va_recv K.1.1 w.1 (ci := 1) (q0 := 0) rfl rfl) rfl rfl hR hls hW hf d (fun v ws H1 locs1 hp w => by obtain ⟨rfl, rfl⟩ := hp; exact kk H1 locs1 w)

/-! WalkingStones.isNight(I)Z -/
abbrev rmX0_isNight : Room := { frames := 1, cells := 0, slots := 0, locals := 25 }
def pX0_isNight_0 (f : xF) (g : xG) (v1 : Int32) : Option (Int32) := (pX0_in f g v1.toInt64 (0 : Int64) (((f 7) - (1 : Int32)).toInt64)).bind (fun r10 => if gbz r10 = true then some (r10) else none)

abbrev pX0_isNight (f : xF) (g : xG) (v1 : Int32) : Option (Int32) := pX0_isNight_0 f g v1
theorem bX0_isNight_0 {p : Program} {l : Launch} {e : Env} {s : State} {m : MethodId} {as : Array Value} {below : List Frame} {meth : Method} {c : Code} {A : Nat → Prop} {Q : State → Prop} {γ : wx_G} {o : Nat} {ad : Nat → Nat} {ρ : va_W} {z : Int32} {f : xF} {g : xG} (G : cx_ok γ) (C : CallFix p m c cX0_isNight 2 s as lw_all RX0) (K : wx_C γ A s) (E : ∀ (H : Heap) (locs : List Loc) (ls : Array Slot) (pc : Nat), narrow .boolean (.int z) = .int z → wx_w γ A s H locs (cw γ o ad f g ρ) → decode cX0_isNight pc = .ok (.ireturn, 1) → W p l e rmX0_isNight s m as below meth c H locs 0 0 Q (F0 m pc ls [.int z])) {v1 : Int32} {H : Heap} {locs : List Loc} {ls : Array Slot} (w : wx_w γ A s H locs (cw γ o ad f g ρ)) (hl : lv_has ls 2 [(0, .ref o), (1, .int v1)]) (hF : pX0_isNight_0 f g v1 = some z) : W p l e rmX0_isNight s m as below meth c H locs 0 0 Q (F0 m 0 ls []) := by
  have hx := C.1
  have hb := C.2.1
  unfold pX0_isNight_0 at hF
  refine lv_iload_n hx hb dX0_isNight_0 rfl (lv_at hl 1 rfl) ?_
  refine lv_i2l hx hb dX0_isNight_1 rfl ?_
  refine lv_lconst (v := (0 : Int64)) hx hb dX0_isNight_2 (by decide) ?_
  refine lv_aload_n hx hb dX0_isNight_3 rfl (lv_at hl 0 rfl) ?_
  refine cget_7 C K w dX0_isNight_4 ?_
  refine lv_iconst (v := (1 : Int32)) hx hb dX0_isNight_7 (by decide) ?_
  refine lv_isub hx hb dX0_isNight_8 ?_
  refine lv_i2l hx hb dX0_isNight_9 rfl ?_
  obtain ⟨r10, hr, hF⟩ := obd hF
  refine rX0_in G C K w hr hl.1 ⟨Nat.le_of_ble_eq_true rfl, Nat.le_of_ble_eq_true rfl⟩ (Nat.le_of_ble_eq_true rfl) dX0_isNight_10 (fun H locs w => ?_)
  obtain ⟨hz, hF⟩ := gbz_if hF
  have hF := Option.some.inj hF
  subst hF
  exact E _ _ _ _ hz w dX0_isNight_13

theorem mX0_isNight {l : Launch} {γ : wx_G} {o : Nat} {ad : Nat → Nat} {ρ : va_W} {f : xF} {g : xG} {v1 : Int32} {z : Int32} (G : cx_ok γ) (hF : pX0_isNight f g v1 = some z) : wx_M γ l yX0_isNight (ws_ yX0_isNight cX0_isNight 2 (some .boolean)) rmX0_isNight [.ref o, .int v1] (cw γ o ad f g ρ) (fun v ws => v = some (.int z) ∧ ws = (cw γ o ad f g ρ)) 0 0 := by
  refine wx_M.of (by decide) (Nat.le_of_ble_eq_true rfl) ?_
  intro p e s m as below meth c A ls C K w hr hlocks _ hl
  exact bX0_isNight_0 G C K (fun H locs ls pc hz w d => wx_zret C hr hlocks hz w ⟨rfl, rfl⟩ d) w hl hF
theorem rX0_isNight {p : Program} {l : Launch} {e : Env} {R : Room} {s : State} {m : MethodId} {as : Array Value} {below : List Frame} {meth : Method} {c : Code} {H : Heap} {locs : List Loc} {cells slots : Nat} {Q : State → Prop} {cc : ByteArray} {nL pc : Nat} {ls : Array Slot} {rest : List Value} {γ : wx_G} {A : Nat → Prop} {o : Nat} {ad : Nat → Nat} {ρ : va_W} {f : xF} {g : xG} {v1 : Int32} {z : Int32} (G : cx_ok γ) (C : CallFix p m c cc nL s as lw_all RX0) (K : wx_C γ A s) (w : wx_w γ A s H locs (cw γ o ad f g ρ)) (hF : pX0_isNight f g v1 = some z) (hls : ls.size = nL) (hR : rmX0_isNight.frames + 1 ≤ R.frames ∧ 8 + (2 + 11) + rmX0_isNight.locals ≤ R.locals) (hW : (rest.map fun v => v.category).sum ≤ 8) (d : decode cc pc = .ok (.invokevirtual 86, 3)) (kk : ∀ (H : Heap) (locs : List Loc), wx_w γ A s H locs (cw γ o ad f g ρ) → W p l e R s m as below meth c H locs cells slots Q (F0 m (pc + 3) ls (.int z :: rest))) (hf : cells ≤ R.cells ∧ slots ≤ R.slots := by exact ⟨Nat.le_of_ble_eq_true rfl, Nat.le_of_ble_eq_true rfl⟩) : W p l e R s m as below meth c H locs cells slots Q (F0 m pc ls (.int v1 :: .ref o :: rest)) :=
  wx_callV (n := 1) C K w (mX0_isNight (l := l) G hF) q270 q272 qs4 q106 q273 rfl rfl (by decide +kernel) (va_recv K.1.1 w.1 (ci := 1) (q0 := 0) rfl rfl) rfl rfl hR hls hW hf d (fun v ws H1 locs1 hp w => by obtain ⟨rfl, rfl⟩ := hp; exact kk H1 locs1 w)

/-! WalkingStones.feed(IJ)I -/
abbrev rmX0_feed : Room := { frames := 1, cells := 0, slots := 0, locals := 25 }
def pX0_feed_33 : Nat → xF → xG → Int32 → Int64 → Int32 → Option (Int32 × xF × xG)
  | 0, _, _, _, _, _ => none
  | n + 1, f, g, v1, v2, v4 => if v1 ≤ v4 then some (f 19, f, g) else (if gin (f 19) 160 = true then pX0_feed_33 n (upd f 19 ((f 19) + (1 : Int32))) (va_up g 18 (upd (g 18) (f 19).toNatClampNeg (vp_nar .byte (((v2 >>> (((8 : Int32) * v4).toInt64 &&& 63)).toInt32).toInt8.toInt32)))) v1 v2 (v4 + 1) else none)

def pX0_feed_0 (f : xF) (g : xG) (v1 : Int32) (v2 : Int64) : Option (Int32 × xF × xG) := (pX0_in f g v1.toInt64 (1 : Int64) (8 : Int64)).bind (fun r6 => if r6 = 0 then some ((-2 : Int32), f, g) else (if ((f 19) + v1) ≤ (160 : Int32) then pX0_feed_33 5000 f g v1 v2 (0 : Int32) else some ((-4 : Int32), f, g)))

abbrev pX0_feed (f : xF) (g : xG) (v1 : Int32) (v2 : Int64) : Option (Int32 × xF × xG) := pX0_feed_0 f g v1 v2
theorem bX0_feed_33 {p : Program} {l : Launch} {e : Env} {s : State} {m : MethodId} {as : Array Value} {below : List Frame} {meth : Method} {c : Code} {A : Nat → Prop} {Q : State → Prop} {γ : wx_G} {o : Nat} {ad : Nat → Nat} {ρ : va_W} {z : Int32 × xF × xG} (G : cx_ok γ) (C : CallFix p m c cX0_feed 5 s as lw_all RX0) (K : wx_C γ A s) (E : ∀ (H : Heap) (locs : List Loc) (ls : Array Slot) (pc : Nat), wx_w γ A s H locs (cw γ o ad z.2.1 z.2.2 ρ) → decode cX0_feed pc = .ok (.ireturn, 1) → W p l e rmX0_feed s m as below meth c H locs 0 0 Q (F0 m pc ls [.int z.1])) : ∀ (n : Nat) (f : xF) (g : xG) (v1 : Int32) (v2 : Int64) (v4 : Int32) (H : Heap) (locs : List Loc) (ls : Array Slot), pX0_feed_33 n f g v1 v2 v4 = some z → wx_w γ A s H locs (cw γ o ad f g ρ) → lv_has ls 5 [(0, .ref o), (1, .int v1), (2, .long v2), (4, .int v4)] → W p l e rmX0_feed s m as below meth c H locs 0 0 Q (F0 m 33 ls []) := by
  have hx := C.1
  have hb := C.2.1
  intro n
  induction n with
  | zero =>
    intro f g v1 v2 v4 H locs ls hF w hl
    have hF : (none : Option (Int32 × xF × xG)) = some z := hF
    cases hF
  | succ n ih =>
    intro f g v1 v2 v4 H locs ls hF w hl
    rw [pX0_feed_33] at hF
    refine lv_iload hx hb dX0_feed_33 (lv_at hl 3 rfl) ?_
    refine lv_iload_n hx hb dX0_feed_35 rfl (lv_at hl 1 rfl) ?_
    refine lv_icmp_ge (tgt := 73) hx hb dX0_feed_36 (by decide) (fun c => ?_) (fun c => ?_)
    · have hF := (if_pos c).symm.trans hF
      refine lv_aload_n hx hb dX0_feed_73 rfl (lv_at hl 0 rfl) ?_
      refine cget_19 C K w dX0_feed_74 ?_
      have hF := Option.some.inj hF
      subst hF
      exact E _ _ _ _ w dX0_feed_77
    · have hF := (if_neg c).symm.trans hF
      refine lv_aload_n hx hb dX0_feed_39 rfl (lv_at hl 0 rfl) ?_
      refine cget_18 C K w dX0_feed_40 ?_
      refine lv_aload_n hx hb dX0_feed_43 rfl (lv_at hl 0 rfl) ?_
      refine cget_19 C K w dX0_feed_44 ?_
      refine lv_lload_n hx hb dX0_feed_47 rfl (lv_at hl 2 rfl) ?_
      refine lv_bipush (v := (8 : Int32)) hx hb dX0_feed_48 (by decide) ?_
      refine lv_iload hx hb dX0_feed_50 (lv_at hl 3 rfl) ?_
      refine lv_imul hx hb dX0_feed_52 ?_
      refine lv_lshr hx hb dX0_feed_53 rfl ?_
      refine lv_l2i hx hb dX0_feed_54 rfl ?_
      refine lv_i2b hx hb dX0_feed_55 rfl ?_
      obtain ⟨hi, hF⟩ := gin_if hF
      refine cast_18 C K w hi dX0_feed_56 (fun H locs w => ?_)
      refine lv_aload_n hx hb dX0_feed_57 rfl (lv_at hl 0 rfl) ?_
      refine lv_dup hx hb dX0_feed_58 rfl ?_
      refine cget_19 C K w dX0_feed_59 ?_
      refine lv_iconst (v := (1 : Int32)) hx hb dX0_feed_62 (by decide) ?_
      refine lv_iadd hx hb dX0_feed_63 ?_
      refine cput_19 C K w dX0_feed_64 (fun H locs w => ?_)
      refine lv_iinc (v := v4 + 1) (lv' := [(4, .int (v4 + 1)), (0, .ref o), (1, .int v1), (2, .long v2)]) hx hb dX0_feed_67 hl (k := 3) rfl rfl (by decide) rfl (fun ls hl => ?_)
      refine lv_goto (tgt := 33) hx hb dX0_feed_70 (by decide) ?_
      exact ih _ _ _ _ _ _ _ _ hF w (lv_sub hl [1, 2, 3, 0] rfl)

theorem bX0_feed_0 {p : Program} {l : Launch} {e : Env} {s : State} {m : MethodId} {as : Array Value} {below : List Frame} {meth : Method} {c : Code} {A : Nat → Prop} {Q : State → Prop} {γ : wx_G} {o : Nat} {ad : Nat → Nat} {ρ : va_W} {z : Int32 × xF × xG} (G : cx_ok γ) (C : CallFix p m c cX0_feed 5 s as lw_all RX0) (K : wx_C γ A s) (E : ∀ (H : Heap) (locs : List Loc) (ls : Array Slot) (pc : Nat), wx_w γ A s H locs (cw γ o ad z.2.1 z.2.2 ρ) → decode cX0_feed pc = .ok (.ireturn, 1) → W p l e rmX0_feed s m as below meth c H locs 0 0 Q (F0 m pc ls [.int z.1])) {f : xF} {g : xG} {v1 : Int32} {v2 : Int64} {H : Heap} {locs : List Loc} {ls : Array Slot} (w : wx_w γ A s H locs (cw γ o ad f g ρ)) (hl : lv_has ls 5 [(0, .ref o), (1, .int v1), (2, .long v2)]) (hF : pX0_feed_0 f g v1 v2 = some z) : W p l e rmX0_feed s m as below meth c H locs 0 0 Q (F0 m 0 ls []) := by
  have hx := C.1
  have hb := C.2.1
  unfold pX0_feed_0 at hF
  refine lv_iload_n hx hb dX0_feed_0 rfl (lv_at hl 1 rfl) ?_
  refine lv_i2l hx hb dX0_feed_1 rfl ?_
  refine lv_lconst (v := (1 : Int64)) hx hb dX0_feed_2 (by decide) ?_
  refine lv_ldc2 (v := (8 : Int64)) hx hb C.2.2.2.1 (C.2.2.2.2 _ q396) dX0_feed_3 ?_
  obtain ⟨r6, hr, hF⟩ := obd hF
  refine rX0_in G C K w hr hl.1 ⟨Nat.le_of_ble_eq_true rfl, Nat.le_of_ble_eq_true rfl⟩ (Nat.le_of_ble_eq_true rfl) dX0_feed_6 (fun H locs w => ?_)
  refine lv_if_ne (tgt := 15) hx hb dX0_feed_9 (by decide) (fun c => ?_) (fun c => ?_)
  · have hF := (if_neg c).symm.trans hF
    refine lv_aload_n hx hb dX0_feed_15 rfl (lv_at hl 0 rfl) ?_
    refine cget_19 C K w dX0_feed_16 ?_
    refine lv_iload_n hx hb dX0_feed_19 rfl (lv_at hl 1 rfl) ?_
    refine lv_iadd hx hb dX0_feed_20 ?_
    refine lv_sipush (v := (160 : Int32)) hx hb dX0_feed_21 (by decide) ?_
    refine lv_icmp_le (tgt := 30) hx hb dX0_feed_24 (by decide) (fun c => ?_) (fun c => ?_)
    · have hF := (if_pos c).symm.trans hF
      refine lv_iconst (v := (0 : Int32)) hx hb dX0_feed_30 (by decide) ?_
      refine lv_istore (lv' := [(4, .int (0 : Int32)), (0, .ref o), (1, .int v1), (2, .long v2)]) hx hb dX0_feed_31 hl (by decide) rfl (fun ls hl => ?_)
      exact bX0_feed_33 G C K E 5000 _ _ _ _ _ _ _ _ hF w (lv_sub hl [1, 2, 3, 0] rfl)
    · have hF := (if_neg c).symm.trans hF
      refine lv_bipush (v := (-4 : Int32)) hx hb dX0_feed_27 (by decide) ?_
      have hF := Option.some.inj hF
      subst hF
      exact E _ _ _ _ w dX0_feed_29
  · have hF := (if_pos c).symm.trans hF
    refine lv_bipush (v := (-2 : Int32)) hx hb dX0_feed_12 (by decide) ?_
    have hF := Option.some.inj hF
    subst hF
    exact E _ _ _ _ w dX0_feed_14

theorem mX0_feed {l : Launch} {γ : wx_G} {o : Nat} {ad : Nat → Nat} {ρ : va_W} {f : xF} {g : xG} {v1 : Int32} {v2 : Int64} {z : Int32 × xF × xG} (G : cx_ok γ) (hF : pX0_feed f g v1 v2 = some z) : wx_M γ l yX0_feed (ws_ yX0_feed cX0_feed 5 (some .int)) rmX0_feed [.ref o, .int v1, .long v2] (cw γ o ad f g ρ) (fun v ws => v = some (.int z.1) ∧ ws = (cw γ o ad z.2.1 z.2.2 ρ)) 0 0 := by
  refine wx_M.of (by decide) (Nat.le_of_ble_eq_true rfl) ?_
  intro p e s m as below meth c A ls C K w hr hlocks _ hl
  exact bX0_feed_0 G C K (fun H locs ls pc w d => wx_iret C hr hlocks w ⟨rfl, rfl⟩ d) w hl hF

/-! WalkingStones.byteAt(I)I -/
abbrev rmX0_byteAt : Room := { frames := 0, cells := 0, slots := 0, locals := 0 }
def pX0_byteAt_22 (f : xF) (g : xG) (t0 : Int32) : Option (Int32) := some (t0)

def pX0_byteAt_0 (f : xF) (g : xG) (v1 : Int32) : Option (Int32) := if (f 20) ≤ v1 then pX0_byteAt_22 f g (-1 : Int32) else (if gin v1 160 = true then pX0_byteAt_22 f g ((g 18 v1.toNatClampNeg) &&& (255 : Int32)) else none)

abbrev pX0_byteAt (f : xF) (g : xG) (v1 : Int32) : Option (Int32) := pX0_byteAt_0 f g v1
theorem bX0_byteAt_22 {p : Program} {l : Launch} {e : Env} {s : State} {m : MethodId} {as : Array Value} {below : List Frame} {meth : Method} {c : Code} {A : Nat → Prop} {Q : State → Prop} {γ : wx_G} {o : Nat} {ad : Nat → Nat} {ρ : va_W} {z : Int32} {f : xF} {g : xG} (G : cx_ok γ) (C : CallFix p m c cX0_byteAt 2 s as lw_all RX0) (K : wx_C γ A s) (E : ∀ (H : Heap) (locs : List Loc) (ls : Array Slot) (pc : Nat), wx_w γ A s H locs (cw γ o ad f g ρ) → decode cX0_byteAt pc = .ok (.ireturn, 1) → W p l e rmX0_byteAt s m as below meth c H locs 0 0 Q (F0 m pc ls [.int z])) {t0 : Int32} {H : Heap} {locs : List Loc} {ls : Array Slot} (w : wx_w γ A s H locs (cw γ o ad f g ρ)) (hl : lv_has ls 2 []) (hF : pX0_byteAt_22 f g t0 = some z) : W p l e rmX0_byteAt s m as below meth c H locs 0 0 Q (F0 m 22 ls [.int t0]) := by
  have hx := C.1
  have hb := C.2.1
  unfold pX0_byteAt_22 at hF
  have hF := Option.some.inj hF
  subst hF
  exact E _ _ _ _ w dX0_byteAt_22

theorem bX0_byteAt_0 {p : Program} {l : Launch} {e : Env} {s : State} {m : MethodId} {as : Array Value} {below : List Frame} {meth : Method} {c : Code} {A : Nat → Prop} {Q : State → Prop} {γ : wx_G} {o : Nat} {ad : Nat → Nat} {ρ : va_W} {z : Int32} {f : xF} {g : xG} (G : cx_ok γ) (C : CallFix p m c cX0_byteAt 2 s as lw_all RX0) (K : wx_C γ A s) (E : ∀ (H : Heap) (locs : List Loc) (ls : Array Slot) (pc : Nat), wx_w γ A s H locs (cw γ o ad f g ρ) → decode cX0_byteAt pc = .ok (.ireturn, 1) → W p l e rmX0_byteAt s m as below meth c H locs 0 0 Q (F0 m pc ls [.int z])) {v1 : Int32} {H : Heap} {locs : List Loc} {ls : Array Slot} (w : wx_w γ A s H locs (cw γ o ad f g ρ)) (hl : lv_has ls 2 [(0, .ref o), (1, .int v1)]) (hF : pX0_byteAt_0 f g v1 = some z) : W p l e rmX0_byteAt s m as below meth c H locs 0 0 Q (F0 m 0 ls []) := by
  have hx := C.1
  have hb := C.2.1
  unfold pX0_byteAt_0 at hF
  refine lv_iload_n hx hb dX0_byteAt_0 rfl (lv_at hl 1 rfl) ?_
  refine lv_aload_n hx hb dX0_byteAt_1 rfl (lv_at hl 0 rfl) ?_
  refine cget_20 C K w dX0_byteAt_2 ?_
  refine lv_icmp_ge (tgt := 21) hx hb dX0_byteAt_5 (by decide) (fun c => ?_) (fun c => ?_)
  · have hF := (if_pos c).symm.trans hF
    refine lv_iconst (v := (-1 : Int32)) hx hb dX0_byteAt_21 (by decide) ?_
    exact bX0_byteAt_22 G C K E w (lv_sub hl [] rfl) hF
  · have hF := (if_neg c).symm.trans hF
    refine lv_aload_n hx hb dX0_byteAt_8 rfl (lv_at hl 0 rfl) ?_
    refine cget_18 C K w dX0_byteAt_9 ?_
    refine lv_iload_n hx hb dX0_byteAt_12 rfl (lv_at hl 1 rfl) ?_
    obtain ⟨hi, hF⟩ := gin_if hF
    refine cald_18 C K w hi dX0_byteAt_13 ?_
    refine lv_sipush (v := (255 : Int32)) hx hb dX0_byteAt_14 (by decide) ?_
    refine lv_iand hx hb dX0_byteAt_17 ?_
    refine lv_goto (tgt := 22) hx hb dX0_byteAt_18 (by decide) ?_
    exact bX0_byteAt_22 G C K E w (lv_sub hl [] rfl) hF

theorem mX0_byteAt {l : Launch} {γ : wx_G} {o : Nat} {ad : Nat → Nat} {ρ : va_W} {f : xF} {g : xG} {v1 : Int32} {z : Int32} (G : cx_ok γ) (hF : pX0_byteAt f g v1 = some z) : wx_M γ l yX0_byteAt (ws_ yX0_byteAt cX0_byteAt 2 (some .int)) rmX0_byteAt [.ref o, .int v1] (cw γ o ad f g ρ) (fun v ws => v = some (.int z) ∧ ws = (cw γ o ad f g ρ)) 0 0 := by
  refine wx_M.of (by decide) (Nat.le_of_ble_eq_true rfl) ?_
  intro p e s m as below meth c A ls C K w hr hlocks _ hl
  exact bX0_byteAt_0 G C K (fun H locs ls pc w d => wx_iret C hr hlocks w ⟨rfl, rfl⟩ d) w hl hF
theorem rX0_byteAt {p : Program} {l : Launch} {e : Env} {R : Room} {s : State} {m : MethodId} {as : Array Value} {below : List Frame} {meth : Method} {c : Code} {H : Heap} {locs : List Loc} {cells slots : Nat} {Q : State → Prop} {cc : ByteArray} {nL pc : Nat} {ls : Array Slot} {rest : List Value} {γ : wx_G} {A : Nat → Prop} {o : Nat} {ad : Nat → Nat} {ρ : va_W} {f : xF} {g : xG} {v1 : Int32} {z : Int32} (G : cx_ok γ) (C : CallFix p m c cc nL s as lw_all RX0) (K : wx_C γ A s) (w : wx_w γ A s H locs (cw γ o ad f g ρ)) (hF : pX0_byteAt f g v1 = some z) (hls : ls.size = nL) (hR : rmX0_byteAt.frames + 1 ≤ R.frames ∧ 8 + (2 + 11) + rmX0_byteAt.locals ≤ R.locals) (hW : (rest.map fun v => v.category).sum ≤ 8) (d : decode cc pc = .ok (.invokevirtual 120, 3)) (kk : ∀ (H : Heap) (locs : List Loc), wx_w γ A s H locs (cw γ o ad f g ρ) → W p l e R s m as below meth c H locs cells slots Q (F0 m (pc + 3) ls (.int z :: rest))) (hf : cells ≤ R.cells ∧ slots ≤ R.slots := by exact ⟨Nat.le_of_ble_eq_true rfl, Nat.le_of_ble_eq_true rfl⟩) : W p l e R s m as below meth c H locs cells slots Q (F0 m pc ls (.int v1 :: .ref o :: rest)) :=
  wx_callV (n := 1) C K w (mX0_byteAt (l := l) G hF) q412 q414 qs8 q106 q415 rfl rfl (by decide +kernel) (va_recv K.1.1 w.1 (ci := 1) (q0 := 0) rfl rfl) rfl rfl hR hls hW hf d (fun v ws H1 locs1 hp w => by obtain ⟨rfl, rfl⟩ := hp; exact kk H1 locs1 w)

/-! WalkingStones.isLetter(I)Z -/
abbrev rmX0_isLetter : Room := { frames := 1, cells := 0, slots := 0, locals := 25 }
def pX0_isLetter_0 (f : xF) (g : xG) (v0 : Int32) : Option (Int32) := (pX0_in f g v0.toInt64 (97 : Int64) (122 : Int64)).bind (fun r8 => if gbz r8 = true then some (r8) else none)

abbrev pX0_isLetter (f : xF) (g : xG) (v0 : Int32) : Option (Int32) := pX0_isLetter_0 f g v0
theorem bX0_isLetter_0 {p : Program} {l : Launch} {e : Env} {s : State} {m : MethodId} {as : Array Value} {below : List Frame} {meth : Method} {c : Code} {A : Nat → Prop} {Q : State → Prop} {γ : wx_G} {o : Nat} {ad : Nat → Nat} {ρ : va_W} {z : Int32} {f : xF} {g : xG} (G : cx_ok γ) (C : CallFix p m c cX0_isLetter 1 s as lw_all RX0) (K : wx_C γ A s) (E : ∀ (H : Heap) (locs : List Loc) (ls : Array Slot) (pc : Nat), narrow .boolean (.int z) = .int z → wx_w γ A s H locs (cw γ o ad f g ρ) → decode cX0_isLetter pc = .ok (.ireturn, 1) → W p l e rmX0_isLetter s m as below meth c H locs 0 0 Q (F0 m pc ls [.int z])) {v0 : Int32} {H : Heap} {locs : List Loc} {ls : Array Slot} (w : wx_w γ A s H locs (cw γ o ad f g ρ)) (hl : lv_has ls 1 [(0, .int v0)]) (hF : pX0_isLetter_0 f g v0 = some z) : W p l e rmX0_isLetter s m as below meth c H locs 0 0 Q (F0 m 0 ls []) := by
  have hx := C.1
  have hb := C.2.1
  unfold pX0_isLetter_0 at hF
  refine lv_iload_n hx hb dX0_isLetter_0 rfl (lv_at hl 0 rfl) ?_
  refine lv_i2l hx hb dX0_isLetter_1 rfl ?_
  refine lv_ldc2 (v := (97 : Int64)) hx hb C.2.2.2.1 (C.2.2.2.2 _ q419) dX0_isLetter_2 ?_
  refine lv_ldc2 (v := (122 : Int64)) hx hb C.2.2.2.1 (C.2.2.2.2 _ q420) dX0_isLetter_5 ?_
  obtain ⟨r8, hr, hF⟩ := obd hF
  refine rX0_in G C K w hr hl.1 ⟨Nat.le_of_ble_eq_true rfl, Nat.le_of_ble_eq_true rfl⟩ (Nat.le_of_ble_eq_true rfl) dX0_isLetter_8 (fun H locs w => ?_)
  obtain ⟨hz, hF⟩ := gbz_if hF
  have hF := Option.some.inj hF
  subst hF
  exact E _ _ _ _ hz w dX0_isLetter_11

theorem mX0_isLetter {l : Launch} {γ : wx_G} {o : Nat} {ad : Nat → Nat} {ρ : va_W} {f : xF} {g : xG} {v0 : Int32} {z : Int32} (G : cx_ok γ) (hF : pX0_isLetter f g v0 = some z) : wx_M γ l yX0_isLetter (ws_ yX0_isLetter cX0_isLetter 1 (some .boolean)) rmX0_isLetter [.int v0] (cw γ o ad f g ρ) (fun v ws => v = some (.int z) ∧ ws = (cw γ o ad f g ρ)) 0 0 := by
  refine wx_M.of (by decide) (Nat.le_of_ble_eq_true rfl) ?_
  intro p e s m as below meth c A ls C K w hr hlocks _ hl
  exact bX0_isLetter_0 G C K (fun H locs ls pc hz w d => wx_zret C hr hlocks hz w ⟨rfl, rfl⟩ d) w hl hF
theorem rX0_isLetter {p : Program} {l : Launch} {e : Env} {R : Room} {s : State} {m : MethodId} {as : Array Value} {below : List Frame} {meth : Method} {c : Code} {H : Heap} {locs : List Loc} {cells slots : Nat} {Q : State → Prop} {cc : ByteArray} {nL pc : Nat} {ls : Array Slot} {rest : List Value} {γ : wx_G} {A : Nat → Prop} {o : Nat} {ad : Nat → Nat} {ρ : va_W} {f : xF} {g : xG} {v0 : Int32} {z : Int32} (G : cx_ok γ) (C : CallFix p m c cc nL s as lw_all RX0) (K : wx_C γ A s) (w : wx_w γ A s H locs (cw γ o ad f g ρ)) (hF : pX0_isLetter f g v0 = some z) (hls : ls.size = nL) (hR : rmX0_isLetter.frames + 1 ≤ R.frames ∧ 8 + (1 + 11) + rmX0_isLetter.locals ≤ R.locals) (hW : (rest.map fun v => v.category).sum ≤ 8) (d : decode cc pc = .ok (.invokestatic 129, 3)) (kk : ∀ (H : Heap) (locs : List Loc), wx_w γ A s H locs (cw γ o ad f g ρ) → W p l e R s m as below meth c H locs cells slots Q (F0 m (pc + 3) ls (.int z :: rest))) (hf : cells ≤ R.cells ∧ slots ≤ R.slots := by exact ⟨Nat.le_of_ble_eq_true rfl, Nat.le_of_ble_eq_true rfl⟩) : W p l e R s m as below meth c H locs cells slots Q (F0 m pc ls (.int v0 :: rest)) :=
  wx_callS (n := 1) C K w (mX0_isLetter (l := l) G hF) q416 q417 q106 q418 rfl rfl (by decide +kernel) rfl rfl hR hls hW hf d (fun v ws H1 locs1 hp w => by obtain ⟨rfl, rfl⟩ := hp; exact kk H1 locs1 w)

/-! WalkingStones.isDigit(I)Z -/
abbrev rmX0_isDigit : Room := { frames := 1, cells := 0, slots := 0, locals := 25 }
def pX0_isDigit_0 (f : xF) (g : xG) (v0 : Int32) : Option (Int32) := (pX0_in f g v0.toInt64 (48 : Int64) (57 : Int64)).bind (fun r8 => if gbz r8 = true then some (r8) else none)

abbrev pX0_isDigit (f : xF) (g : xG) (v0 : Int32) : Option (Int32) := pX0_isDigit_0 f g v0
theorem bX0_isDigit_0 {p : Program} {l : Launch} {e : Env} {s : State} {m : MethodId} {as : Array Value} {below : List Frame} {meth : Method} {c : Code} {A : Nat → Prop} {Q : State → Prop} {γ : wx_G} {o : Nat} {ad : Nat → Nat} {ρ : va_W} {z : Int32} {f : xF} {g : xG} (G : cx_ok γ) (C : CallFix p m c cX0_isDigit 1 s as lw_all RX0) (K : wx_C γ A s) (E : ∀ (H : Heap) (locs : List Loc) (ls : Array Slot) (pc : Nat), narrow .boolean (.int z) = .int z → wx_w γ A s H locs (cw γ o ad f g ρ) → decode cX0_isDigit pc = .ok (.ireturn, 1) → W p l e rmX0_isDigit s m as below meth c H locs 0 0 Q (F0 m pc ls [.int z])) {v0 : Int32} {H : Heap} {locs : List Loc} {ls : Array Slot} (w : wx_w γ A s H locs (cw γ o ad f g ρ)) (hl : lv_has ls 1 [(0, .int v0)]) (hF : pX0_isDigit_0 f g v0 = some z) : W p l e rmX0_isDigit s m as below meth c H locs 0 0 Q (F0 m 0 ls []) := by
  have hx := C.1
  have hb := C.2.1
  unfold pX0_isDigit_0 at hF
  refine lv_iload_n hx hb dX0_isDigit_0 rfl (lv_at hl 0 rfl) ?_
  refine lv_i2l hx hb dX0_isDigit_1 rfl ?_
  refine lv_ldc2 (v := (48 : Int64)) hx hb C.2.2.2.1 (C.2.2.2.2 _ q480) dX0_isDigit_2 ?_
  refine lv_ldc2 (v := (57 : Int64)) hx hb C.2.2.2.1 (C.2.2.2.2 _ q481) dX0_isDigit_5 ?_
  obtain ⟨r8, hr, hF⟩ := obd hF
  refine rX0_in G C K w hr hl.1 ⟨Nat.le_of_ble_eq_true rfl, Nat.le_of_ble_eq_true rfl⟩ (Nat.le_of_ble_eq_true rfl) dX0_isDigit_8 (fun H locs w => ?_)
  obtain ⟨hz, hF⟩ := gbz_if hF
  have hF := Option.some.inj hF
  subst hF
  exact E _ _ _ _ hz w dX0_isDigit_11

theorem mX0_isDigit {l : Launch} {γ : wx_G} {o : Nat} {ad : Nat → Nat} {ρ : va_W} {f : xF} {g : xG} {v0 : Int32} {z : Int32} (G : cx_ok γ) (hF : pX0_isDigit f g v0 = some z) : wx_M γ l yX0_isDigit (ws_ yX0_isDigit cX0_isDigit 1 (some .boolean)) rmX0_isDigit [.int v0] (cw γ o ad f g ρ) (fun v ws => v = some (.int z) ∧ ws = (cw γ o ad f g ρ)) 0 0 := by
  refine wx_M.of (by decide) (Nat.le_of_ble_eq_true rfl) ?_
  intro p e s m as below meth c A ls C K w hr hlocks _ hl
  exact bX0_isDigit_0 G C K (fun H locs ls pc hz w d => wx_zret C hr hlocks hz w ⟨rfl, rfl⟩ d) w hl hF
theorem rX0_isDigit {p : Program} {l : Launch} {e : Env} {R : Room} {s : State} {m : MethodId} {as : Array Value} {below : List Frame} {meth : Method} {c : Code} {H : Heap} {locs : List Loc} {cells slots : Nat} {Q : State → Prop} {cc : ByteArray} {nL pc : Nat} {ls : Array Slot} {rest : List Value} {γ : wx_G} {A : Nat → Prop} {o : Nat} {ad : Nat → Nat} {ρ : va_W} {f : xF} {g : xG} {v0 : Int32} {z : Int32} (G : cx_ok γ) (C : CallFix p m c cc nL s as lw_all RX0) (K : wx_C γ A s) (w : wx_w γ A s H locs (cw γ o ad f g ρ)) (hF : pX0_isDigit f g v0 = some z) (hls : ls.size = nL) (hR : rmX0_isDigit.frames + 1 ≤ R.frames ∧ 8 + (1 + 11) + rmX0_isDigit.locals ≤ R.locals) (hW : (rest.map fun v => v.category).sum ≤ 8) (d : decode cc pc = .ok (.invokestatic 136, 3)) (kk : ∀ (H : Heap) (locs : List Loc), wx_w γ A s H locs (cw γ o ad f g ρ) → W p l e R s m as below meth c H locs cells slots Q (F0 m (pc + 3) ls (.int z :: rest))) (hf : cells ≤ R.cells ∧ slots ≤ R.slots := by exact ⟨Nat.le_of_ble_eq_true rfl, Nat.le_of_ble_eq_true rfl⟩) : W p l e R s m as below meth c H locs cells slots Q (F0 m pc ls (.int v0 :: rest)) :=
  wx_callS (n := 1) C K w (mX0_isDigit (l := l) G hF) q477 q478 q106 q479 rfl rfl (by decide +kernel) rfl rfl hR hls hW hf d (fun v ws H1 locs1 hp w => by obtain ⟨rfl, rfl⟩ := hp; exact kk H1 locs1 w)

/-! WalkingStones.isKey(I)Z -/
abbrev rmX0_isKey : Room := { frames := 0, cells := 0, slots := 0, locals := 0 }
def pX0_isKey_21 (f : xF) (g : xG) (t0 : Int32) : Option (Int32) := if gbz t0 = true then some (t0) else none

def pX0_isKey_20 (f : xF) (g : xG) : Option (Int32) := pX0_isKey_21 f g (0 : Int32)

def pX0_isKey_0 (f : xF) (g : xG) (v1 : Int32) : Option (Int32) := if (f 23) = (1 : Int32) then (if (f 24) = v1 then pX0_isKey_21 f g (1 : Int32) else pX0_isKey_20 f g) else pX0_isKey_20 f g

abbrev pX0_isKey (f : xF) (g : xG) (v1 : Int32) : Option (Int32) := pX0_isKey_0 f g v1
theorem bX0_isKey_21 {p : Program} {l : Launch} {e : Env} {s : State} {m : MethodId} {as : Array Value} {below : List Frame} {meth : Method} {c : Code} {A : Nat → Prop} {Q : State → Prop} {γ : wx_G} {o : Nat} {ad : Nat → Nat} {ρ : va_W} {z : Int32} {f : xF} {g : xG} (G : cx_ok γ) (C : CallFix p m c cX0_isKey 2 s as lw_all RX0) (K : wx_C γ A s) (E : ∀ (H : Heap) (locs : List Loc) (ls : Array Slot) (pc : Nat), narrow .boolean (.int z) = .int z → wx_w γ A s H locs (cw γ o ad f g ρ) → decode cX0_isKey pc = .ok (.ireturn, 1) → W p l e rmX0_isKey s m as below meth c H locs 0 0 Q (F0 m pc ls [.int z])) {t0 : Int32} {H : Heap} {locs : List Loc} {ls : Array Slot} (w : wx_w γ A s H locs (cw γ o ad f g ρ)) (hl : lv_has ls 2 []) (hF : pX0_isKey_21 f g t0 = some z) : W p l e rmX0_isKey s m as below meth c H locs 0 0 Q (F0 m 21 ls [.int t0]) := by
  have hx := C.1
  have hb := C.2.1
  unfold pX0_isKey_21 at hF
  obtain ⟨hz, hF⟩ := gbz_if hF
  have hF := Option.some.inj hF
  subst hF
  exact E _ _ _ _ hz w dX0_isKey_21

theorem bX0_isKey_20 {p : Program} {l : Launch} {e : Env} {s : State} {m : MethodId} {as : Array Value} {below : List Frame} {meth : Method} {c : Code} {A : Nat → Prop} {Q : State → Prop} {γ : wx_G} {o : Nat} {ad : Nat → Nat} {ρ : va_W} {z : Int32} {f : xF} {g : xG} (G : cx_ok γ) (C : CallFix p m c cX0_isKey 2 s as lw_all RX0) (K : wx_C γ A s) (E : ∀ (H : Heap) (locs : List Loc) (ls : Array Slot) (pc : Nat), narrow .boolean (.int z) = .int z → wx_w γ A s H locs (cw γ o ad f g ρ) → decode cX0_isKey pc = .ok (.ireturn, 1) → W p l e rmX0_isKey s m as below meth c H locs 0 0 Q (F0 m pc ls [.int z])) {H : Heap} {locs : List Loc} {ls : Array Slot} (w : wx_w γ A s H locs (cw γ o ad f g ρ)) (hl : lv_has ls 2 []) (hF : pX0_isKey_20 f g = some z) : W p l e rmX0_isKey s m as below meth c H locs 0 0 Q (F0 m 20 ls []) := by
  have hx := C.1
  have hb := C.2.1
  unfold pX0_isKey_20 at hF
  refine lv_iconst (v := (0 : Int32)) hx hb dX0_isKey_20 (by decide) ?_
  exact bX0_isKey_21 G C K E w hl hF

theorem bX0_isKey_0 {p : Program} {l : Launch} {e : Env} {s : State} {m : MethodId} {as : Array Value} {below : List Frame} {meth : Method} {c : Code} {A : Nat → Prop} {Q : State → Prop} {γ : wx_G} {o : Nat} {ad : Nat → Nat} {ρ : va_W} {z : Int32} {f : xF} {g : xG} (G : cx_ok γ) (C : CallFix p m c cX0_isKey 2 s as lw_all RX0) (K : wx_C γ A s) (E : ∀ (H : Heap) (locs : List Loc) (ls : Array Slot) (pc : Nat), narrow .boolean (.int z) = .int z → wx_w γ A s H locs (cw γ o ad f g ρ) → decode cX0_isKey pc = .ok (.ireturn, 1) → W p l e rmX0_isKey s m as below meth c H locs 0 0 Q (F0 m pc ls [.int z])) {v1 : Int32} {H : Heap} {locs : List Loc} {ls : Array Slot} (w : wx_w γ A s H locs (cw γ o ad f g ρ)) (hl : lv_has ls 2 [(0, .ref o), (1, .int v1)]) (hF : pX0_isKey_0 f g v1 = some z) : W p l e rmX0_isKey s m as below meth c H locs 0 0 Q (F0 m 0 ls []) := by
  have hx := C.1
  have hb := C.2.1
  unfold pX0_isKey_0 at hF
  refine lv_aload_n hx hb dX0_isKey_0 rfl (lv_at hl 0 rfl) ?_
  refine cget_23 C K w dX0_isKey_1 ?_
  refine lv_iconst (v := (1 : Int32)) hx hb dX0_isKey_4 (by decide) ?_
  refine lv_icmp_ne (tgt := 20) hx hb dX0_isKey_5 (by decide) (fun c => ?_) (fun c => ?_)
  · have hF := (if_neg c).symm.trans hF
    exact bX0_isKey_20 G C K E w (lv_sub hl [] rfl) hF
  · have hF := (if_pos c).symm.trans hF
    refine lv_aload_n hx hb dX0_isKey_8 rfl (lv_at hl 0 rfl) ?_
    refine cget_24 C K w dX0_isKey_9 ?_
    refine lv_iload_n hx hb dX0_isKey_12 rfl (lv_at hl 1 rfl) ?_
    refine lv_icmp_ne (tgt := 20) hx hb dX0_isKey_13 (by decide) (fun c => ?_) (fun c => ?_)
    · have hF := (if_neg c).symm.trans hF
      exact bX0_isKey_20 G C K E w (lv_sub hl [] rfl) hF
    · have hF := (if_pos c).symm.trans hF
      refine lv_iconst (v := (1 : Int32)) hx hb dX0_isKey_16 (by decide) ?_
      refine lv_goto (tgt := 21) hx hb dX0_isKey_17 (by decide) ?_
      exact bX0_isKey_21 G C K E w (lv_sub hl [] rfl) hF

theorem mX0_isKey {l : Launch} {γ : wx_G} {o : Nat} {ad : Nat → Nat} {ρ : va_W} {f : xF} {g : xG} {v1 : Int32} {z : Int32} (G : cx_ok γ) (hF : pX0_isKey f g v1 = some z) : wx_M γ l yX0_isKey (ws_ yX0_isKey cX0_isKey 2 (some .boolean)) rmX0_isKey [.ref o, .int v1] (cw γ o ad f g ρ) (fun v ws => v = some (.int z) ∧ ws = (cw γ o ad f g ρ)) 0 0 := by
  refine wx_M.of (by decide) (Nat.le_of_ble_eq_true rfl) ?_
  intro p e s m as below meth c A ls C K w hr hlocks _ hl
  exact bX0_isKey_0 G C K (fun H locs ls pc hz w d => wx_zret C hr hlocks hz w ⟨rfl, rfl⟩ d) w hl hF
theorem rX0_isKey {p : Program} {l : Launch} {e : Env} {R : Room} {s : State} {m : MethodId} {as : Array Value} {below : List Frame} {meth : Method} {c : Code} {H : Heap} {locs : List Loc} {cells slots : Nat} {Q : State → Prop} {cc : ByteArray} {nL pc : Nat} {ls : Array Slot} {rest : List Value} {γ : wx_G} {A : Nat → Prop} {o : Nat} {ad : Nat → Nat} {ρ : va_W} {f : xF} {g : xG} {v1 : Int32} {z : Int32} (G : cx_ok γ) (C : CallFix p m c cc nL s as lw_all RX0) (K : wx_C γ A s) (w : wx_w γ A s H locs (cw γ o ad f g ρ)) (hF : pX0_isKey f g v1 = some z) (hls : ls.size = nL) (hR : rmX0_isKey.frames + 1 ≤ R.frames ∧ 8 + (2 + 11) + rmX0_isKey.locals ≤ R.locals) (hW : (rest.map fun v => v.category).sum ≤ 8) (d : decode cc pc = .ok (.invokevirtual 188, 3)) (kk : ∀ (H : Heap) (locs : List Loc), wx_w γ A s H locs (cw γ o ad f g ρ) → W p l e R s m as below meth c H locs cells slots Q (F0 m (pc + 3) ls (.int z :: rest))) (hf : cells ≤ R.cells ∧ slots ≤ R.slots := by exact ⟨Nat.le_of_ble_eq_true rfl, Nat.le_of_ble_eq_true rfl⟩) : W p l e R s m as below meth c H locs cells slots Q (F0 m pc ls (.int v1 :: .ref o :: rest)) :=
  wx_callV (n := 1) C K w (mX0_isKey (l := l) G hF) q542 q544 qs12 q106 q545 rfl rfl (by decide +kernel) (va_recv K.1.1 w.1 (ci := 1) (q0 := 0) rfl rfl) rfl rfl hR hls hW hf d (fun v ws H1 locs1 hp w => by obtain ⟨rfl, rfl⟩ := hp; exact kk H1 locs1 w)

/-! WalkingStones.isSign(I)Z -/
abbrev rmX0_isSign : Room := { frames := 0, cells := 0, slots := 0, locals := 0 }
def pX0_isSign_21 (f : xF) (g : xG) (t0 : Int32) : Option (Int32) := if gbz t0 = true then some (t0) else none

def pX0_isSign_20 (f : xF) (g : xG) : Option (Int32) := pX0_isSign_21 f g (0 : Int32)

def pX0_isSign_0 (f : xF) (g : xG) (v1 : Int32) : Option (Int32) := if (f 23) = (4 : Int32) then (if (f 24) = v1 then pX0_isSign_21 f g (1 : Int32) else pX0_isSign_20 f g) else pX0_isSign_20 f g

abbrev pX0_isSign (f : xF) (g : xG) (v1 : Int32) : Option (Int32) := pX0_isSign_0 f g v1
theorem bX0_isSign_21 {p : Program} {l : Launch} {e : Env} {s : State} {m : MethodId} {as : Array Value} {below : List Frame} {meth : Method} {c : Code} {A : Nat → Prop} {Q : State → Prop} {γ : wx_G} {o : Nat} {ad : Nat → Nat} {ρ : va_W} {z : Int32} {f : xF} {g : xG} (G : cx_ok γ) (C : CallFix p m c cX0_isSign 2 s as lw_all RX0) (K : wx_C γ A s) (E : ∀ (H : Heap) (locs : List Loc) (ls : Array Slot) (pc : Nat), narrow .boolean (.int z) = .int z → wx_w γ A s H locs (cw γ o ad f g ρ) → decode cX0_isSign pc = .ok (.ireturn, 1) → W p l e rmX0_isSign s m as below meth c H locs 0 0 Q (F0 m pc ls [.int z])) {t0 : Int32} {H : Heap} {locs : List Loc} {ls : Array Slot} (w : wx_w γ A s H locs (cw γ o ad f g ρ)) (hl : lv_has ls 2 []) (hF : pX0_isSign_21 f g t0 = some z) : W p l e rmX0_isSign s m as below meth c H locs 0 0 Q (F0 m 21 ls [.int t0]) := by
  have hx := C.1
  have hb := C.2.1
  unfold pX0_isSign_21 at hF
  obtain ⟨hz, hF⟩ := gbz_if hF
  have hF := Option.some.inj hF
  subst hF
  exact E _ _ _ _ hz w dX0_isSign_21

theorem bX0_isSign_20 {p : Program} {l : Launch} {e : Env} {s : State} {m : MethodId} {as : Array Value} {below : List Frame} {meth : Method} {c : Code} {A : Nat → Prop} {Q : State → Prop} {γ : wx_G} {o : Nat} {ad : Nat → Nat} {ρ : va_W} {z : Int32} {f : xF} {g : xG} (G : cx_ok γ) (C : CallFix p m c cX0_isSign 2 s as lw_all RX0) (K : wx_C γ A s) (E : ∀ (H : Heap) (locs : List Loc) (ls : Array Slot) (pc : Nat), narrow .boolean (.int z) = .int z → wx_w γ A s H locs (cw γ o ad f g ρ) → decode cX0_isSign pc = .ok (.ireturn, 1) → W p l e rmX0_isSign s m as below meth c H locs 0 0 Q (F0 m pc ls [.int z])) {H : Heap} {locs : List Loc} {ls : Array Slot} (w : wx_w γ A s H locs (cw γ o ad f g ρ)) (hl : lv_has ls 2 []) (hF : pX0_isSign_20 f g = some z) : W p l e rmX0_isSign s m as below meth c H locs 0 0 Q (F0 m 20 ls []) := by
  have hx := C.1
  have hb := C.2.1
  unfold pX0_isSign_20 at hF
  refine lv_iconst (v := (0 : Int32)) hx hb dX0_isSign_20 (by decide) ?_
  exact bX0_isSign_21 G C K E w hl hF

theorem bX0_isSign_0 {p : Program} {l : Launch} {e : Env} {s : State} {m : MethodId} {as : Array Value} {below : List Frame} {meth : Method} {c : Code} {A : Nat → Prop} {Q : State → Prop} {γ : wx_G} {o : Nat} {ad : Nat → Nat} {ρ : va_W} {z : Int32} {f : xF} {g : xG} (G : cx_ok γ) (C : CallFix p m c cX0_isSign 2 s as lw_all RX0) (K : wx_C γ A s) (E : ∀ (H : Heap) (locs : List Loc) (ls : Array Slot) (pc : Nat), narrow .boolean (.int z) = .int z → wx_w γ A s H locs (cw γ o ad f g ρ) → decode cX0_isSign pc = .ok (.ireturn, 1) → W p l e rmX0_isSign s m as below meth c H locs 0 0 Q (F0 m pc ls [.int z])) {v1 : Int32} {H : Heap} {locs : List Loc} {ls : Array Slot} (w : wx_w γ A s H locs (cw γ o ad f g ρ)) (hl : lv_has ls 2 [(0, .ref o), (1, .int v1)]) (hF : pX0_isSign_0 f g v1 = some z) : W p l e rmX0_isSign s m as below meth c H locs 0 0 Q (F0 m 0 ls []) := by
  have hx := C.1
  have hb := C.2.1
  unfold pX0_isSign_0 at hF
  refine lv_aload_n hx hb dX0_isSign_0 rfl (lv_at hl 0 rfl) ?_
  refine cget_23 C K w dX0_isSign_1 ?_
  refine lv_iconst (v := (4 : Int32)) hx hb dX0_isSign_4 (by decide) ?_
  refine lv_icmp_ne (tgt := 20) hx hb dX0_isSign_5 (by decide) (fun c => ?_) (fun c => ?_)
  · have hF := (if_neg c).symm.trans hF
    exact bX0_isSign_20 G C K E w (lv_sub hl [] rfl) hF
  · have hF := (if_pos c).symm.trans hF
    refine lv_aload_n hx hb dX0_isSign_8 rfl (lv_at hl 0 rfl) ?_
    refine cget_24 C K w dX0_isSign_9 ?_
    refine lv_iload_n hx hb dX0_isSign_12 rfl (lv_at hl 1 rfl) ?_
    refine lv_icmp_ne (tgt := 20) hx hb dX0_isSign_13 (by decide) (fun c => ?_) (fun c => ?_)
    · have hF := (if_neg c).symm.trans hF
      exact bX0_isSign_20 G C K E w (lv_sub hl [] rfl) hF
    · have hF := (if_pos c).symm.trans hF
      refine lv_iconst (v := (1 : Int32)) hx hb dX0_isSign_16 (by decide) ?_
      refine lv_goto (tgt := 21) hx hb dX0_isSign_17 (by decide) ?_
      exact bX0_isSign_21 G C K E w (lv_sub hl [] rfl) hF

theorem mX0_isSign {l : Launch} {γ : wx_G} {o : Nat} {ad : Nat → Nat} {ρ : va_W} {f : xF} {g : xG} {v1 : Int32} {z : Int32} (G : cx_ok γ) (hF : pX0_isSign f g v1 = some z) : wx_M γ l yX0_isSign (ws_ yX0_isSign cX0_isSign 2 (some .boolean)) rmX0_isSign [.ref o, .int v1] (cw γ o ad f g ρ) (fun v ws => v = some (.int z) ∧ ws = (cw γ o ad f g ρ)) 0 0 := by
  refine wx_M.of (by decide) (Nat.le_of_ble_eq_true rfl) ?_
  intro p e s m as below meth c A ls C K w hr hlocks _ hl
  exact bX0_isSign_0 G C K (fun H locs ls pc hz w d => wx_zret C hr hlocks hz w ⟨rfl, rfl⟩ d) w hl hF
theorem rX0_isSign {p : Program} {l : Launch} {e : Env} {R : Room} {s : State} {m : MethodId} {as : Array Value} {below : List Frame} {meth : Method} {c : Code} {H : Heap} {locs : List Loc} {cells slots : Nat} {Q : State → Prop} {cc : ByteArray} {nL pc : Nat} {ls : Array Slot} {rest : List Value} {γ : wx_G} {A : Nat → Prop} {o : Nat} {ad : Nat → Nat} {ρ : va_W} {f : xF} {g : xG} {v1 : Int32} {z : Int32} (G : cx_ok γ) (C : CallFix p m c cc nL s as lw_all RX0) (K : wx_C γ A s) (w : wx_w γ A s H locs (cw γ o ad f g ρ)) (hF : pX0_isSign f g v1 = some z) (hls : ls.size = nL) (hR : rmX0_isSign.frames + 1 ≤ R.frames ∧ 8 + (2 + 11) + rmX0_isSign.locals ≤ R.locals) (hW : (rest.map fun v => v.category).sum ≤ 8) (d : decode cc pc = .ok (.invokevirtual 210, 3)) (kk : ∀ (H : Heap) (locs : List Loc), wx_w γ A s H locs (cw γ o ad f g ρ) → W p l e R s m as below meth c H locs cells slots Q (F0 m (pc + 3) ls (.int z :: rest))) (hf : cells ≤ R.cells ∧ slots ≤ R.slots := by exact ⟨Nat.le_of_ble_eq_true rfl, Nat.le_of_ble_eq_true rfl⟩) : W p l e R s m as below meth c H locs cells slots Q (F0 m pc ls (.int v1 :: .ref o :: rest)) :=
  wx_callV (n := 1) C K w (mX0_isSign (l := l) G hF) q618 q620 qs21 q106 q621 rfl rfl (by decide +kernel) (va_recv K.1.1 w.1 (ci := 1) (q0 := 0) rfl rfl) rfl rfl hR hls hW hf d (fun v ws H1 locs1 hp w => by obtain ⟨rfl, rfl⟩ := hp; exact kk H1 locs1 w)

/-! WalkingStones.isText(I)Z -/
abbrev rmX0_isText : Room := { frames := 1, cells := 0, slots := 0, locals := 25 }
def pX0_isText_0 (f : xF) (g : xG) (v1 : Int32) : Option (Int32) := (pX0_in f g v1.toInt64 (0 : Int64) (((f 15) - (1 : Int32)).toInt64)).bind (fun r10 => if gbz r10 = true then some (r10) else none)

abbrev pX0_isText (f : xF) (g : xG) (v1 : Int32) : Option (Int32) := pX0_isText_0 f g v1
theorem bX0_isText_0 {p : Program} {l : Launch} {e : Env} {s : State} {m : MethodId} {as : Array Value} {below : List Frame} {meth : Method} {c : Code} {A : Nat → Prop} {Q : State → Prop} {γ : wx_G} {o : Nat} {ad : Nat → Nat} {ρ : va_W} {z : Int32} {f : xF} {g : xG} (G : cx_ok γ) (C : CallFix p m c cX0_isText 2 s as lw_all RX0) (K : wx_C γ A s) (E : ∀ (H : Heap) (locs : List Loc) (ls : Array Slot) (pc : Nat), narrow .boolean (.int z) = .int z → wx_w γ A s H locs (cw γ o ad f g ρ) → decode cX0_isText pc = .ok (.ireturn, 1) → W p l e rmX0_isText s m as below meth c H locs 0 0 Q (F0 m pc ls [.int z])) {v1 : Int32} {H : Heap} {locs : List Loc} {ls : Array Slot} (w : wx_w γ A s H locs (cw γ o ad f g ρ)) (hl : lv_has ls 2 [(0, .ref o), (1, .int v1)]) (hF : pX0_isText_0 f g v1 = some z) : W p l e rmX0_isText s m as below meth c H locs 0 0 Q (F0 m 0 ls []) := by
  have hx := C.1
  have hb := C.2.1
  unfold pX0_isText_0 at hF
  refine lv_iload_n hx hb dX0_isText_0 rfl (lv_at hl 1 rfl) ?_
  refine lv_i2l hx hb dX0_isText_1 rfl ?_
  refine lv_lconst (v := (0 : Int64)) hx hb dX0_isText_2 (by decide) ?_
  refine lv_aload_n hx hb dX0_isText_3 rfl (lv_at hl 0 rfl) ?_
  refine cget_15 C K w dX0_isText_4 ?_
  refine lv_iconst (v := (1 : Int32)) hx hb dX0_isText_7 (by decide) ?_
  refine lv_isub hx hb dX0_isText_8 ?_
  refine lv_i2l hx hb dX0_isText_9 rfl ?_
  obtain ⟨r10, hr, hF⟩ := obd hF
  refine rX0_in G C K w hr hl.1 ⟨Nat.le_of_ble_eq_true rfl, Nat.le_of_ble_eq_true rfl⟩ (Nat.le_of_ble_eq_true rfl) dX0_isText_10 (fun H locs w => ?_)
  obtain ⟨hz, hF⟩ := gbz_if hF
  have hF := Option.some.inj hF
  subst hF
  exact E _ _ _ _ hz w dX0_isText_13

theorem mX0_isText {l : Launch} {γ : wx_G} {o : Nat} {ad : Nat → Nat} {ρ : va_W} {f : xF} {g : xG} {v1 : Int32} {z : Int32} (G : cx_ok γ) (hF : pX0_isText f g v1 = some z) : wx_M γ l yX0_isText (ws_ yX0_isText cX0_isText 2 (some .boolean)) rmX0_isText [.ref o, .int v1] (cw γ o ad f g ρ) (fun v ws => v = some (.int z) ∧ ws = (cw γ o ad f g ρ)) 0 0 := by
  refine wx_M.of (by decide) (Nat.le_of_ble_eq_true rfl) ?_
  intro p e s m as below meth c A ls C K w hr hlocks _ hl
  exact bX0_isText_0 G C K (fun H locs ls pc hz w d => wx_zret C hr hlocks hz w ⟨rfl, rfl⟩ d) w hl hF
theorem rX0_isText {p : Program} {l : Launch} {e : Env} {R : Room} {s : State} {m : MethodId} {as : Array Value} {below : List Frame} {meth : Method} {c : Code} {H : Heap} {locs : List Loc} {cells slots : Nat} {Q : State → Prop} {cc : ByteArray} {nL pc : Nat} {ls : Array Slot} {rest : List Value} {γ : wx_G} {A : Nat → Prop} {o : Nat} {ad : Nat → Nat} {ρ : va_W} {f : xF} {g : xG} {v1 : Int32} {z : Int32} (G : cx_ok γ) (C : CallFix p m c cc nL s as lw_all RX0) (K : wx_C γ A s) (w : wx_w γ A s H locs (cw γ o ad f g ρ)) (hF : pX0_isText f g v1 = some z) (hls : ls.size = nL) (hR : rmX0_isText.frames + 1 ≤ R.frames ∧ 8 + (2 + 11) + rmX0_isText.locals ≤ R.locals) (hW : (rest.map fun v => v.category).sum ≤ 8) (d : decode cc pc = .ok (.invokevirtual 325, 3)) (kk : ∀ (H : Heap) (locs : List Loc), wx_w γ A s H locs (cw γ o ad f g ρ) → W p l e R s m as below meth c H locs cells slots Q (F0 m (pc + 3) ls (.int z :: rest))) (hf : cells ≤ R.cells ∧ slots ≤ R.slots := by exact ⟨Nat.le_of_ble_eq_true rfl, Nat.le_of_ble_eq_true rfl⟩) : W p l e R s m as below meth c H locs cells slots Q (F0 m pc ls (.int v1 :: .ref o :: rest)) :=
  wx_callV (n := 1) C K w (mX0_isText (l := l) G hF) q922 q924 qs25 q106 q925 rfl rfl (by decide +kernel) (va_recv K.1.1 w.1 (ci := 1) (q0 := 0) rfl rfl) rfl rfl hR hls hW hf d (fun v ws H1 locs1 hp w => by obtain ⟨rfl, rfl⟩ := hp; exact kk H1 locs1 w)

/-! WalkingStones.force(I)I -/
abbrev rmX0_force : Room := { frames := 2, cells := 0, slots := 0, locals := 46 }
def pX0_force_0 (f : xF) (g : xG) (v1 : Int32) : Option (Int32 × xF × xG) := (pX0_isText f g v1).bind (fun r2 => if r2 = 0 then some ((-2 : Int32), f, g) else some (f 26, upd f 26 v1, g))

abbrev pX0_force (f : xF) (g : xG) (v1 : Int32) : Option (Int32 × xF × xG) := pX0_force_0 f g v1
theorem bX0_force_0 {p : Program} {l : Launch} {e : Env} {s : State} {m : MethodId} {as : Array Value} {below : List Frame} {meth : Method} {c : Code} {A : Nat → Prop} {Q : State → Prop} {γ : wx_G} {o : Nat} {ad : Nat → Nat} {ρ : va_W} {z : Int32 × xF × xG} (G : cx_ok γ) (C : CallFix p m c cX0_force 3 s as lw_all RX0) (K : wx_C γ A s) (E : ∀ (H : Heap) (locs : List Loc) (ls : Array Slot) (pc : Nat), wx_w γ A s H locs (cw γ o ad z.2.1 z.2.2 ρ) → decode cX0_force pc = .ok (.ireturn, 1) → W p l e rmX0_force s m as below meth c H locs 0 0 Q (F0 m pc ls [.int z.1])) {f : xF} {g : xG} {v1 : Int32} {H : Heap} {locs : List Loc} {ls : Array Slot} (w : wx_w γ A s H locs (cw γ o ad f g ρ)) (hl : lv_has ls 3 [(0, .ref o), (1, .int v1)]) (hF : pX0_force_0 f g v1 = some z) : W p l e rmX0_force s m as below meth c H locs 0 0 Q (F0 m 0 ls []) := by
  have hx := C.1
  have hb := C.2.1
  unfold pX0_force_0 at hF
  refine lv_aload_n hx hb dX0_force_0 rfl (lv_at hl 0 rfl) ?_
  refine lv_iload_n hx hb dX0_force_1 rfl (lv_at hl 1 rfl) ?_
  obtain ⟨r2, hr, hF⟩ := obd hF
  refine rX0_isText G C K w hr hl.1 ⟨Nat.le_of_ble_eq_true rfl, Nat.le_of_ble_eq_true rfl⟩ (Nat.le_of_ble_eq_true rfl) dX0_force_2 (fun H locs w => ?_)
  refine lv_if_ne (tgt := 11) hx hb dX0_force_5 (by decide) (fun c => ?_) (fun c => ?_)
  · have hF := (if_neg c).symm.trans hF
    refine lv_aload_n hx hb dX0_force_11 rfl (lv_at hl 0 rfl) ?_
    refine cget_26 C K w dX0_force_12 ?_
    refine lv_istore_n (lv' := [(2, .int (f 26)), (0, .ref o), (1, .int v1)]) hx hb dX0_force_15 rfl hl (by decide) rfl (fun ls hl => ?_)
    refine lv_aload_n hx hb dX0_force_16 rfl (lv_at hl 1 rfl) ?_
    refine lv_iload_n hx hb dX0_force_17 rfl (lv_at hl 2 rfl) ?_
    refine cput_26 C K w dX0_force_18 (fun H locs w => ?_)
    refine lv_iload_n hx hb dX0_force_21 rfl (lv_at hl 0 rfl) ?_
    have hF := Option.some.inj hF
    subst hF
    exact E _ _ _ _ w dX0_force_22
  · have hF := (if_pos c).symm.trans hF
    refine lv_bipush (v := (-2 : Int32)) hx hb dX0_force_8 (by decide) ?_
    have hF := Option.some.inj hF
    subst hF
    exact E _ _ _ _ w dX0_force_10

theorem mX0_force {l : Launch} {γ : wx_G} {o : Nat} {ad : Nat → Nat} {ρ : va_W} {f : xF} {g : xG} {v1 : Int32} {z : Int32 × xF × xG} (G : cx_ok γ) (hF : pX0_force f g v1 = some z) : wx_M γ l yX0_force (ws_ yX0_force cX0_force 3 (some .int)) rmX0_force [.ref o, .int v1] (cw γ o ad f g ρ) (fun v ws => v = some (.int z.1) ∧ ws = (cw γ o ad z.2.1 z.2.2 ρ)) 0 0 := by
  refine wx_M.of (by decide) (Nat.le_of_ble_eq_true rfl) ?_
  intro p e s m as below meth c A ls C K w hr hlocks _ hl
  exact bX0_force_0 G C K (fun H locs ls pc w d => wx_iret C hr hlocks w ⟨rfl, rfl⟩ d) w hl hF

/-! WalkingStones.areNights(I)Z -/
abbrev rmX0_areNights : Room := { frames := 2, cells := 0, slots := 0, locals := 46 }
def pX0_areNights_42 (f : xF) (g : xG) (t0 : Int32) : Option (Int32) := if gbz t0 = true then some (t0) else none

def pX0_areNights_41 (f : xF) (g : xG) : Option (Int32) := pX0_areNights_42 f g (0 : Int32)

def pX0_areNights_0 (f : xF) (g : xG) (v1 : Int32) : Option (Int32) := if v1 < 0 then pX0_areNights_41 f g else (pX0_isNight f g (v1 / (100 : Int32))).bind (fun r9 => if r9 = 0 then pX0_areNights_41 f g else (pX0_isNight f g (v1 - v1 / (100 : Int32) * (100 : Int32))).bind (fun r20 => if r20 = 0 then pX0_areNights_41 f g else (if (v1 - v1 / (100 : Int32) * (100 : Int32)) < (v1 / (100 : Int32)) then pX0_areNights_41 f g else pX0_areNights_42 f g (1 : Int32))))

abbrev pX0_areNights (f : xF) (g : xG) (v1 : Int32) : Option (Int32) := pX0_areNights_0 f g v1
theorem bX0_areNights_42 {p : Program} {l : Launch} {e : Env} {s : State} {m : MethodId} {as : Array Value} {below : List Frame} {meth : Method} {c : Code} {A : Nat → Prop} {Q : State → Prop} {γ : wx_G} {o : Nat} {ad : Nat → Nat} {ρ : va_W} {z : Int32} {f : xF} {g : xG} (G : cx_ok γ) (C : CallFix p m c cX0_areNights 2 s as lw_all RX0) (K : wx_C γ A s) (E : ∀ (H : Heap) (locs : List Loc) (ls : Array Slot) (pc : Nat), narrow .boolean (.int z) = .int z → wx_w γ A s H locs (cw γ o ad f g ρ) → decode cX0_areNights pc = .ok (.ireturn, 1) → W p l e rmX0_areNights s m as below meth c H locs 0 0 Q (F0 m pc ls [.int z])) {t0 : Int32} {H : Heap} {locs : List Loc} {ls : Array Slot} (w : wx_w γ A s H locs (cw γ o ad f g ρ)) (hl : lv_has ls 2 []) (hF : pX0_areNights_42 f g t0 = some z) : W p l e rmX0_areNights s m as below meth c H locs 0 0 Q (F0 m 42 ls [.int t0]) := by
  have hx := C.1
  have hb := C.2.1
  unfold pX0_areNights_42 at hF
  obtain ⟨hz, hF⟩ := gbz_if hF
  have hF := Option.some.inj hF
  subst hF
  exact E _ _ _ _ hz w dX0_areNights_42

theorem bX0_areNights_41 {p : Program} {l : Launch} {e : Env} {s : State} {m : MethodId} {as : Array Value} {below : List Frame} {meth : Method} {c : Code} {A : Nat → Prop} {Q : State → Prop} {γ : wx_G} {o : Nat} {ad : Nat → Nat} {ρ : va_W} {z : Int32} {f : xF} {g : xG} (G : cx_ok γ) (C : CallFix p m c cX0_areNights 2 s as lw_all RX0) (K : wx_C γ A s) (E : ∀ (H : Heap) (locs : List Loc) (ls : Array Slot) (pc : Nat), narrow .boolean (.int z) = .int z → wx_w γ A s H locs (cw γ o ad f g ρ) → decode cX0_areNights pc = .ok (.ireturn, 1) → W p l e rmX0_areNights s m as below meth c H locs 0 0 Q (F0 m pc ls [.int z])) {H : Heap} {locs : List Loc} {ls : Array Slot} (w : wx_w γ A s H locs (cw γ o ad f g ρ)) (hl : lv_has ls 2 []) (hF : pX0_areNights_41 f g = some z) : W p l e rmX0_areNights s m as below meth c H locs 0 0 Q (F0 m 41 ls []) := by
  have hx := C.1
  have hb := C.2.1
  unfold pX0_areNights_41 at hF
  refine lv_iconst (v := (0 : Int32)) hx hb dX0_areNights_41 (by decide) ?_
  exact bX0_areNights_42 G C K E w hl hF

theorem bX0_areNights_0 {p : Program} {l : Launch} {e : Env} {s : State} {m : MethodId} {as : Array Value} {below : List Frame} {meth : Method} {c : Code} {A : Nat → Prop} {Q : State → Prop} {γ : wx_G} {o : Nat} {ad : Nat → Nat} {ρ : va_W} {z : Int32} {f : xF} {g : xG} (G : cx_ok γ) (C : CallFix p m c cX0_areNights 2 s as lw_all RX0) (K : wx_C γ A s) (E : ∀ (H : Heap) (locs : List Loc) (ls : Array Slot) (pc : Nat), narrow .boolean (.int z) = .int z → wx_w γ A s H locs (cw γ o ad f g ρ) → decode cX0_areNights pc = .ok (.ireturn, 1) → W p l e rmX0_areNights s m as below meth c H locs 0 0 Q (F0 m pc ls [.int z])) {v1 : Int32} {H : Heap} {locs : List Loc} {ls : Array Slot} (w : wx_w γ A s H locs (cw γ o ad f g ρ)) (hl : lv_has ls 2 [(0, .ref o), (1, .int v1)]) (hF : pX0_areNights_0 f g v1 = some z) : W p l e rmX0_areNights s m as below meth c H locs 0 0 Q (F0 m 0 ls []) := by
  have hx := C.1
  have hb := C.2.1
  unfold pX0_areNights_0 at hF
  refine lv_iload_n hx hb dX0_areNights_0 rfl (lv_at hl 1 rfl) ?_
  refine lv_if_lt (tgt := 41) hx hb dX0_areNights_1 (by decide) (fun c => ?_) (fun c => ?_)
  · have hF := (if_pos c).symm.trans hF
    exact bX0_areNights_41 G C K E w (lv_sub hl [] rfl) hF
  · have hF := (if_neg c).symm.trans hF
    refine lv_aload_n hx hb dX0_areNights_4 rfl (lv_at hl 0 rfl) ?_
    refine lv_iload_n hx hb dX0_areNights_5 rfl (lv_at hl 1 rfl) ?_
    refine lv_bipush (v := (100 : Int32)) hx hb dX0_areNights_6 (by decide) ?_
    refine lv_idiv hx hb dX0_areNights_8 (by decide) ?_
    obtain ⟨r9, hr, hF⟩ := obd hF
    refine rX0_isNight G C K w hr hl.1 ⟨Nat.le_of_ble_eq_true rfl, Nat.le_of_ble_eq_true rfl⟩ (Nat.le_of_ble_eq_true rfl) dX0_areNights_9 (fun H locs w => ?_)
    refine lv_if_eq (tgt := 41) hx hb dX0_areNights_12 (by decide) (fun c => ?_) (fun c => ?_)
    · have hF := (if_pos c).symm.trans hF
      exact bX0_areNights_41 G C K E w (lv_sub hl [] rfl) hF
    · have hF := (if_neg c).symm.trans hF
      refine lv_aload_n hx hb dX0_areNights_15 rfl (lv_at hl 0 rfl) ?_
      refine lv_iload_n hx hb dX0_areNights_16 rfl (lv_at hl 1 rfl) ?_
      refine lv_bipush (v := (100 : Int32)) hx hb dX0_areNights_17 (by decide) ?_
      refine lv_irem hx hb dX0_areNights_19 (by decide) ?_
      obtain ⟨r20, hr, hF⟩ := obd hF
      refine rX0_isNight G C K w hr hl.1 ⟨Nat.le_of_ble_eq_true rfl, Nat.le_of_ble_eq_true rfl⟩ (Nat.le_of_ble_eq_true rfl) dX0_areNights_20 (fun H locs w => ?_)
      refine lv_if_eq (tgt := 41) hx hb dX0_areNights_23 (by decide) (fun c => ?_) (fun c => ?_)
      · have hF := (if_pos c).symm.trans hF
        exact bX0_areNights_41 G C K E w (lv_sub hl [] rfl) hF
      · have hF := (if_neg c).symm.trans hF
        refine lv_iload_n hx hb dX0_areNights_26 rfl (lv_at hl 1 rfl) ?_
        refine lv_bipush (v := (100 : Int32)) hx hb dX0_areNights_27 (by decide) ?_
        refine lv_idiv hx hb dX0_areNights_29 (by decide) ?_
        refine lv_iload_n hx hb dX0_areNights_30 rfl (lv_at hl 1 rfl) ?_
        refine lv_bipush (v := (100 : Int32)) hx hb dX0_areNights_31 (by decide) ?_
        refine lv_irem hx hb dX0_areNights_33 (by decide) ?_
        refine lv_icmp_gt (tgt := 41) hx hb dX0_areNights_34 (by decide) (fun c => ?_) (fun c => ?_)
        · have hF := (if_pos c).symm.trans hF
          exact bX0_areNights_41 G C K E w (lv_sub hl [] rfl) hF
        · have hF := (if_neg c).symm.trans hF
          refine lv_iconst (v := (1 : Int32)) hx hb dX0_areNights_37 (by decide) ?_
          refine lv_goto (tgt := 42) hx hb dX0_areNights_38 (by decide) ?_
          exact bX0_areNights_42 G C K E w (lv_sub hl [] rfl) hF

theorem mX0_areNights {l : Launch} {γ : wx_G} {o : Nat} {ad : Nat → Nat} {ρ : va_W} {f : xF} {g : xG} {v1 : Int32} {z : Int32} (G : cx_ok γ) (hF : pX0_areNights f g v1 = some z) : wx_M γ l yX0_areNights (ws_ yX0_areNights cX0_areNights 2 (some .boolean)) rmX0_areNights [.ref o, .int v1] (cw γ o ad f g ρ) (fun v ws => v = some (.int z) ∧ ws = (cw γ o ad f g ρ)) 0 0 := by
  refine wx_M.of (by decide) (Nat.le_of_ble_eq_true rfl) ?_
  intro p e s m as below meth c A ls C K w hr hlocks _ hl
  exact bX0_areNights_0 G C K (fun H locs ls pc hz w d => wx_zret C hr hlocks hz w ⟨rfl, rfl⟩ d) w hl hF
theorem rX0_areNights {p : Program} {l : Launch} {e : Env} {R : Room} {s : State} {m : MethodId} {as : Array Value} {below : List Frame} {meth : Method} {c : Code} {H : Heap} {locs : List Loc} {cells slots : Nat} {Q : State → Prop} {cc : ByteArray} {nL pc : Nat} {ls : Array Slot} {rest : List Value} {γ : wx_G} {A : Nat → Prop} {o : Nat} {ad : Nat → Nat} {ρ : va_W} {f : xF} {g : xG} {v1 : Int32} {z : Int32} (G : cx_ok γ) (C : CallFix p m c cc nL s as lw_all RX0) (K : wx_C γ A s) (w : wx_w γ A s H locs (cw γ o ad f g ρ)) (hF : pX0_areNights f g v1 = some z) (hls : ls.size = nL) (hR : rmX0_areNights.frames + 1 ≤ R.frames ∧ 8 + (2 + 11) + rmX0_areNights.locals ≤ R.locals) (hW : (rest.map fun v => v.category).sum ≤ 8) (d : decode cc pc = .ok (.invokevirtual 374, 3)) (kk : ∀ (H : Heap) (locs : List Loc), wx_w γ A s H locs (cw γ o ad f g ρ) → W p l e R s m as below meth c H locs cells slots Q (F0 m (pc + 3) ls (.int z :: rest))) (hf : cells ≤ R.cells ∧ slots ≤ R.slots := by exact ⟨Nat.le_of_ble_eq_true rfl, Nat.le_of_ble_eq_true rfl⟩) : W p l e R s m as below meth c H locs cells slots Q (F0 m pc ls (.int v1 :: .ref o :: rest)) :=
  wx_callV (n := 1) C K w (mX0_areNights (l := l) G hF) q930 q932 qs26 q106 q933 rfl rfl (by decide +kernel) (va_recv K.1.1 w.1 (ci := 1) (q0 := 0) rfl rfl) rfl rfl hR hls hW hf d (fun v ws H1 locs1 hp w => by obtain ⟨rfl, rfl⟩ := hp; exact kk H1 locs1 w)

/-! WalkingStones.keeps()V -/
abbrev rmX0_keeps : Room := { frames := 1, cells := 0, slots := 0, locals := 85 }
def pX0_keeps_0 (f : xF) (g : xG) : Option (xF × xG) := if gcp (0 : Int32) (0 : Int32) (10 : Int32) 10 10 = true then some (f, va_up g 27 (va_cpy (g 1) (g 27) (0 : Int32).toNatClampNeg (0 : Int32).toNatClampNeg (10 : Int32).toNatClampNeg)) else none

abbrev pX0_keeps (f : xF) (g : xG) : Option (xF × xG) := pX0_keeps_0 f g
theorem bX0_keeps_0 {p : Program} {l : Launch} {e : Env} {s : State} {m : MethodId} {as : Array Value} {below : List Frame} {meth : Method} {c : Code} {A : Nat → Prop} {Q : State → Prop} {γ : wx_G} {o : Nat} {ad : Nat → Nat} {ρ : va_W} {z : xF × xG} (G : cx_ok γ) (C : CallFix p m c cX0_keeps 1 s as lw_all RX0) (K : wx_C γ A s) (E : ∀ (H : Heap) (locs : List Loc) (ls : Array Slot) (pc : Nat), wx_w γ A s H locs (cw γ o ad z.1 z.2 ρ) → decode cX0_keeps pc = .ok (.return_, 1) → W p l e rmX0_keeps s m as below meth c H locs 0 0 Q (F0 m pc ls [])) {f : xF} {g : xG} {H : Heap} {locs : List Loc} {ls : Array Slot} (w : wx_w γ A s H locs (cw γ o ad f g ρ)) (hl : lv_has ls 1 [(0, .ref o)]) (hF : pX0_keeps_0 f g = some z) : W p l e rmX0_keeps s m as below meth c H locs 0 0 Q (F0 m 0 ls []) := by
  have hx := C.1
  have hb := C.2.1
  unfold pX0_keeps_0 at hF
  refine lv_aload_n hx hb dX0_keeps_0 rfl (lv_at hl 0 rfl) ?_
  refine cget_1 C K w dX0_keeps_1 ?_
  refine lv_iconst (v := (0 : Int32)) hx hb dX0_keeps_4 (by decide) ?_
  refine lv_aload_n hx hb dX0_keeps_5 rfl (lv_at hl 0 rfl) ?_
  refine cget_27 C K w dX0_keeps_6 ?_
  refine lv_iconst (v := (0 : Int32)) hx hb dX0_keeps_9 (by decide) ?_
  refine lv_bipush (v := (10 : Int32)) hx hb dX0_keeps_10 (by decide) ?_
  obtain ⟨hi, hF⟩ := gcp_if hF
  refine ccopy 1 1 7 27 rfl rfl ⟨rfl, rfl⟩ ⟨rfl, rfl⟩ C K w hl.1 hi (Nat.le_of_ble_eq_true rfl) (Nat.le_of_ble_eq_true rfl) dX0_keeps_12 (fun H locs w => ?_)
  have hF := Option.some.inj hF
  subst hF
  exact E _ _ _ _ w dX0_keeps_15

theorem mX0_keeps {l : Launch} {γ : wx_G} {o : Nat} {ad : Nat → Nat} {ρ : va_W} {f : xF} {g : xG} {z : xF × xG} (G : cx_ok γ) (hF : pX0_keeps f g = some z) : wx_M γ l yX0_keeps (ws_ yX0_keeps cX0_keeps 1 none) rmX0_keeps [.ref o] (cw γ o ad f g ρ) (fun v ws => v = none ∧ ws = (cw γ o ad z.1 z.2 ρ)) 0 0 := by
  refine wx_M.of (by decide) (Nat.le_of_ble_eq_true rfl) ?_
  intro p e s m as below meth c A ls C K w hr hlocks _ hl
  exact bX0_keeps_0 G C K (fun H locs ls pc w d => wx_vret C hr hlocks w ⟨rfl, rfl⟩ d) w hl hF
theorem rX0_keeps {p : Program} {l : Launch} {e : Env} {R : Room} {s : State} {m : MethodId} {as : Array Value} {below : List Frame} {meth : Method} {c : Code} {H : Heap} {locs : List Loc} {cells slots : Nat} {Q : State → Prop} {cc : ByteArray} {nL pc : Nat} {ls : Array Slot} {rest : List Value} {γ : wx_G} {A : Nat → Prop} {o : Nat} {ad : Nat → Nat} {ρ : va_W} {f : xF} {g : xG} {z : xF × xG} (G : cx_ok γ) (C : CallFix p m c cc nL s as lw_all RX0) (K : wx_C γ A s) (w : wx_w γ A s H locs (cw γ o ad f g ρ)) (hF : pX0_keeps f g = some z) (hls : ls.size = nL) (hR : rmX0_keeps.frames + 1 ≤ R.frames ∧ 8 + (1 + 11) + rmX0_keeps.locals ≤ R.locals) (hW : (rest.map fun v => v.category).sum ≤ 8) (d : decode cc pc = .ok (.invokevirtual 377, 3)) (kk : ∀ (H : Heap) (locs : List Loc), wx_w γ A s H locs (cw γ o ad z.1 z.2 ρ) → W p l e R s m as below meth c H locs cells slots Q (F0 m (pc + 3) ls rest)) (hf : cells ≤ R.cells ∧ slots ≤ R.slots := by exact ⟨Nat.le_of_ble_eq_true rfl, Nat.le_of_ble_eq_true rfl⟩) : W p l e R s m as below meth c H locs cells slots Q (F0 m pc ls (.ref o :: rest)) :=
  wx_callV (n := 0) C K w (mX0_keeps (l := l) G hF) q934 q936 qs27 q106 q937 rfl rfl (by decide +kernel) (va_recv K.1.1 w.1 (ci := 1) (q0 := 0) rfl rfl) rfl rfl hR hls hW hf d (fun v ws H1 locs1 hp w => by obtain ⟨rfl, rfl⟩ := hp; exact kk H1 locs1 w)

/-! WalkingStones.laysBack()V -/
abbrev rmX0_laysBack : Room := { frames := 1, cells := 0, slots := 0, locals := 85 }
def pX0_laysBack_0 (f : xF) (g : xG) : Option (xF × xG) := if gcp (0 : Int32) (0 : Int32) (10 : Int32) 10 10 = true then some (f, va_up g 1 (va_cpy (g 27) (g 1) (0 : Int32).toNatClampNeg (0 : Int32).toNatClampNeg (10 : Int32).toNatClampNeg)) else none

abbrev pX0_laysBack (f : xF) (g : xG) : Option (xF × xG) := pX0_laysBack_0 f g
theorem bX0_laysBack_0 {p : Program} {l : Launch} {e : Env} {s : State} {m : MethodId} {as : Array Value} {below : List Frame} {meth : Method} {c : Code} {A : Nat → Prop} {Q : State → Prop} {γ : wx_G} {o : Nat} {ad : Nat → Nat} {ρ : va_W} {z : xF × xG} (G : cx_ok γ) (C : CallFix p m c cX0_laysBack 1 s as lw_all RX0) (K : wx_C γ A s) (E : ∀ (H : Heap) (locs : List Loc) (ls : Array Slot) (pc : Nat), wx_w γ A s H locs (cw γ o ad z.1 z.2 ρ) → decode cX0_laysBack pc = .ok (.return_, 1) → W p l e rmX0_laysBack s m as below meth c H locs 0 0 Q (F0 m pc ls [])) {f : xF} {g : xG} {H : Heap} {locs : List Loc} {ls : Array Slot} (w : wx_w γ A s H locs (cw γ o ad f g ρ)) (hl : lv_has ls 1 [(0, .ref o)]) (hF : pX0_laysBack_0 f g = some z) : W p l e rmX0_laysBack s m as below meth c H locs 0 0 Q (F0 m 0 ls []) := by
  have hx := C.1
  have hb := C.2.1
  unfold pX0_laysBack_0 at hF
  refine lv_aload_n hx hb dX0_laysBack_0 rfl (lv_at hl 0 rfl) ?_
  refine cget_27 C K w dX0_laysBack_1 ?_
  refine lv_iconst (v := (0 : Int32)) hx hb dX0_laysBack_4 (by decide) ?_
  refine lv_aload_n hx hb dX0_laysBack_5 rfl (lv_at hl 0 rfl) ?_
  refine cget_1 C K w dX0_laysBack_6 ?_
  refine lv_iconst (v := (0 : Int32)) hx hb dX0_laysBack_9 (by decide) ?_
  refine lv_bipush (v := (10 : Int32)) hx hb dX0_laysBack_10 (by decide) ?_
  obtain ⟨hi, hF⟩ := gcp_if hF
  refine ccopy 7 27 1 1 rfl rfl ⟨rfl, rfl⟩ ⟨rfl, rfl⟩ C K w hl.1 hi (Nat.le_of_ble_eq_true rfl) (Nat.le_of_ble_eq_true rfl) dX0_laysBack_12 (fun H locs w => ?_)
  have hF := Option.some.inj hF
  subst hF
  exact E _ _ _ _ w dX0_laysBack_15

theorem mX0_laysBack {l : Launch} {γ : wx_G} {o : Nat} {ad : Nat → Nat} {ρ : va_W} {f : xF} {g : xG} {z : xF × xG} (G : cx_ok γ) (hF : pX0_laysBack f g = some z) : wx_M γ l yX0_laysBack (ws_ yX0_laysBack cX0_laysBack 1 none) rmX0_laysBack [.ref o] (cw γ o ad f g ρ) (fun v ws => v = none ∧ ws = (cw γ o ad z.1 z.2 ρ)) 0 0 := by
  refine wx_M.of (by decide) (Nat.le_of_ble_eq_true rfl) ?_
  intro p e s m as below meth c A ls C K w hr hlocks _ hl
  exact bX0_laysBack_0 G C K (fun H locs ls pc w d => wx_vret C hr hlocks w ⟨rfl, rfl⟩ d) w hl hF
theorem rX0_laysBack {p : Program} {l : Launch} {e : Env} {R : Room} {s : State} {m : MethodId} {as : Array Value} {below : List Frame} {meth : Method} {c : Code} {H : Heap} {locs : List Loc} {cells slots : Nat} {Q : State → Prop} {cc : ByteArray} {nL pc : Nat} {ls : Array Slot} {rest : List Value} {γ : wx_G} {A : Nat → Prop} {o : Nat} {ad : Nat → Nat} {ρ : va_W} {f : xF} {g : xG} {z : xF × xG} (G : cx_ok γ) (C : CallFix p m c cc nL s as lw_all RX0) (K : wx_C γ A s) (w : wx_w γ A s H locs (cw γ o ad f g ρ)) (hF : pX0_laysBack f g = some z) (hls : ls.size = nL) (hR : rmX0_laysBack.frames + 1 ≤ R.frames ∧ 8 + (1 + 11) + rmX0_laysBack.locals ≤ R.locals) (hW : (rest.map fun v => v.category).sum ≤ 8) (d : decode cc pc = .ok (.invokevirtual 383, 3)) (kk : ∀ (H : Heap) (locs : List Loc), wx_w γ A s H locs (cw γ o ad z.1 z.2 ρ) → W p l e R s m as below meth c H locs cells slots Q (F0 m (pc + 3) ls rest)) (hf : cells ≤ R.cells ∧ slots ≤ R.slots := by exact ⟨Nat.le_of_ble_eq_true rfl, Nat.le_of_ble_eq_true rfl⟩) : W p l e R s m as below meth c H locs cells slots Q (F0 m pc ls (.ref o :: rest)) :=
  wx_callV (n := 0) C K w (mX0_laysBack (l := l) G hF) q970 q972 qs31 q106 q973 rfl rfl (by decide +kernel) (va_recv K.1.1 w.1 (ci := 1) (q0 := 0) rfl rfl) rfl rfl hR hls hW hf d (fun v ws H1 locs1 hp w => by obtain ⟨rfl, rfl⟩ := hp; exact kk H1 locs1 w)

/-! WalkingStones.nextAt(II)I -/
abbrev rmX0_nextAt : Room := { frames := 1, cells := 0, slots := 0, locals := 25 }
def pX0_nextAt_85 (f : xF) (g : xG) (t0 : Int32) : Option (Int32) := some (t0)

def pX0_nextAt_84 (f : xF) (g : xG) : Option (Int32) := pX0_nextAt_85 f g (-1 : Int32)

def pX0_nextAt_53 (f : xF) (g : xG) (v3 : Int32) (v4 : Int32) (t0 : Int32) : Option (Int32) := if t0 = 0 then pX0_nextAt_84 f g else (pX0_liesAt f g (((64 : Int32) * v4) + v3)).bind (fun r68 => if r68 = 0 then pX0_nextAt_85 f g (((64 : Int32) * v4) + v3) else pX0_nextAt_84 f g)

def pX0_nextAt_52 (f : xF) (g : xG) (v3 : Int32) (v4 : Int32) : Option (Int32) := pX0_nextAt_53 f g v3 v4 (0 : Int32)

def pX0_nextAt_0 (f : xF) (g : xG) (v1 : Int32) (v2 : Int32) : Option (Int32) := if gin v2 4 = true then if gin v2 4 = true then (pX0_in f g (((v1 - v1 / (64 : Int32) * (64 : Int32)) + (cDX v2.toNatClampNeg)).toInt64) (0 : Int64) (63 : Int64)).bind (fun r29 => if r29 = 0 then pX0_nextAt_52 f g ((v1 - v1 / (64 : Int32) * (64 : Int32)) + (cDX v2.toNatClampNeg)) ((v1 / (64 : Int32)) + (cDY v2.toNatClampNeg)) else (pX0_in f g (((v1 / (64 : Int32)) + (cDY v2.toNatClampNeg)).toInt64) (0 : Int64) (63 : Int64)).bind (fun r42 => if r42 = 0 then pX0_nextAt_52 f g ((v1 - v1 / (64 : Int32) * (64 : Int32)) + (cDX v2.toNatClampNeg)) ((v1 / (64 : Int32)) + (cDY v2.toNatClampNeg)) else pX0_nextAt_53 f g ((v1 - v1 / (64 : Int32) * (64 : Int32)) + (cDX v2.toNatClampNeg)) ((v1 / (64 : Int32)) + (cDY v2.toNatClampNeg)) (1 : Int32))) else none else none

abbrev pX0_nextAt (f : xF) (g : xG) (v1 : Int32) (v2 : Int32) : Option (Int32) := pX0_nextAt_0 f g v1 v2
theorem bX0_nextAt_85 {p : Program} {l : Launch} {e : Env} {s : State} {m : MethodId} {as : Array Value} {below : List Frame} {meth : Method} {c : Code} {A : Nat → Prop} {Q : State → Prop} {γ : wx_G} {o : Nat} {ad : Nat → Nat} {ρ : va_W} {z : Int32} {f : xF} {g : xG} (G : cx_ok γ) (C : CallFix p m c cX0_nextAt 6 s as lw_all RX0) (K : wx_C γ A s) (E : ∀ (H : Heap) (locs : List Loc) (ls : Array Slot) (pc : Nat), wx_w γ A s H locs (cw γ o ad f g ρ) → decode cX0_nextAt pc = .ok (.ireturn, 1) → W p l e rmX0_nextAt s m as below meth c H locs 0 0 Q (F0 m pc ls [.int z])) {t0 : Int32} {H : Heap} {locs : List Loc} {ls : Array Slot} (w : wx_w γ A s H locs (cw γ o ad f g ρ)) (hl : lv_has ls 6 []) (hF : pX0_nextAt_85 f g t0 = some z) : W p l e rmX0_nextAt s m as below meth c H locs 0 0 Q (F0 m 85 ls [.int t0]) := by
  have hx := C.1
  have hb := C.2.1
  unfold pX0_nextAt_85 at hF
  have hF := Option.some.inj hF
  subst hF
  exact E _ _ _ _ w dX0_nextAt_85

theorem bX0_nextAt_84 {p : Program} {l : Launch} {e : Env} {s : State} {m : MethodId} {as : Array Value} {below : List Frame} {meth : Method} {c : Code} {A : Nat → Prop} {Q : State → Prop} {γ : wx_G} {o : Nat} {ad : Nat → Nat} {ρ : va_W} {z : Int32} {f : xF} {g : xG} (G : cx_ok γ) (C : CallFix p m c cX0_nextAt 6 s as lw_all RX0) (K : wx_C γ A s) (E : ∀ (H : Heap) (locs : List Loc) (ls : Array Slot) (pc : Nat), wx_w γ A s H locs (cw γ o ad f g ρ) → decode cX0_nextAt pc = .ok (.ireturn, 1) → W p l e rmX0_nextAt s m as below meth c H locs 0 0 Q (F0 m pc ls [.int z])) {H : Heap} {locs : List Loc} {ls : Array Slot} (w : wx_w γ A s H locs (cw γ o ad f g ρ)) (hl : lv_has ls 6 []) (hF : pX0_nextAt_84 f g = some z) : W p l e rmX0_nextAt s m as below meth c H locs 0 0 Q (F0 m 84 ls []) := by
  have hx := C.1
  have hb := C.2.1
  unfold pX0_nextAt_84 at hF
  refine lv_iconst (v := (-1 : Int32)) hx hb dX0_nextAt_84 (by decide) ?_
  exact bX0_nextAt_85 G C K E w hl hF

theorem bX0_nextAt_53 {p : Program} {l : Launch} {e : Env} {s : State} {m : MethodId} {as : Array Value} {below : List Frame} {meth : Method} {c : Code} {A : Nat → Prop} {Q : State → Prop} {γ : wx_G} {o : Nat} {ad : Nat → Nat} {ρ : va_W} {z : Int32} {f : xF} {g : xG} (G : cx_ok γ) (C : CallFix p m c cX0_nextAt 6 s as lw_all RX0) (K : wx_C γ A s) (E : ∀ (H : Heap) (locs : List Loc) (ls : Array Slot) (pc : Nat), wx_w γ A s H locs (cw γ o ad f g ρ) → decode cX0_nextAt pc = .ok (.ireturn, 1) → W p l e rmX0_nextAt s m as below meth c H locs 0 0 Q (F0 m pc ls [.int z])) {v3 : Int32} {v4 : Int32} {t0 : Int32} {H : Heap} {locs : List Loc} {ls : Array Slot} (w : wx_w γ A s H locs (cw γ o ad f g ρ)) (hl : lv_has ls 6 [(0, .ref o), (3, .int v3), (4, .int v4)]) (hF : pX0_nextAt_53 f g v3 v4 t0 = some z) : W p l e rmX0_nextAt s m as below meth c H locs 0 0 Q (F0 m 53 ls [.int t0]) := by
  have hx := C.1
  have hb := C.2.1
  unfold pX0_nextAt_53 at hF
  refine lv_istore (lv' := [(5, .int t0), (0, .ref o), (3, .int v3), (4, .int v4)]) hx hb dX0_nextAt_53 hl (by decide) rfl (fun ls hl => ?_)
  refine lv_iload hx hb dX0_nextAt_55 (lv_at hl 0 rfl) ?_
  refine lv_if_eq (tgt := 84) hx hb dX0_nextAt_57 (by decide) (fun c => ?_) (fun c => ?_)
  · have hF := (if_pos c).symm.trans hF
    exact bX0_nextAt_84 G C K E w (lv_sub hl [] rfl) hF
  · have hF := (if_neg c).symm.trans hF
    refine lv_aload_n hx hb dX0_nextAt_60 rfl (lv_at hl 1 rfl) ?_
    refine lv_bipush (v := (64 : Int32)) hx hb dX0_nextAt_61 (by decide) ?_
    refine lv_iload hx hb dX0_nextAt_63 (lv_at hl 3 rfl) ?_
    refine lv_imul hx hb dX0_nextAt_65 ?_
    refine lv_iload_n hx hb dX0_nextAt_66 rfl (lv_at hl 2 rfl) ?_
    refine lv_iadd hx hb dX0_nextAt_67 ?_
    obtain ⟨r68, hr, hF⟩ := obd hF
    refine rX0_liesAt G C K w hr hl.1 ⟨Nat.le_of_ble_eq_true rfl, Nat.le_of_ble_eq_true rfl⟩ (Nat.le_of_ble_eq_true rfl) dX0_nextAt_68 (fun H locs w => ?_)
    refine lv_if_ne (tgt := 84) hx hb dX0_nextAt_71 (by decide) (fun c => ?_) (fun c => ?_)
    · have hF := (if_neg c).symm.trans hF
      exact bX0_nextAt_84 G C K E w (lv_sub hl [] rfl) hF
    · have hF := (if_pos c).symm.trans hF
      refine lv_bipush (v := (64 : Int32)) hx hb dX0_nextAt_74 (by decide) ?_
      refine lv_iload hx hb dX0_nextAt_76 (lv_at hl 3 rfl) ?_
      refine lv_imul hx hb dX0_nextAt_78 ?_
      refine lv_iload_n hx hb dX0_nextAt_79 rfl (lv_at hl 2 rfl) ?_
      refine lv_iadd hx hb dX0_nextAt_80 ?_
      refine lv_goto (tgt := 85) hx hb dX0_nextAt_81 (by decide) ?_
      exact bX0_nextAt_85 G C K E w (lv_sub hl [] rfl) hF

theorem bX0_nextAt_52 {p : Program} {l : Launch} {e : Env} {s : State} {m : MethodId} {as : Array Value} {below : List Frame} {meth : Method} {c : Code} {A : Nat → Prop} {Q : State → Prop} {γ : wx_G} {o : Nat} {ad : Nat → Nat} {ρ : va_W} {z : Int32} {f : xF} {g : xG} (G : cx_ok γ) (C : CallFix p m c cX0_nextAt 6 s as lw_all RX0) (K : wx_C γ A s) (E : ∀ (H : Heap) (locs : List Loc) (ls : Array Slot) (pc : Nat), wx_w γ A s H locs (cw γ o ad f g ρ) → decode cX0_nextAt pc = .ok (.ireturn, 1) → W p l e rmX0_nextAt s m as below meth c H locs 0 0 Q (F0 m pc ls [.int z])) {v3 : Int32} {v4 : Int32} {H : Heap} {locs : List Loc} {ls : Array Slot} (w : wx_w γ A s H locs (cw γ o ad f g ρ)) (hl : lv_has ls 6 [(0, .ref o), (3, .int v3), (4, .int v4)]) (hF : pX0_nextAt_52 f g v3 v4 = some z) : W p l e rmX0_nextAt s m as below meth c H locs 0 0 Q (F0 m 52 ls []) := by
  have hx := C.1
  have hb := C.2.1
  unfold pX0_nextAt_52 at hF
  refine lv_iconst (v := (0 : Int32)) hx hb dX0_nextAt_52 (by decide) ?_
  exact bX0_nextAt_53 G C K E w hl hF

theorem bX0_nextAt_0 {p : Program} {l : Launch} {e : Env} {s : State} {m : MethodId} {as : Array Value} {below : List Frame} {meth : Method} {c : Code} {A : Nat → Prop} {Q : State → Prop} {γ : wx_G} {o : Nat} {ad : Nat → Nat} {ρ : va_W} {z : Int32} {f : xF} {g : xG} (G : cx_ok γ) (C : CallFix p m c cX0_nextAt 6 s as lw_all RX0) (K : wx_C γ A s) (E : ∀ (H : Heap) (locs : List Loc) (ls : Array Slot) (pc : Nat), wx_w γ A s H locs (cw γ o ad f g ρ) → decode cX0_nextAt pc = .ok (.ireturn, 1) → W p l e rmX0_nextAt s m as below meth c H locs 0 0 Q (F0 m pc ls [.int z])) {v1 : Int32} {v2 : Int32} {H : Heap} {locs : List Loc} {ls : Array Slot} (w : wx_w γ A s H locs (cw γ o ad f g ρ)) (hl : lv_has ls 6 [(0, .ref o), (1, .int v1), (2, .int v2)]) (hF : pX0_nextAt_0 f g v1 v2 = some z) : W p l e rmX0_nextAt s m as below meth c H locs 0 0 Q (F0 m 0 ls []) := by
  have hx := C.1
  have hb := C.2.1
  unfold pX0_nextAt_0 at hF
  refine lv_iload_n hx hb dX0_nextAt_0 rfl (lv_at hl 1 rfl) ?_
  refine lv_bipush (v := (64 : Int32)) hx hb dX0_nextAt_1 (by decide) ?_
  refine lv_irem hx hb dX0_nextAt_3 (by decide) ?_
  refine cgets_DX G C K w dX0_nextAt_4 ?_
  refine lv_iload_n hx hb dX0_nextAt_7 rfl (lv_at hl 2 rfl) ?_
  obtain ⟨hi, hF⟩ := gin_if hF
  refine cald_DX G C K w hi dX0_nextAt_8 ?_
  refine lv_iadd hx hb dX0_nextAt_9 ?_
  refine lv_istore_n (lv' := [(3, .int ((v1 - v1 / (64 : Int32) * (64 : Int32)) + (cDX v2.toNatClampNeg))), (0, .ref o), (1, .int v1), (2, .int v2)]) hx hb dX0_nextAt_10 rfl hl (by decide) rfl (fun ls hl => ?_)
  refine lv_iload_n hx hb dX0_nextAt_11 rfl (lv_at hl 2 rfl) ?_
  refine lv_bipush (v := (64 : Int32)) hx hb dX0_nextAt_12 (by decide) ?_
  refine lv_idiv hx hb dX0_nextAt_14 (by decide) ?_
  refine cgets_DY G C K w dX0_nextAt_15 ?_
  refine lv_iload_n hx hb dX0_nextAt_18 rfl (lv_at hl 3 rfl) ?_
  obtain ⟨hi, hF⟩ := gin_if hF
  refine cald_DY G C K w hi dX0_nextAt_19 ?_
  refine lv_iadd hx hb dX0_nextAt_20 ?_
  refine lv_istore (lv' := [(4, .int ((v1 / (64 : Int32)) + (cDY v2.toNatClampNeg))), (3, .int ((v1 - v1 / (64 : Int32) * (64 : Int32)) + (cDX v2.toNatClampNeg))), (0, .ref o), (1, .int v1), (2, .int v2)]) hx hb dX0_nextAt_21 hl (by decide) rfl (fun ls hl => ?_)
  refine lv_iload_n hx hb dX0_nextAt_23 rfl (lv_at hl 1 rfl) ?_
  refine lv_i2l hx hb dX0_nextAt_24 rfl ?_
  refine lv_lconst (v := (0 : Int64)) hx hb dX0_nextAt_25 (by decide) ?_
  refine lv_ldc2 (v := (63 : Int64)) hx hb C.2.2.2.1 (C.2.2.2.2 _ q969) dX0_nextAt_26 ?_
  obtain ⟨r29, hr, hF⟩ := obd hF
  refine rX0_in G C K w hr hl.1 ⟨Nat.le_of_ble_eq_true rfl, Nat.le_of_ble_eq_true rfl⟩ (Nat.le_of_ble_eq_true rfl) dX0_nextAt_29 (fun H locs w => ?_)
  refine lv_if_eq (tgt := 52) hx hb dX0_nextAt_32 (by decide) (fun c => ?_) (fun c => ?_)
  · have hF := (if_pos c).symm.trans hF
    exact bX0_nextAt_52 G C K E w (lv_sub hl [2, 1, 0] rfl) hF
  · have hF := (if_neg c).symm.trans hF
    refine lv_iload hx hb dX0_nextAt_35 (lv_at hl 0 rfl) ?_
    refine lv_i2l hx hb dX0_nextAt_37 rfl ?_
    refine lv_lconst (v := (0 : Int64)) hx hb dX0_nextAt_38 (by decide) ?_
    refine lv_ldc2 (v := (63 : Int64)) hx hb C.2.2.2.1 (C.2.2.2.2 _ q969) dX0_nextAt_39 ?_
    obtain ⟨r42, hr, hF⟩ := obd hF
    refine rX0_in G C K w hr hl.1 ⟨Nat.le_of_ble_eq_true rfl, Nat.le_of_ble_eq_true rfl⟩ (Nat.le_of_ble_eq_true rfl) dX0_nextAt_42 (fun H locs w => ?_)
    refine lv_if_eq (tgt := 52) hx hb dX0_nextAt_45 (by decide) (fun c => ?_) (fun c => ?_)
    · have hF := (if_pos c).symm.trans hF
      exact bX0_nextAt_52 G C K E w (lv_sub hl [2, 1, 0] rfl) hF
    · have hF := (if_neg c).symm.trans hF
      refine lv_iconst (v := (1 : Int32)) hx hb dX0_nextAt_48 (by decide) ?_
      refine lv_goto (tgt := 53) hx hb dX0_nextAt_49 (by decide) ?_
      exact bX0_nextAt_53 G C K E w (lv_sub hl [2, 1, 0] rfl) hF

theorem mX0_nextAt {l : Launch} {γ : wx_G} {o : Nat} {ad : Nat → Nat} {ρ : va_W} {f : xF} {g : xG} {v1 : Int32} {v2 : Int32} {z : Int32} (G : cx_ok γ) (hF : pX0_nextAt f g v1 v2 = some z) : wx_M γ l yX0_nextAt (ws_ yX0_nextAt cX0_nextAt 6 (some .int)) rmX0_nextAt [.ref o, .int v1, .int v2] (cw γ o ad f g ρ) (fun v ws => v = some (.int z) ∧ ws = (cw γ o ad f g ρ)) 0 0 := by
  refine wx_M.of (by decide) (Nat.le_of_ble_eq_true rfl) ?_
  intro p e s m as below meth c A ls C K w hr hlocks _ hl
  exact bX0_nextAt_0 G C K (fun H locs ls pc w d => wx_iret C hr hlocks w ⟨rfl, rfl⟩ d) w hl hF
theorem rX0_nextAt {p : Program} {l : Launch} {e : Env} {R : Room} {s : State} {m : MethodId} {as : Array Value} {below : List Frame} {meth : Method} {c : Code} {H : Heap} {locs : List Loc} {cells slots : Nat} {Q : State → Prop} {cc : ByteArray} {nL pc : Nat} {ls : Array Slot} {rest : List Value} {γ : wx_G} {A : Nat → Prop} {o : Nat} {ad : Nat → Nat} {ρ : va_W} {f : xF} {g : xG} {v1 : Int32} {v2 : Int32} {z : Int32} (G : cx_ok γ) (C : CallFix p m c cc nL s as lw_all RX0) (K : wx_C γ A s) (w : wx_w γ A s H locs (cw γ o ad f g ρ)) (hF : pX0_nextAt f g v1 v2 = some z) (hls : ls.size = nL) (hR : rmX0_nextAt.frames + 1 ≤ R.frames ∧ 8 + (6 + 11) + rmX0_nextAt.locals ≤ R.locals) (hW : (rest.map fun v => v.category).sum ≤ 8) (d : decode cc pc = .ok (.invokevirtual 361, 3)) (kk : ∀ (H : Heap) (locs : List Loc), wx_w γ A s H locs (cw γ o ad f g ρ) → W p l e R s m as below meth c H locs cells slots Q (F0 m (pc + 3) ls (.int z :: rest))) (hf : cells ≤ R.cells ∧ slots ≤ R.slots := by exact ⟨Nat.le_of_ble_eq_true rfl, Nat.le_of_ble_eq_true rfl⟩) : W p l e R s m as below meth c H locs cells slots Q (F0 m pc ls (.int v2 :: .int v1 :: .ref o :: rest)) :=
  wx_callV (n := 2) C K w (mX0_nextAt (l := l) G hF) q961 q963 qs30 q106 q964 rfl rfl (by decide +kernel) (va_recv K.1.1 w.1 (ci := 1) (q0 := 0) rfl rfl) rfl rfl hR hls hW hf d (fun v ws H1 locs1 hp w => by obtain ⟨rfl, rfl⟩ := hp; exact kk H1 locs1 w)

/-! WalkingStones.track(III)I -/
abbrev rmX0_track : Room := { frames := 2, cells := 0, slots := 0, locals := 46 }
def pX0_track_32 (f : xF) (g : xG) : Option (Int32 × xF × xG) := some ((-2 : Int32), f, g)

def pX0_track_0 (f : xF) (g : xG) (v1 : Int32) (v2 : Int32) (v3 : Int32) : Option (Int32 × xF × xG) := (pX0_isStone f g v1).bind (fun r2 => if r2 = 0 then pX0_track_32 f g else (pX0_in f g v2.toInt64 (0 : Int64) (999 : Int64)).bind (fun r14 => if r14 = 0 then pX0_track_32 f g else (pX0_in f g v3.toInt64 (0 : Int64) (99 : Int64)).bind (fun r26 => if r26 = 0 then pX0_track_32 f g else (if (f 34) = (24 : Int32) then some ((-4 : Int32), f, g) else (if gin (f 34) 24 = true then if gin (f 34) 24 = true then if gin (f 34) 24 = true then some (((upd f 34 ((f 34) + (1 : Int32))) 34) - (1 : Int32), upd f 34 ((f 34) + (1 : Int32)), va_up (va_up (va_up g 31 (upd (g 31) (f 34).toNatClampNeg v1)) 32 (upd ((va_up g 31 (upd (g 31) (f 34).toNatClampNeg v1)) 32) (f 34).toNatClampNeg v2)) 33 (upd ((va_up (va_up g 31 (upd (g 31) (f 34).toNatClampNeg v1)) 32 (upd ((va_up g 31 (upd (g 31) (f 34).toNatClampNeg v1)) 32) (f 34).toNatClampNeg v2)) 33) (f 34).toNatClampNeg v3)) else none else none else none)))))

abbrev pX0_track (f : xF) (g : xG) (v1 : Int32) (v2 : Int32) (v3 : Int32) : Option (Int32 × xF × xG) := pX0_track_0 f g v1 v2 v3
theorem bX0_track_32 {p : Program} {l : Launch} {e : Env} {s : State} {m : MethodId} {as : Array Value} {below : List Frame} {meth : Method} {c : Code} {A : Nat → Prop} {Q : State → Prop} {γ : wx_G} {o : Nat} {ad : Nat → Nat} {ρ : va_W} {z : Int32 × xF × xG} (G : cx_ok γ) (C : CallFix p m c cX0_track 4 s as lw_all RX0) (K : wx_C γ A s) (E : ∀ (H : Heap) (locs : List Loc) (ls : Array Slot) (pc : Nat), wx_w γ A s H locs (cw γ o ad z.2.1 z.2.2 ρ) → decode cX0_track pc = .ok (.ireturn, 1) → W p l e rmX0_track s m as below meth c H locs 0 0 Q (F0 m pc ls [.int z.1])) {f : xF} {g : xG} {H : Heap} {locs : List Loc} {ls : Array Slot} (w : wx_w γ A s H locs (cw γ o ad f g ρ)) (hl : lv_has ls 4 []) (hF : pX0_track_32 f g = some z) : W p l e rmX0_track s m as below meth c H locs 0 0 Q (F0 m 32 ls []) := by
  have hx := C.1
  have hb := C.2.1
  unfold pX0_track_32 at hF
  refine lv_bipush (v := (-2 : Int32)) hx hb dX0_track_32 (by decide) ?_
  have hF := Option.some.inj hF
  subst hF
  exact E _ _ _ _ w dX0_track_34

theorem bX0_track_0 {p : Program} {l : Launch} {e : Env} {s : State} {m : MethodId} {as : Array Value} {below : List Frame} {meth : Method} {c : Code} {A : Nat → Prop} {Q : State → Prop} {γ : wx_G} {o : Nat} {ad : Nat → Nat} {ρ : va_W} {z : Int32 × xF × xG} (G : cx_ok γ) (C : CallFix p m c cX0_track 4 s as lw_all RX0) (K : wx_C γ A s) (E : ∀ (H : Heap) (locs : List Loc) (ls : Array Slot) (pc : Nat), wx_w γ A s H locs (cw γ o ad z.2.1 z.2.2 ρ) → decode cX0_track pc = .ok (.ireturn, 1) → W p l e rmX0_track s m as below meth c H locs 0 0 Q (F0 m pc ls [.int z.1])) {f : xF} {g : xG} {v1 : Int32} {v2 : Int32} {v3 : Int32} {H : Heap} {locs : List Loc} {ls : Array Slot} (w : wx_w γ A s H locs (cw γ o ad f g ρ)) (hl : lv_has ls 4 [(0, .ref o), (1, .int v1), (2, .int v2), (3, .int v3)]) (hF : pX0_track_0 f g v1 v2 v3 = some z) : W p l e rmX0_track s m as below meth c H locs 0 0 Q (F0 m 0 ls []) := by
  have hx := C.1
  have hb := C.2.1
  unfold pX0_track_0 at hF
  refine lv_aload_n hx hb dX0_track_0 rfl (lv_at hl 0 rfl) ?_
  refine lv_iload_n hx hb dX0_track_1 rfl (lv_at hl 1 rfl) ?_
  obtain ⟨r2, hr, hF⟩ := obd hF
  refine rX0_isStone G C K w hr hl.1 ⟨Nat.le_of_ble_eq_true rfl, Nat.le_of_ble_eq_true rfl⟩ (Nat.le_of_ble_eq_true rfl) dX0_track_2 (fun H locs w => ?_)
  refine lv_if_eq (tgt := 32) hx hb dX0_track_5 (by decide) (fun c => ?_) (fun c => ?_)
  · have hF := (if_pos c).symm.trans hF
    exact bX0_track_32 G C K E w (lv_sub hl [] rfl) hF
  · have hF := (if_neg c).symm.trans hF
    refine lv_iload_n hx hb dX0_track_8 rfl (lv_at hl 2 rfl) ?_
    refine lv_i2l hx hb dX0_track_9 rfl ?_
    refine lv_lconst (v := (0 : Int64)) hx hb dX0_track_10 (by decide) ?_
    refine lv_ldc2 (v := (999 : Int64)) hx hb C.2.2.2.1 (C.2.2.2.2 _ q982) dX0_track_11 ?_
    obtain ⟨r14, hr, hF⟩ := obd hF
    refine rX0_in G C K w hr hl.1 ⟨Nat.le_of_ble_eq_true rfl, Nat.le_of_ble_eq_true rfl⟩ (Nat.le_of_ble_eq_true rfl) dX0_track_14 (fun H locs w => ?_)
    refine lv_if_eq (tgt := 32) hx hb dX0_track_17 (by decide) (fun c => ?_) (fun c => ?_)
    · have hF := (if_pos c).symm.trans hF
      exact bX0_track_32 G C K E w (lv_sub hl [] rfl) hF
    · have hF := (if_neg c).symm.trans hF
      refine lv_iload_n hx hb dX0_track_20 rfl (lv_at hl 3 rfl) ?_
      refine lv_i2l hx hb dX0_track_21 rfl ?_
      refine lv_lconst (v := (0 : Int64)) hx hb dX0_track_22 (by decide) ?_
      refine lv_ldc2 (v := (99 : Int64)) hx hb C.2.2.2.1 (C.2.2.2.2 _ q140) dX0_track_23 ?_
      obtain ⟨r26, hr, hF⟩ := obd hF
      refine rX0_in G C K w hr hl.1 ⟨Nat.le_of_ble_eq_true rfl, Nat.le_of_ble_eq_true rfl⟩ (Nat.le_of_ble_eq_true rfl) dX0_track_26 (fun H locs w => ?_)
      refine lv_if_ne (tgt := 35) hx hb dX0_track_29 (by decide) (fun c => ?_) (fun c => ?_)
      · have hF := (if_neg c).symm.trans hF
        refine lv_aload_n hx hb dX0_track_35 rfl (lv_at hl 0 rfl) ?_
        refine cget_34 C K w dX0_track_36 ?_
        refine lv_bipush (v := (24 : Int32)) hx hb dX0_track_39 (by decide) ?_
        refine lv_icmp_ne (tgt := 47) hx hb dX0_track_41 (by decide) (fun c => ?_) (fun c => ?_)
        · have hF := (if_neg c).symm.trans hF
          refine lv_aload_n hx hb dX0_track_47 rfl (lv_at hl 0 rfl) ?_
          refine cget_31 C K w dX0_track_48 ?_
          refine lv_aload_n hx hb dX0_track_51 rfl (lv_at hl 0 rfl) ?_
          refine cget_34 C K w dX0_track_52 ?_
          refine lv_iload_n hx hb dX0_track_55 rfl (lv_at hl 1 rfl) ?_
          obtain ⟨hi, hF⟩ := gin_if hF
          refine cast_31 C K w hi dX0_track_56 (fun H locs w => ?_)
          refine lv_aload_n hx hb dX0_track_57 rfl (lv_at hl 0 rfl) ?_
          refine cget_32 C K w dX0_track_58 ?_
          refine lv_aload_n hx hb dX0_track_61 rfl (lv_at hl 0 rfl) ?_
          refine cget_34 C K w dX0_track_62 ?_
          refine lv_iload_n hx hb dX0_track_65 rfl (lv_at hl 2 rfl) ?_
          obtain ⟨hi, hF⟩ := gin_if hF
          refine cast_32 C K w hi dX0_track_66 (fun H locs w => ?_)
          refine lv_aload_n hx hb dX0_track_67 rfl (lv_at hl 0 rfl) ?_
          refine cget_33 C K w dX0_track_68 ?_
          refine lv_aload_n hx hb dX0_track_71 rfl (lv_at hl 0 rfl) ?_
          refine cget_34 C K w dX0_track_72 ?_
          refine lv_iload_n hx hb dX0_track_75 rfl (lv_at hl 3 rfl) ?_
          obtain ⟨hi, hF⟩ := gin_if hF
          refine cast_33 C K w hi dX0_track_76 (fun H locs w => ?_)
          refine lv_aload_n hx hb dX0_track_77 rfl (lv_at hl 0 rfl) ?_
          refine lv_dup hx hb dX0_track_78 rfl ?_
          refine cget_34 C K w dX0_track_79 ?_
          refine lv_iconst (v := (1 : Int32)) hx hb dX0_track_82 (by decide) ?_
          refine lv_iadd hx hb dX0_track_83 ?_
          refine cput_34 C K w dX0_track_84 (fun H locs w => ?_)
          refine lv_aload_n hx hb dX0_track_87 rfl (lv_at hl 0 rfl) ?_
          refine cget_34 C K w dX0_track_88 ?_
          refine lv_iconst (v := (1 : Int32)) hx hb dX0_track_91 (by decide) ?_
          refine lv_isub hx hb dX0_track_92 ?_
          have hF := Option.some.inj hF
          subst hF
          exact E _ _ _ _ w dX0_track_93
        · have hF := (if_pos c).symm.trans hF
          refine lv_bipush (v := (-4 : Int32)) hx hb dX0_track_44 (by decide) ?_
          have hF := Option.some.inj hF
          subst hF
          exact E _ _ _ _ w dX0_track_46
      · have hF := (if_pos c).symm.trans hF
        exact bX0_track_32 G C K E w (lv_sub hl [] rfl) hF

theorem mX0_track {l : Launch} {γ : wx_G} {o : Nat} {ad : Nat → Nat} {ρ : va_W} {f : xF} {g : xG} {v1 : Int32} {v2 : Int32} {v3 : Int32} {z : Int32 × xF × xG} (G : cx_ok γ) (hF : pX0_track f g v1 v2 v3 = some z) : wx_M γ l yX0_track (ws_ yX0_track cX0_track 4 (some .int)) rmX0_track [.ref o, .int v1, .int v2, .int v3] (cw γ o ad f g ρ) (fun v ws => v = some (.int z.1) ∧ ws = (cw γ o ad z.2.1 z.2.2 ρ)) 0 0 := by
  refine wx_M.of (by decide) (Nat.le_of_ble_eq_true rfl) ?_
  intro p e s m as below meth c A ls C K w hr hlocks _ hl
  exact bX0_track_0 G C K (fun H locs ls pc w d => wx_iret C hr hlocks w ⟨rfl, rfl⟩ d) w hl hF

/-! WalkingStones.isTrack(I)Z -/
abbrev rmX0_isTrack : Room := { frames := 1, cells := 0, slots := 0, locals := 25 }
def pX0_isTrack_0 (f : xF) (g : xG) (v1 : Int32) : Option (Int32) := (pX0_in f g v1.toInt64 (0 : Int64) (((f 34) - (1 : Int32)).toInt64)).bind (fun r10 => if gbz r10 = true then some (r10) else none)

abbrev pX0_isTrack (f : xF) (g : xG) (v1 : Int32) : Option (Int32) := pX0_isTrack_0 f g v1
theorem bX0_isTrack_0 {p : Program} {l : Launch} {e : Env} {s : State} {m : MethodId} {as : Array Value} {below : List Frame} {meth : Method} {c : Code} {A : Nat → Prop} {Q : State → Prop} {γ : wx_G} {o : Nat} {ad : Nat → Nat} {ρ : va_W} {z : Int32} {f : xF} {g : xG} (G : cx_ok γ) (C : CallFix p m c cX0_isTrack 2 s as lw_all RX0) (K : wx_C γ A s) (E : ∀ (H : Heap) (locs : List Loc) (ls : Array Slot) (pc : Nat), narrow .boolean (.int z) = .int z → wx_w γ A s H locs (cw γ o ad f g ρ) → decode cX0_isTrack pc = .ok (.ireturn, 1) → W p l e rmX0_isTrack s m as below meth c H locs 0 0 Q (F0 m pc ls [.int z])) {v1 : Int32} {H : Heap} {locs : List Loc} {ls : Array Slot} (w : wx_w γ A s H locs (cw γ o ad f g ρ)) (hl : lv_has ls 2 [(0, .ref o), (1, .int v1)]) (hF : pX0_isTrack_0 f g v1 = some z) : W p l e rmX0_isTrack s m as below meth c H locs 0 0 Q (F0 m 0 ls []) := by
  have hx := C.1
  have hb := C.2.1
  unfold pX0_isTrack_0 at hF
  refine lv_iload_n hx hb dX0_isTrack_0 rfl (lv_at hl 1 rfl) ?_
  refine lv_i2l hx hb dX0_isTrack_1 rfl ?_
  refine lv_lconst (v := (0 : Int64)) hx hb dX0_isTrack_2 (by decide) ?_
  refine lv_aload_n hx hb dX0_isTrack_3 rfl (lv_at hl 0 rfl) ?_
  refine cget_34 C K w dX0_isTrack_4 ?_
  refine lv_iconst (v := (1 : Int32)) hx hb dX0_isTrack_7 (by decide) ?_
  refine lv_isub hx hb dX0_isTrack_8 ?_
  refine lv_i2l hx hb dX0_isTrack_9 rfl ?_
  obtain ⟨r10, hr, hF⟩ := obd hF
  refine rX0_in G C K w hr hl.1 ⟨Nat.le_of_ble_eq_true rfl, Nat.le_of_ble_eq_true rfl⟩ (Nat.le_of_ble_eq_true rfl) dX0_isTrack_10 (fun H locs w => ?_)
  obtain ⟨hz, hF⟩ := gbz_if hF
  have hF := Option.some.inj hF
  subst hF
  exact E _ _ _ _ hz w dX0_isTrack_13

theorem mX0_isTrack {l : Launch} {γ : wx_G} {o : Nat} {ad : Nat → Nat} {ρ : va_W} {f : xF} {g : xG} {v1 : Int32} {z : Int32} (G : cx_ok γ) (hF : pX0_isTrack f g v1 = some z) : wx_M γ l yX0_isTrack (ws_ yX0_isTrack cX0_isTrack 2 (some .boolean)) rmX0_isTrack [.ref o, .int v1] (cw γ o ad f g ρ) (fun v ws => v = some (.int z) ∧ ws = (cw γ o ad f g ρ)) 0 0 := by
  refine wx_M.of (by decide) (Nat.le_of_ble_eq_true rfl) ?_
  intro p e s m as below meth c A ls C K w hr hlocks _ hl
  exact bX0_isTrack_0 G C K (fun H locs ls pc hz w d => wx_zret C hr hlocks hz w ⟨rfl, rfl⟩ d) w hl hF
theorem rX0_isTrack {p : Program} {l : Launch} {e : Env} {R : Room} {s : State} {m : MethodId} {as : Array Value} {below : List Frame} {meth : Method} {c : Code} {H : Heap} {locs : List Loc} {cells slots : Nat} {Q : State → Prop} {cc : ByteArray} {nL pc : Nat} {ls : Array Slot} {rest : List Value} {γ : wx_G} {A : Nat → Prop} {o : Nat} {ad : Nat → Nat} {ρ : va_W} {f : xF} {g : xG} {v1 : Int32} {z : Int32} (G : cx_ok γ) (C : CallFix p m c cc nL s as lw_all RX0) (K : wx_C γ A s) (w : wx_w γ A s H locs (cw γ o ad f g ρ)) (hF : pX0_isTrack f g v1 = some z) (hls : ls.size = nL) (hR : rmX0_isTrack.frames + 1 ≤ R.frames ∧ 8 + (2 + 11) + rmX0_isTrack.locals ≤ R.locals) (hW : (rest.map fun v => v.category).sum ≤ 8) (d : decode cc pc = .ok (.invokevirtual 394, 3)) (kk : ∀ (H : Heap) (locs : List Loc), wx_w γ A s H locs (cw γ o ad f g ρ) → W p l e R s m as below meth c H locs cells slots Q (F0 m (pc + 3) ls (.int z :: rest))) (hf : cells ≤ R.cells ∧ slots ≤ R.slots := by exact ⟨Nat.le_of_ble_eq_true rfl, Nat.le_of_ble_eq_true rfl⟩) : W p l e R s m as below meth c H locs cells slots Q (F0 m pc ls (.int v1 :: .ref o :: rest)) :=
  wx_callV (n := 1) C K w (mX0_isTrack (l := l) G hF) q987 q989 qs32 q106 q990 rfl rfl (by decide +kernel) (va_recv K.1.1 w.1 (ci := 1) (q0 := 0) rfl rfl) rfl rfl hR hls hW hf d (fun v ws H1 locs1 hp w => by obtain ⟨rfl, rfl⟩ := hp; exact kk H1 locs1 w)

/-! WalkingStones.areTogether(III)Z -/
abbrev rmX0_areTogether : Room := { frames := 1, cells := 0, slots := 0, locals := 85 }
def pX0_areTogether_40 (f : xF) (g : xG) (t0 : Int32) : Option (Int32) := if gbz t0 = true then some (t0) else none

def pX0_areTogether_39 (f : xF) (g : xG) : Option (Int32) := pX0_areTogether_40 f g (0 : Int32)

def pX0_areTogether_0 (f : xF) (g : xG) (v1 : Int32) (v2 : Int32) (v3 : Int32) : Option (Int32) := if gin v1 24 = true then if gin v2 24 = true then if (g 33 v1.toNatClampNeg) = (g 33 v2.toNatClampNeg) then (if gin v1 24 = true then if gin v2 24 = true then if v3 < (wabs ((g 32 v1.toNatClampNeg) - (g 32 v2.toNatClampNeg))) then pX0_areTogether_39 f g else pX0_areTogether_40 f g (1 : Int32) else none else none) else pX0_areTogether_39 f g else none else none

abbrev pX0_areTogether (f : xF) (g : xG) (v1 : Int32) (v2 : Int32) (v3 : Int32) : Option (Int32) := pX0_areTogether_0 f g v1 v2 v3
theorem bX0_areTogether_40 {p : Program} {l : Launch} {e : Env} {s : State} {m : MethodId} {as : Array Value} {below : List Frame} {meth : Method} {c : Code} {A : Nat → Prop} {Q : State → Prop} {γ : wx_G} {o : Nat} {ad : Nat → Nat} {ρ : va_W} {z : Int32} {f : xF} {g : xG} (G : cx_ok γ) (C : CallFix p m c cX0_areTogether 4 s as lw_all RX0) (K : wx_C γ A s) (E : ∀ (H : Heap) (locs : List Loc) (ls : Array Slot) (pc : Nat), narrow .boolean (.int z) = .int z → wx_w γ A s H locs (cw γ o ad f g ρ) → decode cX0_areTogether pc = .ok (.ireturn, 1) → W p l e rmX0_areTogether s m as below meth c H locs 0 0 Q (F0 m pc ls [.int z])) {t0 : Int32} {H : Heap} {locs : List Loc} {ls : Array Slot} (w : wx_w γ A s H locs (cw γ o ad f g ρ)) (hl : lv_has ls 4 []) (hF : pX0_areTogether_40 f g t0 = some z) : W p l e rmX0_areTogether s m as below meth c H locs 0 0 Q (F0 m 40 ls [.int t0]) := by
  have hx := C.1
  have hb := C.2.1
  unfold pX0_areTogether_40 at hF
  obtain ⟨hz, hF⟩ := gbz_if hF
  have hF := Option.some.inj hF
  subst hF
  exact E _ _ _ _ hz w dX0_areTogether_40

theorem bX0_areTogether_39 {p : Program} {l : Launch} {e : Env} {s : State} {m : MethodId} {as : Array Value} {below : List Frame} {meth : Method} {c : Code} {A : Nat → Prop} {Q : State → Prop} {γ : wx_G} {o : Nat} {ad : Nat → Nat} {ρ : va_W} {z : Int32} {f : xF} {g : xG} (G : cx_ok γ) (C : CallFix p m c cX0_areTogether 4 s as lw_all RX0) (K : wx_C γ A s) (E : ∀ (H : Heap) (locs : List Loc) (ls : Array Slot) (pc : Nat), narrow .boolean (.int z) = .int z → wx_w γ A s H locs (cw γ o ad f g ρ) → decode cX0_areTogether pc = .ok (.ireturn, 1) → W p l e rmX0_areTogether s m as below meth c H locs 0 0 Q (F0 m pc ls [.int z])) {H : Heap} {locs : List Loc} {ls : Array Slot} (w : wx_w γ A s H locs (cw γ o ad f g ρ)) (hl : lv_has ls 4 []) (hF : pX0_areTogether_39 f g = some z) : W p l e rmX0_areTogether s m as below meth c H locs 0 0 Q (F0 m 39 ls []) := by
  have hx := C.1
  have hb := C.2.1
  unfold pX0_areTogether_39 at hF
  refine lv_iconst (v := (0 : Int32)) hx hb dX0_areTogether_39 (by decide) ?_
  exact bX0_areTogether_40 G C K E w hl hF

theorem bX0_areTogether_0 {p : Program} {l : Launch} {e : Env} {s : State} {m : MethodId} {as : Array Value} {below : List Frame} {meth : Method} {c : Code} {A : Nat → Prop} {Q : State → Prop} {γ : wx_G} {o : Nat} {ad : Nat → Nat} {ρ : va_W} {z : Int32} {f : xF} {g : xG} (G : cx_ok γ) (C : CallFix p m c cX0_areTogether 4 s as lw_all RX0) (K : wx_C γ A s) (E : ∀ (H : Heap) (locs : List Loc) (ls : Array Slot) (pc : Nat), narrow .boolean (.int z) = .int z → wx_w γ A s H locs (cw γ o ad f g ρ) → decode cX0_areTogether pc = .ok (.ireturn, 1) → W p l e rmX0_areTogether s m as below meth c H locs 0 0 Q (F0 m pc ls [.int z])) {v1 : Int32} {v2 : Int32} {v3 : Int32} {H : Heap} {locs : List Loc} {ls : Array Slot} (w : wx_w γ A s H locs (cw γ o ad f g ρ)) (hl : lv_has ls 4 [(0, .ref o), (1, .int v1), (2, .int v2), (3, .int v3)]) (hF : pX0_areTogether_0 f g v1 v2 v3 = some z) : W p l e rmX0_areTogether s m as below meth c H locs 0 0 Q (F0 m 0 ls []) := by
  have hx := C.1
  have hb := C.2.1
  unfold pX0_areTogether_0 at hF
  refine lv_aload_n hx hb dX0_areTogether_0 rfl (lv_at hl 0 rfl) ?_
  refine cget_33 C K w dX0_areTogether_1 ?_
  refine lv_iload_n hx hb dX0_areTogether_4 rfl (lv_at hl 1 rfl) ?_
  obtain ⟨hi, hF⟩ := gin_if hF
  refine cald_33 C K w hi dX0_areTogether_5 ?_
  refine lv_aload_n hx hb dX0_areTogether_6 rfl (lv_at hl 0 rfl) ?_
  refine cget_33 C K w dX0_areTogether_7 ?_
  refine lv_iload_n hx hb dX0_areTogether_10 rfl (lv_at hl 2 rfl) ?_
  obtain ⟨hi, hF⟩ := gin_if hF
  refine cald_33 C K w hi dX0_areTogether_11 ?_
  refine lv_icmp_ne (tgt := 39) hx hb dX0_areTogether_12 (by decide) (fun c => ?_) (fun c => ?_)
  · have hF := (if_neg c).symm.trans hF
    exact bX0_areTogether_39 G C K E w (lv_sub hl [] rfl) hF
  · have hF := (if_pos c).symm.trans hF
    refine lv_aload_n hx hb dX0_areTogether_15 rfl (lv_at hl 0 rfl) ?_
    refine cget_32 C K w dX0_areTogether_16 ?_
    refine lv_iload_n hx hb dX0_areTogether_19 rfl (lv_at hl 1 rfl) ?_
    obtain ⟨hi, hF⟩ := gin_if hF
    refine cald_32 C K w hi dX0_areTogether_20 ?_
    refine lv_aload_n hx hb dX0_areTogether_21 rfl (lv_at hl 0 rfl) ?_
    refine cget_32 C K w dX0_areTogether_22 ?_
    refine lv_iload_n hx hb dX0_areTogether_25 rfl (lv_at hl 2 rfl) ?_
    obtain ⟨hi, hF⟩ := gin_if hF
    refine cald_32 C K w hi dX0_areTogether_26 ?_
    refine lv_isub hx hb dX0_areTogether_27 ?_
    refine cabs C hl.1 (Nat.le_of_ble_eq_true rfl) (Nat.le_of_ble_eq_true rfl) (Nat.le_of_ble_eq_true rfl) (Nat.le_of_ble_eq_true rfl) dX0_areTogether_28 ?_
    refine lv_iload_n hx hb dX0_areTogether_31 rfl (lv_at hl 3 rfl) ?_
    refine lv_icmp_gt (tgt := 39) hx hb dX0_areTogether_32 (by decide) (fun c => ?_) (fun c => ?_)
    · have hF := (if_pos c).symm.trans hF
      exact bX0_areTogether_39 G C K E w (lv_sub hl [] rfl) hF
    · have hF := (if_neg c).symm.trans hF
      refine lv_iconst (v := (1 : Int32)) hx hb dX0_areTogether_35 (by decide) ?_
      refine lv_goto (tgt := 40) hx hb dX0_areTogether_36 (by decide) ?_
      exact bX0_areTogether_40 G C K E w (lv_sub hl [] rfl) hF

theorem mX0_areTogether {l : Launch} {γ : wx_G} {o : Nat} {ad : Nat → Nat} {ρ : va_W} {f : xF} {g : xG} {v1 : Int32} {v2 : Int32} {v3 : Int32} {z : Int32} (G : cx_ok γ) (hF : pX0_areTogether f g v1 v2 v3 = some z) : wx_M γ l yX0_areTogether (ws_ yX0_areTogether cX0_areTogether 4 (some .boolean)) rmX0_areTogether [.ref o, .int v1, .int v2, .int v3] (cw γ o ad f g ρ) (fun v ws => v = some (.int z) ∧ ws = (cw γ o ad f g ρ)) 0 0 := by
  refine wx_M.of (by decide) (Nat.le_of_ble_eq_true rfl) ?_
  intro p e s m as below meth c A ls C K w hr hlocks _ hl
  exact bX0_areTogether_0 G C K (fun H locs ls pc hz w d => wx_zret C hr hlocks hz w ⟨rfl, rfl⟩ d) w hl hF
theorem rX0_areTogether {p : Program} {l : Launch} {e : Env} {R : Room} {s : State} {m : MethodId} {as : Array Value} {below : List Frame} {meth : Method} {c : Code} {H : Heap} {locs : List Loc} {cells slots : Nat} {Q : State → Prop} {cc : ByteArray} {nL pc : Nat} {ls : Array Slot} {rest : List Value} {γ : wx_G} {A : Nat → Prop} {o : Nat} {ad : Nat → Nat} {ρ : va_W} {f : xF} {g : xG} {v1 : Int32} {v2 : Int32} {v3 : Int32} {z : Int32} (G : cx_ok γ) (C : CallFix p m c cc nL s as lw_all RX0) (K : wx_C γ A s) (w : wx_w γ A s H locs (cw γ o ad f g ρ)) (hF : pX0_areTogether f g v1 v2 v3 = some z) (hls : ls.size = nL) (hR : rmX0_areTogether.frames + 1 ≤ R.frames ∧ 8 + (4 + 11) + rmX0_areTogether.locals ≤ R.locals) (hW : (rest.map fun v => v.category).sum ≤ 8) (d : decode cc pc = .ok (.invokevirtual 397, 3)) (kk : ∀ (H : Heap) (locs : List Loc), wx_w γ A s H locs (cw γ o ad f g ρ) → W p l e R s m as below meth c H locs cells slots Q (F0 m (pc + 3) ls (.int z :: rest))) (hf : cells ≤ R.cells ∧ slots ≤ R.slots := by exact ⟨Nat.le_of_ble_eq_true rfl, Nat.le_of_ble_eq_true rfl⟩) : W p l e R s m as below meth c H locs cells slots Q (F0 m pc ls (.int v3 :: .int v2 :: .int v1 :: .ref o :: rest)) :=
  wx_callV (n := 3) C K w (mX0_areTogether (l := l) G hF) q991 q993 qs33 q106 q994 rfl rfl (by decide +kernel) (va_recv K.1.1 w.1 (ci := 1) (q0 := 0) rfl rfl) rfl rfl hR hls hW hf d (fun v ws H1 locs1 hp w => by obtain ⟨rfl, rfl⟩ := hp; exact kk H1 locs1 w)

/-! WalkingStones.together(III)I -/
abbrev rmX0_together : Room := { frames := 2, cells := 0, slots := 0, locals := 108 }
def pX0_together_33 (f : xF) (g : xG) : Option (Int32) := some ((-2 : Int32))

def pX0_together_51 (f : xF) (g : xG) (t0 : Int32) : Option (Int32) := some (t0)

def pX0_together_0 (f : xF) (g : xG) (v1 : Int32) (v2 : Int32) (v3 : Int32) : Option (Int32) := (pX0_isTrack f g v1).bind (fun r2 => if r2 = 0 then pX0_together_33 f g else (pX0_isTrack f g v2).bind (fun r10 => if r10 = 0 then pX0_together_33 f g else (if v1 = v2 then pX0_together_33 f g else (pX0_in f g v3.toInt64 (0 : Int64) (99 : Int64)).bind (fun r27 => if r27 = 0 then pX0_together_33 f g else (pX0_areTogether f g v1 v2 v3).bind (fun r40 => if r40 = 0 then pX0_together_51 f g (0 : Int32) else pX0_together_51 f g (1 : Int32))))))

abbrev pX0_together (f : xF) (g : xG) (v1 : Int32) (v2 : Int32) (v3 : Int32) : Option (Int32) := pX0_together_0 f g v1 v2 v3
theorem bX0_together_33 {p : Program} {l : Launch} {e : Env} {s : State} {m : MethodId} {as : Array Value} {below : List Frame} {meth : Method} {c : Code} {A : Nat → Prop} {Q : State → Prop} {γ : wx_G} {o : Nat} {ad : Nat → Nat} {ρ : va_W} {z : Int32} {f : xF} {g : xG} (G : cx_ok γ) (C : CallFix p m c cX0_together 4 s as lw_all RX0) (K : wx_C γ A s) (E : ∀ (H : Heap) (locs : List Loc) (ls : Array Slot) (pc : Nat), wx_w γ A s H locs (cw γ o ad f g ρ) → decode cX0_together pc = .ok (.ireturn, 1) → W p l e rmX0_together s m as below meth c H locs 0 0 Q (F0 m pc ls [.int z])) {H : Heap} {locs : List Loc} {ls : Array Slot} (w : wx_w γ A s H locs (cw γ o ad f g ρ)) (hl : lv_has ls 4 []) (hF : pX0_together_33 f g = some z) : W p l e rmX0_together s m as below meth c H locs 0 0 Q (F0 m 33 ls []) := by
  have hx := C.1
  have hb := C.2.1
  unfold pX0_together_33 at hF
  refine lv_bipush (v := (-2 : Int32)) hx hb dX0_together_33 (by decide) ?_
  have hF := Option.some.inj hF
  subst hF
  exact E _ _ _ _ w dX0_together_35

theorem bX0_together_51 {p : Program} {l : Launch} {e : Env} {s : State} {m : MethodId} {as : Array Value} {below : List Frame} {meth : Method} {c : Code} {A : Nat → Prop} {Q : State → Prop} {γ : wx_G} {o : Nat} {ad : Nat → Nat} {ρ : va_W} {z : Int32} {f : xF} {g : xG} (G : cx_ok γ) (C : CallFix p m c cX0_together 4 s as lw_all RX0) (K : wx_C γ A s) (E : ∀ (H : Heap) (locs : List Loc) (ls : Array Slot) (pc : Nat), wx_w γ A s H locs (cw γ o ad f g ρ) → decode cX0_together pc = .ok (.ireturn, 1) → W p l e rmX0_together s m as below meth c H locs 0 0 Q (F0 m pc ls [.int z])) {t0 : Int32} {H : Heap} {locs : List Loc} {ls : Array Slot} (w : wx_w γ A s H locs (cw γ o ad f g ρ)) (hl : lv_has ls 4 []) (hF : pX0_together_51 f g t0 = some z) : W p l e rmX0_together s m as below meth c H locs 0 0 Q (F0 m 51 ls [.int t0]) := by
  have hx := C.1
  have hb := C.2.1
  unfold pX0_together_51 at hF
  have hF := Option.some.inj hF
  subst hF
  exact E _ _ _ _ w dX0_together_51

theorem bX0_together_0 {p : Program} {l : Launch} {e : Env} {s : State} {m : MethodId} {as : Array Value} {below : List Frame} {meth : Method} {c : Code} {A : Nat → Prop} {Q : State → Prop} {γ : wx_G} {o : Nat} {ad : Nat → Nat} {ρ : va_W} {z : Int32} {f : xF} {g : xG} (G : cx_ok γ) (C : CallFix p m c cX0_together 4 s as lw_all RX0) (K : wx_C γ A s) (E : ∀ (H : Heap) (locs : List Loc) (ls : Array Slot) (pc : Nat), wx_w γ A s H locs (cw γ o ad f g ρ) → decode cX0_together pc = .ok (.ireturn, 1) → W p l e rmX0_together s m as below meth c H locs 0 0 Q (F0 m pc ls [.int z])) {v1 : Int32} {v2 : Int32} {v3 : Int32} {H : Heap} {locs : List Loc} {ls : Array Slot} (w : wx_w γ A s H locs (cw γ o ad f g ρ)) (hl : lv_has ls 4 [(0, .ref o), (1, .int v1), (2, .int v2), (3, .int v3)]) (hF : pX0_together_0 f g v1 v2 v3 = some z) : W p l e rmX0_together s m as below meth c H locs 0 0 Q (F0 m 0 ls []) := by
  have hx := C.1
  have hb := C.2.1
  unfold pX0_together_0 at hF
  refine lv_aload_n hx hb dX0_together_0 rfl (lv_at hl 0 rfl) ?_
  refine lv_iload_n hx hb dX0_together_1 rfl (lv_at hl 1 rfl) ?_
  obtain ⟨r2, hr, hF⟩ := obd hF
  refine rX0_isTrack G C K w hr hl.1 ⟨Nat.le_of_ble_eq_true rfl, Nat.le_of_ble_eq_true rfl⟩ (Nat.le_of_ble_eq_true rfl) dX0_together_2 (fun H locs w => ?_)
  refine lv_if_eq (tgt := 33) hx hb dX0_together_5 (by decide) (fun c => ?_) (fun c => ?_)
  · have hF := (if_pos c).symm.trans hF
    exact bX0_together_33 G C K E w (lv_sub hl [] rfl) hF
  · have hF := (if_neg c).symm.trans hF
    refine lv_aload_n hx hb dX0_together_8 rfl (lv_at hl 0 rfl) ?_
    refine lv_iload_n hx hb dX0_together_9 rfl (lv_at hl 2 rfl) ?_
    obtain ⟨r10, hr, hF⟩ := obd hF
    refine rX0_isTrack G C K w hr hl.1 ⟨Nat.le_of_ble_eq_true rfl, Nat.le_of_ble_eq_true rfl⟩ (Nat.le_of_ble_eq_true rfl) dX0_together_10 (fun H locs w => ?_)
    refine lv_if_eq (tgt := 33) hx hb dX0_together_13 (by decide) (fun c => ?_) (fun c => ?_)
    · have hF := (if_pos c).symm.trans hF
      exact bX0_together_33 G C K E w (lv_sub hl [] rfl) hF
    · have hF := (if_neg c).symm.trans hF
      refine lv_iload_n hx hb dX0_together_16 rfl (lv_at hl 1 rfl) ?_
      refine lv_iload_n hx hb dX0_together_17 rfl (lv_at hl 2 rfl) ?_
      refine lv_icmp_eq (tgt := 33) hx hb dX0_together_18 (by decide) (fun c => ?_) (fun c => ?_)
      · have hF := (if_pos c).symm.trans hF
        exact bX0_together_33 G C K E w (lv_sub hl [] rfl) hF
      · have hF := (if_neg c).symm.trans hF
        refine lv_iload_n hx hb dX0_together_21 rfl (lv_at hl 3 rfl) ?_
        refine lv_i2l hx hb dX0_together_22 rfl ?_
        refine lv_lconst (v := (0 : Int64)) hx hb dX0_together_23 (by decide) ?_
        refine lv_ldc2 (v := (99 : Int64)) hx hb C.2.2.2.1 (C.2.2.2.2 _ q140) dX0_together_24 ?_
        obtain ⟨r27, hr, hF⟩ := obd hF
        refine rX0_in G C K w hr hl.1 ⟨Nat.le_of_ble_eq_true rfl, Nat.le_of_ble_eq_true rfl⟩ (Nat.le_of_ble_eq_true rfl) dX0_together_27 (fun H locs w => ?_)
        refine lv_if_ne (tgt := 36) hx hb dX0_together_30 (by decide) (fun c => ?_) (fun c => ?_)
        · have hF := (if_neg c).symm.trans hF
          refine lv_aload_n hx hb dX0_together_36 rfl (lv_at hl 0 rfl) ?_
          refine lv_iload_n hx hb dX0_together_37 rfl (lv_at hl 1 rfl) ?_
          refine lv_iload_n hx hb dX0_together_38 rfl (lv_at hl 2 rfl) ?_
          refine lv_iload_n hx hb dX0_together_39 rfl (lv_at hl 3 rfl) ?_
          obtain ⟨r40, hr, hF⟩ := obd hF
          refine rX0_areTogether G C K w hr hl.1 ⟨Nat.le_of_ble_eq_true rfl, Nat.le_of_ble_eq_true rfl⟩ (Nat.le_of_ble_eq_true rfl) dX0_together_40 (fun H locs w => ?_)
          refine lv_if_eq (tgt := 50) hx hb dX0_together_43 (by decide) (fun c => ?_) (fun c => ?_)
          · have hF := (if_pos c).symm.trans hF
            refine lv_iconst (v := (0 : Int32)) hx hb dX0_together_50 (by decide) ?_
            exact bX0_together_51 G C K E w (lv_sub hl [] rfl) hF
          · have hF := (if_neg c).symm.trans hF
            refine lv_iconst (v := (1 : Int32)) hx hb dX0_together_46 (by decide) ?_
            refine lv_goto (tgt := 51) hx hb dX0_together_47 (by decide) ?_
            exact bX0_together_51 G C K E w (lv_sub hl [] rfl) hF
        · have hF := (if_pos c).symm.trans hF
          exact bX0_together_33 G C K E w (lv_sub hl [] rfl) hF

theorem mX0_together {l : Launch} {γ : wx_G} {o : Nat} {ad : Nat → Nat} {ρ : va_W} {f : xF} {g : xG} {v1 : Int32} {v2 : Int32} {v3 : Int32} {z : Int32} (G : cx_ok γ) (hF : pX0_together f g v1 v2 v3 = some z) : wx_M γ l yX0_together (ws_ yX0_together cX0_together 4 (some .int)) rmX0_together [.ref o, .int v1, .int v2, .int v3] (cw γ o ad f g ρ) (fun v ws => v = some (.int z) ∧ ws = (cw γ o ad f g ρ)) 0 0 := by
  refine wx_M.of (by decide) (Nat.le_of_ble_eq_true rfl) ?_
  intro p e s m as below meth c A ls C K w hr hlocks _ hl
  exact bX0_together_0 G C K (fun H locs ls pc w d => wx_iret C hr hlocks w ⟨rfl, rfl⟩ d) w hl hF

/-! WalkingStones.fitsNow(I)I -/
abbrev rmX0_fitsNow : Room := { frames := 1, cells := 0, slots := 0, locals := 85 }
def pX0_fitsNow_0 (f : xF) (g : xG) (v1 : Int32) : Option (Int32) := if gin v1 24 = true then if gin v1 24 = true then if gin (g 31 v1.toNatClampNeg) 10 = true then if gin v1 24 = true then if gin (g 31 v1.toNatClampNeg) 10 = true then some (wmax (1 : Int32) (((9 : Int32) - (wabs ((g 32 v1.toNatClampNeg) - (g 28 (g 31 v1.toNatClampNeg).toNatClampNeg)))) - ((3 : Int32) * (wabs ((g 33 v1.toNatClampNeg) - (g 29 (g 31 v1.toNatClampNeg).toNatClampNeg)))))) else none else none else none else none else none

abbrev pX0_fitsNow (f : xF) (g : xG) (v1 : Int32) : Option (Int32) := pX0_fitsNow_0 f g v1
theorem bX0_fitsNow_0 {p : Program} {l : Launch} {e : Env} {s : State} {m : MethodId} {as : Array Value} {below : List Frame} {meth : Method} {c : Code} {A : Nat → Prop} {Q : State → Prop} {γ : wx_G} {o : Nat} {ad : Nat → Nat} {ρ : va_W} {z : Int32} {f : xF} {g : xG} (G : cx_ok γ) (C : CallFix p m c cX0_fitsNow 3 s as lw_all RX0) (K : wx_C γ A s) (E : ∀ (H : Heap) (locs : List Loc) (ls : Array Slot) (pc : Nat), wx_w γ A s H locs (cw γ o ad f g ρ) → decode cX0_fitsNow pc = .ok (.ireturn, 1) → W p l e rmX0_fitsNow s m as below meth c H locs 0 0 Q (F0 m pc ls [.int z])) {v1 : Int32} {H : Heap} {locs : List Loc} {ls : Array Slot} (w : wx_w γ A s H locs (cw γ o ad f g ρ)) (hl : lv_has ls 3 [(0, .ref o), (1, .int v1)]) (hF : pX0_fitsNow_0 f g v1 = some z) : W p l e rmX0_fitsNow s m as below meth c H locs 0 0 Q (F0 m 0 ls []) := by
  have hx := C.1
  have hb := C.2.1
  unfold pX0_fitsNow_0 at hF
  refine lv_aload_n hx hb dX0_fitsNow_0 rfl (lv_at hl 0 rfl) ?_
  refine cget_31 C K w dX0_fitsNow_1 ?_
  refine lv_iload_n hx hb dX0_fitsNow_4 rfl (lv_at hl 1 rfl) ?_
  obtain ⟨hi, hF⟩ := gin_if hF
  refine cald_31 C K w hi dX0_fitsNow_5 ?_
  refine lv_istore_n (lv' := [(2, .int (g 31 v1.toNatClampNeg)), (0, .ref o), (1, .int v1)]) hx hb dX0_fitsNow_6 rfl hl (by decide) rfl (fun ls hl => ?_)
  refine lv_iconst (v := (1 : Int32)) hx hb dX0_fitsNow_7 (by decide) ?_
  refine lv_bipush (v := (9 : Int32)) hx hb dX0_fitsNow_8 (by decide) ?_
  refine lv_aload_n hx hb dX0_fitsNow_10 rfl (lv_at hl 1 rfl) ?_
  refine cget_32 C K w dX0_fitsNow_11 ?_
  refine lv_iload_n hx hb dX0_fitsNow_14 rfl (lv_at hl 2 rfl) ?_
  obtain ⟨hi, hF⟩ := gin_if hF
  refine cald_32 C K w hi dX0_fitsNow_15 ?_
  refine lv_aload_n hx hb dX0_fitsNow_16 rfl (lv_at hl 1 rfl) ?_
  refine cget_28 C K w dX0_fitsNow_17 ?_
  refine lv_iload_n hx hb dX0_fitsNow_20 rfl (lv_at hl 0 rfl) ?_
  obtain ⟨hi, hF⟩ := gin_if hF
  refine cald_28 C K w hi dX0_fitsNow_21 ?_
  refine lv_isub hx hb dX0_fitsNow_22 ?_
  refine cabs C hl.1 (Nat.le_of_ble_eq_true rfl) (Nat.le_of_ble_eq_true rfl) (Nat.le_of_ble_eq_true rfl) (Nat.le_of_ble_eq_true rfl) dX0_fitsNow_23 ?_
  refine lv_isub hx hb dX0_fitsNow_26 ?_
  refine lv_iconst (v := (3 : Int32)) hx hb dX0_fitsNow_27 (by decide) ?_
  refine lv_aload_n hx hb dX0_fitsNow_28 rfl (lv_at hl 1 rfl) ?_
  refine cget_33 C K w dX0_fitsNow_29 ?_
  refine lv_iload_n hx hb dX0_fitsNow_32 rfl (lv_at hl 2 rfl) ?_
  obtain ⟨hi, hF⟩ := gin_if hF
  refine cald_33 C K w hi dX0_fitsNow_33 ?_
  refine lv_aload_n hx hb dX0_fitsNow_34 rfl (lv_at hl 1 rfl) ?_
  refine cget_29 C K w dX0_fitsNow_35 ?_
  refine lv_iload_n hx hb dX0_fitsNow_38 rfl (lv_at hl 0 rfl) ?_
  obtain ⟨hi, hF⟩ := gin_if hF
  refine cald_29 C K w hi dX0_fitsNow_39 ?_
  refine lv_isub hx hb dX0_fitsNow_40 ?_
  refine cabs C hl.1 (Nat.le_of_ble_eq_true rfl) (Nat.le_of_ble_eq_true rfl) (Nat.le_of_ble_eq_true rfl) (Nat.le_of_ble_eq_true rfl) dX0_fitsNow_41 ?_
  refine lv_imul hx hb dX0_fitsNow_44 ?_
  refine lv_isub hx hb dX0_fitsNow_45 ?_
  refine cmax C hl.1 (Nat.le_of_ble_eq_true rfl) (Nat.le_of_ble_eq_true rfl) (Nat.le_of_ble_eq_true rfl) (Nat.le_of_ble_eq_true rfl) dX0_fitsNow_46 ?_
  have hF := Option.some.inj hF
  subst hF
  exact E _ _ _ _ w dX0_fitsNow_49

theorem mX0_fitsNow {l : Launch} {γ : wx_G} {o : Nat} {ad : Nat → Nat} {ρ : va_W} {f : xF} {g : xG} {v1 : Int32} {z : Int32} (G : cx_ok γ) (hF : pX0_fitsNow f g v1 = some z) : wx_M γ l yX0_fitsNow (ws_ yX0_fitsNow cX0_fitsNow 3 (some .int)) rmX0_fitsNow [.ref o, .int v1] (cw γ o ad f g ρ) (fun v ws => v = some (.int z) ∧ ws = (cw γ o ad f g ρ)) 0 0 := by
  refine wx_M.of (by decide) (Nat.le_of_ble_eq_true rfl) ?_
  intro p e s m as below meth c A ls C K w hr hlocks _ hl
  exact bX0_fitsNow_0 G C K (fun H locs ls pc w d => wx_iret C hr hlocks w ⟨rfl, rfl⟩ d) w hl hF
theorem rX0_fitsNow {p : Program} {l : Launch} {e : Env} {R : Room} {s : State} {m : MethodId} {as : Array Value} {below : List Frame} {meth : Method} {c : Code} {H : Heap} {locs : List Loc} {cells slots : Nat} {Q : State → Prop} {cc : ByteArray} {nL pc : Nat} {ls : Array Slot} {rest : List Value} {γ : wx_G} {A : Nat → Prop} {o : Nat} {ad : Nat → Nat} {ρ : va_W} {f : xF} {g : xG} {v1 : Int32} {z : Int32} (G : cx_ok γ) (C : CallFix p m c cc nL s as lw_all RX0) (K : wx_C γ A s) (w : wx_w γ A s H locs (cw γ o ad f g ρ)) (hF : pX0_fitsNow f g v1 = some z) (hls : ls.size = nL) (hR : rmX0_fitsNow.frames + 1 ≤ R.frames ∧ 8 + (3 + 11) + rmX0_fitsNow.locals ≤ R.locals) (hW : (rest.map fun v => v.category).sum ≤ 8) (d : decode cc pc = .ok (.invokevirtual 404, 3)) (kk : ∀ (H : Heap) (locs : List Loc), wx_w γ A s H locs (cw γ o ad f g ρ) → W p l e R s m as below meth c H locs cells slots Q (F0 m (pc + 3) ls (.int z :: rest))) (hf : cells ≤ R.cells ∧ slots ≤ R.slots := by exact ⟨Nat.le_of_ble_eq_true rfl, Nat.le_of_ble_eq_true rfl⟩) : W p l e R s m as below meth c H locs cells slots Q (F0 m pc ls (.int v1 :: .ref o :: rest)) :=
  wx_callV (n := 1) C K w (mX0_fitsNow (l := l) G hF) q1010 q1012 qs35 q106 q1013 rfl rfl (by decide +kernel) (va_recv K.1.1 w.1 (ci := 1) (q0 := 0) rfl rfl) rfl rfl hR hls hW hf d (fun v ws H1 locs1 hp w => by obtain ⟨rfl, rfl⟩ := hp; exact kk H1 locs1 w)

/-! WalkingStones.lowest(JJI)J -/
abbrev rmX0_lowest : Room := { frames := 0, cells := 0, slots := 0, locals := 0 }
def pX0_lowest_56 (f : xF) (g : xG) (t0 : Int64) : Option (Int64) := some (t0)

def pX0_lowest_53 (f : xF) (g : xG) (v5 : Int64) (t0 : Int64) : Option (Int64) := if v5 = 0 then none else pX0_lowest_56 f g (t0 / v5)

def pX0_lowest_31 (f : xF) (g : xG) (v0 : Int64) (v2 : Int64) (v4 : Int32) (v5 : Int64) : Option (Int64) := if (lg_cmp v2 (0 : Int64)) = 0 then pX0_lowest_56 f g v4.toInt64 else (if v4 = 0 then pX0_lowest_53 f g v5 v0 else pX0_lowest_53 f g v5 v2)

def pX0_lowest_6 (f : xF) (g : xG) : Nat → Int64 → Int64 → Int32 → Int64 → Int64 → Option (Int64)
  | 0, _, _, _, _, _ => none
  | n + 1, v0, v2, v4, v5, v7 => if (lg_cmp v7 (0 : Int64)) = 0 then pX0_lowest_31 f g v0 v2 v4 v5 else (if v7 = 0 then none else pX0_lowest_6 f g n v0 v2 v4 v7 (v5 - v5 / v7 * v7))

def pX0_lowest_0 (f : xF) (g : xG) (v0 : Int64) (v2 : Int64) (v4 : Int32) : Option (Int64) := pX0_lowest_6 f g 5000 v0 v2 v4 v0 v2

abbrev pX0_lowest (f : xF) (g : xG) (v0 : Int64) (v2 : Int64) (v4 : Int32) : Option (Int64) := pX0_lowest_0 f g v0 v2 v4
theorem bX0_lowest_56 {p : Program} {l : Launch} {e : Env} {s : State} {m : MethodId} {as : Array Value} {below : List Frame} {meth : Method} {c : Code} {A : Nat → Prop} {Q : State → Prop} {γ : wx_G} {o : Nat} {ad : Nat → Nat} {ρ : va_W} {z : Int64} {f : xF} {g : xG} (G : cx_ok γ) (C : CallFix p m c cX0_lowest 11 s as lw_all RX0) (K : wx_C γ A s) (E : ∀ (H : Heap) (locs : List Loc) (ls : Array Slot) (pc : Nat), wx_w γ A s H locs (cw γ o ad f g ρ) → decode cX0_lowest pc = .ok (.lreturn, 1) → W p l e rmX0_lowest s m as below meth c H locs 0 0 Q (F0 m pc ls [.long z])) {t0 : Int64} {H : Heap} {locs : List Loc} {ls : Array Slot} (w : wx_w γ A s H locs (cw γ o ad f g ρ)) (hl : lv_has ls 11 []) (hF : pX0_lowest_56 f g t0 = some z) : W p l e rmX0_lowest s m as below meth c H locs 0 0 Q (F0 m 56 ls [.long t0]) := by
  have hx := C.1
  have hb := C.2.1
  unfold pX0_lowest_56 at hF
  have hF := Option.some.inj hF
  subst hF
  exact E _ _ _ _ w dX0_lowest_56

theorem bX0_lowest_53 {p : Program} {l : Launch} {e : Env} {s : State} {m : MethodId} {as : Array Value} {below : List Frame} {meth : Method} {c : Code} {A : Nat → Prop} {Q : State → Prop} {γ : wx_G} {o : Nat} {ad : Nat → Nat} {ρ : va_W} {z : Int64} {f : xF} {g : xG} (G : cx_ok γ) (C : CallFix p m c cX0_lowest 11 s as lw_all RX0) (K : wx_C γ A s) (E : ∀ (H : Heap) (locs : List Loc) (ls : Array Slot) (pc : Nat), wx_w γ A s H locs (cw γ o ad f g ρ) → decode cX0_lowest pc = .ok (.lreturn, 1) → W p l e rmX0_lowest s m as below meth c H locs 0 0 Q (F0 m pc ls [.long z])) {v5 : Int64} {t0 : Int64} {H : Heap} {locs : List Loc} {ls : Array Slot} (w : wx_w γ A s H locs (cw γ o ad f g ρ)) (hl : lv_has ls 11 [(5, .long v5)]) (hF : pX0_lowest_53 f g v5 t0 = some z) : W p l e rmX0_lowest s m as below meth c H locs 0 0 Q (F0 m 53 ls [.long t0]) := by
  have hx := C.1
  have hb := C.2.1
  unfold pX0_lowest_53 at hF
  refine lv_lload hx hb dX0_lowest_53 (lv_at hl 0 rfl) ?_
  obtain ⟨hne, hF⟩ := gnz_if hF
  refine lv_ldiv hx hb dX0_lowest_55 hne ?_
  exact bX0_lowest_56 G C K E w (lv_sub hl [] rfl) hF

theorem bX0_lowest_31 {p : Program} {l : Launch} {e : Env} {s : State} {m : MethodId} {as : Array Value} {below : List Frame} {meth : Method} {c : Code} {A : Nat → Prop} {Q : State → Prop} {γ : wx_G} {o : Nat} {ad : Nat → Nat} {ρ : va_W} {z : Int64} {f : xF} {g : xG} (G : cx_ok γ) (C : CallFix p m c cX0_lowest 11 s as lw_all RX0) (K : wx_C γ A s) (E : ∀ (H : Heap) (locs : List Loc) (ls : Array Slot) (pc : Nat), wx_w γ A s H locs (cw γ o ad f g ρ) → decode cX0_lowest pc = .ok (.lreturn, 1) → W p l e rmX0_lowest s m as below meth c H locs 0 0 Q (F0 m pc ls [.long z])) {v0 : Int64} {v2 : Int64} {v4 : Int32} {v5 : Int64} {H : Heap} {locs : List Loc} {ls : Array Slot} (w : wx_w γ A s H locs (cw γ o ad f g ρ)) (hl : lv_has ls 11 [(0, .long v0), (2, .long v2), (4, .int v4), (5, .long v5)]) (hF : pX0_lowest_31 f g v0 v2 v4 v5 = some z) : W p l e rmX0_lowest s m as below meth c H locs 0 0 Q (F0 m 31 ls []) := by
  have hx := C.1
  have hb := C.2.1
  unfold pX0_lowest_31 at hF
  refine lv_lload_n hx hb dX0_lowest_31 rfl (lv_at hl 1 rfl) ?_
  refine lv_lconst (v := (0 : Int64)) hx hb dX0_lowest_32 (by decide) ?_
  refine W.lcmp hx hb dX0_lowest_33 ?_
  refine lv_if_ne (tgt := 43) hx hb dX0_lowest_34 (by decide) (fun c => ?_) (fun c => ?_)
  · have hF := (if_neg c).symm.trans hF
    refine lv_iload hx hb dX0_lowest_43 (lv_at hl 2 rfl) ?_
    refine lv_if_ne (tgt := 52) hx hb dX0_lowest_45 (by decide) (fun c => ?_) (fun c => ?_)
    · have hF := (if_neg c).symm.trans hF
      refine lv_lload_n hx hb dX0_lowest_52 rfl (lv_at hl 1 rfl) ?_
      exact bX0_lowest_53 G C K E w (lv_sub hl [3] rfl) hF
    · have hF := (if_pos c).symm.trans hF
      refine lv_lload_n hx hb dX0_lowest_48 rfl (lv_at hl 0 rfl) ?_
      refine lv_goto (tgt := 53) hx hb dX0_lowest_49 (by decide) ?_
      exact bX0_lowest_53 G C K E w (lv_sub hl [3] rfl) hF
  · have hF := (if_pos c).symm.trans hF
    refine lv_iload hx hb dX0_lowest_37 (lv_at hl 2 rfl) ?_
    refine lv_i2l hx hb dX0_lowest_39 rfl ?_
    refine lv_goto (tgt := 56) hx hb dX0_lowest_40 (by decide) ?_
    exact bX0_lowest_56 G C K E w (lv_sub hl [] rfl) hF

theorem bX0_lowest_6 {p : Program} {l : Launch} {e : Env} {s : State} {m : MethodId} {as : Array Value} {below : List Frame} {meth : Method} {c : Code} {A : Nat → Prop} {Q : State → Prop} {γ : wx_G} {o : Nat} {ad : Nat → Nat} {ρ : va_W} {z : Int64} {f : xF} {g : xG} (G : cx_ok γ) (C : CallFix p m c cX0_lowest 11 s as lw_all RX0) (K : wx_C γ A s) (E : ∀ (H : Heap) (locs : List Loc) (ls : Array Slot) (pc : Nat), wx_w γ A s H locs (cw γ o ad f g ρ) → decode cX0_lowest pc = .ok (.lreturn, 1) → W p l e rmX0_lowest s m as below meth c H locs 0 0 Q (F0 m pc ls [.long z])) : ∀ (n : Nat) (v0 : Int64) (v2 : Int64) (v4 : Int32) (v5 : Int64) (v7 : Int64) (H : Heap) (locs : List Loc) (ls : Array Slot), pX0_lowest_6 f g n v0 v2 v4 v5 v7 = some z → wx_w γ A s H locs (cw γ o ad f g ρ) → lv_has ls 11 [(0, .long v0), (2, .long v2), (4, .int v4), (5, .long v5), (7, .long v7)] → W p l e rmX0_lowest s m as below meth c H locs 0 0 Q (F0 m 6 ls []) := by
  have hx := C.1
  have hb := C.2.1
  intro n
  induction n with
  | zero =>
    intro v0 v2 v4 v5 v7 H locs ls hF w hl
    have hF : (none : Option (Int64)) = some z := hF
    cases hF
  | succ n ih =>
    intro v0 v2 v4 v5 v7 H locs ls hF w hl
    rw [pX0_lowest_6] at hF
    refine lv_lload hx hb dX0_lowest_6 (lv_at hl 4 rfl) ?_
    refine lv_lconst (v := (0 : Int64)) hx hb dX0_lowest_8 (by decide) ?_
    refine W.lcmp hx hb dX0_lowest_9 ?_
    refine lv_if_eq (tgt := 31) hx hb dX0_lowest_10 (by decide) (fun c => ?_) (fun c => ?_)
    · have hF := (if_pos c).symm.trans hF
      exact bX0_lowest_31 G C K E w (lv_sub hl [0, 1, 2, 3] rfl) hF
    · have hF := (if_neg c).symm.trans hF
      refine lv_lload hx hb dX0_lowest_13 (lv_at hl 3 rfl) ?_
      refine lv_lload hx hb dX0_lowest_15 (lv_at hl 4 rfl) ?_
      obtain ⟨hne, hF⟩ := gnz_if hF
      refine lv_lrem hx hb dX0_lowest_17 hne ?_
      refine lv_lstore (lv' := [(9, .long (v5 - v5 / v7 * v7)), (0, .long v0), (2, .long v2), (4, .int v4), (5, .long v5), (7, .long v7)]) hx hb dX0_lowest_18 hl (by decide) rfl (fun ls hl => ?_)
      refine lv_lload hx hb dX0_lowest_20 (lv_at hl 5 rfl) ?_
      refine lv_lstore (lv' := [(5, .long v7), (9, .long (v5 - v5 / v7 * v7)), (0, .long v0), (2, .long v2), (4, .int v4), (7, .long v7)]) hx hb dX0_lowest_22 hl (by decide) rfl (fun ls hl => ?_)
      refine lv_lload hx hb dX0_lowest_24 (lv_at hl 1 rfl) ?_
      refine lv_lstore (lv' := [(7, .long (v5 - v5 / v7 * v7)), (5, .long v7), (9, .long (v5 - v5 / v7 * v7)), (0, .long v0), (2, .long v2), (4, .int v4)]) hx hb dX0_lowest_26 hl (by decide) rfl (fun ls hl => ?_)
      refine lv_goto (tgt := 6) hx hb dX0_lowest_28 (by decide) ?_
      exact ih _ _ _ _ _ _ _ _ hF w (lv_sub hl [3, 4, 5, 1, 0] rfl)

theorem bX0_lowest_0 {p : Program} {l : Launch} {e : Env} {s : State} {m : MethodId} {as : Array Value} {below : List Frame} {meth : Method} {c : Code} {A : Nat → Prop} {Q : State → Prop} {γ : wx_G} {o : Nat} {ad : Nat → Nat} {ρ : va_W} {z : Int64} {f : xF} {g : xG} (G : cx_ok γ) (C : CallFix p m c cX0_lowest 11 s as lw_all RX0) (K : wx_C γ A s) (E : ∀ (H : Heap) (locs : List Loc) (ls : Array Slot) (pc : Nat), wx_w γ A s H locs (cw γ o ad f g ρ) → decode cX0_lowest pc = .ok (.lreturn, 1) → W p l e rmX0_lowest s m as below meth c H locs 0 0 Q (F0 m pc ls [.long z])) {v0 : Int64} {v2 : Int64} {v4 : Int32} {H : Heap} {locs : List Loc} {ls : Array Slot} (w : wx_w γ A s H locs (cw γ o ad f g ρ)) (hl : lv_has ls 11 [(0, .long v0), (2, .long v2), (4, .int v4)]) (hF : pX0_lowest_0 f g v0 v2 v4 = some z) : W p l e rmX0_lowest s m as below meth c H locs 0 0 Q (F0 m 0 ls []) := by
  have hx := C.1
  have hb := C.2.1
  unfold pX0_lowest_0 at hF
  refine lv_lload_n hx hb dX0_lowest_0 rfl (lv_at hl 0 rfl) ?_
  refine lv_lstore (lv' := [(5, .long v0), (0, .long v0), (2, .long v2), (4, .int v4)]) hx hb dX0_lowest_1 hl (by decide) rfl (fun ls hl => ?_)
  refine lv_lload_n hx hb dX0_lowest_3 rfl (lv_at hl 2 rfl) ?_
  refine lv_lstore (lv' := [(7, .long v2), (5, .long v0), (0, .long v0), (2, .long v2), (4, .int v4)]) hx hb dX0_lowest_4 hl (by decide) rfl (fun ls hl => ?_)
  exact bX0_lowest_6 G C K E 5000 _ _ _ _ _ _ _ _ hF w (lv_sub hl [2, 3, 4, 1, 0] rfl)

theorem mX0_lowest {l : Launch} {γ : wx_G} {o : Nat} {ad : Nat → Nat} {ρ : va_W} {f : xF} {g : xG} {v0 : Int64} {v2 : Int64} {v4 : Int32} {z : Int64} (G : cx_ok γ) (hF : pX0_lowest f g v0 v2 v4 = some z) : wx_M γ l yX0_lowest (ws_ yX0_lowest cX0_lowest 11 (some .long)) rmX0_lowest [.long v0, .long v2, .int v4] (cw γ o ad f g ρ) (fun v ws => v = some (.long z) ∧ ws = (cw γ o ad f g ρ)) 0 0 := by
  refine wx_M.of (by decide) (Nat.le_of_ble_eq_true rfl) ?_
  intro p e s m as below meth c A ls C K w hr hlocks _ hl
  exact bX0_lowest_0 G C K (fun H locs ls pc w d => wx_lret C hr hlocks w ⟨rfl, rfl⟩ d) w hl hF
theorem rX0_lowest {p : Program} {l : Launch} {e : Env} {R : Room} {s : State} {m : MethodId} {as : Array Value} {below : List Frame} {meth : Method} {c : Code} {H : Heap} {locs : List Loc} {cells slots : Nat} {Q : State → Prop} {cc : ByteArray} {nL pc : Nat} {ls : Array Slot} {rest : List Value} {γ : wx_G} {A : Nat → Prop} {o : Nat} {ad : Nat → Nat} {ρ : va_W} {f : xF} {g : xG} {v0 : Int64} {v2 : Int64} {v4 : Int32} {z : Int64} (G : cx_ok γ) (C : CallFix p m c cc nL s as lw_all RX0) (K : wx_C γ A s) (w : wx_w γ A s H locs (cw γ o ad f g ρ)) (hF : pX0_lowest f g v0 v2 v4 = some z) (hls : ls.size = nL) (hR : rmX0_lowest.frames + 1 ≤ R.frames ∧ 8 + (11 + 11) + rmX0_lowest.locals ≤ R.locals) (hW : (rest.map fun v => v.category).sum ≤ 8) (d : decode cc pc = .ok (.invokestatic 413, 3)) (kk : ∀ (H : Heap) (locs : List Loc), wx_w γ A s H locs (cw γ o ad f g ρ) → W p l e R s m as below meth c H locs cells slots Q (F0 m (pc + 3) ls (.long z :: rest))) (hf : cells ≤ R.cells ∧ slots ≤ R.slots := by exact ⟨Nat.le_of_ble_eq_true rfl, Nat.le_of_ble_eq_true rfl⟩) : W p l e R s m as below meth c H locs cells slots Q (F0 m pc ls (.int v4 :: .long v2 :: .long v0 :: rest)) :=
  wx_callS (n := 3) C K w (mX0_lowest (l := l) G hF) q1023 q1024 q106 q1025 rfl rfl (by decide +kernel) rfl rfl hR hls hW hf d (fun v ws H1 locs1 hp w => by obtain ⟨rfl, rfl⟩ := hp; exact kk H1 locs1 w)

/-! WalkingStones.peg(I)I -/
abbrev rmX0_peg : Room := { frames := 2, cells := 0, slots := 0, locals := 45 }
def pX0_peg_0 (f : xF) (g : xG) (v1 : Int32) : Option (Int32 × xF × xG) := (pX0_isPlace f g v1).bind (fun r1 => if r1 = 0 then some ((-2 : Int32), f, g) else (if (f 36) = (8 : Int32) then some ((-4 : Int32), f, g) else (if gin (f 36) 8 = true then some ((upd f 36 ((f 36) + (1 : Int32))) 36, upd f 36 ((f 36) + (1 : Int32)), va_up g 35 (upd (g 35) (f 36).toNatClampNeg v1)) else none)))

abbrev pX0_peg (f : xF) (g : xG) (v1 : Int32) : Option (Int32 × xF × xG) := pX0_peg_0 f g v1
theorem bX0_peg_0 {p : Program} {l : Launch} {e : Env} {s : State} {m : MethodId} {as : Array Value} {below : List Frame} {meth : Method} {c : Code} {A : Nat → Prop} {Q : State → Prop} {γ : wx_G} {o : Nat} {ad : Nat → Nat} {ρ : va_W} {z : Int32 × xF × xG} (G : cx_ok γ) (C : CallFix p m c cX0_peg 2 s as lw_all RX0) (K : wx_C γ A s) (E : ∀ (H : Heap) (locs : List Loc) (ls : Array Slot) (pc : Nat), wx_w γ A s H locs (cw γ o ad z.2.1 z.2.2 ρ) → decode cX0_peg pc = .ok (.ireturn, 1) → W p l e rmX0_peg s m as below meth c H locs 0 0 Q (F0 m pc ls [.int z.1])) {f : xF} {g : xG} {v1 : Int32} {H : Heap} {locs : List Loc} {ls : Array Slot} (w : wx_w γ A s H locs (cw γ o ad f g ρ)) (hl : lv_has ls 2 [(0, .ref o), (1, .int v1)]) (hF : pX0_peg_0 f g v1 = some z) : W p l e rmX0_peg s m as below meth c H locs 0 0 Q (F0 m 0 ls []) := by
  have hx := C.1
  have hb := C.2.1
  unfold pX0_peg_0 at hF
  refine lv_iload_n hx hb dX0_peg_0 rfl (lv_at hl 1 rfl) ?_
  obtain ⟨r1, hr, hF⟩ := obd hF
  refine rX0_isPlace G C K w hr hl.1 ⟨Nat.le_of_ble_eq_true rfl, Nat.le_of_ble_eq_true rfl⟩ (Nat.le_of_ble_eq_true rfl) dX0_peg_1 (fun H locs w => ?_)
  refine lv_if_ne (tgt := 10) hx hb dX0_peg_4 (by decide) (fun c => ?_) (fun c => ?_)
  · have hF := (if_neg c).symm.trans hF
    refine lv_aload_n hx hb dX0_peg_10 rfl (lv_at hl 0 rfl) ?_
    refine cget_36 C K w dX0_peg_11 ?_
    refine lv_bipush (v := (8 : Int32)) hx hb dX0_peg_14 (by decide) ?_
    refine lv_icmp_ne (tgt := 22) hx hb dX0_peg_16 (by decide) (fun c => ?_) (fun c => ?_)
    · have hF := (if_neg c).symm.trans hF
      refine lv_aload_n hx hb dX0_peg_22 rfl (lv_at hl 0 rfl) ?_
      refine cget_35 C K w dX0_peg_23 ?_
      refine lv_aload_n hx hb dX0_peg_26 rfl (lv_at hl 0 rfl) ?_
      refine cget_36 C K w dX0_peg_27 ?_
      refine lv_iload_n hx hb dX0_peg_30 rfl (lv_at hl 1 rfl) ?_
      obtain ⟨hi, hF⟩ := gin_if hF
      refine cast_35 C K w hi dX0_peg_31 (fun H locs w => ?_)
      refine lv_aload_n hx hb dX0_peg_32 rfl (lv_at hl 0 rfl) ?_
      refine lv_dup hx hb dX0_peg_33 rfl ?_
      refine cget_36 C K w dX0_peg_34 ?_
      refine lv_iconst (v := (1 : Int32)) hx hb dX0_peg_37 (by decide) ?_
      refine lv_iadd hx hb dX0_peg_38 ?_
      refine cput_36 C K w dX0_peg_39 (fun H locs w => ?_)
      refine lv_aload_n hx hb dX0_peg_42 rfl (lv_at hl 0 rfl) ?_
      refine cget_36 C K w dX0_peg_43 ?_
      have hF := Option.some.inj hF
      subst hF
      exact E _ _ _ _ w dX0_peg_46
    · have hF := (if_pos c).symm.trans hF
      refine lv_bipush (v := (-4 : Int32)) hx hb dX0_peg_19 (by decide) ?_
      have hF := Option.some.inj hF
      subst hF
      exact E _ _ _ _ w dX0_peg_21
  · have hF := (if_pos c).symm.trans hF
    refine lv_bipush (v := (-2 : Int32)) hx hb dX0_peg_7 (by decide) ?_
    have hF := Option.some.inj hF
    subst hF
    exact E _ _ _ _ w dX0_peg_9

theorem mX0_peg {l : Launch} {γ : wx_G} {o : Nat} {ad : Nat → Nat} {ρ : va_W} {f : xF} {g : xG} {v1 : Int32} {z : Int32 × xF × xG} (G : cx_ok γ) (hF : pX0_peg f g v1 = some z) : wx_M γ l yX0_peg (ws_ yX0_peg cX0_peg 2 (some .int)) rmX0_peg [.ref o, .int v1] (cw γ o ad f g ρ) (fun v ws => v = some (.int z.1) ∧ ws = (cw γ o ad z.2.1 z.2.2 ρ)) 0 0 := by
  refine wx_M.of (by decide) (Nat.le_of_ble_eq_true rfl) ?_
  intro p e s m as below meth c A ls C K w hr hlocks _ hl
  exact bX0_peg_0 G C K (fun H locs ls pc w d => wx_iret C hr hlocks w ⟨rfl, rfl⟩ d) w hl hF

/-! WalkingStones.doHold(II)Z -/
abbrev rmX0_doHold : Room := { frames := 1, cells := 0, slots := 0, locals := 25 }
def pX0_doHold_148 (f : xF) (g : xG) (t0 : Int32) : Option (Int32) := if gbz t0 = true then some (t0) else none

def pX0_doHold_137 (f : xF) (g : xG) (v3 : Int32) : Option (Int32) := if v3 = (15 : Int32) then pX0_doHold_148 f g (1 : Int32) else pX0_doHold_148 f g (0 : Int32)

def pX0_doHold_129 (f : xF) (g : xG) (k5 : Int32 → Int32 → Int32 → Int32 → Option (Int32)) (v1 : Int32) (v2 : Int32) (v4 : Int32) (t0 : Int32) (t1 : Int32) : Option (Int32) := k5 v1 v2 (t0 ||| t1) (v4 + 1)

def pX0_doHold_108 (f : xF) (g : xG) (k5 : Int32 → Int32 → Int32 → Int32 → Option (Int32)) (v1 : Int32) (v2 : Int32) (v4 : Int32) (v5 : Int32) (t0 : Int32) (t1 : Int32) : Option (Int32) := (pX0_in f g v5.toInt64 (1 : Int64) v2.toInt64).bind (fun r117 => if r117 = 0 then pX0_doHold_129 f g k5 v1 v2 v4 (t0 ||| t1) (0 : Int32) else pX0_doHold_129 f g k5 v1 v2 v4 (t0 ||| t1) (8 : Int32))

def pX0_doHold_87 (f : xF) (g : xG) (k5 : Int32 → Int32 → Int32 → Int32 → Option (Int32)) (v1 : Int32) (v2 : Int32) (v4 : Int32) (v5 : Int32) (t0 : Int32) (t1 : Int32) : Option (Int32) := (pX0_in f g ((-v5).toInt64) (1 : Int64) v2.toInt64).bind (fun r97 => if r97 = 0 then pX0_doHold_108 f g k5 v1 v2 v4 v5 (t0 ||| t1) (0 : Int32) else pX0_doHold_108 f g k5 v1 v2 v4 v5 (t0 ||| t1) (4 : Int32))

def pX0_doHold_67 (f : xF) (g : xG) (k5 : Int32 → Int32 → Int32 → Int32 → Option (Int32)) (v1 : Int32) (v2 : Int32) (v4 : Int32) (v5 : Int32) (v6 : Int32) (t0 : Int32) (t1 : Int32) : Option (Int32) := (pX0_in f g v6.toInt64 (1 : Int64) v2.toInt64).bind (fun r76 => if r76 = 0 then pX0_doHold_87 f g k5 v1 v2 v4 v5 (t0 ||| t1) (0 : Int32) else pX0_doHold_87 f g k5 v1 v2 v4 v5 (t0 ||| t1) (2 : Int32))

def pX0_doHold_5 (f : xF) (g : xG) : Nat → Int32 → Int32 → Int32 → Int32 → Option (Int32)
  | 0, _, _, _, _ => none
  | n + 1, v1, v2, v3, v4 => if (f 36) ≤ v4 then pX0_doHold_137 f g v3 else (if gin v4 8 = true then if gin v4 8 = true then (pX0_in f g ((-(((g 35 v4.toNatClampNeg) / (64 : Int32)) - (v1 / (64 : Int32)))).toInt64) (1 : Int64) v2.toInt64).bind (fun r56 => if r56 = 0 then pX0_doHold_67 f g (pX0_doHold_5 f g n) v1 v2 v4 (((g 35 v4.toNatClampNeg) - (g 35 v4.toNatClampNeg) / (64 : Int32) * (64 : Int32)) - (v1 - v1 / (64 : Int32) * (64 : Int32))) (((g 35 v4.toNatClampNeg) / (64 : Int32)) - (v1 / (64 : Int32))) v3 (0 : Int32) else pX0_doHold_67 f g (pX0_doHold_5 f g n) v1 v2 v4 (((g 35 v4.toNatClampNeg) - (g 35 v4.toNatClampNeg) / (64 : Int32) * (64 : Int32)) - (v1 - v1 / (64 : Int32) * (64 : Int32))) (((g 35 v4.toNatClampNeg) / (64 : Int32)) - (v1 / (64 : Int32))) v3 (1 : Int32)) else none else none)

def pX0_doHold_0 (f : xF) (g : xG) (v1 : Int32) (v2 : Int32) : Option (Int32) := pX0_doHold_5 f g 5000 v1 v2 (0 : Int32) (0 : Int32)

abbrev pX0_doHold (f : xF) (g : xG) (v1 : Int32) (v2 : Int32) : Option (Int32) := pX0_doHold_0 f g v1 v2
theorem bX0_doHold_148 {p : Program} {l : Launch} {e : Env} {s : State} {m : MethodId} {as : Array Value} {below : List Frame} {meth : Method} {c : Code} {A : Nat → Prop} {Q : State → Prop} {γ : wx_G} {o : Nat} {ad : Nat → Nat} {ρ : va_W} {z : Int32} {f : xF} {g : xG} (G : cx_ok γ) (C : CallFix p m c cX0_doHold 7 s as lw_all RX0) (K : wx_C γ A s) (E : ∀ (H : Heap) (locs : List Loc) (ls : Array Slot) (pc : Nat), narrow .boolean (.int z) = .int z → wx_w γ A s H locs (cw γ o ad f g ρ) → decode cX0_doHold pc = .ok (.ireturn, 1) → W p l e rmX0_doHold s m as below meth c H locs 0 0 Q (F0 m pc ls [.int z])) {t0 : Int32} {H : Heap} {locs : List Loc} {ls : Array Slot} (w : wx_w γ A s H locs (cw γ o ad f g ρ)) (hl : lv_has ls 7 []) (hF : pX0_doHold_148 f g t0 = some z) : W p l e rmX0_doHold s m as below meth c H locs 0 0 Q (F0 m 148 ls [.int t0]) := by
  have hx := C.1
  have hb := C.2.1
  unfold pX0_doHold_148 at hF
  obtain ⟨hz, hF⟩ := gbz_if hF
  have hF := Option.some.inj hF
  subst hF
  exact E _ _ _ _ hz w dX0_doHold_148

theorem bX0_doHold_137 {p : Program} {l : Launch} {e : Env} {s : State} {m : MethodId} {as : Array Value} {below : List Frame} {meth : Method} {c : Code} {A : Nat → Prop} {Q : State → Prop} {γ : wx_G} {o : Nat} {ad : Nat → Nat} {ρ : va_W} {z : Int32} {f : xF} {g : xG} (G : cx_ok γ) (C : CallFix p m c cX0_doHold 7 s as lw_all RX0) (K : wx_C γ A s) (E : ∀ (H : Heap) (locs : List Loc) (ls : Array Slot) (pc : Nat), narrow .boolean (.int z) = .int z → wx_w γ A s H locs (cw γ o ad f g ρ) → decode cX0_doHold pc = .ok (.ireturn, 1) → W p l e rmX0_doHold s m as below meth c H locs 0 0 Q (F0 m pc ls [.int z])) {v3 : Int32} {H : Heap} {locs : List Loc} {ls : Array Slot} (w : wx_w γ A s H locs (cw γ o ad f g ρ)) (hl : lv_has ls 7 [(3, .int v3)]) (hF : pX0_doHold_137 f g v3 = some z) : W p l e rmX0_doHold s m as below meth c H locs 0 0 Q (F0 m 137 ls []) := by
  have hx := C.1
  have hb := C.2.1
  unfold pX0_doHold_137 at hF
  refine lv_iload_n hx hb dX0_doHold_137 rfl (lv_at hl 0 rfl) ?_
  refine lv_bipush (v := (15 : Int32)) hx hb dX0_doHold_138 (by decide) ?_
  refine lv_icmp_ne (tgt := 147) hx hb dX0_doHold_140 (by decide) (fun c => ?_) (fun c => ?_)
  · have hF := (if_neg c).symm.trans hF
    refine lv_iconst (v := (0 : Int32)) hx hb dX0_doHold_147 (by decide) ?_
    exact bX0_doHold_148 G C K E w (lv_sub hl [] rfl) hF
  · have hF := (if_pos c).symm.trans hF
    refine lv_iconst (v := (1 : Int32)) hx hb dX0_doHold_143 (by decide) ?_
    refine lv_goto (tgt := 148) hx hb dX0_doHold_144 (by decide) ?_
    exact bX0_doHold_148 G C K E w (lv_sub hl [] rfl) hF

theorem bX0_doHold_129 {p : Program} {l : Launch} {e : Env} {s : State} {m : MethodId} {as : Array Value} {below : List Frame} {meth : Method} {c : Code} {A : Nat → Prop} {Q : State → Prop} {γ : wx_G} {o : Nat} {ad : Nat → Nat} {ρ : va_W} {z : Int32} {f : xF} {g : xG} (G : cx_ok γ) (C : CallFix p m c cX0_doHold 7 s as lw_all RX0) (K : wx_C γ A s) (E : ∀ (H : Heap) (locs : List Loc) (ls : Array Slot) (pc : Nat), narrow .boolean (.int z) = .int z → wx_w γ A s H locs (cw γ o ad f g ρ) → decode cX0_doHold pc = .ok (.ireturn, 1) → W p l e rmX0_doHold s m as below meth c H locs 0 0 Q (F0 m pc ls [.int z])) {k5 : Int32 → Int32 → Int32 → Int32 → Option (Int32)} (hk5 : ∀ (v1 : Int32) (v2 : Int32) (v3 : Int32) (v4 : Int32) (H : Heap) (locs : List Loc) (ls : Array Slot), k5 v1 v2 v3 v4 = some z → wx_w γ A s H locs (cw γ o ad f g ρ) → lv_has ls 7 [(0, .ref o), (1, .int v1), (2, .int v2), (3, .int v3), (4, .int v4)] → W p l e rmX0_doHold s m as below meth c H locs 0 0 Q (F0 m 5 ls [])) {v1 : Int32} {v2 : Int32} {v4 : Int32} {t0 : Int32} {t1 : Int32} {H : Heap} {locs : List Loc} {ls : Array Slot} (w : wx_w γ A s H locs (cw γ o ad f g ρ)) (hl : lv_has ls 7 [(0, .ref o), (1, .int v1), (2, .int v2), (4, .int v4)]) (hF : pX0_doHold_129 f g k5 v1 v2 v4 t0 t1 = some z) : W p l e rmX0_doHold s m as below meth c H locs 0 0 Q (F0 m 129 ls [.int t1, .int t0]) := by
  have hx := C.1
  have hb := C.2.1
  unfold pX0_doHold_129 at hF
  refine lv_ior hx hb dX0_doHold_129 ?_
  refine lv_istore_n (lv' := [(3, .int (t0 ||| t1)), (0, .ref o), (1, .int v1), (2, .int v2), (4, .int v4)]) hx hb dX0_doHold_130 rfl hl (by decide) rfl (fun ls hl => ?_)
  refine lv_iinc (v := v4 + 1) (lv' := [(4, .int (v4 + 1)), (3, .int (t0 ||| t1)), (0, .ref o), (1, .int v1), (2, .int v2)]) hx hb dX0_doHold_131 hl (k := 4) rfl rfl (by decide) rfl (fun ls hl => ?_)
  refine lv_goto (tgt := 5) hx hb dX0_doHold_134 (by decide) ?_
  exact hk5 _ _ _ _ _ _ _ hF w (lv_sub hl [2, 3, 4, 1, 0] rfl)

theorem bX0_doHold_108 {p : Program} {l : Launch} {e : Env} {s : State} {m : MethodId} {as : Array Value} {below : List Frame} {meth : Method} {c : Code} {A : Nat → Prop} {Q : State → Prop} {γ : wx_G} {o : Nat} {ad : Nat → Nat} {ρ : va_W} {z : Int32} {f : xF} {g : xG} (G : cx_ok γ) (C : CallFix p m c cX0_doHold 7 s as lw_all RX0) (K : wx_C γ A s) (E : ∀ (H : Heap) (locs : List Loc) (ls : Array Slot) (pc : Nat), narrow .boolean (.int z) = .int z → wx_w γ A s H locs (cw γ o ad f g ρ) → decode cX0_doHold pc = .ok (.ireturn, 1) → W p l e rmX0_doHold s m as below meth c H locs 0 0 Q (F0 m pc ls [.int z])) {k5 : Int32 → Int32 → Int32 → Int32 → Option (Int32)} (hk5 : ∀ (v1 : Int32) (v2 : Int32) (v3 : Int32) (v4 : Int32) (H : Heap) (locs : List Loc) (ls : Array Slot), k5 v1 v2 v3 v4 = some z → wx_w γ A s H locs (cw γ o ad f g ρ) → lv_has ls 7 [(0, .ref o), (1, .int v1), (2, .int v2), (3, .int v3), (4, .int v4)] → W p l e rmX0_doHold s m as below meth c H locs 0 0 Q (F0 m 5 ls [])) {v1 : Int32} {v2 : Int32} {v4 : Int32} {v5 : Int32} {t0 : Int32} {t1 : Int32} {H : Heap} {locs : List Loc} {ls : Array Slot} (w : wx_w γ A s H locs (cw γ o ad f g ρ)) (hl : lv_has ls 7 [(0, .ref o), (1, .int v1), (2, .int v2), (4, .int v4), (5, .int v5)]) (hF : pX0_doHold_108 f g k5 v1 v2 v4 v5 t0 t1 = some z) : W p l e rmX0_doHold s m as below meth c H locs 0 0 Q (F0 m 108 ls [.int t1, .int t0]) := by
  have hx := C.1
  have hb := C.2.1
  unfold pX0_doHold_108 at hF
  refine lv_ior hx hb dX0_doHold_108 ?_
  refine lv_istore_n (lv' := [(3, .int (t0 ||| t1)), (0, .ref o), (1, .int v1), (2, .int v2), (4, .int v4), (5, .int v5)]) hx hb dX0_doHold_109 rfl hl (by decide) rfl (fun ls hl => ?_)
  refine lv_iload_n hx hb dX0_doHold_110 rfl (lv_at hl 0 rfl) ?_
  refine lv_iload hx hb dX0_doHold_111 (lv_at hl 5 rfl) ?_
  refine lv_i2l hx hb dX0_doHold_113 rfl ?_
  refine lv_lconst (v := (1 : Int64)) hx hb dX0_doHold_114 (by decide) ?_
  refine lv_iload_n hx hb dX0_doHold_115 rfl (lv_at hl 3 rfl) ?_
  refine lv_i2l hx hb dX0_doHold_116 rfl ?_
  obtain ⟨r117, hr, hF⟩ := obd hF
  refine rX0_in G C K w hr hl.1 ⟨Nat.le_of_ble_eq_true rfl, Nat.le_of_ble_eq_true rfl⟩ (Nat.le_of_ble_eq_true rfl) dX0_doHold_117 (fun H locs w => ?_)
  refine lv_if_eq (tgt := 128) hx hb dX0_doHold_120 (by decide) (fun c => ?_) (fun c => ?_)
  · have hF := (if_pos c).symm.trans hF
    refine lv_iconst (v := (0 : Int32)) hx hb dX0_doHold_128 (by decide) ?_
    exact bX0_doHold_129 G C K E hk5 w (lv_sub hl [1, 2, 3, 4] rfl) hF
  · have hF := (if_neg c).symm.trans hF
    refine lv_bipush (v := (8 : Int32)) hx hb dX0_doHold_123 (by decide) ?_
    refine lv_goto (tgt := 129) hx hb dX0_doHold_125 (by decide) ?_
    exact bX0_doHold_129 G C K E hk5 w (lv_sub hl [1, 2, 3, 4] rfl) hF

theorem bX0_doHold_87 {p : Program} {l : Launch} {e : Env} {s : State} {m : MethodId} {as : Array Value} {below : List Frame} {meth : Method} {c : Code} {A : Nat → Prop} {Q : State → Prop} {γ : wx_G} {o : Nat} {ad : Nat → Nat} {ρ : va_W} {z : Int32} {f : xF} {g : xG} (G : cx_ok γ) (C : CallFix p m c cX0_doHold 7 s as lw_all RX0) (K : wx_C γ A s) (E : ∀ (H : Heap) (locs : List Loc) (ls : Array Slot) (pc : Nat), narrow .boolean (.int z) = .int z → wx_w γ A s H locs (cw γ o ad f g ρ) → decode cX0_doHold pc = .ok (.ireturn, 1) → W p l e rmX0_doHold s m as below meth c H locs 0 0 Q (F0 m pc ls [.int z])) {k5 : Int32 → Int32 → Int32 → Int32 → Option (Int32)} (hk5 : ∀ (v1 : Int32) (v2 : Int32) (v3 : Int32) (v4 : Int32) (H : Heap) (locs : List Loc) (ls : Array Slot), k5 v1 v2 v3 v4 = some z → wx_w γ A s H locs (cw γ o ad f g ρ) → lv_has ls 7 [(0, .ref o), (1, .int v1), (2, .int v2), (3, .int v3), (4, .int v4)] → W p l e rmX0_doHold s m as below meth c H locs 0 0 Q (F0 m 5 ls [])) {v1 : Int32} {v2 : Int32} {v4 : Int32} {v5 : Int32} {t0 : Int32} {t1 : Int32} {H : Heap} {locs : List Loc} {ls : Array Slot} (w : wx_w γ A s H locs (cw γ o ad f g ρ)) (hl : lv_has ls 7 [(0, .ref o), (1, .int v1), (2, .int v2), (4, .int v4), (5, .int v5)]) (hF : pX0_doHold_87 f g k5 v1 v2 v4 v5 t0 t1 = some z) : W p l e rmX0_doHold s m as below meth c H locs 0 0 Q (F0 m 87 ls [.int t1, .int t0]) := by
  have hx := C.1
  have hb := C.2.1
  unfold pX0_doHold_87 at hF
  refine lv_ior hx hb dX0_doHold_87 ?_
  refine lv_istore_n (lv' := [(3, .int (t0 ||| t1)), (0, .ref o), (1, .int v1), (2, .int v2), (4, .int v4), (5, .int v5)]) hx hb dX0_doHold_88 rfl hl (by decide) rfl (fun ls hl => ?_)
  refine lv_iload_n hx hb dX0_doHold_89 rfl (lv_at hl 0 rfl) ?_
  refine lv_iload hx hb dX0_doHold_90 (lv_at hl 5 rfl) ?_
  refine lv_ineg hx hb dX0_doHold_92 ?_
  refine lv_i2l hx hb dX0_doHold_93 rfl ?_
  refine lv_lconst (v := (1 : Int64)) hx hb dX0_doHold_94 (by decide) ?_
  refine lv_iload_n hx hb dX0_doHold_95 rfl (lv_at hl 3 rfl) ?_
  refine lv_i2l hx hb dX0_doHold_96 rfl ?_
  obtain ⟨r97, hr, hF⟩ := obd hF
  refine rX0_in G C K w hr hl.1 ⟨Nat.le_of_ble_eq_true rfl, Nat.le_of_ble_eq_true rfl⟩ (Nat.le_of_ble_eq_true rfl) dX0_doHold_97 (fun H locs w => ?_)
  refine lv_if_eq (tgt := 107) hx hb dX0_doHold_100 (by decide) (fun c => ?_) (fun c => ?_)
  · have hF := (if_pos c).symm.trans hF
    refine lv_iconst (v := (0 : Int32)) hx hb dX0_doHold_107 (by decide) ?_
    exact bX0_doHold_108 G C K E hk5 w (lv_sub hl [1, 2, 3, 4, 5] rfl) hF
  · have hF := (if_neg c).symm.trans hF
    refine lv_iconst (v := (4 : Int32)) hx hb dX0_doHold_103 (by decide) ?_
    refine lv_goto (tgt := 108) hx hb dX0_doHold_104 (by decide) ?_
    exact bX0_doHold_108 G C K E hk5 w (lv_sub hl [1, 2, 3, 4, 5] rfl) hF

theorem bX0_doHold_67 {p : Program} {l : Launch} {e : Env} {s : State} {m : MethodId} {as : Array Value} {below : List Frame} {meth : Method} {c : Code} {A : Nat → Prop} {Q : State → Prop} {γ : wx_G} {o : Nat} {ad : Nat → Nat} {ρ : va_W} {z : Int32} {f : xF} {g : xG} (G : cx_ok γ) (C : CallFix p m c cX0_doHold 7 s as lw_all RX0) (K : wx_C γ A s) (E : ∀ (H : Heap) (locs : List Loc) (ls : Array Slot) (pc : Nat), narrow .boolean (.int z) = .int z → wx_w γ A s H locs (cw γ o ad f g ρ) → decode cX0_doHold pc = .ok (.ireturn, 1) → W p l e rmX0_doHold s m as below meth c H locs 0 0 Q (F0 m pc ls [.int z])) {k5 : Int32 → Int32 → Int32 → Int32 → Option (Int32)} (hk5 : ∀ (v1 : Int32) (v2 : Int32) (v3 : Int32) (v4 : Int32) (H : Heap) (locs : List Loc) (ls : Array Slot), k5 v1 v2 v3 v4 = some z → wx_w γ A s H locs (cw γ o ad f g ρ) → lv_has ls 7 [(0, .ref o), (1, .int v1), (2, .int v2), (3, .int v3), (4, .int v4)] → W p l e rmX0_doHold s m as below meth c H locs 0 0 Q (F0 m 5 ls [])) {v1 : Int32} {v2 : Int32} {v4 : Int32} {v5 : Int32} {v6 : Int32} {t0 : Int32} {t1 : Int32} {H : Heap} {locs : List Loc} {ls : Array Slot} (w : wx_w γ A s H locs (cw γ o ad f g ρ)) (hl : lv_has ls 7 [(0, .ref o), (1, .int v1), (2, .int v2), (4, .int v4), (5, .int v5), (6, .int v6)]) (hF : pX0_doHold_67 f g k5 v1 v2 v4 v5 v6 t0 t1 = some z) : W p l e rmX0_doHold s m as below meth c H locs 0 0 Q (F0 m 67 ls [.int t1, .int t0]) := by
  have hx := C.1
  have hb := C.2.1
  unfold pX0_doHold_67 at hF
  refine lv_ior hx hb dX0_doHold_67 ?_
  refine lv_istore_n (lv' := [(3, .int (t0 ||| t1)), (0, .ref o), (1, .int v1), (2, .int v2), (4, .int v4), (5, .int v5), (6, .int v6)]) hx hb dX0_doHold_68 rfl hl (by decide) rfl (fun ls hl => ?_)
  refine lv_iload_n hx hb dX0_doHold_69 rfl (lv_at hl 0 rfl) ?_
  refine lv_iload hx hb dX0_doHold_70 (lv_at hl 6 rfl) ?_
  refine lv_i2l hx hb dX0_doHold_72 rfl ?_
  refine lv_lconst (v := (1 : Int64)) hx hb dX0_doHold_73 (by decide) ?_
  refine lv_iload_n hx hb dX0_doHold_74 rfl (lv_at hl 3 rfl) ?_
  refine lv_i2l hx hb dX0_doHold_75 rfl ?_
  obtain ⟨r76, hr, hF⟩ := obd hF
  refine rX0_in G C K w hr hl.1 ⟨Nat.le_of_ble_eq_true rfl, Nat.le_of_ble_eq_true rfl⟩ (Nat.le_of_ble_eq_true rfl) dX0_doHold_76 (fun H locs w => ?_)
  refine lv_if_eq (tgt := 86) hx hb dX0_doHold_79 (by decide) (fun c => ?_) (fun c => ?_)
  · have hF := (if_pos c).symm.trans hF
    refine lv_iconst (v := (0 : Int32)) hx hb dX0_doHold_86 (by decide) ?_
    exact bX0_doHold_87 G C K E hk5 w (lv_sub hl [1, 2, 3, 4, 5] rfl) hF
  · have hF := (if_neg c).symm.trans hF
    refine lv_iconst (v := (2 : Int32)) hx hb dX0_doHold_82 (by decide) ?_
    refine lv_goto (tgt := 87) hx hb dX0_doHold_83 (by decide) ?_
    exact bX0_doHold_87 G C K E hk5 w (lv_sub hl [1, 2, 3, 4, 5] rfl) hF

theorem bX0_doHold_5 {p : Program} {l : Launch} {e : Env} {s : State} {m : MethodId} {as : Array Value} {below : List Frame} {meth : Method} {c : Code} {A : Nat → Prop} {Q : State → Prop} {γ : wx_G} {o : Nat} {ad : Nat → Nat} {ρ : va_W} {z : Int32} {f : xF} {g : xG} (G : cx_ok γ) (C : CallFix p m c cX0_doHold 7 s as lw_all RX0) (K : wx_C γ A s) (E : ∀ (H : Heap) (locs : List Loc) (ls : Array Slot) (pc : Nat), narrow .boolean (.int z) = .int z → wx_w γ A s H locs (cw γ o ad f g ρ) → decode cX0_doHold pc = .ok (.ireturn, 1) → W p l e rmX0_doHold s m as below meth c H locs 0 0 Q (F0 m pc ls [.int z])) : ∀ (n : Nat) (v1 : Int32) (v2 : Int32) (v3 : Int32) (v4 : Int32) (H : Heap) (locs : List Loc) (ls : Array Slot), pX0_doHold_5 f g n v1 v2 v3 v4 = some z → wx_w γ A s H locs (cw γ o ad f g ρ) → lv_has ls 7 [(0, .ref o), (1, .int v1), (2, .int v2), (3, .int v3), (4, .int v4)] → W p l e rmX0_doHold s m as below meth c H locs 0 0 Q (F0 m 5 ls []) := by
  have hx := C.1
  have hb := C.2.1
  intro n
  induction n with
  | zero =>
    intro v1 v2 v3 v4 H locs ls hF w hl
    have hF : (none : Option (Int32)) = some z := hF
    cases hF
  | succ n ih =>
    intro v1 v2 v3 v4 H locs ls hF w hl
    rw [pX0_doHold_5] at hF
    refine lv_iload hx hb dX0_doHold_5 (lv_at hl 4 rfl) ?_
    refine lv_aload_n hx hb dX0_doHold_7 rfl (lv_at hl 0 rfl) ?_
    refine cget_36 C K w dX0_doHold_8 ?_
    refine lv_icmp_ge (tgt := 137) hx hb dX0_doHold_11 (by decide) (fun c => ?_) (fun c => ?_)
    · have hF := (if_pos c).symm.trans hF
      exact bX0_doHold_137 G C K E w (lv_sub hl [3] rfl) hF
    · have hF := (if_neg c).symm.trans hF
      refine lv_aload_n hx hb dX0_doHold_14 rfl (lv_at hl 0 rfl) ?_
      refine cget_35 C K w dX0_doHold_15 ?_
      refine lv_iload hx hb dX0_doHold_18 (lv_at hl 4 rfl) ?_
      obtain ⟨hi, hF⟩ := gin_if hF
      refine cald_35 C K w hi dX0_doHold_20 ?_
      refine lv_bipush (v := (64 : Int32)) hx hb dX0_doHold_21 (by decide) ?_
      refine lv_irem hx hb dX0_doHold_23 (by decide) ?_
      refine lv_iload_n hx hb dX0_doHold_24 rfl (lv_at hl 1 rfl) ?_
      refine lv_bipush (v := (64 : Int32)) hx hb dX0_doHold_25 (by decide) ?_
      refine lv_irem hx hb dX0_doHold_27 (by decide) ?_
      refine lv_isub hx hb dX0_doHold_28 ?_
      refine lv_istore (lv' := [(5, .int (((g 35 v4.toNatClampNeg) - (g 35 v4.toNatClampNeg) / (64 : Int32) * (64 : Int32)) - (v1 - v1 / (64 : Int32) * (64 : Int32)))), (0, .ref o), (1, .int v1), (2, .int v2), (3, .int v3), (4, .int v4)]) hx hb dX0_doHold_29 hl (by decide) rfl (fun ls hl => ?_)
      refine lv_aload_n hx hb dX0_doHold_31 rfl (lv_at hl 1 rfl) ?_
      refine cget_35 C K w dX0_doHold_32 ?_
      refine lv_iload hx hb dX0_doHold_35 (lv_at hl 5 rfl) ?_
      obtain ⟨hi, hF⟩ := gin_if hF
      refine cald_35 C K w hi dX0_doHold_37 ?_
      refine lv_bipush (v := (64 : Int32)) hx hb dX0_doHold_38 (by decide) ?_
      refine lv_idiv hx hb dX0_doHold_40 (by decide) ?_
      refine lv_iload_n hx hb dX0_doHold_41 rfl (lv_at hl 2 rfl) ?_
      refine lv_bipush (v := (64 : Int32)) hx hb dX0_doHold_42 (by decide) ?_
      refine lv_idiv hx hb dX0_doHold_44 (by decide) ?_
      refine lv_isub hx hb dX0_doHold_45 ?_
      refine lv_istore (lv' := [(6, .int (((g 35 v4.toNatClampNeg) / (64 : Int32)) - (v1 / (64 : Int32)))), (5, .int (((g 35 v4.toNatClampNeg) - (g 35 v4.toNatClampNeg) / (64 : Int32) * (64 : Int32)) - (v1 - v1 / (64 : Int32) * (64 : Int32)))), (0, .ref o), (1, .int v1), (2, .int v2), (3, .int v3), (4, .int v4)]) hx hb dX0_doHold_46 hl (by decide) rfl (fun ls hl => ?_)
      refine lv_iload_n hx hb dX0_doHold_48 rfl (lv_at hl 5 rfl) ?_
      refine lv_iload hx hb dX0_doHold_49 (lv_at hl 0 rfl) ?_
      refine lv_ineg hx hb dX0_doHold_51 ?_
      refine lv_i2l hx hb dX0_doHold_52 rfl ?_
      refine lv_lconst (v := (1 : Int64)) hx hb dX0_doHold_53 (by decide) ?_
      refine lv_iload_n hx hb dX0_doHold_54 rfl (lv_at hl 4 rfl) ?_
      refine lv_i2l hx hb dX0_doHold_55 rfl ?_
      obtain ⟨r56, hr, hF⟩ := obd hF
      refine rX0_in G C K w hr hl.1 ⟨Nat.le_of_ble_eq_true rfl, Nat.le_of_ble_eq_true rfl⟩ (Nat.le_of_ble_eq_true rfl) dX0_doHold_56 (fun H locs w => ?_)
      refine lv_if_eq (tgt := 66) hx hb dX0_doHold_59 (by decide) (fun c => ?_) (fun c => ?_)
      · have hF := (if_pos c).symm.trans hF
        refine lv_iconst (v := (0 : Int32)) hx hb dX0_doHold_66 (by decide) ?_
        exact bX0_doHold_67 G C K E ih w (lv_sub hl [2, 3, 4, 6, 1, 0] rfl) hF
      · have hF := (if_neg c).symm.trans hF
        refine lv_iconst (v := (1 : Int32)) hx hb dX0_doHold_62 (by decide) ?_
        refine lv_goto (tgt := 67) hx hb dX0_doHold_63 (by decide) ?_
        exact bX0_doHold_67 G C K E ih w (lv_sub hl [2, 3, 4, 6, 1, 0] rfl) hF

theorem bX0_doHold_0 {p : Program} {l : Launch} {e : Env} {s : State} {m : MethodId} {as : Array Value} {below : List Frame} {meth : Method} {c : Code} {A : Nat → Prop} {Q : State → Prop} {γ : wx_G} {o : Nat} {ad : Nat → Nat} {ρ : va_W} {z : Int32} {f : xF} {g : xG} (G : cx_ok γ) (C : CallFix p m c cX0_doHold 7 s as lw_all RX0) (K : wx_C γ A s) (E : ∀ (H : Heap) (locs : List Loc) (ls : Array Slot) (pc : Nat), narrow .boolean (.int z) = .int z → wx_w γ A s H locs (cw γ o ad f g ρ) → decode cX0_doHold pc = .ok (.ireturn, 1) → W p l e rmX0_doHold s m as below meth c H locs 0 0 Q (F0 m pc ls [.int z])) {v1 : Int32} {v2 : Int32} {H : Heap} {locs : List Loc} {ls : Array Slot} (w : wx_w γ A s H locs (cw γ o ad f g ρ)) (hl : lv_has ls 7 [(0, .ref o), (1, .int v1), (2, .int v2)]) (hF : pX0_doHold_0 f g v1 v2 = some z) : W p l e rmX0_doHold s m as below meth c H locs 0 0 Q (F0 m 0 ls []) := by
  have hx := C.1
  have hb := C.2.1
  unfold pX0_doHold_0 at hF
  refine lv_iconst (v := (0 : Int32)) hx hb dX0_doHold_0 (by decide) ?_
  refine lv_istore_n (lv' := [(3, .int (0 : Int32)), (0, .ref o), (1, .int v1), (2, .int v2)]) hx hb dX0_doHold_1 rfl hl (by decide) rfl (fun ls hl => ?_)
  refine lv_iconst (v := (0 : Int32)) hx hb dX0_doHold_2 (by decide) ?_
  refine lv_istore (lv' := [(4, .int (0 : Int32)), (3, .int (0 : Int32)), (0, .ref o), (1, .int v1), (2, .int v2)]) hx hb dX0_doHold_3 hl (by decide) rfl (fun ls hl => ?_)
  exact bX0_doHold_5 G C K E 5000 _ _ _ _ _ _ _ hF w (lv_sub hl [2, 3, 4, 1, 0] rfl)

theorem mX0_doHold {l : Launch} {γ : wx_G} {o : Nat} {ad : Nat → Nat} {ρ : va_W} {f : xF} {g : xG} {v1 : Int32} {v2 : Int32} {z : Int32} (G : cx_ok γ) (hF : pX0_doHold f g v1 v2 = some z) : wx_M γ l yX0_doHold (ws_ yX0_doHold cX0_doHold 7 (some .boolean)) rmX0_doHold [.ref o, .int v1, .int v2] (cw γ o ad f g ρ) (fun v ws => v = some (.int z) ∧ ws = (cw γ o ad f g ρ)) 0 0 := by
  refine wx_M.of (by decide) (Nat.le_of_ble_eq_true rfl) ?_
  intro p e s m as below meth c A ls C K w hr hlocks _ hl
  exact bX0_doHold_0 G C K (fun H locs ls pc hz w d => wx_zret C hr hlocks hz w ⟨rfl, rfl⟩ d) w hl hF
theorem rX0_doHold {p : Program} {l : Launch} {e : Env} {R : Room} {s : State} {m : MethodId} {as : Array Value} {below : List Frame} {meth : Method} {c : Code} {H : Heap} {locs : List Loc} {cells slots : Nat} {Q : State → Prop} {cc : ByteArray} {nL pc : Nat} {ls : Array Slot} {rest : List Value} {γ : wx_G} {A : Nat → Prop} {o : Nat} {ad : Nat → Nat} {ρ : va_W} {f : xF} {g : xG} {v1 : Int32} {v2 : Int32} {z : Int32} (G : cx_ok γ) (C : CallFix p m c cc nL s as lw_all RX0) (K : wx_C γ A s) (w : wx_w γ A s H locs (cw γ o ad f g ρ)) (hF : pX0_doHold f g v1 v2 = some z) (hls : ls.size = nL) (hR : rmX0_doHold.frames + 1 ≤ R.frames ∧ 8 + (7 + 11) + rmX0_doHold.locals ≤ R.locals) (hW : (rest.map fun v => v.category).sum ≤ 8) (d : decode cc pc = .ok (.invokevirtual 420, 3)) (kk : ∀ (H : Heap) (locs : List Loc), wx_w γ A s H locs (cw γ o ad f g ρ) → W p l e R s m as below meth c H locs cells slots Q (F0 m (pc + 3) ls (.int z :: rest))) (hf : cells ≤ R.cells ∧ slots ≤ R.slots := by exact ⟨Nat.le_of_ble_eq_true rfl, Nat.le_of_ble_eq_true rfl⟩) : W p l e R s m as below meth c H locs cells slots Q (F0 m pc ls (.int v2 :: .int v1 :: .ref o :: rest)) :=
  wx_callV (n := 2) C K w (mX0_doHold (l := l) G hF) q1034 q1036 qs37 q106 q1037 rfl rfl (by decide +kernel) (va_recv K.1.1 w.1 (ci := 1) (q0 := 0) rfl rfl) rfl rfl hR hls hW hf d (fun v ws H1 locs1 hp w => by obtain ⟨rfl, rfl⟩ := hp; exact kk H1 locs1 w)

/-! WalkingStones.holds(II)I -/
abbrev rmX0_holds : Room := { frames := 2, cells := 0, slots := 0, locals := 51 }
def pX0_holds_44 (f : xF) (g : xG) (t0 : Int32) : Option (Int32) := some (t0)

def pX0_holds_42 (f : xF) (g : xG) : Option (Int32) := pX0_holds_44 f g (-2 : Int32)

def pX0_holds_0 (f : xF) (g : xG) (v1 : Int32) (v2 : Int32) : Option (Int32) := (pX0_isStone f g v1).bind (fun r2 => if r2 = 0 then pX0_holds_42 f g else (pX0_in f g v2.toInt64 (0 : Int64) (63 : Int64)).bind (fun r14 => if r14 = 0 then pX0_holds_42 f g else (if gin v1 10 = true then (pX0_doHold f g (g 1 v1.toNatClampNeg) v2).bind (fun r28 => if r28 = 0 then pX0_holds_44 f g (0 : Int32) else pX0_holds_44 f g (1 : Int32)) else none)))

abbrev pX0_holds (f : xF) (g : xG) (v1 : Int32) (v2 : Int32) : Option (Int32) := pX0_holds_0 f g v1 v2
theorem bX0_holds_44 {p : Program} {l : Launch} {e : Env} {s : State} {m : MethodId} {as : Array Value} {below : List Frame} {meth : Method} {c : Code} {A : Nat → Prop} {Q : State → Prop} {γ : wx_G} {o : Nat} {ad : Nat → Nat} {ρ : va_W} {z : Int32} {f : xF} {g : xG} (G : cx_ok γ) (C : CallFix p m c cX0_holds 3 s as lw_all RX0) (K : wx_C γ A s) (E : ∀ (H : Heap) (locs : List Loc) (ls : Array Slot) (pc : Nat), wx_w γ A s H locs (cw γ o ad f g ρ) → decode cX0_holds pc = .ok (.ireturn, 1) → W p l e rmX0_holds s m as below meth c H locs 0 0 Q (F0 m pc ls [.int z])) {t0 : Int32} {H : Heap} {locs : List Loc} {ls : Array Slot} (w : wx_w γ A s H locs (cw γ o ad f g ρ)) (hl : lv_has ls 3 []) (hF : pX0_holds_44 f g t0 = some z) : W p l e rmX0_holds s m as below meth c H locs 0 0 Q (F0 m 44 ls [.int t0]) := by
  have hx := C.1
  have hb := C.2.1
  unfold pX0_holds_44 at hF
  have hF := Option.some.inj hF
  subst hF
  exact E _ _ _ _ w dX0_holds_44

theorem bX0_holds_42 {p : Program} {l : Launch} {e : Env} {s : State} {m : MethodId} {as : Array Value} {below : List Frame} {meth : Method} {c : Code} {A : Nat → Prop} {Q : State → Prop} {γ : wx_G} {o : Nat} {ad : Nat → Nat} {ρ : va_W} {z : Int32} {f : xF} {g : xG} (G : cx_ok γ) (C : CallFix p m c cX0_holds 3 s as lw_all RX0) (K : wx_C γ A s) (E : ∀ (H : Heap) (locs : List Loc) (ls : Array Slot) (pc : Nat), wx_w γ A s H locs (cw γ o ad f g ρ) → decode cX0_holds pc = .ok (.ireturn, 1) → W p l e rmX0_holds s m as below meth c H locs 0 0 Q (F0 m pc ls [.int z])) {H : Heap} {locs : List Loc} {ls : Array Slot} (w : wx_w γ A s H locs (cw γ o ad f g ρ)) (hl : lv_has ls 3 []) (hF : pX0_holds_42 f g = some z) : W p l e rmX0_holds s m as below meth c H locs 0 0 Q (F0 m 42 ls []) := by
  have hx := C.1
  have hb := C.2.1
  unfold pX0_holds_42 at hF
  refine lv_bipush (v := (-2 : Int32)) hx hb dX0_holds_42 (by decide) ?_
  exact bX0_holds_44 G C K E w hl hF

theorem bX0_holds_0 {p : Program} {l : Launch} {e : Env} {s : State} {m : MethodId} {as : Array Value} {below : List Frame} {meth : Method} {c : Code} {A : Nat → Prop} {Q : State → Prop} {γ : wx_G} {o : Nat} {ad : Nat → Nat} {ρ : va_W} {z : Int32} {f : xF} {g : xG} (G : cx_ok γ) (C : CallFix p m c cX0_holds 3 s as lw_all RX0) (K : wx_C γ A s) (E : ∀ (H : Heap) (locs : List Loc) (ls : Array Slot) (pc : Nat), wx_w γ A s H locs (cw γ o ad f g ρ) → decode cX0_holds pc = .ok (.ireturn, 1) → W p l e rmX0_holds s m as below meth c H locs 0 0 Q (F0 m pc ls [.int z])) {v1 : Int32} {v2 : Int32} {H : Heap} {locs : List Loc} {ls : Array Slot} (w : wx_w γ A s H locs (cw γ o ad f g ρ)) (hl : lv_has ls 3 [(0, .ref o), (1, .int v1), (2, .int v2)]) (hF : pX0_holds_0 f g v1 v2 = some z) : W p l e rmX0_holds s m as below meth c H locs 0 0 Q (F0 m 0 ls []) := by
  have hx := C.1
  have hb := C.2.1
  unfold pX0_holds_0 at hF
  refine lv_aload_n hx hb dX0_holds_0 rfl (lv_at hl 0 rfl) ?_
  refine lv_iload_n hx hb dX0_holds_1 rfl (lv_at hl 1 rfl) ?_
  obtain ⟨r2, hr, hF⟩ := obd hF
  refine rX0_isStone G C K w hr hl.1 ⟨Nat.le_of_ble_eq_true rfl, Nat.le_of_ble_eq_true rfl⟩ (Nat.le_of_ble_eq_true rfl) dX0_holds_2 (fun H locs w => ?_)
  refine lv_if_eq (tgt := 42) hx hb dX0_holds_5 (by decide) (fun c => ?_) (fun c => ?_)
  · have hF := (if_pos c).symm.trans hF
    exact bX0_holds_42 G C K E w (lv_sub hl [] rfl) hF
  · have hF := (if_neg c).symm.trans hF
    refine lv_iload_n hx hb dX0_holds_8 rfl (lv_at hl 2 rfl) ?_
    refine lv_i2l hx hb dX0_holds_9 rfl ?_
    refine lv_lconst (v := (0 : Int64)) hx hb dX0_holds_10 (by decide) ?_
    refine lv_ldc2 (v := (63 : Int64)) hx hb C.2.2.2.1 (C.2.2.2.2 _ q969) dX0_holds_11 ?_
    obtain ⟨r14, hr, hF⟩ := obd hF
    refine rX0_in G C K w hr hl.1 ⟨Nat.le_of_ble_eq_true rfl, Nat.le_of_ble_eq_true rfl⟩ (Nat.le_of_ble_eq_true rfl) dX0_holds_14 (fun H locs w => ?_)
    refine lv_if_eq (tgt := 42) hx hb dX0_holds_17 (by decide) (fun c => ?_) (fun c => ?_)
    · have hF := (if_pos c).symm.trans hF
      exact bX0_holds_42 G C K E w (lv_sub hl [] rfl) hF
    · have hF := (if_neg c).symm.trans hF
      refine lv_aload_n hx hb dX0_holds_20 rfl (lv_at hl 0 rfl) ?_
      refine lv_aload_n hx hb dX0_holds_21 rfl (lv_at hl 0 rfl) ?_
      refine cget_1 C K w dX0_holds_22 ?_
      refine lv_iload_n hx hb dX0_holds_25 rfl (lv_at hl 1 rfl) ?_
      obtain ⟨hi, hF⟩ := gin_if hF
      refine cald_1 C K w hi dX0_holds_26 ?_
      refine lv_iload_n hx hb dX0_holds_27 rfl (lv_at hl 2 rfl) ?_
      obtain ⟨r28, hr, hF⟩ := obd hF
      refine rX0_doHold G C K w hr hl.1 ⟨Nat.le_of_ble_eq_true rfl, Nat.le_of_ble_eq_true rfl⟩ (Nat.le_of_ble_eq_true rfl) dX0_holds_28 (fun H locs w => ?_)
      refine lv_if_eq (tgt := 38) hx hb dX0_holds_31 (by decide) (fun c => ?_) (fun c => ?_)
      · have hF := (if_pos c).symm.trans hF
        refine lv_iconst (v := (0 : Int32)) hx hb dX0_holds_38 (by decide) ?_
        refine lv_goto (tgt := 44) hx hb dX0_holds_39 (by decide) ?_
        exact bX0_holds_44 G C K E w (lv_sub hl [] rfl) hF
      · have hF := (if_neg c).symm.trans hF
        refine lv_iconst (v := (1 : Int32)) hx hb dX0_holds_34 (by decide) ?_
        refine lv_goto (tgt := 44) hx hb dX0_holds_35 (by decide) ?_
        exact bX0_holds_44 G C K E w (lv_sub hl [] rfl) hF

theorem mX0_holds {l : Launch} {γ : wx_G} {o : Nat} {ad : Nat → Nat} {ρ : va_W} {f : xF} {g : xG} {v1 : Int32} {v2 : Int32} {z : Int32} (G : cx_ok γ) (hF : pX0_holds f g v1 v2 = some z) : wx_M γ l yX0_holds (ws_ yX0_holds cX0_holds 3 (some .int)) rmX0_holds [.ref o, .int v1, .int v2] (cw γ o ad f g ρ) (fun v ws => v = some (.int z) ∧ ws = (cw γ o ad f g ρ)) 0 0 := by
  refine wx_M.of (by decide) (Nat.le_of_ble_eq_true rfl) ?_
  intro p e s m as below meth c A ls C K w hr hlocks _ hl
  exact bX0_holds_0 G C K (fun H locs ls pc w d => wx_iret C hr hlocks w ⟨rfl, rfl⟩ d) w hl hF

/-! WalkingStones.isOut(I)Z -/
abbrev rmX0_isOut : Room := { frames := 0, cells := 0, slots := 0, locals := 0 }
def pX0_isOut_133 (f : xF) (g : xG) (t0 : Int32) : Option (Int32) := if gbz t0 = true then some (t0) else none

def pX0_isOut_128 (f : xF) (g : xG) : Option (Int32) := pX0_isOut_133 f g (1 : Int32)

def pX0_isOut_118 (f : xF) (g : xG) (v2 : Int32) (v3 : Int32) : Option (Int32) := if v2 = (3 : Int32) then (if v3 = (3 : Int32) then pX0_isOut_133 f g (0 : Int32) else pX0_isOut_128 f g) else pX0_isOut_128 f g

def pX0_isOut_109 (f : xF) (g : xG) (k7 : Int32 → Int32 → Int32 → Int32 → Option (Int32)) (v1 : Int32) (v2 : Int32) (v4 : Int32) (t0 : Int32) (t1 : Int32) (t2 : Int32) : Option (Int32) := k7 v1 v2 (t0 ||| (t1 ||| t2)) (v4 + 1)

def pX0_isOut_87 (f : xF) (g : xG) (k7 : Int32 → Int32 → Int32 → Int32 → Option (Int32)) (v1 : Int32) (v2 : Int32) (v4 : Int32) (t0 : Int32) (t1 : Int32) : Option (Int32) := if gin v4 8 = true then if ((g 35 v4.toNatClampNeg) / (64 : Int32)) < (v1 / (64 : Int32)) then pX0_isOut_109 f g k7 v1 v2 v4 t0 t1 (0 : Int32) else pX0_isOut_109 f g k7 v1 v2 v4 t0 t1 (2 : Int32) else none

def pX0_isOut_61 (f : xF) (g : xG) (k7 : Int32 → Int32 → Int32 → Int32 → Option (Int32)) (v1 : Int32) (v3 : Int32) (v4 : Int32) (t0 : Int32) (t1 : Int32) (t2 : Int32) : Option (Int32) := if gin v4 8 = true then if ((g 35 v4.toNatClampNeg) - (g 35 v4.toNatClampNeg) / (64 : Int32) * (64 : Int32)) < (v1 - v1 / (64 : Int32) * (64 : Int32)) then pX0_isOut_87 f g k7 v1 (t0 ||| (t1 ||| t2)) v4 v3 (0 : Int32) else pX0_isOut_87 f g k7 v1 (t0 ||| (t1 ||| t2)) v4 v3 (1 : Int32) else none

def pX0_isOut_39 (f : xF) (g : xG) (k7 : Int32 → Int32 → Int32 → Int32 → Option (Int32)) (v1 : Int32) (v3 : Int32) (v4 : Int32) (t0 : Int32) (t1 : Int32) : Option (Int32) := if gin v4 8 = true then if (v1 / (64 : Int32)) < ((g 35 v4.toNatClampNeg) / (64 : Int32)) then pX0_isOut_61 f g k7 v1 v3 v4 t0 t1 (0 : Int32) else pX0_isOut_61 f g k7 v1 v3 v4 t0 t1 (2 : Int32) else none

def pX0_isOut_7 (f : xF) (g : xG) : Nat → Int32 → Int32 → Int32 → Int32 → Option (Int32)
  | 0, _, _, _, _ => none
  | n + 1, v1, v2, v3, v4 => if (f 36) ≤ v4 then pX0_isOut_118 f g v2 v3 else (if gin v4 8 = true then if (v1 - v1 / (64 : Int32) * (64 : Int32)) < ((g 35 v4.toNatClampNeg) - (g 35 v4.toNatClampNeg) / (64 : Int32) * (64 : Int32)) then pX0_isOut_39 f g (pX0_isOut_7 f g n) v1 v3 v4 v2 (0 : Int32) else pX0_isOut_39 f g (pX0_isOut_7 f g n) v1 v3 v4 v2 (1 : Int32) else none)

def pX0_isOut_0 (f : xF) (g : xG) (v1 : Int32) : Option (Int32) := pX0_isOut_7 f g 5000 v1 (0 : Int32) (0 : Int32) (0 : Int32)

abbrev pX0_isOut (f : xF) (g : xG) (v1 : Int32) : Option (Int32) := pX0_isOut_0 f g v1
theorem bX0_isOut_133 {p : Program} {l : Launch} {e : Env} {s : State} {m : MethodId} {as : Array Value} {below : List Frame} {meth : Method} {c : Code} {A : Nat → Prop} {Q : State → Prop} {γ : wx_G} {o : Nat} {ad : Nat → Nat} {ρ : va_W} {z : Int32} {f : xF} {g : xG} (G : cx_ok γ) (C : CallFix p m c cX0_isOut 5 s as lw_all RX0) (K : wx_C γ A s) (E : ∀ (H : Heap) (locs : List Loc) (ls : Array Slot) (pc : Nat), narrow .boolean (.int z) = .int z → wx_w γ A s H locs (cw γ o ad f g ρ) → decode cX0_isOut pc = .ok (.ireturn, 1) → W p l e rmX0_isOut s m as below meth c H locs 0 0 Q (F0 m pc ls [.int z])) {t0 : Int32} {H : Heap} {locs : List Loc} {ls : Array Slot} (w : wx_w γ A s H locs (cw γ o ad f g ρ)) (hl : lv_has ls 5 []) (hF : pX0_isOut_133 f g t0 = some z) : W p l e rmX0_isOut s m as below meth c H locs 0 0 Q (F0 m 133 ls [.int t0]) := by
  have hx := C.1
  have hb := C.2.1
  unfold pX0_isOut_133 at hF
  obtain ⟨hz, hF⟩ := gbz_if hF
  have hF := Option.some.inj hF
  subst hF
  exact E _ _ _ _ hz w dX0_isOut_133

theorem bX0_isOut_128 {p : Program} {l : Launch} {e : Env} {s : State} {m : MethodId} {as : Array Value} {below : List Frame} {meth : Method} {c : Code} {A : Nat → Prop} {Q : State → Prop} {γ : wx_G} {o : Nat} {ad : Nat → Nat} {ρ : va_W} {z : Int32} {f : xF} {g : xG} (G : cx_ok γ) (C : CallFix p m c cX0_isOut 5 s as lw_all RX0) (K : wx_C γ A s) (E : ∀ (H : Heap) (locs : List Loc) (ls : Array Slot) (pc : Nat), narrow .boolean (.int z) = .int z → wx_w γ A s H locs (cw γ o ad f g ρ) → decode cX0_isOut pc = .ok (.ireturn, 1) → W p l e rmX0_isOut s m as below meth c H locs 0 0 Q (F0 m pc ls [.int z])) {H : Heap} {locs : List Loc} {ls : Array Slot} (w : wx_w γ A s H locs (cw γ o ad f g ρ)) (hl : lv_has ls 5 []) (hF : pX0_isOut_128 f g = some z) : W p l e rmX0_isOut s m as below meth c H locs 0 0 Q (F0 m 128 ls []) := by
  have hx := C.1
  have hb := C.2.1
  unfold pX0_isOut_128 at hF
  refine lv_iconst (v := (1 : Int32)) hx hb dX0_isOut_128 (by decide) ?_
  refine lv_goto (tgt := 133) hx hb dX0_isOut_129 (by decide) ?_
  exact bX0_isOut_133 G C K E w hl hF

theorem bX0_isOut_118 {p : Program} {l : Launch} {e : Env} {s : State} {m : MethodId} {as : Array Value} {below : List Frame} {meth : Method} {c : Code} {A : Nat → Prop} {Q : State → Prop} {γ : wx_G} {o : Nat} {ad : Nat → Nat} {ρ : va_W} {z : Int32} {f : xF} {g : xG} (G : cx_ok γ) (C : CallFix p m c cX0_isOut 5 s as lw_all RX0) (K : wx_C γ A s) (E : ∀ (H : Heap) (locs : List Loc) (ls : Array Slot) (pc : Nat), narrow .boolean (.int z) = .int z → wx_w γ A s H locs (cw γ o ad f g ρ) → decode cX0_isOut pc = .ok (.ireturn, 1) → W p l e rmX0_isOut s m as below meth c H locs 0 0 Q (F0 m pc ls [.int z])) {v2 : Int32} {v3 : Int32} {H : Heap} {locs : List Loc} {ls : Array Slot} (w : wx_w γ A s H locs (cw γ o ad f g ρ)) (hl : lv_has ls 5 [(2, .int v2), (3, .int v3)]) (hF : pX0_isOut_118 f g v2 v3 = some z) : W p l e rmX0_isOut s m as below meth c H locs 0 0 Q (F0 m 118 ls []) := by
  have hx := C.1
  have hb := C.2.1
  unfold pX0_isOut_118 at hF
  refine lv_iload_n hx hb dX0_isOut_118 rfl (lv_at hl 0 rfl) ?_
  refine lv_iconst (v := (3 : Int32)) hx hb dX0_isOut_119 (by decide) ?_
  refine lv_icmp_ne (tgt := 128) hx hb dX0_isOut_120 (by decide) (fun c => ?_) (fun c => ?_)
  · have hF := (if_neg c).symm.trans hF
    exact bX0_isOut_128 G C K E w (lv_sub hl [] rfl) hF
  · have hF := (if_pos c).symm.trans hF
    refine lv_iload_n hx hb dX0_isOut_123 rfl (lv_at hl 1 rfl) ?_
    refine lv_iconst (v := (3 : Int32)) hx hb dX0_isOut_124 (by decide) ?_
    refine lv_icmp_eq (tgt := 132) hx hb dX0_isOut_125 (by decide) (fun c => ?_) (fun c => ?_)
    · have hF := (if_pos c).symm.trans hF
      refine lv_iconst (v := (0 : Int32)) hx hb dX0_isOut_132 (by decide) ?_
      exact bX0_isOut_133 G C K E w (lv_sub hl [] rfl) hF
    · have hF := (if_neg c).symm.trans hF
      exact bX0_isOut_128 G C K E w (lv_sub hl [] rfl) hF

theorem bX0_isOut_109 {p : Program} {l : Launch} {e : Env} {s : State} {m : MethodId} {as : Array Value} {below : List Frame} {meth : Method} {c : Code} {A : Nat → Prop} {Q : State → Prop} {γ : wx_G} {o : Nat} {ad : Nat → Nat} {ρ : va_W} {z : Int32} {f : xF} {g : xG} (G : cx_ok γ) (C : CallFix p m c cX0_isOut 5 s as lw_all RX0) (K : wx_C γ A s) (E : ∀ (H : Heap) (locs : List Loc) (ls : Array Slot) (pc : Nat), narrow .boolean (.int z) = .int z → wx_w γ A s H locs (cw γ o ad f g ρ) → decode cX0_isOut pc = .ok (.ireturn, 1) → W p l e rmX0_isOut s m as below meth c H locs 0 0 Q (F0 m pc ls [.int z])) {k7 : Int32 → Int32 → Int32 → Int32 → Option (Int32)} (hk7 : ∀ (v1 : Int32) (v2 : Int32) (v3 : Int32) (v4 : Int32) (H : Heap) (locs : List Loc) (ls : Array Slot), k7 v1 v2 v3 v4 = some z → wx_w γ A s H locs (cw γ o ad f g ρ) → lv_has ls 5 [(0, .ref o), (1, .int v1), (2, .int v2), (3, .int v3), (4, .int v4)] → W p l e rmX0_isOut s m as below meth c H locs 0 0 Q (F0 m 7 ls [])) {v1 : Int32} {v2 : Int32} {v4 : Int32} {t0 : Int32} {t1 : Int32} {t2 : Int32} {H : Heap} {locs : List Loc} {ls : Array Slot} (w : wx_w γ A s H locs (cw γ o ad f g ρ)) (hl : lv_has ls 5 [(0, .ref o), (1, .int v1), (2, .int v2), (4, .int v4)]) (hF : pX0_isOut_109 f g k7 v1 v2 v4 t0 t1 t2 = some z) : W p l e rmX0_isOut s m as below meth c H locs 0 0 Q (F0 m 109 ls [.int t2, .int t1, .int t0]) := by
  have hx := C.1
  have hb := C.2.1
  unfold pX0_isOut_109 at hF
  refine lv_ior hx hb dX0_isOut_109 ?_
  refine lv_ior hx hb dX0_isOut_110 ?_
  refine lv_istore_n (lv' := [(3, .int (t0 ||| (t1 ||| t2))), (0, .ref o), (1, .int v1), (2, .int v2), (4, .int v4)]) hx hb dX0_isOut_111 rfl hl (by decide) rfl (fun ls hl => ?_)
  refine lv_iinc (v := v4 + 1) (lv' := [(4, .int (v4 + 1)), (3, .int (t0 ||| (t1 ||| t2))), (0, .ref o), (1, .int v1), (2, .int v2)]) hx hb dX0_isOut_112 hl (k := 4) rfl rfl (by decide) rfl (fun ls hl => ?_)
  refine lv_goto (tgt := 7) hx hb dX0_isOut_115 (by decide) ?_
  exact hk7 _ _ _ _ _ _ _ hF w (lv_sub hl [2, 3, 4, 1, 0] rfl)

theorem bX0_isOut_87 {p : Program} {l : Launch} {e : Env} {s : State} {m : MethodId} {as : Array Value} {below : List Frame} {meth : Method} {c : Code} {A : Nat → Prop} {Q : State → Prop} {γ : wx_G} {o : Nat} {ad : Nat → Nat} {ρ : va_W} {z : Int32} {f : xF} {g : xG} (G : cx_ok γ) (C : CallFix p m c cX0_isOut 5 s as lw_all RX0) (K : wx_C γ A s) (E : ∀ (H : Heap) (locs : List Loc) (ls : Array Slot) (pc : Nat), narrow .boolean (.int z) = .int z → wx_w γ A s H locs (cw γ o ad f g ρ) → decode cX0_isOut pc = .ok (.ireturn, 1) → W p l e rmX0_isOut s m as below meth c H locs 0 0 Q (F0 m pc ls [.int z])) {k7 : Int32 → Int32 → Int32 → Int32 → Option (Int32)} (hk7 : ∀ (v1 : Int32) (v2 : Int32) (v3 : Int32) (v4 : Int32) (H : Heap) (locs : List Loc) (ls : Array Slot), k7 v1 v2 v3 v4 = some z → wx_w γ A s H locs (cw γ o ad f g ρ) → lv_has ls 5 [(0, .ref o), (1, .int v1), (2, .int v2), (3, .int v3), (4, .int v4)] → W p l e rmX0_isOut s m as below meth c H locs 0 0 Q (F0 m 7 ls [])) {v1 : Int32} {v2 : Int32} {v4 : Int32} {t0 : Int32} {t1 : Int32} {H : Heap} {locs : List Loc} {ls : Array Slot} (w : wx_w γ A s H locs (cw γ o ad f g ρ)) (hl : lv_has ls 5 [(0, .ref o), (1, .int v1), (2, .int v2), (4, .int v4)]) (hF : pX0_isOut_87 f g k7 v1 v2 v4 t0 t1 = some z) : W p l e rmX0_isOut s m as below meth c H locs 0 0 Q (F0 m 87 ls [.int t1, .int t0]) := by
  have hx := C.1
  have hb := C.2.1
  unfold pX0_isOut_87 at hF
  refine lv_aload_n hx hb dX0_isOut_87 rfl (lv_at hl 0 rfl) ?_
  refine cget_35 C K w dX0_isOut_88 ?_
  refine lv_iload hx hb dX0_isOut_91 (lv_at hl 3 rfl) ?_
  obtain ⟨hi, hF⟩ := gin_if hF
  refine cald_35 C K w hi dX0_isOut_93 ?_
  refine lv_bipush (v := (64 : Int32)) hx hb dX0_isOut_94 (by decide) ?_
  refine lv_idiv hx hb dX0_isOut_96 (by decide) ?_
  refine lv_iload_n hx hb dX0_isOut_97 rfl (lv_at hl 1 rfl) ?_
  refine lv_bipush (v := (64 : Int32)) hx hb dX0_isOut_98 (by decide) ?_
  refine lv_idiv hx hb dX0_isOut_100 (by decide) ?_
  refine lv_icmp_lt (tgt := 108) hx hb dX0_isOut_101 (by decide) (fun c => ?_) (fun c => ?_)
  · have hF := (if_pos c).symm.trans hF
    refine lv_iconst (v := (0 : Int32)) hx hb dX0_isOut_108 (by decide) ?_
    exact bX0_isOut_109 G C K E hk7 w hl hF
  · have hF := (if_neg c).symm.trans hF
    refine lv_iconst (v := (2 : Int32)) hx hb dX0_isOut_104 (by decide) ?_
    refine lv_goto (tgt := 109) hx hb dX0_isOut_105 (by decide) ?_
    exact bX0_isOut_109 G C K E hk7 w hl hF

theorem bX0_isOut_61 {p : Program} {l : Launch} {e : Env} {s : State} {m : MethodId} {as : Array Value} {below : List Frame} {meth : Method} {c : Code} {A : Nat → Prop} {Q : State → Prop} {γ : wx_G} {o : Nat} {ad : Nat → Nat} {ρ : va_W} {z : Int32} {f : xF} {g : xG} (G : cx_ok γ) (C : CallFix p m c cX0_isOut 5 s as lw_all RX0) (K : wx_C γ A s) (E : ∀ (H : Heap) (locs : List Loc) (ls : Array Slot) (pc : Nat), narrow .boolean (.int z) = .int z → wx_w γ A s H locs (cw γ o ad f g ρ) → decode cX0_isOut pc = .ok (.ireturn, 1) → W p l e rmX0_isOut s m as below meth c H locs 0 0 Q (F0 m pc ls [.int z])) {k7 : Int32 → Int32 → Int32 → Int32 → Option (Int32)} (hk7 : ∀ (v1 : Int32) (v2 : Int32) (v3 : Int32) (v4 : Int32) (H : Heap) (locs : List Loc) (ls : Array Slot), k7 v1 v2 v3 v4 = some z → wx_w γ A s H locs (cw γ o ad f g ρ) → lv_has ls 5 [(0, .ref o), (1, .int v1), (2, .int v2), (3, .int v3), (4, .int v4)] → W p l e rmX0_isOut s m as below meth c H locs 0 0 Q (F0 m 7 ls [])) {v1 : Int32} {v3 : Int32} {v4 : Int32} {t0 : Int32} {t1 : Int32} {t2 : Int32} {H : Heap} {locs : List Loc} {ls : Array Slot} (w : wx_w γ A s H locs (cw γ o ad f g ρ)) (hl : lv_has ls 5 [(0, .ref o), (1, .int v1), (3, .int v3), (4, .int v4)]) (hF : pX0_isOut_61 f g k7 v1 v3 v4 t0 t1 t2 = some z) : W p l e rmX0_isOut s m as below meth c H locs 0 0 Q (F0 m 61 ls [.int t2, .int t1, .int t0]) := by
  have hx := C.1
  have hb := C.2.1
  unfold pX0_isOut_61 at hF
  refine lv_ior hx hb dX0_isOut_61 ?_
  refine lv_ior hx hb dX0_isOut_62 ?_
  refine lv_istore_n (lv' := [(2, .int (t0 ||| (t1 ||| t2))), (0, .ref o), (1, .int v1), (3, .int v3), (4, .int v4)]) hx hb dX0_isOut_63 rfl hl (by decide) rfl (fun ls hl => ?_)
  refine lv_iload_n hx hb dX0_isOut_64 rfl (lv_at hl 3 rfl) ?_
  refine lv_aload_n hx hb dX0_isOut_65 rfl (lv_at hl 1 rfl) ?_
  refine cget_35 C K w dX0_isOut_66 ?_
  refine lv_iload hx hb dX0_isOut_69 (lv_at hl 4 rfl) ?_
  obtain ⟨hi, hF⟩ := gin_if hF
  refine cald_35 C K w hi dX0_isOut_71 ?_
  refine lv_bipush (v := (64 : Int32)) hx hb dX0_isOut_72 (by decide) ?_
  refine lv_irem hx hb dX0_isOut_74 (by decide) ?_
  refine lv_iload_n hx hb dX0_isOut_75 rfl (lv_at hl 2 rfl) ?_
  refine lv_bipush (v := (64 : Int32)) hx hb dX0_isOut_76 (by decide) ?_
  refine lv_irem hx hb dX0_isOut_78 (by decide) ?_
  refine lv_icmp_lt (tgt := 86) hx hb dX0_isOut_79 (by decide) (fun c => ?_) (fun c => ?_)
  · have hF := (if_pos c).symm.trans hF
    refine lv_iconst (v := (0 : Int32)) hx hb dX0_isOut_86 (by decide) ?_
    exact bX0_isOut_87 G C K E hk7 w (lv_sub hl [1, 2, 0, 4] rfl) hF
  · have hF := (if_neg c).symm.trans hF
    refine lv_iconst (v := (1 : Int32)) hx hb dX0_isOut_82 (by decide) ?_
    refine lv_goto (tgt := 87) hx hb dX0_isOut_83 (by decide) ?_
    exact bX0_isOut_87 G C K E hk7 w (lv_sub hl [1, 2, 0, 4] rfl) hF

theorem bX0_isOut_39 {p : Program} {l : Launch} {e : Env} {s : State} {m : MethodId} {as : Array Value} {below : List Frame} {meth : Method} {c : Code} {A : Nat → Prop} {Q : State → Prop} {γ : wx_G} {o : Nat} {ad : Nat → Nat} {ρ : va_W} {z : Int32} {f : xF} {g : xG} (G : cx_ok γ) (C : CallFix p m c cX0_isOut 5 s as lw_all RX0) (K : wx_C γ A s) (E : ∀ (H : Heap) (locs : List Loc) (ls : Array Slot) (pc : Nat), narrow .boolean (.int z) = .int z → wx_w γ A s H locs (cw γ o ad f g ρ) → decode cX0_isOut pc = .ok (.ireturn, 1) → W p l e rmX0_isOut s m as below meth c H locs 0 0 Q (F0 m pc ls [.int z])) {k7 : Int32 → Int32 → Int32 → Int32 → Option (Int32)} (hk7 : ∀ (v1 : Int32) (v2 : Int32) (v3 : Int32) (v4 : Int32) (H : Heap) (locs : List Loc) (ls : Array Slot), k7 v1 v2 v3 v4 = some z → wx_w γ A s H locs (cw γ o ad f g ρ) → lv_has ls 5 [(0, .ref o), (1, .int v1), (2, .int v2), (3, .int v3), (4, .int v4)] → W p l e rmX0_isOut s m as below meth c H locs 0 0 Q (F0 m 7 ls [])) {v1 : Int32} {v3 : Int32} {v4 : Int32} {t0 : Int32} {t1 : Int32} {H : Heap} {locs : List Loc} {ls : Array Slot} (w : wx_w γ A s H locs (cw γ o ad f g ρ)) (hl : lv_has ls 5 [(0, .ref o), (1, .int v1), (3, .int v3), (4, .int v4)]) (hF : pX0_isOut_39 f g k7 v1 v3 v4 t0 t1 = some z) : W p l e rmX0_isOut s m as below meth c H locs 0 0 Q (F0 m 39 ls [.int t1, .int t0]) := by
  have hx := C.1
  have hb := C.2.1
  unfold pX0_isOut_39 at hF
  refine lv_aload_n hx hb dX0_isOut_39 rfl (lv_at hl 0 rfl) ?_
  refine cget_35 C K w dX0_isOut_40 ?_
  refine lv_iload hx hb dX0_isOut_43 (lv_at hl 3 rfl) ?_
  obtain ⟨hi, hF⟩ := gin_if hF
  refine cald_35 C K w hi dX0_isOut_45 ?_
  refine lv_bipush (v := (64 : Int32)) hx hb dX0_isOut_46 (by decide) ?_
  refine lv_idiv hx hb dX0_isOut_48 (by decide) ?_
  refine lv_iload_n hx hb dX0_isOut_49 rfl (lv_at hl 1 rfl) ?_
  refine lv_bipush (v := (64 : Int32)) hx hb dX0_isOut_50 (by decide) ?_
  refine lv_idiv hx hb dX0_isOut_52 (by decide) ?_
  refine lv_icmp_gt (tgt := 60) hx hb dX0_isOut_53 (by decide) (fun c => ?_) (fun c => ?_)
  · have hF := (if_pos c).symm.trans hF
    refine lv_iconst (v := (0 : Int32)) hx hb dX0_isOut_60 (by decide) ?_
    exact bX0_isOut_61 G C K E hk7 w hl hF
  · have hF := (if_neg c).symm.trans hF
    refine lv_iconst (v := (2 : Int32)) hx hb dX0_isOut_56 (by decide) ?_
    refine lv_goto (tgt := 61) hx hb dX0_isOut_57 (by decide) ?_
    exact bX0_isOut_61 G C K E hk7 w hl hF

theorem bX0_isOut_7 {p : Program} {l : Launch} {e : Env} {s : State} {m : MethodId} {as : Array Value} {below : List Frame} {meth : Method} {c : Code} {A : Nat → Prop} {Q : State → Prop} {γ : wx_G} {o : Nat} {ad : Nat → Nat} {ρ : va_W} {z : Int32} {f : xF} {g : xG} (G : cx_ok γ) (C : CallFix p m c cX0_isOut 5 s as lw_all RX0) (K : wx_C γ A s) (E : ∀ (H : Heap) (locs : List Loc) (ls : Array Slot) (pc : Nat), narrow .boolean (.int z) = .int z → wx_w γ A s H locs (cw γ o ad f g ρ) → decode cX0_isOut pc = .ok (.ireturn, 1) → W p l e rmX0_isOut s m as below meth c H locs 0 0 Q (F0 m pc ls [.int z])) : ∀ (n : Nat) (v1 : Int32) (v2 : Int32) (v3 : Int32) (v4 : Int32) (H : Heap) (locs : List Loc) (ls : Array Slot), pX0_isOut_7 f g n v1 v2 v3 v4 = some z → wx_w γ A s H locs (cw γ o ad f g ρ) → lv_has ls 5 [(0, .ref o), (1, .int v1), (2, .int v2), (3, .int v3), (4, .int v4)] → W p l e rmX0_isOut s m as below meth c H locs 0 0 Q (F0 m 7 ls []) := by
  have hx := C.1
  have hb := C.2.1
  intro n
  induction n with
  | zero =>
    intro v1 v2 v3 v4 H locs ls hF w hl
    have hF : (none : Option (Int32)) = some z := hF
    cases hF
  | succ n ih =>
    intro v1 v2 v3 v4 H locs ls hF w hl
    rw [pX0_isOut_7] at hF
    refine lv_iload hx hb dX0_isOut_7 (lv_at hl 4 rfl) ?_
    refine lv_aload_n hx hb dX0_isOut_9 rfl (lv_at hl 0 rfl) ?_
    refine cget_36 C K w dX0_isOut_10 ?_
    refine lv_icmp_ge (tgt := 118) hx hb dX0_isOut_13 (by decide) (fun c => ?_) (fun c => ?_)
    · have hF := (if_pos c).symm.trans hF
      exact bX0_isOut_118 G C K E w (lv_sub hl [2, 3] rfl) hF
    · have hF := (if_neg c).symm.trans hF
      refine lv_iload_n hx hb dX0_isOut_16 rfl (lv_at hl 2 rfl) ?_
      refine lv_aload_n hx hb dX0_isOut_17 rfl (lv_at hl 0 rfl) ?_
      refine cget_35 C K w dX0_isOut_18 ?_
      refine lv_iload hx hb dX0_isOut_21 (lv_at hl 4 rfl) ?_
      obtain ⟨hi, hF⟩ := gin_if hF
      refine cald_35 C K w hi dX0_isOut_23 ?_
      refine lv_bipush (v := (64 : Int32)) hx hb dX0_isOut_24 (by decide) ?_
      refine lv_irem hx hb dX0_isOut_26 (by decide) ?_
      refine lv_iload_n hx hb dX0_isOut_27 rfl (lv_at hl 1 rfl) ?_
      refine lv_bipush (v := (64 : Int32)) hx hb dX0_isOut_28 (by decide) ?_
      refine lv_irem hx hb dX0_isOut_30 (by decide) ?_
      refine lv_icmp_gt (tgt := 38) hx hb dX0_isOut_31 (by decide) (fun c => ?_) (fun c => ?_)
      · have hF := (if_pos c).symm.trans hF
        refine lv_iconst (v := (0 : Int32)) hx hb dX0_isOut_38 (by decide) ?_
        exact bX0_isOut_39 G C K E ih w (lv_sub hl [0, 1, 3, 4] rfl) hF
      · have hF := (if_neg c).symm.trans hF
        refine lv_iconst (v := (1 : Int32)) hx hb dX0_isOut_34 (by decide) ?_
        refine lv_goto (tgt := 39) hx hb dX0_isOut_35 (by decide) ?_
        exact bX0_isOut_39 G C K E ih w (lv_sub hl [0, 1, 3, 4] rfl) hF

theorem bX0_isOut_0 {p : Program} {l : Launch} {e : Env} {s : State} {m : MethodId} {as : Array Value} {below : List Frame} {meth : Method} {c : Code} {A : Nat → Prop} {Q : State → Prop} {γ : wx_G} {o : Nat} {ad : Nat → Nat} {ρ : va_W} {z : Int32} {f : xF} {g : xG} (G : cx_ok γ) (C : CallFix p m c cX0_isOut 5 s as lw_all RX0) (K : wx_C γ A s) (E : ∀ (H : Heap) (locs : List Loc) (ls : Array Slot) (pc : Nat), narrow .boolean (.int z) = .int z → wx_w γ A s H locs (cw γ o ad f g ρ) → decode cX0_isOut pc = .ok (.ireturn, 1) → W p l e rmX0_isOut s m as below meth c H locs 0 0 Q (F0 m pc ls [.int z])) {v1 : Int32} {H : Heap} {locs : List Loc} {ls : Array Slot} (w : wx_w γ A s H locs (cw γ o ad f g ρ)) (hl : lv_has ls 5 [(0, .ref o), (1, .int v1)]) (hF : pX0_isOut_0 f g v1 = some z) : W p l e rmX0_isOut s m as below meth c H locs 0 0 Q (F0 m 0 ls []) := by
  have hx := C.1
  have hb := C.2.1
  unfold pX0_isOut_0 at hF
  refine lv_iconst (v := (0 : Int32)) hx hb dX0_isOut_0 (by decide) ?_
  refine lv_istore_n (lv' := [(2, .int (0 : Int32)), (0, .ref o), (1, .int v1)]) hx hb dX0_isOut_1 rfl hl (by decide) rfl (fun ls hl => ?_)
  refine lv_iconst (v := (0 : Int32)) hx hb dX0_isOut_2 (by decide) ?_
  refine lv_istore_n (lv' := [(3, .int (0 : Int32)), (2, .int (0 : Int32)), (0, .ref o), (1, .int v1)]) hx hb dX0_isOut_3 rfl hl (by decide) rfl (fun ls hl => ?_)
  refine lv_iconst (v := (0 : Int32)) hx hb dX0_isOut_4 (by decide) ?_
  refine lv_istore (lv' := [(4, .int (0 : Int32)), (3, .int (0 : Int32)), (2, .int (0 : Int32)), (0, .ref o), (1, .int v1)]) hx hb dX0_isOut_5 hl (by decide) rfl (fun ls hl => ?_)
  exact bX0_isOut_7 G C K E 5000 _ _ _ _ _ _ _ hF w (lv_sub hl [3, 4, 2, 1, 0] rfl)

theorem mX0_isOut {l : Launch} {γ : wx_G} {o : Nat} {ad : Nat → Nat} {ρ : va_W} {f : xF} {g : xG} {v1 : Int32} {z : Int32} (G : cx_ok γ) (hF : pX0_isOut f g v1 = some z) : wx_M γ l yX0_isOut (ws_ yX0_isOut cX0_isOut 5 (some .boolean)) rmX0_isOut [.ref o, .int v1] (cw γ o ad f g ρ) (fun v ws => v = some (.int z) ∧ ws = (cw γ o ad f g ρ)) 0 0 := by
  refine wx_M.of (by decide) (Nat.le_of_ble_eq_true rfl) ?_
  intro p e s m as below meth c A ls C K w hr hlocks _ hl
  exact bX0_isOut_0 G C K (fun H locs ls pc hz w d => wx_zret C hr hlocks hz w ⟨rfl, rfl⟩ d) w hl hF
theorem rX0_isOut {p : Program} {l : Launch} {e : Env} {R : Room} {s : State} {m : MethodId} {as : Array Value} {below : List Frame} {meth : Method} {c : Code} {H : Heap} {locs : List Loc} {cells slots : Nat} {Q : State → Prop} {cc : ByteArray} {nL pc : Nat} {ls : Array Slot} {rest : List Value} {γ : wx_G} {A : Nat → Prop} {o : Nat} {ad : Nat → Nat} {ρ : va_W} {f : xF} {g : xG} {v1 : Int32} {z : Int32} (G : cx_ok γ) (C : CallFix p m c cc nL s as lw_all RX0) (K : wx_C γ A s) (w : wx_w γ A s H locs (cw γ o ad f g ρ)) (hF : pX0_isOut f g v1 = some z) (hls : ls.size = nL) (hR : rmX0_isOut.frames + 1 ≤ R.frames ∧ 8 + (5 + 11) + rmX0_isOut.locals ≤ R.locals) (hW : (rest.map fun v => v.category).sum ≤ 8) (d : decode cc pc = .ok (.invokevirtual 424, 3)) (kk : ∀ (H : Heap) (locs : List Loc), wx_w γ A s H locs (cw γ o ad f g ρ) → W p l e R s m as below meth c H locs cells slots Q (F0 m (pc + 3) ls (.int z :: rest))) (hf : cells ≤ R.cells ∧ slots ≤ R.slots := by exact ⟨Nat.le_of_ble_eq_true rfl, Nat.le_of_ble_eq_true rfl⟩) : W p l e R s m as below meth c H locs cells slots Q (F0 m pc ls (.int v1 :: .ref o :: rest)) :=
  wx_callV (n := 1) C K w (mX0_isOut (l := l) G hF) q1042 q1044 qs38 q106 q1045 rfl rfl (by decide +kernel) (va_recv K.1.1 w.1 (ci := 1) (q0 := 0) rfl rfl) rfl rfl hR hls hW hf d (fun v ws H1 locs1 hp w => by obtain ⟨rfl, rfl⟩ := hp; exact kk H1 locs1 w)

/-! WalkingStones.isSheet(I)Z -/
abbrev rmX0_isSheet : Room := { frames := 1, cells := 0, slots := 0, locals := 25 }
def pX0_isSheet_0 (f : xF) (g : xG) (v0 : Int32) : Option (Int32) := (pX0_in f g v0.toInt64 (0 : Int64) (3 : Int64)).bind (fun r6 => if gbz r6 = true then some (r6) else none)

abbrev pX0_isSheet (f : xF) (g : xG) (v0 : Int32) : Option (Int32) := pX0_isSheet_0 f g v0
theorem bX0_isSheet_0 {p : Program} {l : Launch} {e : Env} {s : State} {m : MethodId} {as : Array Value} {below : List Frame} {meth : Method} {c : Code} {A : Nat → Prop} {Q : State → Prop} {γ : wx_G} {o : Nat} {ad : Nat → Nat} {ρ : va_W} {z : Int32} {f : xF} {g : xG} (G : cx_ok γ) (C : CallFix p m c cX0_isSheet 1 s as lw_all RX0) (K : wx_C γ A s) (E : ∀ (H : Heap) (locs : List Loc) (ls : Array Slot) (pc : Nat), narrow .boolean (.int z) = .int z → wx_w γ A s H locs (cw γ o ad f g ρ) → decode cX0_isSheet pc = .ok (.ireturn, 1) → W p l e rmX0_isSheet s m as below meth c H locs 0 0 Q (F0 m pc ls [.int z])) {v0 : Int32} {H : Heap} {locs : List Loc} {ls : Array Slot} (w : wx_w γ A s H locs (cw γ o ad f g ρ)) (hl : lv_has ls 1 [(0, .int v0)]) (hF : pX0_isSheet_0 f g v0 = some z) : W p l e rmX0_isSheet s m as below meth c H locs 0 0 Q (F0 m 0 ls []) := by
  have hx := C.1
  have hb := C.2.1
  unfold pX0_isSheet_0 at hF
  refine lv_iload_n hx hb dX0_isSheet_0 rfl (lv_at hl 0 rfl) ?_
  refine lv_i2l hx hb dX0_isSheet_1 rfl ?_
  refine lv_lconst (v := (0 : Int64)) hx hb dX0_isSheet_2 (by decide) ?_
  refine lv_ldc2 (v := (3 : Int64)) hx hb C.2.2.2.1 (C.2.2.2.2 _ q1088) dX0_isSheet_3 ?_
  obtain ⟨r6, hr, hF⟩ := obd hF
  refine rX0_in G C K w hr hl.1 ⟨Nat.le_of_ble_eq_true rfl, Nat.le_of_ble_eq_true rfl⟩ (Nat.le_of_ble_eq_true rfl) dX0_isSheet_6 (fun H locs w => ?_)
  obtain ⟨hz, hF⟩ := gbz_if hF
  have hF := Option.some.inj hF
  subst hF
  exact E _ _ _ _ hz w dX0_isSheet_9

theorem mX0_isSheet {l : Launch} {γ : wx_G} {o : Nat} {ad : Nat → Nat} {ρ : va_W} {f : xF} {g : xG} {v0 : Int32} {z : Int32} (G : cx_ok γ) (hF : pX0_isSheet f g v0 = some z) : wx_M γ l yX0_isSheet (ws_ yX0_isSheet cX0_isSheet 1 (some .boolean)) rmX0_isSheet [.int v0] (cw γ o ad f g ρ) (fun v ws => v = some (.int z) ∧ ws = (cw γ o ad f g ρ)) 0 0 := by
  refine wx_M.of (by decide) (Nat.le_of_ble_eq_true rfl) ?_
  intro p e s m as below meth c A ls C K w hr hlocks _ hl
  exact bX0_isSheet_0 G C K (fun H locs ls pc hz w d => wx_zret C hr hlocks hz w ⟨rfl, rfl⟩ d) w hl hF
theorem rX0_isSheet {p : Program} {l : Launch} {e : Env} {R : Room} {s : State} {m : MethodId} {as : Array Value} {below : List Frame} {meth : Method} {c : Code} {H : Heap} {locs : List Loc} {cells slots : Nat} {Q : State → Prop} {cc : ByteArray} {nL pc : Nat} {ls : Array Slot} {rest : List Value} {γ : wx_G} {A : Nat → Prop} {o : Nat} {ad : Nat → Nat} {ρ : va_W} {f : xF} {g : xG} {v0 : Int32} {z : Int32} (G : cx_ok γ) (C : CallFix p m c cc nL s as lw_all RX0) (K : wx_C γ A s) (w : wx_w γ A s H locs (cw γ o ad f g ρ)) (hF : pX0_isSheet f g v0 = some z) (hls : ls.size = nL) (hR : rmX0_isSheet.frames + 1 ≤ R.frames ∧ 8 + (1 + 11) + rmX0_isSheet.locals ≤ R.locals) (hW : (rest.map fun v => v.category).sum ≤ 8) (d : decode cc pc = .ok (.invokestatic 455, 3)) (kk : ∀ (H : Heap) (locs : List Loc), wx_w γ A s H locs (cw γ o ad f g ρ) → W p l e R s m as below meth c H locs cells slots Q (F0 m (pc + 3) ls (.int z :: rest))) (hf : cells ≤ R.cells ∧ slots ≤ R.slots := by exact ⟨Nat.le_of_ble_eq_true rfl, Nat.le_of_ble_eq_true rfl⟩) : W p l e R s m as below meth c H locs cells slots Q (F0 m pc ls (.int v0 :: rest)) :=
  wx_callS (n := 1) C K w (mX0_isSheet (l := l) G hF) q1085 q1086 q106 q1087 rfl rfl (by decide +kernel) rfl rfl hR hls hW hf d (fun v ws H1 locs1 hp w => by obtain ⟨rfl, rfl⟩ := hp; exact kk H1 locs1 w)

/-! WalkingStones.cross(II)I -/
abbrev rmX0_cross : Room := { frames := 2, cells := 0, slots := 0, locals := 46 }
def pX0_cross_21 (f : xF) (g : xG) : Option (Int32 × xF × xG) := some ((-2 : Int32), f, g)

def pX0_cross_0 (f : xF) (g : xG) (v1 : Int32) (v2 : Int32) : Option (Int32 × xF × xG) := (pX0_isTrack f g v1).bind (fun r2 => if r2 = 0 then pX0_cross_21 f g else (pX0_isTrack f g v2).bind (fun r10 => if r10 = 0 then pX0_cross_21 f g else (if v1 = v2 then pX0_cross_21 f g else (if (f 39) = (20 : Int32) then some ((-4 : Int32), f, g) else (if gin (f 39) 20 = true then if gin (f 39) 20 = true then some ((upd f 39 ((f 39) + (1 : Int32))) 39, upd f 39 ((f 39) + (1 : Int32)), va_up (va_up g 37 (upd (g 37) (f 39).toNatClampNeg v1)) 38 (upd ((va_up g 37 (upd (g 37) (f 39).toNatClampNeg v1)) 38) (f 39).toNatClampNeg v2)) else none else none)))))

abbrev pX0_cross (f : xF) (g : xG) (v1 : Int32) (v2 : Int32) : Option (Int32 × xF × xG) := pX0_cross_0 f g v1 v2
theorem bX0_cross_21 {p : Program} {l : Launch} {e : Env} {s : State} {m : MethodId} {as : Array Value} {below : List Frame} {meth : Method} {c : Code} {A : Nat → Prop} {Q : State → Prop} {γ : wx_G} {o : Nat} {ad : Nat → Nat} {ρ : va_W} {z : Int32 × xF × xG} (G : cx_ok γ) (C : CallFix p m c cX0_cross 3 s as lw_all RX0) (K : wx_C γ A s) (E : ∀ (H : Heap) (locs : List Loc) (ls : Array Slot) (pc : Nat), wx_w γ A s H locs (cw γ o ad z.2.1 z.2.2 ρ) → decode cX0_cross pc = .ok (.ireturn, 1) → W p l e rmX0_cross s m as below meth c H locs 0 0 Q (F0 m pc ls [.int z.1])) {f : xF} {g : xG} {H : Heap} {locs : List Loc} {ls : Array Slot} (w : wx_w γ A s H locs (cw γ o ad f g ρ)) (hl : lv_has ls 3 []) (hF : pX0_cross_21 f g = some z) : W p l e rmX0_cross s m as below meth c H locs 0 0 Q (F0 m 21 ls []) := by
  have hx := C.1
  have hb := C.2.1
  unfold pX0_cross_21 at hF
  refine lv_bipush (v := (-2 : Int32)) hx hb dX0_cross_21 (by decide) ?_
  have hF := Option.some.inj hF
  subst hF
  exact E _ _ _ _ w dX0_cross_23

theorem bX0_cross_0 {p : Program} {l : Launch} {e : Env} {s : State} {m : MethodId} {as : Array Value} {below : List Frame} {meth : Method} {c : Code} {A : Nat → Prop} {Q : State → Prop} {γ : wx_G} {o : Nat} {ad : Nat → Nat} {ρ : va_W} {z : Int32 × xF × xG} (G : cx_ok γ) (C : CallFix p m c cX0_cross 3 s as lw_all RX0) (K : wx_C γ A s) (E : ∀ (H : Heap) (locs : List Loc) (ls : Array Slot) (pc : Nat), wx_w γ A s H locs (cw γ o ad z.2.1 z.2.2 ρ) → decode cX0_cross pc = .ok (.ireturn, 1) → W p l e rmX0_cross s m as below meth c H locs 0 0 Q (F0 m pc ls [.int z.1])) {f : xF} {g : xG} {v1 : Int32} {v2 : Int32} {H : Heap} {locs : List Loc} {ls : Array Slot} (w : wx_w γ A s H locs (cw γ o ad f g ρ)) (hl : lv_has ls 3 [(0, .ref o), (1, .int v1), (2, .int v2)]) (hF : pX0_cross_0 f g v1 v2 = some z) : W p l e rmX0_cross s m as below meth c H locs 0 0 Q (F0 m 0 ls []) := by
  have hx := C.1
  have hb := C.2.1
  unfold pX0_cross_0 at hF
  refine lv_aload_n hx hb dX0_cross_0 rfl (lv_at hl 0 rfl) ?_
  refine lv_iload_n hx hb dX0_cross_1 rfl (lv_at hl 1 rfl) ?_
  obtain ⟨r2, hr, hF⟩ := obd hF
  refine rX0_isTrack G C K w hr hl.1 ⟨Nat.le_of_ble_eq_true rfl, Nat.le_of_ble_eq_true rfl⟩ (Nat.le_of_ble_eq_true rfl) dX0_cross_2 (fun H locs w => ?_)
  refine lv_if_eq (tgt := 21) hx hb dX0_cross_5 (by decide) (fun c => ?_) (fun c => ?_)
  · have hF := (if_pos c).symm.trans hF
    exact bX0_cross_21 G C K E w (lv_sub hl [] rfl) hF
  · have hF := (if_neg c).symm.trans hF
    refine lv_aload_n hx hb dX0_cross_8 rfl (lv_at hl 0 rfl) ?_
    refine lv_iload_n hx hb dX0_cross_9 rfl (lv_at hl 2 rfl) ?_
    obtain ⟨r10, hr, hF⟩ := obd hF
    refine rX0_isTrack G C K w hr hl.1 ⟨Nat.le_of_ble_eq_true rfl, Nat.le_of_ble_eq_true rfl⟩ (Nat.le_of_ble_eq_true rfl) dX0_cross_10 (fun H locs w => ?_)
    refine lv_if_eq (tgt := 21) hx hb dX0_cross_13 (by decide) (fun c => ?_) (fun c => ?_)
    · have hF := (if_pos c).symm.trans hF
      exact bX0_cross_21 G C K E w (lv_sub hl [] rfl) hF
    · have hF := (if_neg c).symm.trans hF
      refine lv_iload_n hx hb dX0_cross_16 rfl (lv_at hl 1 rfl) ?_
      refine lv_iload_n hx hb dX0_cross_17 rfl (lv_at hl 2 rfl) ?_
      refine lv_icmp_ne (tgt := 24) hx hb dX0_cross_18 (by decide) (fun c => ?_) (fun c => ?_)
      · have hF := (if_neg c).symm.trans hF
        refine lv_aload_n hx hb dX0_cross_24 rfl (lv_at hl 0 rfl) ?_
        refine cget_39 C K w dX0_cross_25 ?_
        refine lv_bipush (v := (20 : Int32)) hx hb dX0_cross_28 (by decide) ?_
        refine lv_icmp_ne (tgt := 36) hx hb dX0_cross_30 (by decide) (fun c => ?_) (fun c => ?_)
        · have hF := (if_neg c).symm.trans hF
          refine lv_aload_n hx hb dX0_cross_36 rfl (lv_at hl 0 rfl) ?_
          refine cget_37 C K w dX0_cross_37 ?_
          refine lv_aload_n hx hb dX0_cross_40 rfl (lv_at hl 0 rfl) ?_
          refine cget_39 C K w dX0_cross_41 ?_
          refine lv_iload_n hx hb dX0_cross_44 rfl (lv_at hl 1 rfl) ?_
          obtain ⟨hi, hF⟩ := gin_if hF
          refine cast_37 C K w hi dX0_cross_45 (fun H locs w => ?_)
          refine lv_aload_n hx hb dX0_cross_46 rfl (lv_at hl 0 rfl) ?_
          refine cget_38 C K w dX0_cross_47 ?_
          refine lv_aload_n hx hb dX0_cross_50 rfl (lv_at hl 0 rfl) ?_
          refine cget_39 C K w dX0_cross_51 ?_
          refine lv_iload_n hx hb dX0_cross_54 rfl (lv_at hl 2 rfl) ?_
          obtain ⟨hi, hF⟩ := gin_if hF
          refine cast_38 C K w hi dX0_cross_55 (fun H locs w => ?_)
          refine lv_aload_n hx hb dX0_cross_56 rfl (lv_at hl 0 rfl) ?_
          refine lv_dup hx hb dX0_cross_57 rfl ?_
          refine cget_39 C K w dX0_cross_58 ?_
          refine lv_iconst (v := (1 : Int32)) hx hb dX0_cross_61 (by decide) ?_
          refine lv_iadd hx hb dX0_cross_62 ?_
          refine cput_39 C K w dX0_cross_63 (fun H locs w => ?_)
          refine lv_aload_n hx hb dX0_cross_66 rfl (lv_at hl 0 rfl) ?_
          refine cget_39 C K w dX0_cross_67 ?_
          have hF := Option.some.inj hF
          subst hF
          exact E _ _ _ _ w dX0_cross_70
        · have hF := (if_pos c).symm.trans hF
          refine lv_bipush (v := (-4 : Int32)) hx hb dX0_cross_33 (by decide) ?_
          have hF := Option.some.inj hF
          subst hF
          exact E _ _ _ _ w dX0_cross_35
      · have hF := (if_pos c).symm.trans hF
        exact bX0_cross_21 G C K E w (lv_sub hl [] rfl) hF

theorem mX0_cross {l : Launch} {γ : wx_G} {o : Nat} {ad : Nat → Nat} {ρ : va_W} {f : xF} {g : xG} {v1 : Int32} {v2 : Int32} {z : Int32 × xF × xG} (G : cx_ok γ) (hF : pX0_cross f g v1 v2 = some z) : wx_M γ l yX0_cross (ws_ yX0_cross cX0_cross 3 (some .int)) rmX0_cross [.ref o, .int v1, .int v2] (cw γ o ad f g ρ) (fun v ws => v = some (.int z.1) ∧ ws = (cw γ o ad z.2.1 z.2.2 ρ)) 0 0 := by
  refine wx_M.of (by decide) (Nat.le_of_ble_eq_true rfl) ?_
  intro p e s m as below meth c A ls C K w hr hlocks _ hl
  exact bX0_cross_0 G C K (fun H locs ls pc w d => wx_iret C hr hlocks w ⟨rfl, rfl⟩ d) w hl hF

/-! WalkingStones.isEldest(II)Z -/
abbrev rmX0_isEldest : Room := { frames := 0, cells := 0, slots := 0, locals := 0 }
def pX0_isEldest_35 (f : xF) (g : xG) (k2 : Int32 → Int32 → Int32 → Option (Int32)) (v1 : Int32) (v2 : Int32) (v3 : Int32) : Option (Int32) := k2 v1 v2 (v3 + 1)

def pX0_isEldest_2 (f : xF) (g : xG) : Nat → Int32 → Int32 → Int32 → Option (Int32)
  | 0, _, _, _ => none
  | n + 1, v1, v2, v3 => if (f 39) ≤ v3 then some ((1 : Int32)) else (if gin v3 20 = true then if (g 37 v3.toNatClampNeg) = v1 then (if gin v3 20 = true then if ((v2 >>> ((g 38 v3.toNatClampNeg) &&& 31)) &&& (1 : Int32)) = 0 then some ((0 : Int32)) else pX0_isEldest_35 f g (pX0_isEldest_2 f g n) v1 v2 v3 else none) else pX0_isEldest_35 f g (pX0_isEldest_2 f g n) v1 v2 v3 else none)

def pX0_isEldest_0 (f : xF) (g : xG) (v1 : Int32) (v2 : Int32) : Option (Int32) := pX0_isEldest_2 f g 5000 v1 v2 (0 : Int32)

abbrev pX0_isEldest (f : xF) (g : xG) (v1 : Int32) (v2 : Int32) : Option (Int32) := pX0_isEldest_0 f g v1 v2
theorem bX0_isEldest_35 {p : Program} {l : Launch} {e : Env} {s : State} {m : MethodId} {as : Array Value} {below : List Frame} {meth : Method} {c : Code} {A : Nat → Prop} {Q : State → Prop} {γ : wx_G} {o : Nat} {ad : Nat → Nat} {ρ : va_W} {z : Int32} {f : xF} {g : xG} (G : cx_ok γ) (C : CallFix p m c cX0_isEldest 4 s as lw_all RX0) (K : wx_C γ A s) (E : ∀ (H : Heap) (locs : List Loc) (ls : Array Slot) (pc : Nat), narrow .boolean (.int z) = .int z → wx_w γ A s H locs (cw γ o ad f g ρ) → decode cX0_isEldest pc = .ok (.ireturn, 1) → W p l e rmX0_isEldest s m as below meth c H locs 0 0 Q (F0 m pc ls [.int z])) {k2 : Int32 → Int32 → Int32 → Option (Int32)} (hk2 : ∀ (v1 : Int32) (v2 : Int32) (v3 : Int32) (H : Heap) (locs : List Loc) (ls : Array Slot), k2 v1 v2 v3 = some z → wx_w γ A s H locs (cw γ o ad f g ρ) → lv_has ls 4 [(0, .ref o), (1, .int v1), (2, .int v2), (3, .int v3)] → W p l e rmX0_isEldest s m as below meth c H locs 0 0 Q (F0 m 2 ls [])) {v1 : Int32} {v2 : Int32} {v3 : Int32} {H : Heap} {locs : List Loc} {ls : Array Slot} (w : wx_w γ A s H locs (cw γ o ad f g ρ)) (hl : lv_has ls 4 [(0, .ref o), (1, .int v1), (2, .int v2), (3, .int v3)]) (hF : pX0_isEldest_35 f g k2 v1 v2 v3 = some z) : W p l e rmX0_isEldest s m as below meth c H locs 0 0 Q (F0 m 35 ls []) := by
  have hx := C.1
  have hb := C.2.1
  unfold pX0_isEldest_35 at hF
  refine lv_iinc (v := v3 + 1) (lv' := [(3, .int (v3 + 1)), (0, .ref o), (1, .int v1), (2, .int v2)]) hx hb dX0_isEldest_35 hl (k := 3) rfl rfl (by decide) rfl (fun ls hl => ?_)
  refine lv_goto (tgt := 2) hx hb dX0_isEldest_38 (by decide) ?_
  exact hk2 _ _ _ _ _ _ hF w (lv_sub hl [1, 2, 3, 0] rfl)

theorem bX0_isEldest_2 {p : Program} {l : Launch} {e : Env} {s : State} {m : MethodId} {as : Array Value} {below : List Frame} {meth : Method} {c : Code} {A : Nat → Prop} {Q : State → Prop} {γ : wx_G} {o : Nat} {ad : Nat → Nat} {ρ : va_W} {z : Int32} {f : xF} {g : xG} (G : cx_ok γ) (C : CallFix p m c cX0_isEldest 4 s as lw_all RX0) (K : wx_C γ A s) (E : ∀ (H : Heap) (locs : List Loc) (ls : Array Slot) (pc : Nat), narrow .boolean (.int z) = .int z → wx_w γ A s H locs (cw γ o ad f g ρ) → decode cX0_isEldest pc = .ok (.ireturn, 1) → W p l e rmX0_isEldest s m as below meth c H locs 0 0 Q (F0 m pc ls [.int z])) : ∀ (n : Nat) (v1 : Int32) (v2 : Int32) (v3 : Int32) (H : Heap) (locs : List Loc) (ls : Array Slot), pX0_isEldest_2 f g n v1 v2 v3 = some z → wx_w γ A s H locs (cw γ o ad f g ρ) → lv_has ls 4 [(0, .ref o), (1, .int v1), (2, .int v2), (3, .int v3)] → W p l e rmX0_isEldest s m as below meth c H locs 0 0 Q (F0 m 2 ls []) := by
  have hx := C.1
  have hb := C.2.1
  intro n
  induction n with
  | zero =>
    intro v1 v2 v3 H locs ls hF w hl
    have hF : (none : Option (Int32)) = some z := hF
    cases hF
  | succ n ih =>
    intro v1 v2 v3 H locs ls hF w hl
    rw [pX0_isEldest_2] at hF
    refine lv_iload_n hx hb dX0_isEldest_2 rfl (lv_at hl 3 rfl) ?_
    refine lv_aload_n hx hb dX0_isEldest_3 rfl (lv_at hl 0 rfl) ?_
    refine cget_39 C K w dX0_isEldest_4 ?_
    refine lv_icmp_ge (tgt := 41) hx hb dX0_isEldest_7 (by decide) (fun c => ?_) (fun c => ?_)
    · have hF := (if_pos c).symm.trans hF
      refine lv_iconst (v := (1 : Int32)) hx hb dX0_isEldest_41 (by decide) ?_
      have hF := Option.some.inj hF
      subst hF
      exact E _ _ _ _ wx_nz1 w dX0_isEldest_42
    · have hF := (if_neg c).symm.trans hF
      refine lv_aload_n hx hb dX0_isEldest_10 rfl (lv_at hl 0 rfl) ?_
      refine cget_37 C K w dX0_isEldest_11 ?_
      refine lv_iload_n hx hb dX0_isEldest_14 rfl (lv_at hl 3 rfl) ?_
      obtain ⟨hi, hF⟩ := gin_if hF
      refine cald_37 C K w hi dX0_isEldest_15 ?_
      refine lv_iload_n hx hb dX0_isEldest_16 rfl (lv_at hl 1 rfl) ?_
      refine lv_icmp_ne (tgt := 35) hx hb dX0_isEldest_17 (by decide) (fun c => ?_) (fun c => ?_)
      · have hF := (if_neg c).symm.trans hF
        exact bX0_isEldest_35 G C K E ih w hl hF
      · have hF := (if_pos c).symm.trans hF
        refine lv_iload_n hx hb dX0_isEldest_20 rfl (lv_at hl 2 rfl) ?_
        refine lv_aload_n hx hb dX0_isEldest_21 rfl (lv_at hl 0 rfl) ?_
        refine cget_38 C K w dX0_isEldest_22 ?_
        refine lv_iload_n hx hb dX0_isEldest_25 rfl (lv_at hl 3 rfl) ?_
        obtain ⟨hi, hF⟩ := gin_if hF
        refine cald_38 C K w hi dX0_isEldest_26 ?_
        refine lv_ishr hx hb dX0_isEldest_27 ?_
        refine lv_iconst (v := (1 : Int32)) hx hb dX0_isEldest_28 (by decide) ?_
        refine lv_iand hx hb dX0_isEldest_29 ?_
        refine lv_if_ne (tgt := 35) hx hb dX0_isEldest_30 (by decide) (fun c => ?_) (fun c => ?_)
        · have hF := (if_neg c).symm.trans hF
          exact bX0_isEldest_35 G C K E ih w hl hF
        · have hF := (if_pos c).symm.trans hF
          refine lv_iconst (v := (0 : Int32)) hx hb dX0_isEldest_33 (by decide) ?_
          have hF := Option.some.inj hF
          subst hF
          exact E _ _ _ _ wx_nz0 w dX0_isEldest_34

theorem bX0_isEldest_0 {p : Program} {l : Launch} {e : Env} {s : State} {m : MethodId} {as : Array Value} {below : List Frame} {meth : Method} {c : Code} {A : Nat → Prop} {Q : State → Prop} {γ : wx_G} {o : Nat} {ad : Nat → Nat} {ρ : va_W} {z : Int32} {f : xF} {g : xG} (G : cx_ok γ) (C : CallFix p m c cX0_isEldest 4 s as lw_all RX0) (K : wx_C γ A s) (E : ∀ (H : Heap) (locs : List Loc) (ls : Array Slot) (pc : Nat), narrow .boolean (.int z) = .int z → wx_w γ A s H locs (cw γ o ad f g ρ) → decode cX0_isEldest pc = .ok (.ireturn, 1) → W p l e rmX0_isEldest s m as below meth c H locs 0 0 Q (F0 m pc ls [.int z])) {v1 : Int32} {v2 : Int32} {H : Heap} {locs : List Loc} {ls : Array Slot} (w : wx_w γ A s H locs (cw γ o ad f g ρ)) (hl : lv_has ls 4 [(0, .ref o), (1, .int v1), (2, .int v2)]) (hF : pX0_isEldest_0 f g v1 v2 = some z) : W p l e rmX0_isEldest s m as below meth c H locs 0 0 Q (F0 m 0 ls []) := by
  have hx := C.1
  have hb := C.2.1
  unfold pX0_isEldest_0 at hF
  refine lv_iconst (v := (0 : Int32)) hx hb dX0_isEldest_0 (by decide) ?_
  refine lv_istore_n (lv' := [(3, .int (0 : Int32)), (0, .ref o), (1, .int v1), (2, .int v2)]) hx hb dX0_isEldest_1 rfl hl (by decide) rfl (fun ls hl => ?_)
  exact bX0_isEldest_2 G C K E 5000 _ _ _ _ _ _ hF w (lv_sub hl [1, 2, 3, 0] rfl)

theorem mX0_isEldest {l : Launch} {γ : wx_G} {o : Nat} {ad : Nat → Nat} {ρ : va_W} {f : xF} {g : xG} {v1 : Int32} {v2 : Int32} {z : Int32} (G : cx_ok γ) (hF : pX0_isEldest f g v1 v2 = some z) : wx_M γ l yX0_isEldest (ws_ yX0_isEldest cX0_isEldest 4 (some .boolean)) rmX0_isEldest [.ref o, .int v1, .int v2] (cw γ o ad f g ρ) (fun v ws => v = some (.int z) ∧ ws = (cw γ o ad f g ρ)) 0 0 := by
  refine wx_M.of (by decide) (Nat.le_of_ble_eq_true rfl) ?_
  intro p e s m as below meth c A ls C K w hr hlocks _ hl
  exact bX0_isEldest_0 G C K (fun H locs ls pc hz w d => wx_zret C hr hlocks hz w ⟨rfl, rfl⟩ d) w hl hF
theorem rX0_isEldest {p : Program} {l : Launch} {e : Env} {R : Room} {s : State} {m : MethodId} {as : Array Value} {below : List Frame} {meth : Method} {c : Code} {H : Heap} {locs : List Loc} {cells slots : Nat} {Q : State → Prop} {cc : ByteArray} {nL pc : Nat} {ls : Array Slot} {rest : List Value} {γ : wx_G} {A : Nat → Prop} {o : Nat} {ad : Nat → Nat} {ρ : va_W} {f : xF} {g : xG} {v1 : Int32} {v2 : Int32} {z : Int32} (G : cx_ok γ) (C : CallFix p m c cc nL s as lw_all RX0) (K : wx_C γ A s) (w : wx_w γ A s H locs (cw γ o ad f g ρ)) (hF : pX0_isEldest f g v1 v2 = some z) (hls : ls.size = nL) (hR : rmX0_isEldest.frames + 1 ≤ R.frames ∧ 8 + (4 + 11) + rmX0_isEldest.locals ≤ R.locals) (hW : (rest.map fun v => v.category).sum ≤ 8) (d : decode cc pc = .ok (.invokevirtual 467, 3)) (kk : ∀ (H : Heap) (locs : List Loc), wx_w γ A s H locs (cw γ o ad f g ρ) → W p l e R s m as below meth c H locs cells slots Q (F0 m (pc + 3) ls (.int z :: rest))) (hf : cells ≤ R.cells ∧ slots ≤ R.slots := by exact ⟨Nat.le_of_ble_eq_true rfl, Nat.le_of_ble_eq_true rfl⟩) : W p l e R s m as below meth c H locs cells slots Q (F0 m pc ls (.int v2 :: .int v1 :: .ref o :: rest)) :=
  wx_callV (n := 2) C K w (mX0_isEldest (l := l) G hF) q1145 q1147 qs47 q106 q1148 rfl rfl (by decide +kernel) (va_recv K.1.1 w.1 (ci := 1) (q0 := 0) rfl rfl) rfl rfl hR hls hW hf d (fun v ws H1 locs1 hp w => by obtain ⟨rfl, rfl⟩ := hp; exact kk H1 locs1 w)

/-! WalkingStones.nextTrack(I)I -/
abbrev rmX0_nextTrack : Room := { frames := 1, cells := 0, slots := 0, locals := 23 }
def pX0_nextTrack_29 (f : xF) (g : xG) (k2 : Int32 → Int32 → Option (Int32)) (v1 : Int32) (v2 : Int32) : Option (Int32) := k2 v1 (v2 + 1)

def pX0_nextTrack_2 (f : xF) (g : xG) : Nat → Int32 → Int32 → Option (Int32)
  | 0, _, _ => none
  | n + 1, v1, v2 => if (f 34) ≤ v2 then some ((-1 : Int32)) else (if ((v1 >>> (v2 &&& 31)) &&& (1 : Int32)) = 0 then (pX0_isEldest f g v2 v1).bind (fun r21 => if r21 = 0 then pX0_nextTrack_29 f g (pX0_nextTrack_2 f g n) v1 v2 else some (v2)) else pX0_nextTrack_29 f g (pX0_nextTrack_2 f g n) v1 v2)

def pX0_nextTrack_0 (f : xF) (g : xG) (v1 : Int32) : Option (Int32) := pX0_nextTrack_2 f g 5000 v1 (0 : Int32)

abbrev pX0_nextTrack (f : xF) (g : xG) (v1 : Int32) : Option (Int32) := pX0_nextTrack_0 f g v1
theorem bX0_nextTrack_29 {p : Program} {l : Launch} {e : Env} {s : State} {m : MethodId} {as : Array Value} {below : List Frame} {meth : Method} {c : Code} {A : Nat → Prop} {Q : State → Prop} {γ : wx_G} {o : Nat} {ad : Nat → Nat} {ρ : va_W} {z : Int32} {f : xF} {g : xG} (G : cx_ok γ) (C : CallFix p m c cX0_nextTrack 3 s as lw_all RX0) (K : wx_C γ A s) (E : ∀ (H : Heap) (locs : List Loc) (ls : Array Slot) (pc : Nat), wx_w γ A s H locs (cw γ o ad f g ρ) → decode cX0_nextTrack pc = .ok (.ireturn, 1) → W p l e rmX0_nextTrack s m as below meth c H locs 0 0 Q (F0 m pc ls [.int z])) {k2 : Int32 → Int32 → Option (Int32)} (hk2 : ∀ (v1 : Int32) (v2 : Int32) (H : Heap) (locs : List Loc) (ls : Array Slot), k2 v1 v2 = some z → wx_w γ A s H locs (cw γ o ad f g ρ) → lv_has ls 3 [(0, .ref o), (1, .int v1), (2, .int v2)] → W p l e rmX0_nextTrack s m as below meth c H locs 0 0 Q (F0 m 2 ls [])) {v1 : Int32} {v2 : Int32} {H : Heap} {locs : List Loc} {ls : Array Slot} (w : wx_w γ A s H locs (cw γ o ad f g ρ)) (hl : lv_has ls 3 [(0, .ref o), (1, .int v1), (2, .int v2)]) (hF : pX0_nextTrack_29 f g k2 v1 v2 = some z) : W p l e rmX0_nextTrack s m as below meth c H locs 0 0 Q (F0 m 29 ls []) := by
  have hx := C.1
  have hb := C.2.1
  unfold pX0_nextTrack_29 at hF
  refine lv_iinc (v := v2 + 1) (lv' := [(2, .int (v2 + 1)), (0, .ref o), (1, .int v1)]) hx hb dX0_nextTrack_29 hl (k := 2) rfl rfl (by decide) rfl (fun ls hl => ?_)
  refine lv_goto (tgt := 2) hx hb dX0_nextTrack_32 (by decide) ?_
  exact hk2 _ _ _ _ _ hF w (lv_sub hl [1, 2, 0] rfl)

theorem bX0_nextTrack_2 {p : Program} {l : Launch} {e : Env} {s : State} {m : MethodId} {as : Array Value} {below : List Frame} {meth : Method} {c : Code} {A : Nat → Prop} {Q : State → Prop} {γ : wx_G} {o : Nat} {ad : Nat → Nat} {ρ : va_W} {z : Int32} {f : xF} {g : xG} (G : cx_ok γ) (C : CallFix p m c cX0_nextTrack 3 s as lw_all RX0) (K : wx_C γ A s) (E : ∀ (H : Heap) (locs : List Loc) (ls : Array Slot) (pc : Nat), wx_w γ A s H locs (cw γ o ad f g ρ) → decode cX0_nextTrack pc = .ok (.ireturn, 1) → W p l e rmX0_nextTrack s m as below meth c H locs 0 0 Q (F0 m pc ls [.int z])) : ∀ (n : Nat) (v1 : Int32) (v2 : Int32) (H : Heap) (locs : List Loc) (ls : Array Slot), pX0_nextTrack_2 f g n v1 v2 = some z → wx_w γ A s H locs (cw γ o ad f g ρ) → lv_has ls 3 [(0, .ref o), (1, .int v1), (2, .int v2)] → W p l e rmX0_nextTrack s m as below meth c H locs 0 0 Q (F0 m 2 ls []) := by
  have hx := C.1
  have hb := C.2.1
  intro n
  induction n with
  | zero =>
    intro v1 v2 H locs ls hF w hl
    have hF : (none : Option (Int32)) = some z := hF
    cases hF
  | succ n ih =>
    intro v1 v2 H locs ls hF w hl
    rw [pX0_nextTrack_2] at hF
    refine lv_iload_n hx hb dX0_nextTrack_2 rfl (lv_at hl 2 rfl) ?_
    refine lv_aload_n hx hb dX0_nextTrack_3 rfl (lv_at hl 0 rfl) ?_
    refine cget_34 C K w dX0_nextTrack_4 ?_
    refine lv_icmp_ge (tgt := 35) hx hb dX0_nextTrack_7 (by decide) (fun c => ?_) (fun c => ?_)
    · have hF := (if_pos c).symm.trans hF
      refine lv_iconst (v := (-1 : Int32)) hx hb dX0_nextTrack_35 (by decide) ?_
      have hF := Option.some.inj hF
      subst hF
      exact E _ _ _ _ w dX0_nextTrack_36
    · have hF := (if_neg c).symm.trans hF
      refine lv_iload_n hx hb dX0_nextTrack_10 rfl (lv_at hl 1 rfl) ?_
      refine lv_iload_n hx hb dX0_nextTrack_11 rfl (lv_at hl 2 rfl) ?_
      refine lv_ishr hx hb dX0_nextTrack_12 ?_
      refine lv_iconst (v := (1 : Int32)) hx hb dX0_nextTrack_13 (by decide) ?_
      refine lv_iand hx hb dX0_nextTrack_14 ?_
      refine lv_if_ne (tgt := 29) hx hb dX0_nextTrack_15 (by decide) (fun c => ?_) (fun c => ?_)
      · have hF := (if_neg c).symm.trans hF
        exact bX0_nextTrack_29 G C K E ih w hl hF
      · have hF := (if_pos c).symm.trans hF
        refine lv_aload_n hx hb dX0_nextTrack_18 rfl (lv_at hl 0 rfl) ?_
        refine lv_iload_n hx hb dX0_nextTrack_19 rfl (lv_at hl 2 rfl) ?_
        refine lv_iload_n hx hb dX0_nextTrack_20 rfl (lv_at hl 1 rfl) ?_
        obtain ⟨r21, hr, hF⟩ := obd hF
        refine rX0_isEldest G C K w hr hl.1 ⟨Nat.le_of_ble_eq_true rfl, Nat.le_of_ble_eq_true rfl⟩ (Nat.le_of_ble_eq_true rfl) dX0_nextTrack_21 (fun H locs w => ?_)
        refine lv_if_eq (tgt := 29) hx hb dX0_nextTrack_24 (by decide) (fun c => ?_) (fun c => ?_)
        · have hF := (if_pos c).symm.trans hF
          exact bX0_nextTrack_29 G C K E ih w hl hF
        · have hF := (if_neg c).symm.trans hF
          refine lv_iload_n hx hb dX0_nextTrack_27 rfl (lv_at hl 2 rfl) ?_
          have hF := Option.some.inj hF
          subst hF
          exact E _ _ _ _ w dX0_nextTrack_28

theorem bX0_nextTrack_0 {p : Program} {l : Launch} {e : Env} {s : State} {m : MethodId} {as : Array Value} {below : List Frame} {meth : Method} {c : Code} {A : Nat → Prop} {Q : State → Prop} {γ : wx_G} {o : Nat} {ad : Nat → Nat} {ρ : va_W} {z : Int32} {f : xF} {g : xG} (G : cx_ok γ) (C : CallFix p m c cX0_nextTrack 3 s as lw_all RX0) (K : wx_C γ A s) (E : ∀ (H : Heap) (locs : List Loc) (ls : Array Slot) (pc : Nat), wx_w γ A s H locs (cw γ o ad f g ρ) → decode cX0_nextTrack pc = .ok (.ireturn, 1) → W p l e rmX0_nextTrack s m as below meth c H locs 0 0 Q (F0 m pc ls [.int z])) {v1 : Int32} {H : Heap} {locs : List Loc} {ls : Array Slot} (w : wx_w γ A s H locs (cw γ o ad f g ρ)) (hl : lv_has ls 3 [(0, .ref o), (1, .int v1)]) (hF : pX0_nextTrack_0 f g v1 = some z) : W p l e rmX0_nextTrack s m as below meth c H locs 0 0 Q (F0 m 0 ls []) := by
  have hx := C.1
  have hb := C.2.1
  unfold pX0_nextTrack_0 at hF
  refine lv_iconst (v := (0 : Int32)) hx hb dX0_nextTrack_0 (by decide) ?_
  refine lv_istore_n (lv' := [(2, .int (0 : Int32)), (0, .ref o), (1, .int v1)]) hx hb dX0_nextTrack_1 rfl hl (by decide) rfl (fun ls hl => ?_)
  exact bX0_nextTrack_2 G C K E 5000 _ _ _ _ _ hF w (lv_sub hl [1, 2, 0] rfl)

theorem mX0_nextTrack {l : Launch} {γ : wx_G} {o : Nat} {ad : Nat → Nat} {ρ : va_W} {f : xF} {g : xG} {v1 : Int32} {z : Int32} (G : cx_ok γ) (hF : pX0_nextTrack f g v1 = some z) : wx_M γ l yX0_nextTrack (ws_ yX0_nextTrack cX0_nextTrack 3 (some .int)) rmX0_nextTrack [.ref o, .int v1] (cw γ o ad f g ρ) (fun v ws => v = some (.int z) ∧ ws = (cw γ o ad f g ρ)) 0 0 := by
  refine wx_M.of (by decide) (Nat.le_of_ble_eq_true rfl) ?_
  intro p e s m as below meth c A ls C K w hr hlocks _ hl
  exact bX0_nextTrack_0 G C K (fun H locs ls pc w d => wx_iret C hr hlocks w ⟨rfl, rfl⟩ d) w hl hF
theorem rX0_nextTrack {p : Program} {l : Launch} {e : Env} {R : Room} {s : State} {m : MethodId} {as : Array Value} {below : List Frame} {meth : Method} {c : Code} {H : Heap} {locs : List Loc} {cells slots : Nat} {Q : State → Prop} {cc : ByteArray} {nL pc : Nat} {ls : Array Slot} {rest : List Value} {γ : wx_G} {A : Nat → Prop} {o : Nat} {ad : Nat → Nat} {ρ : va_W} {f : xF} {g : xG} {v1 : Int32} {z : Int32} (G : cx_ok γ) (C : CallFix p m c cc nL s as lw_all RX0) (K : wx_C γ A s) (w : wx_w γ A s H locs (cw γ o ad f g ρ)) (hF : pX0_nextTrack f g v1 = some z) (hls : ls.size = nL) (hR : rmX0_nextTrack.frames + 1 ≤ R.frames ∧ 8 + (3 + 11) + rmX0_nextTrack.locals ≤ R.locals) (hW : (rest.map fun v => v.category).sum ≤ 8) (d : decode cc pc = .ok (.invokevirtual 470, 3)) (kk : ∀ (H : Heap) (locs : List Loc), wx_w γ A s H locs (cw γ o ad f g ρ) → W p l e R s m as below meth c H locs cells slots Q (F0 m (pc + 3) ls (.int z :: rest))) (hf : cells ≤ R.cells ∧ slots ≤ R.slots := by exact ⟨Nat.le_of_ble_eq_true rfl, Nat.le_of_ble_eq_true rfl⟩) : W p l e R s m as below meth c H locs cells slots Q (F0 m pc ls (.int v1 :: .ref o :: rest)) :=
  wx_callV (n := 1) C K w (mX0_nextTrack (l := l) G hF) q1141 q1143 qs46 q106 q1144 rfl rfl (by decide +kernel) (va_recv K.1.1 w.1 (ci := 1) (q0 := 0) rfl rfl) rfl rfl hR hls hW hf d (fun v ws H1 locs1 hp w => by obtain ⟨rfl, rfl⟩ := hp; exact kk H1 locs1 w)

/-! WalkingStones.order(I)I -/
abbrev rmX0_order : Room := { frames := 2, cells := 0, slots := 0, locals := 45 }
def pX0_order_59 (f : xF) (g : xG) (v3 : Int32) : Option (Int32) := some (v3)

def pX0_order_30 (f : xF) (g : xG) : Nat → Int32 → Int32 → Int32 → Int32 → Option (Int32)
  | 0, _, _, _, _ => none
  | n + 1, v1, v2, v3, v4 => if v1 ≤ v4 then pX0_order_59 f g v3 else (if v3 = (-1 : Int32) then pX0_order_59 f g v3 else (pX0_nextTrack f g (v2 ||| ((1 : Int32) <<< (v3 &&& 31)))).bind (fun r49 => pX0_order_30 f g n v1 (v2 ||| ((1 : Int32) <<< (v3 &&& 31))) r49 (v4 + 1)))

def pX0_order_0 (f : xF) (g : xG) (v1 : Int32) : Option (Int32) := (pX0_in f g v1.toInt64 (0 : Int64) (((f 34) - (1 : Int32)).toInt64)).bind (fun r10 => if r10 = 0 then some ((-2 : Int32)) else (pX0_nextTrack f g (0 : Int32)).bind (fun r23 => pX0_order_30 f g 5000 v1 (0 : Int32) r23 (0 : Int32)))

abbrev pX0_order (f : xF) (g : xG) (v1 : Int32) : Option (Int32) := pX0_order_0 f g v1
theorem bX0_order_59 {p : Program} {l : Launch} {e : Env} {s : State} {m : MethodId} {as : Array Value} {below : List Frame} {meth : Method} {c : Code} {A : Nat → Prop} {Q : State → Prop} {γ : wx_G} {o : Nat} {ad : Nat → Nat} {ρ : va_W} {z : Int32} {f : xF} {g : xG} (G : cx_ok γ) (C : CallFix p m c cX0_order 5 s as lw_all RX0) (K : wx_C γ A s) (E : ∀ (H : Heap) (locs : List Loc) (ls : Array Slot) (pc : Nat), wx_w γ A s H locs (cw γ o ad f g ρ) → decode cX0_order pc = .ok (.ireturn, 1) → W p l e rmX0_order s m as below meth c H locs 0 0 Q (F0 m pc ls [.int z])) {v3 : Int32} {H : Heap} {locs : List Loc} {ls : Array Slot} (w : wx_w γ A s H locs (cw γ o ad f g ρ)) (hl : lv_has ls 5 [(3, .int v3)]) (hF : pX0_order_59 f g v3 = some z) : W p l e rmX0_order s m as below meth c H locs 0 0 Q (F0 m 59 ls []) := by
  have hx := C.1
  have hb := C.2.1
  unfold pX0_order_59 at hF
  refine lv_iload_n hx hb dX0_order_59 rfl (lv_at hl 0 rfl) ?_
  have hF := Option.some.inj hF
  subst hF
  exact E _ _ _ _ w dX0_order_60

theorem bX0_order_30 {p : Program} {l : Launch} {e : Env} {s : State} {m : MethodId} {as : Array Value} {below : List Frame} {meth : Method} {c : Code} {A : Nat → Prop} {Q : State → Prop} {γ : wx_G} {o : Nat} {ad : Nat → Nat} {ρ : va_W} {z : Int32} {f : xF} {g : xG} (G : cx_ok γ) (C : CallFix p m c cX0_order 5 s as lw_all RX0) (K : wx_C γ A s) (E : ∀ (H : Heap) (locs : List Loc) (ls : Array Slot) (pc : Nat), wx_w γ A s H locs (cw γ o ad f g ρ) → decode cX0_order pc = .ok (.ireturn, 1) → W p l e rmX0_order s m as below meth c H locs 0 0 Q (F0 m pc ls [.int z])) : ∀ (n : Nat) (v1 : Int32) (v2 : Int32) (v3 : Int32) (v4 : Int32) (H : Heap) (locs : List Loc) (ls : Array Slot), pX0_order_30 f g n v1 v2 v3 v4 = some z → wx_w γ A s H locs (cw γ o ad f g ρ) → lv_has ls 5 [(0, .ref o), (1, .int v1), (2, .int v2), (3, .int v3), (4, .int v4)] → W p l e rmX0_order s m as below meth c H locs 0 0 Q (F0 m 30 ls []) := by
  have hx := C.1
  have hb := C.2.1
  intro n
  induction n with
  | zero =>
    intro v1 v2 v3 v4 H locs ls hF w hl
    have hF : (none : Option (Int32)) = some z := hF
    cases hF
  | succ n ih =>
    intro v1 v2 v3 v4 H locs ls hF w hl
    rw [pX0_order_30] at hF
    refine lv_iload hx hb dX0_order_30 (lv_at hl 4 rfl) ?_
    refine lv_iload_n hx hb dX0_order_32 rfl (lv_at hl 1 rfl) ?_
    refine lv_icmp_ge (tgt := 59) hx hb dX0_order_33 (by decide) (fun c => ?_) (fun c => ?_)
    · have hF := (if_pos c).symm.trans hF
      exact bX0_order_59 G C K E w (lv_sub hl [3] rfl) hF
    · have hF := (if_neg c).symm.trans hF
      refine lv_iload_n hx hb dX0_order_36 rfl (lv_at hl 3 rfl) ?_
      refine lv_iconst (v := (-1 : Int32)) hx hb dX0_order_37 (by decide) ?_
      refine lv_icmp_eq (tgt := 59) hx hb dX0_order_38 (by decide) (fun c => ?_) (fun c => ?_)
      · have hF := (if_pos c).symm.trans hF
        exact bX0_order_59 G C K E w (lv_sub hl [3] rfl) hF
      · have hF := (if_neg c).symm.trans hF
        refine lv_iload_n hx hb dX0_order_41 rfl (lv_at hl 2 rfl) ?_
        refine lv_iconst (v := (1 : Int32)) hx hb dX0_order_42 (by decide) ?_
        refine lv_iload_n hx hb dX0_order_43 rfl (lv_at hl 3 rfl) ?_
        refine lv_ishl hx hb dX0_order_44 ?_
        refine lv_ior hx hb dX0_order_45 ?_
        refine lv_istore_n (lv' := [(2, .int (v2 ||| ((1 : Int32) <<< (v3 &&& 31)))), (0, .ref o), (1, .int v1), (3, .int v3), (4, .int v4)]) hx hb dX0_order_46 rfl hl (by decide) rfl (fun ls hl => ?_)
        refine lv_aload_n hx hb dX0_order_47 rfl (lv_at hl 1 rfl) ?_
        refine lv_iload_n hx hb dX0_order_48 rfl (lv_at hl 0 rfl) ?_
        obtain ⟨r49, hr, hF⟩ := obd hF
        refine rX0_nextTrack G C K w hr hl.1 ⟨Nat.le_of_ble_eq_true rfl, Nat.le_of_ble_eq_true rfl⟩ (Nat.le_of_ble_eq_true rfl) dX0_order_49 (fun H locs w => ?_)
        refine lv_istore_n (lv' := [(3, .int r49), (2, .int (v2 ||| ((1 : Int32) <<< (v3 &&& 31)))), (0, .ref o), (1, .int v1), (4, .int v4)]) hx hb dX0_order_52 rfl hl (by decide) rfl (fun ls hl => ?_)
        refine lv_iinc (v := v4 + 1) (lv' := [(4, .int (v4 + 1)), (3, .int r49), (2, .int (v2 ||| ((1 : Int32) <<< (v3 &&& 31)))), (0, .ref o), (1, .int v1)]) hx hb dX0_order_53 hl (k := 4) rfl rfl (by decide) rfl (fun ls hl => ?_)
        refine lv_goto (tgt := 30) hx hb dX0_order_56 (by decide) ?_
        exact ih _ _ _ _ _ _ _ hF w (lv_sub hl [3, 4, 2, 1, 0] rfl)

theorem bX0_order_0 {p : Program} {l : Launch} {e : Env} {s : State} {m : MethodId} {as : Array Value} {below : List Frame} {meth : Method} {c : Code} {A : Nat → Prop} {Q : State → Prop} {γ : wx_G} {o : Nat} {ad : Nat → Nat} {ρ : va_W} {z : Int32} {f : xF} {g : xG} (G : cx_ok γ) (C : CallFix p m c cX0_order 5 s as lw_all RX0) (K : wx_C γ A s) (E : ∀ (H : Heap) (locs : List Loc) (ls : Array Slot) (pc : Nat), wx_w γ A s H locs (cw γ o ad f g ρ) → decode cX0_order pc = .ok (.ireturn, 1) → W p l e rmX0_order s m as below meth c H locs 0 0 Q (F0 m pc ls [.int z])) {v1 : Int32} {H : Heap} {locs : List Loc} {ls : Array Slot} (w : wx_w γ A s H locs (cw γ o ad f g ρ)) (hl : lv_has ls 5 [(0, .ref o), (1, .int v1)]) (hF : pX0_order_0 f g v1 = some z) : W p l e rmX0_order s m as below meth c H locs 0 0 Q (F0 m 0 ls []) := by
  have hx := C.1
  have hb := C.2.1
  unfold pX0_order_0 at hF
  refine lv_iload_n hx hb dX0_order_0 rfl (lv_at hl 1 rfl) ?_
  refine lv_i2l hx hb dX0_order_1 rfl ?_
  refine lv_lconst (v := (0 : Int64)) hx hb dX0_order_2 (by decide) ?_
  refine lv_aload_n hx hb dX0_order_3 rfl (lv_at hl 0 rfl) ?_
  refine cget_34 C K w dX0_order_4 ?_
  refine lv_iconst (v := (1 : Int32)) hx hb dX0_order_7 (by decide) ?_
  refine lv_isub hx hb dX0_order_8 ?_
  refine lv_i2l hx hb dX0_order_9 rfl ?_
  obtain ⟨r10, hr, hF⟩ := obd hF
  refine rX0_in G C K w hr hl.1 ⟨Nat.le_of_ble_eq_true rfl, Nat.le_of_ble_eq_true rfl⟩ (Nat.le_of_ble_eq_true rfl) dX0_order_10 (fun H locs w => ?_)
  refine lv_if_ne (tgt := 19) hx hb dX0_order_13 (by decide) (fun c => ?_) (fun c => ?_)
  · have hF := (if_neg c).symm.trans hF
    refine lv_iconst (v := (0 : Int32)) hx hb dX0_order_19 (by decide) ?_
    refine lv_istore_n (lv' := [(2, .int (0 : Int32)), (0, .ref o), (1, .int v1)]) hx hb dX0_order_20 rfl hl (by decide) rfl (fun ls hl => ?_)
    refine lv_aload_n hx hb dX0_order_21 rfl (lv_at hl 1 rfl) ?_
    refine lv_iload_n hx hb dX0_order_22 rfl (lv_at hl 0 rfl) ?_
    obtain ⟨r23, hr, hF⟩ := obd hF
    refine rX0_nextTrack G C K w hr hl.1 ⟨Nat.le_of_ble_eq_true rfl, Nat.le_of_ble_eq_true rfl⟩ (Nat.le_of_ble_eq_true rfl) dX0_order_23 (fun H locs w => ?_)
    refine lv_istore_n (lv' := [(3, .int r23), (2, .int (0 : Int32)), (0, .ref o), (1, .int v1)]) hx hb dX0_order_26 rfl hl (by decide) rfl (fun ls hl => ?_)
    refine lv_iconst (v := (0 : Int32)) hx hb dX0_order_27 (by decide) ?_
    refine lv_istore (lv' := [(4, .int (0 : Int32)), (3, .int r23), (2, .int (0 : Int32)), (0, .ref o), (1, .int v1)]) hx hb dX0_order_28 hl (by decide) rfl (fun ls hl => ?_)
    exact bX0_order_30 G C K E 5000 _ _ _ _ _ _ _ hF w (lv_sub hl [3, 4, 2, 1, 0] rfl)
  · have hF := (if_pos c).symm.trans hF
    refine lv_bipush (v := (-2 : Int32)) hx hb dX0_order_16 (by decide) ?_
    have hF := Option.some.inj hF
    subst hF
    exact E _ _ _ _ w dX0_order_18

theorem mX0_order {l : Launch} {γ : wx_G} {o : Nat} {ad : Nat → Nat} {ρ : va_W} {f : xF} {g : xG} {v1 : Int32} {z : Int32} (G : cx_ok γ) (hF : pX0_order f g v1 = some z) : wx_M γ l yX0_order (ws_ yX0_order cX0_order 5 (some .int)) rmX0_order [.ref o, .int v1] (cw γ o ad f g ρ) (fun v ws => v = some (.int z) ∧ ws = (cw γ o ad f g ρ)) 0 0 := by
  refine wx_M.of (by decide) (Nat.le_of_ble_eq_true rfl) ?_
  intro p e s m as below meth c A ls C K w hr hlocks _ hl
  exact bX0_order_0 G C K (fun H locs ls pc w d => wx_iret C hr hlocks w ⟨rfl, rfl⟩ d) w hl hF

/-! WalkingStones.image()I -/
abbrev rmX0_image : Room := { frames := 1, cells := 0, slots := 0, locals := 85 }
def pX0_image_0 (f : xF) (g : xG) : Option (Int32 × xF × xG) := if gcp (0 : Int32) (0 : Int32) ((upd (upd (upd (upd (upd f 42 (f 2)) 43 ((upd f 42 (f 2)) 34)) 44 ((upd (upd f 42 (f 2)) 43 ((upd f 42 (f 2)) 34)) 39)) 45 ((upd (upd (upd f 42 (f 2)) 43 ((upd f 42 (f 2)) 34)) 44 ((upd (upd f 42 (f 2)) 43 ((upd f 42 (f 2)) 34)) 39)) 36)) 46 ((upd (upd (upd (upd f 42 (f 2)) 43 ((upd f 42 (f 2)) 34)) 44 ((upd (upd f 42 (f 2)) 43 ((upd f 42 (f 2)) 34)) 39)) 45 ((upd (upd (upd f 42 (f 2)) 43 ((upd f 42 (f 2)) 34)) 44 ((upd (upd f 42 (f 2)) 43 ((upd f 42 (f 2)) 34)) 39)) 36)) 26)) 2) 10 10 = true then some ((upd (upd (upd (upd (upd (upd f 42 (f 2)) 43 ((upd f 42 (f 2)) 34)) 44 ((upd (upd f 42 (f 2)) 43 ((upd f 42 (f 2)) 34)) 39)) 45 ((upd (upd (upd f 42 (f 2)) 43 ((upd f 42 (f 2)) 34)) 44 ((upd (upd f 42 (f 2)) 43 ((upd f 42 (f 2)) 34)) 39)) 36)) 46 ((upd (upd (upd (upd f 42 (f 2)) 43 ((upd f 42 (f 2)) 34)) 44 ((upd (upd f 42 (f 2)) 43 ((upd f 42 (f 2)) 34)) 39)) 45 ((upd (upd (upd f 42 (f 2)) 43 ((upd f 42 (f 2)) 34)) 44 ((upd (upd f 42 (f 2)) 43 ((upd f 42 (f 2)) 34)) 39)) 36)) 26)) 41 (1 : Int32)) 2, upd (upd (upd (upd (upd (upd f 42 (f 2)) 43 ((upd f 42 (f 2)) 34)) 44 ((upd (upd f 42 (f 2)) 43 ((upd f 42 (f 2)) 34)) 39)) 45 ((upd (upd (upd f 42 (f 2)) 43 ((upd f 42 (f 2)) 34)) 44 ((upd (upd f 42 (f 2)) 43 ((upd f 42 (f 2)) 34)) 39)) 36)) 46 ((upd (upd (upd (upd f 42 (f 2)) 43 ((upd f 42 (f 2)) 34)) 44 ((upd (upd f 42 (f 2)) 43 ((upd f 42 (f 2)) 34)) 39)) 45 ((upd (upd (upd f 42 (f 2)) 43 ((upd f 42 (f 2)) 34)) 44 ((upd (upd f 42 (f 2)) 43 ((upd f 42 (f 2)) 34)) 39)) 36)) 26)) 41 (1 : Int32), va_up g 47 (va_cpy (g 1) (g 47) (0 : Int32).toNatClampNeg (0 : Int32).toNatClampNeg ((upd (upd (upd (upd (upd f 42 (f 2)) 43 ((upd f 42 (f 2)) 34)) 44 ((upd (upd f 42 (f 2)) 43 ((upd f 42 (f 2)) 34)) 39)) 45 ((upd (upd (upd f 42 (f 2)) 43 ((upd f 42 (f 2)) 34)) 44 ((upd (upd f 42 (f 2)) 43 ((upd f 42 (f 2)) 34)) 39)) 36)) 46 ((upd (upd (upd (upd f 42 (f 2)) 43 ((upd f 42 (f 2)) 34)) 44 ((upd (upd f 42 (f 2)) 43 ((upd f 42 (f 2)) 34)) 39)) 45 ((upd (upd (upd f 42 (f 2)) 43 ((upd f 42 (f 2)) 34)) 44 ((upd (upd f 42 (f 2)) 43 ((upd f 42 (f 2)) 34)) 39)) 36)) 26)) 2).toNatClampNeg)) else none

abbrev pX0_image (f : xF) (g : xG) : Option (Int32 × xF × xG) := pX0_image_0 f g
theorem bX0_image_0 {p : Program} {l : Launch} {e : Env} {s : State} {m : MethodId} {as : Array Value} {below : List Frame} {meth : Method} {c : Code} {A : Nat → Prop} {Q : State → Prop} {γ : wx_G} {o : Nat} {ad : Nat → Nat} {ρ : va_W} {z : Int32 × xF × xG} (G : cx_ok γ) (C : CallFix p m c cX0_image 1 s as lw_all RX0) (K : wx_C γ A s) (E : ∀ (H : Heap) (locs : List Loc) (ls : Array Slot) (pc : Nat), wx_w γ A s H locs (cw γ o ad z.2.1 z.2.2 ρ) → decode cX0_image pc = .ok (.ireturn, 1) → W p l e rmX0_image s m as below meth c H locs 0 0 Q (F0 m pc ls [.int z.1])) {f : xF} {g : xG} {H : Heap} {locs : List Loc} {ls : Array Slot} (w : wx_w γ A s H locs (cw γ o ad f g ρ)) (hl : lv_has ls 1 [(0, .ref o)]) (hF : pX0_image_0 f g = some z) : W p l e rmX0_image s m as below meth c H locs 0 0 Q (F0 m 0 ls []) := by
  have hx := C.1
  have hb := C.2.1
  unfold pX0_image_0 at hF
  refine lv_aload_n hx hb dX0_image_0 rfl (lv_at hl 0 rfl) ?_
  refine lv_aload_n hx hb dX0_image_1 rfl (lv_at hl 0 rfl) ?_
  refine cget_2 C K w dX0_image_2 ?_
  refine cput_42 C K w dX0_image_5 (fun H locs w => ?_)
  refine lv_aload_n hx hb dX0_image_8 rfl (lv_at hl 0 rfl) ?_
  refine lv_aload_n hx hb dX0_image_9 rfl (lv_at hl 0 rfl) ?_
  refine cget_34 C K w dX0_image_10 ?_
  refine cput_43 C K w dX0_image_13 (fun H locs w => ?_)
  refine lv_aload_n hx hb dX0_image_16 rfl (lv_at hl 0 rfl) ?_
  refine lv_aload_n hx hb dX0_image_17 rfl (lv_at hl 0 rfl) ?_
  refine cget_39 C K w dX0_image_18 ?_
  refine cput_44 C K w dX0_image_21 (fun H locs w => ?_)
  refine lv_aload_n hx hb dX0_image_24 rfl (lv_at hl 0 rfl) ?_
  refine lv_aload_n hx hb dX0_image_25 rfl (lv_at hl 0 rfl) ?_
  refine cget_36 C K w dX0_image_26 ?_
  refine cput_45 C K w dX0_image_29 (fun H locs w => ?_)
  refine lv_aload_n hx hb dX0_image_32 rfl (lv_at hl 0 rfl) ?_
  refine lv_aload_n hx hb dX0_image_33 rfl (lv_at hl 0 rfl) ?_
  refine cget_26 C K w dX0_image_34 ?_
  refine cput_46 C K w dX0_image_37 (fun H locs w => ?_)
  refine lv_aload_n hx hb dX0_image_40 rfl (lv_at hl 0 rfl) ?_
  refine cget_1 C K w dX0_image_41 ?_
  refine lv_iconst (v := (0 : Int32)) hx hb dX0_image_44 (by decide) ?_
  refine lv_aload_n hx hb dX0_image_45 rfl (lv_at hl 0 rfl) ?_
  refine cget_47 C K w dX0_image_46 ?_
  refine lv_iconst (v := (0 : Int32)) hx hb dX0_image_49 (by decide) ?_
  refine lv_aload_n hx hb dX0_image_50 rfl (lv_at hl 0 rfl) ?_
  refine cget_2 C K w dX0_image_51 ?_
  obtain ⟨hi, hF⟩ := gcp_if hF
  refine ccopy 1 1 18 47 rfl rfl ⟨rfl, rfl⟩ ⟨rfl, rfl⟩ C K w hl.1 hi (Nat.le_of_ble_eq_true rfl) (Nat.le_of_ble_eq_true rfl) dX0_image_54 (fun H locs w => ?_)
  refine lv_aload_n hx hb dX0_image_57 rfl (lv_at hl 0 rfl) ?_
  refine lv_iconst (v := (1 : Int32)) hx hb dX0_image_58 (by decide) ?_
  refine cput_41 C K w rfl dX0_image_59 (fun H locs w => ?_)
  refine lv_aload_n hx hb dX0_image_62 rfl (lv_at hl 0 rfl) ?_
  refine cget_2 C K w dX0_image_63 ?_
  have hF := Option.some.inj hF
  subst hF
  exact E _ _ _ _ w dX0_image_66

theorem mX0_image {l : Launch} {γ : wx_G} {o : Nat} {ad : Nat → Nat} {ρ : va_W} {f : xF} {g : xG} {z : Int32 × xF × xG} (G : cx_ok γ) (hF : pX0_image f g = some z) : wx_M γ l yX0_image (ws_ yX0_image cX0_image 1 (some .int)) rmX0_image [.ref o] (cw γ o ad f g ρ) (fun v ws => v = some (.int z.1) ∧ ws = (cw γ o ad z.2.1 z.2.2 ρ)) 0 0 := by
  refine wx_M.of (by decide) (Nat.le_of_ble_eq_true rfl) ?_
  intro p e s m as below meth c A ls C K w hr hlocks _ hl
  exact bX0_image_0 G C K (fun H locs ls pc w d => wx_iret C hr hlocks w ⟨rfl, rfl⟩ d) w hl hF

/-! WalkingStones.back()I -/
abbrev rmX0_back : Room := { frames := 1, cells := 0, slots := 0, locals := 85 }
def pX0_back_0 (f : xF) (g : xG) : Option (Int32 × xF × xG) := if (f 41) = 0 then some ((-3 : Int32), f, g) else (if gcp (0 : Int32) (0 : Int32) ((upd (upd (upd (upd f 34 (f 43)) 39 ((upd f 34 (f 43)) 44)) 36 ((upd (upd f 34 (f 43)) 39 ((upd f 34 (f 43)) 44)) 45)) 26 ((upd (upd (upd f 34 (f 43)) 39 ((upd f 34 (f 43)) 44)) 36 ((upd (upd f 34 (f 43)) 39 ((upd f 34 (f 43)) 44)) 45)) 46)) 42) 10 10 = true then some ((upd (upd (upd (upd f 34 (f 43)) 39 ((upd f 34 (f 43)) 44)) 36 ((upd (upd f 34 (f 43)) 39 ((upd f 34 (f 43)) 44)) 45)) 26 ((upd (upd (upd f 34 (f 43)) 39 ((upd f 34 (f 43)) 44)) 36 ((upd (upd f 34 (f 43)) 39 ((upd f 34 (f 43)) 44)) 45)) 46)) 2, upd (upd (upd (upd f 34 (f 43)) 39 ((upd f 34 (f 43)) 44)) 36 ((upd (upd f 34 (f 43)) 39 ((upd f 34 (f 43)) 44)) 45)) 26 ((upd (upd (upd f 34 (f 43)) 39 ((upd f 34 (f 43)) 44)) 36 ((upd (upd f 34 (f 43)) 39 ((upd f 34 (f 43)) 44)) 45)) 46), va_up g 1 (va_cpy (g 47) (g 1) (0 : Int32).toNatClampNeg (0 : Int32).toNatClampNeg ((upd (upd (upd (upd f 34 (f 43)) 39 ((upd f 34 (f 43)) 44)) 36 ((upd (upd f 34 (f 43)) 39 ((upd f 34 (f 43)) 44)) 45)) 26 ((upd (upd (upd f 34 (f 43)) 39 ((upd f 34 (f 43)) 44)) 36 ((upd (upd f 34 (f 43)) 39 ((upd f 34 (f 43)) 44)) 45)) 46)) 42).toNatClampNeg)) else none)

abbrev pX0_back (f : xF) (g : xG) : Option (Int32 × xF × xG) := pX0_back_0 f g
theorem bX0_back_0 {p : Program} {l : Launch} {e : Env} {s : State} {m : MethodId} {as : Array Value} {below : List Frame} {meth : Method} {c : Code} {A : Nat → Prop} {Q : State → Prop} {γ : wx_G} {o : Nat} {ad : Nat → Nat} {ρ : va_W} {z : Int32 × xF × xG} (G : cx_ok γ) (C : CallFix p m c cX0_back 1 s as lw_all RX0) (K : wx_C γ A s) (E : ∀ (H : Heap) (locs : List Loc) (ls : Array Slot) (pc : Nat), wx_w γ A s H locs (cw γ o ad z.2.1 z.2.2 ρ) → decode cX0_back pc = .ok (.ireturn, 1) → W p l e rmX0_back s m as below meth c H locs 0 0 Q (F0 m pc ls [.int z.1])) {f : xF} {g : xG} {H : Heap} {locs : List Loc} {ls : Array Slot} (w : wx_w γ A s H locs (cw γ o ad f g ρ)) (hl : lv_has ls 1 [(0, .ref o)]) (hF : pX0_back_0 f g = some z) : W p l e rmX0_back s m as below meth c H locs 0 0 Q (F0 m 0 ls []) := by
  have hx := C.1
  have hb := C.2.1
  unfold pX0_back_0 at hF
  refine lv_aload_n hx hb dX0_back_0 rfl (lv_at hl 0 rfl) ?_
  refine cget_41 C K w dX0_back_1 ?_
  refine lv_if_ne (tgt := 10) hx hb dX0_back_4 (by decide) (fun c => ?_) (fun c => ?_)
  · have hF := (if_neg c).symm.trans hF
    refine lv_aload_n hx hb dX0_back_10 rfl (lv_at hl 0 rfl) ?_
    refine lv_aload_n hx hb dX0_back_11 rfl (lv_at hl 0 rfl) ?_
    refine cget_43 C K w dX0_back_12 ?_
    refine cput_34 C K w dX0_back_15 (fun H locs w => ?_)
    refine lv_aload_n hx hb dX0_back_18 rfl (lv_at hl 0 rfl) ?_
    refine lv_aload_n hx hb dX0_back_19 rfl (lv_at hl 0 rfl) ?_
    refine cget_44 C K w dX0_back_20 ?_
    refine cput_39 C K w dX0_back_23 (fun H locs w => ?_)
    refine lv_aload_n hx hb dX0_back_26 rfl (lv_at hl 0 rfl) ?_
    refine lv_aload_n hx hb dX0_back_27 rfl (lv_at hl 0 rfl) ?_
    refine cget_45 C K w dX0_back_28 ?_
    refine cput_36 C K w dX0_back_31 (fun H locs w => ?_)
    refine lv_aload_n hx hb dX0_back_34 rfl (lv_at hl 0 rfl) ?_
    refine lv_aload_n hx hb dX0_back_35 rfl (lv_at hl 0 rfl) ?_
    refine cget_46 C K w dX0_back_36 ?_
    refine cput_26 C K w dX0_back_39 (fun H locs w => ?_)
    refine lv_aload_n hx hb dX0_back_42 rfl (lv_at hl 0 rfl) ?_
    refine cget_47 C K w dX0_back_43 ?_
    refine lv_iconst (v := (0 : Int32)) hx hb dX0_back_46 (by decide) ?_
    refine lv_aload_n hx hb dX0_back_47 rfl (lv_at hl 0 rfl) ?_
    refine cget_1 C K w dX0_back_48 ?_
    refine lv_iconst (v := (0 : Int32)) hx hb dX0_back_51 (by decide) ?_
    refine lv_aload_n hx hb dX0_back_52 rfl (lv_at hl 0 rfl) ?_
    refine cget_42 C K w dX0_back_53 ?_
    obtain ⟨hi, hF⟩ := gcp_if hF
    refine ccopy 18 47 1 1 rfl rfl ⟨rfl, rfl⟩ ⟨rfl, rfl⟩ C K w hl.1 hi (Nat.le_of_ble_eq_true rfl) (Nat.le_of_ble_eq_true rfl) dX0_back_56 (fun H locs w => ?_)
    refine lv_aload_n hx hb dX0_back_59 rfl (lv_at hl 0 rfl) ?_
    refine cget_2 C K w dX0_back_60 ?_
    have hF := Option.some.inj hF
    subst hF
    exact E _ _ _ _ w dX0_back_63
  · have hF := (if_pos c).symm.trans hF
    refine lv_bipush (v := (-3 : Int32)) hx hb dX0_back_7 (by decide) ?_
    have hF := Option.some.inj hF
    subst hF
    exact E _ _ _ _ w dX0_back_9

theorem mX0_back {l : Launch} {γ : wx_G} {o : Nat} {ad : Nat → Nat} {ρ : va_W} {f : xF} {g : xG} {z : Int32 × xF × xG} (G : cx_ok γ) (hF : pX0_back f g = some z) : wx_M γ l yX0_back (ws_ yX0_back cX0_back 1 (some .int)) rmX0_back [.ref o] (cw γ o ad f g ρ) (fun v ws => v = some (.int z.1) ∧ ws = (cw γ o ad z.2.1 z.2.2 ρ)) 0 0 := by
  refine wx_M.of (by decide) (Nat.le_of_ble_eq_true rfl) ?_
  intro p e s m as below meth c A ls C K w hr hlocks _ hl
  exact bX0_back_0 G C K (fun H locs ls pc w d => wx_iret C hr hlocks w ⟨rfl, rfl⟩ d) w hl hF

/-! WalkingStones.count(I)I -/
abbrev rmX0_count : Room := { frames := 0, cells := 0, slots := 0, locals := 0 }
def pX0_count_0 (f : xF) (g : xG) (v1 : Int32) : Option (Int32) := if v1 = (0 : Int32) then some (f 2) else if v1 = (1 : Int32) then some (f 7) else if v1 = (2 : Int32) then some (f 9) else if v1 = (3 : Int32) then some (f 34) else if v1 = (4 : Int32) then some (f 36) else if v1 = (5 : Int32) then some (f 39) else if v1 = (6 : Int32) then some (f 15) else if v1 = (7 : Int32) then some (f 19) else if v1 = (8 : Int32) then some (f 26) else some ((-2 : Int32))

abbrev pX0_count (f : xF) (g : xG) (v1 : Int32) : Option (Int32) := pX0_count_0 f g v1
theorem bX0_count_0 {p : Program} {l : Launch} {e : Env} {s : State} {m : MethodId} {as : Array Value} {below : List Frame} {meth : Method} {c : Code} {A : Nat → Prop} {Q : State → Prop} {γ : wx_G} {o : Nat} {ad : Nat → Nat} {ρ : va_W} {z : Int32} {f : xF} {g : xG} (G : cx_ok γ) (C : CallFix p m c cX0_count 2 s as lw_all RX0) (K : wx_C γ A s) (E : ∀ (H : Heap) (locs : List Loc) (ls : Array Slot) (pc : Nat), wx_w γ A s H locs (cw γ o ad f g ρ) → decode cX0_count pc = .ok (.ireturn, 1) → W p l e rmX0_count s m as below meth c H locs 0 0 Q (F0 m pc ls [.int z])) {v1 : Int32} {H : Heap} {locs : List Loc} {ls : Array Slot} (w : wx_w γ A s H locs (cw γ o ad f g ρ)) (hl : lv_has ls 2 [(0, .ref o), (1, .int v1)]) (hF : pX0_count_0 f g v1 = some z) : W p l e rmX0_count s m as below meth c H locs 0 0 Q (F0 m 0 ls []) := by
  have hx := C.1
  have hb := C.2.1
  unfold pX0_count_0 at hF
  refine lv_iload_n hx hb dX0_count_0 rfl (lv_at hl 1 rfl) ?_
  by_cases c0 : v1 = (0 : Int32)
  · have hF := (if_pos c0).symm.trans hF
    refine lv_tableIn (off := 51) (tgt := 52) hx hb dX0_count_1 (by rw [c0]; decide) (by rw [c0]; decide) (by rw [c0]; rfl) (by decide) ?_
    refine lv_aload_n hx hb dX0_count_52 rfl (lv_at hl 0 rfl) ?_
    refine cget_2 C K w dX0_count_53 ?_
    have hF := Option.some.inj hF
    subst hF
    exact E _ _ _ _ w dX0_count_56
  have hF := (if_neg c0).symm.trans hF
  by_cases c1 : v1 = (1 : Int32)
  · have hF := (if_pos c1).symm.trans hF
    refine lv_tableIn (off := 56) (tgt := 57) hx hb dX0_count_1 (by rw [c1]; decide) (by rw [c1]; decide) (by rw [c1]; rfl) (by decide) ?_
    refine lv_aload_n hx hb dX0_count_57 rfl (lv_at hl 0 rfl) ?_
    refine cget_7 C K w dX0_count_58 ?_
    have hF := Option.some.inj hF
    subst hF
    exact E _ _ _ _ w dX0_count_61
  have hF := (if_neg c1).symm.trans hF
  by_cases c2 : v1 = (2 : Int32)
  · have hF := (if_pos c2).symm.trans hF
    refine lv_tableIn (off := 61) (tgt := 62) hx hb dX0_count_1 (by rw [c2]; decide) (by rw [c2]; decide) (by rw [c2]; rfl) (by decide) ?_
    refine lv_aload_n hx hb dX0_count_62 rfl (lv_at hl 0 rfl) ?_
    refine cget_9 C K w dX0_count_63 ?_
    have hF := Option.some.inj hF
    subst hF
    exact E _ _ _ _ w dX0_count_66
  have hF := (if_neg c2).symm.trans hF
  by_cases c3 : v1 = (3 : Int32)
  · have hF := (if_pos c3).symm.trans hF
    refine lv_tableIn (off := 66) (tgt := 67) hx hb dX0_count_1 (by rw [c3]; decide) (by rw [c3]; decide) (by rw [c3]; rfl) (by decide) ?_
    refine lv_aload_n hx hb dX0_count_67 rfl (lv_at hl 0 rfl) ?_
    refine cget_34 C K w dX0_count_68 ?_
    have hF := Option.some.inj hF
    subst hF
    exact E _ _ _ _ w dX0_count_71
  have hF := (if_neg c3).symm.trans hF
  by_cases c4 : v1 = (4 : Int32)
  · have hF := (if_pos c4).symm.trans hF
    refine lv_tableIn (off := 71) (tgt := 72) hx hb dX0_count_1 (by rw [c4]; decide) (by rw [c4]; decide) (by rw [c4]; rfl) (by decide) ?_
    refine lv_aload_n hx hb dX0_count_72 rfl (lv_at hl 0 rfl) ?_
    refine cget_36 C K w dX0_count_73 ?_
    have hF := Option.some.inj hF
    subst hF
    exact E _ _ _ _ w dX0_count_76
  have hF := (if_neg c4).symm.trans hF
  by_cases c5 : v1 = (5 : Int32)
  · have hF := (if_pos c5).symm.trans hF
    refine lv_tableIn (off := 76) (tgt := 77) hx hb dX0_count_1 (by rw [c5]; decide) (by rw [c5]; decide) (by rw [c5]; rfl) (by decide) ?_
    refine lv_aload_n hx hb dX0_count_77 rfl (lv_at hl 0 rfl) ?_
    refine cget_39 C K w dX0_count_78 ?_
    have hF := Option.some.inj hF
    subst hF
    exact E _ _ _ _ w dX0_count_81
  have hF := (if_neg c5).symm.trans hF
  by_cases c6 : v1 = (6 : Int32)
  · have hF := (if_pos c6).symm.trans hF
    refine lv_tableIn (off := 81) (tgt := 82) hx hb dX0_count_1 (by rw [c6]; decide) (by rw [c6]; decide) (by rw [c6]; rfl) (by decide) ?_
    refine lv_aload_n hx hb dX0_count_82 rfl (lv_at hl 0 rfl) ?_
    refine cget_15 C K w dX0_count_83 ?_
    have hF := Option.some.inj hF
    subst hF
    exact E _ _ _ _ w dX0_count_86
  have hF := (if_neg c6).symm.trans hF
  by_cases c7 : v1 = (7 : Int32)
  · have hF := (if_pos c7).symm.trans hF
    refine lv_tableIn (off := 86) (tgt := 87) hx hb dX0_count_1 (by rw [c7]; decide) (by rw [c7]; decide) (by rw [c7]; rfl) (by decide) ?_
    refine lv_aload_n hx hb dX0_count_87 rfl (lv_at hl 0 rfl) ?_
    refine cget_19 C K w dX0_count_88 ?_
    have hF := Option.some.inj hF
    subst hF
    exact E _ _ _ _ w dX0_count_91
  have hF := (if_neg c7).symm.trans hF
  by_cases c8 : v1 = (8 : Int32)
  · have hF := (if_pos c8).symm.trans hF
    refine lv_tableIn (off := 91) (tgt := 92) hx hb dX0_count_1 (by rw [c8]; decide) (by rw [c8]; decide) (by rw [c8]; rfl) (by decide) ?_
    refine lv_aload_n hx hb dX0_count_92 rfl (lv_at hl 0 rfl) ?_
    refine cget_26 C K w dX0_count_93 ?_
    have hF := Option.some.inj hF
    subst hF
    exact E _ _ _ _ w dX0_count_96
  have hF := (if_neg c8).symm.trans hF
  have n0 := wx_ne c0 (k := 0) (by decide)
  have n1 := wx_ne c1 (k := 1) (by decide)
  have n2 := wx_ne c2 (k := 2) (by decide)
  have n3 := wx_ne c3 (k := 3) (by decide)
  have n4 := wx_ne c4 (k := 4) (by decide)
  have n5 := wx_ne c5 (k := 5) (by decide)
  have n6 := wx_ne c6 (k := 6) (by decide)
  have n7 := wx_ne c7 (k := 7) (by decide)
  have n8 := wx_ne c8 (k := 8) (by decide)
  refine lv_tableOut (tgt := 97) hx hb dX0_count_1 (by omega) (by decide) ?_
  refine lv_bipush (v := (-2 : Int32)) hx hb dX0_count_97 (by decide) ?_
  have hF := Option.some.inj hF
  subst hF
  exact E _ _ _ _ w dX0_count_99

theorem mX0_count {l : Launch} {γ : wx_G} {o : Nat} {ad : Nat → Nat} {ρ : va_W} {f : xF} {g : xG} {v1 : Int32} {z : Int32} (G : cx_ok γ) (hF : pX0_count f g v1 = some z) : wx_M γ l yX0_count (ws_ yX0_count cX0_count 2 (some .int)) rmX0_count [.ref o, .int v1] (cw γ o ad f g ρ) (fun v ws => v = some (.int z) ∧ ws = (cw γ o ad f g ρ)) 0 0 := by
  refine wx_M.of (by decide) (Nat.le_of_ble_eq_true rfl) ?_
  intro p e s m as below meth c A ls C K w hr hlocks _ hl
  exact bX0_count_0 G C K (fun H locs ls pc w d => wx_iret C hr hlocks w ⟨rfl, rfl⟩ d) w hl hF

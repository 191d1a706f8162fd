/-! THE READING OF A TEXT (mine; printed by gen/pars.py): placeIn, next, word, digits, need, openOne -/
set_option maxRecDepth 100000
def gkr (k : Nat) : Bool := decide (k = 16) || decide (k = 17)
theorem gkr_if {α : Type} {k : Nat} {B : Option α} {z : α} (h : (if gkr k = true then B else none) = some z) : (k = 16 ∨ k = 17) ∧ B = some z := by
  by_cases c : gkr k = true
  · rw [if_pos c] at h
    refine ⟨?_, h⟩
    simpa [gkr] using c
  · rw [if_neg c] at h
    cases h
def gsx (k : Nat) : Bool := decide (k < 14)
theorem gsx_if {α : Type} {k : Nat} {B : Option α} {z : α} (h : (if gsx k = true then B else none) = some z) : k < 14 ∧ B = some z := by
  by_cases c : gsx k = true
  · rw [if_pos c] at h
    refine ⟨?_, h⟩
    simpa [gsx] using c
  · rw [if_neg c] at h
    cases h
theorem wx_n0 {x : Int32} (h : x = 1) : ¬ x = 0 := by
  rw [h]
  decide
theorem c_rlen {p : Program} {l : Launch} {e : Env} {R : Room} {s : State} {m : MethodId} {as : Array Value} {below : List Frame} {meth : Method} {c : Code} {H : Heap} {locs : List Loc} {cells slots : Nat} {Q : State → Prop} {cc : ByteArray} {nL pc : Nat} {ls : Array Slot} {rest : List Value} {γ : wx_G} {A : Nat → Prop} {o : Nat} {ad : Nat → Nat} {f : xF} {g : xG} {ρ : va_W} {own : String} {k : Nat} (T : kx_ok γ ad ρ) (hk : k = 16 ∨ k = 17) (C : CallFix p m c cc nL s as lw_all own) (K : wx_C γ A s) (w : wx_w γ A s H locs (cw γ o ad f g ρ)) (d : decode cc pc = .ok (.arraylength, 1)) (kk : W p l e R s m as below meth c H locs cells slots Q (F0 m (pc + 1) ls (.int 6 :: rest))) : W p l e R s m as below meth c H locs cells slots Q (F0 m pc ls (.ref (ad k) :: rest)) := by
  obtain ⟨q, tf, h1, h2⟩ := T k hk
  exact va_alen (v := 6) C.1 C.2.1 K.1.1 w.1 (20 + q) 6 (cwr_at h1) rfl rfl d kk
theorem c_slen {p : Program} {l : Launch} {e : Env} {R : Room} {s : State} {m : MethodId} {as : Array Value} {below : List Frame} {meth : Method} {c : Code} {H : Heap} {locs : List Loc} {cells slots : Nat} {Q : State → Prop} {cc : ByteArray} {nL pc : Nat} {ls : Array Slot} {rest : List Value} {γ : wx_G} {A : Nat → Prop} {o : Nat} {ad : Nat → Nat} {f : xF} {g : xG} {ρ : va_W} {j : Nat} (S : sx_ok γ) (hj : j < 14) (C : CallFix p m c cc nL s as lw_all RX0) (K : wx_C γ A s) (w : wx_w γ A s H locs (cw γ o ad f g ρ)) (hls : ls.size = nL) (hR : rmJ3_length.frames + 1 ≤ R.frames ∧ 8 + (1 + 11) + rmJ3_length.locals ≤ R.locals) (hW : (rest.map fun v => v.category).sum ≤ 8) (d : decode cc pc = .ok (.invokevirtual 156, 3)) (kk : ∀ (H : Heap) (locs : List Loc), wx_w γ A s H locs (cw γ o ad f g ρ) → W p l e R s m as below meth c H locs cells slots Q (F0 m (pc + 3) ls (.int (sx_n j) :: rest))) (hf : cells ≤ R.cells ∧ slots ≤ R.slots := by exact ⟨Nat.le_of_ble_eq_true rfl, Nat.le_of_ble_eq_true rfl⟩) : W p l e R s m as below meth c H locs cells slots Q (F0 m pc ls (.ref (sx_k γ j) :: rest)) :=
  wx_callV (n := 0) C K w (mJ3_length (l := l) S hj) q429 q430 q431 q112 q432 rfl rfl (by decide +kernel) (vk_recv (sx_S K S) hj w.2.2) rfl rfl hR hls hW hf d (fun v ws2 H1 locs1 hp w2 => by obtain ⟨rfl, rfl⟩ := hp; exact kk H1 locs1 w2)
theorem c_sch {p : Program} {l : Launch} {e : Env} {R : Room} {s : State} {m : MethodId} {as : Array Value} {below : List Frame} {meth : Method} {c : Code} {H : Heap} {locs : List Loc} {cells slots : Nat} {Q : State → Prop} {cc : ByteArray} {nL pc : Nat} {ls : Array Slot} {rest : List Value} {γ : wx_G} {A : Nat → Prop} {o : Nat} {ad : Nat → Nat} {f : xF} {g : xG} {ρ : va_W} {j : Nat} {i : Int32} (S : sx_ok γ) (hj : j < 14) (hi : vp_in i (sx_len.getD j 0)) (C : CallFix p m c cc nL s as lw_all RX0) (K : wx_C γ A s) (w : wx_w γ A s H locs (cw γ o ad f g ρ)) (hls : ls.size = nL) (hR : rmJ3_charAt.frames + 1 ≤ R.frames ∧ 8 + (2 + 11) + rmJ3_charAt.locals ≤ R.locals) (hW : (rest.map fun v => v.category).sum ≤ 8) (d : decode cc pc = .ok (.invokevirtual 159, 3)) (kk : ∀ (H : Heap) (locs : List Loc), wx_w γ A s H locs (cw γ o ad f g ρ) → W p l e R s m as below meth c H locs cells slots Q (F0 m (pc + 3) ls (.int (sx_c j i.toNatClampNeg) :: rest))) (hf : cells ≤ R.cells ∧ slots ≤ R.slots := by exact ⟨Nat.le_of_ble_eq_true rfl, Nat.le_of_ble_eq_true rfl⟩) : W p l e R s m as below meth c H locs cells slots Q (F0 m pc ls (.int i :: .ref (sx_k γ j) :: rest)) :=
  wx_callV (n := 1) C K w (mJ3_charAt (l := l) S hj hi) q439 q440 q441 q112 q442 rfl rfl (by decide +kernel) (vk_recv (sx_S K S) hj w.2.2) rfl rfl hR hls hW hf d (fun v ws2 H1 locs1 hp w2 => by obtain ⟨rfl, rfl⟩ := hp; exact kk H1 locs1 w2)
theorem c_six {p : Program} {l : Launch} {e : Env} {R : Room} {s : State} {m : MethodId} {as : Array Value} {below : List Frame} {meth : Method} {c : Code} {H : Heap} {locs : List Loc} {cells slots : Nat} {Q : State → Prop} {cc : ByteArray} {nL pc : Nat} {ls : Array Slot} {rest : List Value} {γ : wx_G} {A : Nat → Prop} {o : Nat} {ad : Nat → Nat} {f : xF} {g : xG} {ρ : va_W} {j : Nat} {x : Int32} (S : sx_ok γ) (hj : j < 14) (C : CallFix p m c cc nL s as lw_all RX0) (K : wx_C γ A s) (w : wx_w γ A s H locs (cw γ o ad f g ρ)) (hls : ls.size = nL) (hR : rmJ3_indexOf.frames + 1 ≤ R.frames ∧ 8 + (2 + 11) + rmJ3_indexOf.locals ≤ R.locals) (hW : (rest.map fun v => v.category).sum ≤ 8) (d : decode cc pc = .ok (.invokevirtual 147, 3)) (kk : ∀ (H : Heap) (locs : List Loc), wx_w γ A s H locs (cw γ o ad f g ρ) → W p l e R s m as below meth c H locs cells slots Q (F0 m (pc + 3) ls (.int (sx_ixo j x) :: rest))) (hf : cells ≤ R.cells ∧ slots ≤ R.slots := by exact ⟨Nat.le_of_ble_eq_true rfl, Nat.le_of_ble_eq_true rfl⟩) : W p l e R s m as below meth c H locs cells slots Q (F0 m pc ls (.int x :: .ref (sx_k γ j) :: rest)) :=
  wx_callV (n := 1) C K w (mJ3_indexOf (l := l) S hj) q487 q488 q489 q112 q490 rfl rfl (by decide +kernel) (vk_recv (sx_S K S) hj w.2.2) rfl rfl hR hls hW hf d (fun v ws2 H1 locs1 hp w2 => by obtain ⟨rfl, rfl⟩ := hp; exact kk H1 locs1 w2)
/-! WalkingStones.placeIn([Ljava/lang/String;)I -/
abbrev rmX0_placeIn : Room := { frames := 4, cells := 0, slots := 0, locals := 106 }
def pX0_placeIn_87 (f : xF) (g : xG) (k2 : Nat → Int32 → Option (Int32)) (v1 : Nat) (v2 : Int32) (v3 : Int32) : Option (Int32) := if v3 = 0 then k2 v1 (v2 + 1) else some (v2)

def pX0_placeIn_80 (f : xF) (g : xG) (k2 : Nat → Int32 → Option (Int32)) (k35 : Nat → Int32 → Int32 → Int32 → Option (Int32)) (v1 : Nat) (v2 : Int32) (v4 : Int32) (t0 : Int32) : Option (Int32) := k35 v1 v2 t0 (v4 + 1)

def pX0_placeIn_35 (f : xF) (g : xG) (k2 : Nat → Int32 → Option (Int32)) : Nat → Nat → Int32 → Int32 → Int32 → Option (Int32)
  | 0, _, _, _, _ => none
  | n + 1, v1, v2, v3, v4 => if v3 = 0 then pX0_placeIn_87 f g k2 v1 v2 v3 else (if ((f 21) - (f 22)) ≤ v4 then pX0_placeIn_87 f g k2 v1 v2 v3 else (if gkr v1 = true then if gin v2 6 = true then if gsx (kx_b v1 + v2.toNatClampNeg) = true then if gin v4 (sx_len.getD (kx_b v1 + v2.toNatClampNeg) 0) = true then (pX0_byteAt f g ((f 22) + v4)).bind (fun r69 => if (sx_c (kx_b v1 + v2.toNatClampNeg) v4.toNatClampNeg) = r69 then pX0_placeIn_80 f g k2 (pX0_placeIn_35 f g k2 n) v1 v2 v4 (1 : Int32) else pX0_placeIn_80 f g k2 (pX0_placeIn_35 f g k2 n) v1 v2 v4 (0 : Int32)) else none else none else none else none))

def pX0_placeIn_31 (f : xF) (g : xG) (k2 : Nat → Int32 → Option (Int32)) (v1 : Nat) (v2 : Int32) (t0 : Int32) : Option (Int32) := pX0_placeIn_35 f g k2 5000 v1 v2 t0 (0 : Int32)

def pX0_placeIn_2 (f : xF) (g : xG) : Nat → Nat → Int32 → Option (Int32)
  | 0, _, _ => none
  | n + 1, v1, v2 => if gkr v1 = true then if (6 : Int32) ≤ v2 then some ((-1 : Int32)) else (if gkr v1 = true then if gin v2 6 = true then if gsx (kx_b v1 + v2.toNatClampNeg) = true then if (sx_n (kx_b v1 + v2.toNatClampNeg)) = ((f 21) - (f 22)) then pX0_placeIn_31 f g (pX0_placeIn_2 f g n) v1 v2 (1 : Int32) else pX0_placeIn_31 f g (pX0_placeIn_2 f g n) v1 v2 (0 : Int32) else none else none else none) else none

def pX0_placeIn_0 (f : xF) (g : xG) (v1 : Nat) : Option (Int32) := pX0_placeIn_2 f g 5000 v1 (0 : Int32)

abbrev pX0_placeIn (f : xF) (g : xG) (v1 : Nat) : Option (Int32) := pX0_placeIn_0 f g v1
theorem bX0_placeIn_87 {p : Program} {l : Launch} {e : Env} {s : State} {m : MethodId} {as : Array Value} {below : List Frame} {meth : Method} {c : Code} {A : Nat → Prop} {Q : State → Prop} {γ : wx_G} {o : Nat} {ad : Nat → Nat} {ρ : va_W} {z : Int32} {f : xF} {g : xG} (G : cx_ok γ) (S : sx_ok γ) (T : kx_ok γ ad ρ) (C : CallFix p m c cX0_placeIn 5 s as lw_all RX0) (K : wx_C γ A s) (E : ∀ (H : Heap) (locs : List Loc) (ls : Array Slot) (pc : Nat), wx_w γ A s H locs (cw γ o ad f g ρ) → decode cX0_placeIn pc = .ok (.ireturn, 1) → W p l e rmX0_placeIn s m as below meth c H locs 0 0 Q (F0 m pc ls [.int z])) {k2 : Nat → Int32 → Option (Int32)} (hk2 : ∀ (v1 : Nat) (v2 : Int32) (H : Heap) (locs : List Loc) (ls : Array Slot), k2 v1 v2 = some z → wx_w γ A s H locs (cw γ o ad f g ρ) → lv_has ls 5 [(0, .ref o), (1, .ref (ad v1)), (2, .int v2)] → W p l e rmX0_placeIn s m as below meth c H locs 0 0 Q (F0 m 2 ls [])) {v1 : Nat} {v2 : Int32} {v3 : Int32} {H : Heap} {locs : List Loc} {ls : Array Slot} (w : wx_w γ A s H locs (cw γ o ad f g ρ)) (hl : lv_has ls 5 [(0, .ref o), (1, .ref (ad v1)), (2, .int v2), (3, .int v3)]) (hF : pX0_placeIn_87 f g k2 v1 v2 v3 = some z) : W p l e rmX0_placeIn s m as below meth c H locs 0 0 Q (F0 m 87 ls []) := by
  have hx := C.1
  have hb := C.2.1
  unfold pX0_placeIn_87 at hF
  refine lv_iload_n hx hb dX0_placeIn_87 rfl (lv_at hl 3 rfl) ?_
  refine lv_if_eq (tgt := 93) hx hb dX0_placeIn_88 (by decide) (fun c => ?_) (fun c => ?_)
  · have hF := (if_pos c).symm.trans hF
    refine lv_iinc (v := v2 + 1) (lv' := [(2, .int (v2 + 1)), (0, .ref o), (1, .ref (ad v1)), (3, .int v3)]) hx hb dX0_placeIn_93 hl (k := 2) rfl rfl (by decide) rfl (fun ls hl => ?_)
    refine lv_goto (tgt := 2) hx hb dX0_placeIn_96 (by decide) ?_
    exact hk2 _ _ _ _ _ hF w (lv_sub hl [1, 2, 0] rfl)
  · have hF := (if_neg c).symm.trans hF
    refine lv_iload_n hx hb dX0_placeIn_91 rfl (lv_at hl 2 rfl) ?_
    have hF := Option.some.inj hF
    subst hF
    exact E _ _ _ _ w dX0_placeIn_92

theorem bX0_placeIn_80 {p : Program} {l : Launch} {e : Env} {s : State} {m : MethodId} {as : Array Value} {below : List Frame} {meth : Method} {c : Code} {A : Nat → Prop} {Q : State → Prop} {γ : wx_G} {o : Nat} {ad : Nat → Nat} {ρ : va_W} {z : Int32} {f : xF} {g : xG} (G : cx_ok γ) (S : sx_ok γ) (T : kx_ok γ ad ρ) (C : CallFix p m c cX0_placeIn 5 s as lw_all RX0) (K : wx_C γ A s) (E : ∀ (H : Heap) (locs : List Loc) (ls : Array Slot) (pc : Nat), wx_w γ A s H locs (cw γ o ad f g ρ) → decode cX0_placeIn pc = .ok (.ireturn, 1) → W p l e rmX0_placeIn s m as below meth c H locs 0 0 Q (F0 m pc ls [.int z])) {k2 : Nat → Int32 → Option (Int32)} (hk2 : ∀ (v1 : Nat) (v2 : Int32) (H : Heap) (locs : List Loc) (ls : Array Slot), k2 v1 v2 = some z → wx_w γ A s H locs (cw γ o ad f g ρ) → lv_has ls 5 [(0, .ref o), (1, .ref (ad v1)), (2, .int v2)] → W p l e rmX0_placeIn s m as below meth c H locs 0 0 Q (F0 m 2 ls [])) {k35 : Nat → Int32 → Int32 → Int32 → Option (Int32)} (hk35 : ∀ (v1 : Nat) (v2 : Int32) (v3 : Int32) (v4 : Int32) (H : Heap) (locs : List Loc) (ls : Array Slot), k35 v1 v2 v3 v4 = some z → wx_w γ A s H locs (cw γ o ad f g ρ) → lv_has ls 5 [(0, .ref o), (1, .ref (ad v1)), (2, .int v2), (3, .int v3), (4, .int v4)] → W p l e rmX0_placeIn s m as below meth c H locs 0 0 Q (F0 m 35 ls [])) {v1 : Nat} {v2 : Int32} {v4 : Int32} {t0 : Int32} {H : Heap} {locs : List Loc} {ls : Array Slot} (w : wx_w γ A s H locs (cw γ o ad f g ρ)) (hl : lv_has ls 5 [(0, .ref o), (1, .ref (ad v1)), (2, .int v2), (4, .int v4)]) (hF : pX0_placeIn_80 f g k2 k35 v1 v2 v4 t0 = some z) : W p l e rmX0_placeIn s m as below meth c H locs 0 0 Q (F0 m 80 ls [.int t0]) := by
  have hx := C.1
  have hb := C.2.1
  unfold pX0_placeIn_80 at hF
  refine lv_istore_n (lv' := [(3, .int t0), (0, .ref o), (1, .ref (ad v1)), (2, .int v2), (4, .int v4)]) hx hb dX0_placeIn_80 rfl hl (by decide) rfl (fun ls hl => ?_)
  refine lv_iinc (v := v4 + 1) (lv' := [(4, .int (v4 + 1)), (3, .int t0), (0, .ref o), (1, .ref (ad v1)), (2, .int v2)]) hx hb dX0_placeIn_81 hl (k := 4) rfl rfl (by decide) rfl (fun ls hl => ?_)
  refine lv_goto (tgt := 35) hx hb dX0_placeIn_84 (by decide) ?_
  exact hk35 _ _ _ _ _ _ _ hF w (lv_sub hl [2, 3, 4, 1, 0] rfl)

theorem bX0_placeIn_35 {p : Program} {l : Launch} {e : Env} {s : State} {m : MethodId} {as : Array Value} {below : List Frame} {meth : Method} {c : Code} {A : Nat → Prop} {Q : State → Prop} {γ : wx_G} {o : Nat} {ad : Nat → Nat} {ρ : va_W} {z : Int32} {f : xF} {g : xG} (G : cx_ok γ) (S : sx_ok γ) (T : kx_ok γ ad ρ) (C : CallFix p m c cX0_placeIn 5 s as lw_all RX0) (K : wx_C γ A s) (E : ∀ (H : Heap) (locs : List Loc) (ls : Array Slot) (pc : Nat), wx_w γ A s H locs (cw γ o ad f g ρ) → decode cX0_placeIn pc = .ok (.ireturn, 1) → W p l e rmX0_placeIn s m as below meth c H locs 0 0 Q (F0 m pc ls [.int z])) {k2 : Nat → Int32 → Option (Int32)} (hk2 : ∀ (v1 : Nat) (v2 : Int32) (H : Heap) (locs : List Loc) (ls : Array Slot), k2 v1 v2 = some z → wx_w γ A s H locs (cw γ o ad f g ρ) → lv_has ls 5 [(0, .ref o), (1, .ref (ad v1)), (2, .int v2)] → W p l e rmX0_placeIn s m as below meth c H locs 0 0 Q (F0 m 2 ls [])) : ∀ (n : Nat) (v1 : Nat) (v2 : Int32) (v3 : Int32) (v4 : Int32) (H : Heap) (locs : List Loc) (ls : Array Slot), pX0_placeIn_35 f g k2 n v1 v2 v3 v4 = some z → wx_w γ A s H locs (cw γ o ad f g ρ) → lv_has ls 5 [(0, .ref o), (1, .ref (ad v1)), (2, .int v2), (3, .int v3), (4, .int v4)] → W p l e rmX0_placeIn s m as below meth c H locs 0 0 Q (F0 m 35 ls []) := by
  have hx := C.1
  have hb := C.2.1
  intro n
  induction n with
  | zero =>
    intro v1 v2 v3 v4 H locs ls hF w hl
    have hF : (none : Option (Int32)) = some z := hF
    cases hF
  | succ n ih =>
    intro v1 v2 v3 v4 H locs ls hF w hl
    rw [pX0_placeIn_35] at hF
    refine lv_iload_n hx hb dX0_placeIn_35 rfl (lv_at hl 3 rfl) ?_
    refine lv_if_eq (tgt := 87) hx hb dX0_placeIn_36 (by decide) (fun c => ?_) (fun c => ?_)
    · have hF := (if_pos c).symm.trans hF
      exact bX0_placeIn_87 G S T C K E hk2 w (lv_sub hl [0, 1, 2, 3] rfl) hF
    · have hF := (if_neg c).symm.trans hF
      refine lv_iload hx hb dX0_placeIn_39 (lv_at hl 4 rfl) ?_
      refine lv_aload_n hx hb dX0_placeIn_41 rfl (lv_at hl 0 rfl) ?_
      refine cget_21 C K w dX0_placeIn_42 ?_
      refine lv_aload_n hx hb dX0_placeIn_45 rfl (lv_at hl 0 rfl) ?_
      refine cget_22 C K w dX0_placeIn_46 ?_
      refine lv_isub hx hb dX0_placeIn_49 ?_
      refine lv_icmp_ge (tgt := 87) hx hb dX0_placeIn_50 (by decide) (fun c => ?_) (fun c => ?_)
      · have hF := (if_pos c).symm.trans hF
        exact bX0_placeIn_87 G S T C K E hk2 w (lv_sub hl [0, 1, 2, 3] rfl) hF
      · have hF := (if_neg c).symm.trans hF
        refine lv_aload_n hx hb dX0_placeIn_53 rfl (lv_at hl 1 rfl) ?_
        refine lv_iload_n hx hb dX0_placeIn_54 rfl (lv_at hl 2 rfl) ?_
        obtain ⟨hkr, hF⟩ := gkr_if hF
        obtain ⟨hi, hF⟩ := gin_if hF
        refine c_lit T hkr C K w hi dX0_placeIn_55 ?_
        refine lv_iload hx hb dX0_placeIn_56 (lv_at hl 4 rfl) ?_
        obtain ⟨hsx, hF⟩ := gsx_if hF
        obtain ⟨hi, hF⟩ := gin_if hF
        refine c_sch S hsx hi C K w hl.1 ⟨Nat.le_of_ble_eq_true rfl, Nat.le_of_ble_eq_true rfl⟩ (Nat.le_of_ble_eq_true rfl) dX0_placeIn_58 (fun H locs w => ?_)
        refine lv_aload_n hx hb dX0_placeIn_61 rfl (lv_at hl 0 rfl) ?_
        refine lv_aload_n hx hb dX0_placeIn_62 rfl (lv_at hl 0 rfl) ?_
        refine cget_22 C K w dX0_placeIn_63 ?_
        refine lv_iload hx hb dX0_placeIn_66 (lv_at hl 4 rfl) ?_
        refine lv_iadd hx hb dX0_placeIn_68 ?_
        obtain ⟨r69, hr, hF⟩ := obd hF
        refine rX0_byteAt G C K w hr hl.1 ⟨Nat.le_of_ble_eq_true rfl, Nat.le_of_ble_eq_true rfl⟩ (Nat.le_of_ble_eq_true rfl) dX0_placeIn_69 (fun H locs w => ?_)
        refine lv_icmp_ne (tgt := 79) hx hb dX0_placeIn_72 (by decide) (fun c => ?_) (fun c => ?_)
        · have hF := (if_neg c).symm.trans hF
          refine lv_iconst (v := (0 : Int32)) hx hb dX0_placeIn_79 (by decide) ?_
          exact bX0_placeIn_80 G S T C K E hk2 ih w (lv_sub hl [0, 1, 2, 4] rfl) hF
        · have hF := (if_pos c).symm.trans hF
          refine lv_iconst (v := (1 : Int32)) hx hb dX0_placeIn_75 (by decide) ?_
          refine lv_goto (tgt := 80) hx hb dX0_placeIn_76 (by decide) ?_
          exact bX0_placeIn_80 G S T C K E hk2 ih w (lv_sub hl [0, 1, 2, 4] rfl) hF

theorem bX0_placeIn_31 {p : Program} {l : Launch} {e : Env} {s : State} {m : MethodId} {as : Array Value} {below : List Frame} {meth : Method} {c : Code} {A : Nat → Prop} {Q : State → Prop} {γ : wx_G} {o : Nat} {ad : Nat → Nat} {ρ : va_W} {z : Int32} {f : xF} {g : xG} (G : cx_ok γ) (S : sx_ok γ) (T : kx_ok γ ad ρ) (C : CallFix p m c cX0_placeIn 5 s as lw_all RX0) (K : wx_C γ A s) (E : ∀ (H : Heap) (locs : List Loc) (ls : Array Slot) (pc : Nat), wx_w γ A s H locs (cw γ o ad f g ρ) → decode cX0_placeIn pc = .ok (.ireturn, 1) → W p l e rmX0_placeIn s m as below meth c H locs 0 0 Q (F0 m pc ls [.int z])) {k2 : Nat → Int32 → Option (Int32)} (hk2 : ∀ (v1 : Nat) (v2 : Int32) (H : Heap) (locs : List Loc) (ls : Array Slot), k2 v1 v2 = some z → wx_w γ A s H locs (cw γ o ad f g ρ) → lv_has ls 5 [(0, .ref o), (1, .ref (ad v1)), (2, .int v2)] → W p l e rmX0_placeIn s m as below meth c H locs 0 0 Q (F0 m 2 ls [])) {v1 : Nat} {v2 : Int32} {t0 : Int32} {H : Heap} {locs : List Loc} {ls : Array Slot} (w : wx_w γ A s H locs (cw γ o ad f g ρ)) (hl : lv_has ls 5 [(0, .ref o), (1, .ref (ad v1)), (2, .int v2)]) (hF : pX0_placeIn_31 f g k2 v1 v2 t0 = some z) : W p l e rmX0_placeIn s m as below meth c H locs 0 0 Q (F0 m 31 ls [.int t0]) := by
  have hx := C.1
  have hb := C.2.1
  unfold pX0_placeIn_31 at hF
  refine lv_istore_n (lv' := [(3, .int t0), (0, .ref o), (1, .ref (ad v1)), (2, .int v2)]) hx hb dX0_placeIn_31 rfl hl (by decide) rfl (fun ls hl => ?_)
  refine lv_iconst (v := (0 : Int32)) hx hb dX0_placeIn_32 (by decide) ?_
  refine lv_istore (lv' := [(4, .int (0 : Int32)), (3, .int t0), (0, .ref o), (1, .ref (ad v1)), (2, .int v2)]) hx hb dX0_placeIn_33 hl (by decide) rfl (fun ls hl => ?_)
  exact bX0_placeIn_35 G S T C K E hk2 5000 _ _ _ _ _ _ _ hF w (lv_sub hl [2, 3, 4, 1, 0] rfl)

theorem bX0_placeIn_2 {p : Program} {l : Launch} {e : Env} {s : State} {m : MethodId} {as : Array Value} {below : List Frame} {meth : Method} {c : Code} {A : Nat → Prop} {Q : State → Prop} {γ : wx_G} {o : Nat} {ad : Nat → Nat} {ρ : va_W} {z : Int32} {f : xF} {g : xG} (G : cx_ok γ) (S : sx_ok γ) (T : kx_ok γ ad ρ) (C : CallFix p m c cX0_placeIn 5 s as lw_all RX0) (K : wx_C γ A s) (E : ∀ (H : Heap) (locs : List Loc) (ls : Array Slot) (pc : Nat), wx_w γ A s H locs (cw γ o ad f g ρ) → decode cX0_placeIn pc = .ok (.ireturn, 1) → W p l e rmX0_placeIn s m as below meth c H locs 0 0 Q (F0 m pc ls [.int z])) : ∀ (n : Nat) (v1 : Nat) (v2 : Int32) (H : Heap) (locs : List Loc) (ls : Array Slot), pX0_placeIn_2 f g n v1 v2 = some z → wx_w γ A s H locs (cw γ o ad f g ρ) → lv_has ls 5 [(0, .ref o), (1, .ref (ad v1)), (2, .int v2)] → W p l e rmX0_placeIn s m as below meth c H locs 0 0 Q (F0 m 2 ls []) := by
  have hx := C.1
  have hb := C.2.1
  intro n
  induction n with
  | zero =>
    intro v1 v2 H locs ls hF w hl
    have hF : (none : Option (Int32)) = some z := hF
    cases hF
  | succ n ih =>
    intro v1 v2 H locs ls hF w hl
    rw [pX0_placeIn_2] at hF
    refine lv_iload_n hx hb dX0_placeIn_2 rfl (lv_at hl 2 rfl) ?_
    refine lv_aload_n hx hb dX0_placeIn_3 rfl (lv_at hl 1 rfl) ?_
    obtain ⟨hkr, hF⟩ := gkr_if hF
    refine c_rlen T hkr C K w dX0_placeIn_4 ?_
    refine lv_icmp_ge (tgt := 99) hx hb dX0_placeIn_5 (by decide) (fun c => ?_) (fun c => ?_)
    · have hF := (if_pos c).symm.trans hF
      refine lv_iconst (v := (-1 : Int32)) hx hb dX0_placeIn_99 (by decide) ?_
      have hF := Option.some.inj hF
      subst hF
      exact E _ _ _ _ w dX0_placeIn_100
    · have hF := (if_neg c).symm.trans hF
      refine lv_aload_n hx hb dX0_placeIn_8 rfl (lv_at hl 1 rfl) ?_
      refine lv_iload_n hx hb dX0_placeIn_9 rfl (lv_at hl 2 rfl) ?_
      obtain ⟨hkr, hF⟩ := gkr_if hF
      obtain ⟨hi, hF⟩ := gin_if hF
      refine c_lit T hkr C K w hi dX0_placeIn_10 ?_
      obtain ⟨hsx, hF⟩ := gsx_if hF
      refine c_slen S hsx C K w hl.1 ⟨Nat.le_of_ble_eq_true rfl, Nat.le_of_ble_eq_true rfl⟩ (Nat.le_of_ble_eq_true rfl) dX0_placeIn_11 (fun H locs w => ?_)
      refine lv_aload_n hx hb dX0_placeIn_14 rfl (lv_at hl 0 rfl) ?_
      refine cget_21 C K w dX0_placeIn_15 ?_
      refine lv_aload_n hx hb dX0_placeIn_18 rfl (lv_at hl 0 rfl) ?_
      refine cget_22 C K w dX0_placeIn_19 ?_
      refine lv_isub hx hb dX0_placeIn_22 ?_
      refine lv_icmp_ne (tgt := 30) hx hb dX0_placeIn_23 (by decide) (fun c => ?_) (fun c => ?_)
      · have hF := (if_neg c).symm.trans hF
        refine lv_iconst (v := (0 : Int32)) hx hb dX0_placeIn_30 (by decide) ?_
        exact bX0_placeIn_31 G S T C K E ih w hl hF
      · have hF := (if_pos c).symm.trans hF
        refine lv_iconst (v := (1 : Int32)) hx hb dX0_placeIn_26 (by decide) ?_
        refine lv_goto (tgt := 31) hx hb dX0_placeIn_27 (by decide) ?_
        exact bX0_placeIn_31 G S T C K E ih w hl hF

theorem bX0_placeIn_0 {p : Program} {l : Launch} {e : Env} {s : State} {m : MethodId} {as : Array Value} {below : List Frame} {meth : Method} {c : Code} {A : Nat → Prop} {Q : State → Prop} {γ : wx_G} {o : Nat} {ad : Nat → Nat} {ρ : va_W} {z : Int32} {f : xF} {g : xG} (G : cx_ok γ) (S : sx_ok γ) (T : kx_ok γ ad ρ) (C : CallFix p m c cX0_placeIn 5 s as lw_all RX0) (K : wx_C γ A s) (E : ∀ (H : Heap) (locs : List Loc) (ls : Array Slot) (pc : Nat), wx_w γ A s H locs (cw γ o ad f g ρ) → decode cX0_placeIn pc = .ok (.ireturn, 1) → W p l e rmX0_placeIn s m as below meth c H locs 0 0 Q (F0 m pc ls [.int z])) {v1 : Nat} {H : Heap} {locs : List Loc} {ls : Array Slot} (w : wx_w γ A s H locs (cw γ o ad f g ρ)) (hl : lv_has ls 5 [(0, .ref o), (1, .ref (ad v1))]) (hF : pX0_placeIn_0 f g v1 = some z) : W p l e rmX0_placeIn s m as below meth c H locs 0 0 Q (F0 m 0 ls []) := by
  have hx := C.1
  have hb := C.2.1
  unfold pX0_placeIn_0 at hF
  refine lv_iconst (v := (0 : Int32)) hx hb dX0_placeIn_0 (by decide) ?_
  refine lv_istore_n (lv' := [(2, .int (0 : Int32)), (0, .ref o), (1, .ref (ad v1))]) hx hb dX0_placeIn_1 rfl hl (by decide) rfl (fun ls hl => ?_)
  exact bX0_placeIn_2 G S T C K E 5000 _ _ _ _ _ hF w (lv_sub hl [1, 2, 0] rfl)

theorem mX0_placeIn {l : Launch} {γ : wx_G} {o : Nat} {ad : Nat → Nat} {ρ : va_W} {f : xF} {g : xG} {v1 : Nat} {z : Int32} (G : cx_ok γ) (S : sx_ok γ) (T : kx_ok γ ad ρ) (hF : pX0_placeIn f g v1 = some z) : wx_M γ l yX0_placeIn (ws_ yX0_placeIn cX0_placeIn 5 (some .int)) rmX0_placeIn [.ref o, .ref (ad v1)] (cw γ o ad f g ρ) (fun v ws => v = some (.int z) ∧ ws = (cw γ o ad f g ρ)) 0 0 := by
  refine wx_M.of (by decide) (Nat.le_of_ble_eq_true rfl) ?_
  intro p e s m as below meth c A ls C K w hr hlocks _ hl
  exact bX0_placeIn_0 G S T C K (fun H locs ls pc w d => wx_iret C hr hlocks w ⟨rfl, rfl⟩ d) w hl hF
theorem rX0_placeIn {p : Program} {l : Launch} {e : Env} {R : Room} {s : State} {m : MethodId} {as : Array Value} {below : List Frame} {meth : Method} {c : Code} {H : Heap} {locs : List Loc} {cells slots : Nat} {Q : State → Prop} {cc : ByteArray} {nL pc : Nat} {ls : Array Slot} {rest : List Value} {γ : wx_G} {A : Nat → Prop} {o : Nat} {ad : Nat → Nat} {ρ : va_W} {f : xF} {g : xG} {v1 : Nat} {z : Int32} (G : cx_ok γ) (S : sx_ok γ) (T : kx_ok γ ad ρ) (C : CallFix p m c cc nL s as lw_all RX0) (K : wx_C γ A s) (w : wx_w γ A s H locs (cw γ o ad f g ρ)) (hF : pX0_placeIn f g v1 = some z) (hls : ls.size = nL) (hR : rmX0_placeIn.frames + 1 ≤ R.frames ∧ 8 + (5 + 11) + rmX0_placeIn.locals ≤ R.locals) (hW : (rest.map fun v => v.category).sum ≤ 8) (d : decode cc pc = .ok (.invokevirtual 167, 3)) (kk : ∀ (H : Heap) (locs : List Loc), wx_w γ A s H locs (cw γ o ad f g ρ) → W p l e R s m as below meth c H locs cells slots Q (F0 m (pc + 3) ls (.int z :: rest))) (hf : cells ≤ R.cells ∧ slots ≤ R.slots := by exact ⟨Nat.le_of_ble_eq_true rfl, Nat.le_of_ble_eq_true rfl⟩) : W p l e R s m as below meth c H locs cells slots Q (F0 m pc ls (.ref (ad v1) :: .ref o :: rest)) :=
  wx_callV (n := 1) C K w (mX0_placeIn (l := l) G S T hF) q425 q427 qs10 q106 q428 rfl rfl (by decide +kernel) (va_recv K.1.1 w.1 (ci := 1) (q0 := 0) rfl rfl) rfl rfl hR hls hW hf d (fun v ws H1 locs1 hp w => by obtain ⟨rfl, rfl⟩ := hp; exact kk H1 locs1 w)

/-! WalkingStones.digits()V -/
abbrev rmX0_digits : Room := { frames := 2, cells := 0, slots := 0, locals := 45 }
def pX0_digits_75 (f : xF) (g : xG) : Option (Int32 × xF × xG) := if (((upd f 23 (3 : Int32)) 21) - ((upd f 23 (3 : Int32)) 22)) ≤ (4 : Int32) then some (0, upd f 23 (3 : Int32), g) else some (1, upd f 23 (3 : Int32), g)

def pX0_digits_59 (k5 : xF → xG → Option (Int32 × xF × xG)) (f : xF) (g : xG) (t1 : Int32) : Option (Int32 × xF × xG) := k5 (upd (upd f 24 t1) 21 (((upd f 24 t1) 21) + (1 : Int32))) g

def pX0_digits_5 : Nat → xF → xG → Option (Int32 × xF × xG)
  | 0, _, _ => none
  | n + 1, f, g => (pX0_byteAt f g (f 21)).bind (fun r10 => (pX0_isDigit f g r10).bind (fun r13 => if r13 = 0 then pX0_digits_75 f g else (if (4 : Int32) ≤ ((f 21) - (f 22)) then pX0_digits_59 (pX0_digits_5 n) f g (f 24) else (pX0_byteAt f g (f 21)).bind (fun r45 => pX0_digits_59 (pX0_digits_5 n) f g ((((10 : Int32) * (f 24)) + r45) - (48 : Int32))))))

def pX0_digits_0 (f : xF) (g : xG) : Option (Int32 × xF × xG) := pX0_digits_5 5000 (upd f 24 (0 : Int32)) g

abbrev pX0_digits (f : xF) (g : xG) : Option (Int32 × xF × xG) := pX0_digits_0 f g
theorem bX0_digits_75 {p : Program} {l : Launch} {e : Env} {s : State} {m : MethodId} {as : Array Value} {below : List Frame} {meth : Method} {c : Code} {A : Nat → Prop} {Q : State → Prop} {γ : wx_G} {o : Nat} {ad : Nat → Nat} {ρ : va_W} {z : Int32 × xF × xG} (G : cx_ok γ) (S : sx_ok γ) (T : kx_ok γ ad ρ) (C : CallFix p m c cX0_digits 1 s as lw_all RX0) (K : wx_C γ A s) (E : ∀ (H : Heap) (locs : List Loc) (ls : Array Slot) (pc : Nat), z.1 = 0 → wx_w γ A s H locs (cw γ o ad z.2.1 z.2.2 ρ) → decode cX0_digits pc = .ok (.return_, 1) → W p l e rmX0_digits s m as below meth c H locs 0 0 Q (F0 m pc ls [])) (ET : ∀ (H : Heap) (locs : List Loc) (ls : Array Slot) (pc : Nat) (st : List Value), z.1 = 1 → wx_w γ A s H locs (cw γ o ad z.2.1 z.2.2 ρ) → WT p l e rmX0_digits s m as below meth c H locs 0 0 Q (F0 m pc ls st) (ad 10)) {f : xF} {g : xG} {H : Heap} {locs : List Loc} {ls : Array Slot} (w : wx_w γ A s H locs (cw γ o ad f g ρ)) (hl : lv_has ls 1 [(0, .ref o)]) (hF : pX0_digits_75 f g = some z) : W p l e rmX0_digits s m as below meth c H locs 0 0 Q (F0 m 75 ls []) := by
  have hx := C.1
  have hb := C.2.1
  unfold pX0_digits_75 at hF
  refine lv_aload_n hx hb dX0_digits_75 rfl (lv_at hl 0 rfl) ?_
  refine lv_iconst (v := (3 : Int32)) hx hb dX0_digits_76 (by decide) ?_
  refine cput_23 C K w dX0_digits_77 (fun H locs w => ?_)
  refine lv_aload_n hx hb dX0_digits_80 rfl (lv_at hl 0 rfl) ?_
  refine cget_21 C K w dX0_digits_81 ?_
  refine lv_aload_n hx hb dX0_digits_84 rfl (lv_at hl 0 rfl) ?_
  refine cget_22 C K w dX0_digits_85 ?_
  refine lv_isub hx hb dX0_digits_88 ?_
  refine lv_iconst (v := (4 : Int32)) hx hb dX0_digits_89 (by decide) ?_
  refine lv_icmp_le (tgt := 98) hx hb dX0_digits_90 (by decide) (fun c => ?_) (fun c => ?_)
  · have hF := (if_pos c).symm.trans hF
    have hF := Option.some.inj hF
    subst hF
    exact E _ _ _ _ rfl w dX0_digits_98
  · have hF := (if_neg c).symm.trans hF
    refine lv_aload_n hx hb dX0_digits_93 rfl (lv_at hl 0 rfl) ?_
    refine cget_10 C K w dX0_digits_94 ?_
    have hF := Option.some.inj hF
    subst hF
    refine wx_athrow C dX0_digits_97 ?_
    exact ET _ _ _ _ _ rfl w

theorem bX0_digits_59 {p : Program} {l : Launch} {e : Env} {s : State} {m : MethodId} {as : Array Value} {below : List Frame} {meth : Method} {c : Code} {A : Nat → Prop} {Q : State → Prop} {γ : wx_G} {o : Nat} {ad : Nat → Nat} {ρ : va_W} {z : Int32 × xF × xG} (G : cx_ok γ) (S : sx_ok γ) (T : kx_ok γ ad ρ) (C : CallFix p m c cX0_digits 1 s as lw_all RX0) (K : wx_C γ A s) (E : ∀ (H : Heap) (locs : List Loc) (ls : Array Slot) (pc : Nat), z.1 = 0 → wx_w γ A s H locs (cw γ o ad z.2.1 z.2.2 ρ) → decode cX0_digits pc = .ok (.return_, 1) → W p l e rmX0_digits s m as below meth c H locs 0 0 Q (F0 m pc ls [])) (ET : ∀ (H : Heap) (locs : List Loc) (ls : Array Slot) (pc : Nat) (st : List Value), z.1 = 1 → wx_w γ A s H locs (cw γ o ad z.2.1 z.2.2 ρ) → WT p l e rmX0_digits s m as below meth c H locs 0 0 Q (F0 m pc ls st) (ad 10)) {k5 : xF → xG → Option (Int32 × xF × xG)} (hk5 : ∀ (f : xF) (g : xG) (H : Heap) (locs : List Loc) (ls : Array Slot), k5 f g = some z → wx_w γ A s H locs (cw γ o ad f g ρ) → lv_has ls 1 [(0, .ref o)] → W p l e rmX0_digits s m as below meth c H locs 0 0 Q (F0 m 5 ls [])) {f : xF} {g : xG} {t1 : Int32} {H : Heap} {locs : List Loc} {ls : Array Slot} (w : wx_w γ A s H locs (cw γ o ad f g ρ)) (hl : lv_has ls 1 [(0, .ref o)]) (hF : pX0_digits_59 k5 f g t1 = some z) : W p l e rmX0_digits s m as below meth c H locs 0 0 Q (F0 m 59 ls [.int t1, .ref o]) := by
  have hx := C.1
  have hb := C.2.1
  unfold pX0_digits_59 at hF
  refine cput_24 C K w dX0_digits_59 (fun H locs w => ?_)
  refine lv_aload_n hx hb dX0_digits_62 rfl (lv_at hl 0 rfl) ?_
  refine lv_dup hx hb dX0_digits_63 rfl ?_
  refine cget_21 C K w dX0_digits_64 ?_
  refine lv_iconst (v := (1 : Int32)) hx hb dX0_digits_67 (by decide) ?_
  refine lv_iadd hx hb dX0_digits_68 ?_
  refine cput_21 C K w dX0_digits_69 (fun H locs w => ?_)
  refine lv_goto (tgt := 5) hx hb dX0_digits_72 (by decide) ?_
  exact hk5 _ _ _ _ _ hF w hl

theorem bX0_digits_5 {p : Program} {l : Launch} {e : Env} {s : State} {m : MethodId} {as : Array Value} {below : List Frame} {meth : Method} {c : Code} {A : Nat → Prop} {Q : State → Prop} {γ : wx_G} {o : Nat} {ad : Nat → Nat} {ρ : va_W} {z : Int32 × xF × xG} (G : cx_ok γ) (S : sx_ok γ) (T : kx_ok γ ad ρ) (C : CallFix p m c cX0_digits 1 s as lw_all RX0) (K : wx_C γ A s) (E : ∀ (H : Heap) (locs : List Loc) (ls : Array Slot) (pc : Nat), z.1 = 0 → wx_w γ A s H locs (cw γ o ad z.2.1 z.2.2 ρ) → decode cX0_digits pc = .ok (.return_, 1) → W p l e rmX0_digits s m as below meth c H locs 0 0 Q (F0 m pc ls [])) (ET : ∀ (H : Heap) (locs : List Loc) (ls : Array Slot) (pc : Nat) (st : List Value), z.1 = 1 → wx_w γ A s H locs (cw γ o ad z.2.1 z.2.2 ρ) → WT p l e rmX0_digits s m as below meth c H locs 0 0 Q (F0 m pc ls st) (ad 10)) : ∀ (n : Nat) (f : xF) (g : xG) (H : Heap) (locs : List Loc) (ls : Array Slot), pX0_digits_5 n f g = some z → wx_w γ A s H locs (cw γ o ad f g ρ) → lv_has ls 1 [(0, .ref o)] → W p l e rmX0_digits s m as below meth c H locs 0 0 Q (F0 m 5 ls []) := by
  have hx := C.1
  have hb := C.2.1
  intro n
  induction n with
  | zero =>
    intro f g H locs ls hF w hl
    have hF : (none : Option (Int32 × xF × xG)) = some z := hF
    cases hF
  | succ n ih =>
    intro f g H locs ls hF w hl
    rw [pX0_digits_5] at hF
    refine lv_aload_n hx hb dX0_digits_5 rfl (lv_at hl 0 rfl) ?_
    refine lv_aload_n hx hb dX0_digits_6 rfl (lv_at hl 0 rfl) ?_
    refine cget_21 C K w dX0_digits_7 ?_
    obtain ⟨r10, hr, hF⟩ := obd hF
    refine rX0_byteAt G C K w hr hl.1 ⟨Nat.le_of_ble_eq_true rfl, Nat.le_of_ble_eq_true rfl⟩ (Nat.le_of_ble_eq_true rfl) dX0_digits_10 (fun H locs w => ?_)
    obtain ⟨r13, hr, hF⟩ := obd hF
    refine rX0_isDigit G C K w hr hl.1 ⟨Nat.le_of_ble_eq_true rfl, Nat.le_of_ble_eq_true rfl⟩ (Nat.le_of_ble_eq_true rfl) dX0_digits_13 (fun H locs w => ?_)
    refine lv_if_eq (tgt := 75) hx hb dX0_digits_16 (by decide) (fun c => ?_) (fun c => ?_)
    · have hF := (if_pos c).symm.trans hF
      exact bX0_digits_75 G S T C K E ET w hl hF
    · have hF := (if_neg c).symm.trans hF
      refine lv_aload_n hx hb dX0_digits_19 rfl (lv_at hl 0 rfl) ?_
      refine lv_aload_n hx hb dX0_digits_20 rfl (lv_at hl 0 rfl) ?_
      refine cget_21 C K w dX0_digits_21 ?_
      refine lv_aload_n hx hb dX0_digits_24 rfl (lv_at hl 0 rfl) ?_
      refine cget_22 C K w dX0_digits_25 ?_
      refine lv_isub hx hb dX0_digits_28 ?_
      refine lv_iconst (v := (4 : Int32)) hx hb dX0_digits_29 (by decide) ?_
      refine lv_icmp_ge (tgt := 55) hx hb dX0_digits_30 (by decide) (fun c => ?_) (fun c => ?_)
      · have hF := (if_pos c).symm.trans hF
        refine lv_aload_n hx hb dX0_digits_55 rfl (lv_at hl 0 rfl) ?_
        refine cget_24 C K w dX0_digits_56 ?_
        exact bX0_digits_59 G S T C K E ET ih w hl hF
      · have hF := (if_neg c).symm.trans hF
        refine lv_bipush (v := (10 : Int32)) hx hb dX0_digits_33 (by decide) ?_
        refine lv_aload_n hx hb dX0_digits_35 rfl (lv_at hl 0 rfl) ?_
        refine cget_24 C K w dX0_digits_36 ?_
        refine lv_imul hx hb dX0_digits_39 ?_
        refine lv_aload_n hx hb dX0_digits_40 rfl (lv_at hl 0 rfl) ?_
        refine lv_aload_n hx hb dX0_digits_41 rfl (lv_at hl 0 rfl) ?_
        refine cget_21 C K w dX0_digits_42 ?_
        obtain ⟨r45, hr, hF⟩ := obd hF
        refine rX0_byteAt G C K w hr hl.1 ⟨Nat.le_of_ble_eq_true rfl, Nat.le_of_ble_eq_true rfl⟩ (Nat.le_of_ble_eq_true rfl) dX0_digits_45 (fun H locs w => ?_)
        refine lv_iadd hx hb dX0_digits_48 ?_
        refine lv_bipush (v := (48 : Int32)) hx hb dX0_digits_49 (by decide) ?_
        refine lv_isub hx hb dX0_digits_51 ?_
        refine lv_goto (tgt := 59) hx hb dX0_digits_52 (by decide) ?_
        exact bX0_digits_59 G S T C K E ET ih w hl hF

theorem bX0_digits_0 {p : Program} {l : Launch} {e : Env} {s : State} {m : MethodId} {as : Array Value} {below : List Frame} {meth : Method} {c : Code} {A : Nat → Prop} {Q : State → Prop} {γ : wx_G} {o : Nat} {ad : Nat → Nat} {ρ : va_W} {z : Int32 × xF × xG} (G : cx_ok γ) (S : sx_ok γ) (T : kx_ok γ ad ρ) (C : CallFix p m c cX0_digits 1 s as lw_all RX0) (K : wx_C γ A s) (E : ∀ (H : Heap) (locs : List Loc) (ls : Array Slot) (pc : Nat), z.1 = 0 → wx_w γ A s H locs (cw γ o ad z.2.1 z.2.2 ρ) → decode cX0_digits pc = .ok (.return_, 1) → W p l e rmX0_digits s m as below meth c H locs 0 0 Q (F0 m pc ls [])) (ET : ∀ (H : Heap) (locs : List Loc) (ls : Array Slot) (pc : Nat) (st : List Value), z.1 = 1 → wx_w γ A s H locs (cw γ o ad z.2.1 z.2.2 ρ) → WT p l e rmX0_digits s m as below meth c H locs 0 0 Q (F0 m pc ls st) (ad 10)) {f : xF} {g : xG} {H : Heap} {locs : List Loc} {ls : Array Slot} (w : wx_w γ A s H locs (cw γ o ad f g ρ)) (hl : lv_has ls 1 [(0, .ref o)]) (hF : pX0_digits_0 f g = some z) : W p l e rmX0_digits s m as below meth c H locs 0 0 Q (F0 m 0 ls []) := by
  have hx := C.1
  have hb := C.2.1
  unfold pX0_digits_0 at hF
  refine lv_aload_n hx hb dX0_digits_0 rfl (lv_at hl 0 rfl) ?_
  refine lv_iconst (v := (0 : Int32)) hx hb dX0_digits_1 (by decide) ?_
  refine cput_24 C K w dX0_digits_2 (fun H locs w => ?_)
  exact bX0_digits_5 G S T C K E ET 5000 _ _ _ _ _ hF w hl

theorem mX0_digits {l : Launch} {γ : wx_G} {o : Nat} {ad : Nat → Nat} {ρ : va_W} {f : xF} {g : xG} {z : Int32 × xF × xG} (G : cx_ok γ) (S : sx_ok γ) (T : kx_ok γ ad ρ) (hF : pX0_digits f g = some z) : wx_MX γ l yX0_digits (ws_ yX0_digits cX0_digits 1 none) rmX0_digits [.ref o] (cw γ o ad f g ρ) (fun v ws => v = none ∧ z.1 = 0 ∧ ws = (cw γ o ad z.2.1 z.2.2 ρ)) (fun x ws => x = ad 10 ∧ z.1 = 1 ∧ ws = (cw γ o ad z.2.1 z.2.2 ρ)) 0 0 := by
  refine wx_MX.of (by decide) (Nat.le_of_ble_eq_true rfl) ?_
  intro p e s m as below meth c A ls C K w hr hlocks htab hl
  exact bX0_digits_0 G S T C K (fun H locs ls pc h0 w d => W.mono (fun t h => wx_QX.of h) (wx_vret C hr hlocks w ⟨rfl, h0, rfl⟩ d)) (fun H locs ls pc st h1 w => wx_thrown rfl rfl rfl hlocks (wx_none htab _) w ⟨rfl, h1, rfl⟩) w hl hF
theorem xX0_digits {p : Program} {l : Launch} {e : Env} {R : Room} {s : State} {m : MethodId} {as : Array Value} {below : List Frame} {meth : Method} {c : Code} {H : Heap} {locs : List Loc} {cells slots : Nat} {Q : State → Prop} {cc : ByteArray} {nL pc : Nat} {ls : Array Slot} {rest : List Value} {γ : wx_G} {A : Nat → Prop} {o : Nat} {ad : Nat → Nat} {ρ : va_W} {f : xF} {g : xG} {z : Int32 × xF × xG} (G : cx_ok γ) (S : sx_ok γ) (T : kx_ok γ ad ρ) (C : CallFix p m c cc nL s as lw_all RX0) (K : wx_C γ A s) (w : wx_w γ A s H locs (cw γ o ad f g ρ)) (hF : pX0_digits f g = some z) (hls : ls.size = nL) (hR : rmX0_digits.frames + 1 ≤ R.frames ∧ 8 + (1 + 11) + rmX0_digits.locals ≤ R.locals) (hW : (rest.map fun v => v.category).sum ≤ 8) (d : decode cc pc = .ok (.invokevirtual 139, 3)) (kk : ∀ (H : Heap) (locs : List Loc), z.1 = 0 → wx_w γ A s H locs (cw γ o ad z.2.1 z.2.2 ρ) → W p l e R s m as below meth c H locs cells slots Q (F0 m (pc + 3) ls rest)) (kt : ∀ (H : Heap) (locs : List Loc), z.1 = 1 → wx_w γ A s H locs (cw γ o ad z.2.1 z.2.2 ρ) → WT p l e R s m as below meth c H locs cells slots Q (F0 m pc ls rest) (ad 10)) (hf : cells ≤ R.cells ∧ slots ≤ R.slots := by exact ⟨Nat.le_of_ble_eq_true rfl, Nat.le_of_ble_eq_true rfl⟩) : W p l e R s m as below meth c H locs cells slots Q (F0 m pc ls (.ref o :: rest)) :=
  wx_callVX (n := 0) C K w (mX0_digits (l := l) G S T hF) q482 q484 qs11 q106 q485 rfl rfl (by decide +kernel) (va_recv K.1.1 w.1 (ci := 1) (q0 := 0) rfl rfl) rfl rfl hR hls hW hf d (fun v ws H1 locs1 hp w => by obtain ⟨rfl, h0, rfl⟩ := hp; exact kk H1 locs1 h0 w) (fun x ws H1 locs1 hp w => by obtain ⟨rfl, h1, rfl⟩ := hp; exact kt H1 locs1 h1 w)

/-! WalkingStones.word()V -/
abbrev rmX0_word : Room := { frames := 5, cells := 0, slots := 0, locals := 130 }
def pX0_word_68 (f : xF) (g : xG) (t1 : Int32) : Option (Int32 × xF × xG) := if ((upd f 24 t1) 24) = (-1 : Int32) then some (1, upd f 24 t1, g) else some (0, upd f 24 t1, g)

def pX0_word_47 (f : xF) (g : xG) (v1 : Int32) (t1 : Int32) : Option (Int32 × xF × xG) := if v1 = (-1 : Int32) then (pX0_placeIn (upd f 23 t1) g 17).bind (fun r61 => pX0_word_68 (upd f 23 t1) g r61) else pX0_word_68 (upd f 23 t1) g v1

def pX0_word_27 (f : xF) (g : xG) : Option (Int32 × xF × xG) := (pX0_placeIn f g 16).bind (fun r32 => if r32 = (-1 : Int32) then pX0_word_47 f g r32 (2 : Int32) else pX0_word_47 f g r32 (1 : Int32))

def pX0_word_0 : Nat → xF → xG → Option (Int32 × xF × xG)
  | 0, _, _ => none
  | n + 1, f, g => (pX0_byteAt f g (f 21)).bind (fun r5 => (pX0_isLetter f g r5).bind (fun r8 => if r8 = 0 then pX0_word_27 f g else pX0_word_0 n (upd f 21 ((f 21) + (1 : Int32))) g))

abbrev pX0_word (f : xF) (g : xG) : Option (Int32 × xF × xG) := pX0_word_0 5000 f g
theorem bX0_word_68 {p : Program} {l : Launch} {e : Env} {s : State} {m : MethodId} {as : Array Value} {below : List Frame} {meth : Method} {c : Code} {A : Nat → Prop} {Q : State → Prop} {γ : wx_G} {o : Nat} {ad : Nat → Nat} {ρ : va_W} {z : Int32 × xF × xG} (G : cx_ok γ) (S : sx_ok γ) (T : kx_ok γ ad ρ) (C : CallFix p m c cX0_word 2 s as lw_all RX0) (K : wx_C γ A s) (E : ∀ (H : Heap) (locs : List Loc) (ls : Array Slot) (pc : Nat), z.1 = 0 → wx_w γ A s H locs (cw γ o ad z.2.1 z.2.2 ρ) → decode cX0_word pc = .ok (.return_, 1) → W p l e rmX0_word s m as below meth c H locs 0 0 Q (F0 m pc ls [])) (ET : ∀ (H : Heap) (locs : List Loc) (ls : Array Slot) (pc : Nat) (st : List Value), z.1 = 1 → wx_w γ A s H locs (cw γ o ad z.2.1 z.2.2 ρ) → WT p l e rmX0_word s m as below meth c H locs 0 0 Q (F0 m pc ls st) (ad 10)) {f : xF} {g : xG} {t1 : Int32} {H : Heap} {locs : List Loc} {ls : Array Slot} (w : wx_w γ A s H locs (cw γ o ad f g ρ)) (hl : lv_has ls 2 [(0, .ref o)]) (hF : pX0_word_68 f g t1 = some z) : W p l e rmX0_word s m as below meth c H locs 0 0 Q (F0 m 68 ls [.int t1, .ref o]) := by
  have hx := C.1
  have hb := C.2.1
  unfold pX0_word_68 at hF
  refine cput_24 C K w dX0_word_68 (fun H locs w => ?_)
  refine lv_aload_n hx hb dX0_word_71 rfl (lv_at hl 0 rfl) ?_
  refine cget_24 C K w dX0_word_72 ?_
  refine lv_iconst (v := (-1 : Int32)) hx hb dX0_word_75 (by decide) ?_
  refine lv_icmp_ne (tgt := 84) hx hb dX0_word_76 (by decide) (fun c => ?_) (fun c => ?_)
  · have hF := (if_neg c).symm.trans hF
    have hF := Option.some.inj hF
    subst hF
    exact E _ _ _ _ rfl w dX0_word_84
  · have hF := (if_pos c).symm.trans hF
    refine lv_aload_n hx hb dX0_word_79 rfl (lv_at hl 0 rfl) ?_
    refine cget_10 C K w dX0_word_80 ?_
    have hF := Option.some.inj hF
    subst hF
    refine wx_athrow C dX0_word_83 ?_
    exact ET _ _ _ _ _ rfl w

theorem bX0_word_47 {p : Program} {l : Launch} {e : Env} {s : State} {m : MethodId} {as : Array Value} {below : List Frame} {meth : Method} {c : Code} {A : Nat → Prop} {Q : State → Prop} {γ : wx_G} {o : Nat} {ad : Nat → Nat} {ρ : va_W} {z : Int32 × xF × xG} (G : cx_ok γ) (S : sx_ok γ) (T : kx_ok γ ad ρ) (C : CallFix p m c cX0_word 2 s as lw_all RX0) (K : wx_C γ A s) (E : ∀ (H : Heap) (locs : List Loc) (ls : Array Slot) (pc : Nat), z.1 = 0 → wx_w γ A s H locs (cw γ o ad z.2.1 z.2.2 ρ) → decode cX0_word pc = .ok (.return_, 1) → W p l e rmX0_word s m as below meth c H locs 0 0 Q (F0 m pc ls [])) (ET : ∀ (H : Heap) (locs : List Loc) (ls : Array Slot) (pc : Nat) (st : List Value), z.1 = 1 → wx_w γ A s H locs (cw γ o ad z.2.1 z.2.2 ρ) → WT p l e rmX0_word s m as below meth c H locs 0 0 Q (F0 m pc ls st) (ad 10)) {f : xF} {g : xG} {v1 : Int32} {t1 : Int32} {H : Heap} {locs : List Loc} {ls : Array Slot} (w : wx_w γ A s H locs (cw γ o ad f g ρ)) (hl : lv_has ls 2 [(0, .ref o), (1, .int v1)]) (hF : pX0_word_47 f g v1 t1 = some z) : W p l e rmX0_word s m as below meth c H locs 0 0 Q (F0 m 47 ls [.int t1, .ref o]) := by
  have hx := C.1
  have hb := C.2.1
  unfold pX0_word_47 at hF
  refine cput_23 C K w dX0_word_47 (fun H locs w => ?_)
  refine lv_aload_n hx hb dX0_word_50 rfl (lv_at hl 0 rfl) ?_
  refine lv_iload_n hx hb dX0_word_51 rfl (lv_at hl 1 rfl) ?_
  refine lv_iconst (v := (-1 : Int32)) hx hb dX0_word_52 (by decide) ?_
  refine lv_icmp_ne (tgt := 67) hx hb dX0_word_53 (by decide) (fun c => ?_) (fun c => ?_)
  · have hF := (if_neg c).symm.trans hF
    refine lv_iload_n hx hb dX0_word_67 rfl (lv_at hl 1 rfl) ?_
    exact bX0_word_68 G S T C K E ET w (lv_sub hl [0] rfl) hF
  · have hF := (if_pos c).symm.trans hF
    refine lv_aload_n hx hb dX0_word_56 rfl (lv_at hl 0 rfl) ?_
    refine lv_aload_n hx hb dX0_word_57 rfl (lv_at hl 0 rfl) ?_
    refine cget_17 C K w dX0_word_58 ?_
    obtain ⟨r61, hr, hF⟩ := obd hF
    refine rX0_placeIn G S T C K w hr hl.1 ⟨Nat.le_of_ble_eq_true rfl, Nat.le_of_ble_eq_true rfl⟩ (Nat.le_of_ble_eq_true rfl) dX0_word_61 (fun H locs w => ?_)
    refine lv_goto (tgt := 68) hx hb dX0_word_64 (by decide) ?_
    exact bX0_word_68 G S T C K E ET w (lv_sub hl [0] rfl) hF

theorem bX0_word_27 {p : Program} {l : Launch} {e : Env} {s : State} {m : MethodId} {as : Array Value} {below : List Frame} {meth : Method} {c : Code} {A : Nat → Prop} {Q : State → Prop} {γ : wx_G} {o : Nat} {ad : Nat → Nat} {ρ : va_W} {z : Int32 × xF × xG} (G : cx_ok γ) (S : sx_ok γ) (T : kx_ok γ ad ρ) (C : CallFix p m c cX0_word 2 s as lw_all RX0) (K : wx_C γ A s) (E : ∀ (H : Heap) (locs : List Loc) (ls : Array Slot) (pc : Nat), z.1 = 0 → wx_w γ A s H locs (cw γ o ad z.2.1 z.2.2 ρ) → decode cX0_word pc = .ok (.return_, 1) → W p l e rmX0_word s m as below meth c H locs 0 0 Q (F0 m pc ls [])) (ET : ∀ (H : Heap) (locs : List Loc) (ls : Array Slot) (pc : Nat) (st : List Value), z.1 = 1 → wx_w γ A s H locs (cw γ o ad z.2.1 z.2.2 ρ) → WT p l e rmX0_word s m as below meth c H locs 0 0 Q (F0 m pc ls st) (ad 10)) {f : xF} {g : xG} {H : Heap} {locs : List Loc} {ls : Array Slot} (w : wx_w γ A s H locs (cw γ o ad f g ρ)) (hl : lv_has ls 2 [(0, .ref o)]) (hF : pX0_word_27 f g = some z) : W p l e rmX0_word s m as below meth c H locs 0 0 Q (F0 m 27 ls []) := by
  have hx := C.1
  have hb := C.2.1
  unfold pX0_word_27 at hF
  refine lv_aload_n hx hb dX0_word_27 rfl (lv_at hl 0 rfl) ?_
  refine lv_aload_n hx hb dX0_word_28 rfl (lv_at hl 0 rfl) ?_
  refine cget_16 C K w dX0_word_29 ?_
  obtain ⟨r32, hr, hF⟩ := obd hF
  refine rX0_placeIn G S T C K w hr hl.1 ⟨Nat.le_of_ble_eq_true rfl, Nat.le_of_ble_eq_true rfl⟩ (Nat.le_of_ble_eq_true rfl) dX0_word_32 (fun H locs w => ?_)
  refine lv_istore_n (lv' := [(1, .int r32), (0, .ref o)]) hx hb dX0_word_35 rfl hl (by decide) rfl (fun ls hl => ?_)
  refine lv_aload_n hx hb dX0_word_36 rfl (lv_at hl 1 rfl) ?_
  refine lv_iload_n hx hb dX0_word_37 rfl (lv_at hl 0 rfl) ?_
  refine lv_iconst (v := (-1 : Int32)) hx hb dX0_word_38 (by decide) ?_
  refine lv_icmp_ne (tgt := 46) hx hb dX0_word_39 (by decide) (fun c => ?_) (fun c => ?_)
  · have hF := (if_neg c).symm.trans hF
    refine lv_iconst (v := (1 : Int32)) hx hb dX0_word_46 (by decide) ?_
    exact bX0_word_47 G S T C K E ET w (lv_sub hl [1, 0] rfl) hF
  · have hF := (if_pos c).symm.trans hF
    refine lv_iconst (v := (2 : Int32)) hx hb dX0_word_42 (by decide) ?_
    refine lv_goto (tgt := 47) hx hb dX0_word_43 (by decide) ?_
    exact bX0_word_47 G S T C K E ET w (lv_sub hl [1, 0] rfl) hF

theorem bX0_word_0 {p : Program} {l : Launch} {e : Env} {s : State} {m : MethodId} {as : Array Value} {below : List Frame} {meth : Method} {c : Code} {A : Nat → Prop} {Q : State → Prop} {γ : wx_G} {o : Nat} {ad : Nat → Nat} {ρ : va_W} {z : Int32 × xF × xG} (G : cx_ok γ) (S : sx_ok γ) (T : kx_ok γ ad ρ) (C : CallFix p m c cX0_word 2 s as lw_all RX0) (K : wx_C γ A s) (E : ∀ (H : Heap) (locs : List Loc) (ls : Array Slot) (pc : Nat), z.1 = 0 → wx_w γ A s H locs (cw γ o ad z.2.1 z.2.2 ρ) → decode cX0_word pc = .ok (.return_, 1) → W p l e rmX0_word s m as below meth c H locs 0 0 Q (F0 m pc ls [])) (ET : ∀ (H : Heap) (locs : List Loc) (ls : Array Slot) (pc : Nat) (st : List Value), z.1 = 1 → wx_w γ A s H locs (cw γ o ad z.2.1 z.2.2 ρ) → WT p l e rmX0_word s m as below meth c H locs 0 0 Q (F0 m pc ls st) (ad 10)) : ∀ (n : Nat) (f : xF) (g : xG) (H : Heap) (locs : List Loc) (ls : Array Slot), pX0_word_0 n f g = some z → wx_w γ A s H locs (cw γ o ad f g ρ) → lv_has ls 2 [(0, .ref o)] → W p l e rmX0_word s m as below meth c H locs 0 0 Q (F0 m 0 ls []) := by
  have hx := C.1
  have hb := C.2.1
  intro n
  induction n with
  | zero =>
    intro f g H locs ls hF w hl
    have hF : (none : Option (Int32 × xF × xG)) = some z := hF
    cases hF
  | succ n ih =>
    intro f g H locs ls hF w hl
    rw [pX0_word_0] at hF
    refine lv_aload_n hx hb dX0_word_0 rfl (lv_at hl 0 rfl) ?_
    refine lv_aload_n hx hb dX0_word_1 rfl (lv_at hl 0 rfl) ?_
    refine cget_21 C K w dX0_word_2 ?_
    obtain ⟨r5, hr, hF⟩ := obd hF
    refine rX0_byteAt G C K w hr hl.1 ⟨Nat.le_of_ble_eq_true rfl, Nat.le_of_ble_eq_true rfl⟩ (Nat.le_of_ble_eq_true rfl) dX0_word_5 (fun H locs w => ?_)
    obtain ⟨r8, hr, hF⟩ := obd hF
    refine rX0_isLetter G C K w hr hl.1 ⟨Nat.le_of_ble_eq_true rfl, Nat.le_of_ble_eq_true rfl⟩ (Nat.le_of_ble_eq_true rfl) dX0_word_8 (fun H locs w => ?_)
    refine lv_if_eq (tgt := 27) hx hb dX0_word_11 (by decide) (fun c => ?_) (fun c => ?_)
    · have hF := (if_pos c).symm.trans hF
      exact bX0_word_27 G S T C K E ET w hl hF
    · have hF := (if_neg c).symm.trans hF
      refine lv_aload_n hx hb dX0_word_14 rfl (lv_at hl 0 rfl) ?_
      refine lv_dup hx hb dX0_word_15 rfl ?_
      refine cget_21 C K w dX0_word_16 ?_
      refine lv_iconst (v := (1 : Int32)) hx hb dX0_word_19 (by decide) ?_
      refine lv_iadd hx hb dX0_word_20 ?_
      refine cput_21 C K w dX0_word_21 (fun H locs w => ?_)
      refine lv_goto (tgt := 0) hx hb dX0_word_24 (by decide) ?_
      exact ih _ _ _ _ _ hF w hl

theorem mX0_word {l : Launch} {γ : wx_G} {o : Nat} {ad : Nat → Nat} {ρ : va_W} {f : xF} {g : xG} {z : Int32 × xF × xG} (G : cx_ok γ) (S : sx_ok γ) (T : kx_ok γ ad ρ) (hF : pX0_word f g = some z) : wx_MX γ l yX0_word (ws_ yX0_word cX0_word 2 none) rmX0_word [.ref o] (cw γ o ad f g ρ) (fun v ws => v = none ∧ z.1 = 0 ∧ ws = (cw γ o ad z.2.1 z.2.2 ρ)) (fun x ws => x = ad 10 ∧ z.1 = 1 ∧ ws = (cw γ o ad z.2.1 z.2.2 ρ)) 0 0 := by
  refine wx_MX.of (by decide) (Nat.le_of_ble_eq_true rfl) ?_
  intro p e s m as below meth c A ls C K w hr hlocks htab hl
  exact bX0_word_0 G S T C K (fun H locs ls pc h0 w d => W.mono (fun t h => wx_QX.of h) (wx_vret C hr hlocks w ⟨rfl, h0, rfl⟩ d)) (fun H locs ls pc st h1 w => wx_thrown rfl rfl rfl hlocks (wx_none htab _) w ⟨rfl, h1, rfl⟩) 5000 f g _ _ _ hF w hl
theorem xX0_word {p : Program} {l : Launch} {e : Env} {R : Room} {s : State} {m : MethodId} {as : Array Value} {below : List Frame} {meth : Method} {c : Code} {H : Heap} {locs : List Loc} {cells slots : Nat} {Q : State → Prop} {cc : ByteArray} {nL pc : Nat} {ls : Array Slot} {rest : List Value} {γ : wx_G} {A : Nat → Prop} {o : Nat} {ad : Nat → Nat} {ρ : va_W} {f : xF} {g : xG} {z : Int32 × xF × xG} (G : cx_ok γ) (S : sx_ok γ) (T : kx_ok γ ad ρ) (C : CallFix p m c cc nL s as lw_all RX0) (K : wx_C γ A s) (w : wx_w γ A s H locs (cw γ o ad f g ρ)) (hF : pX0_word f g = some z) (hls : ls.size = nL) (hR : rmX0_word.frames + 1 ≤ R.frames ∧ 8 + (2 + 11) + rmX0_word.locals ≤ R.locals) (hW : (rest.map fun v => v.category).sum ≤ 8) (d : decode cc pc = .ok (.invokevirtual 132, 3)) (kk : ∀ (H : Heap) (locs : List Loc), z.1 = 0 → wx_w γ A s H locs (cw γ o ad z.2.1 z.2.2 ρ) → W p l e R s m as below meth c H locs cells slots Q (F0 m (pc + 3) ls rest)) (kt : ∀ (H : Heap) (locs : List Loc), z.1 = 1 → wx_w γ A s H locs (cw γ o ad z.2.1 z.2.2 ρ) → WT p l e R s m as below meth c H locs cells slots Q (F0 m pc ls rest) (ad 10)) (hf : cells ≤ R.cells ∧ slots ≤ R.slots := by exact ⟨Nat.le_of_ble_eq_true rfl, Nat.le_of_ble_eq_true rfl⟩) : W p l e R s m as below meth c H locs cells slots Q (F0 m pc ls (.ref o :: rest)) :=
  wx_callVX (n := 0) C K w (mX0_word (l := l) G S T hF) q421 q423 qs9 q106 q424 rfl rfl (by decide +kernel) (va_recv K.1.1 w.1 (ci := 1) (q0 := 0) rfl rfl) rfl rfl hR hls hW hf d (fun v ws H1 locs1 hp w => by obtain ⟨rfl, h0, rfl⟩ := hp; exact kk H1 locs1 h0 w) (fun x ws H1 locs1 hp w => by obtain ⟨rfl, h1, rfl⟩ := hp; exact kt H1 locs1 h1 w)

/-! WalkingStones.next()V -/
abbrev rmX0_next : Room := { frames := 6, cells := 0, slots := 0, locals := 151 }
def pX0_next_26 (k0 : xF → xG → Option (Int32 × xF × xG)) (f : xF) (g : xG) : Option (Int32 × xF × xG) := k0 (upd f 21 ((f 21) + (1 : Int32))) g

def pX0_next_131 (f : xF) (g : xG) : Option (Int32 × xF × xG) := some (0, f, g)

def pX0_next_39 (f : xF) (g : xG) : Option (Int32 × xF × xG) := (pX0_byteAt (upd f 22 (f 21)) g ((upd f 22 (f 21)) 21)).bind (fun r52 => if r52 = (-1 : Int32) then pX0_next_131 (upd (upd f 22 (f 21)) 23 (0 : Int32)) g else (pX0_isLetter (upd f 22 (f 21)) g r52).bind (fun r70 => if r70 = 0 then (pX0_isDigit (upd f 22 (f 21)) g r52).bind (fun r84 => if r84 = 0 then (if gsx 0 = true then if 0 ≤ (sx_ixo 0 r52) then pX0_next_131 (upd (upd (upd (upd f 22 (f 21)) 23 (4 : Int32)) 24 r52) 21 (((upd (upd (upd f 22 (f 21)) 23 (4 : Int32)) 24 r52) 21) + (1 : Int32))) g else some (1, upd (upd (upd (upd f 22 (f 21)) 23 (4 : Int32)) 24 r52) 21 (((upd (upd (upd f 22 (f 21)) 23 (4 : Int32)) 24 r52) 21) + (1 : Int32)), g) else none) else (pX0_digits (upd f 22 (f 21)) g).bind (fun r91 => if r91.1 = 0 then pX0_next_131 r91.2.1 r91.2.2 else some (1, r91.2.1, r91.2.2))) else (pX0_word (upd f 22 (f 21)) g).bind (fun r77 => if r77.1 = 0 then pX0_next_131 r77.2.1 r77.2.2 else some (1, r77.2.1, r77.2.2))))

def pX0_next_0 : Nat → xF → xG → Option (Int32 × xF × xG)
  | 0, _, _ => none
  | n + 1, f, g => (pX0_byteAt f g (f 21)).bind (fun r5 => if r5 = (32 : Int32) then pX0_next_26 (pX0_next_0 n) f g else (pX0_byteAt f g (f 21)).bind (fun r18 => if r18 = (10 : Int32) then pX0_next_26 (pX0_next_0 n) f g else pX0_next_39 f g))

abbrev pX0_next (f : xF) (g : xG) : Option (Int32 × xF × xG) := pX0_next_0 5000 f g
theorem bX0_next_26 {p : Program} {l : Launch} {e : Env} {s : State} {m : MethodId} {as : Array Value} {below : List Frame} {meth : Method} {c : Code} {A : Nat → Prop} {Q : State → Prop} {γ : wx_G} {o : Nat} {ad : Nat → Nat} {ρ : va_W} {z : Int32 × xF × xG} (G : cx_ok γ) (S : sx_ok γ) (T : kx_ok γ ad ρ) (C : CallFix p m c cX0_next 2 s as lw_all RX0) (K : wx_C γ A s) (E : ∀ (H : Heap) (locs : List Loc) (ls : Array Slot) (pc : Nat), z.1 = 0 → wx_w γ A s H locs (cw γ o ad z.2.1 z.2.2 ρ) → decode cX0_next pc = .ok (.return_, 1) → W p l e rmX0_next s m as below meth c H locs 0 0 Q (F0 m pc ls [])) (ET : ∀ (H : Heap) (locs : List Loc) (ls : Array Slot) (pc : Nat) (st : List Value), z.1 = 1 → wx_w γ A s H locs (cw γ o ad z.2.1 z.2.2 ρ) → WT p l e rmX0_next s m as below meth c H locs 0 0 Q (F0 m pc ls st) (ad 10)) {k0 : xF → xG → Option (Int32 × xF × xG)} (hk0 : ∀ (f : xF) (g : xG) (H : Heap) (locs : List Loc) (ls : Array Slot), k0 f g = some z → wx_w γ A s H locs (cw γ o ad f g ρ) → lv_has ls 2 [(0, .ref o)] → W p l e rmX0_next s m as below meth c H locs 0 0 Q (F0 m 0 ls [])) {f : xF} {g : xG} {H : Heap} {locs : List Loc} {ls : Array Slot} (w : wx_w γ A s H locs (cw γ o ad f g ρ)) (hl : lv_has ls 2 [(0, .ref o)]) (hF : pX0_next_26 k0 f g = some z) : W p l e rmX0_next s m as below meth c H locs 0 0 Q (F0 m 26 ls []) := by
  have hx := C.1
  have hb := C.2.1
  unfold pX0_next_26 at hF
  refine lv_aload_n hx hb dX0_next_26 rfl (lv_at hl 0 rfl) ?_
  refine lv_dup hx hb dX0_next_27 rfl ?_
  refine cget_21 C K w dX0_next_28 ?_
  refine lv_iconst (v := (1 : Int32)) hx hb dX0_next_31 (by decide) ?_
  refine lv_iadd hx hb dX0_next_32 ?_
  refine cput_21 C K w dX0_next_33 (fun H locs w => ?_)
  refine lv_goto (tgt := 0) hx hb dX0_next_36 (by decide) ?_
  exact hk0 _ _ _ _ _ hF w hl

theorem bX0_next_131 {p : Program} {l : Launch} {e : Env} {s : State} {m : MethodId} {as : Array Value} {below : List Frame} {meth : Method} {c : Code} {A : Nat → Prop} {Q : State → Prop} {γ : wx_G} {o : Nat} {ad : Nat → Nat} {ρ : va_W} {z : Int32 × xF × xG} (G : cx_ok γ) (S : sx_ok γ) (T : kx_ok γ ad ρ) (C : CallFix p m c cX0_next 2 s as lw_all RX0) (K : wx_C γ A s) (E : ∀ (H : Heap) (locs : List Loc) (ls : Array Slot) (pc : Nat), z.1 = 0 → wx_w γ A s H locs (cw γ o ad z.2.1 z.2.2 ρ) → decode cX0_next pc = .ok (.return_, 1) → W p l e rmX0_next s m as below meth c H locs 0 0 Q (F0 m pc ls [])) (ET : ∀ (H : Heap) (locs : List Loc) (ls : Array Slot) (pc : Nat) (st : List Value), z.1 = 1 → wx_w γ A s H locs (cw γ o ad z.2.1 z.2.2 ρ) → WT p l e rmX0_next s m as below meth c H locs 0 0 Q (F0 m pc ls st) (ad 10)) {f : xF} {g : xG} {H : Heap} {locs : List Loc} {ls : Array Slot} (w : wx_w γ A s H locs (cw γ o ad f g ρ)) (hl : lv_has ls 2 []) (hF : pX0_next_131 f g = some z) : W p l e rmX0_next s m as below meth c H locs 0 0 Q (F0 m 131 ls []) := by
  have hx := C.1
  have hb := C.2.1
  unfold pX0_next_131 at hF
  have hF := Option.some.inj hF
  subst hF
  exact E _ _ _ _ rfl w dX0_next_131

theorem bX0_next_39 {p : Program} {l : Launch} {e : Env} {s : State} {m : MethodId} {as : Array Value} {below : List Frame} {meth : Method} {c : Code} {A : Nat → Prop} {Q : State → Prop} {γ : wx_G} {o : Nat} {ad : Nat → Nat} {ρ : va_W} {z : Int32 × xF × xG} (G : cx_ok γ) (S : sx_ok γ) (T : kx_ok γ ad ρ) (C : CallFix p m c cX0_next 2 s as lw_all RX0) (K : wx_C γ A s) (E : ∀ (H : Heap) (locs : List Loc) (ls : Array Slot) (pc : Nat), z.1 = 0 → wx_w γ A s H locs (cw γ o ad z.2.1 z.2.2 ρ) → decode cX0_next pc = .ok (.return_, 1) → W p l e rmX0_next s m as below meth c H locs 0 0 Q (F0 m pc ls [])) (ET : ∀ (H : Heap) (locs : List Loc) (ls : Array Slot) (pc : Nat) (st : List Value), z.1 = 1 → wx_w γ A s H locs (cw γ o ad z.2.1 z.2.2 ρ) → WT p l e rmX0_next s m as below meth c H locs 0 0 Q (F0 m pc ls st) (ad 10)) {f : xF} {g : xG} {H : Heap} {locs : List Loc} {ls : Array Slot} (w : wx_w γ A s H locs (cw γ o ad f g ρ)) (hl : lv_has ls 2 [(0, .ref o)]) (hF : pX0_next_39 f g = some z) : W p l e rmX0_next s m as below meth c H locs 0 0 Q (F0 m 39 ls []) := by
  have hx := C.1
  have hb := C.2.1
  unfold pX0_next_39 at hF
  refine lv_aload_n hx hb dX0_next_39 rfl (lv_at hl 0 rfl) ?_
  refine lv_aload_n hx hb dX0_next_40 rfl (lv_at hl 0 rfl) ?_
  refine cget_21 C K w dX0_next_41 ?_
  refine cput_22 C K w dX0_next_44 (fun H locs w => ?_)
  refine lv_aload_n hx hb dX0_next_47 rfl (lv_at hl 0 rfl) ?_
  refine lv_aload_n hx hb dX0_next_48 rfl (lv_at hl 0 rfl) ?_
  refine cget_21 C K w dX0_next_49 ?_
  obtain ⟨r52, hr, hF⟩ := obd hF
  refine rX0_byteAt G C K w hr hl.1 ⟨Nat.le_of_ble_eq_true rfl, Nat.le_of_ble_eq_true rfl⟩ (Nat.le_of_ble_eq_true rfl) dX0_next_52 (fun H locs w => ?_)
  refine lv_istore_n (lv' := [(1, .int r52), (0, .ref o)]) hx hb dX0_next_55 rfl hl (by decide) rfl (fun ls hl => ?_)
  refine lv_iload_n hx hb dX0_next_56 rfl (lv_at hl 0 rfl) ?_
  refine lv_iconst (v := (-1 : Int32)) hx hb dX0_next_57 (by decide) ?_
  refine lv_icmp_ne (tgt := 69) hx hb dX0_next_58 (by decide) (fun c => ?_) (fun c => ?_)
  · have hF := (if_neg c).symm.trans hF
    refine lv_iload_n hx hb dX0_next_69 rfl (lv_at hl 0 rfl) ?_
    obtain ⟨r70, hr, hF⟩ := obd hF
    refine rX0_isLetter G C K w hr hl.1 ⟨Nat.le_of_ble_eq_true rfl, Nat.le_of_ble_eq_true rfl⟩ (Nat.le_of_ble_eq_true rfl) dX0_next_70 (fun H locs w => ?_)
    refine lv_if_eq (tgt := 83) hx hb dX0_next_73 (by decide) (fun c => ?_) (fun c => ?_)
    · have hF := (if_pos c).symm.trans hF
      refine lv_iload_n hx hb dX0_next_83 rfl (lv_at hl 0 rfl) ?_
      obtain ⟨r84, hr, hF⟩ := obd hF
      refine rX0_isDigit G C K w hr hl.1 ⟨Nat.le_of_ble_eq_true rfl, Nat.le_of_ble_eq_true rfl⟩ (Nat.le_of_ble_eq_true rfl) dX0_next_84 (fun H locs w => ?_)
      refine lv_if_eq (tgt := 97) hx hb dX0_next_87 (by decide) (fun c => ?_) (fun c => ?_)
      · have hF := (if_pos c).symm.trans hF
        refine lv_aload_n hx hb dX0_next_97 rfl (lv_at hl 1 rfl) ?_
        refine lv_iconst (v := (4 : Int32)) hx hb dX0_next_98 (by decide) ?_
        refine cput_23 C K w dX0_next_99 (fun H locs w => ?_)
        refine lv_aload_n hx hb dX0_next_102 rfl (lv_at hl 1 rfl) ?_
        refine lv_iload_n hx hb dX0_next_103 rfl (lv_at hl 0 rfl) ?_
        refine cput_24 C K w dX0_next_104 (fun H locs w => ?_)
        refine lv_aload_n hx hb dX0_next_107 rfl (lv_at hl 1 rfl) ?_
        refine lv_dup hx hb dX0_next_108 rfl ?_
        refine cget_21 C K w dX0_next_109 ?_
        refine lv_iconst (v := (1 : Int32)) hx hb dX0_next_112 (by decide) ?_
        refine lv_iadd hx hb dX0_next_113 ?_
        refine cput_21 C K w dX0_next_114 (fun H locs w => ?_)
        refine va_ldcS hx hb C.2.2.2.1 (sx_R (i := 0) K S (by decide)) dX0_next_117 ?_
        refine lv_iload_n hx hb dX0_next_119 rfl (lv_at hl 0 rfl) ?_
        obtain ⟨hsx, hF⟩ := gsx_if hF
        refine c_six S hsx C K w hl.1 ⟨Nat.le_of_ble_eq_true rfl, Nat.le_of_ble_eq_true rfl⟩ (Nat.le_of_ble_eq_true rfl) dX0_next_120 (fun H locs w => ?_)
        refine lv_if_ge (tgt := 131) hx hb dX0_next_123 (by decide) (fun c => ?_) (fun c => ?_)
        · have hF := (if_pos c).symm.trans hF
          exact bX0_next_131 G S T C K E ET w (lv_sub hl [] rfl) hF
        · have hF := (if_neg c).symm.trans hF
          refine lv_aload_n hx hb dX0_next_126 rfl (lv_at hl 1 rfl) ?_
          refine cget_10 C K w dX0_next_127 ?_
          have hF := Option.some.inj hF
          subst hF
          refine wx_athrow C dX0_next_130 ?_
          exact ET _ _ _ _ _ rfl w
      · have hF := (if_neg c).symm.trans hF
        refine lv_aload_n hx hb dX0_next_90 rfl (lv_at hl 1 rfl) ?_
        obtain ⟨r91, hr, hF⟩ := obd hF
        refine xX0_digits G S T C K w hr hl.1 ⟨Nat.le_of_ble_eq_true rfl, Nat.le_of_ble_eq_true rfl⟩ (Nat.le_of_ble_eq_true rfl) dX0_next_91 (fun H locs h0 w => ?_) (fun H locs h1 w => by have hF := Option.some.inj ((if_neg (wx_n0 h1)).symm.trans hF); subst hF; exact ET _ _ _ _ _ rfl w)
        have hF := (if_pos h0).symm.trans hF
        refine lv_goto (tgt := 131) hx hb dX0_next_94 (by decide) ?_
        exact bX0_next_131 G S T C K E ET w (lv_sub hl [] rfl) hF
    · have hF := (if_neg c).symm.trans hF
      refine lv_aload_n hx hb dX0_next_76 rfl (lv_at hl 1 rfl) ?_
      obtain ⟨r77, hr, hF⟩ := obd hF
      refine xX0_word G S T C K w hr hl.1 ⟨Nat.le_of_ble_eq_true rfl, Nat.le_of_ble_eq_true rfl⟩ (Nat.le_of_ble_eq_true rfl) dX0_next_77 (fun H locs h0 w => ?_) (fun H locs h1 w => by have hF := Option.some.inj ((if_neg (wx_n0 h1)).symm.trans hF); subst hF; exact ET _ _ _ _ _ rfl w)
      have hF := (if_pos h0).symm.trans hF
      refine lv_goto (tgt := 131) hx hb dX0_next_80 (by decide) ?_
      exact bX0_next_131 G S T C K E ET w (lv_sub hl [] rfl) hF
  · have hF := (if_pos c).symm.trans hF
    refine lv_aload_n hx hb dX0_next_61 rfl (lv_at hl 1 rfl) ?_
    refine lv_iconst (v := (0 : Int32)) hx hb dX0_next_62 (by decide) ?_
    refine cput_23 C K w dX0_next_63 (fun H locs w => ?_)
    refine lv_goto (tgt := 131) hx hb dX0_next_66 (by decide) ?_
    exact bX0_next_131 G S T C K E ET w (lv_sub hl [] rfl) hF

theorem bX0_next_0 {p : Program} {l : Launch} {e : Env} {s : State} {m : MethodId} {as : Array Value} {below : List Frame} {meth : Method} {c : Code} {A : Nat → Prop} {Q : State → Prop} {γ : wx_G} {o : Nat} {ad : Nat → Nat} {ρ : va_W} {z : Int32 × xF × xG} (G : cx_ok γ) (S : sx_ok γ) (T : kx_ok γ ad ρ) (C : CallFix p m c cX0_next 2 s as lw_all RX0) (K : wx_C γ A s) (E : ∀ (H : Heap) (locs : List Loc) (ls : Array Slot) (pc : Nat), z.1 = 0 → wx_w γ A s H locs (cw γ o ad z.2.1 z.2.2 ρ) → decode cX0_next pc = .ok (.return_, 1) → W p l e rmX0_next s m as below meth c H locs 0 0 Q (F0 m pc ls [])) (ET : ∀ (H : Heap) (locs : List Loc) (ls : Array Slot) (pc : Nat) (st : List Value), z.1 = 1 → wx_w γ A s H locs (cw γ o ad z.2.1 z.2.2 ρ) → WT p l e rmX0_next s m as below meth c H locs 0 0 Q (F0 m pc ls st) (ad 10)) : ∀ (n : Nat) (f : xF) (g : xG) (H : Heap) (locs : List Loc) (ls : Array Slot), pX0_next_0 n f g = some z → wx_w γ A s H locs (cw γ o ad f g ρ) → lv_has ls 2 [(0, .ref o)] → W p l e rmX0_next s m as below meth c H locs 0 0 Q (F0 m 0 ls []) := by
  have hx := C.1
  have hb := C.2.1
  intro n
  induction n with
  | zero =>
    intro f g H locs ls hF w hl
    have hF : (none : Option (Int32 × xF × xG)) = some z := hF
    cases hF
  | succ n ih =>
    intro f g H locs ls hF w hl
    rw [pX0_next_0] at hF
    refine lv_aload_n hx hb dX0_next_0 rfl (lv_at hl 0 rfl) ?_
    refine lv_aload_n hx hb dX0_next_1 rfl (lv_at hl 0 rfl) ?_
    refine cget_21 C K w dX0_next_2 ?_
    obtain ⟨r5, hr, hF⟩ := obd hF
    refine rX0_byteAt G C K w hr hl.1 ⟨Nat.le_of_ble_eq_true rfl, Nat.le_of_ble_eq_true rfl⟩ (Nat.le_of_ble_eq_true rfl) dX0_next_5 (fun H locs w => ?_)
    refine lv_bipush (v := (32 : Int32)) hx hb dX0_next_8 (by decide) ?_
    refine lv_icmp_eq (tgt := 26) hx hb dX0_next_10 (by decide) (fun c => ?_) (fun c => ?_)
    · have hF := (if_pos c).symm.trans hF
      exact bX0_next_26 G S T C K E ET ih w hl hF
    · have hF := (if_neg c).symm.trans hF
      refine lv_aload_n hx hb dX0_next_13 rfl (lv_at hl 0 rfl) ?_
      refine lv_aload_n hx hb dX0_next_14 rfl (lv_at hl 0 rfl) ?_
      refine cget_21 C K w dX0_next_15 ?_
      obtain ⟨r18, hr, hF⟩ := obd hF
      refine rX0_byteAt G C K w hr hl.1 ⟨Nat.le_of_ble_eq_true rfl, Nat.le_of_ble_eq_true rfl⟩ (Nat.le_of_ble_eq_true rfl) dX0_next_18 (fun H locs w => ?_)
      refine lv_bipush (v := (10 : Int32)) hx hb dX0_next_21 (by decide) ?_
      refine lv_icmp_ne (tgt := 39) hx hb dX0_next_23 (by decide) (fun c => ?_) (fun c => ?_)
      · have hF := (if_neg c).symm.trans hF
        exact bX0_next_39 G S T C K E ET w hl hF
      · have hF := (if_pos c).symm.trans hF
        exact bX0_next_26 G S T C K E ET ih w hl hF

theorem mX0_next {l : Launch} {γ : wx_G} {o : Nat} {ad : Nat → Nat} {ρ : va_W} {f : xF} {g : xG} {z : Int32 × xF × xG} (G : cx_ok γ) (S : sx_ok γ) (T : kx_ok γ ad ρ) (hF : pX0_next f g = some z) : wx_MX γ l yX0_next (ws_ yX0_next cX0_next 2 none) rmX0_next [.ref o] (cw γ o ad f g ρ) (fun v ws => v = none ∧ z.1 = 0 ∧ ws = (cw γ o ad z.2.1 z.2.2 ρ)) (fun x ws => x = ad 10 ∧ z.1 = 1 ∧ ws = (cw γ o ad z.2.1 z.2.2 ρ)) 0 0 := by
  refine wx_MX.of (by decide) (Nat.le_of_ble_eq_true rfl) ?_
  intro p e s m as below meth c A ls C K w hr hlocks htab hl
  exact bX0_next_0 G S T C K (fun H locs ls pc h0 w d => W.mono (fun t h => wx_QX.of h) (wx_vret C hr hlocks w ⟨rfl, h0, rfl⟩ d)) (fun H locs ls pc st h1 w => wx_thrown rfl rfl rfl hlocks (wx_none htab _) w ⟨rfl, h1, rfl⟩) 5000 f g _ _ _ hF w hl
theorem xX0_next {p : Program} {l : Launch} {e : Env} {R : Room} {s : State} {m : MethodId} {as : Array Value} {below : List Frame} {meth : Method} {c : Code} {H : Heap} {locs : List Loc} {cells slots : Nat} {Q : State → Prop} {cc : ByteArray} {nL pc : Nat} {ls : Array Slot} {rest : List Value} {γ : wx_G} {A : Nat → Prop} {o : Nat} {ad : Nat → Nat} {ρ : va_W} {f : xF} {g : xG} {z : Int32 × xF × xG} (G : cx_ok γ) (S : sx_ok γ) (T : kx_ok γ ad ρ) (C : CallFix p m c cc nL s as lw_all RX0) (K : wx_C γ A s) (w : wx_w γ A s H locs (cw γ o ad f g ρ)) (hF : pX0_next f g = some z) (hls : ls.size = nL) (hR : rmX0_next.frames + 1 ≤ R.frames ∧ 8 + (2 + 11) + rmX0_next.locals ≤ R.locals) (hW : (rest.map fun v => v.category).sum ≤ 8) (d : decode cc pc = .ok (.invokevirtual 174, 3)) (kk : ∀ (H : Heap) (locs : List Loc), z.1 = 0 → wx_w γ A s H locs (cw γ o ad z.2.1 z.2.2 ρ) → W p l e R s m as below meth c H locs cells slots Q (F0 m (pc + 3) ls rest)) (kt : ∀ (H : Heap) (locs : List Loc), z.1 = 1 → wx_w γ A s H locs (cw γ o ad z.2.1 z.2.2 ρ) → WT p l e R s m as below meth c H locs cells slots Q (F0 m pc ls rest) (ad 10)) (hf : cells ≤ R.cells ∧ slots ≤ R.slots := by exact ⟨Nat.le_of_ble_eq_true rfl, Nat.le_of_ble_eq_true rfl⟩) : W p l e R s m as below meth c H locs cells slots Q (F0 m pc ls (.ref o :: rest)) :=
  wx_callVX (n := 0) C K w (mX0_next (l := l) G S T hF) q408 q410 qs7 q106 q411 rfl rfl (by decide +kernel) (va_recv K.1.1 w.1 (ci := 1) (q0 := 0) rfl rfl) rfl rfl hR hls hW hf d (fun v ws H1 locs1 hp w => by obtain ⟨rfl, h0, rfl⟩ := hp; exact kk H1 locs1 h0 w) (fun x ws H1 locs1 hp w => by obtain ⟨rfl, h1, rfl⟩ := hp; exact kt H1 locs1 h1 w)

/-! WalkingStones.need(Z)V -/
abbrev rmX0_need : Room := { frames := 7, cells := 0, slots := 0, locals := 172 }
def pX0_need_0 (f : xF) (g : xG) (v1 : Int32) : Option (Int32 × xF × xG) := if v1 = 0 then some (1, f, g) else (pX0_next f g).bind (fun r10 => if r10.1 = 0 then some (0, r10.2.1, r10.2.2) else some (1, r10.2.1, r10.2.2))

abbrev pX0_need (f : xF) (g : xG) (v1 : Int32) : Option (Int32 × xF × xG) := pX0_need_0 f g v1
theorem bX0_need_0 {p : Program} {l : Launch} {e : Env} {s : State} {m : MethodId} {as : Array Value} {below : List Frame} {meth : Method} {c : Code} {A : Nat → Prop} {Q : State → Prop} {γ : wx_G} {o : Nat} {ad : Nat → Nat} {ρ : va_W} {z : Int32 × xF × xG} (G : cx_ok γ) (S : sx_ok γ) (T : kx_ok γ ad ρ) (C : CallFix p m c cX0_need 2 s as lw_all RX0) (K : wx_C γ A s) (E : ∀ (H : Heap) (locs : List Loc) (ls : Array Slot) (pc : Nat), z.1 = 0 → wx_w γ A s H locs (cw γ o ad z.2.1 z.2.2 ρ) → decode cX0_need pc = .ok (.return_, 1) → W p l e rmX0_need s m as below meth c H locs 0 0 Q (F0 m pc ls [])) (ET : ∀ (H : Heap) (locs : List Loc) (ls : Array Slot) (pc : Nat) (st : List Value), z.1 = 1 → wx_w γ A s H locs (cw γ o ad z.2.1 z.2.2 ρ) → WT p l e rmX0_need s m as below meth c H locs 0 0 Q (F0 m pc ls st) (ad 10)) {f : xF} {g : xG} {v1 : Int32} {H : Heap} {locs : List Loc} {ls : Array Slot} (w : wx_w γ A s H locs (cw γ o ad f g ρ)) (hl : lv_has ls 2 [(0, .ref o), (1, .int v1)]) (hF : pX0_need_0 f g v1 = some z) : W p l e rmX0_need s m as below meth c H locs 0 0 Q (F0 m 0 ls []) := by
  have hx := C.1
  have hb := C.2.1
  unfold pX0_need_0 at hF
  refine lv_iload_n hx hb dX0_need_0 rfl (lv_at hl 1 rfl) ?_
  refine lv_if_ne (tgt := 9) hx hb dX0_need_1 (by decide) (fun c => ?_) (fun c => ?_)
  · have hF := (if_neg c).symm.trans hF
    refine lv_aload_n hx hb dX0_need_9 rfl (lv_at hl 0 rfl) ?_
    obtain ⟨r10, hr, hF⟩ := obd hF
    refine xX0_next G S T C K w hr hl.1 ⟨Nat.le_of_ble_eq_true rfl, Nat.le_of_ble_eq_true rfl⟩ (Nat.le_of_ble_eq_true rfl) dX0_need_10 (fun H locs h0 w => ?_) (fun H locs h1 w => by have hF := Option.some.inj ((if_neg (wx_n0 h1)).symm.trans hF); subst hF; exact ET _ _ _ _ _ rfl w)
    have hF := (if_pos h0).symm.trans hF
    have hF := Option.some.inj hF
    subst hF
    exact E _ _ _ _ rfl w dX0_need_13
  · have hF := (if_pos c).symm.trans hF
    refine lv_aload_n hx hb dX0_need_4 rfl (lv_at hl 0 rfl) ?_
    refine cget_10 C K w dX0_need_5 ?_
    have hF := Option.some.inj hF
    subst hF
    refine wx_athrow C dX0_need_8 ?_
    exact ET _ _ _ _ _ rfl w

theorem mX0_need {l : Launch} {γ : wx_G} {o : Nat} {ad : Nat → Nat} {ρ : va_W} {f : xF} {g : xG} {v1 : Int32} {z : Int32 × xF × xG} (G : cx_ok γ) (S : sx_ok γ) (T : kx_ok γ ad ρ) (hF : pX0_need f g v1 = some z) : wx_MX γ l yX0_need (ws_ yX0_need cX0_need 2 none) rmX0_need [.ref o, .int v1] (cw γ o ad f g ρ) (fun v ws => v = none ∧ z.1 = 0 ∧ ws = (cw γ o ad z.2.1 z.2.2 ρ)) (fun x ws => x = ad 10 ∧ z.1 = 1 ∧ ws = (cw γ o ad z.2.1 z.2.2 ρ)) 0 0 := by
  refine wx_MX.of (by decide) (Nat.le_of_ble_eq_true rfl) ?_
  intro p e s m as below meth c A ls C K w hr hlocks htab hl
  exact bX0_need_0 G S T C K (fun H locs ls pc h0 w d => W.mono (fun t h => wx_QX.of h) (wx_vret C hr hlocks w ⟨rfl, h0, rfl⟩ d)) (fun H locs ls pc st h1 w => wx_thrown rfl rfl rfl hlocks (wx_none htab _) w ⟨rfl, h1, rfl⟩) w hl hF
theorem xX0_need {p : Program} {l : Launch} {e : Env} {R : Room} {s : State} {m : MethodId} {as : Array Value} {below : List Frame} {meth : Method} {c : Code} {H : Heap} {locs : List Loc} {cells slots : Nat} {Q : State → Prop} {cc : ByteArray} {nL pc : Nat} {ls : Array Slot} {rest : List Value} {γ : wx_G} {A : Nat → Prop} {o : Nat} {ad : Nat → Nat} {ρ : va_W} {f : xF} {g : xG} {v1 : Int32} {z : Int32 × xF × xG} (G : cx_ok γ) (S : sx_ok γ) (T : kx_ok γ ad ρ) (C : CallFix p m c cc nL s as lw_all RX0) (K : wx_C γ A s) (w : wx_w γ A s H locs (cw γ o ad f g ρ)) (hF : pX0_need f g v1 = some z) (hls : ls.size = nL) (hR : rmX0_need.frames + 1 ≤ R.frames ∧ 8 + (2 + 11) + rmX0_need.locals ≤ R.locals) (hW : (rest.map fun v => v.category).sum ≤ 8) (d : decode cc pc = .ok (.invokevirtual 180, 3)) (kk : ∀ (H : Heap) (locs : List Loc), z.1 = 0 → wx_w γ A s H locs (cw γ o ad z.2.1 z.2.2 ρ) → W p l e R s m as below meth c H locs cells slots Q (F0 m (pc + 3) ls rest)) (kt : ∀ (H : Heap) (locs : List Loc), z.1 = 1 → wx_w γ A s H locs (cw γ o ad z.2.1 z.2.2 ρ) → WT p l e R s m as below meth c H locs cells slots Q (F0 m pc ls rest) (ad 10)) (hf : cells ≤ R.cells ∧ slots ≤ R.slots := by exact ⟨Nat.le_of_ble_eq_true rfl, Nat.le_of_ble_eq_true rfl⟩) : W p l e R s m as below meth c H locs cells slots Q (F0 m pc ls (.int v1 :: .ref o :: rest)) :=
  wx_callVX (n := 1) C K w (mX0_need (l := l) G S T hF) q546 q548 qs13 q106 q549 rfl rfl (by decide +kernel) (va_recv K.1.1 w.1 (ci := 1) (q0 := 0) rfl rfl) rfl rfl hR hls hW hf d (fun v ws H1 locs1 hp w => by obtain ⟨rfl, h0, rfl⟩ := hp; exact kk H1 locs1 h0 w) (fun x ws H1 locs1 hp w => by obtain ⟨rfl, h1, rfl⟩ := hp; exact kt H1 locs1 h1 w)

/-! WalkingStones.openOne()V -/
abbrev rmX0_openOne : Room := { frames := 8, cells := 0, slots := 0, locals := 193 }
def pX0_openOne_14 (f : xF) (g : xG) (t1 : Int32) : Option (Int32 × xF × xG) := (pX0_need f g t1).bind (fun r14 => if r14.1 = 0 then some (0, upd r14.2.1 25 ((r14.2.1 25) + (1 : Int32)), r14.2.2) else some (1, r14.2.1, r14.2.2))

def pX0_openOne_0 (f : xF) (g : xG) : Option (Int32 × xF × xG) := if (5 : Int32) ≤ (f 25) then pX0_openOne_14 f g (0 : Int32) else pX0_openOne_14 f g (1 : Int32)

abbrev pX0_openOne (f : xF) (g : xG) : Option (Int32 × xF × xG) := pX0_openOne_0 f g
theorem bX0_openOne_14 {p : Program} {l : Launch} {e : Env} {s : State} {m : MethodId} {as : Array Value} {below : List Frame} {meth : Method} {c : Code} {A : Nat → Prop} {Q : State → Prop} {γ : wx_G} {o : Nat} {ad : Nat → Nat} {ρ : va_W} {z : Int32 × xF × xG} (G : cx_ok γ) (S : sx_ok γ) (T : kx_ok γ ad ρ) (C : CallFix p m c cX0_openOne 1 s as lw_all RX0) (K : wx_C γ A s) (E : ∀ (H : Heap) (locs : List Loc) (ls : Array Slot) (pc : Nat), z.1 = 0 → wx_w γ A s H locs (cw γ o ad z.2.1 z.2.2 ρ) → decode cX0_openOne pc = .ok (.return_, 1) → W p l e rmX0_openOne s m as below meth c H locs 0 0 Q (F0 m pc ls [])) (ET : ∀ (H : Heap) (locs : List Loc) (ls : Array Slot) (pc : Nat) (st : List Value), z.1 = 1 → wx_w γ A s H locs (cw γ o ad z.2.1 z.2.2 ρ) → WT p l e rmX0_openOne s m as below meth c H locs 0 0 Q (F0 m pc ls st) (ad 10)) {f : xF} {g : xG} {t1 : Int32} {H : Heap} {locs : List Loc} {ls : Array Slot} (w : wx_w γ A s H locs (cw γ o ad f g ρ)) (hl : lv_has ls 1 [(0, .ref o)]) (hF : pX0_openOne_14 f g t1 = some z) : W p l e rmX0_openOne s m as below meth c H locs 0 0 Q (F0 m 14 ls [.int t1, .ref o]) := by
  have hx := C.1
  have hb := C.2.1
  unfold pX0_openOne_14 at hF
  obtain ⟨r14, hr, hF⟩ := obd hF
  refine xX0_need G S T C K w hr hl.1 ⟨Nat.le_of_ble_eq_true rfl, Nat.le_of_ble_eq_true rfl⟩ (Nat.le_of_ble_eq_true rfl) dX0_openOne_14 (fun H locs h0 w => ?_) (fun H locs h1 w => by have hF := Option.some.inj ((if_neg (wx_n0 h1)).symm.trans hF); subst hF; exact ET _ _ _ _ _ rfl w)
  have hF := (if_pos h0).symm.trans hF
  refine lv_aload_n hx hb dX0_openOne_17 rfl (lv_at hl 0 rfl) ?_
  refine lv_dup hx hb dX0_openOne_18 rfl ?_
  refine cget_25 C K w dX0_openOne_19 ?_
  refine lv_iconst (v := (1 : Int32)) hx hb dX0_openOne_22 (by decide) ?_
  refine lv_iadd hx hb dX0_openOne_23 ?_
  refine cput_25 C K w dX0_openOne_24 (fun H locs w => ?_)
  have hF := Option.some.inj hF
  subst hF
  exact E _ _ _ _ rfl w dX0_openOne_27

theorem bX0_openOne_0 {p : Program} {l : Launch} {e : Env} {s : State} {m : MethodId} {as : Array Value} {below : List Frame} {meth : Method} {c : Code} {A : Nat → Prop} {Q : State → Prop} {γ : wx_G} {o : Nat} {ad : Nat → Nat} {ρ : va_W} {z : Int32 × xF × xG} (G : cx_ok γ) (S : sx_ok γ) (T : kx_ok γ ad ρ) (C : CallFix p m c cX0_openOne 1 s as lw_all RX0) (K : wx_C γ A s) (E : ∀ (H : Heap) (locs : List Loc) (ls : Array Slot) (pc : Nat), z.1 = 0 → wx_w γ A s H locs (cw γ o ad z.2.1 z.2.2 ρ) → decode cX0_openOne pc = .ok (.return_, 1) → W p l e rmX0_openOne s m as below meth c H locs 0 0 Q (F0 m pc ls [])) (ET : ∀ (H : Heap) (locs : List Loc) (ls : Array Slot) (pc : Nat) (st : List Value), z.1 = 1 → wx_w γ A s H locs (cw γ o ad z.2.1 z.2.2 ρ) → WT p l e rmX0_openOne s m as below meth c H locs 0 0 Q (F0 m pc ls st) (ad 10)) {f : xF} {g : xG} {H : Heap} {locs : List Loc} {ls : Array Slot} (w : wx_w γ A s H locs (cw γ o ad f g ρ)) (hl : lv_has ls 1 [(0, .ref o)]) (hF : pX0_openOne_0 f g = some z) : W p l e rmX0_openOne s m as below meth c H locs 0 0 Q (F0 m 0 ls []) := by
  have hx := C.1
  have hb := C.2.1
  unfold pX0_openOne_0 at hF
  refine lv_aload_n hx hb dX0_openOne_0 rfl (lv_at hl 0 rfl) ?_
  refine lv_aload_n hx hb dX0_openOne_1 rfl (lv_at hl 0 rfl) ?_
  refine cget_25 C K w dX0_openOne_2 ?_
  refine lv_iconst (v := (5 : Int32)) hx hb dX0_openOne_5 (by decide) ?_
  refine lv_icmp_ge (tgt := 13) hx hb dX0_openOne_6 (by decide) (fun c => ?_) (fun c => ?_)
  · have hF := (if_pos c).symm.trans hF
    refine lv_iconst (v := (0 : Int32)) hx hb dX0_openOne_13 (by decide) ?_
    exact bX0_openOne_14 G S T C K E ET w hl hF
  · have hF := (if_neg c).symm.trans hF
    refine lv_iconst (v := (1 : Int32)) hx hb dX0_openOne_9 (by decide) ?_
    refine lv_goto (tgt := 14) hx hb dX0_openOne_10 (by decide) ?_
    exact bX0_openOne_14 G S T C K E ET w hl hF

theorem mX0_openOne {l : Launch} {γ : wx_G} {o : Nat} {ad : Nat → Nat} {ρ : va_W} {f : xF} {g : xG} {z : Int32 × xF × xG} (G : cx_ok γ) (S : sx_ok γ) (T : kx_ok γ ad ρ) (hF : pX0_openOne f g = some z) : wx_MX γ l yX0_openOne (ws_ yX0_openOne cX0_openOne 1 none) rmX0_openOne [.ref o] (cw γ o ad f g ρ) (fun v ws => v = none ∧ z.1 = 0 ∧ ws = (cw γ o ad z.2.1 z.2.2 ρ)) (fun x ws => x = ad 10 ∧ z.1 = 1 ∧ ws = (cw γ o ad z.2.1 z.2.2 ρ)) 0 0 := by
  refine wx_MX.of (by decide) (Nat.le_of_ble_eq_true rfl) ?_
  intro p e s m as below meth c A ls C K w hr hlocks htab hl
  exact bX0_openOne_0 G S T C K (fun H locs ls pc h0 w d => W.mono (fun t h => wx_QX.of h) (wx_vret C hr hlocks w ⟨rfl, h0, rfl⟩ d)) (fun H locs ls pc st h1 w => wx_thrown rfl rfl rfl hlocks (wx_none htab _) w ⟨rfl, h1, rfl⟩) w hl hF
theorem xX0_openOne {p : Program} {l : Launch} {e : Env} {R : Room} {s : State} {m : MethodId} {as : Array Value} {below : List Frame} {meth : Method} {c : Code} {H : Heap} {locs : List Loc} {cells slots : Nat} {Q : State → Prop} {cc : ByteArray} {nL pc : Nat} {ls : Array Slot} {rest : List Value} {γ : wx_G} {A : Nat → Prop} {o : Nat} {ad : Nat → Nat} {ρ : va_W} {f : xF} {g : xG} {z : Int32 × xF × xG} (G : cx_ok γ) (S : sx_ok γ) (T : kx_ok γ ad ρ) (C : CallFix p m c cc nL s as lw_all RX0) (K : wx_C γ A s) (w : wx_w γ A s H locs (cw γ o ad f g ρ)) (hF : pX0_openOne f g = some z) (hls : ls.size = nL) (hR : rmX0_openOne.frames + 1 ≤ R.frames ∧ 8 + (1 + 11) + rmX0_openOne.locals ≤ R.locals) (hW : (rest.map fun v => v.category).sum ≤ 8) (d : decode cc pc = .ok (.invokevirtual 199, 3)) (kk : ∀ (H : Heap) (locs : List Loc), z.1 = 0 → wx_w γ A s H locs (cw γ o ad z.2.1 z.2.2 ρ) → W p l e R s m as below meth c H locs cells slots Q (F0 m (pc + 3) ls rest)) (kt : ∀ (H : Heap) (locs : List Loc), z.1 = 1 → wx_w γ A s H locs (cw γ o ad z.2.1 z.2.2 ρ) → WT p l e R s m as below meth c H locs cells slots Q (F0 m pc ls rest) (ad 10)) (hf : cells ≤ R.cells ∧ slots ≤ R.slots := by exact ⟨Nat.le_of_ble_eq_true rfl, Nat.le_of_ble_eq_true rfl⟩) : W p l e R s m as below meth c H locs cells slots Q (F0 m pc ls (.ref o :: rest)) :=
  wx_callVX (n := 0) C K w (mX0_openOne (l := l) G S T hF) q562 q564 qs17 q106 q565 rfl rfl (by decide +kernel) (va_recv K.1.1 w.1 (ci := 1) (q0 := 0) rfl rfl) rfl rfl hR hls hW hf d (fun v ws H1 locs1 hp w => by obtain ⟨rfl, h0, rfl⟩ := hp; exact kk H1 locs1 h0 w) (fun x ws H1 locs1 hp w => by obtain ⟨rfl, h1, rfl⟩ := hp; exact kt H1 locs1 h1 w)


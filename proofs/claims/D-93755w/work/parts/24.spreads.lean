/-! spreads (it calls itself: by fuel) and groups; the hows' array (printed by gen/spreads.py) -/
set_option maxRecDepth 100000
def rsp (n : Nat) : Room := { frames := n + 3, cells := 0, slots := 0, locals := 40 * n + 300 }
/-! WalkingStones.spreads(II)I -/
def pX0_spreads_86 (f : xF) (g : xG) (t0 : Int32) : Option (Int32) := some (t0)

def pX0_spreads_71 (f : xF) (g : xG) (rc : Int32 → Int32 → Option Int32) (v1 : Int32) (v2 : Int32) (v3 : Int32) : Option (Int32) := if v3 = v1 then pX0_spreads_86 f g v1 else (rc v3 v2).bind (fun r83 => pX0_spreads_86 f g r83)

def pX0_spreads_65 (f : xF) (g : xG) (k5 : Int32 → Int32 → Int32 → Int32 → Option (Int32)) (v1 : Int32) (v2 : Int32) (v3 : Int32) (v4 : Int32) : Option (Int32) := k5 v1 v2 v3 (v4 + 1)

def pX0_spreads_57 (f : xF) (g : xG) (k5 : Int32 → Int32 → Int32 → Int32 → Option (Int32)) (k17 : Int32 → Int32 → Int32 → Int32 → Int32 → Option (Int32)) (v1 : Int32) (v2 : Int32) (v4 : Int32) (v5 : Int32) (t0 : Int32) (t1 : Int32) : Option (Int32) := k17 v1 v2 (t0 ||| t1) v4 (v5 + 1)

def pX0_spreads_17 (f : xF) (g : xG) (k5 : Int32 → Int32 → Int32 → Int32 → Option (Int32)) : Nat → Int32 → Int32 → Int32 → Int32 → Int32 → Option (Int32)
  | 0, _, _, _, _, _ => none
  | n + 1, v1, v2, v3, v4, v5 => if (f 34) ≤ v5 then pX0_spreads_65 f g k5 v1 v2 v3 v4 else (if ((v1 >>> (v4 &&& 31)) &&& (1 : Int32)) = (1 : Int32) then (pX0_areTogether f g v4 v5 v2).bind (fun r43 => if r43 = 0 then pX0_spreads_57 f g k5 (pX0_spreads_17 f g k5 n) v1 v2 v4 v5 v3 (0 : Int32) else pX0_spreads_57 f g k5 (pX0_spreads_17 f g k5 n) v1 v2 v4 v5 v3 ((1 : Int32) <<< (v5 &&& 31))) else pX0_spreads_65 f g k5 v1 v2 v3 v4)

def pX0_spreads_5 (f : xF) (g : xG) (rc : Int32 → Int32 → Option Int32) : Nat → Int32 → Int32 → Int32 → Int32 → Option (Int32)
  | 0, _, _, _, _ => none
  | n + 1, v1, v2, v3, v4 => if (f 34) ≤ v4 then pX0_spreads_71 f g rc v1 v2 v3 else pX0_spreads_17 f g (pX0_spreads_5 f g rc n) 5000 v1 v2 v3 v4 (0 : Int32)

def pX0_spreads_0 (f : xF) (g : xG) (rc : Int32 → Int32 → Option Int32) (v1 : Int32) (v2 : Int32) : Option (Int32) := pX0_spreads_5 f g rc 5000 v1 v2 v1 (0 : Int32)


def pX0_spreadsR (f : xF) (g : xG) : Nat → Int32 → Int32 → Option Int32
  | 0, _, _ => none
  | n + 1, a, b => pX0_spreads_0 f g (pX0_spreadsR f g n) a b
abbrev pX0_spreads (f : xF) (g : xG) (v1 : Int32) (v2 : Int32) : Option (Int32) := pX0_spreadsR f g 40 v1 v2
abbrev rmX0_spreads : Room := rsp 40
theorem rrec_spreads {p : Program} {l : Launch} {e : Env} {R : Room} {s : State} {m : MethodId} {as : Array Value} {below : List Frame} {meth : Method} {c : Code} {H : Heap} {locs : List Loc} {cells slots : Nat} {Q : State → Prop} {cc : ByteArray} {nL pc : Nat} {ls : Array Slot} {rest : List Value} {γ : wx_G} {A : Nat → Prop} {o : Nat} {ad : Nat → Nat} {ρ : va_W} {f : xF} {g : xG} {v1 : Int32} {v2 : Int32} {z : Int32} {q : Nat} (hM : wx_M γ l yX0_spreads (ws_ yX0_spreads cX0_spreads 6 (some .int)) (rsp q) [.ref o, .int v1, .int v2] (cw γ o ad f g ρ) (fun v ws => v = some (.int z) ∧ ws = (cw γ o ad f g ρ)) 0 0) (G : cx_ok γ) (C : CallFix p m c cc nL s as lw_all RX0) (K : wx_C γ A s) (w : wx_w γ A s H locs (cw γ o ad f g ρ)) (hls : ls.size = nL) (hR : (rsp q).frames + 1 ≤ R.frames ∧ 8 + (6 + 11) + (rsp q).locals ≤ R.locals) (hW : (rest.map fun v => v.category).sum ≤ 8) (d : decode cc pc = .ok (.invokevirtual 401, 3)) (kk : ∀ (H : Heap) (locs : List Loc), wx_w γ A s H locs (cw γ o ad f g ρ) → W p l e R s m as below meth c H locs cells slots Q (F0 m (pc + 3) ls (.int z :: rest))) (hf : cells ≤ R.cells ∧ slots ≤ R.slots := by exact ⟨Nat.le_of_ble_eq_true rfl, Nat.le_of_ble_eq_true rfl⟩) : W p l e R s m as below meth c H locs cells slots Q (F0 m pc ls (.int v2 :: .int v1 :: .ref o :: rest)) :=
  wx_callV (n := 2) C K w hM q1002 q1004 qs34 q106 q1005 rfl rfl (by decide +kernel) (va_recv K.1.1 w.1 (ci := 1) (q0 := 0) rfl rfl) rfl rfl hR hls hW hf d (fun v ws H1 locs1 hp w => by obtain ⟨rfl, rfl⟩ := hp; exact kk H1 locs1 w)
theorem bX0_spreads_86 {p : Program} {l : Launch} {e : Env} {s : State} {m : MethodId} {as : Array Value} {below : List Frame} {meth : Method} {c : Code} {A : Nat → Prop} {Q : State → Prop} {γ : wx_G} {o : Nat} {ad : Nat → Nat} {ρ : va_W} {q : Nat} {z : Int32} {f : xF} {g : xG} (G : cx_ok γ) (C : CallFix p m c cX0_spreads 6 s as lw_all RX0) (K : wx_C γ A s) (E : ∀ (H : Heap) (locs : List Loc) (ls : Array Slot) (pc : Nat), wx_w γ A s H locs (cw γ o ad f g ρ) → decode cX0_spreads pc = .ok (.ireturn, 1) → W p l e (rsp (q + 1)) s m as below meth c H locs 0 0 Q (F0 m pc ls [.int z])) {t0 : Int32} {H : Heap} {locs : List Loc} {ls : Array Slot} (w : wx_w γ A s H locs (cw γ o ad f g ρ)) (hl : lv_has ls 6 []) (hF : pX0_spreads_86 f g t0 = some z) : W p l e (rsp (q + 1)) s m as below meth c H locs 0 0 Q (F0 m 86 ls [.int t0]) := by
  have hx := C.1
  have hb := C.2.1
  unfold pX0_spreads_86 at hF
  have hF := Option.some.inj hF
  subst hF
  exact E _ _ _ _ w dX0_spreads_86

theorem bX0_spreads_71 {p : Program} {l : Launch} {e : Env} {s : State} {m : MethodId} {as : Array Value} {below : List Frame} {meth : Method} {c : Code} {A : Nat → Prop} {Q : State → Prop} {γ : wx_G} {o : Nat} {ad : Nat → Nat} {ρ : va_W} {q : Nat} {z : Int32} {f : xF} {g : xG} (G : cx_ok γ) {rc : Int32 → Int32 → Option Int32} (hrc : ∀ (a b z : Int32), rc a b = some z → wx_M γ l yX0_spreads (ws_ yX0_spreads cX0_spreads 6 (some .int)) (rsp q) [.ref o, .int a, .int b] (cw γ o ad f g ρ) (fun v ws => v = some (.int z) ∧ ws = (cw γ o ad f g ρ)) 0 0) (C : CallFix p m c cX0_spreads 6 s as lw_all RX0) (K : wx_C γ A s) (E : ∀ (H : Heap) (locs : List Loc) (ls : Array Slot) (pc : Nat), wx_w γ A s H locs (cw γ o ad f g ρ) → decode cX0_spreads pc = .ok (.ireturn, 1) → W p l e (rsp (q + 1)) s m as below meth c H locs 0 0 Q (F0 m pc ls [.int z])) {v1 : Int32} {v2 : Int32} {v3 : Int32} {H : Heap} {locs : List Loc} {ls : Array Slot} (w : wx_w γ A s H locs (cw γ o ad f g ρ)) (hl : lv_has ls 6 [(0, .ref o), (1, .int v1), (2, .int v2), (3, .int v3)]) (hF : pX0_spreads_71 f g rc v1 v2 v3 = some z) : W p l e (rsp (q + 1)) s m as below meth c H locs 0 0 Q (F0 m 71 ls []) := by
  have hx := C.1
  have hb := C.2.1
  unfold pX0_spreads_71 at hF
  refine lv_iload_n hx hb dX0_spreads_71 rfl (lv_at hl 3 rfl) ?_
  refine lv_iload_n hx hb dX0_spreads_72 rfl (lv_at hl 1 rfl) ?_
  refine lv_icmp_ne (tgt := 80) hx hb dX0_spreads_73 (by decide) (fun c => ?_) (fun c => ?_)
  · have hF := (if_neg c).symm.trans hF
    refine lv_aload_n hx hb dX0_spreads_80 rfl (lv_at hl 0 rfl) ?_
    refine lv_iload_n hx hb dX0_spreads_81 rfl (lv_at hl 3 rfl) ?_
    refine lv_iload_n hx hb dX0_spreads_82 rfl (lv_at hl 2 rfl) ?_
    obtain ⟨r83, hr, hF⟩ := obd hF
    refine rrec_spreads (hrc _ _ _ hr) G C K w hl.1 ⟨by simp only [rsp]; omega, by simp only [rsp]; omega⟩ (Nat.le_of_ble_eq_true rfl) dX0_spreads_83 (fun H locs w => ?_)
    exact bX0_spreads_86 G C K E w (lv_sub hl [] rfl) hF
  · have hF := (if_pos c).symm.trans hF
    refine lv_iload_n hx hb dX0_spreads_76 rfl (lv_at hl 1 rfl) ?_
    refine lv_goto (tgt := 86) hx hb dX0_spreads_77 (by decide) ?_
    exact bX0_spreads_86 G C K E w (lv_sub hl [] rfl) hF

theorem bX0_spreads_65 {p : Program} {l : Launch} {e : Env} {s : State} {m : MethodId} {as : Array Value} {below : List Frame} {meth : Method} {c : Code} {A : Nat → Prop} {Q : State → Prop} {γ : wx_G} {o : Nat} {ad : Nat → Nat} {ρ : va_W} {q : Nat} {z : Int32} {f : xF} {g : xG} (G : cx_ok γ) (C : CallFix p m c cX0_spreads 6 s as lw_all RX0) (K : wx_C γ A s) (E : ∀ (H : Heap) (locs : List Loc) (ls : Array Slot) (pc : Nat), wx_w γ A s H locs (cw γ o ad f g ρ) → decode cX0_spreads pc = .ok (.ireturn, 1) → W p l e (rsp (q + 1)) s m as below meth c H locs 0 0 Q (F0 m pc ls [.int z])) {k5 : Int32 → Int32 → Int32 → Int32 → Option (Int32)} (hk5 : ∀ (v1 : Int32) (v2 : Int32) (v3 : Int32) (v4 : Int32) (H : Heap) (locs : List Loc) (ls : Array Slot), k5 v1 v2 v3 v4 = some z → wx_w γ A s H locs (cw γ o ad f g ρ) → lv_has ls 6 [(0, .ref o), (1, .int v1), (2, .int v2), (3, .int v3), (4, .int v4)] → W p l e (rsp (q + 1)) s m as below meth c H locs 0 0 Q (F0 m 5 ls [])) {v1 : Int32} {v2 : Int32} {v3 : Int32} {v4 : Int32} {H : Heap} {locs : List Loc} {ls : Array Slot} (w : wx_w γ A s H locs (cw γ o ad f g ρ)) (hl : lv_has ls 6 [(0, .ref o), (1, .int v1), (2, .int v2), (3, .int v3), (4, .int v4)]) (hF : pX0_spreads_65 f g k5 v1 v2 v3 v4 = some z) : W p l e (rsp (q + 1)) s m as below meth c H locs 0 0 Q (F0 m 65 ls []) := by
  have hx := C.1
  have hb := C.2.1
  unfold pX0_spreads_65 at hF
  refine lv_iinc (v := v4 + 1) (lv' := [(4, .int (v4 + 1)), (0, .ref o), (1, .int v1), (2, .int v2), (3, .int v3)]) hx hb dX0_spreads_65 hl (k := 4) rfl rfl (by decide) rfl (fun ls hl => ?_)
  refine lv_goto (tgt := 5) hx hb dX0_spreads_68 (by decide) ?_
  exact hk5 _ _ _ _ _ _ _ hF w (lv_sub hl [1, 2, 3, 4, 0] rfl)

theorem bX0_spreads_57 {p : Program} {l : Launch} {e : Env} {s : State} {m : MethodId} {as : Array Value} {below : List Frame} {meth : Method} {c : Code} {A : Nat → Prop} {Q : State → Prop} {γ : wx_G} {o : Nat} {ad : Nat → Nat} {ρ : va_W} {q : Nat} {z : Int32} {f : xF} {g : xG} (G : cx_ok γ) (C : CallFix p m c cX0_spreads 6 s as lw_all RX0) (K : wx_C γ A s) (E : ∀ (H : Heap) (locs : List Loc) (ls : Array Slot) (pc : Nat), wx_w γ A s H locs (cw γ o ad f g ρ) → decode cX0_spreads pc = .ok (.ireturn, 1) → W p l e (rsp (q + 1)) s m as below meth c H locs 0 0 Q (F0 m pc ls [.int z])) {k5 : Int32 → Int32 → Int32 → Int32 → Option (Int32)} (hk5 : ∀ (v1 : Int32) (v2 : Int32) (v3 : Int32) (v4 : Int32) (H : Heap) (locs : List Loc) (ls : Array Slot), k5 v1 v2 v3 v4 = some z → wx_w γ A s H locs (cw γ o ad f g ρ) → lv_has ls 6 [(0, .ref o), (1, .int v1), (2, .int v2), (3, .int v3), (4, .int v4)] → W p l e (rsp (q + 1)) s m as below meth c H locs 0 0 Q (F0 m 5 ls [])) {k17 : Int32 → Int32 → Int32 → Int32 → Int32 → Option (Int32)} (hk17 : ∀ (v1 : Int32) (v2 : Int32) (v3 : Int32) (v4 : Int32) (v5 : Int32) (H : Heap) (locs : List Loc) (ls : Array Slot), k17 v1 v2 v3 v4 v5 = some z → wx_w γ A s H locs (cw γ o ad f g ρ) → lv_has ls 6 [(0, .ref o), (1, .int v1), (2, .int v2), (3, .int v3), (4, .int v4), (5, .int v5)] → W p l e (rsp (q + 1)) s m as below meth c H locs 0 0 Q (F0 m 17 ls [])) {v1 : Int32} {v2 : Int32} {v4 : Int32} {v5 : Int32} {t0 : Int32} {t1 : Int32} {H : Heap} {locs : List Loc} {ls : Array Slot} (w : wx_w γ A s H locs (cw γ o ad f g ρ)) (hl : lv_has ls 6 [(0, .ref o), (1, .int v1), (2, .int v2), (4, .int v4), (5, .int v5)]) (hF : pX0_spreads_57 f g k5 k17 v1 v2 v4 v5 t0 t1 = some z) : W p l e (rsp (q + 1)) s m as below meth c H locs 0 0 Q (F0 m 57 ls [.int t1, .int t0]) := by
  have hx := C.1
  have hb := C.2.1
  unfold pX0_spreads_57 at hF
  refine lv_ior hx hb dX0_spreads_57 ?_
  refine lv_istore_n (lv' := [(3, .int (t0 ||| t1)), (0, .ref o), (1, .int v1), (2, .int v2), (4, .int v4), (5, .int v5)]) hx hb dX0_spreads_58 rfl hl (by decide) rfl (fun ls hl => ?_)
  refine lv_iinc (v := v5 + 1) (lv' := [(5, .int (v5 + 1)), (3, .int (t0 ||| t1)), (0, .ref o), (1, .int v1), (2, .int v2), (4, .int v4)]) hx hb dX0_spreads_59 hl (k := 5) rfl rfl (by decide) rfl (fun ls hl => ?_)
  refine lv_goto (tgt := 17) hx hb dX0_spreads_62 (by decide) ?_
  exact hk17 _ _ _ _ _ _ _ _ hF w (lv_sub hl [2, 3, 4, 1, 5, 0] rfl)

theorem bX0_spreads_17 {p : Program} {l : Launch} {e : Env} {s : State} {m : MethodId} {as : Array Value} {below : List Frame} {meth : Method} {c : Code} {A : Nat → Prop} {Q : State → Prop} {γ : wx_G} {o : Nat} {ad : Nat → Nat} {ρ : va_W} {q : Nat} {z : Int32} {f : xF} {g : xG} (G : cx_ok γ) (C : CallFix p m c cX0_spreads 6 s as lw_all RX0) (K : wx_C γ A s) (E : ∀ (H : Heap) (locs : List Loc) (ls : Array Slot) (pc : Nat), wx_w γ A s H locs (cw γ o ad f g ρ) → decode cX0_spreads pc = .ok (.ireturn, 1) → W p l e (rsp (q + 1)) s m as below meth c H locs 0 0 Q (F0 m pc ls [.int z])) {k5 : Int32 → Int32 → Int32 → Int32 → Option (Int32)} (hk5 : ∀ (v1 : Int32) (v2 : Int32) (v3 : Int32) (v4 : Int32) (H : Heap) (locs : List Loc) (ls : Array Slot), k5 v1 v2 v3 v4 = some z → wx_w γ A s H locs (cw γ o ad f g ρ) → lv_has ls 6 [(0, .ref o), (1, .int v1), (2, .int v2), (3, .int v3), (4, .int v4)] → W p l e (rsp (q + 1)) s m as below meth c H locs 0 0 Q (F0 m 5 ls [])) : ∀ (n : Nat) (v1 : Int32) (v2 : Int32) (v3 : Int32) (v4 : Int32) (v5 : Int32) (H : Heap) (locs : List Loc) (ls : Array Slot), pX0_spreads_17 f g k5 n v1 v2 v3 v4 v5 = some z → wx_w γ A s H locs (cw γ o ad f g ρ) → lv_has ls 6 [(0, .ref o), (1, .int v1), (2, .int v2), (3, .int v3), (4, .int v4), (5, .int v5)] → W p l e (rsp (q + 1)) s m as below meth c H locs 0 0 Q (F0 m 17 ls []) := by
  have hx := C.1
  have hb := C.2.1
  intro n
  induction n with
  | zero =>
    intro v1 v2 v3 v4 v5 H locs ls hF w hl
    have hF : (none : Option (Int32)) = some z := hF
    cases hF
  | succ n ih =>
    intro v1 v2 v3 v4 v5 H locs ls hF w hl
    rw [pX0_spreads_17] at hF
    refine lv_iload hx hb dX0_spreads_17 (lv_at hl 5 rfl) ?_
    refine lv_aload_n hx hb dX0_spreads_19 rfl (lv_at hl 0 rfl) ?_
    refine cget_34 C K w dX0_spreads_20 ?_
    refine lv_icmp_ge (tgt := 65) hx hb dX0_spreads_23 (by decide) (fun c => ?_) (fun c => ?_)
    · have hF := (if_pos c).symm.trans hF
      exact bX0_spreads_65 G C K E hk5 w (lv_sub hl [0, 1, 2, 3, 4] rfl) hF
    · have hF := (if_neg c).symm.trans hF
      refine lv_iload_n hx hb dX0_spreads_26 rfl (lv_at hl 1 rfl) ?_
      refine lv_iload hx hb dX0_spreads_27 (lv_at hl 4 rfl) ?_
      refine lv_ishr hx hb dX0_spreads_29 ?_
      refine lv_iconst (v := (1 : Int32)) hx hb dX0_spreads_30 (by decide) ?_
      refine lv_iand hx hb dX0_spreads_31 ?_
      refine lv_iconst (v := (1 : Int32)) hx hb dX0_spreads_32 (by decide) ?_
      refine lv_icmp_ne (tgt := 65) hx hb dX0_spreads_33 (by decide) (fun c => ?_) (fun c => ?_)
      · have hF := (if_neg c).symm.trans hF
        exact bX0_spreads_65 G C K E hk5 w (lv_sub hl [0, 1, 2, 3, 4] rfl) hF
      · have hF := (if_pos c).symm.trans hF
        refine lv_iload_n hx hb dX0_spreads_36 rfl (lv_at hl 3 rfl) ?_
        refine lv_aload_n hx hb dX0_spreads_37 rfl (lv_at hl 0 rfl) ?_
        refine lv_iload hx hb dX0_spreads_38 (lv_at hl 4 rfl) ?_
        refine lv_iload hx hb dX0_spreads_40 (lv_at hl 5 rfl) ?_
        refine lv_iload_n hx hb dX0_spreads_42 rfl (lv_at hl 2 rfl) ?_
        obtain ⟨r43, hr, hF⟩ := obd hF
        refine rX0_areTogether G C K w hr hl.1 ⟨by simp only [rsp]; omega, by simp only [rsp]; omega⟩ (Nat.le_of_ble_eq_true rfl) dX0_spreads_43 (fun H locs w => ?_)
        refine lv_if_eq (tgt := 56) hx hb dX0_spreads_46 (by decide) (fun c => ?_) (fun c => ?_)
        · have hF := (if_pos c).symm.trans hF
          refine lv_iconst (v := (0 : Int32)) hx hb dX0_spreads_56 (by decide) ?_
          exact bX0_spreads_57 G C K E hk5 ih w (lv_sub hl [0, 1, 2, 4, 5] rfl) hF
        · have hF := (if_neg c).symm.trans hF
          refine lv_iconst (v := (1 : Int32)) hx hb dX0_spreads_49 (by decide) ?_
          refine lv_iload hx hb dX0_spreads_50 (lv_at hl 5 rfl) ?_
          refine lv_ishl hx hb dX0_spreads_52 ?_
          refine lv_goto (tgt := 57) hx hb dX0_spreads_53 (by decide) ?_
          exact bX0_spreads_57 G C K E hk5 ih w (lv_sub hl [0, 1, 2, 4, 5] rfl) hF

theorem bX0_spreads_5 {p : Program} {l : Launch} {e : Env} {s : State} {m : MethodId} {as : Array Value} {below : List Frame} {meth : Method} {c : Code} {A : Nat → Prop} {Q : State → Prop} {γ : wx_G} {o : Nat} {ad : Nat → Nat} {ρ : va_W} {q : Nat} {z : Int32} {f : xF} {g : xG} (G : cx_ok γ) {rc : Int32 → Int32 → Option Int32} (hrc : ∀ (a b z : Int32), rc a b = some z → wx_M γ l yX0_spreads (ws_ yX0_spreads cX0_spreads 6 (some .int)) (rsp q) [.ref o, .int a, .int b] (cw γ o ad f g ρ) (fun v ws => v = some (.int z) ∧ ws = (cw γ o ad f g ρ)) 0 0) (C : CallFix p m c cX0_spreads 6 s as lw_all RX0) (K : wx_C γ A s) (E : ∀ (H : Heap) (locs : List Loc) (ls : Array Slot) (pc : Nat), wx_w γ A s H locs (cw γ o ad f g ρ) → decode cX0_spreads pc = .ok (.ireturn, 1) → W p l e (rsp (q + 1)) s m as below meth c H locs 0 0 Q (F0 m pc ls [.int z])) : ∀ (n : Nat) (v1 : Int32) (v2 : Int32) (v3 : Int32) (v4 : Int32) (H : Heap) (locs : List Loc) (ls : Array Slot), pX0_spreads_5 f g rc n v1 v2 v3 v4 = some z → wx_w γ A s H locs (cw γ o ad f g ρ) → lv_has ls 6 [(0, .ref o), (1, .int v1), (2, .int v2), (3, .int v3), (4, .int v4)] → W p l e (rsp (q + 1)) s m as below meth c H locs 0 0 Q (F0 m 5 ls []) := by
  have hx := C.1
  have hb := C.2.1
  intro n
  induction n with
  | zero =>
    intro v1 v2 v3 v4 H locs ls hF w hl
    have hF : (none : Option (Int32)) = some z := hF
    cases hF
  | succ n ih =>
    intro v1 v2 v3 v4 H locs ls hF w hl
    rw [pX0_spreads_5] at hF
    refine lv_iload hx hb dX0_spreads_5 (lv_at hl 4 rfl) ?_
    refine lv_aload_n hx hb dX0_spreads_7 rfl (lv_at hl 0 rfl) ?_
    refine cget_34 C K w dX0_spreads_8 ?_
    refine lv_icmp_ge (tgt := 71) hx hb dX0_spreads_11 (by decide) (fun c => ?_) (fun c => ?_)
    · have hF := (if_pos c).symm.trans hF
      exact bX0_spreads_71 G hrc C K E w (lv_sub hl [0, 1, 2, 3] rfl) hF
    · have hF := (if_neg c).symm.trans hF
      refine lv_iconst (v := (0 : Int32)) hx hb dX0_spreads_14 (by decide) ?_
      refine lv_istore (lv' := [(5, .int (0 : Int32)), (0, .ref o), (1, .int v1), (2, .int v2), (3, .int v3), (4, .int v4)]) hx hb dX0_spreads_15 hl (by decide) rfl (fun ls hl => ?_)
      exact bX0_spreads_17 G C K E ih 5000 _ _ _ _ _ _ _ _ hF w (lv_sub hl [1, 2, 3, 4, 5, 0] rfl)

theorem bX0_spreads_0 {p : Program} {l : Launch} {e : Env} {s : State} {m : MethodId} {as : Array Value} {below : List Frame} {meth : Method} {c : Code} {A : Nat → Prop} {Q : State → Prop} {γ : wx_G} {o : Nat} {ad : Nat → Nat} {ρ : va_W} {q : Nat} {z : Int32} {f : xF} {g : xG} (G : cx_ok γ) {rc : Int32 → Int32 → Option Int32} (hrc : ∀ (a b z : Int32), rc a b = some z → wx_M γ l yX0_spreads (ws_ yX0_spreads cX0_spreads 6 (some .int)) (rsp q) [.ref o, .int a, .int b] (cw γ o ad f g ρ) (fun v ws => v = some (.int z) ∧ ws = (cw γ o ad f g ρ)) 0 0) (C : CallFix p m c cX0_spreads 6 s as lw_all RX0) (K : wx_C γ A s) (E : ∀ (H : Heap) (locs : List Loc) (ls : Array Slot) (pc : Nat), wx_w γ A s H locs (cw γ o ad f g ρ) → decode cX0_spreads pc = .ok (.ireturn, 1) → W p l e (rsp (q + 1)) s m as below meth c H locs 0 0 Q (F0 m pc ls [.int z])) {v1 : Int32} {v2 : Int32} {H : Heap} {locs : List Loc} {ls : Array Slot} (w : wx_w γ A s H locs (cw γ o ad f g ρ)) (hl : lv_has ls 6 [(0, .ref o), (1, .int v1), (2, .int v2)]) (hF : pX0_spreads_0 f g rc v1 v2 = some z) : W p l e (rsp (q + 1)) s m as below meth c H locs 0 0 Q (F0 m 0 ls []) := by
  have hx := C.1
  have hb := C.2.1
  unfold pX0_spreads_0 at hF
  refine lv_iload_n hx hb dX0_spreads_0 rfl (lv_at hl 1 rfl) ?_
  refine lv_istore_n (lv' := [(3, .int v1), (0, .ref o), (1, .int v1), (2, .int v2)]) hx hb dX0_spreads_1 rfl hl (by decide) rfl (fun ls hl => ?_)
  refine lv_iconst (v := (0 : Int32)) hx hb dX0_spreads_2 (by decide) ?_
  refine lv_istore (lv' := [(4, .int (0 : Int32)), (3, .int v1), (0, .ref o), (1, .int v1), (2, .int v2)]) hx hb dX0_spreads_3 hl (by decide) rfl (fun ls hl => ?_)
  exact bX0_spreads_5 G hrc C K E 5000 _ _ _ _ _ _ _ hF w (lv_sub hl [2, 3, 4, 1, 0] rfl)


theorem mX0_spreadsR {l : Launch} {γ : wx_G} {o : Nat} {ad : Nat → Nat} {ρ : va_W} {f : xF} {g : xG} (G : cx_ok γ) : ∀ (n : Nat) (v1 v2 z : Int32), pX0_spreadsR f g n v1 v2 = some z → wx_M γ l yX0_spreads (ws_ yX0_spreads cX0_spreads 6 (some .int)) (rsp n) [.ref o, .int v1, .int v2] (cw γ o ad f g ρ) (fun v ws => v = some (.int z) ∧ ws = (cw γ o ad f g ρ)) 0 0 := by
  intro n
  induction n with
  | zero =>
    intro v1 v2 z hF
    have hF : (none : Option Int32) = some z := hF
    cases hF
  | succ n ih =>
    intro v1 v2 z hF
    rw [pX0_spreadsR] at hF
    refine wx_M.of (by decide) (Nat.le_of_ble_eq_true rfl) ?_
    intro p e s m as below meth c A ls C K w hr hlocks _ hl
    exact bX0_spreads_0 G (rc := pX0_spreadsR f g n) ih C K (fun H locs ls pc w d => wx_iret C hr hlocks w ⟨rfl, rfl⟩ d) w hl hF
theorem mX0_spreads {l : Launch} {γ : wx_G} {o : Nat} {ad : Nat → Nat} {ρ : va_W} {f : xF} {g : xG} {v1 v2 z : Int32} (G : cx_ok γ) (hF : pX0_spreads f g v1 v2 = some z) : wx_M γ l yX0_spreads (ws_ yX0_spreads cX0_spreads 6 (some .int)) rmX0_spreads [.ref o, .int v1, .int v2] (cw γ o ad f g ρ) (fun v ws => v = some (.int z) ∧ ws = (cw γ o ad f g ρ)) 0 0 := mX0_spreadsR G 40 v1 v2 z hF
theorem rX0_spreads {p : Program} {l : Launch} {e : Env} {R : Room} {s : State} {m : MethodId} {as : Array Value} {below : List Frame} {meth : Method} {c : Code} {H : Heap} {locs : List Loc} {cells slots : Nat} {Q : State → Prop} {cc : ByteArray} {nL pc : Nat} {ls : Array Slot} {rest : List Value} {γ : wx_G} {A : Nat → Prop} {o : Nat} {ad : Nat → Nat} {ρ : va_W} {f : xF} {g : xG} {v1 : Int32} {v2 : Int32} {z : Int32} (G : cx_ok γ) (C : CallFix p m c cc nL s as lw_all RX0) (K : wx_C γ A s) (w : wx_w γ A s H locs (cw γ o ad f g ρ)) (hF : pX0_spreads f g v1 v2 = some z) (hls : ls.size = nL) (hR : rmX0_spreads.frames + 1 ≤ R.frames ∧ 8 + (6 + 11) + rmX0_spreads.locals ≤ R.locals) (hW : (rest.map fun v => v.category).sum ≤ 8) (d : decode cc pc = .ok (.invokevirtual 401, 3)) (kk : ∀ (H : Heap) (locs : List Loc), wx_w γ A s H locs (cw γ o ad f g ρ) → W p l e R s m as below meth c H locs cells slots Q (F0 m (pc + 3) ls (.int z :: rest))) (hf : cells ≤ R.cells ∧ slots ≤ R.slots := by exact ⟨Nat.le_of_ble_eq_true rfl, Nat.le_of_ble_eq_true rfl⟩) : W p l e R s m as below meth c H locs cells slots Q (F0 m pc ls (.int v2 :: .int v1 :: .ref o :: rest)) :=
  wx_callV (n := 2) C K w (mX0_spreads (l := l) G hF) q1002 q1004 qs34 q106 q1005 rfl rfl (by decide +kernel) (va_recv K.1.1 w.1 (ci := 1) (q0 := 0) rfl rfl) rfl rfl hR hls hW hf d (fun v ws H1 locs1 hp w => by obtain ⟨rfl, rfl⟩ := hp; exact kk H1 locs1 w)

/-! WalkingStones.groups(I)I -/
abbrev rmX0_groups : Room := { frames := 44, cells := 0, slots := 0, locals := 1925 }
def pX0_groups_59 (f : xF) (g : xG) (k22 : Int32 → Int32 → Int32 → Int32 → Option (Int32)) (v1 : Int32) (v2 : Int32) (v3 : Int32) (v4 : Int32) : Option (Int32) := k22 v1 v2 v3 (v4 + 1)

def pX0_groups_22 (f : xF) (g : xG) : Nat → Int32 → Int32 → Int32 → Int32 → Option (Int32)
  | 0, _, _, _, _ => none
  | n + 1, v1, v2, v3, v4 => if (f 34) ≤ v4 then some (v2) else (if ((v3 >>> (v4 &&& 31)) &&& (1 : Int32)) = (1 : Int32) then pX0_groups_59 f g (pX0_groups_22 f g n) v1 v2 v3 v4 else (pX0_spreads f g ((1 : Int32) <<< (v4 &&& 31)) v1).bind (fun r51 => pX0_groups_59 f g (pX0_groups_22 f g n) v1 (v2 + 1) (v3 ||| r51) v4))

def pX0_groups_0 (f : xF) (g : xG) (v1 : Int32) : Option (Int32) := (pX0_in f g v1.toInt64 (0 : Int64) (99 : Int64)).bind (fun r6 => if r6 = 0 then some ((-2 : Int32)) else pX0_groups_22 f g 5000 v1 (0 : Int32) (0 : Int32) (0 : Int32))

abbrev pX0_groups (f : xF) (g : xG) (v1 : Int32) : Option (Int32) := pX0_groups_0 f g v1
theorem bX0_groups_59 {p : Program} {l : Launch} {e : Env} {s : State} {m : MethodId} {as : Array Value} {below : List Frame} {meth : Method} {c : Code} {A : Nat → Prop} {Q : State → Prop} {γ : wx_G} {o : Nat} {ad : Nat → Nat} {ρ : va_W} {z : Int32} {f : xF} {g : xG} (G : cx_ok γ) (C : CallFix p m c cX0_groups 5 s as lw_all RX0) (K : wx_C γ A s) (E : ∀ (H : Heap) (locs : List Loc) (ls : Array Slot) (pc : Nat), wx_w γ A s H locs (cw γ o ad f g ρ) → decode cX0_groups pc = .ok (.ireturn, 1) → W p l e rmX0_groups s m as below meth c H locs 0 0 Q (F0 m pc ls [.int z])) {k22 : Int32 → Int32 → Int32 → Int32 → Option (Int32)} (hk22 : ∀ (v1 : Int32) (v2 : Int32) (v3 : Int32) (v4 : Int32) (H : Heap) (locs : List Loc) (ls : Array Slot), k22 v1 v2 v3 v4 = some z → wx_w γ A s H locs (cw γ o ad f g ρ) → lv_has ls 5 [(0, .ref o), (1, .int v1), (2, .int v2), (3, .int v3), (4, .int v4)] → W p l e rmX0_groups s m as below meth c H locs 0 0 Q (F0 m 22 ls [])) {v1 : Int32} {v2 : Int32} {v3 : Int32} {v4 : Int32} {H : Heap} {locs : List Loc} {ls : Array Slot} (w : wx_w γ A s H locs (cw γ o ad f g ρ)) (hl : lv_has ls 5 [(0, .ref o), (1, .int v1), (2, .int v2), (3, .int v3), (4, .int v4)]) (hF : pX0_groups_59 f g k22 v1 v2 v3 v4 = some z) : W p l e rmX0_groups s m as below meth c H locs 0 0 Q (F0 m 59 ls []) := by
  have hx := C.1
  have hb := C.2.1
  unfold pX0_groups_59 at hF
  refine lv_iinc (v := v4 + 1) (lv' := [(4, .int (v4 + 1)), (0, .ref o), (1, .int v1), (2, .int v2), (3, .int v3)]) hx hb dX0_groups_59 hl (k := 4) rfl rfl (by decide) rfl (fun ls hl => ?_)
  refine lv_goto (tgt := 22) hx hb dX0_groups_62 (by decide) ?_
  exact hk22 _ _ _ _ _ _ _ hF w (lv_sub hl [1, 2, 3, 4, 0] rfl)

theorem bX0_groups_22 {p : Program} {l : Launch} {e : Env} {s : State} {m : MethodId} {as : Array Value} {below : List Frame} {meth : Method} {c : Code} {A : Nat → Prop} {Q : State → Prop} {γ : wx_G} {o : Nat} {ad : Nat → Nat} {ρ : va_W} {z : Int32} {f : xF} {g : xG} (G : cx_ok γ) (C : CallFix p m c cX0_groups 5 s as lw_all RX0) (K : wx_C γ A s) (E : ∀ (H : Heap) (locs : List Loc) (ls : Array Slot) (pc : Nat), wx_w γ A s H locs (cw γ o ad f g ρ) → decode cX0_groups pc = .ok (.ireturn, 1) → W p l e rmX0_groups s m as below meth c H locs 0 0 Q (F0 m pc ls [.int z])) : ∀ (n : Nat) (v1 : Int32) (v2 : Int32) (v3 : Int32) (v4 : Int32) (H : Heap) (locs : List Loc) (ls : Array Slot), pX0_groups_22 f g n v1 v2 v3 v4 = some z → wx_w γ A s H locs (cw γ o ad f g ρ) → lv_has ls 5 [(0, .ref o), (1, .int v1), (2, .int v2), (3, .int v3), (4, .int v4)] → W p l e rmX0_groups s m as below meth c H locs 0 0 Q (F0 m 22 ls []) := by
  have hx := C.1
  have hb := C.2.1
  intro n
  induction n with
  | zero =>
    intro v1 v2 v3 v4 H locs ls hF w hl
    have hF : (none : Option (Int32)) = some z := hF
    cases hF
  | succ n ih =>
    intro v1 v2 v3 v4 H locs ls hF w hl
    rw [pX0_groups_22] at hF
    refine lv_iload hx hb dX0_groups_22 (lv_at hl 4 rfl) ?_
    refine lv_aload_n hx hb dX0_groups_24 rfl (lv_at hl 0 rfl) ?_
    refine cget_34 C K w dX0_groups_25 ?_
    refine lv_icmp_ge (tgt := 65) hx hb dX0_groups_28 (by decide) (fun c => ?_) (fun c => ?_)
    · have hF := (if_pos c).symm.trans hF
      refine lv_iload_n hx hb dX0_groups_65 rfl (lv_at hl 2 rfl) ?_
      have hF := Option.some.inj hF
      subst hF
      exact E _ _ _ _ w dX0_groups_66
    · have hF := (if_neg c).symm.trans hF
      refine lv_iload_n hx hb dX0_groups_31 rfl (lv_at hl 3 rfl) ?_
      refine lv_iload hx hb dX0_groups_32 (lv_at hl 4 rfl) ?_
      refine lv_ishr hx hb dX0_groups_34 ?_
      refine lv_iconst (v := (1 : Int32)) hx hb dX0_groups_35 (by decide) ?_
      refine lv_iand hx hb dX0_groups_36 ?_
      refine lv_iconst (v := (1 : Int32)) hx hb dX0_groups_37 (by decide) ?_
      refine lv_icmp_ne (tgt := 44) hx hb dX0_groups_38 (by decide) (fun c => ?_) (fun c => ?_)
      · have hF := (if_neg c).symm.trans hF
        refine lv_iload_n hx hb dX0_groups_44 rfl (lv_at hl 3 rfl) ?_
        refine lv_aload_n hx hb dX0_groups_45 rfl (lv_at hl 0 rfl) ?_
        refine lv_iconst (v := (1 : Int32)) hx hb dX0_groups_46 (by decide) ?_
        refine lv_iload hx hb dX0_groups_47 (lv_at hl 4 rfl) ?_
        refine lv_ishl hx hb dX0_groups_49 ?_
        refine lv_iload_n hx hb dX0_groups_50 rfl (lv_at hl 1 rfl) ?_
        obtain ⟨r51, hr, hF⟩ := obd hF
        refine rX0_spreads G C K w hr hl.1 ⟨Nat.le_of_ble_eq_true rfl, Nat.le_of_ble_eq_true rfl⟩ (Nat.le_of_ble_eq_true rfl) dX0_groups_51 (fun H locs w => ?_)
        refine lv_ior hx hb dX0_groups_54 ?_
        refine lv_istore_n (lv' := [(3, .int (v3 ||| r51)), (0, .ref o), (1, .int v1), (2, .int v2), (4, .int v4)]) hx hb dX0_groups_55 rfl hl (by decide) rfl (fun ls hl => ?_)
        refine lv_iinc (v := v2 + 1) (lv' := [(2, .int (v2 + 1)), (3, .int (v3 ||| r51)), (0, .ref o), (1, .int v1), (4, .int v4)]) hx hb dX0_groups_56 hl (k := 3) rfl rfl (by decide) rfl (fun ls hl => ?_)
        exact bX0_groups_59 G C K E ih w (lv_sub hl [2, 3, 0, 1, 4] rfl) hF
      · have hF := (if_pos c).symm.trans hF
        refine lv_goto (tgt := 59) hx hb dX0_groups_41 (by decide) ?_
        exact bX0_groups_59 G C K E ih w hl hF

theorem bX0_groups_0 {p : Program} {l : Launch} {e : Env} {s : State} {m : MethodId} {as : Array Value} {below : List Frame} {meth : Method} {c : Code} {A : Nat → Prop} {Q : State → Prop} {γ : wx_G} {o : Nat} {ad : Nat → Nat} {ρ : va_W} {z : Int32} {f : xF} {g : xG} (G : cx_ok γ) (C : CallFix p m c cX0_groups 5 s as lw_all RX0) (K : wx_C γ A s) (E : ∀ (H : Heap) (locs : List Loc) (ls : Array Slot) (pc : Nat), wx_w γ A s H locs (cw γ o ad f g ρ) → decode cX0_groups pc = .ok (.ireturn, 1) → W p l e rmX0_groups s m as below meth c H locs 0 0 Q (F0 m pc ls [.int z])) {v1 : Int32} {H : Heap} {locs : List Loc} {ls : Array Slot} (w : wx_w γ A s H locs (cw γ o ad f g ρ)) (hl : lv_has ls 5 [(0, .ref o), (1, .int v1)]) (hF : pX0_groups_0 f g v1 = some z) : W p l e rmX0_groups s m as below meth c H locs 0 0 Q (F0 m 0 ls []) := by
  have hx := C.1
  have hb := C.2.1
  unfold pX0_groups_0 at hF
  refine lv_iload_n hx hb dX0_groups_0 rfl (lv_at hl 1 rfl) ?_
  refine lv_i2l hx hb dX0_groups_1 rfl ?_
  refine lv_lconst (v := (0 : Int64)) hx hb dX0_groups_2 (by decide) ?_
  refine lv_ldc2 (v := (99 : Int64)) hx hb C.2.2.2.1 (C.2.2.2.2 _ q140) dX0_groups_3 ?_
  obtain ⟨r6, hr, hF⟩ := obd hF
  refine rX0_in G C K w hr hl.1 ⟨Nat.le_of_ble_eq_true rfl, Nat.le_of_ble_eq_true rfl⟩ (Nat.le_of_ble_eq_true rfl) dX0_groups_6 (fun H locs w => ?_)
  refine lv_if_ne (tgt := 15) hx hb dX0_groups_9 (by decide) (fun c => ?_) (fun c => ?_)
  · have hF := (if_neg c).symm.trans hF
    refine lv_iconst (v := (0 : Int32)) hx hb dX0_groups_15 (by decide) ?_
    refine lv_istore_n (lv' := [(2, .int (0 : Int32)), (0, .ref o), (1, .int v1)]) hx hb dX0_groups_16 rfl hl (by decide) rfl (fun ls hl => ?_)
    refine lv_iconst (v := (0 : Int32)) hx hb dX0_groups_17 (by decide) ?_
    refine lv_istore_n (lv' := [(3, .int (0 : Int32)), (2, .int (0 : Int32)), (0, .ref o), (1, .int v1)]) hx hb dX0_groups_18 rfl hl (by decide) rfl (fun ls hl => ?_)
    refine lv_iconst (v := (0 : Int32)) hx hb dX0_groups_19 (by decide) ?_
    refine lv_istore (lv' := [(4, .int (0 : Int32)), (3, .int (0 : Int32)), (2, .int (0 : Int32)), (0, .ref o), (1, .int v1)]) hx hb dX0_groups_20 hl (by decide) rfl (fun ls hl => ?_)
    exact bX0_groups_22 G C K E 5000 _ _ _ _ _ _ _ hF w (lv_sub hl [3, 4, 2, 1, 0] rfl)
  · have hF := (if_pos c).symm.trans hF
    refine lv_bipush (v := (-2 : Int32)) hx hb dX0_groups_12 (by decide) ?_
    have hF := Option.some.inj hF
    subst hF
    exact E _ _ _ _ w dX0_groups_14

theorem mX0_groups {l : Launch} {γ : wx_G} {o : Nat} {ad : Nat → Nat} {ρ : va_W} {f : xF} {g : xG} {v1 : Int32} {z : Int32} (G : cx_ok γ) (hF : pX0_groups f g v1 = some z) : wx_M γ l yX0_groups (ws_ yX0_groups cX0_groups 5 (some .int)) rmX0_groups [.ref o, .int v1] (cw γ o ad f g ρ) (fun v ws => v = some (.int z) ∧ ws = (cw γ o ad f g ρ)) 0 0 := by
  refine wx_M.of (by decide) (Nat.le_of_ble_eq_true rfl) ?_
  intro p e s m as below meth c A ls C K w hr hlocks _ hl
  exact bX0_groups_0 G C K (fun H locs ls pc w d => wx_iret C hr hlocks w ⟨rfl, rfl⟩ d) w hl hF

theorem c_how {p : Program} {l : Launch} {e : Env} {R : Room} {s : State} {m : MethodId} {as : Array Value} {below : List Frame} {meth : Method} {c : Code} {H : Heap} {locs : List Loc} {cells slots : Nat} {Q : State → Prop} {cc : ByteArray} {nL pc : Nat} {ls : Array Slot} {rest : List Value} {γ : wx_G} {A : Nat → Prop} {o : Nat} {ad : Nat → Nat} {f : xF} {g : xG} {η : cx_H} {τ : va_W} {i : Int32} {own : String} (C : CallFix p m c cc nL s as lw_all own) (K : wx_C γ A s) (w : wx_w γ A s H locs (cw γ o ad f g (hr γ o ad η ++ τ))) (hi : vp_in i 8) (hg : gk η i [0, 1, 2, 3, 4, 5] = true) (d : decode cc pc = .ok (.aaload, 1)) (kk : W p l e R s m as below meth c H locs cells slots Q (F0 m (pc + 1) ls (.ref (had η i) :: rest))) : W p l e R s m as below meth c H locs cells slots Q (F0 m pc ls (.int i :: .ref (ad 8) :: rest)) := by
  have ha : (cw γ o ad f g (hr γ o ad η ++ τ))[20]? = some (ad 8, .inl (γ.2.1 3, 8, .inr (.inr (.inr (.inr (harr η)))))) := rfl
  have hv : va_rf (harr η i.toNatClampNeg) = .ref (had η i) := by
    unfold harr had
    rw [if_pos (gk_lt hg)]
    rfl
  refine va_aldq C.1 C.2.1 K.1.1 w.1 20 3 ha rfl hi d ?_
  rw [hv]
  exact kk

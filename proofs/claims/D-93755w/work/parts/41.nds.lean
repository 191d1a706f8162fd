/-! NODES MADE (mine; printed by gen/nds.py): the constructors of Node, Number, Name, Turned, Two; nd: the signs that a node stands for -/
set_option maxRecDepth 100000
abbrev rmX3_init : Room := { frames := 1, cells := 0, slots := 0, locals := 20 }
theorem mX3_init {l : Launch} {γ : wx_G} {h : Nat} {ws0 : va_W} : wx_M γ l yX3_init (ws_ yX3_init cX3_init 1 none) rmX3_init [.ref h] ws0 (fun v ws => v = none ∧ ws = ws0) 0 0 := by
  refine wx_M.of (by decide) (Nat.le_of_ble_eq_true rfl) ?_
  intro p e s m as below meth c A ls C K w hr hlocks hin hl
  have hx := C.1
  have hb := C.2.1
  refine lv_aload_n hx hb dX3_init_0 rfl (lv_at hl 0 rfl) ?_
  refine W.objInit hx hb C.2.2.2.1 (C.2.2.2.2 _ q574) (C.2.2.2.2 _ q184) (C.2.2.2.2 _ q185) rfl (by rw [C.2.2.1]; exact hl.1) rfl dX3_init_1 (Nat.le_of_ble_eq_true rfl) (Nat.le_of_ble_eq_true rfl) ?_
  refine W.eq (g2 := F0 m 4 ls []) rfl ?_
  exact wx_vret C hr hlocks w ⟨rfl, rfl⟩ dX3_init_4
/-- a private constructor of a nest mate -/
theorem wx_callIN {p : Program} {l : Launch} {e : Env} {R : Room} {s : State} {m : MethodId} {as : Array Value} {below : List Frame} {meth : Method} {c : Code} {H : Heap} {locs : List Loc} {cells slots : Nat} {Q : State → Prop} {cc : ByteArray} {nL pc : Nat} {ls : Array Slot} {rest : List Value} {γ : wx_G} {A : Nat → Prop} {ws : va_W} {own host : String} {post : Option Value → va_W → Prop} {mc ms : Nat} {y : MethodName} {yb : ByteArray} {maxL idx n : Nat} {rmc : Room} {b : Nat} {As st0 : List Value} (G : cx_ok γ) (C : CallFix p m c cc nL s as lw_all own) (K : wx_C γ A s) (w : wx_w γ A s H locs ws) (hM : wx_M γ l y (ws_ y yb maxL none) rmc (.ref b :: As) ws post mc ms) (q1 : Cond.methodLinkNest own idx y host ∈ lw_tbl) (q2 : Cond.instanceMethod y ∈ lw_all) (q3 : Cond.initialized y.cls ∈ lw_all) (q4 : Cond.code y yb maxL none ∈ lw_all) (hrc : rmc.cells = mc) (hrs : rmc.slots = ms) (hy1 : y.name = "<init>")
    (hd : y.cls ≠ "java/lang/invoke/MethodHandle" ∧ y.cls ≠ "java/lang/invoke/VarHandle" ∧ (parseMethodDescriptor y.desc).map (fun d => d.parameters.length) = some n) (hR : rmc.frames + 1 ≤ R.frames ∧ 8 + (maxL + 11) + rmc.locals ≤ R.locals) (hn : As.length = n) (hst : st0 = As.reverse ++ .ref b :: rest) (hls : ls.size = nL) (hW : (rest.map fun v => v.category).sum ≤ 8) (hf : cells + mc ≤ R.cells ∧ slots + ms ≤ R.slots) (d : decode cc pc = .ok (.invokespecial idx, 3))
    (kk : ∀ (v : Option Value) (ws' : va_W) (H1 : Heap) (locs1 : List Loc), post v ws' → wx_w γ A s H1 locs1 ws' → W p l e R s m as below meth c H1 locs1 (cells + mc) (slots + ms) Q (F0 m (pc + 3) ls (v.toList ++ rest))) : W p l e R s m as below meth c H locs cells slots Q (F0 m pc ls st0) :=
  wx_call K w (va_runIN C (hM H.size) ⟨va_cnB n C.2.2.2.2 (lw_meth q4) rfl hrc hrs (wx_nm G K q1) (C.2.2.2.2 _ q3) hd hR, hy1, C.2.2.2.2 _ q2⟩ (wx_PreS K w) rfl hn hls hst (lv_room hW) d hf) kk
abbrev rmX5_init : Room := { frames := 2, cells := 0, slots := 0, locals := 42 }
theorem mX5_init {l : Launch} {γ : wx_G} {h : Nat} {v1 : Int32} {fs : List Value} {ws0 : va_W} (G : cx_ok γ) (hfs : fs.length = 1) : wx_M γ l yX5_init (ws_ yX5_init cX5_init 2 none) rmX5_init [.ref h, .int v1] ((h, .inr (8, fs)) :: ws0) (fun v ws => v = none ∧ ws = ((h, .inr (8, (fs.set 0 (.int v1)))) :: ws0)) 0 0 := by
  refine wx_M.of (by decide) (Nat.le_of_ble_eq_true rfl) ?_
  intro p e s m as below meth c A ls C K w hr hlocks hin hl
  have hx := C.1
  have hb := C.2.1
  have hin : meth.name = "<init>" := hin
  refine lv_aload_n hx hb dX5_init_0 rfl (lv_at hl 0 rfl) ?_
  refine wx_callIN (n := 0) G C K w (mX3_init (l := l)) q600 q572 q118 q573 rfl rfl rfl (by decide +kernel) ⟨Nat.le_of_ble_eq_true rfl, Nat.le_of_ble_eq_true rfl⟩ rfl rfl hl.1 (Nat.le_of_ble_eq_true rfl) ⟨Nat.le_of_ble_eq_true rfl, Nat.le_of_ble_eq_true rfl⟩ dX5_init_1 (fun v ws H locs hp w => ?_)
  obtain ⟨rfl, rfl⟩ := hp
  refine lv_aload_n hx hb dX5_init_4 rfl (lv_at hl 0 rfl) ?_
  refine lv_iload_n hx hb dX5_init_5 rfl (lv_at hl 1 rfl) ?_
  refine wx_hput (kf := 0) (T := TX5) (N := 1) (Cn := RX5) (ty := .int) C hin K w rfl in_X5 tyX5 tyX5_ok (by decide +kernel) (by decide +kernel) (by decide) q601 rfl (by decide +kernel) rfl rfl (by rw [hfs]; decide) dX5_init_6 (fun H locs w => ?_)
  exact wx_vret C hr hlocks w ⟨rfl, rfl⟩ dX5_init_9
abbrev rmX6_init : Room := { frames := 2, cells := 0, slots := 0, locals := 42 }
theorem mX6_init {l : Launch} {γ : wx_G} {h : Nat} {v1 : Nat} {v2 : Int32} {fs : List Value} {ws0 : va_W} (G : cx_ok γ) (hfs : fs.length = 2) : wx_M γ l yX6_init (ws_ yX6_init cX6_init 3 none) rmX6_init [.ref h, .ref v1, .int v2] ((h, .inr (9, fs)) :: ws0) (fun v ws => v = none ∧ ws = ((h, .inr (9, ((fs.set 1 (.ref v1)).set 0 (.int v2)))) :: ws0)) 0 0 := by
  refine wx_M.of (by decide) (Nat.le_of_ble_eq_true rfl) ?_
  intro p e s m as below meth c A ls C K w hr hlocks hin hl
  have hx := C.1
  have hb := C.2.1
  have hin : meth.name = "<init>" := hin
  refine lv_aload_n hx hb dX6_init_0 rfl (lv_at hl 0 rfl) ?_
  refine lv_aload_n hx hb dX6_init_1 rfl (lv_at hl 1 rfl) ?_
  refine wx_hput (kf := 1) (T := TX6) (N := 2) (Cn := RX6) (ty := .object "WalkingStones") C hin K w rfl in_X6 tyX6 tyX6_ok (by decide +kernel) (by decide +kernel) (by decide) q612 rfl (by decide +kernel) rfl rfl (by rw [hfs]; decide) dX6_init_2 (fun H locs w => ?_)
  refine lv_aload_n hx hb dX6_init_5 rfl (lv_at hl 0 rfl) ?_
  refine wx_callIN (n := 0) G C K w (mX3_init (l := l)) q610 q572 q118 q573 rfl rfl rfl (by decide +kernel) ⟨Nat.le_of_ble_eq_true rfl, Nat.le_of_ble_eq_true rfl⟩ rfl rfl hl.1 (Nat.le_of_ble_eq_true rfl) ⟨Nat.le_of_ble_eq_true rfl, Nat.le_of_ble_eq_true rfl⟩ dX6_init_6 (fun v ws H locs hp w => ?_)
  obtain ⟨rfl, rfl⟩ := hp
  refine lv_aload_n hx hb dX6_init_9 rfl (lv_at hl 0 rfl) ?_
  refine lv_iload_n hx hb dX6_init_10 rfl (lv_at hl 2 rfl) ?_
  refine wx_hput (kf := 0) (T := TX6) (N := 2) (Cn := RX6) (ty := .int) C hin K w rfl in_X6 tyX6 tyX6_ok (by decide +kernel) (by decide +kernel) (by decide) q611 rfl (by decide +kernel) rfl rfl (by rw [List.length_set]; rw [hfs]; decide) dX6_init_11 (fun H locs w => ?_)
  exact wx_vret C hr hlocks w ⟨rfl, rfl⟩ dX6_init_14
abbrev rmX4_init : Room := { frames := 2, cells := 0, slots := 0, locals := 42 }
theorem mX4_init {l : Launch} {γ : wx_G} {h : Nat} {v1 : Nat} {v2 : Int32} {fs : List Value} {ws0 : va_W} (G : cx_ok γ) (hfs : fs.length = 2) (hz2 : narrow .boolean (.int v2) = .int v2) (hy2 : fits .boolean (.int v2) = true) : wx_M γ l yX4_init (ws_ yX4_init cX4_init 3 none) rmX4_init [.ref h, .ref v1, .int v2] ((h, .inr (10, fs)) :: ws0) (fun v ws => v = none ∧ ws = ((h, .inr (10, ((fs.set 0 (.ref v1)).set 1 (.int v2)))) :: ws0)) 0 0 := by
  refine wx_M.of (by decide) (Nat.le_of_ble_eq_true rfl) ?_
  intro p e s m as below meth c A ls C K w hr hlocks hin hl
  have hx := C.1
  have hb := C.2.1
  have hin : meth.name = "<init>" := hin
  refine lv_aload_n hx hb dX4_init_0 rfl (lv_at hl 0 rfl) ?_
  refine wx_callIN (n := 0) G C K w (mX3_init (l := l)) q571 q572 q118 q573 rfl rfl rfl (by decide +kernel) ⟨Nat.le_of_ble_eq_true rfl, Nat.le_of_ble_eq_true rfl⟩ rfl rfl hl.1 (Nat.le_of_ble_eq_true rfl) ⟨Nat.le_of_ble_eq_true rfl, Nat.le_of_ble_eq_true rfl⟩ dX4_init_1 (fun v ws H locs hp w => ?_)
  obtain ⟨rfl, rfl⟩ := hp
  refine lv_aload_n hx hb dX4_init_4 rfl (lv_at hl 0 rfl) ?_
  refine lv_aload_n hx hb dX4_init_5 rfl (lv_at hl 1 rfl) ?_
  refine wx_hput (kf := 0) (T := TX4) (N := 2) (Cn := RX4) (ty := .object "WalkingStones$Node") C hin K w rfl in_X4 tyX4 tyX4_ok (by decide +kernel) (by decide +kernel) (by decide) q575 rfl (by decide +kernel) rfl rfl (by rw [hfs]; decide) dX4_init_6 (fun H locs w => ?_)
  refine lv_aload_n hx hb dX4_init_9 rfl (lv_at hl 0 rfl) ?_
  refine lv_iload_n hx hb dX4_init_10 rfl (lv_at hl 2 rfl) ?_
  refine wx_hput (kf := 1) (T := TX4) (N := 2) (Cn := RX4) (ty := .boolean) C hin K w rfl in_X4 tyX4 tyX4_ok (by decide +kernel) (by decide +kernel) (by decide) q576 rfl (by decide +kernel) hz2 hy2 (by rw [List.length_set]; rw [hfs]; decide) dX4_init_11 (fun H locs w => ?_)
  exact wx_vret C hr hlocks w ⟨rfl, rfl⟩ dX4_init_14
abbrev rmX7_init : Room := { frames := 2, cells := 0, slots := 0, locals := 42 }
theorem mX7_init {l : Launch} {γ : wx_G} {h : Nat} {v1 : Int32} {v2 : Nat} {v3 : Nat} {fs : List Value} {ws0 : va_W} (G : cx_ok γ) (hfs : fs.length = 3) : wx_M γ l yX7_init (ws_ yX7_init cX7_init 4 none) rmX7_init [.ref h, .int v1, .ref v2, .ref v3] ((h, .inr (11, fs)) :: ws0) (fun v ws => v = none ∧ ws = ((h, .inr (11, (((fs.set 0 (.int v1)).set 1 (.ref v2)).set 2 (.ref v3)))) :: ws0)) 0 0 := by
  refine wx_M.of (by decide) (Nat.le_of_ble_eq_true rfl) ?_
  intro p e s m as below meth c A ls C K w hr hlocks hin hl
  have hx := C.1
  have hb := C.2.1
  have hin : meth.name = "<init>" := hin
  refine lv_aload_n hx hb dX7_init_0 rfl (lv_at hl 0 rfl) ?_
  refine wx_callIN (n := 0) G C K w (mX3_init (l := l)) q627 q572 q118 q573 rfl rfl rfl (by decide +kernel) ⟨Nat.le_of_ble_eq_true rfl, Nat.le_of_ble_eq_true rfl⟩ rfl rfl hl.1 (Nat.le_of_ble_eq_true rfl) ⟨Nat.le_of_ble_eq_true rfl, Nat.le_of_ble_eq_true rfl⟩ dX7_init_1 (fun v ws H locs hp w => ?_)
  obtain ⟨rfl, rfl⟩ := hp
  refine lv_aload_n hx hb dX7_init_4 rfl (lv_at hl 0 rfl) ?_
  refine lv_iload_n hx hb dX7_init_5 rfl (lv_at hl 1 rfl) ?_
  refine wx_hput (kf := 0) (T := TX7) (N := 3) (Cn := RX7) (ty := .int) C hin K w rfl in_X7 tyX7 tyX7_ok (by decide +kernel) (by decide +kernel) (by decide) q628 rfl (by decide +kernel) rfl rfl (by rw [hfs]; decide) dX7_init_6 (fun H locs w => ?_)
  refine lv_aload_n hx hb dX7_init_9 rfl (lv_at hl 0 rfl) ?_
  refine lv_aload_n hx hb dX7_init_10 rfl (lv_at hl 2 rfl) ?_
  refine wx_hput (kf := 1) (T := TX7) (N := 3) (Cn := RX7) (ty := .object "WalkingStones$Node") C hin K w rfl in_X7 tyX7 tyX7_ok (by decide +kernel) (by decide +kernel) (by decide) q629 rfl (by decide +kernel) rfl rfl (by rw [List.length_set]; rw [hfs]; decide) dX7_init_11 (fun H locs w => ?_)
  refine lv_aload_n hx hb dX7_init_14 rfl (lv_at hl 0 rfl) ?_
  refine lv_aload_n hx hb dX7_init_15 rfl (lv_at hl 3 rfl) ?_
  refine wx_hput (kf := 2) (T := TX7) (N := 3) (Cn := RX7) (ty := .object "WalkingStones$Node") C hin K w rfl in_X7 tyX7 tyX7_ok (by decide +kernel) (by decide +kernel) (by decide) q630 rfl (by decide +kernel) rfl rfl (by rw [List.length_set]; rw [List.length_set]; rw [hfs]; decide) dX7_init_16 (fun H locs w => ?_)
  exact wx_vret C hr hlocks w ⟨rfl, rfl⟩ dX7_init_19
/-- signs: (0, v) a number, (1, k) a name, then what stands behind its parts -/
abbrev xR : Type := List (Nat × Int32)
def opc (v : Int32) : Nat := if v = 124 then 2 else if v = 38 then 3 else if v = 60 then 5 else if v = 61 then 6 else if v = 43 then 7 else if v = 45 then 8 else if v = 42 then 9 else 11
def opt (v : Int32) : Nat := if v = 0 then 4 else 10
abbrev nblank : va_E := .inr (11, [.int 0, .null, .null])
def nd (L : va_W) (o : Nat) : Nat → Nat → xR → Prop
  | 0, _, _ => False
  | d + 1, a, r => (∃ v : Int32, (a, .inr (8, [.int v])) ∈ L ∧ r = [(0, v)]) ∨ (∃ v : Int32, (a, .inr (9, [.int v, .ref o])) ∈ L ∧ r = [(1, v)]) ∨ (∃ (x : Nat) (v : Int32) (rx : xR), (a, .inr (10, [.ref x, .int v])) ∈ L ∧ nd L o d x rx ∧ r = rx ++ [(opt v, 0)]) ∨ (∃ (v : Int32) (x y : Nat) (rx ry : xR), (a, .inr (11, [.int v, .ref x, .ref y])) ∈ L ∧ nd L o d x rx ∧ nd L o d y ry ∧ r = rx ++ ry ++ [(opc v, 0)])
theorem nd_mono {L L2 : va_W} {o : Nat} (h : ∀ (a : Nat) (e : va_E), (a, e) ∈ L → (a, e) ∈ L2 ∨ e = nblank ∨ ∃ x, e = .inl x) : ∀ (d d2 a : Nat) (r : xR), d ≤ d2 → nd L o d a r → nd L2 o d2 a r := by
  intro d
  induction d with
  | zero => intro d2 a r _ hn; exact hn.elim
  | succ d ih =>
    intro d2 a r hd hn
    cases d2 with
    | zero => omega
    | succ d2 =>
      have hd : d ≤ d2 := by omega
      rcases hn with ⟨v, hm, hr⟩ | ⟨v, hm, hr⟩ | ⟨x, v, rx, hm, hx, hr⟩ | ⟨v, x, y, rx, ry, hm, hx, hy, hr⟩
      · rcases h _ _ hm with h1 | h1 | ⟨x1, h1⟩
        · exact Or.inl ⟨v, h1, hr⟩
        · simp [nblank] at h1
        · cases h1
      · rcases h _ _ hm with h1 | h1 | ⟨x1, h1⟩
        · exact Or.inr (Or.inl ⟨v, h1, hr⟩)
        · simp [nblank] at h1
        · cases h1
      · rcases h _ _ hm with h1 | h1 | ⟨x1, h1⟩
        · exact Or.inr (Or.inr (Or.inl ⟨x, v, rx, h1, ih d2 x rx hd hx, hr⟩))
        · simp [nblank] at h1
        · cases h1
      · rcases h _ _ hm with h1 | h1 | ⟨x1, h1⟩
        · exact Or.inr (Or.inr (Or.inr ⟨v, x, y, rx, ry, h1, ih d2 x rx hd hx, ih d2 y ry hd hy, hr⟩))
        · simp [nblank] at h1
        · cases h1
theorem kx_add {γ : wx_G} {ad : Nat → Nat} {ρ : va_W} (T : kx_ok γ ad ρ) (N : va_W) : kx_ok γ ad (N ++ ρ) := by
  intro k hk
  obtain ⟨q, tf, h1, h2⟩ := T k hk
  refine ⟨N.length + q, tf, ?_, h2⟩
  rw [List.getElem?_append_right (Nat.le_add_right _ _), Nat.add_sub_cancel_left]
  exact h1
theorem cw_cons {γ : wx_G} {o : Nat} {ad : Nat → Nat} {f : xF} {g : xG} {ρ : va_W} {x : Nat × va_E} : List.Perm (x :: cw γ o ad f g ρ) (cw γ o ad f g (x :: ρ)) :=
  (List.Perm.swap _ _ _).trans (List.Perm.cons _ List.perm_middle.symm)
theorem cw_perm {γ : wx_G} {o : Nat} {ad : Nat → Nat} {f : xF} {g : xG} {ρ ρ2 : va_W} (h : List.Perm ρ ρ2) : List.Perm (cw γ o ad f g ρ) (cw γ o ad f g ρ2) :=
  List.Perm.cons _ (List.Perm.append_left _ h)
/-- a cell of the world goes to its head -/
theorem cw_head {γ : wx_G} {o : Nat} {ad : Nat → Nat} {f : xF} {g : xG} {N ρ : va_W} {x : Nat × va_E} : List.Perm (cw γ o ad f g (N ++ x :: ρ)) (x :: cw γ o ad f g (N ++ ρ)) :=
  (cw_perm List.perm_middle).trans cw_cons.symm

/-! ROWS OF SHEETS (mine; printed by gen/sheets.py): calls of static methods that may throw; instanceof, checkcast; asksPlace sortOf lengthOf item put rowOf -/
set_option maxRecDepth 100000
def nc_l : List (String × String) := [("[S", "[B"), ("[I", "[B"), ("[B", "[S"), ("[I", "[S"), ("[B", "[I"), ("[S", "[I"), ("WalkingStones$How", "WalkingStones$Gust"), ("WalkingStones$Slope", "WalkingStones$Gust"), ("WalkingStones$How", "WalkingStones$Raft"), ("WalkingStones$Gust", "WalkingStones$Raft"), ("WalkingStones$Slope", "WalkingStones$Raft"), ("WalkingStones$How", "WalkingStones$Whole"), ("WalkingStones$Gust", "WalkingStones$Whole"), ("WalkingStones$Raft", "WalkingStones$Whole"), ("WalkingStones$Panes", "WalkingStones$Whole"), ("WalkingStones$Slope", "WalkingStones$Whole"), ("WalkingStones$How", "WalkingStones$Panes"), ("WalkingStones$Gust", "WalkingStones$Panes"), ("WalkingStones$Raft", "WalkingStones$Panes"), ("WalkingStones$Whole", "WalkingStones$Panes"), ("WalkingStones$Slope", "WalkingStones$Panes"), ("WalkingStones$How", "WalkingStones$Slope"), ("WalkingStones$Gust", "WalkingStones$Slope"), ("WalkingStones$Raft", "WalkingStones$Slope"), ("WalkingStones$Whole", "WalkingStones$Slope"), ("WalkingStones$Panes", "WalkingStones$Slope"), ("java/lang/NullPointerException", "java/lang/ClassCastException"), ("java/lang/IndexOutOfBoundsException", "java/lang/ClassCastException"), ("java/lang/IndexOutOfBoundsException", "java/lang/NullPointerException"), ("java/lang/ClassCastException", "java/lang/NullPointerException")]
/-- pairs of classes that aren't castable -/
def nc_ok (γ : wx_G) : Prop := ∀ q ∈ nc_l, ∃ as0 : Array Value, (Cond.not (.castable q.1 q.2)).before as0 γ.2.2 = true
theorem nc_use {γ : wx_G} {A : Nat → Prop} {s : State} {X Y : String} {cx cy : ClassId} (NC : nc_ok γ) (K : wx_C γ A s) (h : (X, Y) ∈ nc_l) (hX : s.vm.findClass X = some cx) (hY : s.vm.findClass Y = some cy) : s.vm.assignable cx cy = false := by
  obtain ⟨as0, h0⟩ := NC _ h
  have hal := K.1.2.alike
  have e1 : γ.2.2.vm.findClass X = some cx := by rw [← hal.findClass]; exact hX
  have e2 : γ.2.2.vm.findClass Y = some cy := by rw [← hal.findClass]; exact hY
  rw [hal.assignable]
  simp only [Cond.before, Cond.holds, Cond.value, e1, e2] at h0
  simpa using h0
section SH
variable {p : Program} {l : Launch} {e : Env} {R : Room} {s : State} {m : MethodId} {as : Array Value} {below : List Frame} {meth : Method} {c : Code} {H : Heap} {locs : List Loc} {cells slots : Nat} {Q : State → Prop}
variable {cc : ByteArray} {nL pc : Nat} {ls : Array Slot} {rest : List Value} {γ : wx_G} {A : Nat → Prop} {ws : va_W} {own : String} {post : Option Value → va_W → Prop} {postT : Nat → va_W → Prop} {mc ms : Nat}
/-- a call of a static method that may throw -/
theorem wx_callST {y : MethodName} {yb : ByteArray} {maxL idx n : Nat} {ret : Option FieldType} {rmc : Room} {As st0 : List Value} (C : CallFix p m c cc nL s as lw_all own) (K : wx_C γ A s) (w : wx_w γ A s H locs ws) (hM : wx_MX γ l y (ws_ y yb maxL ret) rmc As ws post postT mc ms) (q1 : Cond.methodLink own idx y ∈ lw_all) (q2 : Cond.static y ∈ lw_all) (q4 : Cond.initialized y.cls ∈ lw_all) (q5 : Cond.code y yb maxL ret ∈ lw_all) (hrc : rmc.cells = mc) (hrs : rmc.slots = ms)
    (hd : y.cls ≠ "java/lang/invoke/MethodHandle" ∧ y.cls ≠ "java/lang/invoke/VarHandle" ∧ (parseMethodDescriptor y.desc).map (fun d => d.parameters.length) = some n) (hn : As.length = n) (hst : st0 = As.reverse ++ rest) (hR : rmc.frames + 1 ≤ R.frames ∧ 8 + (maxL + 11) + rmc.locals ≤ R.locals) (hls : ls.size = nL) (hW : (rest.map fun v => v.category).sum ≤ 8) (hf : cells + mc ≤ R.cells ∧ slots + ms ≤ R.slots) (d : decode cc pc = .ok (.invokestatic idx, 3))
    (kk : ∀ (v : Option Value) (ws2 : va_W) (H1 : Heap) (locs1 : List Loc), post v ws2 → wx_w γ A s H1 locs1 ws2 → W p l e R s m as below meth c H1 locs1 (cells + mc) (slots + ms) Q (F0 m (pc + 3) ls (v.toList ++ rest)))
    (kt : ∀ (x : Nat) (ws2 : va_W) (H1 : Heap) (locs1 : List Loc), postT x ws2 → wx_w γ A s H1 locs1 ws2 → WT p l e R s m as below meth c H1 locs1 (cells + mc) (slots + ms) Q (F0 m pc ls rest) x) : W p l e R s m as below meth c H locs cells slots Q (F0 m pc ls st0) := by
  have hts := C.2.2.2.2
  obtain ⟨hy1, hy2, hlen⟩ := hd
  obtain ⟨hx, hb, hml, ho, -⟩ := C
  intro T hT X
  subst hT
  obtain ⟨mk, hnamed⟩ := Cond.code_named (hts _ q5)
  obtain ⟨methM, cM, hmethM, -, -, -, -, -, -, hsigM⟩ := Cond.code_spec hnamed (hts _ q5)
  have hstatic : methM.isStatic = true := Cond.static_spec hnamed hmethM (hts _ q2)
  obtain ⟨kP, hkP, -⟩ := className_of_methodNamed hnamed
  have hinitP : kP.init = .initialized := Cond.initialized_spec (findClass_of_methodNamed hnamed) hkP (hts _ q4)
  have hlen2 : As.length = methM.sig.parameters.length := by
    have h2 := hlen
    rw [show parseMethodDescriptor y.desc = some methM.sig from hsigM] at h2
    exact hn.trans (Option.some.inj h2).symm
  obtain ⟨vm₁, X₁, hstep₁⟩ := X.invokestatic hx ho (hts _ q1) hnamed hmethM hstatic hkP hinitP ⟨hy1, hy2⟩ (g := F0 m pc ls st0) rfl (argsL := As) (rest := rest) hlen2 hst (by rw [hb]; exact d)
  rcases wx_goX (T := T.setVm vm₁) (args := As) (g := F0 m pc ls rest) (mk := mk) (len := 3) X₁ hts K w hM q5 q4 hrc hrs hR hf rfl (by show ls.size = _; rw [hls, hml]) (by rw [hb]; exact d) (lv_room hW) (X₁.named hnamed) with ⟨v, ws2, T2, locs2, X2, hp, w2, st⟩ | ⟨x, ws2, T2, locs2, X2, hp, w2, st⟩
  · obtain ⟨t, a1, b1⟩ := kk v ws2 T2.heap locs2 hp w2 T2 rfl X2
    exact ⟨t, hstep₁ _ fun acts => by rw [doInvoke_state]; exact st.trans a1, b1⟩
  · obtain ⟨t, a1, b1⟩ := kt x ws2 T2.heap locs2 hp w2 T2 rfl X2
    exact ⟨t, hstep₁ _ fun acts => by rw [doInvoke_state]; exact st.trans a1, b1⟩
theorem wx_instY {a idx : Nat} {cell : Cell} {nm : String} {cT : ClassId} (C : CallFix p m c cc nL s as lw_all own) (hcell : H[a]? = some cell) (hobj : cell.vm.isStatics = false) (q : Cond.classLink own idx nm ∈ lw_all) (hcT : s.vm.findClass nm = some cT) (hasg : s.vm.assignable cell.cls cT = true) (d : decode cc pc = .ok (.instanceof idx, 3)) (kk : W p l e R s m as below meth c H locs cells slots Q (F0 m (pc + 3) ls (.int 1 :: rest))) : W p l e R s m as below meth c H locs cells slots Q (F0 m pc ls (.ref a :: rest)) := by
  intro T hT X
  obtain ⟨vm1, X1, st⟩ := X.instanceofYes C.1 C.2.2.2.1 (C.2.2.2.2 _ q) (by rw [hT]; exact hcell) hobj hcT hasg (g := F0 m pc ls (.ref a :: rest)) rfl rfl (by rw [C.2.1]; exact d)
  obtain ⟨t, a1, b1⟩ := kk (T.setVm vm1) hT X1
  exact ⟨t, st t a1, b1⟩
theorem wx_instN {a idx : Nat} {cell : Cell} {nm : String} {cT : ClassId} {ks : Class} (C : CallFix p m c cc nL s as lw_all own) (hcell : s.heap[a]? = some cell) (hobj : cell.vm.isStatics = false) (hks : s.vm.classes[cell.cls]? = some ks) (q : Cond.classLink own idx nm ∈ lw_all) (hcT : s.vm.findClass nm = some cT) (hasg : s.vm.assignable cell.cls cT = false) (d : decode cc pc = .ok (.instanceof idx, 3)) (kk : W p l e R s m as below meth c H locs cells slots Q (F0 m (pc + 3) ls (.int 0 :: rest))) : W p l e R s m as below meth c H locs cells slots Q (F0 m pc ls (.ref a :: rest)) := by
  intro T hT X
  obtain ⟨vm1, X1, st⟩ := X.instanceofNo C.1 C.2.2.2.1 (C.2.2.2.2 _ q) hcell hobj hks hcT hasg (g := F0 m pc ls (.ref a :: rest)) rfl rfl (by rw [C.2.1]; exact d)
  obtain ⟨t, a1, b1⟩ := kk (T.setVm vm1) hT X1
  exact ⟨t, st t a1, b1⟩
theorem wx_inst0 {idx : Nat} (C : CallFix p m c cc nL s as lw_all own) (d : decode cc pc = .ok (.instanceof idx, 3)) (kk : W p l e R s m as below meth c H locs cells slots Q (F0 m (pc + 3) ls (.int 0 :: rest))) : W p l e R s m as below meth c H locs cells slots Q (F0 m pc ls (.null :: rest)) := by
  intro T hT X
  obtain ⟨t, a1, b1⟩ := kk T hT X
  exact ⟨t, X.instanceofNull C.1 (g := F0 m pc ls (.null :: rest)) rfl rfl (by rw [C.2.1]; exact d) t a1, b1⟩
theorem wx_castY {a idx : Nat} {cell : Cell} {nm : String} {cT : ClassId} (C : CallFix p m c cc nL s as lw_all own) (hcell : H[a]? = some cell) (hobj : cell.vm.isStatics = false) (q : Cond.classLink own idx nm ∈ lw_all) (hcT : s.vm.findClass nm = some cT) (hasg : s.vm.assignable cell.cls cT = true) (d : decode cc pc = .ok (.checkcast idx, 3)) (kk : W p l e R s m as below meth c H locs cells slots Q (F0 m (pc + 3) ls (.ref a :: rest))) : W p l e R s m as below meth c H locs cells slots Q (F0 m pc ls (.ref a :: rest)) := by
  intro T hT X
  obtain ⟨vm1, X1, st⟩ := X.checkcastYes C.1 C.2.2.2.1 (C.2.2.2.2 _ q) (by rw [hT]; exact hcell) hobj hcT hasg (g := F0 m pc ls (.ref a :: rest)) rfl rfl (by rw [C.2.1]; exact d)
  obtain ⟨t, a1, b1⟩ := kk (T.setVm vm1) hT X1
  exact ⟨t, st t a1, b1⟩
theorem wx_cast0 {idx : Nat} (C : CallFix p m c cc nL s as lw_all own) (d : decode cc pc = .ok (.checkcast idx, 3)) (kk : W p l e R s m as below meth c H locs cells slots Q (F0 m (pc + 3) ls (.null :: rest))) : W p l e R s m as below meth c H locs cells slots Q (F0 m pc ls (.null :: rest)) := by
  intro T hT X
  obtain ⟨t, a1, b1⟩ := kk T hT X
  exact ⟨t, X.checkcastNull C.1 (g := F0 m pc ls (.null :: rest)) rfl rfl (by rw [C.2.1]; exact d) t a1, b1⟩
end SH
/-! a sheet's row: none, or (address, sort, length, what it holds); sorts: 0 bytes, 1 shorts, 2 ints -/
abbrev xS : Type := Option (Nat × Nat × Nat × (Nat → Int32))
def rti (t : Nat) : Nat := if t = 0 then 1 else if t = 1 then 2 else 0
def rtn (t : Nat) : String := if t = 0 then "[B" else if t = 1 then "[S" else "[I"
abbrev e_sr (γ : wx_G) (t n : Nat) (h : Nat → Int32) : va_E := .inl (γ.2.1 (rti t), n, .inl h)
def sr_v (sr : xS) : Value := match sr with
  | none => .null
  | some x => .ref x.1
def sr_in (γ : wx_G) (ws : va_W) (sr : xS) : Prop := match sr with
  | none => True
  | some x => (∃ q : Nat, ws[q]? = some (x.1, e_sr γ x.2.1 x.2.2.1 x.2.2.2)) ∧ x.2.1 < 3 ∧ x.2.2.1 ≤ 40
def srt (k : Int32) : Nat := if k = 0 then 0 else if k = 1 then 1 else 2
/-- (0, v): it answers v; (ci, _): it throws an object of the class ci (14 null, 15 beyond, 17 other) *-/
abbrev xQ : Type := Nat × Int32
def q_len (sr : xS) (k : Int32) : xQ := match sr with
  | none => (14, 0)
  | some x => if x.2.1 = srt k then (0, Int32.ofNat x.2.2.1) else (17, 0)
def q_item (sr : xS) (k i : Int32) : xQ := match sr with
  | none => (14, 0)
  | some x => if x.2.1 = srt k then (if i < 0 ∨ Int32.ofNat x.2.2.1 ≤ i then (15, 0) else (0, x.2.2.2 i.toNatClampNeg)) else (17, 0)
theorem rt_fc {γ : wx_G} {A : Nat → Prop} {s : State} (K : wx_C γ A s) : s.vm.findClass "[B" = some (γ.2.1 1) ∧ s.vm.findClass "[S" = some (γ.2.1 2) ∧ s.vm.findClass "[I" = some (γ.2.1 0) :=
  ⟨(K.1.1.2 1 (γ.2.1 1, .byte) rfl).2, (K.1.1.2 2 (γ.2.1 2, .short) rfl).2, (K.1.1.2 0 (γ.2.1 0, .int) rfl).2⟩
theorem rt_kl {γ : wx_G} {A : Nat → Prop} {s : State} {t : Nat} (K : wx_C γ A s) (ht : t < 3) : ∃ ks, s.vm.classes[γ.2.1 (rti t)]? = some ks := by
  obtain ⟨h1, h2, h3⟩ := rt_fc K
  rcases (show t = 0 ∨ t = 1 ∨ t = 2 by omega) with rfl | rfl | rfl
  · obtain ⟨k, hk, -⟩ := Vm.findClass_spec h1
    exact ⟨k, hk⟩
  · obtain ⟨k, hk, -⟩ := Vm.findClass_spec h2
    exact ⟨k, hk⟩
  · obtain ⟨k, hk, -⟩ := Vm.findClass_spec h3
    exact ⟨k, hk⟩
abbrev rmA : Room := { frames := 10, cells := 1, slots := 6, locals := 200 }
abbrev rmI : Room := { frames := 12, cells := 3, slots := 1210, locals := 10400 }
theorem mX0_asksPlace {l : Launch} {γ : wx_G} {ws : va_W} {i n : Int32} (XO : ex_ok γ l) (G : cx_ok γ) : wx_MX γ l yX0_asksPlace (ws_ yX0_asksPlace cX0_asksPlace 2 none) rmA [.int i, .int n] ws (fun v ws2 => ¬ (i < 0 ∨ n ≤ i) ∧ v = none ∧ ws2 = ws) (fun x ws2 => (i < 0 ∨ n ≤ i) ∧ ws2 = (x, .inr (15, [])) :: ws) 1 6 := by
  refine wx_MX.of (by decide) (Nat.le_of_ble_eq_true rfl) ?_
  intro p e s m as below meth c A ls C K w hr hlocks htab hl
  have hx := C.1
  have hb := C.2.1
  have hT : (i < 0 ∨ n ≤ i) → W p l e rmA s m as below meth c s.heap [] 0 0 (wx_QX γ (fun v ws2 => ¬ (i < 0 ∨ n ≤ i) ∧ v = none ∧ ws2 = ws) (fun x ws2 => (i < 0 ∨ n ≤ i) ∧ ws2 = (x, .inr (15, [])) :: ws) A as s below 1 6) (F0 m 9 ls []) := by
    intro hin
    obtain ⟨hfc, kI, hkI, -⟩ := (K.1.1.1 15 _ rfl).2
    refine W.newcK C.1 C.2.1 C.2.2.2.1 (C.2.2.2.2 _ q1112) (C.2.2.2.2 _ q1113) (C.2.2.2.2 _ q131) rfl dX0_asksPlace_9 (Nat.le_of_ble_eq_true rfl) (Nat.le_of_ble_eq_true rfl) hfc rfl (fun H1 kC hkC e1 z1 o1 => ?_)
    refine W.eq (g2 := F0 m 12 ls [.ref s.heap.size]) rfl ?_
    refine lv_dup hx hb dX0_asksPlace_12 rfl ?_
    intro T hT X
    have htr : e.platform.stackTraces = false := by rw [X.admits.platform]; exact XO.1
    obtain ⟨U, h1, h2, h3, h4, h5, cell, hc, KN⟩ := X.ctorThrow0 C.1 htr (own := RX0) (cls := "java/lang/IndexOutOfBoundsException") (names := [Bundle.rN, Bundle.eN]) (ic := 522) C.2.2.2.1 (by decide) (by intro n hn; simp only [List.mem_cons, List.not_mem_nil, or_false] at hn; rcases hn with rfl | rfl <;> decide) (ex_ioo XO G C K) (fun x hx => by cases hx) hfc hkC (by rw [hT]; exact e1) (Nat.le_refl _) (g := F0 m 13 ls [.ref s.heap.size, .ref s.heap.size]) rfl (by show ls.size = _; rw [hl.1, C.2.2.1]) rfl rfl (rest := []) rfl (by rw [C.2.1]; exact dX0_asksPlace_13) (by rw [C.2.1]; exact dX0_asksPlace_16) (wx_none htab _) (by decide) (Nat.le_of_ble_eq_true rfl) hlocks
    have w2 := wx_newx (Cn := "java/lang/IndexOutOfBoundsException") (ci := 15) K w (wx_same0 h5) (Nat.le_refl _) hc rfl KN.cls KN.vm
    exact ⟨U, h1, .threw s.heap.size, h2, h3, ⟨Or.inr ⟨s.heap.size, _, rfl, ⟨hin, rfl⟩, w2.1, w2.2.1⟩, w2.2.2.F rfl⟩, [], ⟨h4, h5⟩, fun _ h => by cases h⟩
  refine lv_iload_n hx hb dX0_asksPlace_0 rfl (lv_at hl 0 rfl) ?_
  refine lv_if_lt (tgt := 9) hx hb dX0_asksPlace_1 (by decide) (fun c => hT (Or.inl c)) (fun c => ?_)
  refine lv_iload_n hx hb dX0_asksPlace_4 rfl (lv_at hl 0 rfl) ?_
  refine lv_iload_n hx hb dX0_asksPlace_5 rfl (lv_at hl 1 rfl) ?_
  refine lv_icmp_lt (tgt := 17) hx hb dX0_asksPlace_6 (by decide) (fun c2 => ?_) (fun c2 => hT (Or.inr (Int32.not_lt.mp c2)))
  refine W.widen (k := 1) (n := 6) (by decide) (by decide) ?_
  exact W.mono (fun t h => wx_QX.of h) (wx_vret C hr hlocks w ⟨fun h => h.elim c (fun h => absurd c2 (Int32.not_lt.mpr h)), rfl, rfl⟩ dX0_asksPlace_17)
theorem mX0_sortOf {l : Launch} {γ : wx_G} {ws : va_W} {b t n : Nat} {h : Nat → Int32} {q0 : Nat} (NC : nc_ok γ) (ht : t < 3) (hq : ws[q0]? = some (b, e_sr γ t n h)) : wx_M γ l yX0_sortOf (ws_ yX0_sortOf cX0_sortOf 1 (some .int)) { frames := 0, cells := 0, slots := 0, locals := 0 } [.ref b] ws (fun v ws2 => v = some (.int (Int32.ofNat t)) ∧ ws2 = ws) 0 0 := by
  refine wx_M.of (by decide) (Nat.le_of_ble_eq_true rfl) ?_
  intro p e s m as below meth c A ls C K w hr hlocks _ hl
  have hx := C.1
  have hb := C.2.1
  obtain ⟨h1, h2, h3⟩ := rt_fc K
  obtain ⟨ks, hks⟩ := rt_kl K ht
  have hcell : s.heap[b]? = some (vp_cell (γ.2.1 (rti t)) (n, .inl h)) := w.1 q0 _ hq
  refine lv_aload_n hx hb dX0_sortOf_0 rfl (lv_at hl 0 rfl) ?_
  rcases (show t = 0 ∨ t = 1 ∨ t = 2 by omega) with rfl | rfl | rfl
  · refine wx_instY C hcell rfl q1096 h1 (wx_self _ _) dX0_sortOf_1 ?_
    refine lv_if_eq (tgt := 11) hx hb dX0_sortOf_4 (by decide) (fun c => absurd c (by decide)) (fun c => ?_)
    refine lv_iconst (v := (0 : Int32)) hx hb dX0_sortOf_7 (by decide) ?_
    refine lv_goto (tgt := 23) hx hb dX0_sortOf_8 (by decide) ?_
    exact wx_iret C hr hlocks w ⟨rfl, rfl⟩ dX0_sortOf_23
  · refine wx_instN C hcell rfl hks q1096 h1 (nc_use NC K (X := "[S") (Y := "[B") (by decide) h2 h1) dX0_sortOf_1 ?_
    refine lv_if_eq (tgt := 11) hx hb dX0_sortOf_4 (by decide) (fun c => ?_) (fun c => absurd rfl c)
    refine lv_aload_n hx hb dX0_sortOf_11 rfl (lv_at hl 0 rfl) ?_
    refine wx_instY C hcell rfl q1097 h2 (wx_self _ _) dX0_sortOf_12 ?_
    refine lv_if_eq (tgt := 22) hx hb dX0_sortOf_15 (by decide) (fun c => absurd c (by decide)) (fun c => ?_)
    refine lv_iconst (v := (1 : Int32)) hx hb dX0_sortOf_18 (by decide) ?_
    refine lv_goto (tgt := 23) hx hb dX0_sortOf_19 (by decide) ?_
    exact wx_iret C hr hlocks w ⟨rfl, rfl⟩ dX0_sortOf_23
  · refine wx_instN C hcell rfl hks q1096 h1 (nc_use NC K (X := "[I") (Y := "[B") (by decide) h3 h1) dX0_sortOf_1 ?_
    refine lv_if_eq (tgt := 11) hx hb dX0_sortOf_4 (by decide) (fun c => ?_) (fun c => absurd rfl c)
    refine lv_aload_n hx hb dX0_sortOf_11 rfl (lv_at hl 0 rfl) ?_
    refine wx_instN C hcell rfl hks q1097 h2 (nc_use NC K (X := "[I") (Y := "[S") (by decide) h3 h2) dX0_sortOf_12 ?_
    refine lv_if_eq (tgt := 22) hx hb dX0_sortOf_15 (by decide) (fun c => ?_) (fun c => absurd rfl c)
    refine lv_iconst (v := (2 : Int32)) hx hb dX0_sortOf_22 (by decide) ?_
    exact wx_iret C hr hlocks w ⟨rfl, rfl⟩ dX0_sortOf_23
theorem ms_none {s : State} {γ : wx_G} {A : Nat → Prop} (XO2 : modulesRight_1 γ.2.2 = true) (K : wx_C γ A s) : modulesRight_1 s = true := by
  have hm : s.vm.modules = γ.2.2.vm.modules := by
    have h := congrArg (fun v : Vm => v.modules) K.1.2.alike.1
    exact h
  unfold modulesRight_1
  rw [hm]
  exact XO2

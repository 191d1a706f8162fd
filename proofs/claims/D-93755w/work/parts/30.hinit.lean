/-! THE HOWS' CONSTRUCTORS, made (mine; printed by gen/hinit.py) -/
set_option maxRecDepth 100000
section HI
variable {p : Program} {l : Launch} {e : Env} {R : Room} {s : State} {m : MethodId} {as : Array Value} {below : List Frame} {meth : Method} {c : Code} {H : Heap} {locs : List Loc} {cells slots : Nat} {Q : State → Prop}
variable {cc : ByteArray} {nL pc : Nat} {ls : Array Slot} {rest : List Value} {γ : wx_G} {A : Nat → Prop} {ws : va_W} {own : String} {post : Option Value → va_W → Prop} {mc ms : Nat}
theorem wx_aret {v : Nat} {rt : FieldType} (C : CallFix p m c cc nL s as lw_all own) (hr : meth.sig.returnType = some rt) (hrt : (∃ n, rt = .object n) ∨ ∃ t, rt = .array t) (hlocks : meth.locks = false) (w : wx_w γ A s H locs ws) (hp : post (some (.ref v)) ws) (d : decode cc pc = .ok (.areturn, 1)) : W p l e R s m as below meth c H locs mc ms (wx_Q γ post A as s below mc ms) (F0 m pc ls [.ref v]) :=
  W.aret C.1 C.2.1 hr hrt (Or.inr ⟨_, rfl⟩) (fun t ht hW => ⟨⟨_, ws, rfl, hp, by rw [ht]; exact w.1, w.2.1⟩, w.2.2.F ht⟩) w.2.2.2.2 d hlocks
/-- fields of different owners lie apart -/
theorem wx_apartF {args : Array Value} {C O n d O2 n2 d2 : String} (h : (Cond.laysFinal C O n d).before args s = true) (h2 : (Cond.laysFinal C O2 n2 d2).before args s = true) {cf fi cf2 fi2 : Nat} {kf kf2 : Class} {fd fd2 : Field} (hi : s.fieldFound? O n d = some (cf, kf, fi, fd)) (hi2 : s.fieldFound? O2 n2 d2 = some (cf2, kf2, fi2, fd2)) (hne : O ≠ O2) : fd.slot ≠ fd2.slot := by
  obtain ⟨c1, k1, c3, k3, i3, f3, r1, r2, e1, -, -, -, o1, -, d1, hd1, m1, -⟩ := Cond.laysFinal_spec h
  obtain ⟨c2, k2, c4, k4, i4, f4, r3, r4, e2, -, -, -, o2, -, d4, hd2, m2, -⟩ := Cond.laysFinal_spec h2
  cases r1.symm.trans r3
  cases hi.symm.trans e1
  cases hi2.symm.trans e2
  intro hs
  rw [hs] at hd1
  cases hd1.symm.trans hd2
  obtain ⟨ka, ha, hna⟩ := Vm.findClass_spec o1
  obtain ⟨kb, hb, hnb⟩ := Vm.findClass_spec o2
  cases ha.symm.trans (State.fieldFound?_class hi)
  cases hb.symm.trans (State.fieldFound?_class hi2)
  exact hne (hna.symm.trans (m1.symm.trans (m2.trans hnb)))
/-- a final field of the world's first cell, in its constructor -/
theorem wx_hput {h ci N kf idx : Nat} {fs : List Value} {ws0 : va_W} {Cn : String} {T : u_T} {v : Value} {ty : FieldType} (C : CallFix p m c cc nL s as lw_all own) (hin2 : meth.name = "<init>") (K : wx_C γ A s) (w : wx_w γ A s H locs ((h, .inr (ci, fs)) :: ws0)) (hcl : wx_cl[ci]? = some (Cn, T, N)) (hin : ∀ w ∈ u_ws Cn T N, w ∈ lw_all) (ty0 : Nat → FieldType) (hty : ∀ k, k < N → parseFieldDescriptor (T k).2.2.1 = some (ty0 k)) (hnm : ∀ a, a < N → ∀ b, b < N → a ≠ b → (T a).2.1 ≠ (T b).2.1 ∨ (T a).1 ≠ (T b).1) (hall : ∀ a, a < N → (T a).2.2.2 = true) (hkf : kf < N) (q : Cond.fieldLink own idx (T kf).1 (T kf).2.1 (T kf).2.2.1 ∈ lw_all) (hdecl : (T kf).1 = own) (hd : parseFieldDescriptor (T kf).2.2.1 = some ty) (hn : narrow ty v = v) (hfit : fits ty v = true) (hl : kf < fs.length) (d : decode cc pc = .ok (.putfield idx, 3)) (kk : ∀ (H : Heap) (locs : List Loc), wx_w γ A s H locs ((h, .inr (ci, fs.set kf v)) :: ws0) → W p l e R s m as below meth c H locs cells slots Q (F0 m (pc + 3) ls rest)) : W p l e R s m as below meth c H locs cells slots Q (F0 m pc ls (v :: .ref h :: rest)) := by
  have hts := C.2.2.2.2
  have hK := K.1.1
  have hlays : ∀ k, k < N → (Cond.laysFinal Cn (T k).1 (T k).2.1 (T k).2.2.1).before as s = true := by
    intro k hk
    have hlay := hts _ (hin _ (u_in_lay hk))
    unfold u_lay at hlay
    rw [if_pos (hall k hk)] at hlay
    exact hlay
  have hap : ∀ x y, x < N → y < N → x ≠ y → (γ.1.2 ci) x ≠ (γ.1.2 ci) y := by
    intro x y hx hy hne
    obtain ⟨hS, -⟩ := hK.1 ci _ hcl
    obtain ⟨_, _, _, fa, hia, ea⟩ := hS x hx
    obtain ⟨_, _, _, fb, hib, eb⟩ := hS y hy
    rw [← ea, ← eb]
    rcases hnm x hx y hy hne with h1 | h1
    · refine u_apart (u_lays hts hin hx) (u_lays hts hin hy) hia hib ?_
      rw [(State.fieldFound?_type hia (hty x hx)).1, (State.fieldFound?_type hib (hty y hy)).1]
      exact h1
    · exact wx_apartF (hlays x hx) (hlays y hy) hia hib h1
  have he : ((h, .inr (ci, fs)) :: ws0 : va_W)[0]? = some (h, .inr (ci, fs)) := rfl
  obtain ⟨r, h1, cell, q1, q2, q3, q4⟩ := w.1 0 _ he
  have hr : r = (Cn, T, N) := Option.some.inj (h1.symm.trans hcl)
  subst hr
  obtain ⟨hS, hfc, kC, hkC, hkind⟩ := hK.1 ci _ hcl
  obtain ⟨cf, kf0, fi, f, hi, hsl⟩ := hS kf hkf
  have hst := (u_facts hfc hkC (u_lays hts hin hkf) hi).1
  have hcf : m.cls = cf := by
    obtain ⟨_, _, c', _, _, _, -, -, hf', -, -, -, hown2, -⟩ := Cond.laysFinal_spec (hlays kf hkf)
    have e1 : c' = cf := by have := hi.symm.trans hf'; simp at this; exact this.1.symm
    rw [hdecl] at hown2
    rw [← e1]; exact Option.some.inj (C.2.2.2.1.symm.trans hown2)
  have h6 := u_fits hfc hkC hkind (Or.inr (hlays kf hkf)) hi hd hn hfit
  refine W.putFinK C.1 C.2.1 C.2.2.2.1 (hts _ q) hi hst hcf hin2 (by rw [q2]; exact h6) q1 q3 (by rw [hsl]; exact k2_hasslot (q4 kf hkf)) rfl rfl d fun H' e1 e2 e3 => ?_
  rw [hsl] at e1 ⊢
  exact kk H' _ ⟨w.1.set w.2.1 he ⟨_, hcl, t_OB.to (V := updV (vp_V fs) kf v) ⟨_, e1, q2, q3, t_set q4 hap hkf v⟩ (fun j _ => vp_updV_set hl v j)⟩ e3, w.2.1.set he, w.2.2.put e2 e3 (w.2.1.2 0 _ he)⟩
theorem wx_callI {y : MethodName} {yb : ByteArray} {maxL idx n : Nat} {rmc : Room} {b : Nat} {As st0 : List Value} (C : CallFix p m c cc nL s as lw_all own) (K : wx_C γ A s) (w : wx_w γ A s H locs ws) (hM : wx_M γ l y (ws_ y yb maxL none) rmc (.ref b :: As) ws post mc ms) (q1 : Cond.methodLink own idx y ∈ lw_all) (q2 : Cond.instanceMethod y ∈ lw_all) (q3 : Cond.initialized y.cls ∈ lw_all) (q4 : Cond.code y yb maxL none ∈ lw_all) (hrc : rmc.cells = mc) (hrs : rmc.slots = ms) (hy1 : y.name = "<init>")
    (hd : y.cls ≠ "java/lang/invoke/MethodHandle" ∧ y.cls ≠ "java/lang/invoke/VarHandle" ∧ (parseMethodDescriptor y.desc).map (fun d => d.parameters.length) = some n) (hR : rmc.frames + 1 ≤ R.frames ∧ 8 + (maxL + 11) + rmc.locals ≤ R.locals) (hn : As.length = n) (hst : st0 = As.reverse ++ .ref b :: rest) (hls : ls.size = nL) (hW : (rest.map fun v => v.category).sum ≤ 8) (hf : cells + mc ≤ R.cells ∧ slots + ms ≤ R.slots) (d : decode cc pc = .ok (.invokespecial idx, 3))
    (kk : ∀ (v : Option Value) (ws' : va_W) (H1 : Heap) (locs1 : List Loc), post v ws' → wx_w γ A s H1 locs1 ws' → W p l e R s m as below meth c H1 locs1 (cells + mc) (slots + ms) Q (F0 m (pc + 3) ls (v.toList ++ rest))) : W p l e R s m as below meth c H locs cells slots Q (F0 m pc ls st0) :=
  wx_call K w (va_runI C (hM H.size) (cwI n C.2.2.2.2 (lw_meth q4) rfl hrc hrs (C.2.2.2.2 _ q3) (C.2.2.2.2 _ q1) (C.2.2.2.2 _ q2) hy1 hd hR) (wx_PreS K w) rfl hn hls hst (lv_room hW) d hf) kk
/-- worlds are known up to the order of their cells -/
theorem wx_w.perm {ws2 : va_W} (w : wx_w γ A s H locs ws) (hp : ws.Perm ws2) : wx_w γ A s H locs ws2 := by
  obtain ⟨h1, h2, h3⟩ := w
  have hnd : (ws.map (fun q => q.1)).Nodup := by
    rw [List.nodup_iff_pairwise_ne, List.pairwise_iff_getElem]
    intro i j hi hj hij he
    rw [List.length_map] at hi hj
    rw [List.getElem_map, List.getElem_map] at he
    have := h2.1 i j ws[i] ws[j] (List.getElem?_eq_getElem hi) (List.getElem?_eq_getElem hj) he
    omega
  have hnd2 : (ws2.map (fun q => q.1)).Nodup := (hp.map _).nodup_iff.mp hnd
  have hm : ∀ (k : Nat) (q : Nat × va_E), ws2[k]? = some q → ∃ k0 : Nat, ws[k0]? = some q := fun k q hk => List.getElem?_of_mem (hp.mem_iff.mpr (List.mem_of_getElem? hk))
  refine ⟨fun k q hk => ?_, ⟨fun i j x y hi hj hxy => ?_, fun k q hk => ?_⟩, h3⟩
  · obtain ⟨k0, h0⟩ := hm k q hk
    exact h1 k0 q h0
  · obtain ⟨li, ei⟩ := List.getElem?_eq_some_iff.mp hi
    obtain ⟨lj, ej⟩ := List.getElem?_eq_some_iff.mp hj
    exact (List.getElem_inj (h₀ := by rw [List.length_map]; exact li) (h₁ := by rw [List.length_map]; exact lj) hnd2).mp (by rw [List.getElem_map, List.getElem_map, ei, ej]; exact hxy)
  · obtain ⟨k0, h0⟩ := hm k q hk
    exact h2.2 k0 q h0
end HI
abbrev rmX9_init : Room := { frames := 1, cells := 0, slots := 0, locals := 20 }
abbrev rmX10_init : Room := { frames := 2, cells := 0, slots := 0, locals := 42 }
abbrev rmX11_init : Room := { frames := 3, cells := 0, slots := 0, locals := 64 }
abbrev rmX12_init : Room := { frames := 4, cells := 0, slots := 0, locals := 86 }
abbrev rmX13_init : Room := { frames := 4, cells := 0, slots := 0, locals := 86 }
abbrev rmX14_init : Room := { frames := 2, cells := 0, slots := 0, locals := 42 }
theorem iX9_0 {l : Launch} {γ : wx_G} {h o : Nat} {n : Int32} {fs : List Value} {ws0 : va_W} (hfs : fs.length = 2) : wx_M γ l yX9_init (ws_ yX9_init cX9_init 3 none) rmX9_init [.ref h, .ref o, .int n] ((h, .inr (2, fs)) :: ws0) (fun v ws => v = none ∧ ws = ((h, .inr (2, ((fs).set 1 (.ref o)).set 0 (.int n))) :: ws0)) 0 0 := by
  refine wx_M.of (by decide) (Nat.le_of_ble_eq_true rfl) ?_
  intro p e s m as below meth c A ls C K w hr hlocks hin hl
  have hx := C.1
  have hb := C.2.1
  have hin : meth.name = "<init>" := hin
  refine lv_aload_n hx hb dX9_init_0 rfl (lv_at hl 0 rfl) ?_
  refine lv_aload_n hx hb dX9_init_1 rfl (lv_at hl 1 rfl) ?_
  refine wx_hput (kf := 1) (T := TX9) (N := 2) (Cn := RX9) (ty := .object "WalkingStones") C hin K w rfl in_X9 tyX9 tyX9_ok (by decide +kernel) (by decide +kernel) (by decide) q195 rfl (by decide +kernel) rfl rfl (by rw [hfs]; decide) dX9_init_2 (fun H locs w => ?_)
  refine lv_aload_n hx hb dX9_init_5 rfl (lv_at hl 0 rfl) ?_
  refine W.objInit hx hb C.2.2.2.1 (C.2.2.2.2 _ q183) (C.2.2.2.2 _ q184) (C.2.2.2.2 _ q185) rfl (by rw [C.2.2.1]; exact hl.1) rfl dX9_init_6 (Nat.le_of_ble_eq_true rfl) (Nat.le_of_ble_eq_true rfl) ?_
  refine W.eq (g2 := F0 m 9 ls []) rfl ?_
  refine lv_aload_n hx hb dX9_init_9 rfl (lv_at hl 0 rfl) ?_
  refine lv_iload_n hx hb dX9_init_10 rfl (lv_at hl 2 rfl) ?_
  refine wx_hput (kf := 0) (T := TX9) (N := 2) (Cn := RX9) (ty := .int) C hin K w rfl in_X9 tyX9 tyX9_ok (by decide +kernel) (by decide +kernel) (by decide) q187 rfl (by decide +kernel) rfl rfl (by rw [List.length_set, hfs]; decide) dX9_init_11 (fun H locs w => ?_)
  exact wx_vret C hr hlocks w ⟨rfl, rfl⟩ dX9_init_14
theorem iX9_1 {l : Launch} {γ : wx_G} {h o : Nat} {n : Int32} {fs : List Value} {ws0 : va_W} (hfs : fs.length = 3) : wx_M γ l yX9_init (ws_ yX9_init cX9_init 3 none) rmX9_init [.ref h, .ref o, .int n] ((h, .inr (3, fs)) :: ws0) (fun v ws => v = none ∧ ws = ((h, .inr (3, ((fs).set 1 (.ref o)).set 0 (.int n))) :: ws0)) 0 0 := by
  refine wx_M.of (by decide) (Nat.le_of_ble_eq_true rfl) ?_
  intro p e s m as below meth c A ls C K w hr hlocks hin hl
  have hx := C.1
  have hb := C.2.1
  have hin : meth.name = "<init>" := hin
  refine lv_aload_n hx hb dX9_init_0 rfl (lv_at hl 0 rfl) ?_
  refine lv_aload_n hx hb dX9_init_1 rfl (lv_at hl 1 rfl) ?_
  refine wx_hput (kf := 1) (T := TX10) (N := 3) (Cn := RX10) (ty := .object "WalkingStones") C hin K w rfl in_X10 tyX10 tyX10_ok (by decide +kernel) (by decide +kernel) (by decide) q195 rfl (by decide +kernel) rfl rfl (by rw [hfs]; decide) dX9_init_2 (fun H locs w => ?_)
  refine lv_aload_n hx hb dX9_init_5 rfl (lv_at hl 0 rfl) ?_
  refine W.objInit hx hb C.2.2.2.1 (C.2.2.2.2 _ q183) (C.2.2.2.2 _ q184) (C.2.2.2.2 _ q185) rfl (by rw [C.2.2.1]; exact hl.1) rfl dX9_init_6 (Nat.le_of_ble_eq_true rfl) (Nat.le_of_ble_eq_true rfl) ?_
  refine W.eq (g2 := F0 m 9 ls []) rfl ?_
  refine lv_aload_n hx hb dX9_init_9 rfl (lv_at hl 0 rfl) ?_
  refine lv_iload_n hx hb dX9_init_10 rfl (lv_at hl 2 rfl) ?_
  refine wx_hput (kf := 0) (T := TX10) (N := 3) (Cn := RX10) (ty := .int) C hin K w rfl in_X10 tyX10 tyX10_ok (by decide +kernel) (by decide +kernel) (by decide) q187 rfl (by decide +kernel) rfl rfl (by rw [List.length_set, hfs]; decide) dX9_init_11 (fun H locs w => ?_)
  exact wx_vret C hr hlocks w ⟨rfl, rfl⟩ dX9_init_14
theorem iX9_2 {l : Launch} {γ : wx_G} {h o : Nat} {n : Int32} {fs : List Value} {ws0 : va_W} (hfs : fs.length = 4) : wx_M γ l yX9_init (ws_ yX9_init cX9_init 3 none) rmX9_init [.ref h, .ref o, .int n] ((h, .inr (4, fs)) :: ws0) (fun v ws => v = none ∧ ws = ((h, .inr (4, ((fs).set 1 (.ref o)).set 0 (.int n))) :: ws0)) 0 0 := by
  refine wx_M.of (by decide) (Nat.le_of_ble_eq_true rfl) ?_
  intro p e s m as below meth c A ls C K w hr hlocks hin hl
  have hx := C.1
  have hb := C.2.1
  have hin : meth.name = "<init>" := hin
  refine lv_aload_n hx hb dX9_init_0 rfl (lv_at hl 0 rfl) ?_
  refine lv_aload_n hx hb dX9_init_1 rfl (lv_at hl 1 rfl) ?_
  refine wx_hput (kf := 1) (T := TX11) (N := 4) (Cn := RX11) (ty := .object "WalkingStones") C hin K w rfl in_X11 tyX11 tyX11_ok (by decide +kernel) (by decide +kernel) (by decide) q195 rfl (by decide +kernel) rfl rfl (by rw [hfs]; decide) dX9_init_2 (fun H locs w => ?_)
  refine lv_aload_n hx hb dX9_init_5 rfl (lv_at hl 0 rfl) ?_
  refine W.objInit hx hb C.2.2.2.1 (C.2.2.2.2 _ q183) (C.2.2.2.2 _ q184) (C.2.2.2.2 _ q185) rfl (by rw [C.2.2.1]; exact hl.1) rfl dX9_init_6 (Nat.le_of_ble_eq_true rfl) (Nat.le_of_ble_eq_true rfl) ?_
  refine W.eq (g2 := F0 m 9 ls []) rfl ?_
  refine lv_aload_n hx hb dX9_init_9 rfl (lv_at hl 0 rfl) ?_
  refine lv_iload_n hx hb dX9_init_10 rfl (lv_at hl 2 rfl) ?_
  refine wx_hput (kf := 0) (T := TX11) (N := 4) (Cn := RX11) (ty := .int) C hin K w rfl in_X11 tyX11 tyX11_ok (by decide +kernel) (by decide +kernel) (by decide) q187 rfl (by decide +kernel) rfl rfl (by rw [List.length_set, hfs]; decide) dX9_init_11 (fun H locs w => ?_)
  exact wx_vret C hr hlocks w ⟨rfl, rfl⟩ dX9_init_14
theorem iX9_3 {l : Launch} {γ : wx_G} {h o : Nat} {n : Int32} {fs : List Value} {ws0 : va_W} (hfs : fs.length = 5) : wx_M γ l yX9_init (ws_ yX9_init cX9_init 3 none) rmX9_init [.ref h, .ref o, .int n] ((h, .inr (5, fs)) :: ws0) (fun v ws => v = none ∧ ws = ((h, .inr (5, ((fs).set 1 (.ref o)).set 0 (.int n))) :: ws0)) 0 0 := by
  refine wx_M.of (by decide) (Nat.le_of_ble_eq_true rfl) ?_
  intro p e s m as below meth c A ls C K w hr hlocks hin hl
  have hx := C.1
  have hb := C.2.1
  have hin : meth.name = "<init>" := hin
  refine lv_aload_n hx hb dX9_init_0 rfl (lv_at hl 0 rfl) ?_
  refine lv_aload_n hx hb dX9_init_1 rfl (lv_at hl 1 rfl) ?_
  refine wx_hput (kf := 1) (T := TX12) (N := 5) (Cn := RX12) (ty := .object "WalkingStones") C hin K w rfl in_X12 tyX12 tyX12_ok (by decide +kernel) (by decide +kernel) (by decide) q195 rfl (by decide +kernel) rfl rfl (by rw [hfs]; decide) dX9_init_2 (fun H locs w => ?_)
  refine lv_aload_n hx hb dX9_init_5 rfl (lv_at hl 0 rfl) ?_
  refine W.objInit hx hb C.2.2.2.1 (C.2.2.2.2 _ q183) (C.2.2.2.2 _ q184) (C.2.2.2.2 _ q185) rfl (by rw [C.2.2.1]; exact hl.1) rfl dX9_init_6 (Nat.le_of_ble_eq_true rfl) (Nat.le_of_ble_eq_true rfl) ?_
  refine W.eq (g2 := F0 m 9 ls []) rfl ?_
  refine lv_aload_n hx hb dX9_init_9 rfl (lv_at hl 0 rfl) ?_
  refine lv_iload_n hx hb dX9_init_10 rfl (lv_at hl 2 rfl) ?_
  refine wx_hput (kf := 0) (T := TX12) (N := 5) (Cn := RX12) (ty := .int) C hin K w rfl in_X12 tyX12 tyX12_ok (by decide +kernel) (by decide +kernel) (by decide) q187 rfl (by decide +kernel) rfl rfl (by rw [List.length_set, hfs]; decide) dX9_init_11 (fun H locs w => ?_)
  exact wx_vret C hr hlocks w ⟨rfl, rfl⟩ dX9_init_14
theorem iX9_4 {l : Launch} {γ : wx_G} {h o : Nat} {n : Int32} {fs : List Value} {ws0 : va_W} (hfs : fs.length = 5) : wx_M γ l yX9_init (ws_ yX9_init cX9_init 3 none) rmX9_init [.ref h, .ref o, .int n] ((h, .inr (6, fs)) :: ws0) (fun v ws => v = none ∧ ws = ((h, .inr (6, ((fs).set 1 (.ref o)).set 0 (.int n))) :: ws0)) 0 0 := by
  refine wx_M.of (by decide) (Nat.le_of_ble_eq_true rfl) ?_
  intro p e s m as below meth c A ls C K w hr hlocks hin hl
  have hx := C.1
  have hb := C.2.1
  have hin : meth.name = "<init>" := hin
  refine lv_aload_n hx hb dX9_init_0 rfl (lv_at hl 0 rfl) ?_
  refine lv_aload_n hx hb dX9_init_1 rfl (lv_at hl 1 rfl) ?_
  refine wx_hput (kf := 1) (T := TX13) (N := 5) (Cn := RX13) (ty := .object "WalkingStones") C hin K w rfl in_X13 tyX13 tyX13_ok (by decide +kernel) (by decide +kernel) (by decide) q195 rfl (by decide +kernel) rfl rfl (by rw [hfs]; decide) dX9_init_2 (fun H locs w => ?_)
  refine lv_aload_n hx hb dX9_init_5 rfl (lv_at hl 0 rfl) ?_
  refine W.objInit hx hb C.2.2.2.1 (C.2.2.2.2 _ q183) (C.2.2.2.2 _ q184) (C.2.2.2.2 _ q185) rfl (by rw [C.2.2.1]; exact hl.1) rfl dX9_init_6 (Nat.le_of_ble_eq_true rfl) (Nat.le_of_ble_eq_true rfl) ?_
  refine W.eq (g2 := F0 m 9 ls []) rfl ?_
  refine lv_aload_n hx hb dX9_init_9 rfl (lv_at hl 0 rfl) ?_
  refine lv_iload_n hx hb dX9_init_10 rfl (lv_at hl 2 rfl) ?_
  refine wx_hput (kf := 0) (T := TX13) (N := 5) (Cn := RX13) (ty := .int) C hin K w rfl in_X13 tyX13 tyX13_ok (by decide +kernel) (by decide +kernel) (by decide) q187 rfl (by decide +kernel) rfl rfl (by rw [List.length_set, hfs]; decide) dX9_init_11 (fun H locs w => ?_)
  exact wx_vret C hr hlocks w ⟨rfl, rfl⟩ dX9_init_14
theorem iX9_5 {l : Launch} {γ : wx_G} {h o : Nat} {n : Int32} {fs : List Value} {ws0 : va_W} (hfs : fs.length = 3) : wx_M γ l yX9_init (ws_ yX9_init cX9_init 3 none) rmX9_init [.ref h, .ref o, .int n] ((h, .inr (7, fs)) :: ws0) (fun v ws => v = none ∧ ws = ((h, .inr (7, ((fs).set 1 (.ref o)).set 0 (.int n))) :: ws0)) 0 0 := by
  refine wx_M.of (by decide) (Nat.le_of_ble_eq_true rfl) ?_
  intro p e s m as below meth c A ls C K w hr hlocks hin hl
  have hx := C.1
  have hb := C.2.1
  have hin : meth.name = "<init>" := hin
  refine lv_aload_n hx hb dX9_init_0 rfl (lv_at hl 0 rfl) ?_
  refine lv_aload_n hx hb dX9_init_1 rfl (lv_at hl 1 rfl) ?_
  refine wx_hput (kf := 1) (T := TX14) (N := 3) (Cn := RX14) (ty := .object "WalkingStones") C hin K w rfl in_X14 tyX14 tyX14_ok (by decide +kernel) (by decide +kernel) (by decide) q195 rfl (by decide +kernel) rfl rfl (by rw [hfs]; decide) dX9_init_2 (fun H locs w => ?_)
  refine lv_aload_n hx hb dX9_init_5 rfl (lv_at hl 0 rfl) ?_
  refine W.objInit hx hb C.2.2.2.1 (C.2.2.2.2 _ q183) (C.2.2.2.2 _ q184) (C.2.2.2.2 _ q185) rfl (by rw [C.2.2.1]; exact hl.1) rfl dX9_init_6 (Nat.le_of_ble_eq_true rfl) (Nat.le_of_ble_eq_true rfl) ?_
  refine W.eq (g2 := F0 m 9 ls []) rfl ?_
  refine lv_aload_n hx hb dX9_init_9 rfl (lv_at hl 0 rfl) ?_
  refine lv_iload_n hx hb dX9_init_10 rfl (lv_at hl 2 rfl) ?_
  refine wx_hput (kf := 0) (T := TX14) (N := 3) (Cn := RX14) (ty := .int) C hin K w rfl in_X14 tyX14 tyX14_ok (by decide +kernel) (by decide +kernel) (by decide) q187 rfl (by decide +kernel) rfl rfl (by rw [List.length_set, hfs]; decide) dX9_init_11 (fun H locs w => ?_)
  exact wx_vret C hr hlocks w ⟨rfl, rfl⟩ dX9_init_14
theorem iX10_1 {l : Launch} {γ : wx_G} {h o : Nat} {n : Int32} {fs : List Value} {ws0 : va_W} (hfs : fs.length = 3) : wx_M γ l yX10_init (ws_ yX10_init cX10_init 3 none) rmX10_init [.ref h, .ref o, .int n] ((h, .inr (3, fs)) :: ws0) (fun v ws => v = none ∧ ws = ((h, .inr (3, (((fs).set 2 (.ref o)).set 1 (.ref o)).set 0 (.int n))) :: ws0)) 0 0 := by
  refine wx_M.of (by decide) (Nat.le_of_ble_eq_true rfl) ?_
  intro p e s m as below meth c A ls C K w hr hlocks hin hl
  have hx := C.1
  have hb := C.2.1
  have hin : meth.name = "<init>" := hin
  refine lv_aload_n hx hb dX10_init_0 rfl (lv_at hl 0 rfl) ?_
  refine lv_aload_n hx hb dX10_init_1 rfl (lv_at hl 1 rfl) ?_
  refine wx_hput (kf := 2) (T := TX10) (N := 3) (Cn := RX10) (ty := .object "WalkingStones") C hin K w rfl in_X10 tyX10 tyX10_ok (by decide +kernel) (by decide +kernel) (by decide) q186 rfl (by decide +kernel) rfl rfl (by rw [hfs]; decide) dX10_init_2 (fun H locs w => ?_)
  refine lv_aload_n hx hb dX10_init_5 rfl (lv_at hl 0 rfl) ?_
  refine lv_aload_n hx hb dX10_init_6 rfl (lv_at hl 1 rfl) ?_
  refine lv_iload_n hx hb dX10_init_7 rfl (lv_at hl 2 rfl) ?_
  refine wx_callI (n := 2) C K w (iX9_1 (l := l) (o := o) (n := n) (by rw [List.length_set]; exact hfs)) q180 q181 q124 q182 rfl rfl rfl (by decide +kernel) ⟨Nat.le_of_ble_eq_true rfl, Nat.le_of_ble_eq_true rfl⟩ rfl rfl hl.1 (Nat.le_of_ble_eq_true rfl) ⟨Nat.le_of_ble_eq_true rfl, Nat.le_of_ble_eq_true rfl⟩ dX10_init_8 (fun v ws H locs hp w => ?_)
  obtain ⟨rfl, rfl⟩ := hp
  exact wx_vret C hr hlocks w ⟨rfl, rfl⟩ dX10_init_11
theorem iX10_2 {l : Launch} {γ : wx_G} {h o : Nat} {n : Int32} {fs : List Value} {ws0 : va_W} (hfs : fs.length = 4) : wx_M γ l yX10_init (ws_ yX10_init cX10_init 3 none) rmX10_init [.ref h, .ref o, .int n] ((h, .inr (4, fs)) :: ws0) (fun v ws => v = none ∧ ws = ((h, .inr (4, (((fs).set 2 (.ref o)).set 1 (.ref o)).set 0 (.int n))) :: ws0)) 0 0 := by
  refine wx_M.of (by decide) (Nat.le_of_ble_eq_true rfl) ?_
  intro p e s m as below meth c A ls C K w hr hlocks hin hl
  have hx := C.1
  have hb := C.2.1
  have hin : meth.name = "<init>" := hin
  refine lv_aload_n hx hb dX10_init_0 rfl (lv_at hl 0 rfl) ?_
  refine lv_aload_n hx hb dX10_init_1 rfl (lv_at hl 1 rfl) ?_
  refine wx_hput (kf := 2) (T := TX11) (N := 4) (Cn := RX11) (ty := .object "WalkingStones") C hin K w rfl in_X11 tyX11 tyX11_ok (by decide +kernel) (by decide +kernel) (by decide) q186 rfl (by decide +kernel) rfl rfl (by rw [hfs]; decide) dX10_init_2 (fun H locs w => ?_)
  refine lv_aload_n hx hb dX10_init_5 rfl (lv_at hl 0 rfl) ?_
  refine lv_aload_n hx hb dX10_init_6 rfl (lv_at hl 1 rfl) ?_
  refine lv_iload_n hx hb dX10_init_7 rfl (lv_at hl 2 rfl) ?_
  refine wx_callI (n := 2) C K w (iX9_2 (l := l) (o := o) (n := n) (by rw [List.length_set]; exact hfs)) q180 q181 q124 q182 rfl rfl rfl (by decide +kernel) ⟨Nat.le_of_ble_eq_true rfl, Nat.le_of_ble_eq_true rfl⟩ rfl rfl hl.1 (Nat.le_of_ble_eq_true rfl) ⟨Nat.le_of_ble_eq_true rfl, Nat.le_of_ble_eq_true rfl⟩ dX10_init_8 (fun v ws H locs hp w => ?_)
  obtain ⟨rfl, rfl⟩ := hp
  exact wx_vret C hr hlocks w ⟨rfl, rfl⟩ dX10_init_11
theorem iX10_3 {l : Launch} {γ : wx_G} {h o : Nat} {n : Int32} {fs : List Value} {ws0 : va_W} (hfs : fs.length = 5) : wx_M γ l yX10_init (ws_ yX10_init cX10_init 3 none) rmX10_init [.ref h, .ref o, .int n] ((h, .inr (5, fs)) :: ws0) (fun v ws => v = none ∧ ws = ((h, .inr (5, (((fs).set 2 (.ref o)).set 1 (.ref o)).set 0 (.int n))) :: ws0)) 0 0 := by
  refine wx_M.of (by decide) (Nat.le_of_ble_eq_true rfl) ?_
  intro p e s m as below meth c A ls C K w hr hlocks hin hl
  have hx := C.1
  have hb := C.2.1
  have hin : meth.name = "<init>" := hin
  refine lv_aload_n hx hb dX10_init_0 rfl (lv_at hl 0 rfl) ?_
  refine lv_aload_n hx hb dX10_init_1 rfl (lv_at hl 1 rfl) ?_
  refine wx_hput (kf := 2) (T := TX12) (N := 5) (Cn := RX12) (ty := .object "WalkingStones") C hin K w rfl in_X12 tyX12 tyX12_ok (by decide +kernel) (by decide +kernel) (by decide) q186 rfl (by decide +kernel) rfl rfl (by rw [hfs]; decide) dX10_init_2 (fun H locs w => ?_)
  refine lv_aload_n hx hb dX10_init_5 rfl (lv_at hl 0 rfl) ?_
  refine lv_aload_n hx hb dX10_init_6 rfl (lv_at hl 1 rfl) ?_
  refine lv_iload_n hx hb dX10_init_7 rfl (lv_at hl 2 rfl) ?_
  refine wx_callI (n := 2) C K w (iX9_3 (l := l) (o := o) (n := n) (by rw [List.length_set]; exact hfs)) q180 q181 q124 q182 rfl rfl rfl (by decide +kernel) ⟨Nat.le_of_ble_eq_true rfl, Nat.le_of_ble_eq_true rfl⟩ rfl rfl hl.1 (Nat.le_of_ble_eq_true rfl) ⟨Nat.le_of_ble_eq_true rfl, Nat.le_of_ble_eq_true rfl⟩ dX10_init_8 (fun v ws H locs hp w => ?_)
  obtain ⟨rfl, rfl⟩ := hp
  exact wx_vret C hr hlocks w ⟨rfl, rfl⟩ dX10_init_11
theorem iX10_4 {l : Launch} {γ : wx_G} {h o : Nat} {n : Int32} {fs : List Value} {ws0 : va_W} (hfs : fs.length = 5) : wx_M γ l yX10_init (ws_ yX10_init cX10_init 3 none) rmX10_init [.ref h, .ref o, .int n] ((h, .inr (6, fs)) :: ws0) (fun v ws => v = none ∧ ws = ((h, .inr (6, (((fs).set 2 (.ref o)).set 1 (.ref o)).set 0 (.int n))) :: ws0)) 0 0 := by
  refine wx_M.of (by decide) (Nat.le_of_ble_eq_true rfl) ?_
  intro p e s m as below meth c A ls C K w hr hlocks hin hl
  have hx := C.1
  have hb := C.2.1
  have hin : meth.name = "<init>" := hin
  refine lv_aload_n hx hb dX10_init_0 rfl (lv_at hl 0 rfl) ?_
  refine lv_aload_n hx hb dX10_init_1 rfl (lv_at hl 1 rfl) ?_
  refine wx_hput (kf := 2) (T := TX13) (N := 5) (Cn := RX13) (ty := .object "WalkingStones") C hin K w rfl in_X13 tyX13 tyX13_ok (by decide +kernel) (by decide +kernel) (by decide) q186 rfl (by decide +kernel) rfl rfl (by rw [hfs]; decide) dX10_init_2 (fun H locs w => ?_)
  refine lv_aload_n hx hb dX10_init_5 rfl (lv_at hl 0 rfl) ?_
  refine lv_aload_n hx hb dX10_init_6 rfl (lv_at hl 1 rfl) ?_
  refine lv_iload_n hx hb dX10_init_7 rfl (lv_at hl 2 rfl) ?_
  refine wx_callI (n := 2) C K w (iX9_4 (l := l) (o := o) (n := n) (by rw [List.length_set]; exact hfs)) q180 q181 q124 q182 rfl rfl rfl (by decide +kernel) ⟨Nat.le_of_ble_eq_true rfl, Nat.le_of_ble_eq_true rfl⟩ rfl rfl hl.1 (Nat.le_of_ble_eq_true rfl) ⟨Nat.le_of_ble_eq_true rfl, Nat.le_of_ble_eq_true rfl⟩ dX10_init_8 (fun v ws H locs hp w => ?_)
  obtain ⟨rfl, rfl⟩ := hp
  exact wx_vret C hr hlocks w ⟨rfl, rfl⟩ dX10_init_11
theorem iX11_2 {l : Launch} {γ : wx_G} {h o : Nat} {n : Int32} {fs : List Value} {ws0 : va_W} (hfs : fs.length = 4) : wx_M γ l yX11_init (ws_ yX11_init cX11_init 3 none) rmX11_init [.ref h, .ref o, .int n] ((h, .inr (4, fs)) :: ws0) (fun v ws => v = none ∧ ws = ((h, .inr (4, ((((fs).set 3 (.ref o)).set 2 (.ref o)).set 1 (.ref o)).set 0 (.int n))) :: ws0)) 0 0 := by
  refine wx_M.of (by decide) (Nat.le_of_ble_eq_true rfl) ?_
  intro p e s m as below meth c A ls C K w hr hlocks hin hl
  have hx := C.1
  have hb := C.2.1
  have hin : meth.name = "<init>" := hin
  refine lv_aload_n hx hb dX11_init_0 rfl (lv_at hl 0 rfl) ?_
  refine lv_aload_n hx hb dX11_init_1 rfl (lv_at hl 1 rfl) ?_
  refine wx_hput (kf := 3) (T := TX11) (N := 4) (Cn := RX11) (ty := .object "WalkingStones") C hin K w rfl in_X11 tyX11 tyX11_ok (by decide +kernel) (by decide +kernel) (by decide) q209 rfl (by decide +kernel) rfl rfl (by rw [hfs]; decide) dX11_init_2 (fun H locs w => ?_)
  refine lv_aload_n hx hb dX11_init_5 rfl (lv_at hl 0 rfl) ?_
  refine lv_aload_n hx hb dX11_init_6 rfl (lv_at hl 1 rfl) ?_
  refine lv_iload_n hx hb dX11_init_7 rfl (lv_at hl 2 rfl) ?_
  refine wx_callI (n := 2) C K w (iX10_2 (l := l) (o := o) (n := n) (by rw [List.length_set]; exact hfs)) q208 q178 q125 q179 rfl rfl rfl (by decide +kernel) ⟨Nat.le_of_ble_eq_true rfl, Nat.le_of_ble_eq_true rfl⟩ rfl rfl hl.1 (Nat.le_of_ble_eq_true rfl) ⟨Nat.le_of_ble_eq_true rfl, Nat.le_of_ble_eq_true rfl⟩ dX11_init_8 (fun v ws H locs hp w => ?_)
  obtain ⟨rfl, rfl⟩ := hp
  exact wx_vret C hr hlocks w ⟨rfl, rfl⟩ dX11_init_11
theorem iX11_3 {l : Launch} {γ : wx_G} {h o : Nat} {n : Int32} {fs : List Value} {ws0 : va_W} (hfs : fs.length = 5) : wx_M γ l yX11_init (ws_ yX11_init cX11_init 3 none) rmX11_init [.ref h, .ref o, .int n] ((h, .inr (5, fs)) :: ws0) (fun v ws => v = none ∧ ws = ((h, .inr (5, ((((fs).set 3 (.ref o)).set 2 (.ref o)).set 1 (.ref o)).set 0 (.int n))) :: ws0)) 0 0 := by
  refine wx_M.of (by decide) (Nat.le_of_ble_eq_true rfl) ?_
  intro p e s m as below meth c A ls C K w hr hlocks hin hl
  have hx := C.1
  have hb := C.2.1
  have hin : meth.name = "<init>" := hin
  refine lv_aload_n hx hb dX11_init_0 rfl (lv_at hl 0 rfl) ?_
  refine lv_aload_n hx hb dX11_init_1 rfl (lv_at hl 1 rfl) ?_
  refine wx_hput (kf := 3) (T := TX12) (N := 5) (Cn := RX12) (ty := .object "WalkingStones") C hin K w rfl in_X12 tyX12 tyX12_ok (by decide +kernel) (by decide +kernel) (by decide) q209 rfl (by decide +kernel) rfl rfl (by rw [hfs]; decide) dX11_init_2 (fun H locs w => ?_)
  refine lv_aload_n hx hb dX11_init_5 rfl (lv_at hl 0 rfl) ?_
  refine lv_aload_n hx hb dX11_init_6 rfl (lv_at hl 1 rfl) ?_
  refine lv_iload_n hx hb dX11_init_7 rfl (lv_at hl 2 rfl) ?_
  refine wx_callI (n := 2) C K w (iX10_3 (l := l) (o := o) (n := n) (by rw [List.length_set]; exact hfs)) q208 q178 q125 q179 rfl rfl rfl (by decide +kernel) ⟨Nat.le_of_ble_eq_true rfl, Nat.le_of_ble_eq_true rfl⟩ rfl rfl hl.1 (Nat.le_of_ble_eq_true rfl) ⟨Nat.le_of_ble_eq_true rfl, Nat.le_of_ble_eq_true rfl⟩ dX11_init_8 (fun v ws H locs hp w => ?_)
  obtain ⟨rfl, rfl⟩ := hp
  exact wx_vret C hr hlocks w ⟨rfl, rfl⟩ dX11_init_11
theorem iX11_4 {l : Launch} {γ : wx_G} {h o : Nat} {n : Int32} {fs : List Value} {ws0 : va_W} (hfs : fs.length = 5) : wx_M γ l yX11_init (ws_ yX11_init cX11_init 3 none) rmX11_init [.ref h, .ref o, .int n] ((h, .inr (6, fs)) :: ws0) (fun v ws => v = none ∧ ws = ((h, .inr (6, ((((fs).set 3 (.ref o)).set 2 (.ref o)).set 1 (.ref o)).set 0 (.int n))) :: ws0)) 0 0 := by
  refine wx_M.of (by decide) (Nat.le_of_ble_eq_true rfl) ?_
  intro p e s m as below meth c A ls C K w hr hlocks hin hl
  have hx := C.1
  have hb := C.2.1
  have hin : meth.name = "<init>" := hin
  refine lv_aload_n hx hb dX11_init_0 rfl (lv_at hl 0 rfl) ?_
  refine lv_aload_n hx hb dX11_init_1 rfl (lv_at hl 1 rfl) ?_
  refine wx_hput (kf := 3) (T := TX13) (N := 5) (Cn := RX13) (ty := .object "WalkingStones") C hin K w rfl in_X13 tyX13 tyX13_ok (by decide +kernel) (by decide +kernel) (by decide) q209 rfl (by decide +kernel) rfl rfl (by rw [hfs]; decide) dX11_init_2 (fun H locs w => ?_)
  refine lv_aload_n hx hb dX11_init_5 rfl (lv_at hl 0 rfl) ?_
  refine lv_aload_n hx hb dX11_init_6 rfl (lv_at hl 1 rfl) ?_
  refine lv_iload_n hx hb dX11_init_7 rfl (lv_at hl 2 rfl) ?_
  refine wx_callI (n := 2) C K w (iX10_4 (l := l) (o := o) (n := n) (by rw [List.length_set]; exact hfs)) q208 q178 q125 q179 rfl rfl rfl (by decide +kernel) ⟨Nat.le_of_ble_eq_true rfl, Nat.le_of_ble_eq_true rfl⟩ rfl rfl hl.1 (Nat.le_of_ble_eq_true rfl) ⟨Nat.le_of_ble_eq_true rfl, Nat.le_of_ble_eq_true rfl⟩ dX11_init_8 (fun v ws H locs hp w => ?_)
  obtain ⟨rfl, rfl⟩ := hp
  exact wx_vret C hr hlocks w ⟨rfl, rfl⟩ dX11_init_11
theorem iX12_3 {l : Launch} {γ : wx_G} {h o : Nat} {n : Int32} {fs : List Value} {ws0 : va_W} (hfs : fs.length = 5) : wx_M γ l yX12_init (ws_ yX12_init cX12_init 3 none) rmX12_init [.ref h, .ref o, .int n] ((h, .inr (5, fs)) :: ws0) (fun v ws => v = none ∧ ws = ((h, .inr (5, (((((fs).set 4 (.ref o)).set 3 (.ref o)).set 2 (.ref o)).set 1 (.ref o)).set 0 (.int n))) :: ws0)) 0 0 := by
  refine wx_M.of (by decide) (Nat.le_of_ble_eq_true rfl) ?_
  intro p e s m as below meth c A ls C K w hr hlocks hin hl
  have hx := C.1
  have hb := C.2.1
  have hin : meth.name = "<init>" := hin
  refine lv_aload_n hx hb dX12_init_0 rfl (lv_at hl 0 rfl) ?_
  refine lv_aload_n hx hb dX12_init_1 rfl (lv_at hl 1 rfl) ?_
  refine wx_hput (kf := 4) (T := TX12) (N := 5) (Cn := RX12) (ty := .object "WalkingStones") C hin K w rfl in_X12 tyX12 tyX12_ok (by decide +kernel) (by decide +kernel) (by decide) q222 rfl (by decide +kernel) rfl rfl (by rw [hfs]; decide) dX12_init_2 (fun H locs w => ?_)
  refine lv_aload_n hx hb dX12_init_5 rfl (lv_at hl 0 rfl) ?_
  refine lv_aload_n hx hb dX12_init_6 rfl (lv_at hl 1 rfl) ?_
  refine lv_iload_n hx hb dX12_init_7 rfl (lv_at hl 2 rfl) ?_
  refine wx_callI (n := 2) C K w (iX11_3 (l := l) (o := o) (n := n) (by rw [List.length_set]; exact hfs)) q221 q206 q126 q207 rfl rfl rfl (by decide +kernel) ⟨Nat.le_of_ble_eq_true rfl, Nat.le_of_ble_eq_true rfl⟩ rfl rfl hl.1 (Nat.le_of_ble_eq_true rfl) ⟨Nat.le_of_ble_eq_true rfl, Nat.le_of_ble_eq_true rfl⟩ dX12_init_8 (fun v ws H locs hp w => ?_)
  obtain ⟨rfl, rfl⟩ := hp
  exact wx_vret C hr hlocks w ⟨rfl, rfl⟩ dX12_init_11
theorem iX13_4 {l : Launch} {γ : wx_G} {h o : Nat} {n : Int32} {fs : List Value} {ws0 : va_W} (hfs : fs.length = 5) : wx_M γ l yX13_init (ws_ yX13_init cX13_init 3 none) rmX13_init [.ref h, .ref o, .int n] ((h, .inr (6, fs)) :: ws0) (fun v ws => v = none ∧ ws = ((h, .inr (6, (((((fs).set 4 (.ref o)).set 3 (.ref o)).set 2 (.ref o)).set 1 (.ref o)).set 0 (.int n))) :: ws0)) 0 0 := by
  refine wx_M.of (by decide) (Nat.le_of_ble_eq_true rfl) ?_
  intro p e s m as below meth c A ls C K w hr hlocks hin hl
  have hx := C.1
  have hb := C.2.1
  have hin : meth.name = "<init>" := hin
  refine lv_aload_n hx hb dX13_init_0 rfl (lv_at hl 0 rfl) ?_
  refine lv_aload_n hx hb dX13_init_1 rfl (lv_at hl 1 rfl) ?_
  refine wx_hput (kf := 4) (T := TX13) (N := 5) (Cn := RX13) (ty := .object "WalkingStones") C hin K w rfl in_X13 tyX13 tyX13_ok (by decide +kernel) (by decide +kernel) (by decide) q236 rfl (by decide +kernel) rfl rfl (by rw [hfs]; decide) dX13_init_2 (fun H locs w => ?_)
  refine lv_aload_n hx hb dX13_init_5 rfl (lv_at hl 0 rfl) ?_
  refine lv_aload_n hx hb dX13_init_6 rfl (lv_at hl 1 rfl) ?_
  refine lv_iload_n hx hb dX13_init_7 rfl (lv_at hl 2 rfl) ?_
  refine wx_callI (n := 2) C K w (iX11_4 (l := l) (o := o) (n := n) (by rw [List.length_set]; exact hfs)) q235 q206 q126 q207 rfl rfl rfl (by decide +kernel) ⟨Nat.le_of_ble_eq_true rfl, Nat.le_of_ble_eq_true rfl⟩ rfl rfl hl.1 (Nat.le_of_ble_eq_true rfl) ⟨Nat.le_of_ble_eq_true rfl, Nat.le_of_ble_eq_true rfl⟩ dX13_init_8 (fun v ws H locs hp w => ?_)
  obtain ⟨rfl, rfl⟩ := hp
  exact wx_vret C hr hlocks w ⟨rfl, rfl⟩ dX13_init_11
theorem iX14_5 {l : Launch} {γ : wx_G} {h o : Nat} {n : Int32} {fs : List Value} {ws0 : va_W} (hfs : fs.length = 3) : wx_M γ l yX14_init (ws_ yX14_init cX14_init 3 none) rmX14_init [.ref h, .ref o, .int n] ((h, .inr (7, fs)) :: ws0) (fun v ws => v = none ∧ ws = ((h, .inr (7, (((fs).set 2 (.ref o)).set 1 (.ref o)).set 0 (.int n))) :: ws0)) 0 0 := by
  refine wx_M.of (by decide) (Nat.le_of_ble_eq_true rfl) ?_
  intro p e s m as below meth c A ls C K w hr hlocks hin hl
  have hx := C.1
  have hb := C.2.1
  have hin : meth.name = "<init>" := hin
  refine lv_aload_n hx hb dX14_init_0 rfl (lv_at hl 0 rfl) ?_
  refine lv_aload_n hx hb dX14_init_1 rfl (lv_at hl 1 rfl) ?_
  refine wx_hput (kf := 2) (T := TX14) (N := 3) (Cn := RX14) (ty := .object "WalkingStones") C hin K w rfl in_X14 tyX14 tyX14_ok (by decide +kernel) (by decide +kernel) (by decide) q250 rfl (by decide +kernel) rfl rfl (by rw [hfs]; decide) dX14_init_2 (fun H locs w => ?_)
  refine lv_aload_n hx hb dX14_init_5 rfl (lv_at hl 0 rfl) ?_
  refine lv_aload_n hx hb dX14_init_6 rfl (lv_at hl 1 rfl) ?_
  refine lv_iload_n hx hb dX14_init_7 rfl (lv_at hl 2 rfl) ?_
  refine wx_callI (n := 2) C K w (iX9_5 (l := l) (o := o) (n := n) (by rw [List.length_set]; exact hfs)) q249 q181 q124 q182 rfl rfl rfl (by decide +kernel) ⟨Nat.le_of_ble_eq_true rfl, Nat.le_of_ble_eq_true rfl⟩ rfl rfl hl.1 (Nat.le_of_ble_eq_true rfl) ⟨Nat.le_of_ble_eq_true rfl, Nat.le_of_ble_eq_true rfl⟩ dX14_init_8 (fun v ws H locs hp w => ?_)
  obtain ⟨rfl, rfl⟩ := hp
  exact wx_vret C hr hlocks w ⟨rfl, rfl⟩ dX14_init_11
abbrev rmX0_made : Room := { frames := 5, cells := 1, slots := 5, locals := 200 }
def mk_k (k : Int32) : Nat := if k = 1 then 1 else if k = 2 then 2 else if k = 3 then 3 else if k = 4 then 4 else if k = 5 then 5 else 0
theorem mX0_made {l : Launch} {γ : wx_G} {o : Nat} {ad : Nat → Nat} {ρ : va_W} {f : xF} {g : xG} {v1 v2 : Int32} : wx_M γ l yX0_made (ws_ yX0_made cX0_made 3 (some (.object "WalkingStones$How"))) rmX0_made [.ref o, .int v1, .int v2] (cw γ o ad f g ρ) (fun v ws => ∃ q : Nat, v = some (.ref q) ∧ ws = ((q, .inr (2 + mk_k v1, hfs o (mk_k v1) v2)) :: cw γ o ad f g ρ)) 1 5 := by
  refine wx_M.of (by decide) (Nat.le_of_ble_eq_true rfl) ?_
  intro p e s m as below meth c A ls C K w hr hlocks _ hl
  have hx := C.1
  have hb := C.2.1
  refine lv_iload_n hx hb dX0_made_0 rfl (lv_at hl 1 rfl) ?_
  by_cases c1 : v1 = (1 : Int32)
  · refine lv_tableIn (off := 35) (tgt := 36) hx hb dX0_made_1 (by rw [c1]; decide) (by rw [c1]; decide) (by rw [c1]; rfl) (by decide) ?_
    refine va_new (ci := 3) (fs := [.int 0, .null, .null]) (C := RX10) (T := TX10) (N := 3) hx hb C.2.2.2.2 in_X10 tyX10 tyX10_ok C.2.2.2.1 (C.2.2.2.2 _ q175) (C.2.2.2.2 _ q176) (C.2.2.2.2 _ q125) K.1.1 w.1 w.2.1 w.2.2 K.2.1 rfl (fun j hj => by rcases (show j = 0 ∨ j = 1 ∨ j = 2 by omega) with rfl | rfl | rfl <;> rfl) (Nat.le_of_ble_eq_true rfl) (Nat.le_of_ble_eq_true rfl) dX0_made_36 (fun q H hP hD hS => ?_)
    have w : wx_w γ A s H [] ((q, .inr (3, [.int 0, .null, .null])) :: cw γ o ad f g ρ) := wx_w.perm ⟨hP, hD, hS⟩ (List.perm_append_singleton _ _)
    refine lv_dup hx hb dX0_made_39 rfl ?_
    refine lv_aload_n hx hb dX0_made_40 rfl (lv_at hl 0 rfl) ?_
    refine lv_iload_n hx hb dX0_made_41 rfl (lv_at hl 2 rfl) ?_
    refine wx_callI (n := 2) C K w (iX10_1 (l := l) (o := o) (n := v2) rfl) q177 q178 q125 q179 rfl rfl rfl (by decide +kernel) ⟨Nat.le_of_ble_eq_true rfl, Nat.le_of_ble_eq_true rfl⟩ rfl rfl hl.1 (Nat.le_of_ble_eq_true rfl) ⟨Nat.le_of_ble_eq_true rfl, Nat.le_of_ble_eq_true rfl⟩ dX0_made_42 (fun v ws H locs hp w => ?_)
    obtain ⟨rfl, rfl⟩ := hp
    refine W.widen (k := 1) (n := 5) (Nat.le_of_ble_eq_true rfl) (Nat.le_of_ble_eq_true rfl) ?_
    exact wx_aret C hr (Or.inl ⟨_, rfl⟩) hlocks w ⟨q, rfl, by simp only [mk_k, c1, if_true]; rfl⟩ dX0_made_45
  by_cases c2 : v1 = (2 : Int32)
  · refine lv_tableIn (off := 45) (tgt := 46) hx hb dX0_made_1 (by rw [c2]; decide) (by rw [c2]; decide) (by rw [c2]; rfl) (by decide) ?_
    refine va_new (ci := 4) (fs := [.int 0, .null, .null, .null]) (C := RX11) (T := TX11) (N := 4) hx hb C.2.2.2.2 in_X11 tyX11 tyX11_ok C.2.2.2.1 (C.2.2.2.2 _ q203) (C.2.2.2.2 _ q204) (C.2.2.2.2 _ q126) K.1.1 w.1 w.2.1 w.2.2 K.2.1 rfl (fun j hj => by rcases (show j = 0 ∨ j = 1 ∨ j = 2 ∨ j = 3 by omega) with rfl | rfl | rfl | rfl <;> rfl) (Nat.le_of_ble_eq_true rfl) (Nat.le_of_ble_eq_true rfl) dX0_made_46 (fun q H hP hD hS => ?_)
    have w : wx_w γ A s H [] ((q, .inr (4, [.int 0, .null, .null, .null])) :: cw γ o ad f g ρ) := wx_w.perm ⟨hP, hD, hS⟩ (List.perm_append_singleton _ _)
    refine lv_dup hx hb dX0_made_49 rfl ?_
    refine lv_aload_n hx hb dX0_made_50 rfl (lv_at hl 0 rfl) ?_
    refine lv_iload_n hx hb dX0_made_51 rfl (lv_at hl 2 rfl) ?_
    refine wx_callI (n := 2) C K w (iX11_2 (l := l) (o := o) (n := v2) rfl) q205 q206 q126 q207 rfl rfl rfl (by decide +kernel) ⟨Nat.le_of_ble_eq_true rfl, Nat.le_of_ble_eq_true rfl⟩ rfl rfl hl.1 (Nat.le_of_ble_eq_true rfl) ⟨Nat.le_of_ble_eq_true rfl, Nat.le_of_ble_eq_true rfl⟩ dX0_made_52 (fun v ws H locs hp w => ?_)
    obtain ⟨rfl, rfl⟩ := hp
    refine W.widen (k := 1) (n := 5) (Nat.le_of_ble_eq_true rfl) (Nat.le_of_ble_eq_true rfl) ?_
    exact wx_aret C hr (Or.inl ⟨_, rfl⟩) hlocks w ⟨q, rfl, by simp only [mk_k, c2, if_true, if_neg c1]; rfl⟩ dX0_made_55
  by_cases c3 : v1 = (3 : Int32)
  · refine lv_tableIn (off := 55) (tgt := 56) hx hb dX0_made_1 (by rw [c3]; decide) (by rw [c3]; decide) (by rw [c3]; rfl) (by decide) ?_
    refine va_new (ci := 5) (fs := [.int 0, .null, .null, .null, .null]) (C := RX12) (T := TX12) (N := 5) hx hb C.2.2.2.2 in_X12 tyX12 tyX12_ok C.2.2.2.1 (C.2.2.2.2 _ q216) (C.2.2.2.2 _ q217) (C.2.2.2.2 _ q127) K.1.1 w.1 w.2.1 w.2.2 K.2.1 rfl (fun j hj => by rcases (show j = 0 ∨ j = 1 ∨ j = 2 ∨ j = 3 ∨ j = 4 by omega) with rfl | rfl | rfl | rfl | rfl <;> rfl) (Nat.le_of_ble_eq_true rfl) (Nat.le_of_ble_eq_true rfl) dX0_made_56 (fun q H hP hD hS => ?_)
    have w : wx_w γ A s H [] ((q, .inr (5, [.int 0, .null, .null, .null, .null])) :: cw γ o ad f g ρ) := wx_w.perm ⟨hP, hD, hS⟩ (List.perm_append_singleton _ _)
    refine lv_dup hx hb dX0_made_59 rfl ?_
    refine lv_aload_n hx hb dX0_made_60 rfl (lv_at hl 0 rfl) ?_
    refine lv_iload_n hx hb dX0_made_61 rfl (lv_at hl 2 rfl) ?_
    refine wx_callI (n := 2) C K w (iX12_3 (l := l) (o := o) (n := v2) rfl) q218 q219 q127 q220 rfl rfl rfl (by decide +kernel) ⟨Nat.le_of_ble_eq_true rfl, Nat.le_of_ble_eq_true rfl⟩ rfl rfl hl.1 (Nat.le_of_ble_eq_true rfl) ⟨Nat.le_of_ble_eq_true rfl, Nat.le_of_ble_eq_true rfl⟩ dX0_made_62 (fun v ws H locs hp w => ?_)
    obtain ⟨rfl, rfl⟩ := hp
    refine W.widen (k := 1) (n := 5) (Nat.le_of_ble_eq_true rfl) (Nat.le_of_ble_eq_true rfl) ?_
    exact wx_aret C hr (Or.inl ⟨_, rfl⟩) hlocks w ⟨q, rfl, by simp only [mk_k, c3, if_true, if_neg c1, if_neg c2]; rfl⟩ dX0_made_65
  by_cases c4 : v1 = (4 : Int32)
  · refine lv_tableIn (off := 65) (tgt := 66) hx hb dX0_made_1 (by rw [c4]; decide) (by rw [c4]; decide) (by rw [c4]; rfl) (by decide) ?_
    refine va_new (ci := 6) (fs := [.int 0, .null, .null, .null, .null]) (C := RX13) (T := TX13) (N := 5) hx hb C.2.2.2.2 in_X13 tyX13 tyX13_ok C.2.2.2.1 (C.2.2.2.2 _ q230) (C.2.2.2.2 _ q231) (C.2.2.2.2 _ q128) K.1.1 w.1 w.2.1 w.2.2 K.2.1 rfl (fun j hj => by rcases (show j = 0 ∨ j = 1 ∨ j = 2 ∨ j = 3 ∨ j = 4 by omega) with rfl | rfl | rfl | rfl | rfl <;> rfl) (Nat.le_of_ble_eq_true rfl) (Nat.le_of_ble_eq_true rfl) dX0_made_66 (fun q H hP hD hS => ?_)
    have w : wx_w γ A s H [] ((q, .inr (6, [.int 0, .null, .null, .null, .null])) :: cw γ o ad f g ρ) := wx_w.perm ⟨hP, hD, hS⟩ (List.perm_append_singleton _ _)
    refine lv_dup hx hb dX0_made_69 rfl ?_
    refine lv_aload_n hx hb dX0_made_70 rfl (lv_at hl 0 rfl) ?_
    refine lv_iload_n hx hb dX0_made_71 rfl (lv_at hl 2 rfl) ?_
    refine wx_callI (n := 2) C K w (iX13_4 (l := l) (o := o) (n := v2) rfl) q232 q233 q128 q234 rfl rfl rfl (by decide +kernel) ⟨Nat.le_of_ble_eq_true rfl, Nat.le_of_ble_eq_true rfl⟩ rfl rfl hl.1 (Nat.le_of_ble_eq_true rfl) ⟨Nat.le_of_ble_eq_true rfl, Nat.le_of_ble_eq_true rfl⟩ dX0_made_72 (fun v ws H locs hp w => ?_)
    obtain ⟨rfl, rfl⟩ := hp
    refine W.widen (k := 1) (n := 5) (Nat.le_of_ble_eq_true rfl) (Nat.le_of_ble_eq_true rfl) ?_
    exact wx_aret C hr (Or.inl ⟨_, rfl⟩) hlocks w ⟨q, rfl, by simp only [mk_k, c4, if_true, if_neg c1, if_neg c2, if_neg c3]; rfl⟩ dX0_made_75
  by_cases c5 : v1 = (5 : Int32)
  · refine lv_tableIn (off := 75) (tgt := 76) hx hb dX0_made_1 (by rw [c5]; decide) (by rw [c5]; decide) (by rw [c5]; rfl) (by decide) ?_
    refine va_new (ci := 7) (fs := [.int 0, .null, .null]) (C := RX14) (T := TX14) (N := 3) hx hb C.2.2.2.2 in_X14 tyX14 tyX14_ok C.2.2.2.1 (C.2.2.2.2 _ q244) (C.2.2.2.2 _ q245) (C.2.2.2.2 _ q129) K.1.1 w.1 w.2.1 w.2.2 K.2.1 rfl (fun j hj => by rcases (show j = 0 ∨ j = 1 ∨ j = 2 by omega) with rfl | rfl | rfl <;> rfl) (Nat.le_of_ble_eq_true rfl) (Nat.le_of_ble_eq_true rfl) dX0_made_76 (fun q H hP hD hS => ?_)
    have w : wx_w γ A s H [] ((q, .inr (7, [.int 0, .null, .null])) :: cw γ o ad f g ρ) := wx_w.perm ⟨hP, hD, hS⟩ (List.perm_append_singleton _ _)
    refine lv_dup hx hb dX0_made_79 rfl ?_
    refine lv_aload_n hx hb dX0_made_80 rfl (lv_at hl 0 rfl) ?_
    refine lv_iload_n hx hb dX0_made_81 rfl (lv_at hl 2 rfl) ?_
    refine wx_callI (n := 2) C K w (iX14_5 (l := l) (o := o) (n := v2) rfl) q246 q247 q129 q248 rfl rfl rfl (by decide +kernel) ⟨Nat.le_of_ble_eq_true rfl, Nat.le_of_ble_eq_true rfl⟩ rfl rfl hl.1 (Nat.le_of_ble_eq_true rfl) ⟨Nat.le_of_ble_eq_true rfl, Nat.le_of_ble_eq_true rfl⟩ dX0_made_82 (fun v ws H locs hp w => ?_)
    obtain ⟨rfl, rfl⟩ := hp
    refine W.widen (k := 1) (n := 5) (Nat.le_of_ble_eq_true rfl) (Nat.le_of_ble_eq_true rfl) ?_
    exact wx_aret C hr (Or.inl ⟨_, rfl⟩) hlocks w ⟨q, rfl, by simp only [mk_k, c5, if_true, if_neg c1, if_neg c2, if_neg c3, if_neg c4]; rfl⟩ dX0_made_85
  have n1 := wx_ne c1 (k := 1) (by decide)
  have n2 := wx_ne c2 (k := 2) (by decide)
  have n3 := wx_ne c3 (k := 3) (by decide)
  have n4 := wx_ne c4 (k := 4) (by decide)
  have n5 := wx_ne c5 (k := 5) (by decide)
  refine lv_tableOut (tgt := 86) hx hb dX0_made_1 (by omega) (by decide) ?_
  refine va_new (ci := 2) (fs := [.int 0, .null]) (C := RX9) (T := TX9) (N := 2) hx hb C.2.2.2.2 in_X9 tyX9 tyX9_ok C.2.2.2.1 (C.2.2.2.2 _ q256) (C.2.2.2.2 _ q257) (C.2.2.2.2 _ q124) K.1.1 w.1 w.2.1 w.2.2 K.2.1 rfl (fun j hj => by rcases (show j = 0 ∨ j = 1 by omega) with rfl | rfl <;> rfl) (Nat.le_of_ble_eq_true rfl) (Nat.le_of_ble_eq_true rfl) dX0_made_86 (fun q H hP hD hS => ?_)
  have w : wx_w γ A s H [] ((q, .inr (2, [.int 0, .null])) :: cw γ o ad f g ρ) := wx_w.perm ⟨hP, hD, hS⟩ (List.perm_append_singleton _ _)
  refine lv_dup hx hb dX0_made_89 rfl ?_
  refine lv_aload_n hx hb dX0_made_90 rfl (lv_at hl 0 rfl) ?_
  refine lv_iload_n hx hb dX0_made_91 rfl (lv_at hl 2 rfl) ?_
  refine wx_callI (n := 2) C K w (iX9_0 (l := l) (o := o) (n := v2) rfl) q258 q181 q124 q182 rfl rfl rfl (by decide +kernel) ⟨Nat.le_of_ble_eq_true rfl, Nat.le_of_ble_eq_true rfl⟩ rfl rfl hl.1 (Nat.le_of_ble_eq_true rfl) ⟨Nat.le_of_ble_eq_true rfl, Nat.le_of_ble_eq_true rfl⟩ dX0_made_92 (fun v ws H locs hp w => ?_)
  obtain ⟨rfl, rfl⟩ := hp
  refine W.widen (k := 1) (n := 5) (Nat.le_of_ble_eq_true rfl) (Nat.le_of_ble_eq_true rfl) ?_
  exact wx_aret C hr (Or.inl ⟨_, rfl⟩) hlocks w ⟨q, rfl, by simp only [mk_k, if_neg c1, if_neg c2, if_neg c3, if_neg c4, if_neg c5]; rfl⟩ dX0_made_95

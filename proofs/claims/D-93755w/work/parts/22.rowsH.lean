/-! THE HOWS (mine): eta = how many, their addresses, kinds, numbers; a how is known by its index i -/
set_option maxRecDepth 100000
abbrev cx_H : Type := Nat × (Nat → Nat) × (Nat → Nat) × (Nat → Int32)
def had (η : cx_H) (i : Int32) : Nat := η.2.1 i.toNatClampNeg
def hki (η : cx_H) (i : Int32) : Nat := η.2.2.1 i.toNatClampNeg
def hnu (η : cx_H) (i : Int32) : Int32 := η.2.2.2 i.toNatClampNeg
def hrep (k : Nat) : Nat := match k with
  | 0 => 1
  | 1 => 2
  | 2 => 3
  | 3 => 4
  | 4 => 4
  | _ => 2
def hfs (o k : Nat) (nu : Int32) : List Value := .int nu :: List.replicate (hrep k) (.ref o)
def hc (o : Nat) (η : cx_H) (j : Nat) : Nat × va_E := (η.2.1 j, .inr (2 + η.2.2.1 j, hfs o (η.2.2.1 j) (η.2.2.2 j)))
def harr (η : cx_H) : Nat → Option Nat := fun j => if j < η.1 then some (η.2.1 j) else none
def hr (γ : wx_G) (o : Nat) (ad : Nat → Nat) (η : cx_H) : va_W := (ad 8, .inl (γ.2.1 3, 8, .inr (.inr (.inr (.inr (harr η)))))) :: (List.range η.1).map (hc o η)
def ghw (η : cx_H) (i : Int32) : Bool := decide (0 ≤ i) && decide (i.toNatClampNeg < η.1)
def gk (η : cx_H) (i : Int32) (ks : List Nat) : Bool := ghw η i && ks.contains (hki η i)
theorem gk_if {α : Type} {η : cx_H} {i : Int32} {ks : List Nat} {B : Option α} {z : α} (h : (if gk η i ks = true then B else none) = some z) : gk η i ks = true ∧ B = some z := by
  by_cases c : gk η i ks = true
  · rw [if_pos c] at h
    exact ⟨c, h⟩
  · rw [if_neg c] at h
    cases h
theorem gk_lt {η : cx_H} {i : Int32} {ks : List Nat} (h : gk η i ks = true) : i.toNatClampNeg < η.1 := by
  simp only [gk, ghw, Bool.and_eq_true, decide_eq_true_eq] at h
  exact h.1.2
theorem gk_in {η : cx_H} {i : Int32} {ks : List Nat} (h : gk η i ks = true) : hki η i ∈ ks := by
  simp only [gk, Bool.and_eq_true, List.contains_iff_mem] at h
  exact h.2
theorem cwh_at {γ : wx_G} {o : Nat} {ad : Nat → Nat} {f : xF} {g : xG} {η : cx_H} {τ : va_W} {j : Nat} (h : j < η.1) : (cw γ o ad f g (hr γ o ad η ++ τ))[21 + j]? = some (hc o η j) := by
  have e : 21 + j = (20 + j) + 1 := by omega
  unfold cw hr
  rw [e, List.getElem?_cons_succ, List.getElem?_append_right (by rw [List.length_map]; show 19 ≤ 20 + j; omega), List.length_map, show 20 + j - cw_al.length = j + 1 by show 20 + j - 19 = j + 1; omega]
  rw [List.cons_append, List.getElem?_cons_succ, List.getElem?_append_left (by rw [List.length_map, List.length_range]; exact h), List.getElem?_map, List.getElem?_range h]
  rfl
theorem cwh_of {γ : wx_G} {o : Nat} {ad : Nat → Nat} {f : xF} {g : xG} {η : cx_H} {τ : va_W} {i : Int32} {ks : List Nat} (h : gk η i ks = true) {k : Nat} (hk : hki η i = k) : (cw γ o ad f g (hr γ o ad η ++ τ))[21 + i.toNatClampNeg]? = some (had η i, .inr (2 + k, hfs o k (hnu η i))) := by
  rw [cwh_at (gk_lt h)]
  subst hk
  rfl
theorem wx_nw {γ : wx_G} {A : Nat → Prop} {s : State} {as : Array Value} (G : cx_ok γ) (K : wx_C γ A s) {a : String} {i : Nat} {b n d h : String} (q : Cond.fieldLinkNest a i b n d h ∈ lw_tbl) : (Cond.fieldLinkNest a i b n d h).before as s = true := by
  obtain ⟨as0, h0⟩ := G.1
  exact va_Nw.use rfl (va_Nw.warmF K.1.2 (va_Nw.of rfl (h0 _ q)))
theorem wx_nm {γ : wx_G} {A : Nat → Prop} {s : State} (G : cx_ok γ) (K : wx_C γ A s) {a : String} {i : Nat} {x : MethodName} {h : String} (q : Cond.methodLinkNest a i x h ∈ lw_tbl) : va_Nw (.methodLinkNest a i x h) s := by
  obtain ⟨as0, h0⟩ := G.1
  exact va_Nw.warmM K.1.2 (va_Nw.of rfl (h0 _ q))
section HW
variable {p : Program} {l : Launch} {e : Env} {R : Room} {s : State} {m : MethodId} {as : Array Value} {below : List Frame} {meth : Method} {c : Code} {H : Heap} {locs : List Loc} {cells slots : Nat} {Q : State → Prop}
variable {cc : ByteArray} {nL pc : Nat} {ls : Array Slot} {rest : List Value} {γ : wx_G} {A : Nat → Prop} {o : Nat} {ad : Nat → Nat} {f : xF} {g : xG} {η : cx_H} {τ : va_W} {own : String} {post : Option Value → va_W → Prop} {mc ms : Nat}
/-- getfield of a how of the kind k -/
theorem hw_get {i : Int32} {ks : List Nat} {ref : String} {idx k kf N : Nat} {Cn : String} {T : u_T} {v : Value} (C : CallFix p m c cc nL s as lw_all own) (K : wx_C γ A s) (w : wx_w γ A s H locs (cw γ o ad f g (hr γ o ad η ++ τ))) (hg : gk η i ks = true) (hk : hki η i = k) (hcl : wx_cl[2 + k]? = some (Cn, T, N)) (hin : ∀ w ∈ u_ws Cn T N, w ∈ lw_all) (hkf : kf < N) (q : Cond.fieldLink own idx ref (T kf).2.1 (T kf).2.2.1 ∈ lw_all) (hsame : ∀ x, s.fieldFound? (T kf).1 (T kf).2.1 (T kf).2.2.1 = some x → s.fieldFound? ref (T kf).2.1 (T kf).2.2.1 = some x) (hv : (hfs o k (hnu η i))[kf]? = some v) (d : decode cc pc = .ok (.getfield idx, 3)) (kk : W p l e R s m as below meth c H locs cells slots Q (F0 m (pc + 3) ls (v :: rest))) : W p l e R s m as below meth c H locs cells slots Q (F0 m pc ls (.ref (had η i) :: rest)) :=
  va_get (ci := 2 + k) (C := Cn) (T := T) (N := N) C.1 C.2.1 C.2.2.2.2 hin C.2.2.2.1 K.1.1 w.1 (21 + i.toNatClampNeg) (cwh_of hg hk) hcl kf hkf (C.2.2.2.2 _ q) hsame hv d kk
theorem hw_recv {i : Int32} {ks : List Nat} {k : Nat} {q : vw_C} (K : wx_C γ A s) (w : wx_w γ A s H locs (cw γ o ad f g (hr γ o ad η ++ τ))) (hg : gk η i ks = true) (hk : hki η i = k) (hcl : wx_cl[2 + k]? = some q) : ∃ cell : Cell, H[had η i]? = some cell ∧ cell.vm.isStatics = false ∧ s.vm.findClass q.1 = some cell.cls :=
  va_recv K.1.1 w.1 hcl (cwh_of hg hk)
/-- getfield of the outer object's field, from a nest mate -/
theorem hw_out {idx k : Nat} {v : Value} {host : String} (G : cx_ok γ) (C : CallFix p m c cc nL s as lw_all own) (K : wx_C γ A s) {ρ : va_W} (w : wx_w γ A s H locs (cw γ o ad f g ρ)) (hk : k < 49) (q : Cond.fieldLinkNest own idx (TX0 k).1 (TX0 k).2.1 (TX0 k).2.2.1 host ∈ lw_tbl) (hv : cw_v ad f k = v) (d : decode cc pc = .ok (.getfield idx, 3)) (kk : W p l e R s m as below meth c H locs cells slots Q (F0 m (pc + 3) ls (v :: rest))) : W p l e R s m as below meth c H locs cells slots Q (F0 m pc ls (.ref o :: rest)) :=
  va_getN (ci := 1) (C := RX0) (T := TX0) (N := 49) C.1 C.2.1 C.2.2.2.2 in_X0 C.2.2.2.1 K.1.1 w.1 0 rfl rfl k hk (wx_nw G K q) (fun _ h => h) (by rw [List.getElem?_map, List.getElem?_range hk]; exact congrArg some hv) d kk
theorem wx_callU {ws : va_W} {x y : MethodName} {yb : ByteArray} {maxL idx n : Nat} {ret : Option FieldType} {rmc : Room} {b : Nat} {As st0 : List Value} {Cn owner : String} (C : CallFix p m c cc nL s as lw_all own) (K : wx_C γ A s) (w : wx_w γ A s H locs ws) (hM : wx_M γ l y (ws_ y yb maxL ret) rmc (.ref b :: As) ws post mc ms) (cwu : va_CU R s as own Cn owner idx x y yb maxL ret (ws_ y yb maxL ret) rmc mc ms n) (hrecv : ∃ cellB : Cell, H[b]? = some cellB ∧ cellB.vm.isStatics = false ∧ s.vm.findClass Cn = some cellB.cls) (hn : As.length = n) (hst : st0 = As.reverse ++ .ref b :: rest) (hls : ls.size = nL) (hW : (rest.map fun v => v.category).sum ≤ 8) (hf : cells + mc ≤ R.cells ∧ slots + ms ≤ R.slots) (d : decode cc pc = .ok (.invokevirtual idx, 3))
    (kk : ∀ (v : Option Value) (ws' : va_W) (H1 : Heap) (locs1 : List Loc), post v ws' → wx_w γ A s H1 locs1 ws' → W p l e R s m as below meth c H1 locs1 (cells + mc) (slots + ms) Q (F0 m (pc + 3) ls (v.toList ++ rest))) : W p l e R s m as below meth c H locs cells slots Q (F0 m pc ls st0) :=
  wx_call K w (va_runU C (hM H.size) cwu ⟨(wx_PreS (As := .ref b :: As) K w).1, hrecv, (wx_PreS (As := .ref b :: As) K w).2⟩ rfl hn hls hst (lv_room hW) d hf) kk
/-- a word list out of single words -/
theorem lw_U {idx : Nat} {Cn owner : String} {x y : MethodName} {b : ByteArray} {L : Nat} {r : Option FieldType} (h1 : Cond.methodLink own idx x ∈ lw_all) (h2 : Cond.sameMethod x.cls owner x.name x.desc ∈ lw_all) (h3 : Cond.selects Cn x y ∈ lw_all) (h4 : Cond.instanceMethod y ∈ lw_all) (h5 : Cond.initialized y.cls ∈ lw_all) (h6 : Cond.code y b L r ∈ lw_all) : GoodIn lw_all (va_wsU own idx Cn owner x y (ws_ y b L r)) := by
  refine lw_app ?_ (lw_meth h6)
  intro w hw
  simp only [List.mem_cons, List.not_mem_nil, or_false] at hw
  rcases hw with e | e | e | e | e <;> rw [e] <;> assumption
theorem lw_O {idx : Nat} {Cn owner : String} {x y : MethodName} {b : ByteArray} {L : Nat} {r : Option FieldType} (h1 : Cond.methodLink own idx x ∈ lw_all) (h2 : Cond.sameMethod x.cls owner x.name x.desc ∈ lw_all) (h7 : Cond.instanceMethod ⟨owner, x.name, x.desc⟩ ∈ lw_all) (h3 : Cond.selects Cn x y ∈ lw_all) (h4 : Cond.instanceMethod y ∈ lw_all) (h5 : Cond.initialized y.cls ∈ lw_all) (h6 : Cond.code y b L r ∈ lw_all) : GoodIn lw_all (va_wsO own idx Cn owner x y (ws_ y b L r)) := by
  refine lw_app ?_ (lw_meth h6)
  intro w hw
  simp only [List.mem_cons, List.not_mem_nil, or_false] at hw
  rcases hw with e | e | e | e | e | e <;> rw [e] <;> assumption
theorem lw_SU {idx : Nat} {y : MethodName} {b : ByteArray} {L : Nat} {r : Option FieldType} (h1 : Cond.methodLink own idx y ∈ lw_all) (h2 : Cond.sameMethod y.cls y.cls y.name y.desc ∈ lw_all) (h3 : Cond.superclass own y.cls ∈ lw_all) (h4 : Cond.instanceMethod y ∈ lw_all) (h5 : Cond.initialized y.cls ∈ lw_all) (h6 : Cond.code y b L r ∈ lw_all) : GoodIn lw_all (va_wsSU own idx y (ws_ y b L r)) := by
  refine lw_app ?_ (lw_meth h6)
  intro w hw
  simp only [List.mem_cons, List.not_mem_nil, or_false] at hw
  rcases hw with e | e | e | e | e <;> rw [e] <;> assumption
/-- super.m(..), the superclass's own method -/
theorem wx_callSU {ws : va_W} {y : MethodName} {yb : ByteArray} {maxL idx n : Nat} {ret : Option FieldType} {rmc : Room} {b : Nat} {As st0 : List Value} {Cn : String} {cC : ClassId} (hat : ClassAt s Cn cC) (C : CallFix p m c cc nL s as lw_all own) (K : wx_C γ A s) (w : wx_w γ A s H locs ws) (hM : wx_M γ l y (ws_ y yb maxL ret) rmc (.ref b :: As) ws post mc ms) (hG : GoodIn lw_all (va_wsSU own idx y (ws_ y yb maxL ret))) (hrc : rmc.cells = mc) (hrs : rmc.slots = ms) (hd : y.name ≠ "<init>" ∧ (parseMethodDescriptor y.desc).map (fun d => d.parameters.length) = some n) (hR : rmc.frames + 1 ≤ R.frames ∧ 8 + (maxL + 11) + rmc.locals ≤ R.locals) (hrecv : ∃ cellB : Cell, H[b]? = some cellB ∧ cellB.vm.isStatics = false ∧ s.vm.findClass Cn = some cellB.cls) (hn : As.length = n) (hst : st0 = As.reverse ++ .ref b :: rest) (hls : ls.size = nL) (hW : (rest.map fun v => v.category).sum ≤ 8) (hf : cells + mc ≤ R.cells ∧ slots + ms ≤ R.slots) (d : decode cc pc = .ok (.invokespecial idx, 3))
    (kk : ∀ (v : Option Value) (ws' : va_W) (H1 : Heap) (locs1 : List Loc), post v ws' → wx_w γ A s H1 locs1 ws' → W p l e R s m as below meth c H1 locs1 (cells + mc) (slots + ms) Q (F0 m (pc + 3) ls (v.toList ++ rest))) : W p l e R s m as below meth c H locs cells slots Q (F0 m pc ls st0) :=
  wx_call K w (va_runSU hat C (hM H.size) (va_cwSU n C.2.2.2.2 hG rfl hrc hrs hd hR) ⟨(wx_PreS (As := .ref b :: As) K w).1, hrecv, (wx_PreS (As := .ref b :: As) K w).2⟩ rfl hn hls hst (lv_room hW) d hf) kk
theorem hw_at {i : Int32} {ks : List Nat} {k : Nat} {q : vw_C} (K : wx_C γ A s) (hk : hki η i = k) (hcl : wx_cl[2 + k]? = some q) : ClassAt s q.1 (γ.1.1 (2 + k)) := (K.1.1.1 (2 + k) q hcl).2
/-- static method of the outer class, from a nest mate -/
theorem wx_callSN {ws : va_W} {y : MethodName} {host : String} {yb : ByteArray} {maxL idx n : Nat} {ret : Option FieldType} {rmc : Room} {As st0 : List Value} (G : cx_ok γ) (C : CallFix p m c cc nL s as lw_all own) (K : wx_C γ A s) (w : wx_w γ A s H locs ws) (hM : wx_M γ l y (ws_ y yb maxL ret) rmc As ws post mc ms) (q1 : Cond.methodLinkNest own idx y host ∈ lw_tbl) (q2 : Cond.static y ∈ lw_all) (q3 : Cond.initialized y.cls ∈ lw_all) (q4 : Cond.code y yb maxL ret ∈ lw_all) (hrc : rmc.cells = mc) (hrs : rmc.slots = ms)
    (hd : y.cls ≠ "java/lang/invoke/MethodHandle" ∧ y.cls ≠ "java/lang/invoke/VarHandle" ∧ (parseMethodDescriptor y.desc).map (fun d => d.parameters.length) = some n) (hR : rmc.frames + 1 ≤ R.frames ∧ 8 + (maxL + 11) + rmc.locals ≤ R.locals) (hn : As.length = n) (hst : st0 = As.reverse ++ rest) (hls : ls.size = nL) (hW : (rest.map fun v => v.category).sum ≤ 8) (hf : cells + mc ≤ R.cells ∧ slots + ms ≤ R.slots) (d : decode cc pc = .ok (.invokestatic idx, 3))
    (kk : ∀ (v : Option Value) (ws' : va_W) (H1 : Heap) (locs1 : List Loc), post v ws' → wx_w γ A s H1 locs1 ws' → W p l e R s m as below meth c H1 locs1 (cells + mc) (slots + ms) Q (F0 m (pc + 3) ls (v.toList ++ rest))) : W p l e R s m as below meth c H locs cells slots Q (F0 m pc ls st0) :=
  wx_call K w (va_runSN C (hM H.size) ⟨va_cnB n C.2.2.2.2 (lw_meth q4) rfl hrc hrs (wx_nm G K q1) (C.2.2.2.2 _ q3) hd hR, C.2.2.2.2 _ q2, trivial⟩ (wx_PreS K w) rfl hn hls hst (lv_room hW) d hf) kk
/-- private method of the outer object, from a nest mate -/
theorem wx_callVN {ws : va_W} {y : MethodName} {host Cn : String} {yb : ByteArray} {maxL idx n : Nat} {ret : Option FieldType} {rmc : Room} {b : Nat} {As st0 : List Value} (G : cx_ok γ) (C : CallFix p m c cc nL s as lw_all own) (K : wx_C γ A s) (w : wx_w γ A s H locs ws) (hM : wx_M γ l y (ws_ y yb maxL ret) rmc (.ref b :: As) ws post mc ms) (q1 : Cond.methodLinkNest own idx y host ∈ lw_tbl) (q2 : Cond.instanceMethod y ∈ lw_all) (q5 : Cond.selects Cn y y ∈ lw_all) (q3 : Cond.initialized y.cls ∈ lw_all) (q4 : Cond.code y yb maxL ret ∈ lw_all) (hrc : rmc.cells = mc) (hrs : rmc.slots = ms)
    (hd : y.cls ≠ "java/lang/invoke/MethodHandle" ∧ y.cls ≠ "java/lang/invoke/VarHandle" ∧ (parseMethodDescriptor y.desc).map (fun d => d.parameters.length) = some n) (hR : rmc.frames + 1 ≤ R.frames ∧ 8 + (maxL + 11) + rmc.locals ≤ R.locals) (hrecv : ∃ cellB : Cell, H[b]? = some cellB ∧ cellB.vm.isStatics = false ∧ s.vm.findClass Cn = some cellB.cls) (hn : As.length = n) (hst : st0 = As.reverse ++ .ref b :: rest) (hls : ls.size = nL) (hW : (rest.map fun v => v.category).sum ≤ 8) (hf : cells + mc ≤ R.cells ∧ slots + ms ≤ R.slots) (d : decode cc pc = .ok (.invokevirtual idx, 3))
    (kk : ∀ (v : Option Value) (ws' : va_W) (H1 : Heap) (locs1 : List Loc), post v ws' → wx_w γ A s H1 locs1 ws' → W p l e R s m as below meth c H1 locs1 (cells + mc) (slots + ms) Q (F0 m (pc + 3) ls (v.toList ++ rest))) : W p l e R s m as below meth c H locs cells slots Q (F0 m pc ls st0) :=
  wx_call K w (va_runVN C (hM H.size) ⟨va_cnB n C.2.2.2.2 (lw_meth q4) rfl hrc hrs (wx_nm G K q1) (C.2.2.2.2 _ q3) hd hR, C.2.2.2.2 _ q2, C.2.2.2.2 _ q5⟩ ⟨(wx_PreS (As := .ref b :: As) K w).1, hrecv, (wx_PreS (As := .ref b :: As) K w).2⟩ rfl hn hls hst (lv_room hW) d hf) kk
/-- super.m(..) where the superclass has m from above (owner) -/
theorem wx_callSX {ws : va_W} {x : MethodName} {owner top : String} {yb : ByteArray} {maxL idx n : Nat} {ret : Option FieldType} {rmc : Room} {b : Nat} {As st0 : List Value} {Cn : String} {cC : ClassId} (G : cx_ok γ) (hat : ClassAt s Cn cC) (C : CallFix p m c cc nL s as lw_all own) (K : wx_C γ A s) (w : wx_w γ A s H locs ws) (hM : wx_M γ l ⟨owner, x.name, x.desc⟩ (ws_ ⟨owner, x.name, x.desc⟩ yb maxL ret) rmc (.ref b :: As) ws post mc ms) (q1 : Cond.methodLink own idx x ∈ lw_all) (q2 : Cond.sameMethod x.cls owner x.name x.desc ∈ lw_all) (q3 : Cond.superclass own x.cls ∈ lw_all) (q4 : Cond.instanceMethod ⟨owner, x.name, x.desc⟩ ∈ lw_all) (q5 : Cond.initialized owner ∈ lw_all) (q6 : Cond.code ⟨owner, x.name, x.desc⟩ yb maxL ret ∈ lw_all) (q7 : Cond.castable x.cls owner ∈ lw_tbl) (q8 : Cond.superclass owner top ∈ lw_all) (hrc : rmc.cells = mc) (hrs : rmc.slots = ms) (hno : x.name ≠ "<init>") (hlen : (parseMethodDescriptor x.desc).map (fun d => d.parameters.length) = some n) (hR : rmc.frames + 1 ≤ R.frames ∧ 8 + (maxL + 11) + rmc.locals ≤ R.locals) (hrecv : ∃ cellB : Cell, H[b]? = some cellB ∧ cellB.vm.isStatics = false ∧ s.vm.findClass Cn = some cellB.cls) (hn : As.length = n) (hst : st0 = As.reverse ++ .ref b :: rest) (hls : ls.size = nL) (hW : (rest.map fun v => v.category).sum ≤ 8) (hf : cells + mc ≤ R.cells ∧ slots + ms ≤ R.slots) (d : decode cc pc = .ok (.invokespecial idx, 3))
    (kk : ∀ (v : Option Value) (ws' : va_W) (H1 : Heap) (locs1 : List Loc), post v ws' → wx_w γ A s H1 locs1 ws' → W p l e R s m as below meth c H1 locs1 (cells + mc) (slots + ms) Q (F0 m (pc + 3) ls (v.toList ++ rest))) : W p l e R s m as below meth c H locs cells slots Q (F0 m pc ls st0) := by
  refine wx_call (a := (Value.ref b :: As).toArray) K w ?_ kk
  have hts := C.2.2.2.2
  have hG : GoodIn lw_all (ws_ ⟨owner, x.name, x.desc⟩ yb maxL ret) := lw_meth q6
  have hPr := wx_PreS (As := .ref b :: As) K w
  have hK : Back l R p e below s as ⟨owner, x.name, x.desc⟩ 3 8 (PreOf R mc ms (va_Pc (.ref b :: As) (wx_Pre γ ws H.size))) (PostOf (wx_PostA γ (va_A ws H.size) post) mc ms (va_A ws H.size)) := back_of (bytes := yb) (maxL := maxL) (ret := ret) (hM H.size) hPr.1 hrc hrs hR.1 hR.2 (pay_in hts hG) List.mem_cons_self (fun a' U hW => word_at hW (Or.inl (by first | rfl | simp [Cond.onTables, Cond.keeps, Cond.steady])) (hts _ q5))
  obtain ⟨hx, hb, hml, ho, -⟩ := C
  obtain ⟨cellB, hcB, hoB, hclB⟩ := hrecv
  obtain ⟨hfc, kB, hkB, -⟩ := hat
  cases hfc.symm.trans hclB
  intro T hT X
  obtain ⟨mk, methM, hnamed, hmethM, hstM, habM⟩ := Cond.instanceMethod_spec (hts _ q4)
  obtain ⟨methM2, cM, hmethM2, -, -, -, -, -, -, hsigM⟩ := Cond.code_spec hnamed (hts _ q6)
  cases hmethM.symm.trans hmethM2
  obtain ⟨ps, dk, kp, hps, hdk, hkp, hsuper, -, hkpo, hnid⟩ := Cond.superclass_spec ho (hts _ q3)
  obtain ⟨as0, h0⟩ := G.1
  have hcast : (Cond.castable x.cls owner).before as s = true := va_Nw.use rfl (va_Nw.warmC K.1.2 (va_Nw.of rfl (h0 _ q7)))
  obtain ⟨c3, t3, w1, w2, w3⟩ := Cond.castable_spec hcast
  cases hps.symm.trans w1
  have ht3 : t3 = mk.cls := Option.some.inj (w2.symm.trans (findClass_of_methodNamed hnamed))
  obtain ⟨-, kt, -, -, hkt, -, -, hkto, -, hkti⟩ := Cond.superclass_spec w2 (hts _ q8)
  have hsub : s.vm.isSubclass ps mk.cls = true := by
    rw [← ht3]
    exact isSubclass_of_assignable hkp hkt hkpo hkto hkti w3
  have hlen2 : As.length = methM.sig.parameters.length := by
    have h2 := hlen
    rw [show parseMethodDescriptor x.desc = some methM.sig from hsigM] at h2
    exact hn.trans (Option.some.inj h2).symm
  obtain ⟨vm₁, X₁, hstep₁⟩ := X.invokespecialUp hx ho (hts _ q1) (hts _ q2) hnamed hmethM hstM habM hno hdk hnid hps hsuper hsub (a := b) (cell := cellB) (by rw [hT]; exact hcB)
    (fun z h => by rw [h] at hoB; cases hoB) hkB (g := F0 m pc ls st0) rfl (argsL := As) (rest := rest) hlen2 hst (by rw [hb]; exact d)
  obtain ⟨v, B, X2, hpost, hsteps⟩ := hK m meth c ⟨T.setVm vm₁, locs, cells, slots⟩ { F0 m pc ls st0 with stack := rest } (.invokespecial idx) mk (Value.ref b :: As).toArray X₁ rfl (by show ls.size = _; rw [hls, hml]) (by rw [hb]; exact d) (lv_room hW) (X₁.named hnamed) ⟨hf.1, hf.2, hPr.2 (T.setVm vm₁) hT X₁.warmed⟩
  obtain ⟨U2, l2, c2, s2⟩ := B
  obtain ⟨g2, mk2, t, L, e1, e2, hq, h1, hL, h2, h3⟩ := hpost
  dsimp only [Pt.U, Pt.locs, Pt.cells, Pt.slots] at X2 e1 e2 h1 h2 h3 hsteps
  subst h1; subst h2; subst h3
  exact ⟨v, (T.setVm vm₁).calling g2 mk2 (Value.ref b :: As).toArray, t, U2, L, hT, X2, hL, e1, e2, hq, fun target h => hstep₁ _ (by rw [doInvoke_state]; exact hsteps.trans h)⟩
end HW

/-! CORE (mine): a class's whole world is one list of cells; contracts over it; the cells that are older than the law's start never change -/
abbrev wx_cl : List vw_C := [(RX8, TX8, 54), (RX0, TX0, 49), (RX9, TX9, 2), (RX10, TX10, 3), (RX11, TX11, 4), (RX12, TX12, 5), (RX13, TX13, 5), (RX14, TX14, 3), (RX5, TX5, 1), (RX6, TX6, 2), (RX4, TX4, 2), (RX7, TX7, 3), (RX2, TX2, 1), (RX1, TX1, 6), ("java/lang/NullPointerException", TX1, 0), ("java/lang/IndexOutOfBoundsException", TX1, 0), ("java/lang/NegativeArraySizeException", TX1, 0), ("java/lang/ClassCastException", TX1, 0)]
/-- classes and slots; array classes (and, from 100 on, addresses of constants); the state at the law's start -/
abbrev wx_G : Type := va_G × (Nat → ClassId) × State
def wx_tys (γ : wx_G) : List (ClassId × FieldType) := [(γ.2.1 0, .int), (γ.2.1 1, .byte), (γ.2.1 2, .short), (γ.2.1 3, .object "WalkingStones$How"), (γ.2.1 4, .object "WalkingStones$Node"), (γ.2.1 5, .array (.object "WalkingStones$Node")), (γ.2.1 6, .object "java/lang/String"), (γ.2.1 7, .object "WalkingStones$Sheet")]
def wx_K (γ : wx_G) (U : State) : Prop := va_K γ.1 wx_cl (wx_tys γ) U ∧ γ.2.2.WarmedH U.vm
theorem wx_K.moved {γ : wx_G} {u U : State} (hvm : u.WarmedH U.vm) (h : wx_K γ u) : wx_K γ U := ⟨va_K.moved hvm.alike h.1, State.WarmedH.trans h.2 hvm⟩
def wx_old (γ : wx_G) (H : Heap) : Prop := γ.2.2.heap.size ≤ H.size ∧ ∀ q : Nat, q < γ.2.2.heap.size → H[q]? = γ.2.2.heap[q]?
def wx_A0 (γ : wx_G) : Nat → Prop := fun q => γ.2.2.heap.size ≤ q
def wx_Pre (γ : wx_G) (ws : va_W) (sz : Nat) (U : State) : Prop := U.heap.size = sz ∧ va_P γ.1 wx_cl ws U.heap ∧ wx_K γ U ∧ va_D (wx_A0 γ) ws ∧ wx_old γ U.heap
def wx_PostA (γ : wx_G) (A : Nat → Prop) (post : Option Value → va_W → Prop) : Array Value → State → Outcome → State → Prop := fun _ st oc t => (∃ (v : Option Value) (ws' : va_W), oc = .returned v ∧ post v ws' ∧ va_P γ.1 wx_cl ws' t.heap ∧ va_D A ws') ∧ va_F A st t
/-- the contract: from the world ws, y answers v and leaves the world ws' with 'post v ws'' -/
def wx_M (γ : wx_G) (l : Launch) (y : MethodName) (wl : List Cond) (rm : Room) (args : List Value) (ws : va_W) (post : Option Value → va_W → Prop) (mc ms : Nat) : Prop := ∀ sz : Nat, Met l y wl rm (va_Pc args (wx_Pre γ ws sz)) (wx_PostA γ (va_A ws sz) post) mc ms (va_A ws sz)
/-- what holds all through a body -/
def wx_C (γ : wx_G) (A : Nat → Prop) (s : State) : Prop := wx_K γ s ∧ (∀ q : Nat, s.heap.size ≤ q → A q) ∧ (∀ q : Nat, A q → γ.2.2.heap.size ≤ q) ∧ wx_old γ s.heap
/-- the world now -/
def wx_w (γ : wx_G) (A : Nat → Prop) (s : State) (H : Heap) (locs : List Loc) (ws : va_W) : Prop := va_P γ.1 wx_cl ws H ∧ va_D A ws ∧ va_S A s.heap H locs
theorem wx_w.old {γ : wx_G} {A : Nat → Prop} {s : State} {H : Heap} {locs : List Loc} {ws : va_W} (w : wx_w γ A s H locs ws) (K : wx_C γ A s) : wx_old γ H :=
  ⟨Nat.le_trans K.2.2.2.1 w.2.2.1, fun q hq => (w.2.2.2.1 q (Nat.lt_of_lt_of_le hq K.2.2.2.1) (fun h => absurd (K.2.2.1 q h) (Nat.not_le.mpr hq))).trans (K.2.2.2.2 q hq)⟩
def wx_Q (γ : wx_G) (post : Option Value → va_W → Prop) (A : Nat → Prop) (as : Array Value) (s : State) (below : List Frame) (mc ms : Nat) : State → Prop := MQ below (wx_PostA γ A post) as s mc ms A
/-- a contract by its body -/
theorem wx_M.of {γ : wx_G} {l : Launch} {y : MethodName} {rm : Room} {args : List Value} {ws : va_W} {post : Option Value → va_W → Prop} {mc ms maxL : Nat} {cc : ByteArray} {ret : Option FieldType} (hy : plainName y.cls = true) (hz : (lg_sl args).length ≤ maxL)
    (body : ∀ (p : Program) (e : Env) (s : State) (m : MethodId) (as : Array Value) (below : List Frame) (meth : Method) (c : Code) (A : Nat → Prop) (ls : Array Slot), CallFix p m c cc maxL s as lw_all y.cls → wx_C γ A s → wx_w γ A s s.heap [] ws → meth.sig.returnType = ret → meth.locks = false → meth.name = y.name → lv_has ls maxL (lv_args 0 args) → W p l e rm s m as below meth c s.heap [] 0 0 (wx_Q γ post A as s below mc ms) (F0 m 0 ls [])) : wx_M γ l y (ws_ y cc maxL ret) rm args ws post mc ms := by
  intro sz
  refine Met.ofW (cc := cc) (maxL := maxL) (ret := ret) hy rfl ?_
  intro p e s m as below meth c s₁ B hml hv
  obtain ⟨has, hsz, hP, hK, hD, hO⟩ := hv
  subst has
  subst hsz
  have hts := atoms_spec (ws := ws_ y cc maxL ret) B.pre
  have hts : ∀ w ∈ lw_all, w.before _ s = true := fun w h => hts w (List.mem_cons_of_mem _ h)
  have hl := lv_entry args (n := maxL) hz
  rw [lg_entry_eq]
  have hA : ∀ q : Nat, va_A ws s.heap.size q → γ.2.2.heap.size ≤ q := by
    intro q h
    rcases h with ⟨k, e, h⟩ | h
    · exact hD.2 k (q, e) h
    · exact Nat.le_trans hO.1 h
  exact body p e s m _ below meth c (va_A ws s.heap.size) _ ⟨B.exec, B.bytes, hml, findClass_of_methodNamed B.named, hts⟩ ⟨hK, fun q h => Or.inr h, hA, hO⟩ ⟨hP, hD.self, va_S.rf⟩ B.returns B.notSynchronized (name_of_methodNamed B.named B.method).1 hl
section WX
variable {p : Program} {l : Launch} {e : Env} {R : Room} {s : State} {m : MethodId} {as : Array Value} {below : List Frame} {meth : Method} {c : Code} {H : Heap} {locs : List Loc} {cells slots : Nat} {Q : State → Prop}
variable {cc : ByteArray} {nL pc : Nat} {ls : Array Slot} {rest : List Value} {γ : wx_G} {A : Nat → Prop} {ws : va_W} {own : String} {post : Option Value → va_W → Prop} {mc ms : Nat}
theorem wx_iret {v : Int32} (C : CallFix p m c cc nL s as lw_all own) (hr : meth.sig.returnType = some .int) (hlocks : meth.locks = false) (w : wx_w γ A s H locs ws) (hp : post (some (.int v)) ws) (d : decode cc pc = .ok (.ireturn, 1)) : W p l e R s m as below meth c H locs mc ms (wx_Q γ post A as s below mc ms) (F0 m pc ls [.int v]) :=
  W.iret C.1 C.2.1 hr (fun t ht hW => ⟨⟨_, ws, rfl, hp, by rw [ht]; exact w.1, w.2.1⟩, w.2.2.F ht⟩) w.2.2.2.2 d hlocks
theorem wx_zret {v : Int32} {ty : FieldType} (C : CallFix p m c cc nL s as lw_all own) (hr : meth.sig.returnType = some ty) (hlocks : meth.locks = false) (hn : narrow ty (.int v) = .int v) (w : wx_w γ A s H locs ws) (hp : post (some (.int v)) ws) (d : decode cc pc = .ok (.ireturn, 1)) : W p l e R s m as below meth c H locs mc ms (wx_Q γ post A as s below mc ms) (F0 m pc ls [.int v]) :=
  W.zret C.1 C.2.1 hr hn (fun t ht hW => ⟨⟨_, ws, rfl, hp, by rw [ht]; exact w.1, w.2.1⟩, w.2.2.F ht⟩) w.2.2.2.2 d hlocks
theorem wx_lret {v : Int64} (C : CallFix p m c cc nL s as lw_all own) (hr : meth.sig.returnType = some .long) (hlocks : meth.locks = false) (w : wx_w γ A s H locs ws) (hp : post (some (.long v)) ws) (d : decode cc pc = .ok (.lreturn, 1)) : W p l e R s m as below meth c H locs mc ms (wx_Q γ post A as s below mc ms) (F0 m pc ls [.long v]) :=
  W.lret C.1 C.2.1 hr (fun t ht hW => ⟨⟨_, ws, rfl, hp, by rw [ht]; exact w.1, w.2.1⟩, w.2.2.F ht⟩) w.2.2.2.2 d hlocks
theorem wx_vret (C : CallFix p m c cc nL s as lw_all own) (hr : meth.sig.returnType = none) (hlocks : meth.locks = false) (w : wx_w γ A s H locs ws) (hp : post none ws) (d : decode cc pc = .ok (.return_, 1)) : W p l e R s m as below meth c H locs mc ms (wx_Q γ post A as s below mc ms) (F0 m pc ls []) :=
  W.vret C.1 C.2.1 hr (fun t ht hW => ⟨⟨_, ws, rfl, hp, by rw [ht]; exact w.1, w.2.1⟩, w.2.2.F ht⟩) w.2.2.2.2 d hlocks
theorem wx_fr (K : wx_C γ A s) (w : wx_w γ A s H locs ws) : ∀ q, va_A ws H.size q → A q := by
  intro q h
  rcases h with ⟨k, e, h⟩ | h
  · exact w.2.1.2 k (q, e) h
  · exact K.2.1 q (Nat.le_trans w.2.2.1 h)
theorem wx_call {st0 : List Value} {a : Array Value} (K : wx_C γ A s) (w : wx_w γ A s H locs ws) (hr : va_Run p l e R s m as below meth c H locs cells slots mc ms (F0 m pc ls st0) rest (wx_PostA γ (va_A ws H.size) post a) (va_A ws H.size))
    (kk : ∀ (v : Option Value) (ws' : va_W) (H1 : Heap) (locs1 : List Loc), post v ws' → wx_w γ A s H1 locs1 ws' → W p l e R s m as below meth c H1 locs1 (cells + mc) (slots + ms) Q (F0 m (pc + 3) ls (v.toList ++ rest))) : W p l e R s m as below meth c H locs cells slots Q (F0 m pc ls st0) := by
  intro T hT X
  obtain ⟨v, st₀, t, T', L, h0, X', hL, e1, e2, ⟨⟨v', ws', hv, hp, hPb, hDb⟩, hz, hk⟩, st⟩ := hr T hT X
  cases hv
  rw [h0] at hz hk
  have hF := wx_fr K w
  obtain ⟨t2, a1, b1⟩ := kk v ws' T'.heap (locs ++ L) hp ⟨by rw [e1]; exact hPb, hDb.weaken (fun k q _ h => hF q.1 h), Nat.le_trans w.2.2.1 (by rw [e1]; exact hz), fun q h1 h2 => by rw [e1, hk q (Nat.lt_of_lt_of_le h1 w.2.2.1) (fun z => h2 (hF q z))]; exact w.2.2.2.1 q h1 h2, fun q hq => by
    rcases List.mem_append.mp hq with h | h
    · exact w.2.2.2.2 q h
    · exact hF _ (hL q h)⟩ T' rfl X'
  exact ⟨t2, st t2 a1, b1⟩
theorem wx_PreS {As : List Value} (K : wx_C γ A s) (w : wx_w γ A s H locs ws) : PreS s H (va_Pc As (wx_Pre γ ws H.size)) As := by
  refine ⟨fun a U g mk q => ?_, fun U hU hW => ?_⟩
  · obtain ⟨q0, q1, qP, qK, qD, qO⟩ := q
    exact ⟨q0, q1, qP, ⟨va_K.moved (u := U) (U := U.calling g mk a) (Vm.Alike.refl U.vm) qK.1, qK.2⟩, qD, qO⟩
  · refine ⟨rfl, by rw [hU], by rw [hU]; exact w.1, wx_K.moved hW K.1, w.2.1.weaken (fun k q _ h => K.2.2.1 q.1 h), ?_⟩
    rw [hU]
    exact w.old K
/-- a call of an own method through 'this' (or another receiver of the class Cn) -/
theorem wx_callV {y : MethodName} {yb : ByteArray} {maxL idx n : Nat} {ret : Option FieldType} {rmc : Room} {b : Nat} {As st0 : List Value} {Cn : String} (C : CallFix p m c cc nL s as lw_all own) (K : wx_C γ A s) (w : wx_w γ A s H locs ws) (hM : wx_M γ l y (ws_ y yb maxL ret) rmc (.ref b :: As) ws post mc ms) (q1 : Cond.methodLink own idx y ∈ lw_all) (q2 : Cond.instanceMethod y ∈ lw_all) (q3 : Cond.selects Cn y y ∈ lw_all) (q4 : Cond.initialized Cn ∈ lw_all) (q5 : Cond.code y yb maxL ret ∈ lw_all) (hrc : rmc.cells = mc) (hrs : rmc.slots = ms)
    (hd : y.cls = Cn ∧ y.cls ≠ "java/lang/invoke/MethodHandle" ∧ y.cls ≠ "java/lang/invoke/VarHandle" ∧ (parseMethodDescriptor y.desc).map (fun d => d.parameters.length) = some n) (hrecv : ∃ cellB : Cell, H[b]? = some cellB ∧ cellB.vm.isStatics = false ∧ s.vm.findClass Cn = some cellB.cls) (hn : As.length = n) (hst : st0 = As.reverse ++ .ref b :: rest) (hR : rmc.frames + 1 ≤ R.frames ∧ 8 + (maxL + 11) + rmc.locals ≤ R.locals) (hls : ls.size = nL) (hW : (rest.map fun v => v.category).sum ≤ 8) (hf : cells + mc ≤ R.cells ∧ slots + ms ≤ R.slots) (d : decode cc pc = .ok (.invokevirtual idx, 3))
    (kk : ∀ (v : Option Value) (ws' : va_W) (H1 : Heap) (locs1 : List Loc), post v ws' → wx_w γ A s H1 locs1 ws' → W p l e R s m as below meth c H1 locs1 (cells + mc) (slots + ms) Q (F0 m (pc + 3) ls (v.toList ++ rest))) : W p l e R s m as below meth c H locs cells slots Q (F0 m pc ls st0) :=
  wx_call K w (va_runV C (hM H.size) (cwV n C.2.2.2.2 (lw_V q1 q2 q3 q4 q5) rfl hrc hrs hd hR) ⟨(wx_PreS (As := .ref b :: As) K w).1, hrecv, (wx_PreS (As := .ref b :: As) K w).2⟩ rfl hn hls hst (lv_room hW) d hf) kk
theorem wx_callS {y : MethodName} {yb : ByteArray} {maxL idx n : Nat} {ret : Option FieldType} {rmc : Room} {As st0 : List Value} (C : CallFix p m c cc nL s as lw_all own) (K : wx_C γ A s) (w : wx_w γ A s H locs ws) (hM : wx_M γ l y (ws_ y yb maxL ret) rmc As ws post mc ms) (q1 : Cond.methodLink own idx y ∈ lw_all) (q2 : Cond.static y ∈ lw_all) (q3 : Cond.initialized y.cls ∈ lw_all) (q4 : Cond.code y yb maxL ret ∈ lw_all) (hrc : rmc.cells = mc) (hrs : rmc.slots = ms)
    (hd : y.cls ≠ "java/lang/invoke/MethodHandle" ∧ y.cls ≠ "java/lang/invoke/VarHandle" ∧ (parseMethodDescriptor y.desc).map (fun d => d.parameters.length) = some n) (hn : As.length = n) (hst : st0 = As.reverse ++ rest) (hR : rmc.frames + 1 ≤ R.frames ∧ 8 + (maxL + 11) + rmc.locals ≤ R.locals) (hls : ls.size = nL) (hW : (rest.map fun v => v.category).sum ≤ 8) (hf : cells + mc ≤ R.cells ∧ slots + ms ≤ R.slots) (d : decode cc pc = .ok (.invokestatic idx, 3))
    (kk : ∀ (v : Option Value) (ws' : va_W) (H1 : Heap) (locs1 : List Loc), post v ws' → wx_w γ A s H1 locs1 ws' → W p l e R s m as below meth c H1 locs1 (cells + mc) (slots + ms) Q (F0 m (pc + 3) ls (v.toList ++ rest))) : W p l e R s m as below meth c H locs cells slots Q (F0 m pc ls st0) :=
  wx_call K w (va_runS C (hM H.size) (va_cwS n C.2.2.2.2 (lw_S q1 q2 q3 q4) rfl hrc hrs hd hR) (wx_PreS K w) rfl hn hls hst (lv_room hW) d hf) kk
end WX
/-- guards of the pure programs -/
def gin (i : Int32) (n : Nat) : Bool := decide (0 ≤ i) && decide (i.toNatClampNeg < n)
theorem gin_in {i : Int32} {n : Nat} (h : gin i n = true) : vp_in i n := by
  simp only [gin, Bool.and_eq_true, decide_eq_true_eq] at h
  intro q
  rcases q with q | q
  · rw [Int32.lt_iff_toInt_lt] at q
    have h1 := h.1
    rw [Int32.le_iff_toInt_le] at h1
    rw [Int32.toInt_zero] at q h1
    omega
  · omega
theorem gin_if {α : Type} {i : Int32} {n : Nat} {B : Option α} {z : α} (h : (if gin i n = true then B else none) = some z) : vp_in i n ∧ B = some z := by
  by_cases c : gin i n = true
  · rw [if_pos c] at h
    exact ⟨gin_in c, h⟩
  · rw [if_neg c] at h
    cases h
def gbz (v : Int32) : Bool := decide (v = 0) || decide (v = 1)
theorem gbz_if {α : Type} {v : Int32} {B : Option α} {z : α} (h : (if gbz v = true then B else none) = some z) : narrow .boolean (.int v) = .int v ∧ B = some z := by
  by_cases c : gbz v = true
  · rw [if_pos c] at h
    refine ⟨?_, h⟩
    simp only [gbz, Bool.or_eq_true, decide_eq_true_eq] at c
    rcases c with rfl | rfl
    · rfl
    · rfl
  · rw [if_neg c] at h
    cases h
theorem gnz_if {α : Type} {c : Prop} [Decidable c] {B : Option α} {z : α} (h : (if c then none else B) = some z) : ¬ c ∧ B = some z := by
  by_cases h1 : c
  · rw [if_pos h1] at h
    cases h
  · rw [if_neg h1] at h
    exact ⟨h1, h⟩
theorem obd {α β : Type} {x : Option α} {k : α → Option β} {z : β} (h : x.bind k = some z) : ∃ v, x = some v ∧ k v = some z := by
  cases x with
  | none => cases h
  | some v => exact ⟨v, rfl, h⟩

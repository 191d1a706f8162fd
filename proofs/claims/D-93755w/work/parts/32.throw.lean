/-! EXCEPTIONS (mine): a method returns or throws; the machine with a thrown object over the frame g -/
def wx_FX (s t : State) (L : List Loc) (k n : Nat) : Prop := s.WarmedH t.vm ∧ s.sameButNew ({ t with vm := s.vm } : State) L k n
def wx_PostX (γ : wx_G) (A : Nat → Prop) (post : Option Value → va_W → Prop) (postT : Nat → va_W → Prop) : Array Value → State → Outcome → State → Prop := fun _ st oc t => ((∃ (v : Option Value) (ws' : va_W), oc = .returned v ∧ post v ws' ∧ va_P γ.1 wx_cl ws' t.heap ∧ va_D A ws') ∨ (∃ (x : Nat) (ws' : va_W), oc = .threw x ∧ postT x ws' ∧ va_P γ.1 wx_cl ws' t.heap ∧ va_D A ws')) ∧ va_F A st t
/-- the contract of a method that may throw -/
def wx_MX (γ : wx_G) (l : Launch) (y : MethodName) (wl : List Cond) (rm : Room) (args : List Value) (ws : va_W) (post : Option Value → va_W → Prop) (postT : Nat → va_W → Prop) (mc ms : Nat) : Prop := ∀ sz : Nat, MetFree l y (headSpec wl rm) (va_Pc args (wx_Pre γ ws sz)) (fun _ _ _ _ _ => True) (fun a st o t => wx_PostX γ (va_A ws sz) post postT a st o t ∧ ∃ L, wx_FX st t L mc ms ∧ ∀ q ∈ L, va_A ws sz q.base)
def wx_QX (γ : wx_G) (post : Option Value → va_W → Prop) (postT : Nat → va_W → Prop) (A : Nat → Prop) (as : Array Value) (s : State) (below : List Frame) (mc ms : Nat) : State → Prop := fun t => ∃ o, t.status = .running ∧ Ended t below o ∧ wx_PostX γ A post postT as s o t ∧ ∃ L, wx_FX s t L mc ms ∧ ∀ q ∈ L, A q.base
theorem wx_MX.of {γ : wx_G} {l : Launch} {y : MethodName} {rm : Room} {args : List Value} {ws : va_W} {post : Option Value → va_W → Prop} {postT : Nat → va_W → Prop} {mc ms maxL : Nat} {cc : ByteArray} {ret : Option FieldType} (hy : plainName y.cls = true) (hz : (lg_sl args).length ≤ maxL)
    (body : ∀ (p : Program) (e : Env) (s : State) (m : MethodId) (as : Array Value) (below : List Frame) (meth : Method) (c : Code) (A : Nat → Prop) (ls : Array Slot), CallFix p m c cc maxL s as lw_all y.cls → wx_C γ A s → wx_w γ A s s.heap [] ws → meth.sig.returnType = ret → meth.locks = false → c.exceptionTable.isEmpty = true → lv_has ls maxL (lv_args 0 args) → W p l e rm s m as below meth c s.heap [] 0 0 (wx_QX γ post postT A as s below mc ms) (F0 m 0 ls [])) : wx_MX γ l y (ws_ y cc maxL ret) rm args ws post postT mc ms := by
  intro sz
  refine MetFree.of_bodyS (code := cc) (maxLocals := maxL) (ret := ret) hy ?_ ?_
  · intro args s m h hn
    obtain ⟨meth, c, h1, h2, h3, h4, h5, h6, -, -⟩ := Cond.code_spec hn (atoms_spec (ws := ws_ y cc maxL ret) h _ List.mem_cons_self)
    exact ⟨meth, c, h1, h2, h3, h4, h5, h6⟩
  · intro p e s m as below meth c s₁ B hml hv _
    obtain ⟨has, hsz, hP, hK, hD, hO⟩ := hv
    subst has
    subst hsz
    have hts0 := atoms_spec (ws := ws_ y cc maxL ret) B.pre
    have hts : ∀ w ∈ lw_all, w.before _ s = true := fun w h => hts0 w (List.mem_cons_of_mem _ h)
    have hl := lv_entry args (n := maxL) hz
    have hA : ∀ q : Nat, va_A ws s.heap.size q → γ.2.2.heap.size ≤ q := by
      intro q h
      rcases h with ⟨k, e, h⟩ | h
      · exact hD.2 k (q, e) h
      · exact Nat.le_trans hO.1 h
    have hh0 : s₁.heap = s.heap := by rw [B.state]; rfl
    have hbody := body p e s m _ below meth c (va_A ws s.heap.size) _ ⟨B.exec, B.bytes, hml, findClass_of_methodNamed B.named, hts⟩ ⟨hK, fun q h => Or.inr h, hA, hO⟩ ⟨hP, hD.self, va_S.rf⟩ B.returns B.notSynchronized (B.noHandlers (hts0 _ List.mem_cons_self)) hl
    rw [← lg_entry_eq] at hbody
    obtain ⟨t, a1, o, b1, b2, b3⟩ := hbody s₁ hh0 (Stand.of_body B)
    exact ⟨t, o, a1, b1, b2, ⟨b3.1, b3.2⟩⟩
section WT
variable {p : Program} {l : Launch} {e : Env} {R : Room} {s : State} {m : MethodId} {as : Array Value} {below : List Frame} {meth : Method} {c : Code} {H : Heap} {locs : List Loc} {cells slots : Nat} {Q : State → Prop}
variable {cc : ByteArray} {nL pc : Nat} {ls : Array Slot} {rest : List Value} {γ : wx_G} {A : Nat → Prop} {ws : va_W} {own : String} {post : Option Value → va_W → Prop} {postT : Nat → va_W → Prop} {mc ms : Nat}
theorem W.mono {Q2 : State → Prop} {g : JFrame} (h : ∀ t, Q t → Q2 t) (k : W p l e R s m as below meth c H locs cells slots Q g) : W p l e R s m as below meth c H locs cells slots Q2 g := by
  intro T hT X
  obtain ⟨t, a1, b1⟩ := k T hT X
  exact ⟨t, a1, h t b1⟩
/-- an ordinary end is an end -/
theorem wx_QX.of {t : State} (h : wx_Q γ post A as s below mc ms t) : wx_QX γ post postT A as s below mc ms t := by
  obtain ⟨o, h1, h2, ⟨⟨v, ws2, h3, h4, h5, h6⟩, h7⟩, L, h8, h9⟩ := h
  exact ⟨o, h1, h2, ⟨Or.inl ⟨v, ws2, h3, h4, h5, h6⟩, h7⟩, L, ⟨h8.2.1, h8.2.2⟩, h9⟩
/-- the machine with x thrown, over the frame g -/
def WT (p : Program) (l : Launch) (e : Env) (R : Room) (s : State) (m : MethodId) (args : Array Value) (below : List Frame) (meth : Method) (c : Code) (H : Heap) (locs : List Loc) (cells slots : Nat) (Q : State → Prop) (g : JFrame) (x : Nat) : Prop :=
  ∀ T : State, T.heap = H → Stand p l e R s m args below meth c T locs cells slots → ∃ t, Steps p.tables e below ((T.setTop g).pushFrame (.throwing x)) t ∧ Q t
theorem wx_athrow {a : Nat} (C : CallFix p m c cc nL s as lw_all own) (d : decode cc pc = .ok (.athrow, 1)) (k : WT p l e R s m as below meth c H locs cells slots Q (F0 m pc ls rest) a) : W p l e R s m as below meth c H locs cells slots Q (F0 m pc ls (.ref a :: rest)) := by
  intro T hT X
  obtain ⟨t, a1, b1⟩ := k T hT X
  refine ⟨t, ?_, b1⟩
  have hdg : decode c.code pc = .ok (.athrow, 1) := by rw [C.2.1]; exact d
  jvm_step X.here [C.1, hdg, Op.athrow.wp_sem]
  exact a1
/-- no handler: the method throws -/
theorem wx_thrown {g : JFrame} {x : Nat} (hg : g.method = m) (hlocked : g.locked = none) (hentered : g.entered = []) (hlocks : meth.locks = false) (hout : ∀ y ∈ c.exceptionTable.toList, covers y g.pc = false) (w : wx_w γ A s H locs ws) (hp : postT x ws) : WT p l e R s m as below meth c H locs mc ms (wx_QX γ post postT A as s below mc ms) g x := by
  intro T hT X
  obtain ⟨h1, h2, h3, h4, h5⟩ := X.leaveThrown x hg hlocked hentered hout hlocks
  exact ⟨_, h1, .threw x, h2, h3, ⟨Or.inr ⟨x, ws, rfl, hp, by show va_P γ.1 wx_cl ws T.heap; rw [hT]; exact w.1, w.2.1⟩, w.2.2.F hT⟩, locs, ⟨h4, h5⟩, w.2.2.2.2⟩
theorem wx_none (h : c.exceptionTable.isEmpty = true) (n : Nat) : ∀ y ∈ c.exceptionTable.toList, covers y n = false := by
  have h0 : c.exceptionTable.size = 0 := by simpa [Array.isEmpty] using h
  have h1 : c.exceptionTable.toList = [] := List.eq_nil_of_length_eq_zero (by simpa using h0)
  intro y hy
  rw [h1] at hy
  cases hy
end WT

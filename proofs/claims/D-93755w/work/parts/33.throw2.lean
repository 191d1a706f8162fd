/-! CALLS OF METHODS THAT MAY THROW (mine) -/
section WT2
variable {p : Program} {l : Launch} {e : Env} {R : Room} {s : State} {m : MethodId} {as : Array Value} {below : List Frame} {meth : Method} {c : Code} {H : Heap} {locs : List Loc} {cells slots : Nat} {Q : State → Prop}
variable {cc : ByteArray} {nL pc : Nat} {ls : Array Slot} {rest : List Value} {γ : wx_G} {A : Nat → Prop} {ws : va_W} {own : String} {post : Option Value → va_W → Prop} {postT : Nat → va_W → Prop} {mc ms : Nat}
theorem wx_setTop_heap (T : State) (g : JFrame) : (T.setTop g).heap = T.heap := by
  simp [State.setFrames, State.setTop, State.modifyTopJava]
theorem wx_frame {T T2 : State} {t : State} {L : List Loc} {ws2 : va_W} (K : wx_C γ A s) (w : wx_w γ A s T.heap locs ws) (hPb : va_P γ.1 wx_cl ws2 t.heap) (hDb : va_D (va_A ws T.heap.size) ws2) (hF : T.heap.size ≤ t.heap.size ∧ ∀ q : Nat, q < T.heap.size → ¬ va_A ws T.heap.size q → t.heap[q]? = T.heap[q]?) (hL : ∀ q ∈ L, va_A ws T.heap.size q.base) (hh : T2.heap = t.heap) : wx_w γ A s T2.heap (locs ++ L) ws2 := by
  have hfr := wx_fr K w
  refine ⟨by rw [hh]; exact hPb, hDb.weaken (fun k q _ h => hfr q.1 h), Nat.le_trans w.2.2.1 (by rw [hh]; exact hF.1), fun q h1 h2 => ?_, fun q hq => ?_⟩
  · rw [hh, hF.2 q (Nat.lt_of_lt_of_le h1 w.2.2.1) (fun z => h2 (hfr q z))]
    exact w.2.2.2.1 q h1 h2
  · rcases List.mem_append.mp hq with h | h
    · exact w.2.2.2.2 q h
    · exact hfr _ (hL q h)
/-- from the invocation on: it returns, or it throws -/
theorem wx_goX {T : State} {y : MethodName} {yb : ByteArray} {maxL len : Nat} {ret : Option FieldType} {rmc : Room} {args : List Value} {g : JFrame} {ig : Instr} {mk : MethodId} (X : Stand p l e R s m as below meth c T locs cells slots) (hts : ∀ w ∈ lw_all, w.before as s = true) (K : wx_C γ A s) (w : wx_w γ A s T.heap locs ws) (hM : wx_MX γ l y (ws_ y yb maxL ret) rmc args ws post postT mc ms) (q5 : Cond.code y yb maxL ret ∈ lw_all) (q4 : Cond.initialized y.cls ∈ lw_all) (hrc : rmc.cells = mc) (hrs : rmc.slots = ms) (hR : rmc.frames + 1 ≤ R.frames ∧ 8 + (maxL + 11) + rmc.locals ≤ R.locals) (hf : cells + mc ≤ R.cells ∧ slots + ms ≤ R.slots) (hg : g.method = m) (hsize : g.locals.size = c.maxLocals) (hdg : decode c.code g.pc = .ok (ig, len)) (hW : 2 * g.monitorRoom + (g.stack.map fun v => v.category).sum ≤ 8) (hn : T.methodNamed? y = some mk) :
    (∃ (v : Option Value) (ws2 : va_W) (T2 : State) (locs2 : List Loc), Stand p l e R s m as below meth c T2 locs2 (cells + mc) (slots + ms) ∧ post v ws2 ∧ wx_w γ A s T2.heap locs2 ws2 ∧ Steps p.tables e below (doInvoke e (T.setTop g) [] mk args.toArray).1 (T2.setTop { g with pc := g.pc + len, stack := v.toList ++ g.stack })) ∨
    (∃ (x : Nat) (ws2 : va_W) (T2 : State) (locs2 : List Loc), Stand p l e R s m as below meth c T2 locs2 (cells + mc) (slots + ms) ∧ postT x ws2 ∧ wx_w γ A s T2.heap locs2 ws2 ∧ Steps p.tables e below (doInvoke e (T.setTop g) [] mk args.toArray).1 ((T2.setTop g).pushFrame (.throwing x))) := by
  have hpay := pay_in hts (lw_meth q5)
  have h1 : (headSpec (ws_ y yb maxL ret) rmc).pre.before args.toArray T = true := atoms_intro fun w hw => hpay w hw _ _ X.warmed
  have h2 : (Cond.code y yb maxL ret).before args.toArray T = true := hpay _ List.mem_cons_self _ _ X.warmed
  have h3 : (Cond.initialized y.cls).before args.toArray T = true := word_at X.warmed (Or.inl (by first | rfl | simp [Cond.onTables, Cond.keeps, Cond.steady])) (hts _ q4)
  obtain ⟨methY, cY, hmY, hcY, -, hlY, -⟩ := Cond.code_spec hn h2
  obtain ⟨kY, hkY, -⟩ := className_of_methodNamed hn
  have hinitY : kY.init = .initialized := Cond.initialized_spec (findClass_of_methodNamed hn) hkY h3
  have h : At T g.method c below := by rw [hg]; exact X.here
  have happ : (headSpec (ws_ y yb maxL ret) rmc).appliesLoose y e.platform (T.calling g mk args.toArray) = true :=
    Spec.appliesLoose_calling (g := g) h hdg hn hkY hinitY
      (X.room_calling (g := g) (R' := rmc) hsize hmY hcY hR.1 (by rw [hlY]; omega) (by rw [hrc]; exact hf.1) (by rw [hrs]; exact hf.2)) h1
  obtain ⟨mid, hmid⟩ := h.above
  have hfr : (T.setTop g).frames = (.java g :: mid) ++ below := by rw [State.frames_setTop' g h.top, hmid]; rfl
  have hPr := wx_PreS (As := args) K w
  obtain ⟨o, s₂, hsteps, -, hend, hq⟩ := Steps.callFree (hM T.heap.size) p X.admits X.cas X.clock (acts := []) hfr happ (hPr.1 _ _ _ _ (hPr.2 T rfl X.warmed)) trivial
  rw [State.frames_setTop' g h.top, X.tail] at hend
  obtain ⟨⟨hpost, hF⟩, L, ⟨hW₂, hsame⟩, hL⟩ := hq
  rcases hpost with ⟨v, ws2, rfl, hp, hPb, hDb⟩ | ⟨x, ws2, rfl, hp, hPb, hDb⟩
  · obtain ⟨T2, X2, -, -, ht⟩ := X.outOf hg hdg (mk := mk) (a := args.toArray) hend hW₂ hsame
    refine Or.inl ⟨v, ws2, T2, locs ++ L, X2, hp, wx_frame (T := T) K w hPb hDb hF hL (by rw [ht, wx_setTop_heap]), ?_⟩
    rw [← ht]
    exact hsteps
  · obtain ⟨T2, X2, -, -, ht⟩ := X.outOfThrown hg (mk := mk) (a := args.toArray) hend hW₂ hsame
    refine Or.inr ⟨x, ws2, T2, locs ++ L, X2, hp, wx_frame (T := T) K w hPb hDb hF hL (by rw [ht, Stand.throwing_heap]), ?_⟩
    rw [← ht]
    exact hsteps
/-- a call, through an object of the class Cn, of a method that may throw -/
theorem wx_callVX {y : MethodName} {yb : ByteArray} {maxL idx n : Nat} {ret : Option FieldType} {rmc : Room} {b : Nat} {As st0 : List Value} {Cn : String} (C : CallFix p m c cc nL s as lw_all own) (K : wx_C γ A s) (w : wx_w γ A s H locs ws) (hM : wx_MX γ l y (ws_ y yb maxL ret) rmc (.ref b :: As) ws post postT mc ms) (q1 : Cond.methodLink own idx y ∈ lw_all) (q2 : Cond.instanceMethod y ∈ lw_all) (q3 : Cond.selects Cn y y ∈ lw_all) (q4 : Cond.initialized Cn ∈ lw_all) (q5 : Cond.code y yb maxL ret ∈ lw_all) (hrc : rmc.cells = mc) (hrs : rmc.slots = ms)
    (hd : y.cls = Cn ∧ y.cls ≠ "java/lang/invoke/MethodHandle" ∧ y.cls ≠ "java/lang/invoke/VarHandle" ∧ (parseMethodDescriptor y.desc).map (fun d => d.parameters.length) = some n) (hrecv : ∃ cellB : Cell, H[b]? = some cellB ∧ cellB.vm.isStatics = false ∧ s.vm.findClass Cn = some cellB.cls) (hn : As.length = n) (hst : st0 = As.reverse ++ .ref b :: rest) (hR : rmc.frames + 1 ≤ R.frames ∧ 8 + (maxL + 11) + rmc.locals ≤ R.locals) (hls : ls.size = nL) (hW : (rest.map fun v => v.category).sum ≤ 8) (hf : cells + mc ≤ R.cells ∧ slots + ms ≤ R.slots) (d : decode cc pc = .ok (.invokevirtual idx, 3))
    (kk : ∀ (v : Option Value) (ws2 : va_W) (H1 : Heap) (locs1 : List Loc), post v ws2 → wx_w γ A s H1 locs1 ws2 → W p l e R s m as below meth c H1 locs1 (cells + mc) (slots + ms) Q (F0 m (pc + 3) ls (v.toList ++ rest)))
    (kt : ∀ (x : Nat) (ws2 : va_W) (H1 : Heap) (locs1 : List Loc), postT x ws2 → wx_w γ A s H1 locs1 ws2 → WT p l e R s m as below meth c H1 locs1 (cells + mc) (slots + ms) Q (F0 m pc ls rest) x) : W p l e R s m as below meth c H locs cells slots Q (F0 m pc ls st0) := by
  have hts := C.2.2.2.2
  obtain ⟨hcn, hy1, hy2, hlen⟩ := hd
  obtain ⟨hx, hb, hml, ho, -⟩ := C
  obtain ⟨cellB, hcB, hoB, hclB⟩ := hrecv
  intro T hT X
  subst hT
  obtain ⟨mk, methM, hnamed, hmethM, hstM, habM⟩ := Cond.instanceMethod_spec (hts _ q2)
  obtain ⟨methM2, cM, hmethM2, -, -, -, -, -, -, hsigM⟩ := Cond.code_spec hnamed (hts _ q5)
  cases hmethM.symm.trans hmethM2
  obtain ⟨c2, r2, m2, g1, g2, g3, g4, kP, hkP, hkPi⟩ := Cond.selects_spec (hts _ q3)
  cases hclB.symm.trans g1
  cases (State.methodFound?_of_named hnamed ⟨hy1, hy2⟩).symm.trans g2
  cases hnamed.symm.trans g3
  have hselP : selectMethod e.platform s.vm cellB.cls mk = .method mk := by rw [Launch.admits_selectMethod X.admits]; exact g4
  have hlen2 : As.length = methM.sig.parameters.length := by
    have h2 := hlen
    rw [show parseMethodDescriptor y.desc = some methM.sig from hsigM] at h2
    exact hn.trans (Option.some.inj h2).symm
  obtain ⟨vm₁, X₁, hstep₁⟩ := X.invokevirtual hx ho (hts _ q1) hnamed hmethM hstM hkP hkPi ⟨hy1, hy2⟩ (a := b) (cell := cellB) hcB
    (fun z h => by rw [h] at hoB; cases hoB) hselP hmethM habM hkP hkPi (g := F0 m pc ls st0) rfl (argsL := As) (rest := rest) hlen2 hst (by rw [hb]; exact d)
  rcases wx_goX (T := T.setVm vm₁) (args := .ref b :: As) (g := F0 m pc ls rest) (mk := mk) (len := 3) X₁ hts K w hM q5 (by rw [hcn]; exact q4) hrc hrs hR hf rfl (by show ls.size = _; rw [hls, hml]) (by rw [hb]; exact d) (lv_room hW) (X₁.named hnamed) with ⟨v, ws2, T2, locs2, X2, hp, w2, st⟩ | ⟨x, ws2, T2, locs2, X2, hp, w2, st⟩
  · obtain ⟨t, a1, b1⟩ := kk v ws2 T2.heap locs2 hp w2 T2 rfl X2
    exact ⟨t, hstep₁ _ fun acts => by rw [doInvoke_state]; exact st.trans a1, b1⟩
  · obtain ⟨t, a1, b1⟩ := kt x ws2 T2.heap locs2 hp w2 T2 rfl X2
    exact ⟨t, hstep₁ _ fun acts => by rw [doInvoke_state]; exact st.trans a1, b1⟩
end WT2

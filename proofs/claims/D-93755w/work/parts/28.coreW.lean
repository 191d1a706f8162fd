/-! METHODS WITH AN EXCEPTION TABLE, on roads where none of it is taken (mine) -/
theorem wx_MW.of {γ : wx_G} {l : Launch} {y : MethodName} {rm : Room} {args : List Value} {ws : va_W} {post : Option Value → va_W → Prop} {mc ms maxL : Nat} {cc : ByteArray} {ret : Option FieldType} {hh : List (Nat × Nat × Nat × Nat)} (hy : plainName y.cls = true) (hz : (lg_sl args).length ≤ maxL)
    (body : ∀ (p : Program) (e : Env) (s : State) (m : MethodId) (as : Array Value) (below : List Frame) (meth : Method) (c : Code) (A : Nat → Prop) (ls : Array Slot), CallFix p m c cc maxL s as lw_all y.cls → wx_C γ A s → wx_w γ A s s.heap [] ws → meth.sig.returnType = ret → meth.locks = false → meth.name = y.name → lv_has ls maxL (lv_args 0 args) → W p l e rm s m as below meth c s.heap [] 0 0 (wx_Q γ post A as s below mc ms) (F0 m 0 ls [])) : wx_M γ l y (wsW_ y cc maxL ret hh) rm args ws post mc ms := by
  intro sz
  refine va_MetW (cc := cc) (maxL := maxL) (ret := ret) (hh := hh) hy rfl ?_
  intro p e s m as below meth c s₁ B hml hv
  obtain ⟨has, hsz, hP, hK, hD, hO⟩ := hv
  subst has
  subst hsz
  have hts := atoms_spec (ws := wsW_ y cc maxL ret hh) B.pre
  have hts : ∀ w ∈ lw_all, w.before _ s = true := fun w h => hts w (List.mem_cons_of_mem _ h)
  have hl := lv_entry args (n := maxL) hz
  rw [lg_entry_eq]
  have hA : ∀ q : Nat, va_A ws s.heap.size q → γ.2.2.heap.size ≤ q := by
    intro q h
    rcases h with ⟨k, e, h⟩ | h
    · exact hD.2 k (q, e) h
    · exact Nat.le_trans hO.1 h
  exact body p e s m _ below meth c (va_A ws s.heap.size) _ ⟨B.exec, B.bytes, hml, findClass_of_methodNamed B.named, hts⟩ ⟨hK, fun q h => Or.inr h, hA, hO⟩ ⟨hP, hD.self, va_S.rf⟩ B.returns B.notSynchronized (name_of_methodNamed B.named B.method).1 hl
section WXW
variable {p : Program} {l : Launch} {e : Env} {R : Room} {s : State} {m : MethodId} {as : Array Value} {below : List Frame} {meth : Method} {c : Code} {H : Heap} {locs : List Loc} {cells slots : Nat} {Q : State → Prop}
variable {cc : ByteArray} {nL pc : Nat} {ls : Array Slot} {rest : List Value} {γ : wx_G} {A : Nat → Prop} {ws : va_W} {own : String} {post : Option Value → va_W → Prop} {mc ms : Nat}
/-- a call, through an object of the class Cn, of a method with an exception table -/
theorem wx_callVW {y : MethodName} {yb : ByteArray} {maxL idx n : Nat} {ret : Option FieldType} {hh : List (Nat × Nat × Nat × Nat)} {rmc : Room} {b : Nat} {As st0 : List Value} {Cn : String} (C : CallFix p m c cc nL s as lw_all own) (K : wx_C γ A s) (w : wx_w γ A s H locs ws) (hM : wx_M γ l y (wsW_ y yb maxL ret hh) rmc (.ref b :: As) ws post mc ms) (q1 : Cond.methodLink own idx y ∈ lw_all) (q2 : Cond.instanceMethod y ∈ lw_all) (q3 : Cond.selects Cn y y ∈ lw_all) (q4 : Cond.initialized Cn ∈ lw_all) (q5 : Cond.codeWith y yb maxL ret hh ∈ lw_all) (hrc : rmc.cells = mc) (hrs : rmc.slots = ms)
    (hd : y.cls = Cn ∧ y.cls ≠ "java/lang/invoke/MethodHandle" ∧ y.cls ≠ "java/lang/invoke/VarHandle" ∧ (parseMethodDescriptor y.desc).map (fun d => d.parameters.length) = some n) (hrecv : ∃ cellB : Cell, H[b]? = some cellB ∧ cellB.vm.isStatics = false ∧ s.vm.findClass Cn = some cellB.cls) (hn : As.length = n) (hst : st0 = As.reverse ++ .ref b :: rest) (hR : rmc.frames + 1 ≤ R.frames ∧ 8 + (maxL + 11) + rmc.locals ≤ R.locals) (hls : ls.size = nL) (hW : (rest.map fun v => v.category).sum ≤ 8) (hf : cells + mc ≤ R.cells ∧ slots + ms ≤ R.slots) (d : decode cc pc = .ok (.invokevirtual idx, 3))
    (kk : ∀ (v : Option Value) (ws' : va_W) (H1 : Heap) (locs1 : List Loc), post v ws' → wx_w γ A s H1 locs1 ws' → W p l e R s m as below meth c H1 locs1 (cells + mc) (slots + ms) Q (F0 m (pc + 3) ls (v.toList ++ rest))) : W p l e R s m as below meth c H locs cells slots Q (F0 m pc ls st0) := by
  refine wx_call (a := (Value.ref b :: As).toArray) K w ?_ kk
  have hts := C.2.2.2.2
  have hPr := wx_PreS (As := .ref b :: As) K w
  obtain ⟨hcn, hy1, hy2, hlen⟩ := hd
  have hini : (Cond.initialized y.cls).before as s = true := by rw [hcn]; exact hts _ q4
  have hK : Back l R p e below s as y 3 8 (PreOf R mc ms (va_Pc (.ref b :: As) (wx_Pre γ ws H.size))) (PostOf (wx_PostA γ (va_A ws H.size) post) mc ms (va_A ws H.size)) := va_backW (hh := hh) (bytes := yb) (maxL := maxL) (ret := ret) (hM H.size) hPr.1 hrc hrs hR.1 hR.2 (pay_in hts (lw_methW q5)) List.mem_cons_self (fun a' U hW => word_at hW (Or.inl (by first | rfl | simp [Cond.onTables, Cond.keeps, Cond.steady])) hini)
  obtain ⟨hx, hb, hml, ho, -⟩ := C
  obtain ⟨cellB, hcB, hoB, hclB⟩ := hrecv
  intro T hT X
  obtain ⟨mk, methM, hnamed, hmethM, hstM, habM⟩ := Cond.instanceMethod_spec (hts _ q2)
  obtain ⟨m9, methM2, cM, hn9, hmethM2, -, -, -, -, -, -, hsigM⟩ := Cond.codeWith_spec (hts _ q5)
  cases hnamed.symm.trans hn9
  cases hmethM.symm.trans hmethM2
  obtain ⟨c2, r2, m2, g1, g2, g3, g4, kP, hkP, hkPi⟩ := Cond.selects_spec (hts _ q3)
  cases hclB.symm.trans g1
  cases (State.methodFound?_of_named hnamed ⟨hy1, hy2⟩).symm.trans g2
  cases hnamed.symm.trans g3
  have hselP : selectMethod e.platform s.vm cellB.cls mk = .method mk := by rw [Launch.admits_selectMethod X.admits]; exact g4
  have hlen2 : As.length = methM.sig.parameters.length := by
    have h2 := hlen
    rw [show parseMethodDescriptor y.desc = some methM.sig from hsigM] at h2
    exact hn.trans (Option.some.inj h2).symm
  obtain ⟨vm₁, X₁, hstep₁⟩ := X.invokevirtual hx ho (hts _ q1) hnamed hmethM hstM hkP hkPi ⟨hy1, hy2⟩ (a := b) (cell := cellB) (by rw [hT]; exact hcB)
    (fun z h => by rw [h] at hoB; cases hoB) hselP hmethM habM hkP hkPi (g := F0 m pc ls st0) rfl (argsL := As) (rest := rest) hlen2 hst (by rw [hb]; exact d)
  obtain ⟨v, B, X2, hpost, hsteps⟩ := hK m meth c ⟨T.setVm vm₁, locs, cells, slots⟩ { F0 m pc ls st0 with stack := rest } (.invokevirtual idx) mk (Value.ref b :: As).toArray X₁ rfl (by show ls.size = _; rw [hls, hml]) (by rw [hb]; exact d) (lv_room hW) (X₁.named hnamed) ⟨hf.1, hf.2, hPr.2 (T.setVm vm₁) hT X₁.warmed⟩
  obtain ⟨U2, l2, c2', s2⟩ := B
  obtain ⟨g2', mk2, t, L, e1, e2, hq, h1, hL, h2, h3⟩ := hpost
  dsimp only [Pt.U, Pt.locs, Pt.cells, Pt.slots] at X2 e1 e2 h1 h2 h3 hsteps
  subst h1; subst h2; subst h3
  exact ⟨v, (T.setVm vm₁).calling g2' mk2 (Value.ref b :: As).toArray, t, U2, L, hT, X2, hL, e1, e2, hq, fun target h => hstep₁ _ fun acts => by rw [doInvoke_state]; exact hsteps.trans h⟩
end WXW

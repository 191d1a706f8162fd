/-! NullPointerException IN A METHOD THAT MAY CATCH IT (mine): the machine with the new object thrown over the frame -/
set_option maxRecDepth 100000
theorem wx_newx2 {γ : wx_G} {A : Nat → Prop} {s : State} {H H2 : Heap} {locs locs2 : List Loc} {ws : va_W} {x ci : Nat} {cell : Cell} {Cn : String} (K : wx_C γ A s) (w : wx_w γ A s H locs ws) (hU : H.size ≤ H2.size ∧ ∀ q : Nat, q < H.size → H2[q]? = H[q]?) (hx : H.size ≤ x) (hc : H2[x]? = some cell) (hl : ∀ l ∈ locs2, A l.base) (hcl : wx_cl[ci]? = some (Cn, TX1, 0)) (hcls : s.vm.findClass Cn = some cell.cls) (hvm : cell.vm = .none) : wx_w γ A s H2 locs2 ((x, .inr (ci, [])) :: ws) := by
  have hlt : ∀ (k : Nat) (q : Nat × va_E), ws[k]? = some q → q.1 < H.size := fun k q hk => (w.1 k q hk).lt
  refine ⟨fun k q hk => ?_, ⟨fun i j p q hi hj e => ?_, fun k q hk => ?_⟩, Nat.le_trans w.2.2.1 hU.1, fun q h1 h2 => (hU.2 q (Nat.lt_of_lt_of_le h1 w.2.2.1)).trans (w.2.2.2.1 q h1 h2), hl⟩
  · cases k with
    | zero =>
      have hk := Option.some.inj hk
      subst hk
      exact ⟨_, hcl, cell, hc, Option.some.inj (hcls.symm.trans (K.1.1.1 ci _ hcl).2.1), hvm, fun k hk => absurd hk (Nat.not_lt_zero _)⟩
    | succ k => exact (w.1 k q hk).kept (hU.2 _ (hlt k q hk))
  · cases i with
    | zero =>
      cases j with
      | zero => rfl
      | succ j =>
        have hi := Option.some.inj hi
        subst hi
        have := hlt j q hj
        simp only at e
        omega
    | succ i =>
      cases j with
      | zero =>
        have hj := Option.some.inj hj
        subst hj
        have := hlt i p hi
        simp only at e
        omega
      | succ j => exact congrArg Nat.succ (w.2.1.1 i j p q hi hj e)
  · cases k with
    | zero =>
      have hk := Option.some.inj hk
      subst hk
      exact K.2.1 _ (Nat.le_trans w.2.2.1 hx)
    | succ k => exact w.2.1.2 k q hk
theorem wx_npeT {p : Program} {l : Launch} {e : Env} {R : Room} {s : State} {m : MethodId} {as : Array Value} {below : List Frame} {meth : Method} {c : Code} {cc : ByteArray} {nL : Nat} {γ : wx_G} {A : Nat → Prop} {own : String} {U : State} {locs : List Loc} {cells slots : Nat} {ws : va_W} {g : JFrame} (X : Stand p l e R s m as below meth c U locs cells slots) (XO : ex_ok γ l) (G : cx_ok γ) (C : CallFix p m c cc nL s as lw_all own) (K : wx_C γ A s) (w : wx_w γ A s U.heap locs ws) (hg : g.method = m) (hsz : g.locals.size = nL) (hR : 8 ≤ R.frames ∧ 2 * g.monitorRoom + (g.stack.map fun v => v.category).sum + 10240 ≤ R.locals) (hf : cells + 1 ≤ R.cells ∧ slots + 8 ≤ R.slots) :
    ∃ (U2 : State) (locs2 : List Loc), Stand p l e R s m as below meth c U2 locs2 (cells + 1) (slots + 8) ∧ wx_w γ A s U2.heap locs2 ((U.heap.size, .inr (14, [])) :: ws) ∧ ∀ target, Steps p.tables e below ((U2.setTop g).pushFrame (.throwing U.heap.size)) target → Steps p.tables e below ((U.setTop g).pushFrame (.throwNew "java/lang/NullPointerException" none none)) target := by
  have htr : e.platform.stackTraces = false := by rw [X.admits.platform]; exact XO.1
  have howns : e.platform.frameOwnsMonitors = true := by rw [X.admits.platform]
  have hfin : e.platform.finalization = false := by rw [X.admits.platform]
  have hpl : e.platform.magicAccessors = ({} : Platform).magicAccessors := by rw [X.admits.platform]
  have hpl2 : e.platform.arrayCloneIsPublic = true := by rw [X.admits.platform]
  have ha0 := ex_npe XO G C K
  have a : ∀ x, x ∈ Bundle.npeArmAtoms 8 → x.holds as s none s [] = true := fun x hx => ha0 x hx
  have hsize : g.locals.size = c.maxLocals := by rw [hsz, C.2.2.1]
  obtain ⟨T, Z, L, LZ, Y⟩ := ThrowableC.of_atoms (args := as) howns hfin hpl (fun x hx => ha0 x (by simp [Bundle.npeArmAtoms, hx]))
  obtain ⟨N, LN, hcN, hnNF, hordN, hffS⟩ := NpeC.of_atoms (args := as) hpl hpl2 L Y (fun x hx => ha0 x (by simp [Bundle.npeArmAtoms, hx]))
  obtain ⟨P1, L1, hP1m, hP1s⟩ := PassC.of_atoms (args := as) (s := s) hpl (X := Bundle.nN) (Y := Bundle.rN) (by decide) (by decide) LibCode.NullPointerException.Init0.at_0 LibCode.NullPointerException.Init0.at_1 LibCode.NullPointerException.Init0.at_4 (fun x hx => ha0 x (by simp [Bundle.npeArmAtoms, hx]))
  obtain ⟨PR, LR, hPRm, hPRs⟩ := PassC.of_atoms (args := as) (s := s) hpl (X := Bundle.rN) (Y := Bundle.eN) (by decide) (by decide) LibCode.RuntimeException.Init0.at_0 LibCode.RuntimeException.Init0.at_1 LibCode.RuntimeException.Init0.at_4 (fun x hx => ha0 x (by simp [Bundle.npeArmAtoms, hx]))
  obtain ⟨PE, LEx, hPEm, hPEs⟩ := PassC.of_atoms (args := as) (s := s) hpl (X := Bundle.eN) (Y := Bundle.tN) (by decide) (by decide) LibCode.Exception.Init0.at_0 LibCode.Exception.Init0.at_1 LibCode.Exception.Init0.at_4 (fun x hx => ha0 x (by simp [Bundle.npeArmAtoms, hx]))
  have hfound : s.vm.findClass Bundle.nN = some P1.m.cls := findClass_of_methodNamed hP1m
  have ecls : N.cN = P1.m.cls := Option.some.inj (hcN.symm.trans hfound)
  have hk : s.vm.classes[P1.m.cls]? = some N.kN := by rw [← ecls]; exact LN.cls
  have hinit := Cond.initialized_spec hfound hk (a (.initialized Bundle.nN) (by simp [Bundle.npeArmAtoms]))
  have hctor : N.kN.findMethod "<init>" "()V" = some P1.m.idx := findMethod_of_methodNamed hP1m hk
  obtain ⟨c1, k1, hc1, hk1, -, -, -, hn⟩ := Cond.instantiable_spec (a (.instantiable Bundle.nN 8) (by simp [Bundle.npeArmAtoms]))
  cases Option.some.inj (hc1.symm.trans hfound)
  cases Option.some.inj (hk1.symm.trans hk)
  have hlink1 : P1.sup = PR.m := Option.some.inj (hP1s.symm.trans hPRm)
  have hlinkR : PR.sup = PE.m := Option.some.inj (hPRs.symm.trans hPEm)
  have hlinkE : PE.sup = Z.m T.toThrowableT := Option.some.inj (hPEs.symm.trans Y.init0)
  have hsel0 : selectMethod e.platform s.vm P1.m.cls T.fill0 = .method T.fill0 := by
    obtain ⟨c2, r2, m2, q1, q2, q3, q4, -⟩ := Cond.selects_spec (a (.selects Bundle.nN Bundle.tFill0 Bundle.tFill0) (by simp [Bundle.npeArmAtoms]))
    cases Option.some.inj (q1.symm.trans hfound)
    cases Option.some.inj (q2.symm.trans (State.methodFound?_of_named Y.fill0 (by decide)))
    cases Option.some.inj (q3.symm.trans Y.fill0)
    rw [Launch.admits_selectMethod X.admits]; exact q4
  have hselF : selectMethod e.platform s.vm P1.m.cls T.fill = .method N.fill := by
    obtain ⟨c2, r2, m2, q1, q2, q3, q4, -⟩ := Cond.selects_spec (a (.selects Bundle.nN Bundle.tFill Bundle.nFill) (by simp [Bundle.npeArmAtoms]))
    cases Option.some.inj (q1.symm.trans hfound)
    cases Option.some.inj (q2.symm.trans (State.methodFound?_of_named Y.fill (by decide)))
    cases Option.some.inj (q3.symm.trans hnNF)
    rw [Launch.admits_selectMethod X.admits]; exact q4
  obtain ⟨cellS0, hcS0, hiss⟩ := Y.statics
  obtain ⟨u0, hu0⟩ := Cond.staticRefV Y.unassigned L.unassignedStatic L.statics hcS0 hiss (a (.isRef (.static Bundle.tN "UNASSIGNED_STACK" Bundle.steD)) (by simp [Bundle.npeArmAtoms]))
  obtain ⟨sen, hsen⟩ := Cond.staticRefV Y.sentinel L.sentinelStatic L.statics hcS0 hiss (a (.isRef (.static Bundle.tN "SUPPRESSED_SENTINEL" Bundle.listD)) (by simp [Bundle.npeArmAtoms]))
  obtain ⟨ci198, i198, fB, hk198, hg198, ha198, hsB, -, hnB, htB, hffB⟩ := Cond.ownField (t := .object "java/lang/Object") Y.found L.cls (by decide +kernel) (a (.fieldLink Bundle.tN 198 Bundle.tN "backtrace" Bundle.objD) (by simp [Bundle.npeArmAtoms])) (a (.lays Bundle.tN Bundle.tN "backtrace" Bundle.objD) (by simp [Bundle.npeArmAtoms])) e.platform hpl
  obtain ⟨cellS, hcS', heS, -, hkeep⟩ := X.same.2.2.2.2.2 T.aS cellS0 hcS0
  have hcellS : U.heap[T.aS]? = some cellS := hcS'
  have hnA : ¬ A T.aS := by
    obtain ⟨u, hZ⟩ := XO.2.2.1
    obtain ⟨cf, kf, fi, fd, a1, cell1, z1, z2, z3, z4, z5, z6, z7, z8⟩ := wx_Zs K hZ
    cases z1.symm.trans Y.unassigned
    cases z4.symm.trans L.statics
    exact z8
  have hout' : ∀ i, (⟨T.aS, i⟩ : Loc) ∉ locs := fun i hmem => hnA (w.2.2.2.2 _ hmem)
  have hknownS : cellS.vm ≠ .unknown := by
    rw [heS]; intro hu
    rw [show cellS0.vm = .unknown from hu] at hiss
    cases hiss
  obtain ⟨tyC, dC, hdC, hdnC⟩ := Cond.laysAt hfound hk Y.cause (a (.lays Bundle.nN Bundle.tN "cause" "Ljava/lang/Throwable;") (by simp [Bundle.npeArmAtoms]))
  obtain ⟨tyS, dS, hdS, hdnS⟩ := Cond.laysAt hfound hk Y.stack (a (.lays Bundle.nN Bundle.tN "stackTrace" Bundle.steD) (by simp [Bundle.npeArmAtoms]))
  obtain ⟨tyP, dP, hdP, hdnP⟩ := Cond.laysAt hfound hk Y.supp (a (.lays Bundle.nN Bundle.tN "suppressedExceptions" Bundle.listD) (by simp [Bundle.npeArmAtoms]))
  obtain ⟨tyX, dX, hdX, hdnX⟩ := Cond.laysAt hfound hk hffS (a (.lays Bundle.nN Bundle.nN "extendedMessageState" "I") (by simp [Bundle.npeArmAtoms, Bundle.npeAtoms]))
  have hnX : N.fState.name = "extendedMessageState" := (State.fieldFound?_type hffS (t := .int) (by decide +kernel)).1
  obtain ⟨tyB, dB, hdB, hdnB⟩ := Cond.laysAt hfound hk hffB (a (.lays Bundle.nN Bundle.tN "backtrace" Bundle.objD) (by simp [Bundle.npeArmAtoms]))
  have bC := Cond.laysApart hdB hdC hdnB hdnC (by rw [hnB, Y.causeName]; decide)
  have bS := Cond.laysApart hdB hdS hdnB hdnS (by rw [hnB, Y.stackName]; decide)
  have bP := Cond.laysApart hdB hdP hdnB hdnP (by rw [hnB, Y.suppName]; decide)
  have bX := Cond.laysApart hdB hdX hdnB hdnX (by rw [hnB, hnX]; decide)
  have hskip : SkipFacts T e.platform s (fun u => u) u0 ((npeCell N.toNpeT (preparedCellV T.toThrowableT (freshCell P1.m.cls N.kN) U.heap.size u0 sen) U.cur).withEntry U.cur) :=
    ⟨{ ci198 := ci198, i198 := i198, fBack := fB }, ⟨hk198, hg198, ha198, hsB⟩, by
      have := fresh_default (c := P1.m.cls) tyB
      rw [htB] at this
      simpa [npeCell, preparedCellV, Cell.setSlot, Cell.withEntry, Array.getElem?_setIfInBounds, bC, bS, bP, bX, bC.symm, bS.symm, bP.symm, bX.symm, defaultValue] using this, fun _ _ => rfl⟩
  have h : At U g.method c below := by rw [hg]; exact X.here
  obtain ⟨hbeyond, hfreeW⟩ := X.vmMayThrow hsize (.throwNew "java/lang/NullPointerException" none none) (fun f hf => by cases hf) rfl hR.2
  have hfr' : U.frames.length + [PR, PE].length + 5 < (e.platform.stackLimits U.me).1 := by have := X.framesAbove (n := 7) (by omega); exact this
  have hwd' : (stackUse (.java g :: U.frames.tail)).2 + 13 * [PR, PE].length + 68 ≤ (e.platform.stackLimits U.me).2 := by have h9 := X.stackAbove hsize (K := 13 * 2 + 68) (by have := hR.2; omega); show _ + 13 * 2 + 68 ≤ _; omega
  obtain ⟨vm', hW', st⟩ := Steps.vmThrowsNpeColdByV p (s₀ := s) (S := U) (g := g) h C.1 T L Z LZ N LN X.warmed (t := U.cur) rfl P1 L1 [PR, PE] (fun P hP => by
      simp only [List.mem_cons, List.not_mem_nil, or_false] at hP
      rcases hP with rfl | rfl
      · exact LR
      · exact LEx) hlink1 ⟨hlinkR, hlinkE, trivial⟩ hfound hk hinit hordN hctor
    (Launch.admits_hotImplicitExceptions X.admits) hbeyond hfreeW (X.cellsAbove hf.1) (X.slotsAbove (by rw [hn]; exact hf.2))
    (Nn := fun u => u) heapOnly_id (fun _ _ => rfl) (fun _ => rfl) (fun u x y => setCell_twice _ _ _ _) (fun _ => Nat.le_refl _) (cN := ((npeCell N.toNpeT (preparedCellV T.toThrowableT (freshCell P1.m.cls N.kN) U.heap.size u0 sen) U.cur).withEntry U.cur))
    hsel0 hcellS hknownS (by rw [hkeep _ (hout' _)]; exact hu0) (by rw [fresh_default tyX, LN.stateInt]; rfl) (Cond.laysApart hdC hdX hdnC hdnX (by rw [Y.causeName, hnX]; decide)) (Cond.laysApart hdS hdX hdnS hdnX (by rw [Y.stackName, hnX]; decide)) (Cond.laysApart hdP hdX hdnP hdnX (by rw [Y.suppName, hnX]; decide)) (Takes.of_laid hk hordN tyS (by rw [Y.stackType]; exact fits_refV_array _ u0)) (Takes.of_laid hk hordN tyX (by rw [LN.stateInt]; rfl)) (fun _ hu => hu) (fun _ hu => hu) rfl rfl rfl (by simp [npeCell, preparedCellV, Cell.setSlot, Cell.withEntry]) hskip (fun _ _ hA hW _ hroom _ hrest => L.nativeOff p htr hA hW hroom hrest) hselF (by rw [hkeep _ (hout' _)]; exact hsen) (Takes.of_laid hk hordN tyC (by rw [Y.causeType]; rfl)) (Takes.of_laid hk hordN tyP (by rw [Y.suppType]; exact fits_refV_object _ sen)) Y.objLocals rfl hfr' hwd'
  rw [npeBareV_eq T.toThrowableT N.toNpeT U.heap.size u0 sen U.cur rfl rfl] at st
  have X2 := (X.pushed (freshCell P1.m.cls N.kN)).noted hW'
  have hszz : ((U.pushCell (freshCell P1.m.cls N.kN)).setVm vm').heap.size = U.heap.size + 1 := State.heap_size_pushCell _ _
  have ha : U.heap.size < ((U.pushCell (freshCell P1.m.cls N.kN)).setVm vm').heap.size := by rw [hszz]; omega
  have hcell : ((U.pushCell (freshCell P1.m.cls N.kN)).setVm vm').heap[U.heap.size]? = some (freshCell P1.m.cls N.kN) := State.heap_pushCell_size U (freshCell P1.m.cls N.kN)
  have X3 : Stand p l e R s m as below meth c (((U.pushCell (freshCell P1.m.cls N.kN)).setVm vm').setCell U.heap.size (npeBareV T.toThrowableT N.toNpeT (freshCell P1.m.cls N.kN) U.heap.size u0 sen)) _ _ _ := ((((X2.stored hcell T.fCause.slot (.ref U.heap.size)).storedAgain ha T.fStack.slot u0.v).storedAgain ha T.fSupp.slot sen.v).storedAgain ha N.fState.slot (.int 1)).storedAgain ha T.fStack.slot u0.v
  have hsl : (freshCell P1.m.cls N.kN).slots.size = 8 := by simp [hn]
  refine ⟨_, _, stand_widen X3 (Nat.le_refl _) (by rw [hsl]; exact Nat.le_refl _), ?_, fun target hrest => ?_⟩
  · have hU := heapAt_setCell_self (s := (U.pushCell (freshCell P1.m.cls N.kN)).setVm vm') (npeBareV T.toThrowableT N.toNpeT (freshCell P1.m.cls N.kN) U.heap.size u0 sen) ha
    refine wx_newx2 (Cn := "java/lang/NullPointerException") (ci := 14) K w ⟨?_, fun q hq => ?_⟩ (Nat.le_refl _) hU ?_ rfl hfound rfl
    · rw [State.heap_setCell, Array.size_setIfInBounds, hszz]; omega
    · rw [heapAt_setCell_ne _ (Nat.ne_of_lt hq).symm]
      exact State.heap_pushCell_of_lt U _ hq
    · intro q hq
      simp only [List.mem_append, List.mem_cons, List.not_mem_nil, or_false, or_assoc] at hq
      rcases hq with h1 | rfl | rfl | rfl | rfl | rfl
      · exact w.2.2.2.2 q h1
      all_goals exact K.2.1 _ w.2.2.1
  · obtain ⟨g₁, hfrM⟩ := X3.frames_eq
    refine st _ ?_
    rw [State.pushFrame, State.frames_setTop _ hfrM, State.setTop_of_frames _ hfrM, State.setFrames_setFrames] at hrest
    rw [X.tail]
    exact hrest

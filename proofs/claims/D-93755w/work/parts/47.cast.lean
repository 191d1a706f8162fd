/-! A CAST THAT FAILS (mine; printed by gen/cast.py), its message; a negative length's message; lengthOf item put rowOf -/
set_option maxRecDepth 100000
theorem wfm {α β : Type} (u : Array α) (f g : α → β) : (u.flatMap fun x => #[f x, g x]).size = 2 * u.size := by
  rw [← Array.toArray_toList (xs := u)]
  generalize u.toList = L
  induction L with
  | nil => rfl
  | cons x t ih =>
    have h1 : (#[x].flatMap fun x => #[f x, g x]).size = 2 := rfl
    have h2 : #[x].size = 1 := rfl
    rw [show (x :: t).toArray = #[x] ++ t.toArray from by simp, Array.flatMap_append, Array.size_append, ih, Array.size_append, h1, h2]
    omega
theorem w16 {f : Array UInt16 → Char → Array UInt16} (hf : ∀ (acc : Array UInt16) (c : Char), (f acc c).size ≤ acc.size + 2) : ∀ (L : List Char) (acc : Array UInt16), (L.foldl f acc).size ≤ acc.size + 2 * L.length := by
  intro L
  induction L with
  | nil => intro acc; exact Nat.le_refl _
  | cons c t ih =>
    intro acc
    rw [List.foldl_cons]
    have h1 := ih (f acc c)
    have h2 := hf acc c
    rw [List.length_cons]
    omega
theorem wtx (t : String) : (stringBytes (stringToUtf16 t)).size ≤ 4 * t.toList.length := by
  have h1 : (stringToUtf16 t).size ≤ 2 * t.toList.length := by
    unfold stringToUtf16
    refine Nat.le_trans (w16 (fun acc c => ?_) t.toList #[]) (by simp)
    split
    · rw [Array.size_push]; omega
    · split
      · rw [Array.size_push]; omega
      · rw [Array.size_push, Array.size_push]; omega
  have h2 : (stringBytes (stringToUtf16 t)).size ≤ 2 * (stringToUtf16 t).size := by
    unfold stringBytes
    split
    · rw [Array.size_map]; omega
    · rw [wfm]; exact Nat.le_refl _
  omega
theorem wneg {n : Int32} (h : n < 0) : (stringBytes (stringToUtf16 (toString n))).size ≤ 1200 ∧ (toString n == notModelled) = false := by
  have h0 : n.toInt < 0 := by
    rw [Int32.lt_iff_toInt_lt] at h
    simpa using h
  have h1 := Int32.le_toInt n
  have key : (toString n).toList.length ≤ 11 ∧ ∃ t, (toString n).toList = '-' :: t := by
    show (toString n.toInt).toList.length ≤ 11 ∧ ∃ t, (toString n.toInt).toList = '-' :: t
    generalize n.toInt = z at h0 h1
    cases z with
    | ofNat m => simp at h0; omega
    | negSucc m =>
      have e : toString (Int.negSucc m) = "-" ++ Nat.repr (m + 1) := rfl
      rw [e, String.toList_append, Nat.toList_repr]
      have hl : (Nat.toDigits 10 (m + 1)).length ≤ 10 := (Nat.length_toDigits_le_iff (by decide) (by decide)).mpr (by omega)
      refine ⟨?_, _, rfl⟩
      rw [List.length_append]
      show 1 + _ ≤ 11
      omega
  refine ⟨by have := wtx (toString n); omega, ?_⟩
  obtain ⟨t, ht⟩ := key.2
  rw [beq_eq_false_iff_ne]
  intro he
  rw [he] at ht
  have hd : notModelled.toList.head? = some '-' := by rw [ht]; rfl
  exact absurd hd (by decide +kernel)
def cc_h : List String := ["module java.base of loader 'bootstrap'", "unnamed module of loader 'bootstrap'"]
def cc_one (X Y h : String) : String := "class " ++ X ++ " cannot be cast to class " ++ Y ++ " (" ++ h ++ ")"
def cc_and (X Y h : String) : String := X ++ " and " ++ Y ++ " are in " ++ h
def cc_two (X Y h h2 : String) : String := X ++ " is in " ++ h ++ "; " ++ Y ++ " is in " ++ h2
def cc_opts (X Y : String) : List String := (cc_h.map fun h => cc_one X Y (cc_and X Y h)) ++ (cc_h.flatMap fun h => cc_h.map fun h2 => cc_one X Y (cc_two X Y h h2))
def cc_chk (X Y : String) : Bool := (cc_opts (dotted X) (dotted Y)).all fun t => !(t == notModelled) && decide (t.toList.length ≤ 290)
theorem fc_all {vm : Vm} {X : String} {c : ClassId} {k : Class} (h : vm.findClass X = some c) (hk : vm.classes[c]? = some k) : k.name = X ∧ k.hidden = none ∧ k.loader = none := by
  obtain ⟨hlt, hp, _⟩ := Array.findIdx?_eq_some_iff_getElem.mp h
  have e : vm.classes[c] = k := (Array.getElem?_eq_some_iff.mp hk).2
  rw [e] at hp
  simp only [Bool.and_eq_true, beq_iff_eq, Option.isNone_iff_eq_none] at hp
  exact ⟨hp.1.1.1, hp.1.1.2, hp.2⟩
theorem hm_mem {s : State} {vm : Vm} {k : Class} (hv : vm.modules = s.vm.modules) (hl : k.loader = none) (hmr : modulesRight_1 s = true) (hp : packageOf k.name ∈ castPackages_1) : vm.home k ∈ cc_h := by
  unfold Vm.home
  rw [hl]
  cases hmo : vm.moduleOf k with
  | none => simp [cc_h, Vm.loaderName]
  | some m =>
    have hn : m.name = "java.base" := by
      unfold Vm.moduleOf at hmo
      split at hmo
      · have h1 := List.find?_some hmo
        simpa using h1
      · have h1 := List.find?_some hmo
        have h2 := List.mem_of_find?_eq_some hmo
        rw [hv] at h2
        have h3 := List.all_eq_true.mp hmr m h2
        simp only [Bool.and_eq_true, beq_iff_eq] at h1
        simp only [Bool.or_eq_true, beq_iff_eq, Bool.not_eq_true'] at h3
        rcases h3 with (h3 | h3) | h3
        · rw [h1.1, hl] at h3
          cases h3
        · exact h3
        · rw [List.any_eq_false] at h3
          exact absurd h1.2 (by simpa using h3 _ hp)
    simp [hn, cc_h, Vm.loaderName]
theorem cc_txt {s : State} {vm : Vm} {ks kt : Class} {X Y : String} {cx cy : ClassId} (hv : vm.modules = s.vm.modules) (hmr : modulesRight_1 s = true) (hX : vm.findClass X = some cx) (hks : vm.classes[cx]? = some ks) (hY : vm.findClass Y = some cy) (hkt : vm.classes[cy]? = some kt) (hp : packageOf X ∈ castPackages_1 ∧ packageOf Y ∈ castPackages_1) (hc : cc_chk X Y = true) : (checkcast.message vm ks kt == notModelled) = false ∧ (stringBytes (stringToUtf16 (checkcast.message vm ks kt))).size ≤ 1200 := by
  obtain ⟨n1, d1, l1⟩ := fc_all hX hks
  obtain ⟨n2, d2, l2⟩ := fc_all hY hkt
  have m1 := hm_mem (s := s) hv l1 hmr (by rw [n1]; exact hp.1)
  have m2 := hm_mem (s := s) hv l2 hmr (by rw [n2]; exact hp.2)
  have s1 : ks.shown = dotted X := by unfold Class.shown; rw [d1, n1]
  have s2 : kt.shown = dotted Y := by unfold Class.shown; rw [d2, n2]
  have hmem : checkcast.message vm ks kt ∈ cc_opts (dotted X) (dotted Y) := by
    have e : checkcast.message vm ks kt = cc_one ks.shown kt.shown (vm.homes ks kt) := rfl
    rw [e, ← s1, ← s2]
    unfold cc_opts
    by_cases hsm : vm.sameModule ks kt = true
    · have e2 : vm.homes ks kt = cc_and ks.shown kt.shown (vm.home ks) := by
        unfold Vm.homes
        rw [if_pos hsm]
        rfl
      rw [e2]
      exact List.mem_append_left _ (List.mem_map_of_mem (f := fun h => cc_one ks.shown kt.shown (cc_and ks.shown kt.shown h)) m1)
    · have e2 : vm.homes ks kt = cc_two ks.shown kt.shown (vm.home ks) (vm.home kt) := by
        unfold Vm.homes
        rw [if_neg hsm]
        rfl
      rw [e2]
      exact List.mem_append_right _ (List.mem_flatMap.mpr ⟨_, m1, List.mem_map_of_mem (f := fun h2 => cc_one ks.shown kt.shown (cc_two ks.shown kt.shown (vm.home ks) h2)) m2⟩)
  have h := List.all_eq_true.mp hc _ hmem
  simp only [Bool.and_eq_true, Bool.not_eq_true', decide_eq_true_eq] at h
  exact ⟨h.1, by have := wtx (checkcast.message vm ks kt); omega⟩
section CST
variable {p : Program} {l : Launch} {e : Env} {R : Room} {s : State} {m : MethodId} {as : Array Value} {below : List Frame} {meth : Method} {c : Code} {T : State} {locs : List Loc} {cells slots : Nat}
theorem wx_castNo (X : Stand p l e R s m as below meth c T locs cells slots) (hexec : p.tables.exec = Jvm.exec) {own nm : String} {idx : Nat} (hown : s.vm.findClass own = some m.cls) (hlink : (Cond.classLink own idx nm).before as s = true) {a : Addr} {cell : Cell} {cT : ClassId} {ks : Class} (hcell : T.heap[a]? = some cell) (hobj : cell.vm.isStatics = false) (hks : s.vm.classes[cell.cls]? = some ks) (hcT : s.vm.findClass nm = some cT) (hasg : s.vm.assignable cell.cls cT = false) {g : JFrame} (hg : g.method = m) {rest : List Value} (hstack : g.stack = .ref a :: rest) (hdg : decode c.code g.pc = .ok (.checkcast idx, 3)) :
    ∃ (vm1 : Vm) (k1 k2 : Class), Stand p l e R s m as below meth c (T.setVm vm1) locs cells slots ∧ vm1.classes[cell.cls]? = some k1 ∧ vm1.classes[cT]? = some k2 ∧ s.WarmedH vm1 ∧ ∀ target, Steps p.tables e below (((T.setVm vm1).setTop g).pushFrame (.throwNew "java/lang/ClassCastException" (some (checkcast.message vm1 k1 k2)) none)) target → Steps p.tables e below (T.setTop g) target := by
  have hpl : e.platform.magicAccessors = ({} : Platform).magicAccessors := by rw [X.admits.platform]
  obtain ⟨c1, hc1, hcl⟩ := Cond.classLink_spec hown hlink e.platform hpl
  cases hcT.symm.trans hc1
  obtain ⟨dk, _, _, kt, hd, _, _, _, _, hkt, _, hopen⟩ := hcl.here
  have hcl0 := X.warmed.classLinks hcl
  have hW : s.WarmedH (T.vm.noted m.cls idx (.cls cT)) := X.warmed.noted hd hopen (State.rightAt_cls hcl)
  obtain ⟨ks1, hks1, -⟩ := hW.alike.2.2 _ _ hks
  obtain ⟨kt1, hkt1, -⟩ := hW.alike.2.2 _ _ hkt
  refine ⟨_, ks1, kt1, X.noted hW, hks1, hkt1, hW, fun target hrest => ?_⟩
  subst hg
  jvm_step X.here [hexec, hdg, checkcast.wp_cold (e := e) (s := T) (f := g) X.here.top hstack (resolveClass_links e.toSetting hcl0) hcl0.ready,
    checkcast.wp_ready (e := e) (s := T.setVm (T.vm.noted g.method.cls idx (.cls cT))) (f := g) X.here.top hcl0.ready hstack]
  refine ⟨cell, hcell, VmData.noStatics_of hobj, ks1, hks1, kt1, hkt1, ?_⟩
  have h1 : (T.vm.noted g.method.cls idx (Resolved.cls cT)).assignable cell.cls cT = false := by rw [hW.alike.assignable]; exact hasg
  simp only [h1]
  exact hrest
end CST
/-- an exception with a message, out of a method without a table: from the frame that makes it -/
theorem wx_msgS {p : Program} {l : Launch} {e : Env} {R : Room} {s : State} {m : MethodId} {as : Array Value} {below : List Frame} {meth : Method} {c : Code} {cc : ByteArray} {nL : Nat} {γ : wx_G} {A : Nat → Prop} {own : String} {T : State} {ws : va_W} {g : JFrame} {post : Option Value → va_W → Prop} {postT : Nat → va_W → Prop} {mc ms ci : Nat} {Cn text : String} (X : Stand p l e R s m as below meth c T [] 0 0) (hT : T.heap = s.heap) (XO : ex_ok γ l) (hcl : wx_cl[ci]? = some (Cn, TX1, 0)) (hfit : Bundle.fit Cn = true ∧ (Cn == "java/lang/StackOverflowError") = false ∧ (Cn == "java/lang/OutOfMemoryError") = false) (hws : ∀ a ∈ Bundle.messageArmAtoms Cn [Bundle.rN, Bundle.eN], a.before as s = true) (C : CallFix p m c cc nL s as lw_all own) (K : wx_C γ A s) (w : wx_w γ A s s.heap [] ws) (hlocks : meth.locks = false) (htab : c.exceptionTable.isEmpty = true) (hg : g.method = m) (hsz : g.locals.size = nL) (hlk : g.locked = none) (hen : g.entered = []) (htx : (text == notModelled) = false) (hlen : (stringBytes (stringToUtf16 text)).size ≤ 1200)
    (hR : 8 ≤ R.frames ∧ 2 * g.monitorRoom + (g.stack.map fun v => v.category).sum + 10240 ≤ R.locals) (hf : 3 ≤ R.cells ∧ 1210 ≤ R.slots) (hm : 3 ≤ mc ∧ 1210 ≤ ms) (hp : ∀ x, postT x ((x, .inr (ci, [])) :: ws)) : ∃ t, Steps p.tables e below ((T.setTop g).pushFrame (.throwNew Cn (some text) none)) t ∧ wx_QX γ post postT A as s below mc ms t := by
  have htr : e.platform.stackTraces = false := by rw [X.admits.platform]; exact XO.1
  have hlim : e.platform.arrayLengthLimit = ({} : Platform).arrayLengthLimit := by rw [X.admits.platform]
  have hhp : e.platform.maxHeapBytes = ({} : Platform).maxHeapBytes := by rw [X.admits.platform]
  obtain ⟨U, h1, h2, h3, h4, ⟨n, hn, h5⟩, cb, cs, cell, -, -, hc, -, -, KN⟩ := X.messageArmCells C.1 htr (names := [Bundle.rN, Bundle.eN]) hfit.1 (by intro n hn; simp only [List.mem_cons, List.not_mem_nil, or_false] at hn; rcases hn with rfl | rfl <;> decide) hfit.2.1 hfit.2.2 hws (fun x hx => by cases hx) htx (by rw [hlim]; show ¬ _ > (2147483645 : Nat); omega) (by rw [hhp]; show ¬ _ * 1 > (536870912 : Nat); omega) hg (by rw [hsz, C.2.2.1]) hlk hen (wx_none htab _) (by show 6 < _; omega) hR.2 (by decide) (by omega) (by omega) hlocks
  have hU := wx_same0 h5
  have w2 := wx_newx (Cn := Cn) (ci := ci) K w hU (by rw [hT]; omega) hc hcl KN.cls KN.vm
  exact ⟨U, h1, .threw (T.heap.size + 2), h2, h3, ⟨Or.inr ⟨_, _, rfl, hp _, w2.1, w2.2.1⟩, w2.2.2.F rfl⟩, [], ⟨h4, h5.mono (by omega) (by omega)⟩, fun _ h => by cases h⟩
/-- a cast that fails, in a method without a table -/
theorem wx_cceOut {p : Program} {l : Launch} {e : Env} {R : Room} {s : State} {m : MethodId} {as : Array Value} {below : List Frame} {meth : Method} {c : Code} {cc : ByteArray} {nL pc idx a : Nat} {ls : Array Slot} {rest : List Value} {γ : wx_G} {A : Nat → Prop} {own X Y : String} {ws : va_W} {cell : Cell} {cT : ClassId} {post : Option Value → va_W → Prop} {postT : Nat → va_W → Prop} {mc ms : Nat} (XO : ex_ok γ l) (G : cx_ok γ) (C : CallFix p m c cc nL s as lw_all own) (K : wx_C γ A s) (w : wx_w γ A s s.heap [] ws) (hlocks : meth.locks = false) (htab : c.exceptionTable.isEmpty = true) (hls : ls.size = nL) (hcell : s.heap[a]? = some cell) (hobj : cell.vm.isStatics = false) (q : Cond.classLink own idx Y ∈ lw_all) (hX : s.vm.findClass X = some cell.cls) (hY : s.vm.findClass Y = some cT) (hasg : s.vm.assignable cell.cls cT = false) (hp : packageOf X ∈ castPackages_1 ∧ packageOf Y ∈ castPackages_1) (hc : cc_chk X Y = true) (hR : 8 ≤ R.frames ∧ (rest.map fun v => v.category).sum + 10241 ≤ R.locals) (hf : 3 ≤ R.cells ∧ 1210 ≤ R.slots) (hm : 3 ≤ mc ∧ 1210 ≤ ms) (hpo : ∀ x, postT x ((x, .inr (17, [])) :: ws)) (d : decode cc pc = .ok (.checkcast idx, 3)) : W p l e R s m as below meth c s.heap [] 0 0 (wx_QX γ post postT A as s below mc ms) (F0 m pc ls (.ref a :: rest)) := by
  intro T hT Z
  obtain ⟨ks, hks, -⟩ := Vm.findClass_spec hX
  obtain ⟨vm1, k1, k2, Z1, e1, e2, hW, st⟩ := wx_castNo Z C.1 C.2.2.2.1 (C.2.2.2.2 _ q) (by rw [hT]; exact hcell) hobj hks hY hasg (g := F0 m pc ls (.ref a :: rest)) rfl rfl (by rw [C.2.1]; exact d)
  have hmod : vm1.modules = s.vm.modules := by
    have h := congrArg (fun v : Vm => v.modules) hW.alike.1
    exact h
  obtain ⟨t1, t2⟩ := cc_txt (s := s) hmod (ms_none XO.2.1 K) (by rw [hW.alike.findClass]; exact hX) e1 (by rw [hW.alike.findClass]; exact hY) e2 hp hc
  obtain ⟨t, a1, b1⟩ := wx_msgS (ci := 17) (g := F0 m pc ls (.ref a :: rest)) (text := checkcast.message vm1 k1 k2) (post := post) (postT := postT) (mc := mc) (ms := ms) Z1 hT XO rfl ⟨by decide, by decide, by decide⟩ (ex_cce XO G C K) C K w hlocks htab rfl hls rfl rfl t1 t2 ⟨hR.1, by have := hR.2; show 2 * 0 + ((.ref a :: rest : List Value).map fun v => v.category).sum + 10240 ≤ _; rw [List.map_cons, List.sum_cons]; show 2 * 0 + (1 + (rest.map fun v => v.category).sum) + 10240 ≤ _; omega⟩ hf hm hpo
  exact ⟨t, st t a1, b1⟩
theorem ccp_01 : packageOf "[B" ∈ castPackages_1 ∧ packageOf "[S" ∈ castPackages_1 := by decide +kernel
theorem cck_01 : cc_chk "[B" "[S" = true := by decide +kernel
theorem ccp_02 : packageOf "[B" ∈ castPackages_1 ∧ packageOf "[I" ∈ castPackages_1 := by decide +kernel
theorem cck_02 : cc_chk "[B" "[I" = true := by decide +kernel
theorem ccp_10 : packageOf "[S" ∈ castPackages_1 ∧ packageOf "[B" ∈ castPackages_1 := by decide +kernel
theorem cck_10 : cc_chk "[S" "[B" = true := by decide +kernel
theorem ccp_12 : packageOf "[S" ∈ castPackages_1 ∧ packageOf "[I" ∈ castPackages_1 := by decide +kernel
theorem cck_12 : cc_chk "[S" "[I" = true := by decide +kernel
theorem ccp_20 : packageOf "[I" ∈ castPackages_1 ∧ packageOf "[B" ∈ castPackages_1 := by decide +kernel
theorem cck_20 : cc_chk "[I" "[B" = true := by decide +kernel
theorem ccp_21 : packageOf "[I" ∈ castPackages_1 ∧ packageOf "[S" ∈ castPackages_1 := by decide +kernel
theorem cck_21 : cc_chk "[I" "[S" = true := by decide +kernel

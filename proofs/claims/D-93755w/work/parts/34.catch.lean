/-! CAUGHT (mine): the search of the exception table, the catch classes cold or warm -/
section WTC
variable {p : Program} {l : Launch} {e : Env} {R : Room} {s : State} {m : MethodId} {as : Array Value} {below : List Frame} {meth : Method} {c : Code} {H : Heap} {locs : List Loc} {cells slots : Nat} {Q : State → Prop}
variable {cc : ByteArray} {nL pc : Nat} {ls : Array Slot} {rest : List Value} {γ : wx_G} {A : Nat → Prop} {ws : va_W} {own : String} {post : Option Value → va_W → Prop} {postT : Nat → va_W → Prop} {mc ms : Nat}
/-- one covering row whose class the tables link: she takes the object, or the search goes on with the row's class noted -/
theorem wx_go_row {u : State} {f : JFrame} {a : Addr} {x : ExceptionTableEntry} {t : List ExceptionTableEntry} {k : ClassId} {cell : Cell} {G : Handler → Pre} {E : CtlPost} {b : Bool} {acts : List Action} (hx : covers x f.pc = true) (h0 : x.catchType ≠ 0) (hl : u.vm.ClassLinks e.platform f.method.cls x.catchType k) (hcell : u.heap[a]? = some cell) (hobj : ∀ j, cell.vm ≠ .statics j) (hk : ∃ z, u.vm.classes[cell.cls]? = some z) :
    wp (findHandler.go f a (x :: t)) G E e b acts u ↔ if u.vm.assignable cell.cls k = true then G (.found x.handlerPc) b acts (u.setVm (u.vm.noted f.method.cls x.catchType (.cls k))) else wp (findHandler.go f a t) G E e b acts (u.setVm (u.vm.noted f.method.cls x.catchType (.cls k))) := by
  simp only [covers] at hx
  obtain ⟨r1, r2⟩ := (resolveClass_links e.toSetting hl).op (op := VmOp.resolveClass f.method.cls x.catchType) rfl
  have same : u.vm.Alike (u.vm.noted f.method.cls x.catchType (.cls k)) := (Vm.Alike.refl u.vm).noted _ _ _
  obtain ⟨-, -, -, kc, -, -, -, -, -, hkc, -, -⟩ := hl.here
  obtain ⟨z, hz⟩ := hk
  obtain ⟨z1, hz1, -⟩ := same.2.2 _ _ hz
  obtain ⟨kc1, hkc1, -⟩ := same.2.2 _ _ hkc
  have hq : (u.vm.noted f.method.cls x.catchType (.cls k)).assignable cell.cls k = u.vm.assignable cell.cls k := same.assignable ..
  cases hfit : u.vm.assignable cell.cls k <;> rw [hfit] at hq <;> simp [findHandler.go, hx, h0, r1, r2, hcell, hobj, hz1, hkc1, hq, VmOp.dirties, VmOp.acts]
/-- the rows of a table, for an object of the class k thrown at pc: the first that takes it has the handler h -/
def wx_hit (s : State) (as : Array Value) (own : String) (k : ClassId) (pc h : Nat) : List ExceptionTableEntry → Prop
  | [] => False
  | x :: t => (covers x pc = false ∧ wx_hit s as own k pc h t) ∨ (covers x pc = true ∧ x.catchType ≠ 0 ∧ ∃ (nm : String) (j : ClassId), s.vm.findClass nm = some j ∧ (Cond.classLink own x.catchType nm).before as s = true ∧ ((s.vm.assignable k j = true ∧ x.handlerPc = h) ∨ (s.vm.assignable k j = false ∧ wx_hit s as own k pc h t)))
theorem wx_go_hit {f : JFrame} {a h : Nat} {cell : Cell} (hpl : e.platform.magicAccessors = ({} : Platform).magicAccessors) (hown : s.vm.findClass own = some f.method.cls) (hobj : ∀ j, cell.vm ≠ .statics j) (hk : ∃ z, s.vm.classes[cell.cls]? = some z) : ∀ (rows : List ExceptionTableEntry) (u : State), s.WarmedH u.vm → u.heap[a]? = some cell → wx_hit s as own cell.cls f.pc h rows →
    ∃ vm' : Vm, s.WarmedH vm' ∧ ∀ (G : Handler → Pre) (E : CtlPost) (b : Bool) (acts : List Action), wp (findHandler.go f a rows) G E e b acts u ↔ G (.found h) b acts (u.setVm vm') := by
  intro rows
  induction rows with
  | nil => intro u _ _ hh; exact absurd hh (by simp [wx_hit])
  | cons x t ih =>
    intro u hu hcell hh
    rcases hh with ⟨h1, h2⟩ | ⟨h1, h0, nm, j, hj, hlk, hor⟩
    · obtain ⟨vm', hv, hg⟩ := ih u hu hcell h2
      exact ⟨vm', hv, fun G E b acts => by rw [W.findHandler_go_skip h1]; exact hg G E b acts⟩
    · obtain ⟨j', hj', hcl⟩ := Cond.classLink_spec hown hlk e.platform hpl
      cases hj.symm.trans hj'
      obtain ⟨dk, _, _, kt, hd, _, _, _, _, hkt, _, hopen⟩ := hcl.here
      have hclu := hu.classLinks hcl
      have hW' : s.WarmedH (u.vm.noted f.method.cls x.catchType (.cls j)) := hu.noted hd hopen (State.rightAt_cls hcl)
      obtain ⟨z, hz⟩ := hk
      obtain ⟨z1, hz1, -⟩ := hu.alike.2.2 _ _ hz
      have hq : u.vm.assignable cell.cls j = s.vm.assignable cell.cls j := hu.alike.assignable ..
      rcases hor with ⟨hfit, rfl⟩ | ⟨hno, h2⟩
      · refine ⟨_, hW', fun G E b acts => ?_⟩
        rw [wx_go_row h1 h0 hclu hcell hobj ⟨z1, hz1⟩, if_pos (by rw [hq]; exact hfit)]
      · obtain ⟨vm', hv, hg⟩ := ih (u.setVm (u.vm.noted f.method.cls x.catchType (.cls j))) hW' hcell h2
        refine ⟨vm', hv, fun G E b acts => ?_⟩
        rw [wx_go_row h1 h0 hclu hcell hobj ⟨z1, hz1⟩, if_neg (by rw [hq, hno]; decide)]
        exact hg G E b acts
/-- the step that moves the frame to the handler, with the tables that the search leaves -/
theorem wx_step_to {u : State} {f : JFrame} {a h : Nat} {r : List Frame} {vm' : Vm} (hf : ∀ (G : Handler → Pre) (E : CtlPost) (b : Bool) (acts : List Action), wp (findHandler f a) G E e b acts u ↔ G (.found h) b acts (u.setVm vm')) : (stepThrowing e u a (.java f :: r)).Is ((u.setVm vm').setFrames (.java { f with pc := h, stack := [.ref a] } :: r)) [] := by
  simp only [stepThrowing, searchFrame, vmDo]
  generalize hr : Sem.go _ e false [] u = res
  obtain ⟨as2, rfl, ha⟩ := Sem.eq_ok_of hr (a := Handler.found h) (s' := u.setVm vm') (acts' := []) (by simp [hf _ _ _ _])
  exact ⟨rfl, ha⟩
theorem wx_frames_vm (u : State) (vm' : Vm) (F F2 : List Frame) : ((u.setFrames F).setVm vm').setFrames F2 = (u.setVm vm').setFrames F2 := by
  rw [show (u.setFrames F).setVm vm' = (u.setVm vm').setFrames F from rfl, State.setFrames_setFrames]
/-- CAUGHT -/
theorem wx_caught {g : JFrame} {x h : Nat} {cell : Cell} (hown : s.vm.findClass own = some m.cls) (hg : g.method = m) (hcell : H[x]? = some cell) (hobj : cell.vm.isStatics = false) (hk : ∃ z, s.vm.classes[cell.cls]? = some z) (hh : wx_hit s as own cell.cls g.pc h c.exceptionTable.toList) (k : W p l e R s m as below meth c H locs cells slots Q { g with pc := h, stack := [.ref x] }) : WT p l e R s m as below meth c H locs cells slots Q g x := by
  intro T hT X
  subst hg
  have hpl : e.platform.magicAccessors = ({} : Platform).magicAccessors := by rw [X.admits.platform]
  have hvm := Stand.throwing_vm T g x
  have hhp := Stand.throwing_heap T g x
  obtain ⟨vm', hv, hgo⟩ := wx_go_hit (e := e) (a := x) (f := g) (as := as) (h := h) hpl hown (VmData.ne_statics_of hobj) hk c.exceptionTable.toList ((T.setTop g).pushFrame (.throwing x)) (by rw [hvm]; exact X.warmed) (by rw [hhp, hT]; exact hcell) hh
  obtain ⟨t, a1, b1⟩ := k (T.setVm vm') hT (X.noted hv)
  refine ⟨t, ?_, b1⟩
  have hat : At T g.method c below := X.here
  obtain ⟨h1, h2⟩ := hat.throwing x
  refine Steps.head h1 h2 ?_
  rw [stepThread_throwing (frames_entered hat.top _), (wx_step_to (u := (T.setTop g).pushFrame (.throwing x)) (fun G E b acts => (W.findHandler_eq (by rw [hvm]; exact X.method') X.code).trans (hgo G E b acts))).1]
  obtain ⟨g0, hg0⟩ := Option.isSome_iff_exists.mp hat.top
  obtain ⟨r, hr⟩ := State.topJava?_eq_some.mp hg0
  have hr2 : (T.setVm vm').frames = .java g0 :: r := hr
  rw [State.setTop_of_frames _ hr2] at a1
  rw [hr, List.tail_cons, State.pushFrame, wx_frames_vm, State.setTop_of_frames _ hr, wx_frames_vm]
  exact a1
end WTC

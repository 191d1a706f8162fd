/-! ROWS OF THE COMPONENT'S CONSTRUCTOR (mine): an object of which only some fields are set, with a list of cells -/
set_option maxRecDepth 100000
def cb (o : Nat) (V : Nat → Value) (L : va_W) : va_W := (o, .inr (1, (List.range 49).map V)) :: L
def cb_0 (k : Nat) : Value := match tyX0 k with
  | .int => .int 0
  | .boolean => .int 0
  | _ => .null
theorem cb_set {o : Nat} {V : Nat → Value} {L : va_W} {k : Nat} {v : Value} (hk : k < 49) : (cb o V L).set 0 (o, .inr (1, ((List.range 49).map V).set k v)) = cb o (updV V k v) L := by
  unfold cb
  rw [List.set_cons_zero, wx_lset (F2 := updV V k v) hk (by simp [updV]) (fun i hi => by simp [updV, hi])]
/-- the word of the class of arrays of arrays, at a later state -/
theorem wx_aoAm {γ : wx_G} {A : Nat → Prop} {s : State} {as0 as : Array Value} {t : FieldType} (K : wx_C γ A s) (h : (Cond.arrayOver (.array t)).before as0 γ.2.2 = true) : (Cond.arrayOver (.array t)).before as s = true := by
  have hvm := K.1.2.alike
  obtain ⟨comp, k0, k, h1, h2, h3, h4, h5⟩ := arrayOverA_spec h
  obtain ⟨k2, hk2, he⟩ := hvm.2.2 _ _ h3
  have hi : (s.vm.classes.findIdx? fun (x : Class) => match x.kind with | .array component _ => component == comp | _ => false) = some k0 := by
    have e1 := va_idx_bare s.vm comp
    have e2 := va_idx_bare γ.2.2.vm comp
    have e3 : s.vm.bare = γ.2.2.vm.bare := by first | exact hvm.bare_eq | exact hvm.bare_eq.symm
    rw [e3] at e1
    exact (e1.symm.trans e2).trans h2
  have hkind : k2.kind = .array comp (.array t) := by rw [he]; exact h4
  have f1 : s.vm.findClass (FieldType.array t).toString = some comp := by rw [hvm.findClass]; exact h1
  have f2 : s.vm.findClass ("[" ++ (FieldType.array t).toString) = some k0 := by rw [hvm.findClass]; exact h5
  unfold Cond.before Cond.holds
  simp only [Cond.value]
  rw [f1, Option.bind_some]
  refine (congrArg (fun o : Option Nat => (o.bind (fun c => (s.vm.classes[c]?).map fun (k : Class) => match k.kind with | .array _ ty => decide (ty = FieldType.array t) && decide (s.vm.findClass ("[" ++ (FieldType.array t).toString) = some c) | _ => false) == some true)) hi).trans ?_
  simp [hk2, hkind, f2]
section CBR
variable {p : Program} {l : Launch} {e : Env} {R : Room} {s : State} {m : MethodId} {as : Array Value} {below : List Frame} {meth : Method} {c : Code} {H : Heap} {locs : List Loc} {cells slots : Nat} {Q : State → Prop}
variable {cc : ByteArray} {nL pc : Nat} {ls : Array Slot} {rest : List Value} {γ : wx_G} {A : Nat → Prop} {o : Nat} {V : Nat → Value} {L ws : va_W} {own : String}
theorem cb_putF (C : CallFix p m c cc nL s as lw_all RX0) (hin2 : meth.name = "<init>") (K : wx_C γ A s) (w : wx_w γ A s H locs (cb o V L)) (k : Nat) {idx : Nat} {v : Value} {ty : FieldType} (hk : k < 49) (q : Cond.fieldLink RX0 idx (TX0 k).1 (TX0 k).2.1 (TX0 k).2.2.1 ∈ lw_all) (hfin : (TX0 k).2.2.2 = true) (hown : (TX0 k).1 = RX0) (hd : parseFieldDescriptor (TX0 k).2.2.1 = some ty) (hn : narrow ty v = v) (hfit : fits ty v = true) (d : decode cc pc = .ok (.putfield idx, 3)) (kk : ∀ (H : Heap) (locs : List Loc), wx_w γ A s H locs (cb o (updV V k v) L) → W p l e R s m as below meth c H locs cells slots Q (F0 m (pc + 3) ls rest)) : W p l e R s m as below meth c H locs cells slots Q (F0 m pc ls (v :: .ref o :: rest)) := by
  refine va_putF (ci := 1) (C := RX0) (T := TX0) (N := 49) C.1 C.2.1 C.2.2.2.2 in_X0 tyX0 tyX0_ok nmX0 C.2.2.2.1 K.1.1 w.1 w.2.1 w.2.2 0 rfl rfl k hk (C.2.2.2.2 _ q) (fun _ h => h) hfin hin2 hown hd hn hfit (by rw [List.length_map, List.length_range]; exact hk) d (fun H1 locs1 hP hD hS => ?_)
  refine kk H1 locs1 ⟨?_, ?_, hS⟩
  · rw [← cb_set hk]; exact hP
  · rw [← cb_set hk]; exact hD
/-- a String constant by ldc_w -/
theorem wx_ldcwS {tx : String} {idx q : Nat} (C : CallFix p m c cc nL s as lw_all own) (hZ : vk_R own idx tx q s) (d : decode cc pc = .ok (.ldc_w idx, 3)) (k : W p l e R s m as below meth c H locs cells slots Q (F0 m (pc + 3) ls (.ref q :: rest))) : W p l e R s m as below meth c H locs cells slots Q (F0 m pc ls rest) := by
  intro T hT X
  obtain ⟨t, a1, b1⟩ := k T hT X
  refine ⟨t, ?_, b1⟩
  obtain ⟨k0, cf, i, a0, hk, hcf, hcp, -, hr, hev⟩ := Cond.stringRef_spec C.2.2.2.1 hZ.1
  cases hZ.2.symm.trans hev
  obtain ⟨k1, hk1, he⟩ := X.warmed.alike.2.2 _ _ hk
  have hr1 : k1.resolved[idx]? = some (some (.string q)) := by
    rcases X.warmed.entry hk hk1 idx with h | ⟨h, -⟩
    · rw [h]; exact hr
    · rw [hr] at h; cases h
  have hdg : decode c.code pc = .ok (.ldc_w idx, 3) := by rw [C.2.1]; exact d
  jvm_step X.here [C.1, hdg, ldc_w.wp_string (e := e) (s := T) (f := F0 m pc ls rest) X.here.top hk1 (by rw [he]; exact hcf) hcp hr1]
  exact a1
/-- a new array of arrays of nodes -/
theorem wx_newqA {n : Int32} {N idx : Nat} (G : cx_ok γ) (C : CallFix p m c cc nL s as lw_all own) (K : wx_C γ A s) (w : wx_w γ A s H locs ws) (hcl : Cond.classLink own idx "[LWalkingStones$Node;" ∈ lw_all) (hn : ¬ n < 0) (hN : n.toNatClampNeg = N) (hbytes : N * 4 ≤ 536870912) (hcells : cells + 1 ≤ R.cells) (hslots : slots + N ≤ R.slots) (d : decode cc pc = .ok (.anewarray idx, 3)) (kk : ∀ (q : Nat) (H : Heap), wx_w γ A s H locs (ws ++ [(q, .inl (γ.2.1 5, N, .inr (.inr (.inr (.inr (fun _ => none))))))]) → W p l e R s m as below meth c H locs (cells + 1) (slots + N) Q (F0 m (pc + 3) ls (.ref q :: rest))) : W p l e R s m as below meth c H locs cells slots Q (F0 m pc ls (.int n :: rest)) := by
  obtain ⟨as0, h0⟩ := G.1
  subst hN
  have hover : (Cond.arrayOver (.array (.object "WalkingStones$Node"))).before as s = true := wx_aoAm K (h0 _ q727)
  refine W.anewA (t := .object "WalkingStones$Node") C.1 C.2.1 C.2.2.2.1 (C.2.2.2.2 _ hcl) hover rfl d rfl hn hbytes hcells hslots fun cA kA comp f1 f2 f3 f4 => ?_
  have r5 : s.vm.findClass ("[" ++ (FieldType.array (.object "WalkingStones$Node")).toString) = some (γ.2.1 5) := (K.1.1.2 5 (γ.2.1 5, .array (.object "WalkingStones$Node")) rfl).2
  have e5 : cA = γ.2.1 5 := Option.some.inj (f1.symm.trans r5)
  subst e5
  generalize hH1 : H.push ({ cls := γ.2.1 5, slots := Array.replicate n.toNatClampNeg .null, vm := .none } : Cell) = H1
  have z1 : H1.size = H.size + 1 := by rw [← hH1, Array.size_push]
  have e1 : H1[H.size]? = some (arrV (γ.2.1 5) n.toNatClampNeg (fun _ => .null)) := by rw [← hH1, Array.getElem?_push_size, ← arrV_new]
  have o1 : ∀ q : Nat, q < H.size → H1[q]? = H[q]? := fun q hq => by rw [← hH1, Array.getElem?_push, if_neg (Nat.ne_of_lt hq)]
  refine kk H.size H1 ⟨(w.1.kept (fun k x hx => o1 x.1 ((w.1 k x hx).lt))).app (fun k x hx => ?_), w.2.1.push w.1 rfl (K.2.1 _ w.2.2.1), Nat.le_trans w.2.2.1 (by omega), fun x h1 h2 => (o1 x (Nat.lt_of_lt_of_le h1 w.2.2.1)).trans (w.2.2.2.1 x h1 h2), w.2.2.2.2⟩
  have hz : k < 1 := (List.getElem?_eq_some_iff.mp hx).1
  rw [show k = 0 by omega] at hx
  cases hx
  show H1[H.size]? = some (vp_cell _ _)
  rw [e1]
  rfl
end CBR

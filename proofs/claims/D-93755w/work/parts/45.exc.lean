/-! EXCEPTIONS THE MACHINE MAKES (mine; printed by gen/exc.py): their words, and how a method without a table throws them -/
set_option maxRecDepth 100000
theorem wx_ls {γ : wx_G} {A : Nat → Prop} {s : State} {as0 as : Array Value} {O f d : String} (K : wx_C γ A s) (h : (Cond.laysStatic O f d).before as0 γ.2.2 = true) : (Cond.laysStatic O f d).before as s = true := by
  obtain ⟨c, k, i, fd, a, cell, hc, hf, hst, hsta, hcell, hiss, hcls, hlt, hty⟩ := Cond.laysStatic_spec (Cond.laysStatic_setVm (s := γ.2.2) K.1.2.alike h)
  have ha : a < γ.2.2.heap.size := (Array.getElem?_eq_some_iff.mp hcell).1
  have hcell2 : s.heap[a]? = some cell := (K.2.2.2.2 a ha).trans hcell
  have hc2 : s.vm.findClass O = some c := hc
  have hf2 : s.fieldFound? O f d = some (c, k, i, fd) := hf
  simp [Cond.before, Cond.holds, Cond.value, hc2, hf2, hst, hsta, hcell2, hiss, hcls, hlt, hty]
/-- what is known of the law's start for exceptions: no stack traces; modules; Throwable's two statics -/
def ex_ok (γ : wx_G) (l : Launch) : Prop := l.stackTraces = false ∧ modulesRight_1 γ.2.2 = true ∧ (∃ u : RefV, va_Z "java/lang/Throwable" "UNASSIGNED_STACK" "[Ljava/lang/StackTraceElement;" u.v (wx_A0 γ) γ.2.2 γ.2.2.heap) ∧ (∃ u : RefV, va_Z "java/lang/Throwable" "SUPPRESSED_SENTINEL" "Ljava/util/List;" u.v (wx_A0 γ) γ.2.2 γ.2.2.heap)
theorem ex_ref {γ : wx_G} {A : Nat → Prop} {s : State} {as : Array Value} {O f d : String} (K : wx_C γ A s) (h : ∃ u : RefV, va_Z O f d u.v (wx_A0 γ) γ.2.2 γ.2.2.heap) : (Cond.isRef (.static O f d)).before as s = true := by
  obtain ⟨⟨v, hv⟩, hZ⟩ := h
  obtain ⟨cf, kf, fi, fd, a, cell, h1, h2, h3, h4, h5, h6, h7, h8⟩ := wx_Zs K hZ
  have h7 : cell.slots[fd.slot]? = some v := h7
  cases v with
  | null => simp [Cond.before, Cond.holds, Cond.value, Term.eval, State.fieldNamed?, h1, h2, h4, h5, h6, h7]
  | ref r => simp [Cond.before, Cond.holds, Cond.value, Term.eval, State.fieldNamed?, h1, h2, h4, h5, h6, h7]
  | _ => cases hv
theorem wx_same0 {s U : State} {k n : Nat} (h : s.sameButNew ({ U with vm := s.vm } : State) [] k n) : s.heap.size ≤ U.heap.size ∧ ∀ q : Nat, q < s.heap.size → U.heap[q]? = s.heap[q]? := by
  refine ⟨h.2.1, fun q hq => ?_⟩
  have hc : s.heap[q]? = some s.heap[q] := Array.getElem?_eq_getElem hq
  obtain ⟨c2, h1, h2, h3, h4⟩ := h.2.2.2.2.2 q _ hc
  have hs : c2.slots = s.heap[q].slots := Array.ext_getElem? (fun i => h4 i (by simp))
  have h1 : U.heap[q]? = some c2 := h1
  rw [h1, hc, h2, hs]
/-- a new exception's cell in the world -/
theorem wx_newx {γ : wx_G} {A : Nat → Prop} {s U : State} {ws : va_W} {x ci : Nat} {cell : Cell} {Cn : String} (K : wx_C γ A s) (w : wx_w γ A s s.heap [] ws) (hU : s.heap.size ≤ U.heap.size ∧ ∀ q : Nat, q < s.heap.size → U.heap[q]? = s.heap[q]?) (hx : s.heap.size ≤ x) (hc : U.heap[x]? = some cell) (hcl : wx_cl[ci]? = some (Cn, TX1, 0)) (hcls : s.vm.findClass Cn = some cell.cls) (hvm : cell.vm = .none) : wx_w γ A s U.heap [] ((x, .inr (ci, [])) :: ws) := by
  have hlt : ∀ (k : Nat) (q : Nat × va_E), ws[k]? = some q → q.1 < s.heap.size := fun k q hk => (w.1 k q hk).lt
  refine ⟨fun k q hk => ?_, ⟨fun i j p q hi hj e => ?_, fun k q hk => ?_⟩, hU.1, fun q h1 _ => hU.2 q h1, fun _ h => by cases h⟩
  · cases k with
    | zero =>
      have hk := Option.some.inj hk
      subst hk
      exact ⟨_, hcl, cell, hc, Option.some.inj (hcls.symm.trans (K.1.1.1 ci _ hcl).2.1), hvm, fun k hk => absurd hk (Nat.not_lt_zero _)⟩
    | succ k => exact (w.1 k q hk).kept (hU.2 _ (hlt k q hk))
  · cases i with
    | zero =>
      cases j with
      | zero => rfl
      | succ j =>
        have hi := Option.some.inj hi
        subst hi
        have := hlt j q hj
        simp only at e
        omega
    | succ i =>
      cases j with
      | zero =>
        have hj := Option.some.inj hj
        subst hj
        have := hlt i p hi
        simp only at e
        omega
      | succ j => exact congrArg Nat.succ (w.2.1.1 i j p q hi hj e)
  · cases k with
    | zero =>
      have hk := Option.some.inj hk
      subst hk
      exact K.2.1 _ hx
    | succ k => exact w.2.1.2 k q hk
theorem ex_npe {p : Program} {l : Launch} {s : State} {m : MethodId} {as : Array Value} {c : Code} {cc : ByteArray} {nL : Nat} {γ : wx_G} {A : Nat → Prop} {own : String} (XO : ex_ok γ l) (G : cx_ok γ) (C : CallFix p m c cc nL s as lw_all own) (K : wx_C γ A s) : ∀ a ∈ Bundle.npeArmAtoms 8, a.before as s = true := by
  obtain ⟨as0, h0⟩ := G.1
  intro a ha
  simp only [Bundle.npeArmAtoms, Bundle.throwableAtoms, Bundle.npeAtoms, Bundle.passAtoms, List.mem_append, List.mem_cons, List.not_mem_nil, or_false, or_assoc] at ha
  rcases ha with rfl | rfl | rfl | rfl | rfl | rfl | rfl | rfl | rfl | rfl | rfl | rfl | rfl | rfl | rfl | rfl | rfl | rfl | rfl | rfl | rfl | rfl | rfl | rfl | rfl | rfl | rfl | rfl | rfl | rfl | rfl | rfl | rfl | rfl | rfl | rfl | rfl | rfl | rfl | rfl | rfl | rfl | rfl | rfl | rfl | rfl | rfl | rfl | rfl | rfl | rfl | rfl | rfl | rfl | rfl | rfl | rfl | rfl | rfl | rfl
  · exact C.2.2.2.2 _ q107
  · exact C.2.2.2.2 _ q665
  · exact C.2.2.2.2 _ q674
  · exact C.2.2.2.2 _ q694
  · exact C.2.2.2.2 _ q697
  · exact C.2.2.2.2 _ q699
  · exact C.2.2.2.2 _ q666
  · exact C.2.2.2.2 _ q667
  · exact C.2.2.2.2 _ q184
  · exact C.2.2.2.2 _ q185
  · exact C.2.2.2.2 _ q668
  · exact C.2.2.2.2 _ q673
  · exact C.2.2.2.2 _ q695
  · exact C.2.2.2.2 _ q714
  · exact C.2.2.2.2 _ q655
  · exact C.2.2.2.2 _ q715
  · exact C.2.2.2.2 _ q657
  · exact C.2.2.2.2 _ q716
  · exact C.2.2.2.2 _ q659
  · exact C.2.2.2.2 _ q669
  · exact wx_ls K (h0 _ q670)
  · exact C.2.2.2.2 _ q671
  · exact wx_ls K (h0 _ q672)
  · exact C.2.2.2.2 _ q661
  · exact C.2.2.2.2 _ q691
  · exact C.2.2.2.2 _ q681
  · exact C.2.2.2.2 _ q682
  · exact C.2.2.2.2 _ q1209
  · exact C.2.2.2.2 _ q1211
  · exact C.2.2.2.2 _ q688
  · exact C.2.2.2.2 _ q689
  · exact va_Nw.use rfl (va_Nw.warmC K.1.2 (va_Nw.of rfl (h0 _ q1223)))
  · exact C.2.2.2.2 _ q1206
  · exact C.2.2.2.2 _ q1207
  · exact C.2.2.2.2 _ q1208
  · exact C.2.2.2.2 _ q1125
  · exact va_Nw.use rfl (va_Nw.warmD K.1.2 (va_Nw.of rfl (h0 _ q646)))
  · exact C.2.2.2.2 _ q1125
  · exact C.2.2.2.2 _ q1126
  · exact C.2.2.2.2 _ q1127
  · exact C.2.2.2.2 _ q1128
  · exact va_Nw.use rfl (va_Nw.warmD K.1.2 (va_Nw.of rfl (h0 _ q648)))
  · exact C.2.2.2.2 _ q1128
  · exact C.2.2.2.2 _ q1129
  · exact C.2.2.2.2 _ q1130
  · exact C.2.2.2.2 _ q666
  · exact va_Nw.use rfl (va_Nw.warmD K.1.2 (va_Nw.of rfl (h0 _ q650)))
  · exact C.2.2.2.2 _ q133
  · exact C.2.2.2.2 _ q686
  · exact va_Nw.use rfl (va_Nw.warmC K.1.2 (va_Nw.of rfl (h0 _ q1221)))
  · exact C.2.2.2.2 _ q1222
  · exact C.2.2.2.2 _ q680
  · exact C.2.2.2.2 _ q1217
  · exact C.2.2.2.2 _ q1218
  · exact C.2.2.2.2 _ q1220
  · exact ex_ref K XO.2.2.1
  · exact ex_ref K XO.2.2.2
  · exact C.2.2.2.2 _ q712
  · exact C.2.2.2.2 _ q663
  · exact C.2.2.2.2 _ q1215
theorem ex_neg {p : Program} {l : Launch} {s : State} {m : MethodId} {as : Array Value} {c : Code} {cc : ByteArray} {nL : Nat} {γ : wx_G} {A : Nat → Prop} {own : String} (XO : ex_ok γ l) (G : cx_ok γ) (C : CallFix p m c cc nL s as lw_all own) (K : wx_C γ A s) : ∀ a ∈ Bundle.messageArmAtoms "java/lang/NegativeArraySizeException" [Bundle.rN, Bundle.eN], a.before as s = true := by
  obtain ⟨as0, h0⟩ := G.1
  intro a ha
  simp only [Bundle.messageArmAtoms, Bundle.throwableAtoms, Bundle.throwableSAtoms, Bundle.chainSAtoms, Bundle.passSAtoms, Bundle.stringAtoms, List.mem_append, List.mem_cons, List.not_mem_nil, or_false, or_assoc] at ha
  rcases ha with rfl | rfl | rfl | rfl | rfl | rfl | rfl | rfl | rfl | rfl | rfl | rfl | rfl | rfl | rfl | rfl | rfl | rfl | rfl | rfl | rfl | rfl | rfl | rfl | rfl | rfl | rfl | rfl | rfl | rfl | rfl | rfl | rfl | rfl | rfl | rfl | rfl | rfl | rfl | rfl | rfl | rfl | rfl | rfl | rfl | rfl | rfl | rfl | rfl | rfl | rfl | rfl | rfl | rfl | rfl | rfl | rfl | rfl | rfl | rfl | rfl | rfl | rfl | rfl
  · exact C.2.2.2.2 _ q107
  · exact C.2.2.2.2 _ q665
  · exact C.2.2.2.2 _ q674
  · exact C.2.2.2.2 _ q694
  · exact C.2.2.2.2 _ q697
  · exact C.2.2.2.2 _ q699
  · exact C.2.2.2.2 _ q666
  · exact C.2.2.2.2 _ q667
  · exact C.2.2.2.2 _ q184
  · exact C.2.2.2.2 _ q185
  · exact C.2.2.2.2 _ q668
  · exact C.2.2.2.2 _ q673
  · exact C.2.2.2.2 _ q695
  · exact C.2.2.2.2 _ q714
  · exact C.2.2.2.2 _ q655
  · exact C.2.2.2.2 _ q715
  · exact C.2.2.2.2 _ q657
  · exact C.2.2.2.2 _ q716
  · exact C.2.2.2.2 _ q659
  · exact C.2.2.2.2 _ q669
  · exact wx_ls K (h0 _ q670)
  · exact C.2.2.2.2 _ q671
  · exact wx_ls K (h0 _ q672)
  · exact C.2.2.2.2 _ q661
  · exact C.2.2.2.2 _ q1180
  · exact C.2.2.2.2 _ q1181
  · exact C.2.2.2.2 _ q713
  · exact C.2.2.2.2 _ q661
  · exact C.2.2.2.2 _ q1171
  · exact C.2.2.2.2 _ q1172
  · exact C.2.2.2.2 _ q1173
  · exact C.2.2.2.2 _ q1174
  · exact va_Nw.use rfl (va_Nw.warmD K.1.2 (va_Nw.of rfl (h0 _ q647)))
  · exact C.2.2.2.2 _ q1174
  · exact C.2.2.2.2 _ q1175
  · exact C.2.2.2.2 _ q1176
  · exact C.2.2.2.2 _ q1177
  · exact va_Nw.use rfl (va_Nw.warmD K.1.2 (va_Nw.of rfl (h0 _ q649)))
  · exact C.2.2.2.2 _ q1177
  · exact C.2.2.2.2 _ q1178
  · exact C.2.2.2.2 _ q1179
  · exact C.2.2.2.2 _ q1180
  · exact va_Nw.use rfl (va_Nw.warmD K.1.2 (va_Nw.of rfl (h0 _ q651)))
  · exact C.2.2.2.2 _ q112
  · exact C.2.2.2.2 _ q1191
  · exact C.2.2.2.2 _ q582
  · exact C.2.2.2.2 _ q1192
  · exact C.2.2.2.2 _ q1194
  · exact C.2.2.2.2 _ q1193
  · exact C.2.2.2.2 _ q1195
  · exact C.2.2.2.2 _ q132
  · exact C.2.2.2.2 _ q1170
  · exact va_Nw.use rfl (va_Nw.warmC K.1.2 (va_Nw.of rfl (h0 _ q1189)))
  · exact C.2.2.2.2 _ q1190
  · exact C.2.2.2.2 _ q679
  · exact C.2.2.2.2 _ q1184
  · exact C.2.2.2.2 _ q1185
  · exact C.2.2.2.2 _ q1187
  · exact C.2.2.2.2 _ q1183
  · exact ex_ref K XO.2.2.1
  · exact ex_ref K XO.2.2.2
  · exact C.2.2.2.2 _ q712
  · exact C.2.2.2.2 _ q663
  · exact C.2.2.2.2 _ q1182
theorem ex_cce {p : Program} {l : Launch} {s : State} {m : MethodId} {as : Array Value} {c : Code} {cc : ByteArray} {nL : Nat} {γ : wx_G} {A : Nat → Prop} {own : String} (XO : ex_ok γ l) (G : cx_ok γ) (C : CallFix p m c cc nL s as lw_all own) (K : wx_C γ A s) : ∀ a ∈ Bundle.messageArmAtoms "java/lang/ClassCastException" [Bundle.rN, Bundle.eN], a.before as s = true := by
  obtain ⟨as0, h0⟩ := G.1
  intro a ha
  simp only [Bundle.messageArmAtoms, Bundle.throwableAtoms, Bundle.throwableSAtoms, Bundle.chainSAtoms, Bundle.passSAtoms, Bundle.stringAtoms, List.mem_append, List.mem_cons, List.not_mem_nil, or_false, or_assoc] at ha
  rcases ha with rfl | rfl | rfl | rfl | rfl | rfl | rfl | rfl | rfl | rfl | rfl | rfl | rfl | rfl | rfl | rfl | rfl | rfl | rfl | rfl | rfl | rfl | rfl | rfl | rfl | rfl | rfl | rfl | rfl | rfl | rfl | rfl | rfl | rfl | rfl | rfl | rfl | rfl | rfl | rfl | rfl | rfl | rfl | rfl | rfl | rfl | rfl | rfl | rfl | rfl | rfl | rfl | rfl | rfl | rfl | rfl | rfl | rfl | rfl | rfl | rfl | rfl | rfl | rfl
  · exact C.2.2.2.2 _ q107
  · exact C.2.2.2.2 _ q665
  · exact C.2.2.2.2 _ q674
  · exact C.2.2.2.2 _ q694
  · exact C.2.2.2.2 _ q697
  · exact C.2.2.2.2 _ q699
  · exact C.2.2.2.2 _ q666
  · exact C.2.2.2.2 _ q667
  · exact C.2.2.2.2 _ q184
  · exact C.2.2.2.2 _ q185
  · exact C.2.2.2.2 _ q668
  · exact C.2.2.2.2 _ q673
  · exact C.2.2.2.2 _ q695
  · exact C.2.2.2.2 _ q714
  · exact C.2.2.2.2 _ q655
  · exact C.2.2.2.2 _ q715
  · exact C.2.2.2.2 _ q657
  · exact C.2.2.2.2 _ q716
  · exact C.2.2.2.2 _ q659
  · exact C.2.2.2.2 _ q669
  · exact wx_ls K (h0 _ q670)
  · exact C.2.2.2.2 _ q671
  · exact wx_ls K (h0 _ q672)
  · exact C.2.2.2.2 _ q661
  · exact C.2.2.2.2 _ q1180
  · exact C.2.2.2.2 _ q1181
  · exact C.2.2.2.2 _ q713
  · exact C.2.2.2.2 _ q661
  · exact C.2.2.2.2 _ q1255
  · exact C.2.2.2.2 _ q1256
  · exact C.2.2.2.2 _ q1257
  · exact C.2.2.2.2 _ q1174
  · exact va_Nw.use rfl (va_Nw.warmD K.1.2 (va_Nw.of rfl (h0 _ q647)))
  · exact C.2.2.2.2 _ q1174
  · exact C.2.2.2.2 _ q1175
  · exact C.2.2.2.2 _ q1176
  · exact C.2.2.2.2 _ q1177
  · exact va_Nw.use rfl (va_Nw.warmD K.1.2 (va_Nw.of rfl (h0 _ q649)))
  · exact C.2.2.2.2 _ q1177
  · exact C.2.2.2.2 _ q1178
  · exact C.2.2.2.2 _ q1179
  · exact C.2.2.2.2 _ q1180
  · exact va_Nw.use rfl (va_Nw.warmD K.1.2 (va_Nw.of rfl (h0 _ q651)))
  · exact C.2.2.2.2 _ q112
  · exact C.2.2.2.2 _ q1191
  · exact C.2.2.2.2 _ q582
  · exact C.2.2.2.2 _ q1192
  · exact C.2.2.2.2 _ q1194
  · exact C.2.2.2.2 _ q1193
  · exact C.2.2.2.2 _ q1195
  · exact C.2.2.2.2 _ q135
  · exact C.2.2.2.2 _ q1254
  · exact va_Nw.use rfl (va_Nw.warmC K.1.2 (va_Nw.of rfl (h0 _ q1265)))
  · exact C.2.2.2.2 _ q1266
  · exact C.2.2.2.2 _ q677
  · exact C.2.2.2.2 _ q1260
  · exact C.2.2.2.2 _ q1261
  · exact C.2.2.2.2 _ q1263
  · exact C.2.2.2.2 _ q1259
  · exact ex_ref K XO.2.2.1
  · exact ex_ref K XO.2.2.2
  · exact C.2.2.2.2 _ q712
  · exact C.2.2.2.2 _ q663
  · exact C.2.2.2.2 _ q1258
theorem ex_ioo {p : Program} {l : Launch} {s : State} {m : MethodId} {as : Array Value} {c : Code} {cc : ByteArray} {nL : Nat} {γ : wx_G} {A : Nat → Prop} {own : String} (XO : ex_ok γ l) (G : cx_ok γ) (C : CallFix p m c cc nL s as lw_all own) (K : wx_C γ A s) : ∀ a ∈ Bundle.ownAtoms0 RX0 522 "java/lang/IndexOutOfBoundsException" [Bundle.rN, Bundle.eN], a.before as s = true := by
  obtain ⟨as0, h0⟩ := G.1
  intro a ha
  simp only [Bundle.ownAtoms0, Bundle.throwableAtoms, Bundle.chain0Atoms, Bundle.passAtoms, List.mem_append, List.mem_cons, List.not_mem_nil, or_false, or_assoc] at ha
  rcases ha with rfl | rfl | rfl | rfl | rfl | rfl | rfl | rfl | rfl | rfl | rfl | rfl | rfl | rfl | rfl | rfl | rfl | rfl | rfl | rfl | rfl | rfl | rfl | rfl | rfl | rfl | rfl | rfl | rfl | rfl | rfl | rfl | rfl | rfl | rfl | rfl | rfl | rfl | rfl | rfl | rfl | rfl | rfl | rfl | rfl | rfl | rfl | rfl | rfl | rfl | rfl | rfl | rfl
  · exact C.2.2.2.2 _ q107
  · exact C.2.2.2.2 _ q665
  · exact C.2.2.2.2 _ q674
  · exact C.2.2.2.2 _ q694
  · exact C.2.2.2.2 _ q697
  · exact C.2.2.2.2 _ q699
  · exact C.2.2.2.2 _ q666
  · exact C.2.2.2.2 _ q667
  · exact C.2.2.2.2 _ q184
  · exact C.2.2.2.2 _ q185
  · exact C.2.2.2.2 _ q668
  · exact C.2.2.2.2 _ q673
  · exact C.2.2.2.2 _ q695
  · exact C.2.2.2.2 _ q714
  · exact C.2.2.2.2 _ q655
  · exact C.2.2.2.2 _ q715
  · exact C.2.2.2.2 _ q657
  · exact C.2.2.2.2 _ q716
  · exact C.2.2.2.2 _ q659
  · exact C.2.2.2.2 _ q669
  · exact wx_ls K (h0 _ q670)
  · exact C.2.2.2.2 _ q671
  · exact wx_ls K (h0 _ q672)
  · exact C.2.2.2.2 _ q661
  · exact C.2.2.2.2 _ q1122
  · exact C.2.2.2.2 _ q1123
  · exact C.2.2.2.2 _ q1124
  · exact C.2.2.2.2 _ q1125
  · exact va_Nw.use rfl (va_Nw.warmD K.1.2 (va_Nw.of rfl (h0 _ q646)))
  · exact C.2.2.2.2 _ q1125
  · exact C.2.2.2.2 _ q1126
  · exact C.2.2.2.2 _ q1127
  · exact C.2.2.2.2 _ q1128
  · exact va_Nw.use rfl (va_Nw.warmD K.1.2 (va_Nw.of rfl (h0 _ q648)))
  · exact C.2.2.2.2 _ q1128
  · exact C.2.2.2.2 _ q1129
  · exact C.2.2.2.2 _ q1130
  · exact C.2.2.2.2 _ q666
  · exact va_Nw.use rfl (va_Nw.warmD K.1.2 (va_Nw.of rfl (h0 _ q650)))
  · exact C.2.2.2.2 _ q1121
  · exact C.2.2.2.2 _ q1113
  · exact va_Nw.use rfl (va_Nw.warmC K.1.2 (va_Nw.of rfl (h0 _ q1114)))
  · exact C.2.2.2.2 _ q1115
  · exact C.2.2.2.2 _ q678
  · exact C.2.2.2.2 _ q1116
  · exact C.2.2.2.2 _ q1117
  · exact C.2.2.2.2 _ q1118
  · exact C.2.2.2.2 _ q1119
  · exact ex_ref K XO.2.2.1
  · exact ex_ref K XO.2.2.2
  · exact C.2.2.2.2 _ q712
  · exact C.2.2.2.2 _ q663
  · exact C.2.2.2.2 _ q1120
/-- NullPointerException, out of a method without a table -/
theorem wx_npeOut {p : Program} {l : Launch} {e : Env} {R : Room} {s : State} {m : MethodId} {as : Array Value} {below : List Frame} {meth : Method} {c : Code} {cc : ByteArray} {nL : Nat} {γ : wx_G} {A : Nat → Prop} {own : String} {ws : va_W} {g g0 : JFrame} {post : Option Value → va_W → Prop} {postT : Nat → va_W → Prop} {mc ms : Nat} (XO : ex_ok γ l) (G : cx_ok γ) (C : CallFix p m c cc nL s as lw_all own) (K : wx_C γ A s) (w : wx_w γ A s s.heap [] ws) (hlocks : meth.locks = false) (htab : c.exceptionTable.isEmpty = true) (hg : g.method = m) (hsz : g.locals.size = nL) (hlk : g.locked = none) (hen : g.entered = [])
    (hst : ∀ T : State, Stand p l e R s m as below meth c T [] 0 0 → ∀ target, Steps p.tables e below ((T.setTop g).pushFrame (.throwNew "java/lang/NullPointerException" none none)) target → Steps p.tables e below (T.setTop g0) target) (hR : 8 ≤ R.frames ∧ 2 * g.monitorRoom + (g.stack.map fun v => v.category).sum + 10240 ≤ R.locals) (hf : 1 ≤ R.cells ∧ 8 ≤ R.slots) (hm : 1 ≤ mc ∧ 8 ≤ ms) (hp : ∀ x, postT x ((x, .inr (14, [])) :: ws)) : W p l e R s m as below meth c s.heap [] 0 0 (wx_QX γ post postT A as s below mc ms) g0 := by
  intro T hT X
  have htr : e.platform.stackTraces = false := by rw [X.admits.platform]; exact XO.1
  obtain ⟨U, h1, h2, h3, h4, h5, cell, hc, KN⟩ := X.npeArm C.1 htr (n := 8) (ex_npe XO G C K) (fun x hx => by cases hx) hg (by rw [hsz, C.2.2.1]) hlk hen (wx_none htab _) (by omega) hR.2 (by omega) (by omega) hlocks
  have hU := wx_same0 h5
  have w2 := wx_newx (Cn := "java/lang/NullPointerException") (ci := 14) K w hU (by rw [hT]; exact Nat.le_refl _) hc rfl KN.cls KN.vm
  exact ⟨U, hst T X U h1, .threw T.heap.size, h2, h3, ⟨Or.inr ⟨T.heap.size, _, rfl, hp _, w2.1, w2.2.1⟩, w2.2.2.F rfl⟩, [], ⟨h4, h5.mono (by omega) (by omega)⟩, fun _ h => by cases h⟩
/-- an exception with a message, out of a method without a table -/
theorem wx_msgOut {p : Program} {l : Launch} {e : Env} {R : Room} {s : State} {m : MethodId} {as : Array Value} {below : List Frame} {meth : Method} {c : Code} {cc : ByteArray} {nL : Nat} {γ : wx_G} {A : Nat → Prop} {own : String} {ws : va_W} {g g0 : JFrame} {post : Option Value → va_W → Prop} {postT : Nat → va_W → Prop} {mc ms ci : Nat} {Cn text : String} (XO : ex_ok γ l) (hcl : wx_cl[ci]? = some (Cn, TX1, 0)) (hfit : Bundle.fit Cn = true ∧ (Cn == "java/lang/StackOverflowError") = false ∧ (Cn == "java/lang/OutOfMemoryError") = false) (hws : ∀ a ∈ Bundle.messageArmAtoms Cn [Bundle.rN, Bundle.eN], a.before as s = true) (C : CallFix p m c cc nL s as lw_all own) (K : wx_C γ A s) (w : wx_w γ A s s.heap [] ws) (hlocks : meth.locks = false) (htab : c.exceptionTable.isEmpty = true) (hg : g.method = m) (hsz : g.locals.size = nL) (hlk : g.locked = none) (hen : g.entered = []) (htx : (text == notModelled) = false) (hlen : (stringBytes (stringToUtf16 text)).size ≤ 1200)
    (hst : ∀ T : State, Stand p l e R s m as below meth c T [] 0 0 → ∀ target, Steps p.tables e below ((T.setTop g).pushFrame (.throwNew Cn (some text) none)) target → Steps p.tables e below (T.setTop g0) target) (hR : 8 ≤ R.frames ∧ 2 * g.monitorRoom + (g.stack.map fun v => v.category).sum + 10240 ≤ R.locals) (hf : 3 ≤ R.cells ∧ 1210 ≤ R.slots) (hm : 3 ≤ mc ∧ 1210 ≤ ms) (hp : ∀ x, postT x ((x, .inr (ci, [])) :: ws)) : W p l e R s m as below meth c s.heap [] 0 0 (wx_QX γ post postT A as s below mc ms) g0 := by
  intro T hT X
  have htr : e.platform.stackTraces = false := by rw [X.admits.platform]; exact XO.1
  have hlim : e.platform.arrayLengthLimit = ({} : Platform).arrayLengthLimit := by rw [X.admits.platform]
  have hhp : e.platform.maxHeapBytes = ({} : Platform).maxHeapBytes := by rw [X.admits.platform]
  obtain ⟨U, h1, h2, h3, h4, ⟨n, hn, h5⟩, cb, cs, cell, -, -, hc, -, -, KN⟩ := X.messageArmCells C.1 htr (names := [Bundle.rN, Bundle.eN]) hfit.1 (by intro n hn; simp only [List.mem_cons, List.not_mem_nil, or_false] at hn; rcases hn with rfl | rfl <;> decide) hfit.2.1 hfit.2.2 hws (fun x hx => by cases hx) htx (by rw [hlim]; show ¬ _ > (2147483645 : Nat); omega) (by rw [hhp]; show ¬ _ * 1 > (536870912 : Nat); omega) hg (by rw [hsz, C.2.2.1]) hlk hen (wx_none htab _) (by show 6 < _; omega) hR.2 (by decide) (by omega) (by omega) hlocks
  have hU := wx_same0 h5
  have w2 := wx_newx (Cn := Cn) (ci := ci) K w hU (by rw [hT]; omega) hc hcl KN.cls KN.vm
  exact ⟨U, hst T X U h1, .threw (T.heap.size + 2), h2, h3, ⟨Or.inr ⟨_, _, rfl, hp _, w2.1, w2.2.1⟩, w2.2.2.F rfl⟩, [], ⟨h4, h5.mono (by omega) (by omega)⟩, fun _ h => by cases h⟩

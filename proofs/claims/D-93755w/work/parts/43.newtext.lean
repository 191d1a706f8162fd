/-! newText (mine; printed by gen/newtext.py): three parts, each a key, an either and a semicolon; Faulty is caught -/
set_option maxRecDepth 100000
/-- the rows of a table, as the words tell them -/
def wx_hitH (s : State) (as : Array Value) (own : String) (k : ClassId) (pc h : Nat) : List (Nat × Nat × Nat × Nat) → Prop
  | [] => False
  | x :: t => (¬ (x.1 ≤ pc ∧ pc < x.2.1) ∧ wx_hitH s as own k pc h t) ∨ ((x.1 ≤ pc ∧ pc < x.2.1) ∧ x.2.2.2 ≠ 0 ∧ ∃ (nm : String) (j : ClassId), s.vm.findClass nm = some j ∧ (Cond.classLink own x.2.2.2 nm).before as s = true ∧ ((s.vm.assignable k j = true ∧ x.2.2.1 = h) ∨ (s.vm.assignable k j = false ∧ wx_hitH s as own k pc h t)))
theorem wx_hit_of {s : State} {as : Array Value} {own : String} {k : ClassId} {pc h : Nat} : ∀ (rows : List ExceptionTableEntry) (hh : List (Nat × Nat × Nat × Nat)), rows.map (fun h => (h.startPc, h.endPc, h.handlerPc, h.catchType)) = hh → wx_hitH s as own k pc h hh → wx_hit s as own k pc h rows := by
  intro rows
  induction rows with
  | nil =>
    intro hh e hit
    subst e
    exact hit.elim
  | cons x t ih =>
    intro hh e hit
    subst e
    rcases hit with ⟨h1, h2⟩ | ⟨h1, h0, nm, j, hj, hl, hor⟩
    · refine Or.inl ⟨?_, ih _ rfl h2⟩
      simp only [covers]
      simpa using h1
    · refine Or.inr ⟨?_, h0, nm, j, hj, hl, ?_⟩
      · simp only [covers]
        simpa using h1
      · rcases hor with h3 | ⟨h3, h4⟩
        · exact Or.inl h3
        · exact Or.inr ⟨h3, ih _ rfl h4⟩
/-- a contract by its body, with the method's table told -/
theorem wx_MH.of {γ : wx_G} {l : Launch} {y : MethodName} {rm : Room} {args : List Value} {ws : va_W} {post : Option Value → va_W → Prop} {mc ms maxL : Nat} {cc : ByteArray} {ret : Option FieldType} {hh : List (Nat × Nat × Nat × Nat)} (hy : plainName y.cls = true) (hz : (lg_sl args).length ≤ maxL)
    (body : ∀ (p : Program) (e : Env) (s : State) (m : MethodId) (as : Array Value) (below : List Frame) (meth : Method) (c : Code) (A : Nat → Prop) (ls : Array Slot), CallFix p m c cc maxL s as lw_all y.cls → wx_C γ A s → wx_w γ A s s.heap [] ws → meth.sig.returnType = ret → meth.locks = false → c.exceptionTable.toList.map (fun h => (h.startPc, h.endPc, h.handlerPc, h.catchType)) = hh → lv_has ls maxL (lv_args 0 args) → W p l e rm s m as below meth c s.heap [] 0 0 (wx_Q γ post A as s below mc ms) (F0 m 0 ls [])) : wx_M γ l y (wsW_ y cc maxL ret hh) rm args ws post mc ms := by
  intro sz
  refine va_MetW (cc := cc) (maxL := maxL) (ret := ret) (hh := hh) hy rfl ?_
  intro p e s m as below meth c s₁ B hml hv
  obtain ⟨has, hsz, hP, hK, hD, hO⟩ := hv
  subst has
  subst hsz
  have hts0 := atoms_spec (ws := wsW_ y cc maxL ret hh) B.pre
  have hts : ∀ w ∈ lw_all, w.before _ s = true := fun w h => hts0 w (List.mem_cons_of_mem _ h)
  have hl := lv_entry args (n := maxL) hz
  rw [lg_entry_eq]
  have hA : ∀ q : Nat, va_A ws s.heap.size q → γ.2.2.heap.size ≤ q := by
    intro q h
    rcases h with ⟨k, e, h⟩ | h
    · exact hD.2 k (q, e) h
    · exact Nat.le_trans hO.1 h
  have htab : c.exceptionTable.toList.map (fun h => (h.startPc, h.endPc, h.handlerPc, h.catchType)) = hh := by
    obtain ⟨m9, meth9, c9, n1, n2, n3, -, -, n4, -⟩ := Cond.codeWith_spec (hts0 _ List.mem_cons_self)
    cases B.named.symm.trans n1
    cases B.method.symm.trans n2
    cases (Stand.of_body B).code.symm.trans n3
    exact n4
  exact body p e s m _ below meth c (va_A ws s.heap.size) _ ⟨B.exec, B.bytes, hml, findClass_of_methodNamed B.named, hts⟩ ⟨hK, fun q h => Or.inr h, hA, hO⟩ ⟨hP, hD.self, va_S.rf⟩ B.returns B.notSynchronized htab hl
abbrev e_row (γ : wx_G) (rf : Nat → Option Nat) : va_E := .inl (γ.2.1 4, 3, .inr (.inr (.inr (.inr rf))))
abbrev e_txt (γ : wx_G) (tf : Nat → Option Nat) : va_E := .inl (γ.2.1 5, 6, .inr (.inr (.inr (.inr tf))))
/-- a new array of objects -/
theorem wx_newq {p : Program} {l : Launch} {e : Env} {R : Room} {s : State} {m : MethodId} {as : Array Value} {below : List Frame} {meth : Method} {c : Code} {H : Heap} {locs : List Loc} {cells slots : Nat} {Q : State → Prop} {cc : ByteArray} {nL pc : Nat} {ls : Array Slot} {rest : List Value} {γ : wx_G} {A : Nat → Prop} {ws : va_W} {own Cn : String} (t0 : Nat) {idx N : Nat} {n : Int32} (C : CallFix p m c cc nL s as lw_all own) (K : wx_C γ A s) (w : wx_w γ A s H locs ws) (hcl : Cond.classLink own idx Cn ∈ lw_all) (hov : va_AO Cn s) (ht : (wx_tys γ)[t0]? = some (γ.2.1 t0, .object Cn)) (hn : ¬ n < 0) (hN : n.toNatClampNeg = N) (hbytes : N * 4 ≤ 536870912) (hcells : cells + 1 ≤ R.cells) (hslots : slots + N ≤ R.slots) (d : decode cc pc = .ok (.anewarray idx, 3)) (kk : ∀ (q : Nat) (H : Heap), wx_w γ A s H locs ((q, .inl (γ.2.1 t0, N, .inr (.inr (.inr (.inr (fun _ => none)))))) :: ws) → W p l e R s m as below meth c H locs (cells + 1) (slots + N) Q (F0 m (pc + 3) ls (.ref q :: rest))) : W p l e R s m as below meth c H locs cells slots Q (F0 m pc ls (.int n :: rest)) := by
  refine va_newq C.1 C.2.1 C.2.2.2.1 (C.2.2.2.2 _ hcl) hov K.1.1 w.1 w.2.1 w.2.2 K.2.1 hn hN hbytes hcells hslots d (fun q cA H1 hK1 hP hD hS => ?_)
  obtain ⟨_, _, -, -, -, h1⟩ := (hK1.2 (wx_tys γ).length (cA, .object Cn) (by rw [List.getElem?_append_right (Nat.le_refl _), Nat.sub_self]; rfl)).2
  obtain ⟨_, _, -, -, -, h2⟩ := (K.1.1.2 t0 _ ht).2
  have e : cA = γ.2.1 t0 := Option.some.inj (h1.symm.trans h2)
  subst e
  exact kk q H1 (wx_w.perm ⟨hP, hD, hS⟩ (List.perm_append_singleton _ _))
theorem nd_cell {L : va_W} {o a : Nat} {r : xR} : ∀ d : Nat, nd L o d a r → ∃ (ci : Nat) (vs : List Value), (a, .inr (ci, vs)) ∈ L ∧ (ci = 8 ∨ ci = 9 ∨ ci = 10 ∨ ci = 11) := by
  intro d h
  cases d with
  | zero => exact h.elim
  | succ d =>
    rcases h with ⟨v, hm, -⟩ | ⟨v, hm, -⟩ | ⟨x, v, rx, hm, -⟩ | ⟨v, x, y, rx, ry, hm, -⟩
    · exact ⟨8, _, hm, Or.inl rfl⟩
    · exact ⟨9, _, hm, Or.inr (Or.inl rfl)⟩
    · exact ⟨10, _, hm, Or.inr (Or.inr (Or.inl rfl))⟩
    · exact ⟨11, _, hm, Or.inr (Or.inr (Or.inr rfl))⟩
theorem cw_mem {γ : wx_G} {o : Nat} {ad : Nat → Nat} {f : xF} {g : xG} {ρ : va_W} {x : Nat × va_E} (h : x ∈ ρ) : x ∈ cw γ o ad f g ρ := List.mem_cons_of_mem _ (List.mem_append_right _ h)
/-- a node goes into a row -/
theorem c_nast {p : Program} {l : Launch} {e : Env} {R : Room} {s : State} {m : MethodId} {as : Array Value} {below : List Frame} {meth : Method} {c : Code} {H : Heap} {locs : List Loc} {cells slots : Nat} {Q : State → Prop} {cc : ByteArray} {nL pc : Nat} {ls : Array Slot} {rest : List Value} {γ : wx_G} {A : Nat → Prop} {o : Nat} {ad : Nat → Nat} {f : xF} {g : xG} {own : String} {ra a dn : Nat} {rf : Nat → Option Nat} {i : Int32} {L L2 : va_W} {r : xR} (G : cx_ok γ) (C : CallFix p m c cc nL s as lw_all own) (K : wx_C γ A s) (w : wx_w γ A s H locs ((ra, e_row γ rf) :: cw γ o ad f g L)) (hn : nd L2 o dn a r) (hL : ∀ (a : Nat) (e : Nat × List Value), (a, .inr e) ∈ L2 → (a, .inr e) ∈ L) (hi : vp_in i 3) (d : decode cc pc = .ok (.aastore, 1)) (kk : ∀ (H : Heap) (locs : List Loc), wx_w γ A s H locs ((ra, e_row γ (va_up rf i.toNatClampNeg (some a))) :: cw γ o ad f g L) → W p l e R s m as below meth c H locs cells slots Q (F0 m (pc + 1) ls rest)) : W p l e R s m as below meth c H locs cells slots Q (F0 m pc ls (.ref a :: .int i :: .ref ra :: rest)) := by
  obtain ⟨as0, h0⟩ := G.1
  obtain ⟨ci, vs, hm, hc⟩ := nd_cell dn hn
  obtain ⟨qk, hq⟩ := List.getElem?_of_mem (List.mem_cons_of_mem (ra, e_row γ rf) (cw_mem (γ := γ) (o := o) (ad := ad) (f := f) (g := g) (hL _ _ hm)))
  rcases hc with rfl | rfl | rfl | rfl
  · exact va_astqO (r := (RX5, TX5, 1)) (E := "WalkingStones$Node") C.1 C.2.1 K.1.1 w.1 w.2.1 w.2.2 0 4 qk 8 rfl rfl (va_Nw.warmC K.1.2 (va_Nw.of rfl (h0 _ q1836))) hq rfl hi d (fun H1 locs1 hP hD hS => kk H1 locs1 ⟨hP, hD, hS⟩)
  · exact va_astqO (r := (RX6, TX6, 2)) (E := "WalkingStones$Node") C.1 C.2.1 K.1.1 w.1 w.2.1 w.2.2 0 4 qk 9 rfl rfl (va_Nw.warmC K.1.2 (va_Nw.of rfl (h0 _ q1837))) hq rfl hi d (fun H1 locs1 hP hD hS => kk H1 locs1 ⟨hP, hD, hS⟩)
  · exact va_astqO (r := (RX4, TX4, 2)) (E := "WalkingStones$Node") C.1 C.2.1 K.1.1 w.1 w.2.1 w.2.2 0 4 qk 10 rfl rfl (va_Nw.warmC K.1.2 (va_Nw.of rfl (h0 _ q1835))) hq rfl hi d (fun H1 locs1 hP hD hS => kk H1 locs1 ⟨hP, hD, hS⟩)
  · exact va_astqO (r := (RX7, TX7, 3)) (E := "WalkingStones$Node") C.1 C.2.1 K.1.1 w.1 w.2.1 w.2.2 0 4 qk 11 rfl rfl (va_Nw.warmC K.1.2 (va_Nw.of rfl (h0 _ q1838))) hq rfl hi d (fun H1 locs1 hP hD hS => kk H1 locs1 ⟨hP, hD, hS⟩)
theorem wx_self (vm : Vm) (k : ClassId) : vm.assignable k k = true := by
  show vm.assignableAux (255 + 1) k k = true
  rw [Vm.assignableAux]
  simp only [beq_self_eq_true, Bool.true_or]
/-- an array class over arrays: what its word tells -/
theorem wx_aoA {args : Array Value} {s : State} {t : FieldType} (h : (Cond.arrayOver (.array t)).before args s = true) : ∃ (comp k0 : ClassId) (k : Class), s.vm.findClass (FieldType.array t).toString = some comp ∧ s.vm.classes[k0]? = some k ∧ k.kind = .array comp (.array t) ∧ s.vm.findClass ("[" ++ (FieldType.array t).toString) = some k0 := by
  simp only [Cond.before, Cond.holds, Cond.value, beq_iff_eq] at h
  cases hc : s.vm.findClass (FieldType.array t).toString with
  | none => simp [hc] at h
  | some comp =>
    simp only [hc, Option.bind_some, Option.bind_eq_some_iff, Option.map_eq_some_iff] at h
    obtain ⟨k0, hi, k, hk, hb⟩ := h
    obtain ⟨hlt, hp, -⟩ := Array.findIdx?_eq_some_iff_getElem.mp hi
    have hkk : s.vm.classes[k0] = k := (Array.getElem?_eq_some_iff.mp hk).2
    rw [hkk] at hp
    cases hkind : k.kind with
    | array component ty =>
      rw [hkind] at hb hp
      simp at hb hp
      exact ⟨comp, k0, k, rfl, hk, by rw [hkind, hp, hb.1], hb.2⟩
    | _ => rw [hkind] at hb; simp at hb
/-- a row goes into the texts -/
theorem c_tast {p : Program} {l : Launch} {e : Env} {R : Room} {s : State} {m : MethodId} {as : Array Value} {below : List Frame} {meth : Method} {c : Code} {H : Heap} {locs : List Loc} {cells slots : Nat} {Q : State → Prop} {cc : ByteArray} {nL pc : Nat} {ls : Array Slot} {rest : List Value} {γ : wx_G} {A : Nat → Prop} {own : String} {ra ta : Nat} {rf tf : Nat → Option Nat} {i : Int32} {ws : va_W} (G : cx_ok γ) (C : CallFix p m c cc nL s as lw_all own) (K : wx_C γ A s) (w : wx_w γ A s H locs ((ta, e_txt γ tf) :: ws)) (hr : (ra, e_row γ rf) ∈ ws) (hi : vp_in i 6) (d : decode cc pc = .ok (.aastore, 1)) (kk : ∀ (H : Heap) (locs : List Loc), wx_w γ A s H locs ((ta, e_txt γ (va_up tf i.toNatClampNeg (some ra))) :: ws) → W p l e R s m as below meth c H locs cells slots Q (F0 m (pc + 1) ls rest)) : W p l e R s m as below meth c H locs cells slots Q (F0 m pc ls (.ref ra :: .int i :: .ref ta :: rest)) := by
  obtain ⟨as0, h0⟩ := G.1
  obtain ⟨qk, hq⟩ := List.getElem?_of_mem (List.mem_cons_of_mem (ta, e_txt γ tf) hr)
  have hlt : i.toNatClampNeg < 6 := Nat.not_le.mp fun q => hi (Or.inr q)
  have hi0 : ¬ i < 0 := fun q => hi (Or.inl q)
  obtain ⟨comp, k0, k, e1, e2, e3, e4⟩ := wx_aoA (h0 _ q727)
  have hal := K.1.2.alike
  obtain ⟨k2, hk2, he⟩ := hal.2.2 _ _ e2
  have r5 : s.vm.findClass ("[" ++ (FieldType.array (.object "WalkingStones$Node")).toString) = some (γ.2.1 5) := (K.1.1.2 5 (γ.2.1 5, .array (.object "WalkingStones$Node")) rfl).2
  obtain ⟨kR, compR, f1, f2, f3, f4⟩ := (K.1.1.2 4 (γ.2.1 4, .object "WalkingStones$Node") rfl).2
  have hk0 : k0 = γ.2.1 5 := Option.some.inj ((by rw [hal.findClass]; exact e4 : s.vm.findClass _ = some k0).symm.trans r5)
  have hcomp : comp = γ.2.1 4 := Option.some.inj ((by rw [hal.findClass]; exact e1 : s.vm.findClass _ = some comp).symm.trans f4)
  subst hk0
  subst hcomp
  have g1 : H[ra]? = some (vp_cell (γ.2.1 4) (3, .inr (.inr (.inr (.inr rf))))) := w.1 qk _ hq
  refine W.aast C.1 C.2.1 (w.1 0 _ rfl) (fun q h => by cases h) (fun h => by cases h) hk2 (by rw [he]; exact e3) rfl f1 ⟨hi0, by show _ < (arrV _ _ _).slots.size; rw [arrV_size]; exact hlt⟩ g1 (fun q h => by cases h) f1 (wx_self _ _) rfl rfl d fun H1 e z oq => ?_
  have he0 : ((ta, e_txt γ tf) :: ws)[0]? = some (ta, e_txt γ tf) := rfl
  refine kk H1 _ ⟨w.1.set w.2.1 he0 ?_ oq, w.2.1.set he0, w.2.2.put z oq (w.2.1.2 0 _ he0)⟩
  show H1[ta]? = some (vp_cell _ _)
  rw [e]
  show some ((vp_cell (γ.2.1 5) (6, .inr (.inr (.inr (.inr tf))))).setSlot i.toNatClampNeg (.ref ra)) = some (vp_cell (γ.2.1 5) (6, .inr (.inr (.inr (.inr (va_up tf i.toNatClampNeg (some ra)))))))
  rw [vp_cell_q, vp_cell_q, arrV_store]
  congr 2
  funext q
  by_cases hq : q = i.toNatClampNeg
  · subst hq
    simp [updV, va_up, va_rf]
  · simp [updV, va_up, hq]
def q_part (P : xPF) (pv : Int32) (f : xF) (g : xG) : Option xP := (pX0_isKey f g pv).bind (fun b => (pX0_need f g b).bind (fun x => if x.1 = 0 then (P x.2.1 x.2.2).bind (fun y => if y.1 = 0 then (pX0_isSign y.2.1.1 y.2.1.2 59).bind (fun b2 => (pX0_need y.2.1.1 y.2.1.2 b2).bind (fun x2 => if x2.1 = 0 then some (0, x2.2, y.2.2.1, y.2.2.2) else some (1, x2.2, [], y.2.2.2))) else some (1, y.2.1, [], y.2.2.2)) else some (1, x.2, [], 0)))
/-- the text's state: the answer, numbers and arrays, the three rows of signs if it stands, how many nodes -/
abbrev xT : Type := Int32 × (xF × xG) × Option (xR × xR × xR) × Nat
def q_bad (t : xF × xG) (k : Nat) : Option xT := some (-100 - t.1 22, t, none, k)
def q_f0 (f : xF) : xF := upd (upd (upd (upd f 20 (f 19)) 19 0) 21 0) 25 0
def q_t3 (ra rb : xR) (k : Nat) (d : xP) : Option xT := if d.1 = 0 then (if d.2.1.1 23 = 0 then (if gin (d.2.1.1 15) 6 = true then some ((upd d.2.1.1 15 (d.2.1.1 15 + 1)) 15 - 1, (upd d.2.1.1 15 (d.2.1.1 15 + 1), d.2.1.2), some (ra, rb, d.2.2.1), k + d.2.2.2) else none) else q_bad d.2.1 (k + d.2.2.2)) else q_bad d.2.1 (k + d.2.2.2)
def q_t2 (P : xPF) (ra : xR) (k : Nat) (b : xP) : Option xT := if b.1 = 0 then (q_part P 2 b.2.1.1 b.2.1.2).bind (q_t3 ra b.2.2.1 (k + b.2.2.2)) else q_bad b.2.1 (k + b.2.2.2)
def q_t1 (P : xPF) (a : xP) : Option xT := if a.1 = 0 then (q_part P 1 a.2.1.1 a.2.1.2).bind (q_t2 P a.2.2.1 a.2.2.2) else q_bad a.2.1 a.2.2.2
def q_text (P : xPF) (f : xF) (g : xG) : Option xT := (pX0_next (q_f0 f) g).bind (fun x => if x.1 = 0 then (q_part P 0 x.2.1 x.2.2).bind (q_t1 P) else q_bad x.2 0)
theorem q_bad_k {t : xF × xG} {k : Nat} {z : xT} (h : q_bad t k = some z) : z.2.2.2 = k := by
  have h := Option.some.inj h
  rw [← h]
theorem q_t3_k {ra rb : xR} {k : Nat} {d : xP} {z : xT} (h : q_t3 ra rb k d = some z) : z.2.2.2 = k + d.2.2.2 := by
  unfold q_t3 at h
  by_cases c1 : d.1 = 0
  · have h := (if_pos c1).symm.trans h
    by_cases c2 : d.2.1.1 23 = 0
    · have h := (if_pos c2).symm.trans h
      obtain ⟨-, h⟩ := gin_if h
      rw [← Option.some.inj h]
    · exact q_bad_k ((if_neg c2).symm.trans h)
  · exact q_bad_k ((if_neg c1).symm.trans h)
theorem q_t2_k {P : xPF} {ra : xR} {k : Nat} {b : xP} {z : xT} (h : q_t2 P ra k b = some z) : k + b.2.2.2 ≤ z.2.2.2 := by
  unfold q_t2 at h
  by_cases c1 : b.1 = 0
  · obtain ⟨d, -, h⟩ := obd ((if_pos c1).symm.trans h)
    have h := q_t3_k h
    omega
  · have h := q_bad_k ((if_neg c1).symm.trans h)
    omega
theorem q_t1_k {P : xPF} {a : xP} {z : xT} (h : q_t1 P a = some z) : a.2.2.2 ≤ z.2.2.2 := by
  unfold q_t1 at h
  by_cases c1 : a.1 = 0
  · obtain ⟨d, -, h⟩ := obd ((if_pos c1).symm.trans h)
    have h := q_t2_k h
    omega
  · have h := q_bad_k ((if_neg c1).symm.trans h)
    omega
def rnR (c : Nat) : Room := { frames := 75, cells := c + 1, slots := 3 * c + 3, locals := 4100 }

theorem kx_add3 {γ : wx_G} {ad : Nat → Nat} {ρ : va_W} {x x2 : Nat × va_E} (T : kx_ok γ ad (x :: ρ)) (hx : ∀ (ca : ClassId) (n : Nat) (tf : Nat → Option Nat), x.2 = .inl (ca, n, .inr (.inr (.inr (.inr tf)))) → n ≠ 6) (N : va_W) : kx_ok γ ad (N ++ x2 :: ρ) := by
  refine kx_add (fun k hk => ?_) N
  obtain ⟨q, tf, h1, h2⟩ := T k hk
  cases q with
  | zero => exact absurd rfl (hx _ _ tf (by have h := Option.some.inj h1; rw [h]))
  | succ q => exact ⟨q + 1, tf, h1, h2⟩
theorem kx_add2 {γ : wx_G} {ad : Nat → Nat} {ρ : va_W} {ra ra2 : Nat} {rf rf2 : Nat → Option Nat} (T : kx_ok γ ad ((ra, e_row γ rf) :: ρ)) (N : va_W) : kx_ok γ ad (N ++ (ra2, e_row γ rf2) :: ρ) :=
  kx_add3 T (fun ca n tf h => by cases h; decide) N
theorem it_part {p : Program} {l : Launch} {e : Env} {s : State} {m : MethodId} {as : Array Value} {below : List Frame} {meth : Method} {c : Code} {A : Nat → Prop} {Q : State → Prop} {γ : wx_G} {o : Nat} {ad : Nat → Nat} {ρ N : va_W} {ra k ks cN : Nat} {rf : Nat → Option Nat} {P : xPF} {z : xP} {pv : Int32} {f : xF} {g : xG} {H : Heap} {locs : List Loc} {ls : Array Slot} (G : cx_ok γ) (S : sx_ok γ) (hM : PK l γ o ad yX0_either cX0_either 2 60 P) (T : kx_ok γ ad ((ra, e_row γ rf) :: ρ)) (C : CallFix p m c cX0_newText 3 s as lw_all RX0) (K : wx_C γ A s) (hF : q_part P pv f g = some z) (hp3 : ¬ (3 : Int32) ≤ pv) (hi : vp_in pv 3) (w : wx_w γ A s H locs (cw γ o ad f g (N ++ (ra, e_row γ rf) :: ρ))) (hl : lv_has ls 3 [(2, .int pv), (1, .ref ra), (0, .ref o)]) (hf : k + z.2.2.2 ≤ (rnR cN).cells ∧ ks + 3 * z.2.2.2 ≤ (rnR cN).slots)
    (kk : ∀ (H : Heap) (locs : List Loc) (ls : Array Slot) (a : Nat) (N2 : va_W), z.1 = 0 → (∃ N3 : va_W, N2 = N3 ++ N) → nd (N2 ++ (ra, e_row γ (va_up rf pv.toNatClampNeg (some a))) :: ρ) o z.2.2.2 a z.2.2.1 → wx_w γ A s H locs (cw γ o ad z.2.1.1 z.2.1.2 (N2 ++ (ra, e_row γ (va_up rf pv.toNatClampNeg (some a))) :: ρ)) → lv_has ls 3 [(2, .int (pv + 1)), (1, .ref ra), (0, .ref o)] → W p l e (rnR cN) s m as below meth c H locs (k + z.2.2.2) (ks + 3 * z.2.2.2) Q (F0 m 34 ls []))
    (kt : ∀ (H : Heap) (locs : List Loc) (ls : Array Slot) (pc : Nat) (st : List Value) (N2 : va_W) (rf2 : Nat → Option Nat), z.1 = 1 → 28 ≤ pc → pc < 83 → wx_w γ A s H locs (cw γ o ad z.2.1.1 z.2.1.2 (N2 ++ (ra, e_row γ rf2) :: ρ)) → lv_has ls 3 [(2, .int pv), (1, .ref ra), (0, .ref o)] → WT p l e (rnR cN) s m as below meth c H locs (k + z.2.2.2) (ks + 3 * z.2.2.2) Q (F0 m pc ls st) (ad 10)) : W p l e (rnR cN) s m as below meth c H locs k ks Q (F0 m 34 ls []) := by
  have hx := C.1
  have hb := C.2.1
  simp only [rnR] at hf
  unfold q_part at hF
  obtain ⟨b, hb0, hF⟩ := obd hF
  obtain ⟨x, hx0, hF⟩ := obd hF
  refine lv_iload_n hx hb dX0_newText_34 rfl (lv_at hl 0 rfl) ?_
  refine lv_iconst (v := (3 : Int32)) hx hb dX0_newText_35 (by decide) ?_
  refine lv_icmp_ge (tgt := 71) hx hb dX0_newText_36 (by decide) (fun c => absurd c hp3) (fun c => ?_)
  refine lv_aload_n hx hb dX0_newText_39 rfl (lv_at hl 2 rfl) ?_
  refine lv_aload_n hx hb dX0_newText_40 rfl (lv_at hl 2 rfl) ?_
  refine lv_iload_n hx hb dX0_newText_41 rfl (lv_at hl 0 rfl) ?_
  refine rX0_isKey G C K w hb0 hl.1 ⟨by simp only [rnR]; omega, by simp only [rnR]; omega⟩ (Nat.le_of_ble_eq_true rfl) dX0_newText_42 (fun H locs w => ?_) ⟨by simp only [rnR]; omega, by simp only [rnR]; omega⟩
  refine xX0_need G S (kx_add T N) C K w hx0 hl.1 ⟨by simp only [rnR]; omega, by simp only [rnR]; omega⟩ (Nat.le_of_ble_eq_true rfl) dX0_newText_45 (fun H locs h0 w => ?_) (fun H locs h1 w => ?_) ⟨by simp only [rnR]; omega, by simp only [rnR]; omega⟩
  · have hF := (if_pos h0).symm.trans hF
    obtain ⟨y, hy, hF⟩ := obd hF
    have hz : z.2.2.2 = y.2.2.2 := by
      by_cases c : y.1 = 0
      · have hF := (if_pos c).symm.trans hF
        obtain ⟨b2, -, hF⟩ := obd hF
        obtain ⟨x2, -, hF⟩ := obd hF
        by_cases c : x2.1 = 0
        · rw [← Option.some.inj ((if_pos c).symm.trans hF)]
        · rw [← Option.some.inj ((if_neg c).symm.trans hF)]
      · rw [← Option.some.inj ((if_neg c).symm.trans hF)]
    rw [hz] at hf kk kt
    refine lv_aload_n hx hb dX0_newText_48 rfl (lv_at hl 1 rfl) ?_
    refine lv_iload_n hx hb dX0_newText_49 rfl (lv_at hl 0 rfl) ?_
    refine lv_aload_n hx hb dX0_newText_50 rfl (lv_at hl 2 rfl) ?_
    refine x_sub hM (kx_add T N) C K w hy q550 q552 qs14 q553 (by decide +kernel) hl.1 ⟨by simp only [rpR, rnR]; omega, by simp only [rpR, rnR]; omega⟩ (Nat.le_of_ble_eq_true rfl) ⟨by simp only [rnR]; omega, by simp only [rnR]; omega⟩ dX0_newText_51 (fun H locs a N2 h0 hn w => ?_) (fun H locs N2 h1 w => ?_)
    · have hF := (if_pos h0).symm.trans hF
      obtain ⟨b2, hb2, hF⟩ := obd hF
      obtain ⟨x2, hx2, hF⟩ := obd hF
      have w : wx_w γ A s H locs ((ra, e_row γ rf) :: cw γ o ad y.2.1.1 y.2.1.2 ((N2 ++ N) ++ ρ)) := by
        rw [← List.append_assoc] at w
        exact w.perm cw_head
      refine c_nast G C K w hn (fun a e h => ?_) hi dX0_newText_54 (fun H locs w => ?_)
      · rw [← List.append_assoc] at h
        rcases List.mem_append.mp h with h | h
        · exact List.mem_append_left _ h
        · rcases List.mem_cons.mp h with h | h
          · cases (congrArg Prod.snd h)
          · exact List.mem_append_right _ h
      · have w : wx_w γ A s H locs (cw γ o ad y.2.1.1 y.2.1.2 ((N2 ++ N) ++ (ra, e_row γ (va_up rf pv.toNatClampNeg (some a))) :: ρ)) := w.perm cw_head.symm
        have hn : nd ((N2 ++ N) ++ (ra, e_row γ (va_up rf pv.toNatClampNeg (some a))) :: ρ) o y.2.2.2 a y.2.2.1 := by
          refine nd_mono (fun a e h => ?_) _ _ _ _ (Nat.le_refl _) hn
          rw [← List.append_assoc] at h
          rcases List.mem_append.mp h with h | h
          · exact Or.inl (List.mem_append_left _ h)
          · rcases List.mem_cons.mp h with h | h
            · exact Or.inr (Or.inr ⟨_, congrArg Prod.snd h⟩)
            · exact Or.inl (List.mem_append_right _ (List.mem_cons_of_mem _ h))
        refine lv_aload_n hx hb dX0_newText_55 rfl (lv_at hl 2 rfl) ?_
        refine lv_aload_n hx hb dX0_newText_56 rfl (lv_at hl 2 rfl) ?_
        refine lv_bipush (v := (59 : Int32)) hx hb dX0_newText_57 (by decide) ?_
        refine rX0_isSign G C K w hb2 hl.1 ⟨by simp only [rnR]; omega, by simp only [rnR]; omega⟩ (Nat.le_of_ble_eq_true rfl) dX0_newText_59 (fun H locs w => ?_) ⟨by simp only [rnR]; omega, by simp only [rnR]; omega⟩
        refine xX0_need G S (kx_add2 T (N2 ++ N)) C K w hx2 hl.1 ⟨by simp only [rnR]; omega, by simp only [rnR]; omega⟩ (Nat.le_of_ble_eq_true rfl) dX0_newText_62 (fun H locs h0 w => ?_) (fun H locs h1 w => ?_) ⟨by simp only [rnR]; omega, by simp only [rnR]; omega⟩
        · have hF := Option.some.inj ((if_pos h0).symm.trans hF)
          subst hF
          refine lv_iinc (v := pv + 1) (lv' := [(2, .int (pv + 1)), (1, .ref ra), (0, .ref o)]) hx hb dX0_newText_65 hl (k := 0) rfl rfl (by decide) rfl (fun ls hl => ?_)
          refine lv_goto (tgt := 34) hx hb dX0_newText_68 (by decide) ?_
          exact kk _ _ _ a (N2 ++ N) rfl ⟨N2, rfl⟩ hn w hl
        · have hF := Option.some.inj ((if_neg (wx_n0 h1)).symm.trans hF)
          subst hF
          exact kt _ _ _ _ _ (N2 ++ N) _ rfl (by decide) (by decide) w hl
    · have hF := Option.some.inj ((if_neg (wx_n0 h1)).symm.trans hF)
      subst hF
      rw [← List.append_assoc] at w
      exact kt _ _ _ _ _ (N2 ++ N) _ rfl (by decide) (by decide) w hl
  · have hF := Option.some.inj ((if_neg (wx_n0 h1)).symm.trans hF)
    subst hF
    exact kt _ _ _ _ _ N _ rfl (by decide) (by decide) w hl
def ntP (γ : wx_G) (o : Nat) (ad : Nat → Nat) (ρ : va_W) (tf : Nat → Option Nat) (z : xT) (v : Option Value) (ws : va_W) : Prop := v = some (.int z.1) ∧ ∃ (N : va_W) (tf2 : Nat → Option Nat), ws = cw γ o ad z.2.1.1 z.2.1.2 ((ad 14, e_txt γ tf2) :: (N ++ ρ)) ∧ ((z.2.2.1 = none ∧ tf2 = tf) ∨ ∃ (r0 r1 r2 : xR) (i : Int32) (ra a0 a1 a2 : Nat) (rf : Nat → Option Nat), z.2.2.1 = some (r0, r1, r2) ∧ z.1 = i + 1 - 1 ∧ tf2 = va_up tf i.toNatClampNeg (some ra) ∧ (ra, e_row γ rf) ∈ N ∧ rf 0 = some a0 ∧ rf 1 = some a1 ∧ rf 2 = some a2 ∧ nd (N ++ ρ) o z.2.2.2 a0 r0 ∧ nd (N ++ ρ) o z.2.2.2 a1 r1 ∧ nd (N ++ ρ) o z.2.2.2 a2 r2)
theorem nt_perm {γ : wx_G} {o : Nat} {ad : Nat → Nat} {f : xF} {g : xG} {N ρ : va_W} {x t : Nat × va_E} : List.Perm (cw γ o ad f g (N ++ x :: t :: ρ)) (cw γ o ad f g (t :: ((N ++ [x]) ++ ρ))) := by
  refine cw_perm ?_
  rw [List.append_assoc]
  exact (List.Perm.append_left N (List.Perm.swap _ _ _)).trans List.perm_middle
theorem mX0_newText {l : Launch} {γ : wx_G} {o : Nat} {ad : Nat → Nat} {ρ : va_W} {f : xF} {g : xG} {tf : Nat → Option Nat} {fs : List Value} {P : xPF} {z : xT} (G : cx_ok γ) (S : sx_ok γ) (hM : PK l γ o ad yX0_either cX0_either 2 60 P) (T : kx_ok γ ad ρ) (hfa : (ad 10, .inr (13, fs)) ∈ ρ) (hF : q_text P f g = some z) : wx_M γ l yX0_newText (wsW_ yX0_newText cX0_newText 3 (some .int) [(28, 83, 86, 235)]) (rnR z.2.2.2) [.ref o] (cw γ o ad f g ((ad 14, e_txt γ tf) :: ρ)) (ntP γ o ad ρ tf z) (z.2.2.2 + 1) (3 * z.2.2.2 + 3) := by
  unfold q_text at hF
  obtain ⟨x, hx0, hF⟩ := obd hF
  refine wx_MH.of (by decide) (Nat.le_of_ble_eq_true rfl) ?_
  intro p e s m as below meth c A ls C K w hr hlocks htab hl
  have hx := C.1
  have hb := C.2.1
  obtain ⟨as0, hw0⟩ := G.1
  have HT : ∀ (H : Heap) (locs : List Loc) (ls : Array Slot) (pc : Nat) (st : List Value) (ra k ks : Nat) (N : va_W) (rf : Nat → Option Nat) (t : xF × xG) (kz : Nat), q_bad t kz = some z → 28 ≤ pc → pc < 83 → k ≤ kz + 1 → ks ≤ 3 * kz + 3 → wx_w γ A s H locs (cw γ o ad t.1 t.2 (N ++ (ra, e_row γ rf) :: (ad 14, e_txt γ tf) :: ρ)) → lv_has ls 3 [(0, .ref o)] → WT p l e (rnR z.2.2.2) s m as below meth c H locs k ks (wx_Q γ (ntP γ o ad ρ tf z) A as s below (z.2.2.2 + 1) (3 * z.2.2.2 + 3)) (F0 m pc ls st) (ad 10) := by
    intro H locs ls pc st ra k ks N rf t kz hz h28 h83 hk hks w hl
    have hkz := q_bad_k hz
    obtain ⟨qk, hq⟩ := List.getElem?_of_mem (cw_mem (γ := γ) (o := o) (ad := ad) (f := t.1) (g := t.2) (List.mem_append_right N (List.mem_cons_of_mem (ra, e_row γ rf) (List.mem_cons_of_mem (ad 14, e_txt γ tf) hfa))))
    obtain ⟨r, h1, cell, q1, q2, q3, q4⟩ := w.1 qk _ hq
    have hr1 : r = (RX1, TX1, 6) := Option.some.inj (h1.symm.trans rfl)
    subst hr1
    obtain ⟨hS, hfc, kC, hkC, hkind⟩ := K.1.1.1 13 (RX1, TX1, 6) rfl
    refine wx_caught (own := RX0) (h := 86) C.2.2.2.1 rfl q1 (by rw [q3]; rfl) ⟨kC, by rw [q2]; exact hkC⟩ (wx_hit_of _ _ htab (Or.inr ⟨⟨h28, h83⟩, by decide, RX1, γ.1.1 13, hfc, C.2.2.2.2 _ q405, Or.inl ⟨by rw [q2]; exact wx_self _ _, rfl⟩⟩)) ?_
    refine W.eq (g2 := F0 m 86 ls [.ref (ad 10)]) rfl ?_
    refine lv_astore_n (lv' := [(2, .ref (ad 10)), (0, .ref o)]) hx hb dX0_newText_86 rfl hl (by decide) rfl (fun ls hl => ?_)
    refine lv_bipush (v := (-100 : Int32)) hx hb dX0_newText_87 (by decide) ?_
    refine lv_aload_n hx hb dX0_newText_89 rfl (lv_at hl 1 rfl) ?_
    refine cget_22 C K w dX0_newText_90 ?_
    refine lv_isub hx hb dX0_newText_93 ?_
    have hz := Option.some.inj hz
    subst hz
    refine W.widen (k := kz + 1) (n := 3 * kz + 3) (by omega) (by omega) ?_
    exact wx_iret C hr hlocks (w.perm nt_perm) ⟨rfl, _, tf, rfl, Or.inl ⟨rfl, rfl⟩⟩ dX0_newText_94
  refine lv_aload_n hx hb dX0_newText_0 rfl (lv_at hl 0 rfl) ?_
  refine lv_aload_n hx hb dX0_newText_1 rfl (lv_at hl 0 rfl) ?_
  refine cget_19 C K w dX0_newText_2 ?_
  refine cput_20 C K w dX0_newText_5 (fun H locs w => ?_)
  refine lv_aload_n hx hb dX0_newText_8 rfl (lv_at hl 0 rfl) ?_
  refine lv_iconst (v := (0 : Int32)) hx hb dX0_newText_9 (by decide) ?_
  refine cput_19 C K w dX0_newText_10 (fun H locs w => ?_)
  refine lv_aload_n hx hb dX0_newText_13 rfl (lv_at hl 0 rfl) ?_
  refine lv_iconst (v := (0 : Int32)) hx hb dX0_newText_14 (by decide) ?_
  refine cput_21 C K w dX0_newText_15 (fun H locs w => ?_)
  refine lv_aload_n hx hb dX0_newText_18 rfl (lv_at hl 0 rfl) ?_
  refine lv_iconst (v := (0 : Int32)) hx hb dX0_newText_19 (by decide) ?_
  refine cput_25 C K w dX0_newText_20 (fun H locs w => ?_)
  refine lv_iconst (v := (3 : Int32)) hx hb dX0_newText_23 (by decide) ?_
  refine wx_newq (N := 3) 4 C K w q406 ((va_AO.of (hw0 _ q407)).moved K.1.2.alike) rfl (by decide) (by decide) (by decide) (by simp only [rnR]; omega) (by simp only [rnR]; omega) dX0_newText_24 (fun ra H w => ?_)
  have w : wx_w γ A s H locs (cw γ o ad (q_f0 f) g ([] ++ (ra, e_row γ (fun _ => none)) :: (ad 14, e_txt γ tf) :: ρ)) := w.perm cw_cons
  have T1 : ∀ rf : Nat → Option Nat, kx_ok γ ad ((ra, e_row γ rf) :: (ad 14, e_txt γ tf) :: ρ) := fun rf => kx_add T [(ra, e_row γ rf), (ad 14, e_txt γ tf)]
  refine lv_astore_n (lv' := [(1, .ref ra), (0, .ref o)]) hx hb dX0_newText_27 rfl hl (by decide) rfl (fun ls hl => ?_)
  refine lv_aload_n hx hb dX0_newText_28 rfl (lv_at hl 1 rfl) ?_
  refine xX0_next G S (T1 _) C K w hx0 hl.1 ⟨by simp only [rnR]; omega, by simp only [rnR]; omega⟩ (Nat.le_of_ble_eq_true rfl) dX0_newText_29 (fun H locs h0 w => ?_) (fun H locs h1 w => ?_) ⟨by simp only [rnR]; omega, by simp only [rnR]; omega⟩
  · have hF := (if_pos h0).symm.trans hF
    obtain ⟨a, ha, hF⟩ := obd hF
    have ka := q_t1_k hF
    refine lv_iconst (v := (0 : Int32)) hx hb dX0_newText_32 (by decide) ?_
    refine lv_istore_n (lv' := [(2, .int 0), (1, .ref ra), (0, .ref o)]) hx hb dX0_newText_33 rfl hl (by decide) rfl (fun ls hl => ?_)
    refine it_part (N := []) (rf := fun _ => none) G S hM (T1 _) C K ha (by decide) (gin_in (by decide)) w hl ⟨by simp only [rnR]; omega, by simp only [rnR]; omega⟩ (fun H locs ls a0 Na h0 _ na w hl => ?_) (fun H locs ls pc st N2 rf2 h1 p1 p2 w hl => HT _ _ _ _ _ ra _ _ N2 rf2 _ _ ((if_neg (wx_n0 h1)).symm.trans hF) p1 p2 (by omega) (by omega) w (lv_sub hl [2] rfl))
    unfold q_t1 at hF
    have hF := (if_pos h0).symm.trans hF
    obtain ⟨b, hb0, hF⟩ := obd hF
    have kb := q_t2_k hF
    refine it_part G S hM (T1 _) C K hb0 (by decide) (gin_in (by decide)) w hl ⟨by simp only [rnR]; omega, by simp only [rnR]; omega⟩ (fun H locs ls a1 Nb h0 hNb nb w hl => ?_) (fun H locs ls pc st N2 rf2 h1 p1 p2 w hl => HT _ _ _ _ _ ra _ _ N2 rf2 _ _ ((if_neg (wx_n0 h1)).symm.trans hF) p1 p2 (by omega) (by omega) w (lv_sub hl [2] rfl))
    unfold q_t2 at hF
    have hF := (if_pos h0).symm.trans hF
    obtain ⟨d, hd0, hF⟩ := obd hF
    have kd := q_t3_k hF
    refine it_part G S hM (T1 _) C K hd0 (by decide) (gin_in (by decide)) w hl ⟨by simp only [rnR]; omega, by simp only [rnR]; omega⟩ (fun H locs ls a2 Nd h0 hNd nn w hl => ?_) (fun H locs ls pc st N2 rf2 h1 p1 p2 w hl => HT _ _ _ _ _ ra _ _ N2 rf2 _ _ ((if_neg (wx_n0 h1)).symm.trans hF) p1 p2 (by omega) (by omega) w (lv_sub hl [2] rfl))
    unfold q_t3 at hF
    have hF := (if_pos h0).symm.trans hF
    refine lv_iload_n hx hb dX0_newText_34 rfl (lv_at hl 0 rfl) ?_
    refine lv_iconst (v := (3 : Int32)) hx hb dX0_newText_35 (by decide) ?_
    refine lv_icmp_ge (tgt := 71) hx hb dX0_newText_36 (by decide) (fun c => ?_) (fun c => absurd (by decide) c)
    refine lv_aload_n hx hb dX0_newText_71 rfl (lv_at hl 2 rfl) ?_
    refine cget_23 C K w dX0_newText_72 ?_
    refine lv_if_eq (tgt := 83) hx hb dX0_newText_75 (by decide) (fun c => ?_) (fun c => ?_)
    · have hF := (if_pos c).symm.trans hF
      obtain ⟨hi, hF⟩ := gin_if hF
      have hF := Option.some.inj hF
      refine lv_goto (tgt := 95) hx hb dX0_newText_83 (by decide) ?_
      refine lv_aload_n hx hb dX0_newText_95 rfl (lv_at hl 2 rfl) ?_
      refine cget_14 C K w dX0_newText_96 ?_
      refine lv_aload_n hx hb dX0_newText_99 rfl (lv_at hl 2 rfl) ?_
      refine cget_15 C K w dX0_newText_100 ?_
      refine lv_aload_n hx hb dX0_newText_103 rfl (lv_at hl 1 rfl) ?_
      have w := w.perm (nt_perm.trans cw_cons.symm)
      refine c_tast G C K w (cw_mem (List.mem_append_left _ (List.mem_append_right _ List.mem_cons_self))) hi dX0_newText_104 (fun H locs w => ?_)
      have w := w.perm cw_cons
      refine lv_aload_n hx hb dX0_newText_105 rfl (lv_at hl 2 rfl) ?_
      refine lv_dup hx hb dX0_newText_106 rfl ?_
      refine cget_15 C K w dX0_newText_107 ?_
      refine lv_iconst (v := (1 : Int32)) hx hb dX0_newText_110 (by decide) ?_
      refine lv_iadd hx hb dX0_newText_111 ?_
      refine cput_15 C K w dX0_newText_112 (fun H locs w => ?_)
      refine lv_aload_n hx hb dX0_newText_115 rfl (lv_at hl 2 rfl) ?_
      refine cget_15 C K w dX0_newText_116 ?_
      refine lv_iconst (v := (1 : Int32)) hx hb dX0_newText_119 (by decide) ?_
      refine lv_isub hx hb dX0_newText_120 ?_
      have hm : ∀ (L : va_W) (rf2 : Nat → Option Nat) (a k : Nat) (r : xR), (∃ N3 : va_W, Nd = N3 ++ L) → nd (L ++ (ra, e_row γ rf2) :: (ad 14, e_txt γ tf) :: ρ) o k a r → k ≤ z.2.2.2 → nd ((Nd ++ [(ra, e_row γ (va_up (va_up (va_up (fun _ => none) (0 : Int32).toNatClampNeg (some a0)) (0 + 1 : Int32).toNatClampNeg (some a1)) (0 + 1 + 1 : Int32).toNatClampNeg (some a2)))]) ++ ρ) o z.2.2.2 a r := by
        intro L rf2 a k r hL hn hk
        obtain ⟨N3, rfl⟩ := hL
        refine nd_mono (fun a e h => ?_) k _ a r hk hn
        rcases List.mem_append.mp h with h | h
        · exact Or.inl (List.mem_append_left _ (List.mem_append_left _ (List.mem_append_right _ h)))
        · rcases List.mem_cons.mp h with h | h
          · exact Or.inr (Or.inr ⟨_, congrArg Prod.snd h⟩)
          · rcases List.mem_cons.mp h with h | h
            · exact Or.inr (Or.inr ⟨_, congrArg Prod.snd h⟩)
            · exact Or.inl (List.mem_append_right _ h)
      obtain ⟨N3, hNb⟩ := hNb
      obtain ⟨N4, hNd⟩ := hNd
      have m0 := hm Na _ a0 _ _ ⟨N4 ++ N3, by rw [hNd, hNb, List.append_assoc]⟩ na (by omega)
      have m1 := hm Nb _ a1 _ _ ⟨N4, hNd⟩ nb (by omega)
      have m2 := hm Nd _ a2 _ _ ⟨[], rfl⟩ nn (by omega)
      subst hF
      refine W.widen (k := (a.2.2.2 + b.2.2.2 + d.2.2.2) + 1) (n := 3 * (a.2.2.2 + b.2.2.2 + d.2.2.2) + 3) (by omega) (by omega) ?_
      exact wx_iret C hr hlocks w ⟨rfl, _, _, rfl, Or.inr ⟨_, _, _, d.2.1.1 15, ra, a0, a1, a2, _, rfl, rfl, rfl, List.mem_append_right _ List.mem_cons_self, rfl, rfl, rfl, m0, m1, m2⟩⟩ dX0_newText_121
    · have hF := (if_neg c).symm.trans hF
      refine lv_aload_n hx hb dX0_newText_78 rfl (lv_at hl 2 rfl) ?_
      refine cget_10 C K w dX0_newText_79 ?_
      refine wx_athrow C dX0_newText_82 ?_
      exact HT _ _ _ _ _ ra _ _ Nd _ _ _ hF (by decide) (by decide) (by omega) (by omega) w (lv_sub hl [2] rfl)
  · have hF := (if_neg (wx_n0 h1)).symm.trans hF
    exact HT _ _ _ _ _ ra _ _ [] _ _ _ hF (by decide) (by decide) (by omega) (by omega) w (lv_sub hl [1] rfl)

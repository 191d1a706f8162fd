/-! THE RECURSIVE DESCENT (mine; printed by gen/desc.py): a pure program by fuel, its answer (0 it returns, 1 it throws; the state; the signs; how many nodes are made) -/
set_option maxRecDepth 100000
abbrev xP : Type := Int32 × (xF × xG) × xR × Nat
abbrev xPF : Type := xF → xG → Option xP
def q_two (sub : xPF) (r : xR) (k : Nat) (sg : Int32) (f : xF) (g : xG) (K : xF → xG → xR → Nat → Option xP) : Option xP := (pX0_next f g).bind (fun x => if x.1 = 0 then (sub x.2.1 x.2.2).bind (fun y => if y.1 = 0 then K y.2.1.1 y.2.1.2 (r ++ y.2.2.1 ++ [(opc sg, 0)]) (k + 1 + y.2.2.2) else some (1, y.2.1, [], k + 1 + y.2.2.2)) else some (1, x.2, [], k))
def q_key (j sg : Int32) (f : xF) (g : xG) : Option (Int32 × Int32) := (pX0_isKey f g j).bind (fun b => some (b, sg))
def q_sgn (j : Int32) (f : xF) (g : xG) : Option (Int32 × Int32) := (pX0_isSign f g j).bind (fun b => some (b, j))
def q_or2 (j k : Int32) (f : xF) (g : xG) : Option (Int32 × Int32) := (pX0_isSign f g j).bind (fun b => if b = 0 then (pX0_isSign f g k).bind (fun b2 => some (b2, f 24)) else some (b, f 24))
def q_loop (cnd : xF → xG → Option (Int32 × Int32)) (sub : xPF) : Nat → xF → xG → xR → Nat → Option xP
  | 0, _, _, _, _ => none
  | n + 1, f, g, r, k => (cnd f g).bind (fun b => if b.1 = 0 then some (0, (f, g), r, k) else q_two sub r k b.2 f g (q_loop cnd sub n))
def q_seq (cnd : xF → xG → Option (Int32 × Int32)) (sub : xPF) (f : xF) (g : xG) : Option xP := (sub f g).bind (fun y => if y.1 = 0 then q_loop cnd sub 5000 y.2.1.1 y.2.1.2 y.2.2.1 y.2.2.2 else some (1, y.2.1, [], y.2.2.2))
def q_end (f : xF) (g : xG) (r : xR) (k : Nat) : Option xP := some (0, (f, g), r, k)
def q_not (nt pl : xPF) (f : xF) (g : xG) : Option xP := (pX0_isKey f g 5).bind (fun b => if b = 0 then (pl f g).bind (fun y => if y.1 = 0 then (q_or2 60 61 y.2.1.1 y.2.1.2).bind (fun b => if b.1 = 0 then q_end y.2.1.1 y.2.1.2 y.2.2.1 y.2.2.2 else q_two pl y.2.2.1 y.2.2.2 b.2 y.2.1.1 y.2.1.2 q_end) else some (1, y.2.1, [], y.2.2.2)) else (pX0_openOne f g).bind (fun x => if x.1 = 0 then (nt x.2.1 x.2.2).bind (fun y => if y.1 = 0 then some (0, (upd y.2.1.1 25 (y.2.1.1 25 - 1), y.2.1.2), y.2.2.1 ++ [(4, 0)], y.2.2.2 + 1) else some (1, y.2.1, [], y.2.2.2)) else some (1, x.2, [], 0)))
def q_one (one eith : xPF) (f : xF) (g : xG) : Option xP := if f 23 = 3 then (pX0_next f g).bind (fun x => if x.1 = 0 then some (0, x.2, [(0, f 24)], 1) else some (1, x.2, [], 0)) else if f 23 = 2 then (pX0_next f g).bind (fun x => if x.1 = 0 then some (0, x.2, [(1, f 24)], 1) else some (1, x.2, [], 0)) else (pX0_isSign f g 45).bind (fun b => if b = 0 then (pX0_isSign f g 40).bind (fun b2 => if b2 = 0 then some (1, (f, g), [], 0) else (pX0_openOne f g).bind (fun x => if x.1 = 0 then (eith x.2.1 x.2.2).bind (fun y => if y.1 = 0 then (pX0_isSign y.2.1.1 y.2.1.2 41).bind (fun b3 => if b3 = 0 then some (1, y.2.1, [], y.2.2.2) else (pX0_next (upd y.2.1.1 25 (y.2.1.1 25 - 1)) y.2.1.2).bind (fun x2 => if x2.1 = 0 then some (0, x2.2, y.2.2.1, y.2.2.2) else some (1, x2.2, [], y.2.2.2))) else some (1, y.2.1, [], y.2.2.2)) else some (1, x.2, [], 0))) else (pX0_openOne f g).bind (fun x => if x.1 = 0 then (one x.2.1 x.2.2).bind (fun y => if y.1 = 0 then some (0, (upd y.2.1.1 25 (y.2.1.1 25 - 1), y.2.1.2), y.2.2.1 ++ [(10, 0)], y.2.2.2 + 1) else some (1, y.2.1, [], y.2.2.2)) else some (1, x.2, [], 0)))
/-- by fuel: 0 either, 1 both, 2 not, 3 plus, 4 times, 5 one -/
def qP : Nat → Nat → xF → xG → Option xP
  | 0, _, _, _ => none
  | n + 1, 0, f, g => q_seq (q_key 3 124) (qP n 1) f g
  | n + 1, 1, f, g => q_seq (q_key 4 38) (qP n 2) f g
  | n + 1, 2, f, g => q_not (qP n 2) (qP n 3) f g
  | n + 1, 3, f, g => q_seq (q_or2 43 45) (qP n 4) f g
  | n + 1, 4, f, g => q_seq (q_sgn 42) (qP n 5) f g
  | n + 1, _, f, g => q_one (qP n 5) (qP n 0) f g
theorem q_two_le {sub : xPF} {r : xR} {k : Nat} {sg : Int32} {f : xF} {g : xG} {K : xF → xG → xR → Nat → Option xP} {z : xP} (hK : ∀ (f : xF) (g : xG) (r : xR) (k : Nat), K f g r k = some z → k ≤ z.2.2.2) (h : q_two sub r k sg f g K = some z) : k ≤ z.2.2.2 := by
  unfold q_two at h
  obtain ⟨x, -, h⟩ := obd h
  by_cases c : x.1 = 0
  · have h := (if_pos c).symm.trans h
    obtain ⟨y, -, h⟩ := obd h
    by_cases c : y.1 = 0
    · have h := hK _ _ _ _ ((if_pos c).symm.trans h)
      omega
    · have h := Option.some.inj ((if_neg c).symm.trans h)
      rw [← h]
      show k ≤ k + 1 + y.2.2.2
      omega
  · have h := Option.some.inj ((if_neg c).symm.trans h)
    rw [← h]
    exact Nat.le_refl _
theorem q_loop_le {cnd : xF → xG → Option (Int32 × Int32)} {sub : xPF} {z : xP} : ∀ (n : Nat) (f : xF) (g : xG) (r : xR) (k : Nat), q_loop cnd sub n f g r k = some z → k ≤ z.2.2.2 := by
  intro n
  induction n with
  | zero =>
    intro f g r k h
    have h : (none : Option xP) = some z := h
    cases h
  | succ n ih =>
    intro f g r k h
    rw [q_loop] at h
    obtain ⟨b, -, h⟩ := obd h
    by_cases c : b.1 = 0
    · have h := Option.some.inj ((if_pos c).symm.trans h)
      rw [← h]
      exact Nat.le_refl _
    · exact q_two_le ih ((if_neg c).symm.trans h)
theorem q_end_le {z : xP} (f : xF) (g : xG) (r : xR) (k : Nat) (h : q_end f g r k = some z) : k ≤ z.2.2.2 := by
  have h := Option.some.inj h
  rw [← h]
  exact Nat.le_refl _
def rpR (n c : Nat) : Room := { frames := n + 12, cells := c, slots := 3 * c, locals := 60 * n + 400 }
def pkP (γ : wx_G) (o : Nat) (ad : Nat → Nat) (ρ : va_W) (z : xP) (v : Option Value) (ws : va_W) : Prop := z.1 = 0 ∧ ∃ (a : Nat) (N : va_W), v = some (.ref a) ∧ ws = cw γ o ad z.2.1.1 z.2.1.2 (N ++ ρ) ∧ nd (N ++ ρ) o z.2.2.2 a z.2.2.1
def pkT (γ : wx_G) (o : Nat) (ad : Nat → Nat) (ρ : va_W) (z : xP) (x : Nat) (ws : va_W) : Prop := z.1 = 1 ∧ x = ad 10 ∧ ∃ N : va_W, ws = cw γ o ad z.2.1.1 z.2.1.2 (N ++ ρ)
def PK (l : Launch) (γ : wx_G) (o : Nat) (ad : Nat → Nat) (y : MethodName) (cc : ByteArray) (maxL n : Nat) (P : xPF) : Prop := ∀ (ρ : va_W) (f : xF) (g : xG) (z : xP), kx_ok γ ad ρ → P f g = some z → wx_MX γ l y (ws_ y cc maxL (some (.object "WalkingStones$Node"))) (rpR n z.2.2.2) [.ref o] (cw γ o ad f g ρ) (pkP γ o ad ρ z) (pkT γ o ad ρ z) z.2.2.2 (3 * z.2.2.2)
theorem x_sub {p : Program} {l : Launch} {e : Env} {R : Room} {s : State} {m : MethodId} {as : Array Value} {below : List Frame} {meth : Method} {c : Code} {H : Heap} {locs : List Loc} {cells slots : Nat} {Q : State → Prop} {cc : ByteArray} {nL pc : Nat} {ls : Array Slot} {rest : List Value} {γ : wx_G} {A : Nat → Prop} {o : Nat} {ad : Nat → Nat} {f : xF} {g : xG} {ρ : va_W} {y : MethodName} {yb : ByteArray} {maxL n idx : Nat} {P : xPF} {z : xP} (hM : PK l γ o ad y yb maxL n P) (T : kx_ok γ ad ρ) (C : CallFix p m c cc nL s as lw_all RX0) (K : wx_C γ A s) (w : wx_w γ A s H locs (cw γ o ad f g ρ)) (hF : P f g = some z) (q1 : Cond.methodLink RX0 idx y ∈ lw_all) (q2 : Cond.instanceMethod y ∈ lw_all) (q3 : Cond.selects RX0 y y ∈ lw_all) (q5 : Cond.code y yb maxL (some (.object "WalkingStones$Node")) ∈ lw_all) (hd : y.cls = RX0 ∧ y.cls ≠ "java/lang/invoke/MethodHandle" ∧ y.cls ≠ "java/lang/invoke/VarHandle" ∧ (parseMethodDescriptor y.desc).map (fun d => d.parameters.length) = some 0) (hls : ls.size = nL) (hR : (rpR n z.2.2.2).frames + 1 ≤ R.frames ∧ 8 + (maxL + 11) + (rpR n z.2.2.2).locals ≤ R.locals) (hW : (rest.map fun v => v.category).sum ≤ 8) (hf : cells + z.2.2.2 ≤ R.cells ∧ slots + 3 * z.2.2.2 ≤ R.slots) (d : decode cc pc = .ok (.invokevirtual idx, 3))
    (kk : ∀ (H : Heap) (locs : List Loc) (a : Nat) (N : va_W), z.1 = 0 → nd (N ++ ρ) o z.2.2.2 a z.2.2.1 → wx_w γ A s H locs (cw γ o ad z.2.1.1 z.2.1.2 (N ++ ρ)) → W p l e R s m as below meth c H locs (cells + z.2.2.2) (slots + 3 * z.2.2.2) Q (F0 m (pc + 3) ls (.ref a :: rest)))
    (kt : ∀ (H : Heap) (locs : List Loc) (N : va_W), z.1 = 1 → wx_w γ A s H locs (cw γ o ad z.2.1.1 z.2.1.2 (N ++ ρ)) → WT p l e R s m as below meth c H locs (cells + z.2.2.2) (slots + 3 * z.2.2.2) Q (F0 m pc ls rest) (ad 10)) : W p l e R s m as below meth c H locs cells slots Q (F0 m pc ls (.ref o :: rest)) :=
  wx_callVX (n := 0) (Cn := RX0) C K w (hM ρ f g z T hF) q1 q2 q3 q106 q5 rfl rfl hd (va_recv K.1.1 w.1 (ci := 1) (q0 := 0) rfl rfl) rfl rfl hR hls hW hf d (fun v ws H1 locs1 hp w => by obtain ⟨h0, a, N, rfl, rfl, hn⟩ := hp; exact kk H1 locs1 a N h0 hn w) (fun x ws H1 locs1 hp w => by obtain ⟨h1, rfl, N, rfl⟩ := hp; exact kt H1 locs1 N h1 w)
theorem mm_r {α : Type} {x : α} {A B C : List α} (h : x ∈ B ++ C) : x ∈ (A ++ B) ++ C := by
  rcases List.mem_append.mp h with h | h
  · exact List.mem_append_left _ (List.mem_append_right _ h)
  · exact List.mem_append_right _ h
theorem mm_l {α : Type} {x : α} {A B C : List α} (h : x ∈ A) : x ∈ (A ++ B) ++ C := List.mem_append_left _ (List.mem_append_left _ h)
theorem nd_up {N N2 ρ : va_W} {o k k2 a : Nat} {r : xR} (hk : k ≤ k2) (hn : nd (N ++ ρ) o k a r) : nd ((N2 ++ N) ++ ρ) o k2 a r :=
  nd_mono (fun a e h => Or.inl (by rw [List.append_assoc]; exact List.mem_append_right _ h)) k k2 a r hk hn
theorem nd_two {N N2 ρ : va_W} {o k k2 q a a2 : Nat} {r r2 : xR} {sg : Int32} (hn : nd (N ++ ρ) o k a r) (hn2 : nd (N2 ++ (((q, nblank) :: N) ++ ρ)) o k2 a2 r2) : nd (((q, .inr (11, [.int sg, .ref a, .ref a2])) :: (N2 ++ N)) ++ ρ) o (k + 1 + k2) q (r ++ r2 ++ [(opc sg, 0)]) := by
  rw [show k + 1 + k2 = (k + k2) + 1 by omega]
  refine Or.inr (Or.inr (Or.inr ⟨sg, a, a2, r, r2, List.mem_cons_self, ?_, ?_, rfl⟩))
  · exact nd_mono (fun a e h => Or.inl (List.mem_cons_of_mem _ (mm_r h))) k _ a r (by omega) hn
  · refine nd_mono (fun a e h => ?_) k2 _ a2 r2 (by omega) hn2
    rcases List.mem_append.mp h with h | h
    · exact Or.inl (List.mem_cons_of_mem _ (mm_l h))
    · rcases List.mem_cons.mp h with h | h
      · exact Or.inr (Or.inl (congrArg Prod.snd h))
      · exact Or.inl (List.mem_cons_of_mem _ (mm_r h))
theorem nd_turn {N ρ : va_W} {o k q a : Nat} {r : xR} {v : Int32} (hn : nd (N ++ ρ) o k a r) : nd (((q, .inr (10, [.ref a, .int v])) :: N) ++ ρ) o (k + 1) q (r ++ [(opt v, 0)]) :=
  Or.inr (Or.inr (Or.inl ⟨a, v, r, List.mem_cons_self, nd_mono (fun a e h => Or.inl (List.mem_cons_of_mem _ h)) k k a r (Nat.le_refl _) hn, rfl⟩))
section WD
variable {p : Program} {l : Launch} {e : Env} {R : Room} {s : State} {m : MethodId} {as : Array Value} {below : List Frame} {meth : Method} {c : Code} {H : Heap} {locs : List Loc} {cells slots : Nat} {Q : State → Prop}
theorem WT.widen {g : JFrame} {x k n : Nat} (hk : cells ≤ k) (hn : slots ≤ n) (h : WT p l e R s m as below meth c H locs k n Q g x) : WT p l e R s m as below meth c H locs cells slots Q g x := by
  intro T hT X
  exact h T hT (stand_widen X hk hn)
end WD
theorem lp_either {p : Program} {l : Launch} {e : Env} {s : State} {m : MethodId} {as : Array Value} {below : List Frame} {meth : Method} {c : Code} {A : Nat → Prop} {γ : wx_G} {o : Nat} {ad : Nat → Nat} {ρ : va_W} {n : Nat} {sub : xPF} {z : xP} (G : cx_ok γ) (S : sx_ok γ) (hM : PK l γ o ad yX0_both cX0_both 2 n sub) (T : kx_ok γ ad ρ) (C : CallFix p m c cX0_either 2 s as lw_all RX0) (K : wx_C γ A s) (hr : meth.sig.returnType = (some (.object "WalkingStones$Node"))) (hlocks : meth.locks = false) (htab : c.exceptionTable.isEmpty = true) : ∀ (q0 : Nat) (f : xF) (g : xG) (r : xR) (k : Nat) (N : va_W) (a : Nat) (H : Heap) (locs : List Loc) (ls : Array Slot), q_loop (q_key 3 124) sub q0 f g r k = some z → wx_w γ A s H locs (cw γ o ad f g (N ++ ρ)) → nd (N ++ ρ) o k a r → lv_has ls 2 [(1, .ref a), (0, .ref o)] → W p l e (rpR (n + 1) z.2.2.2) s m as below meth c H locs k (3 * k) (wx_QX γ (pkP γ o ad ρ z) (pkT γ o ad ρ z) A as s below z.2.2.2 (3 * z.2.2.2)) (F0 m 5 ls []) := by
  have hx := C.1
  have hb := C.2.1
  intro q0
  induction q0 with
  | zero =>
    intro f g r k N a H locs ls hF
    have hF : (none : Option xP) = some z := hF
    cases hF
  | succ q0 ih =>
    intro f g r k N a H locs ls hF w hn hl
    have hle := q_loop_le _ _ _ _ _ hF
    rw [q_loop] at hF
    obtain ⟨b, hb0, hF⟩ := obd hF
    unfold q_key at hb0
    obtain ⟨b0, hk0, hb0⟩ := obd hb0
    have hb0 := Option.some.inj hb0
    subst hb0
    refine lv_aload_n hx hb dX0_either_5 rfl (lv_at hl 1 rfl) ?_
    refine lv_iconst (v := (3 : Int32)) hx hb dX0_either_6 (by decide) ?_
    refine rX0_isKey G C K w hk0 hl.1 ⟨by simp only [rpR]; omega, by simp only [rpR]; omega⟩ (Nat.le_of_ble_eq_true rfl) dX0_either_7 (fun H locs w => ?_) ⟨by simp only [rpR]; omega, by simp only [rpR]; omega⟩
    refine lv_if_eq (tgt := 35) hx hb dX0_either_10 (by decide) (fun c => ?_) (fun c => ?_)
    · have hF := Option.some.inj ((if_pos c).symm.trans hF)
      subst hF
      refine lv_aload_n hx hb dX0_either_35 rfl (lv_at hl 0 rfl) ?_
      exact W.mono (fun t h => wx_QX.of h) (wx_aret C hr (Or.inl ⟨_, rfl⟩) hlocks w ⟨rfl, a, N, rfl, rfl, hn⟩ dX0_either_36)
    · have hF := (if_neg c).symm.trans hF
      unfold q_two at hF
      obtain ⟨x, hx0, hF⟩ := obd hF
      refine lv_aload_n hx hb dX0_either_13 rfl (lv_at hl 1 rfl) ?_
      refine xX0_next G S (kx_add T N) C K w hx0 hl.1 ⟨by simp only [rpR]; omega, by simp only [rpR]; omega⟩ (Nat.le_of_ble_eq_true rfl) dX0_either_14 (fun H locs h0 w => ?_) (fun H locs h1 w => ?_) ⟨by simp only [rpR]; omega, by simp only [rpR]; omega⟩
      · have hF := (if_pos h0).symm.trans hF
        obtain ⟨y2, hy2, hF⟩ := obd hF
        have hle2 : k + 1 + y2.2.2.2 ≤ z.2.2.2 := by
          by_cases c : y2.1 = 0
          · exact q_loop_le _ _ _ _ _ ((if_pos c).symm.trans hF)
          · have h := Option.some.inj ((if_neg c).symm.trans hF)
            rw [← h]
            exact Nat.le_refl _
        refine va_new (ci := 11) (fs := [.int 0, .null, .null]) (C := RX7) (T := TX7) (N := 3) hx hb C.2.2.2.2 in_X7 tyX7 tyX7_ok C.2.2.2.1 (C.2.2.2.2 _ q622) (C.2.2.2.2 _ q623) (C.2.2.2.2 _ q122) K.1.1 w.1 w.2.1 w.2.2 K.2.1 rfl (fun j hj => by rcases (show j = 0 ∨ j = 1 ∨ j = 2 by omega) with rfl | rfl | rfl <;> rfl) (by simp only [rpR]; omega) (by simp only [rpR]; omega) dX0_either_17 (fun q H hP hD hS => ?_)
        have w : wx_w γ A s H locs (cw γ o ad x.2.1 x.2.2 (((q, nblank) :: N) ++ ρ)) := wx_w.perm ⟨hP, hD, hS⟩ ((List.perm_append_singleton _ _).trans cw_cons)
        refine lv_dup hx hb dX0_either_20 rfl ?_
        refine lv_bipush (v := 124) hx hb dX0_either_21 (by decide) ?_
        refine lv_aload_n hx hb dX0_either_23 rfl (lv_at hl 0 rfl) ?_
        refine lv_aload_n hx hb dX0_either_24 rfl (lv_at hl 1 rfl) ?_
        refine x_sub hM (kx_add T ((q, nblank) :: N)) C K w hy2 q554 q556 qs15 q557 (by decide +kernel) hl.1 ⟨by simp only [rpR]; omega, by simp only [rpR]; omega⟩ (Nat.le_of_ble_eq_true rfl) ⟨by simp only [rpR]; omega, by simp only [rpR]; omega⟩ dX0_either_25 (fun H locs a2 N2 h0 hn2 w => ?_) (fun H locs N2 h1 w => ?_)
        · have hF := (if_pos h0).symm.trans hF
          have w : wx_w γ A s H locs ((q, nblank) :: cw γ o ad y2.2.1.1 y2.2.1.2 (N2 ++ (N ++ ρ))) := w.perm cw_head
          refine wx_callI (n := 3) C K w (mX7_init (l := l) G (v1 := 124) (v2 := a) (v3 := a2) rfl) q624 q625 q122 q626 rfl rfl rfl (by decide +kernel) ⟨by simp only [rpR]; omega, by simp only [rpR]; omega⟩ rfl rfl hl.1 (Nat.le_of_ble_eq_true rfl) ⟨by simp only [rpR]; omega, by simp only [rpR]; omega⟩ dX0_either_28 (fun v ws H locs hp w => ?_)
          obtain ⟨rfl, rfl⟩ := hp
          have w : wx_w γ A s H locs (cw γ o ad y2.2.1.1 y2.2.1.2 (((q, .inr (11, [.int 124, .ref a, .ref a2])) :: (N2 ++ N)) ++ ρ)) := by
            rw [List.cons_append, List.append_assoc]
            exact w.perm cw_cons
          have hn := nd_two (sg := 124) hn hn2
          refine W.widen (k := k + 1 + y2.2.2.2) (n := 3 * (k + 1 + y2.2.2.2)) (by omega) (by omega) ?_
          refine lv_astore_n (lv' := [(1, .ref q), (0, .ref o)]) hx hb dX0_either_31 rfl hl (by decide) rfl (fun ls hl => ?_)
          refine lv_goto (tgt := 5) hx hb dX0_either_32 (by decide) ?_
          exact ih _ _ _ _ _ _ _ _ _ hF w hn hl
        · have hF := Option.some.inj ((if_neg (wx_n0 h1)).symm.trans hF)
          subst hF
          exact WT.widen (by omega) (by omega) (wx_thrown rfl rfl rfl hlocks (wx_none htab _) w ⟨rfl, rfl, N2 ++ ((q, nblank) :: N), by rw [List.append_assoc]⟩)
      · have hF := Option.some.inj ((if_neg (wx_n0 h1)).symm.trans hF)
        subst hF
        exact WT.widen (by omega) (by omega) (wx_thrown rfl rfl rfl hlocks (wx_none htab _) w ⟨rfl, rfl, N, rfl⟩)
theorem mk_either {l : Launch} {γ : wx_G} {o : Nat} {ad : Nat → Nat} {n : Nat} {sub : xPF} (G : cx_ok γ) (S : sx_ok γ) (hM : PK l γ o ad yX0_both cX0_both 2 n sub) : PK l γ o ad yX0_either cX0_either 2 (n + 1) (q_seq (q_key 3 124) sub) := by
  intro ρ f g z T hF
  unfold q_seq at hF
  obtain ⟨y, hy, hF⟩ := obd hF
  refine wx_MX.of (by decide) (Nat.le_of_ble_eq_true rfl) ?_
  intro p e s m as below meth c A ls C K w hr hlocks htab hl
  have hx := C.1
  have hb := C.2.1
  have hle : y.2.2.2 ≤ z.2.2.2 := by
    by_cases c : y.1 = 0
    · exact q_loop_le _ _ _ _ _ ((if_pos c).symm.trans hF)
    · have h := Option.some.inj ((if_neg c).symm.trans hF)
      rw [← h]
      exact Nat.le_refl _
  refine lv_aload_n hx hb dX0_either_0 rfl (lv_at hl 0 rfl) ?_
  refine x_sub hM T C K w hy q554 q556 qs15 q557 (by decide +kernel) hl.1 ⟨by simp only [rpR]; omega, by simp only [rpR]; omega⟩ (Nat.le_of_ble_eq_true rfl) ⟨by simp only [rpR]; omega, by simp only [rpR]; omega⟩ dX0_either_1 (fun H locs a N h0 hn w => ?_) (fun H locs N h1 w => ?_)
  · have hF := (if_pos h0).symm.trans hF
    refine lv_astore_n (lv' := [(1, .ref a), (0, .ref o)]) hx hb dX0_either_4 rfl hl (by decide) rfl (fun ls hl => ?_)
    refine W.widen (k := y.2.2.2) (n := 3 * y.2.2.2) (by omega) (by omega) ?_
    exact lp_either G S hM T C K hr hlocks htab 5000 _ _ _ _ _ _ _ _ _ hF w hn hl
  · have hF := Option.some.inj ((if_neg (wx_n0 h1)).symm.trans hF)
    subst hF
    exact WT.widen (by omega) (by omega) (wx_thrown rfl rfl rfl hlocks (wx_none htab _) w ⟨rfl, rfl, N, rfl⟩)
theorem lp_both {p : Program} {l : Launch} {e : Env} {s : State} {m : MethodId} {as : Array Value} {below : List Frame} {meth : Method} {c : Code} {A : Nat → Prop} {γ : wx_G} {o : Nat} {ad : Nat → Nat} {ρ : va_W} {n : Nat} {sub : xPF} {z : xP} (G : cx_ok γ) (S : sx_ok γ) (hM : PK l γ o ad yX0_not cX0_not 3 n sub) (T : kx_ok γ ad ρ) (C : CallFix p m c cX0_both 2 s as lw_all RX0) (K : wx_C γ A s) (hr : meth.sig.returnType = (some (.object "WalkingStones$Node"))) (hlocks : meth.locks = false) (htab : c.exceptionTable.isEmpty = true) : ∀ (q0 : Nat) (f : xF) (g : xG) (r : xR) (k : Nat) (N : va_W) (a : Nat) (H : Heap) (locs : List Loc) (ls : Array Slot), q_loop (q_key 4 38) sub q0 f g r k = some z → wx_w γ A s H locs (cw γ o ad f g (N ++ ρ)) → nd (N ++ ρ) o k a r → lv_has ls 2 [(1, .ref a), (0, .ref o)] → W p l e (rpR (n + 1) z.2.2.2) s m as below meth c H locs k (3 * k) (wx_QX γ (pkP γ o ad ρ z) (pkT γ o ad ρ z) A as s below z.2.2.2 (3 * z.2.2.2)) (F0 m 5 ls []) := by
  have hx := C.1
  have hb := C.2.1
  intro q0
  induction q0 with
  | zero =>
    intro f g r k N a H locs ls hF
    have hF : (none : Option xP) = some z := hF
    cases hF
  | succ q0 ih =>
    intro f g r k N a H locs ls hF w hn hl
    have hle := q_loop_le _ _ _ _ _ hF
    rw [q_loop] at hF
    obtain ⟨b, hb0, hF⟩ := obd hF
    unfold q_key at hb0
    obtain ⟨b0, hk0, hb0⟩ := obd hb0
    have hb0 := Option.some.inj hb0
    subst hb0
    refine lv_aload_n hx hb dX0_both_5 rfl (lv_at hl 1 rfl) ?_
    refine lv_iconst (v := (4 : Int32)) hx hb dX0_both_6 (by decide) ?_
    refine rX0_isKey G C K w hk0 hl.1 ⟨by simp only [rpR]; omega, by simp only [rpR]; omega⟩ (Nat.le_of_ble_eq_true rfl) dX0_both_7 (fun H locs w => ?_) ⟨by simp only [rpR]; omega, by simp only [rpR]; omega⟩
    refine lv_if_eq (tgt := 35) hx hb dX0_both_10 (by decide) (fun c => ?_) (fun c => ?_)
    · have hF := Option.some.inj ((if_pos c).symm.trans hF)
      subst hF
      refine lv_aload_n hx hb dX0_both_35 rfl (lv_at hl 0 rfl) ?_
      exact W.mono (fun t h => wx_QX.of h) (wx_aret C hr (Or.inl ⟨_, rfl⟩) hlocks w ⟨rfl, a, N, rfl, rfl, hn⟩ dX0_both_36)
    · have hF := (if_neg c).symm.trans hF
      unfold q_two at hF
      obtain ⟨x, hx0, hF⟩ := obd hF
      refine lv_aload_n hx hb dX0_both_13 rfl (lv_at hl 1 rfl) ?_
      refine xX0_next G S (kx_add T N) C K w hx0 hl.1 ⟨by simp only [rpR]; omega, by simp only [rpR]; omega⟩ (Nat.le_of_ble_eq_true rfl) dX0_both_14 (fun H locs h0 w => ?_) (fun H locs h1 w => ?_) ⟨by simp only [rpR]; omega, by simp only [rpR]; omega⟩
      · have hF := (if_pos h0).symm.trans hF
        obtain ⟨y2, hy2, hF⟩ := obd hF
        have hle2 : k + 1 + y2.2.2.2 ≤ z.2.2.2 := by
          by_cases c : y2.1 = 0
          · exact q_loop_le _ _ _ _ _ ((if_pos c).symm.trans hF)
          · have h := Option.some.inj ((if_neg c).symm.trans hF)
            rw [← h]
            exact Nat.le_refl _
        refine va_new (ci := 11) (fs := [.int 0, .null, .null]) (C := RX7) (T := TX7) (N := 3) hx hb C.2.2.2.2 in_X7 tyX7 tyX7_ok C.2.2.2.1 (C.2.2.2.2 _ q622) (C.2.2.2.2 _ q623) (C.2.2.2.2 _ q122) K.1.1 w.1 w.2.1 w.2.2 K.2.1 rfl (fun j hj => by rcases (show j = 0 ∨ j = 1 ∨ j = 2 by omega) with rfl | rfl | rfl <;> rfl) (by simp only [rpR]; omega) (by simp only [rpR]; omega) dX0_both_17 (fun q H hP hD hS => ?_)
        have w : wx_w γ A s H locs (cw γ o ad x.2.1 x.2.2 (((q, nblank) :: N) ++ ρ)) := wx_w.perm ⟨hP, hD, hS⟩ ((List.perm_append_singleton _ _).trans cw_cons)
        refine lv_dup hx hb dX0_both_20 rfl ?_
        refine lv_bipush (v := 38) hx hb dX0_both_21 (by decide) ?_
        refine lv_aload_n hx hb dX0_both_23 rfl (lv_at hl 0 rfl) ?_
        refine lv_aload_n hx hb dX0_both_24 rfl (lv_at hl 1 rfl) ?_
        refine x_sub hM (kx_add T ((q, nblank) :: N)) C K w hy2 q558 q560 qs16 q561 (by decide +kernel) hl.1 ⟨by simp only [rpR]; omega, by simp only [rpR]; omega⟩ (Nat.le_of_ble_eq_true rfl) ⟨by simp only [rpR]; omega, by simp only [rpR]; omega⟩ dX0_both_25 (fun H locs a2 N2 h0 hn2 w => ?_) (fun H locs N2 h1 w => ?_)
        · have hF := (if_pos h0).symm.trans hF
          have w : wx_w γ A s H locs ((q, nblank) :: cw γ o ad y2.2.1.1 y2.2.1.2 (N2 ++ (N ++ ρ))) := w.perm cw_head
          refine wx_callI (n := 3) C K w (mX7_init (l := l) G (v1 := 38) (v2 := a) (v3 := a2) rfl) q624 q625 q122 q626 rfl rfl rfl (by decide +kernel) ⟨by simp only [rpR]; omega, by simp only [rpR]; omega⟩ rfl rfl hl.1 (Nat.le_of_ble_eq_true rfl) ⟨by simp only [rpR]; omega, by simp only [rpR]; omega⟩ dX0_both_28 (fun v ws H locs hp w => ?_)
          obtain ⟨rfl, rfl⟩ := hp
          have w : wx_w γ A s H locs (cw γ o ad y2.2.1.1 y2.2.1.2 (((q, .inr (11, [.int 38, .ref a, .ref a2])) :: (N2 ++ N)) ++ ρ)) := by
            rw [List.cons_append, List.append_assoc]
            exact w.perm cw_cons
          have hn := nd_two (sg := 38) hn hn2
          refine W.widen (k := k + 1 + y2.2.2.2) (n := 3 * (k + 1 + y2.2.2.2)) (by omega) (by omega) ?_
          refine lv_astore_n (lv' := [(1, .ref q), (0, .ref o)]) hx hb dX0_both_31 rfl hl (by decide) rfl (fun ls hl => ?_)
          refine lv_goto (tgt := 5) hx hb dX0_both_32 (by decide) ?_
          exact ih _ _ _ _ _ _ _ _ _ hF w hn hl
        · have hF := Option.some.inj ((if_neg (wx_n0 h1)).symm.trans hF)
          subst hF
          exact WT.widen (by omega) (by omega) (wx_thrown rfl rfl rfl hlocks (wx_none htab _) w ⟨rfl, rfl, N2 ++ ((q, nblank) :: N), by rw [List.append_assoc]⟩)
      · have hF := Option.some.inj ((if_neg (wx_n0 h1)).symm.trans hF)
        subst hF
        exact WT.widen (by omega) (by omega) (wx_thrown rfl rfl rfl hlocks (wx_none htab _) w ⟨rfl, rfl, N, rfl⟩)
theorem mk_both {l : Launch} {γ : wx_G} {o : Nat} {ad : Nat → Nat} {n : Nat} {sub : xPF} (G : cx_ok γ) (S : sx_ok γ) (hM : PK l γ o ad yX0_not cX0_not 3 n sub) : PK l γ o ad yX0_both cX0_both 2 (n + 1) (q_seq (q_key 4 38) sub) := by
  intro ρ f g z T hF
  unfold q_seq at hF
  obtain ⟨y, hy, hF⟩ := obd hF
  refine wx_MX.of (by decide) (Nat.le_of_ble_eq_true rfl) ?_
  intro p e s m as below meth c A ls C K w hr hlocks htab hl
  have hx := C.1
  have hb := C.2.1
  have hle : y.2.2.2 ≤ z.2.2.2 := by
    by_cases c : y.1 = 0
    · exact q_loop_le _ _ _ _ _ ((if_pos c).symm.trans hF)
    · have h := Option.some.inj ((if_neg c).symm.trans hF)
      rw [← h]
      exact Nat.le_refl _
  refine lv_aload_n hx hb dX0_both_0 rfl (lv_at hl 0 rfl) ?_
  refine x_sub hM T C K w hy q558 q560 qs16 q561 (by decide +kernel) hl.1 ⟨by simp only [rpR]; omega, by simp only [rpR]; omega⟩ (Nat.le_of_ble_eq_true rfl) ⟨by simp only [rpR]; omega, by simp only [rpR]; omega⟩ dX0_both_1 (fun H locs a N h0 hn w => ?_) (fun H locs N h1 w => ?_)
  · have hF := (if_pos h0).symm.trans hF
    refine lv_astore_n (lv' := [(1, .ref a), (0, .ref o)]) hx hb dX0_both_4 rfl hl (by decide) rfl (fun ls hl => ?_)
    refine W.widen (k := y.2.2.2) (n := 3 * y.2.2.2) (by omega) (by omega) ?_
    exact lp_both G S hM T C K hr hlocks htab 5000 _ _ _ _ _ _ _ _ _ hF w hn hl
  · have hF := Option.some.inj ((if_neg (wx_n0 h1)).symm.trans hF)
    subst hF
    exact WT.widen (by omega) (by omega) (wx_thrown rfl rfl rfl hlocks (wx_none htab _) w ⟨rfl, rfl, N, rfl⟩)
theorem lp_times {p : Program} {l : Launch} {e : Env} {s : State} {m : MethodId} {as : Array Value} {below : List Frame} {meth : Method} {c : Code} {A : Nat → Prop} {γ : wx_G} {o : Nat} {ad : Nat → Nat} {ρ : va_W} {n : Nat} {sub : xPF} {z : xP} (G : cx_ok γ) (S : sx_ok γ) (hM : PK l γ o ad yX0_one cX0_one 3 n sub) (T : kx_ok γ ad ρ) (C : CallFix p m c cX0_times 2 s as lw_all RX0) (K : wx_C γ A s) (hr : meth.sig.returnType = (some (.object "WalkingStones$Node"))) (hlocks : meth.locks = false) (htab : c.exceptionTable.isEmpty = true) : ∀ (q0 : Nat) (f : xF) (g : xG) (r : xR) (k : Nat) (N : va_W) (a : Nat) (H : Heap) (locs : List Loc) (ls : Array Slot), q_loop (q_sgn 42) sub q0 f g r k = some z → wx_w γ A s H locs (cw γ o ad f g (N ++ ρ)) → nd (N ++ ρ) o k a r → lv_has ls 2 [(1, .ref a), (0, .ref o)] → W p l e (rpR (n + 1) z.2.2.2) s m as below meth c H locs k (3 * k) (wx_QX γ (pkP γ o ad ρ z) (pkT γ o ad ρ z) A as s below z.2.2.2 (3 * z.2.2.2)) (F0 m 5 ls []) := by
  have hx := C.1
  have hb := C.2.1
  intro q0
  induction q0 with
  | zero =>
    intro f g r k N a H locs ls hF
    have hF : (none : Option xP) = some z := hF
    cases hF
  | succ q0 ih =>
    intro f g r k N a H locs ls hF w hn hl
    have hle := q_loop_le _ _ _ _ _ hF
    rw [q_loop] at hF
    obtain ⟨b, hb0, hF⟩ := obd hF
    unfold q_sgn at hb0
    obtain ⟨b0, hk0, hb0⟩ := obd hb0
    have hb0 := Option.some.inj hb0
    subst hb0
    refine lv_aload_n hx hb dX0_times_5 rfl (lv_at hl 1 rfl) ?_
    refine lv_bipush (v := (42 : Int32)) hx hb dX0_times_6 (by decide) ?_
    refine rX0_isSign G C K w hk0 hl.1 ⟨by simp only [rpR]; omega, by simp only [rpR]; omega⟩ (Nat.le_of_ble_eq_true rfl) dX0_times_8 (fun H locs w => ?_) ⟨by simp only [rpR]; omega, by simp only [rpR]; omega⟩
    refine lv_if_eq (tgt := 36) hx hb dX0_times_11 (by decide) (fun c => ?_) (fun c => ?_)
    · have hF := Option.some.inj ((if_pos c).symm.trans hF)
      subst hF
      refine lv_aload_n hx hb dX0_times_36 rfl (lv_at hl 0 rfl) ?_
      exact W.mono (fun t h => wx_QX.of h) (wx_aret C hr (Or.inl ⟨_, rfl⟩) hlocks w ⟨rfl, a, N, rfl, rfl, hn⟩ dX0_times_37)
    · have hF := (if_neg c).symm.trans hF
      unfold q_two at hF
      obtain ⟨x, hx0, hF⟩ := obd hF
      refine lv_aload_n hx hb dX0_times_14 rfl (lv_at hl 1 rfl) ?_
      refine xX0_next G S (kx_add T N) C K w hx0 hl.1 ⟨by simp only [rpR]; omega, by simp only [rpR]; omega⟩ (Nat.le_of_ble_eq_true rfl) dX0_times_15 (fun H locs h0 w => ?_) (fun H locs h1 w => ?_) ⟨by simp only [rpR]; omega, by simp only [rpR]; omega⟩
      · have hF := (if_pos h0).symm.trans hF
        obtain ⟨y2, hy2, hF⟩ := obd hF
        have hle2 : k + 1 + y2.2.2.2 ≤ z.2.2.2 := by
          by_cases c : y2.1 = 0
          · exact q_loop_le _ _ _ _ _ ((if_pos c).symm.trans hF)
          · have h := Option.some.inj ((if_neg c).symm.trans hF)
            rw [← h]
            exact Nat.le_refl _
        refine va_new (ci := 11) (fs := [.int 0, .null, .null]) (C := RX7) (T := TX7) (N := 3) hx hb C.2.2.2.2 in_X7 tyX7 tyX7_ok C.2.2.2.1 (C.2.2.2.2 _ q622) (C.2.2.2.2 _ q623) (C.2.2.2.2 _ q122) K.1.1 w.1 w.2.1 w.2.2 K.2.1 rfl (fun j hj => by rcases (show j = 0 ∨ j = 1 ∨ j = 2 by omega) with rfl | rfl | rfl <;> rfl) (by simp only [rpR]; omega) (by simp only [rpR]; omega) dX0_times_18 (fun q H hP hD hS => ?_)
        have w : wx_w γ A s H locs (cw γ o ad x.2.1 x.2.2 (((q, nblank) :: N) ++ ρ)) := wx_w.perm ⟨hP, hD, hS⟩ ((List.perm_append_singleton _ _).trans cw_cons)
        refine lv_dup hx hb dX0_times_21 rfl ?_
        refine lv_bipush (v := 42) hx hb dX0_times_22 (by decide) ?_
        refine lv_aload_n hx hb dX0_times_24 rfl (lv_at hl 0 rfl) ?_
        refine lv_aload_n hx hb dX0_times_25 rfl (lv_at hl 1 rfl) ?_
        refine x_sub hM (kx_add T ((q, nblank) :: N)) C K w hy2 q591 q593 qs20 q594 (by decide +kernel) hl.1 ⟨by simp only [rpR]; omega, by simp only [rpR]; omega⟩ (Nat.le_of_ble_eq_true rfl) ⟨by simp only [rpR]; omega, by simp only [rpR]; omega⟩ dX0_times_26 (fun H locs a2 N2 h0 hn2 w => ?_) (fun H locs N2 h1 w => ?_)
        · have hF := (if_pos h0).symm.trans hF
          have w : wx_w γ A s H locs ((q, nblank) :: cw γ o ad y2.2.1.1 y2.2.1.2 (N2 ++ (N ++ ρ))) := w.perm cw_head
          refine wx_callI (n := 3) C K w (mX7_init (l := l) G (v1 := 42) (v2 := a) (v3 := a2) rfl) q624 q625 q122 q626 rfl rfl rfl (by decide +kernel) ⟨by simp only [rpR]; omega, by simp only [rpR]; omega⟩ rfl rfl hl.1 (Nat.le_of_ble_eq_true rfl) ⟨by simp only [rpR]; omega, by simp only [rpR]; omega⟩ dX0_times_29 (fun v ws H locs hp w => ?_)
          obtain ⟨rfl, rfl⟩ := hp
          have w : wx_w γ A s H locs (cw γ o ad y2.2.1.1 y2.2.1.2 (((q, .inr (11, [.int 42, .ref a, .ref a2])) :: (N2 ++ N)) ++ ρ)) := by
            rw [List.cons_append, List.append_assoc]
            exact w.perm cw_cons
          have hn := nd_two (sg := 42) hn hn2
          refine W.widen (k := k + 1 + y2.2.2.2) (n := 3 * (k + 1 + y2.2.2.2)) (by omega) (by omega) ?_
          refine lv_astore_n (lv' := [(1, .ref q), (0, .ref o)]) hx hb dX0_times_32 rfl hl (by decide) rfl (fun ls hl => ?_)
          refine lv_goto (tgt := 5) hx hb dX0_times_33 (by decide) ?_
          exact ih _ _ _ _ _ _ _ _ _ hF w hn hl
        · have hF := Option.some.inj ((if_neg (wx_n0 h1)).symm.trans hF)
          subst hF
          exact WT.widen (by omega) (by omega) (wx_thrown rfl rfl rfl hlocks (wx_none htab _) w ⟨rfl, rfl, N2 ++ ((q, nblank) :: N), by rw [List.append_assoc]⟩)
      · have hF := Option.some.inj ((if_neg (wx_n0 h1)).symm.trans hF)
        subst hF
        exact WT.widen (by omega) (by omega) (wx_thrown rfl rfl rfl hlocks (wx_none htab _) w ⟨rfl, rfl, N, rfl⟩)
theorem mk_times {l : Launch} {γ : wx_G} {o : Nat} {ad : Nat → Nat} {n : Nat} {sub : xPF} (G : cx_ok γ) (S : sx_ok γ) (hM : PK l γ o ad yX0_one cX0_one 3 n sub) : PK l γ o ad yX0_times cX0_times 2 (n + 1) (q_seq (q_sgn 42) sub) := by
  intro ρ f g z T hF
  unfold q_seq at hF
  obtain ⟨y, hy, hF⟩ := obd hF
  refine wx_MX.of (by decide) (Nat.le_of_ble_eq_true rfl) ?_
  intro p e s m as below meth c A ls C K w hr hlocks htab hl
  have hx := C.1
  have hb := C.2.1
  have hle : y.2.2.2 ≤ z.2.2.2 := by
    by_cases c : y.1 = 0
    · exact q_loop_le _ _ _ _ _ ((if_pos c).symm.trans hF)
    · have h := Option.some.inj ((if_neg c).symm.trans hF)
      rw [← h]
      exact Nat.le_refl _
  refine lv_aload_n hx hb dX0_times_0 rfl (lv_at hl 0 rfl) ?_
  refine x_sub hM T C K w hy q591 q593 qs20 q594 (by decide +kernel) hl.1 ⟨by simp only [rpR]; omega, by simp only [rpR]; omega⟩ (Nat.le_of_ble_eq_true rfl) ⟨by simp only [rpR]; omega, by simp only [rpR]; omega⟩ dX0_times_1 (fun H locs a N h0 hn w => ?_) (fun H locs N h1 w => ?_)
  · have hF := (if_pos h0).symm.trans hF
    refine lv_astore_n (lv' := [(1, .ref a), (0, .ref o)]) hx hb dX0_times_4 rfl hl (by decide) rfl (fun ls hl => ?_)
    refine W.widen (k := y.2.2.2) (n := 3 * y.2.2.2) (by omega) (by omega) ?_
    exact lp_times G S hM T C K hr hlocks htab 5000 _ _ _ _ _ _ _ _ _ hF w hn hl
  · have hF := Option.some.inj ((if_neg (wx_n0 h1)).symm.trans hF)
    subst hF
    exact WT.widen (by omega) (by omega) (wx_thrown rfl rfl rfl hlocks (wx_none htab _) w ⟨rfl, rfl, N, rfl⟩)
theorem lp_plus {p : Program} {l : Launch} {e : Env} {s : State} {m : MethodId} {as : Array Value} {below : List Frame} {meth : Method} {c : Code} {A : Nat → Prop} {γ : wx_G} {o : Nat} {ad : Nat → Nat} {ρ : va_W} {n : Nat} {sub : xPF} {z : xP} (G : cx_ok γ) (S : sx_ok γ) (hM : PK l γ o ad yX0_times cX0_times 2 n sub) (T : kx_ok γ ad ρ) (C : CallFix p m c cX0_plus 3 s as lw_all RX0) (K : wx_C γ A s) (hr : meth.sig.returnType = (some (.object "WalkingStones$Node"))) (hlocks : meth.locks = false) (htab : c.exceptionTable.isEmpty = true) : ∀ (q0 : Nat) (f : xF) (g : xG) (r : xR) (k : Nat) (N : va_W) (a : Nat) (H : Heap) (locs : List Loc) (ls : Array Slot), q_loop (q_or2 43 45) sub q0 f g r k = some z → wx_w γ A s H locs (cw γ o ad f g (N ++ ρ)) → nd (N ++ ρ) o k a r → lv_has ls 3 [(1, .ref a), (0, .ref o)] → W p l e (rpR (n + 1) z.2.2.2) s m as below meth c H locs k (3 * k) (wx_QX γ (pkP γ o ad ρ z) (pkT γ o ad ρ z) A as s below z.2.2.2 (3 * z.2.2.2)) (F0 m 5 ls []) := by
  have hx := C.1
  have hb := C.2.1
  intro q0
  induction q0 with
  | zero =>
    intro f g r k N a H locs ls hF
    have hF : (none : Option xP) = some z := hF
    cases hF
  | succ q0 ih =>
    intro f g r k N a H locs ls hF w hn hl
    have hle := q_loop_le _ _ _ _ _ hF
    rw [q_loop] at hF
    obtain ⟨b, hb0, hF⟩ := obd hF
    unfold q_or2 at hb0
    obtain ⟨b0, hk0, hb0⟩ := obd hb0
    refine lv_aload_n hx hb dX0_plus_5 rfl (lv_at hl 1 rfl) ?_
    refine lv_bipush (v := (43 : Int32)) hx hb dX0_plus_6 (by decide) ?_
    refine rX0_isSign G C K w hk0 hl.1 ⟨by simp only [rpR]; omega, by simp only [rpR]; omega⟩ (Nat.le_of_ble_eq_true rfl) dX0_plus_8 (fun H locs w => ?_) ⟨by simp only [rpR]; omega, by simp only [rpR]; omega⟩
    refine lv_if_ne (tgt := 23) hx hb dX0_plus_11 (by decide) (fun c => ?_) (fun c => ?_)
    · have hb0 := Option.some.inj ((if_neg c).symm.trans hb0)
      subst hb0
      have hF := (if_neg c).symm.trans hF
      refine lv_aload_n hx hb dX0_plus_23 rfl (lv_at hl 1 rfl) ?_
      refine cget_24 C K w dX0_plus_24 ?_
      refine lv_istore_n (lv' := [(2, .int (f 24)), (1, .ref a), (0, .ref o)]) hx hb dX0_plus_27 rfl hl (by decide) rfl (fun ls hl => ?_)
      unfold q_two at hF
      obtain ⟨x, hx0, hF⟩ := obd hF
      refine lv_aload_n hx hb dX0_plus_28 rfl (lv_at hl 2 rfl) ?_
      refine xX0_next G S (kx_add T N) C K w hx0 hl.1 ⟨by simp only [rpR]; omega, by simp only [rpR]; omega⟩ (Nat.le_of_ble_eq_true rfl) dX0_plus_29 (fun H locs h0 w => ?_) (fun H locs h1 w => ?_) ⟨by simp only [rpR]; omega, by simp only [rpR]; omega⟩
      · have hF := (if_pos h0).symm.trans hF
        obtain ⟨y2, hy2, hF⟩ := obd hF
        have hle2 : k + 1 + y2.2.2.2 ≤ z.2.2.2 := by
          by_cases c : y2.1 = 0
          · exact q_loop_le _ _ _ _ _ ((if_pos c).symm.trans hF)
          · have h := Option.some.inj ((if_neg c).symm.trans hF)
            rw [← h]
            exact Nat.le_refl _
        refine va_new (ci := 11) (fs := [.int 0, .null, .null]) (C := RX7) (T := TX7) (N := 3) hx hb C.2.2.2.2 in_X7 tyX7 tyX7_ok C.2.2.2.1 (C.2.2.2.2 _ q622) (C.2.2.2.2 _ q623) (C.2.2.2.2 _ q122) K.1.1 w.1 w.2.1 w.2.2 K.2.1 rfl (fun j hj => by rcases (show j = 0 ∨ j = 1 ∨ j = 2 by omega) with rfl | rfl | rfl <;> rfl) (by simp only [rpR]; omega) (by simp only [rpR]; omega) dX0_plus_32 (fun q H hP hD hS => ?_)
        have w : wx_w γ A s H locs (cw γ o ad x.2.1 x.2.2 (((q, nblank) :: N) ++ ρ)) := wx_w.perm ⟨hP, hD, hS⟩ ((List.perm_append_singleton _ _).trans cw_cons)
        refine lv_dup hx hb dX0_plus_35 rfl ?_
        refine lv_iload_n hx hb dX0_plus_36 rfl (lv_at hl 0 rfl) ?_
        refine lv_aload_n hx hb dX0_plus_37 rfl (lv_at hl 1 rfl) ?_
        refine lv_aload_n hx hb dX0_plus_38 rfl (lv_at hl 2 rfl) ?_
        refine x_sub hM (kx_add T ((q, nblank) :: N)) C K w hy2 q587 q589 qs19 q590 (by decide +kernel) hl.1 ⟨by simp only [rpR]; omega, by simp only [rpR]; omega⟩ (Nat.le_of_ble_eq_true rfl) ⟨by simp only [rpR]; omega, by simp only [rpR]; omega⟩ dX0_plus_39 (fun H locs a2 N2 h0 hn2 w => ?_) (fun H locs N2 h1 w => ?_)
        · have hF := (if_pos h0).symm.trans hF
          have w : wx_w γ A s H locs ((q, nblank) :: cw γ o ad y2.2.1.1 y2.2.1.2 (N2 ++ (N ++ ρ))) := w.perm cw_head
          refine wx_callI (n := 3) C K w (mX7_init (l := l) G (v1 := (f 24)) (v2 := a) (v3 := a2) rfl) q624 q625 q122 q626 rfl rfl rfl (by decide +kernel) ⟨by simp only [rpR]; omega, by simp only [rpR]; omega⟩ rfl rfl hl.1 (Nat.le_of_ble_eq_true rfl) ⟨by simp only [rpR]; omega, by simp only [rpR]; omega⟩ dX0_plus_42 (fun v ws H locs hp w => ?_)
          obtain ⟨rfl, rfl⟩ := hp
          have w : wx_w γ A s H locs (cw γ o ad y2.2.1.1 y2.2.1.2 (((q, .inr (11, [.int (f 24), .ref a, .ref a2])) :: (N2 ++ N)) ++ ρ)) := by
            rw [List.cons_append, List.append_assoc]
            exact w.perm cw_cons
          have hn := nd_two (sg := (f 24)) hn hn2
          refine W.widen (k := k + 1 + y2.2.2.2) (n := 3 * (k + 1 + y2.2.2.2)) (by omega) (by omega) ?_
          refine lv_astore_n (lv' := [(1, .ref q), (2, .int (f 24)), (0, .ref o)]) hx hb dX0_plus_45 rfl hl (by decide) rfl (fun ls hl => ?_)
          refine lv_goto (tgt := 5) hx hb dX0_plus_46 (by decide) ?_
          exact ih _ _ _ _ _ _ _ _ _ hF w hn (lv_sub hl [0, 2] rfl)
        · have hF := Option.some.inj ((if_neg (wx_n0 h1)).symm.trans hF)
          subst hF
          exact WT.widen (by omega) (by omega) (wx_thrown rfl rfl rfl hlocks (wx_none htab _) w ⟨rfl, rfl, N2 ++ ((q, nblank) :: N), by rw [List.append_assoc]⟩)
      · have hF := Option.some.inj ((if_neg (wx_n0 h1)).symm.trans hF)
        subst hF
        exact WT.widen (by omega) (by omega) (wx_thrown rfl rfl rfl hlocks (wx_none htab _) w ⟨rfl, rfl, N, rfl⟩)
    · have hb0 := (if_pos c).symm.trans hb0
      obtain ⟨b1, hk1, hb0⟩ := obd hb0
      have hb0 := Option.some.inj hb0
      subst hb0
      refine lv_aload_n hx hb dX0_plus_14 rfl (lv_at hl 1 rfl) ?_
      refine lv_bipush (v := (45 : Int32)) hx hb dX0_plus_15 (by decide) ?_
      refine rX0_isSign G C K w hk1 hl.1 ⟨by simp only [rpR]; omega, by simp only [rpR]; omega⟩ (Nat.le_of_ble_eq_true rfl) dX0_plus_17 (fun H locs w => ?_) ⟨by simp only [rpR]; omega, by simp only [rpR]; omega⟩
      refine lv_if_eq (tgt := 49) hx hb dX0_plus_20 (by decide) (fun c => ?_) (fun c => ?_)
      · have hF := Option.some.inj ((if_pos c).symm.trans hF)
        subst hF
        refine lv_aload_n hx hb dX0_plus_49 rfl (lv_at hl 0 rfl) ?_
        exact W.mono (fun t h => wx_QX.of h) (wx_aret C hr (Or.inl ⟨_, rfl⟩) hlocks w ⟨rfl, a, N, rfl, rfl, hn⟩ dX0_plus_50)
      · have hF := (if_neg c).symm.trans hF
        refine lv_aload_n hx hb dX0_plus_23 rfl (lv_at hl 1 rfl) ?_
        refine cget_24 C K w dX0_plus_24 ?_
        refine lv_istore_n (lv' := [(2, .int (f 24)), (1, .ref a), (0, .ref o)]) hx hb dX0_plus_27 rfl hl (by decide) rfl (fun ls hl => ?_)
        unfold q_two at hF
        obtain ⟨x, hx0, hF⟩ := obd hF
        refine lv_aload_n hx hb dX0_plus_28 rfl (lv_at hl 2 rfl) ?_
        refine xX0_next G S (kx_add T N) C K w hx0 hl.1 ⟨by simp only [rpR]; omega, by simp only [rpR]; omega⟩ (Nat.le_of_ble_eq_true rfl) dX0_plus_29 (fun H locs h0 w => ?_) (fun H locs h1 w => ?_) ⟨by simp only [rpR]; omega, by simp only [rpR]; omega⟩
        · have hF := (if_pos h0).symm.trans hF
          obtain ⟨y2, hy2, hF⟩ := obd hF
          have hle2 : k + 1 + y2.2.2.2 ≤ z.2.2.2 := by
            by_cases c : y2.1 = 0
            · exact q_loop_le _ _ _ _ _ ((if_pos c).symm.trans hF)
            · have h := Option.some.inj ((if_neg c).symm.trans hF)
              rw [← h]
              exact Nat.le_refl _
          refine va_new (ci := 11) (fs := [.int 0, .null, .null]) (C := RX7) (T := TX7) (N := 3) hx hb C.2.2.2.2 in_X7 tyX7 tyX7_ok C.2.2.2.1 (C.2.2.2.2 _ q622) (C.2.2.2.2 _ q623) (C.2.2.2.2 _ q122) K.1.1 w.1 w.2.1 w.2.2 K.2.1 rfl (fun j hj => by rcases (show j = 0 ∨ j = 1 ∨ j = 2 by omega) with rfl | rfl | rfl <;> rfl) (by simp only [rpR]; omega) (by simp only [rpR]; omega) dX0_plus_32 (fun q H hP hD hS => ?_)
          have w : wx_w γ A s H locs (cw γ o ad x.2.1 x.2.2 (((q, nblank) :: N) ++ ρ)) := wx_w.perm ⟨hP, hD, hS⟩ ((List.perm_append_singleton _ _).trans cw_cons)
          refine lv_dup hx hb dX0_plus_35 rfl ?_
          refine lv_iload_n hx hb dX0_plus_36 rfl (lv_at hl 0 rfl) ?_
          refine lv_aload_n hx hb dX0_plus_37 rfl (lv_at hl 1 rfl) ?_
          refine lv_aload_n hx hb dX0_plus_38 rfl (lv_at hl 2 rfl) ?_
          refine x_sub hM (kx_add T ((q, nblank) :: N)) C K w hy2 q587 q589 qs19 q590 (by decide +kernel) hl.1 ⟨by simp only [rpR]; omega, by simp only [rpR]; omega⟩ (Nat.le_of_ble_eq_true rfl) ⟨by simp only [rpR]; omega, by simp only [rpR]; omega⟩ dX0_plus_39 (fun H locs a2 N2 h0 hn2 w => ?_) (fun H locs N2 h1 w => ?_)
          · have hF := (if_pos h0).symm.trans hF
            have w : wx_w γ A s H locs ((q, nblank) :: cw γ o ad y2.2.1.1 y2.2.1.2 (N2 ++ (N ++ ρ))) := w.perm cw_head
            refine wx_callI (n := 3) C K w (mX7_init (l := l) G (v1 := (f 24)) (v2 := a) (v3 := a2) rfl) q624 q625 q122 q626 rfl rfl rfl (by decide +kernel) ⟨by simp only [rpR]; omega, by simp only [rpR]; omega⟩ rfl rfl hl.1 (Nat.le_of_ble_eq_true rfl) ⟨by simp only [rpR]; omega, by simp only [rpR]; omega⟩ dX0_plus_42 (fun v ws H locs hp w => ?_)
            obtain ⟨rfl, rfl⟩ := hp
            have w : wx_w γ A s H locs (cw γ o ad y2.2.1.1 y2.2.1.2 (((q, .inr (11, [.int (f 24), .ref a, .ref a2])) :: (N2 ++ N)) ++ ρ)) := by
              rw [List.cons_append, List.append_assoc]
              exact w.perm cw_cons
            have hn := nd_two (sg := (f 24)) hn hn2
            refine W.widen (k := k + 1 + y2.2.2.2) (n := 3 * (k + 1 + y2.2.2.2)) (by omega) (by omega) ?_
            refine lv_astore_n (lv' := [(1, .ref q), (2, .int (f 24)), (0, .ref o)]) hx hb dX0_plus_45 rfl hl (by decide) rfl (fun ls hl => ?_)
            refine lv_goto (tgt := 5) hx hb dX0_plus_46 (by decide) ?_
            exact ih _ _ _ _ _ _ _ _ _ hF w hn (lv_sub hl [0, 2] rfl)
          · have hF := Option.some.inj ((if_neg (wx_n0 h1)).symm.trans hF)
            subst hF
            exact WT.widen (by omega) (by omega) (wx_thrown rfl rfl rfl hlocks (wx_none htab _) w ⟨rfl, rfl, N2 ++ ((q, nblank) :: N), by rw [List.append_assoc]⟩)
        · have hF := Option.some.inj ((if_neg (wx_n0 h1)).symm.trans hF)
          subst hF
          exact WT.widen (by omega) (by omega) (wx_thrown rfl rfl rfl hlocks (wx_none htab _) w ⟨rfl, rfl, N, rfl⟩)
theorem mk_plus {l : Launch} {γ : wx_G} {o : Nat} {ad : Nat → Nat} {n : Nat} {sub : xPF} (G : cx_ok γ) (S : sx_ok γ) (hM : PK l γ o ad yX0_times cX0_times 2 n sub) : PK l γ o ad yX0_plus cX0_plus 3 (n + 1) (q_seq (q_or2 43 45) sub) := by
  intro ρ f g z T hF
  unfold q_seq at hF
  obtain ⟨y, hy, hF⟩ := obd hF
  refine wx_MX.of (by decide) (Nat.le_of_ble_eq_true rfl) ?_
  intro p e s m as below meth c A ls C K w hr hlocks htab hl
  have hx := C.1
  have hb := C.2.1
  have hle : y.2.2.2 ≤ z.2.2.2 := by
    by_cases c : y.1 = 0
    · exact q_loop_le _ _ _ _ _ ((if_pos c).symm.trans hF)
    · have h := Option.some.inj ((if_neg c).symm.trans hF)
      rw [← h]
      exact Nat.le_refl _
  refine lv_aload_n hx hb dX0_plus_0 rfl (lv_at hl 0 rfl) ?_
  refine x_sub hM T C K w hy q587 q589 qs19 q590 (by decide +kernel) hl.1 ⟨by simp only [rpR]; omega, by simp only [rpR]; omega⟩ (Nat.le_of_ble_eq_true rfl) ⟨by simp only [rpR]; omega, by simp only [rpR]; omega⟩ dX0_plus_1 (fun H locs a N h0 hn w => ?_) (fun H locs N h1 w => ?_)
  · have hF := (if_pos h0).symm.trans hF
    refine lv_astore_n (lv' := [(1, .ref a), (0, .ref o)]) hx hb dX0_plus_4 rfl hl (by decide) rfl (fun ls hl => ?_)
    refine W.widen (k := y.2.2.2) (n := 3 * y.2.2.2) (by omega) (by omega) ?_
    exact lp_plus G S hM T C K hr hlocks htab 5000 _ _ _ _ _ _ _ _ _ hF w hn hl
  · have hF := Option.some.inj ((if_neg (wx_n0 h1)).symm.trans hF)
    subst hF
    exact WT.widen (by omega) (by omega) (wx_thrown rfl rfl rfl hlocks (wx_none htab _) w ⟨rfl, rfl, N, rfl⟩)
theorem mk_not {l : Launch} {γ : wx_G} {o : Nat} {ad : Nat → Nat} {n : Nat} {nt sub : xPF} (G : cx_ok γ) (S : sx_ok γ) (hM2 : PK l γ o ad yX0_not cX0_not 3 n nt) (hM : PK l γ o ad yX0_plus cX0_plus 3 n sub) : PK l γ o ad yX0_not cX0_not 3 (n + 1) (q_not nt sub) := by
  intro ρ f g z T hF
  unfold q_not at hF
  obtain ⟨b, hb0, hF⟩ := obd hF
  refine wx_MX.of (by decide) (Nat.le_of_ble_eq_true rfl) ?_
  intro p e s m as below meth c A ls C K w hr hlocks htab hl
  have hx := C.1
  have hb := C.2.1
  refine lv_aload_n hx hb dX0_not_0 rfl (lv_at hl 0 rfl) ?_
  refine lv_iconst (v := (5 : Int32)) hx hb dX0_not_1 (by decide) ?_
  refine rX0_isKey G C K w hb0 hl.1 ⟨by simp only [rpR]; omega, by simp only [rpR]; omega⟩ (Nat.le_of_ble_eq_true rfl) dX0_not_2 (fun H locs w => ?_) ⟨by simp only [rpR]; omega, by simp only [rpR]; omega⟩
  refine lv_if_eq (tgt := 37) hx hb dX0_not_5 (by decide) (fun c => ?_) (fun c => ?_)
  · have hF := (if_pos c).symm.trans hF
    obtain ⟨y, hy, hF⟩ := obd hF
    have hle : y.2.2.2 ≤ z.2.2.2 := by
      by_cases c : y.1 = 0
      · have hF := (if_pos c).symm.trans hF
        obtain ⟨b2, -, hF⟩ := obd hF
        by_cases c : b2.1 = 0
        · exact q_end_le _ _ _ _ ((if_pos c).symm.trans hF)
        · exact q_two_le q_end_le ((if_neg c).symm.trans hF)
      · have h := Option.some.inj ((if_neg c).symm.trans hF)
        rw [← h]
        exact Nat.le_refl _
    refine lv_aload_n hx hb dX0_not_37 rfl (lv_at hl 0 rfl) ?_
    refine x_sub hM T C K w hy q583 q585 qs18 q586 (by decide +kernel) hl.1 ⟨by simp only [rpR]; omega, by simp only [rpR]; omega⟩ (Nat.le_of_ble_eq_true rfl) ⟨by simp only [rpR]; omega, by simp only [rpR]; omega⟩ dX0_not_38 (fun H locs a N h0 hn w => ?_) (fun H locs N h1 w => ?_)
    · have hF := (if_pos h0).symm.trans hF
      refine lv_astore_n (lv' := [(1, .ref a), (0, .ref o)]) hx hb dX0_not_41 rfl hl (by decide) rfl (fun ls hl => ?_)
      refine W.widen (k := y.2.2.2) (n := 3 * y.2.2.2) (by omega) (by omega) ?_
      obtain ⟨k, hk⟩ : ∃ k, k = y.2.2.2 := ⟨_, rfl⟩
      rw [← hk] at hle hn hF ⊢
      obtain ⟨b2, hb2, hF⟩ := obd hF
      unfold q_or2 at hb2
      obtain ⟨b3, hk0, hb2⟩ := obd hb2
      refine lv_aload_n hx hb dX0_not_42 rfl (lv_at hl 1 rfl) ?_
      refine lv_bipush (v := (60 : Int32)) hx hb dX0_not_43 (by decide) ?_
      refine rX0_isSign G C K w hk0 hl.1 ⟨by simp only [rpR]; omega, by simp only [rpR]; omega⟩ (Nat.le_of_ble_eq_true rfl) dX0_not_45 (fun H locs w => ?_) ⟨by simp only [rpR]; omega, by simp only [rpR]; omega⟩
      refine lv_if_ne (tgt := 60) hx hb dX0_not_48 (by decide) (fun c => ?_) (fun c => ?_)
      · have hb2 := Option.some.inj ((if_neg c).symm.trans hb2)
        subst hb2
        have hF := (if_neg c).symm.trans hF
        refine lv_aload_n hx hb dX0_not_60 rfl (lv_at hl 1 rfl) ?_
        refine cget_24 C K w dX0_not_61 ?_
        refine lv_istore_n (lv' := [(2, .int (y.2.1.1 24)), (1, .ref a), (0, .ref o)]) hx hb dX0_not_64 rfl hl (by decide) rfl (fun ls hl => ?_)
        unfold q_two at hF
        obtain ⟨x, hx0, hF⟩ := obd hF
        refine lv_aload_n hx hb dX0_not_65 rfl (lv_at hl 2 rfl) ?_
        refine xX0_next G S (kx_add T N) C K w hx0 hl.1 ⟨by simp only [rpR]; omega, by simp only [rpR]; omega⟩ (Nat.le_of_ble_eq_true rfl) dX0_not_66 (fun H locs h0 w => ?_) (fun H locs h1 w => ?_) ⟨by simp only [rpR]; omega, by simp only [rpR]; omega⟩
        · have hF := (if_pos h0).symm.trans hF
          obtain ⟨y2, hy2, hF⟩ := obd hF
          have hle2 : k + 1 + y2.2.2.2 ≤ z.2.2.2 := by
            by_cases c : y2.1 = 0
            · exact q_end_le _ _ _ _ ((if_pos c).symm.trans hF)
            · have h := Option.some.inj ((if_neg c).symm.trans hF)
              rw [← h]
              exact Nat.le_refl _
          refine va_new (ci := 11) (fs := [.int 0, .null, .null]) (C := RX7) (T := TX7) (N := 3) hx hb C.2.2.2.2 in_X7 tyX7 tyX7_ok C.2.2.2.1 (C.2.2.2.2 _ q622) (C.2.2.2.2 _ q623) (C.2.2.2.2 _ q122) K.1.1 w.1 w.2.1 w.2.2 K.2.1 rfl (fun j hj => by rcases (show j = 0 ∨ j = 1 ∨ j = 2 by omega) with rfl | rfl | rfl <;> rfl) (by simp only [rpR]; omega) (by simp only [rpR]; omega) dX0_not_69 (fun q H hP hD hS => ?_)
          have w : wx_w γ A s H locs (cw γ o ad x.2.1 x.2.2 (((q, nblank) :: N) ++ ρ)) := wx_w.perm ⟨hP, hD, hS⟩ ((List.perm_append_singleton _ _).trans cw_cons)
          refine lv_dup hx hb dX0_not_72 rfl ?_
          refine lv_iload_n hx hb dX0_not_73 rfl (lv_at hl 0 rfl) ?_
          refine lv_aload_n hx hb dX0_not_74 rfl (lv_at hl 1 rfl) ?_
          refine lv_aload_n hx hb dX0_not_75 rfl (lv_at hl 2 rfl) ?_
          refine x_sub hM (kx_add T ((q, nblank) :: N)) C K w hy2 q583 q585 qs18 q586 (by decide +kernel) hl.1 ⟨by simp only [rpR]; omega, by simp only [rpR]; omega⟩ (Nat.le_of_ble_eq_true rfl) ⟨by simp only [rpR]; omega, by simp only [rpR]; omega⟩ dX0_not_76 (fun H locs a2 N2 h0 hn2 w => ?_) (fun H locs N2 h1 w => ?_)
          · have hF := (if_pos h0).symm.trans hF
            have w : wx_w γ A s H locs ((q, nblank) :: cw γ o ad y2.2.1.1 y2.2.1.2 (N2 ++ (N ++ ρ))) := w.perm cw_head
            refine wx_callI (n := 3) C K w (mX7_init (l := l) G (v1 := (y.2.1.1 24)) (v2 := a) (v3 := a2) rfl) q624 q625 q122 q626 rfl rfl rfl (by decide +kernel) ⟨by simp only [rpR]; omega, by simp only [rpR]; omega⟩ rfl rfl hl.1 (Nat.le_of_ble_eq_true rfl) ⟨by simp only [rpR]; omega, by simp only [rpR]; omega⟩ dX0_not_79 (fun v ws H locs hp w => ?_)
            obtain ⟨rfl, rfl⟩ := hp
            have w : wx_w γ A s H locs (cw γ o ad y2.2.1.1 y2.2.1.2 (((q, .inr (11, [.int (y.2.1.1 24), .ref a, .ref a2])) :: (N2 ++ N)) ++ ρ)) := by
              rw [List.cons_append, List.append_assoc]
              exact w.perm cw_cons
            have hn := nd_two (sg := (y.2.1.1 24)) hn hn2
            refine W.widen (k := k + 1 + y2.2.2.2) (n := 3 * (k + 1 + y2.2.2.2)) (by omega) (by omega) ?_
            refine lv_astore_n (lv' := [(1, .ref q), (2, .int (y.2.1.1 24)), (0, .ref o)]) hx hb dX0_not_82 rfl hl (by decide) rfl (fun ls hl => ?_)
            have hF := Option.some.inj hF
            subst hF
            refine lv_aload_n hx hb dX0_not_83 rfl (lv_at hl 0 rfl) ?_
            exact W.mono (fun t h => wx_QX.of h) (wx_aret C hr (Or.inl ⟨_, rfl⟩) hlocks w ⟨rfl, q, _, rfl, rfl, hn⟩ dX0_not_84)
          · have hF := Option.some.inj ((if_neg (wx_n0 h1)).symm.trans hF)
            subst hF
            exact WT.widen (by omega) (by omega) (wx_thrown rfl rfl rfl hlocks (wx_none htab _) w ⟨rfl, rfl, N2 ++ ((q, nblank) :: N), by rw [List.append_assoc]⟩)
        · have hF := Option.some.inj ((if_neg (wx_n0 h1)).symm.trans hF)
          subst hF
          exact WT.widen (by omega) (by omega) (wx_thrown rfl rfl rfl hlocks (wx_none htab _) w ⟨rfl, rfl, N, rfl⟩)
      · have hb2 := (if_pos c).symm.trans hb2
        obtain ⟨b1, hk1, hb2⟩ := obd hb2
        have hb2 := Option.some.inj hb2
        subst hb2
        refine lv_aload_n hx hb dX0_not_51 rfl (lv_at hl 1 rfl) ?_
        refine lv_bipush (v := (61 : Int32)) hx hb dX0_not_52 (by decide) ?_
        refine rX0_isSign G C K w hk1 hl.1 ⟨by simp only [rpR]; omega, by simp only [rpR]; omega⟩ (Nat.le_of_ble_eq_true rfl) dX0_not_54 (fun H locs w => ?_) ⟨by simp only [rpR]; omega, by simp only [rpR]; omega⟩
        refine lv_if_eq (tgt := 83) hx hb dX0_not_57 (by decide) (fun c => ?_) (fun c => ?_)
        · have hF := Option.some.inj ((if_pos c).symm.trans hF)
          subst hF
          refine lv_aload_n hx hb dX0_not_83 rfl (lv_at hl 0 rfl) ?_
          exact W.mono (fun t h => wx_QX.of h) (wx_aret C hr (Or.inl ⟨_, rfl⟩) hlocks w ⟨rfl, a, N, rfl, rfl, hn⟩ dX0_not_84)
        · have hF := (if_neg c).symm.trans hF
          refine lv_aload_n hx hb dX0_not_60 rfl (lv_at hl 1 rfl) ?_
          refine cget_24 C K w dX0_not_61 ?_
          refine lv_istore_n (lv' := [(2, .int (y.2.1.1 24)), (1, .ref a), (0, .ref o)]) hx hb dX0_not_64 rfl hl (by decide) rfl (fun ls hl => ?_)
          unfold q_two at hF
          obtain ⟨x, hx0, hF⟩ := obd hF
          refine lv_aload_n hx hb dX0_not_65 rfl (lv_at hl 2 rfl) ?_
          refine xX0_next G S (kx_add T N) C K w hx0 hl.1 ⟨by simp only [rpR]; omega, by simp only [rpR]; omega⟩ (Nat.le_of_ble_eq_true rfl) dX0_not_66 (fun H locs h0 w => ?_) (fun H locs h1 w => ?_) ⟨by simp only [rpR]; omega, by simp only [rpR]; omega⟩
          · have hF := (if_pos h0).symm.trans hF
            obtain ⟨y2, hy2, hF⟩ := obd hF
            have hle2 : k + 1 + y2.2.2.2 ≤ z.2.2.2 := by
              by_cases c : y2.1 = 0
              · exact q_end_le _ _ _ _ ((if_pos c).symm.trans hF)
              · have h := Option.some.inj ((if_neg c).symm.trans hF)
                rw [← h]
                exact Nat.le_refl _
            refine va_new (ci := 11) (fs := [.int 0, .null, .null]) (C := RX7) (T := TX7) (N := 3) hx hb C.2.2.2.2 in_X7 tyX7 tyX7_ok C.2.2.2.1 (C.2.2.2.2 _ q622) (C.2.2.2.2 _ q623) (C.2.2.2.2 _ q122) K.1.1 w.1 w.2.1 w.2.2 K.2.1 rfl (fun j hj => by rcases (show j = 0 ∨ j = 1 ∨ j = 2 by omega) with rfl | rfl | rfl <;> rfl) (by simp only [rpR]; omega) (by simp only [rpR]; omega) dX0_not_69 (fun q H hP hD hS => ?_)
            have w : wx_w γ A s H locs (cw γ o ad x.2.1 x.2.2 (((q, nblank) :: N) ++ ρ)) := wx_w.perm ⟨hP, hD, hS⟩ ((List.perm_append_singleton _ _).trans cw_cons)
            refine lv_dup hx hb dX0_not_72 rfl ?_
            refine lv_iload_n hx hb dX0_not_73 rfl (lv_at hl 0 rfl) ?_
            refine lv_aload_n hx hb dX0_not_74 rfl (lv_at hl 1 rfl) ?_
            refine lv_aload_n hx hb dX0_not_75 rfl (lv_at hl 2 rfl) ?_
            refine x_sub hM (kx_add T ((q, nblank) :: N)) C K w hy2 q583 q585 qs18 q586 (by decide +kernel) hl.1 ⟨by simp only [rpR]; omega, by simp only [rpR]; omega⟩ (Nat.le_of_ble_eq_true rfl) ⟨by simp only [rpR]; omega, by simp only [rpR]; omega⟩ dX0_not_76 (fun H locs a2 N2 h0 hn2 w => ?_) (fun H locs N2 h1 w => ?_)
            · have hF := (if_pos h0).symm.trans hF
              have w : wx_w γ A s H locs ((q, nblank) :: cw γ o ad y2.2.1.1 y2.2.1.2 (N2 ++ (N ++ ρ))) := w.perm cw_head
              refine wx_callI (n := 3) C K w (mX7_init (l := l) G (v1 := (y.2.1.1 24)) (v2 := a) (v3 := a2) rfl) q624 q625 q122 q626 rfl rfl rfl (by decide +kernel) ⟨by simp only [rpR]; omega, by simp only [rpR]; omega⟩ rfl rfl hl.1 (Nat.le_of_ble_eq_true rfl) ⟨by simp only [rpR]; omega, by simp only [rpR]; omega⟩ dX0_not_79 (fun v ws H locs hp w => ?_)
              obtain ⟨rfl, rfl⟩ := hp
              have w : wx_w γ A s H locs (cw γ o ad y2.2.1.1 y2.2.1.2 (((q, .inr (11, [.int (y.2.1.1 24), .ref a, .ref a2])) :: (N2 ++ N)) ++ ρ)) := by
                rw [List.cons_append, List.append_assoc]
                exact w.perm cw_cons
              have hn := nd_two (sg := (y.2.1.1 24)) hn hn2
              refine W.widen (k := k + 1 + y2.2.2.2) (n := 3 * (k + 1 + y2.2.2.2)) (by omega) (by omega) ?_
              refine lv_astore_n (lv' := [(1, .ref q), (2, .int (y.2.1.1 24)), (0, .ref o)]) hx hb dX0_not_82 rfl hl (by decide) rfl (fun ls hl => ?_)
              have hF := Option.some.inj hF
              subst hF
              refine lv_aload_n hx hb dX0_not_83 rfl (lv_at hl 0 rfl) ?_
              exact W.mono (fun t h => wx_QX.of h) (wx_aret C hr (Or.inl ⟨_, rfl⟩) hlocks w ⟨rfl, q, _, rfl, rfl, hn⟩ dX0_not_84)
            · have hF := Option.some.inj ((if_neg (wx_n0 h1)).symm.trans hF)
              subst hF
              exact WT.widen (by omega) (by omega) (wx_thrown rfl rfl rfl hlocks (wx_none htab _) w ⟨rfl, rfl, N2 ++ ((q, nblank) :: N), by rw [List.append_assoc]⟩)
          · have hF := Option.some.inj ((if_neg (wx_n0 h1)).symm.trans hF)
            subst hF
            exact WT.widen (by omega) (by omega) (wx_thrown rfl rfl rfl hlocks (wx_none htab _) w ⟨rfl, rfl, N, rfl⟩)
    · have hF := Option.some.inj ((if_neg (wx_n0 h1)).symm.trans hF)
      subst hF
      exact WT.widen (by omega) (by omega) (wx_thrown rfl rfl rfl hlocks (wx_none htab _) w ⟨rfl, rfl, N, rfl⟩)
  · have hF := (if_neg c).symm.trans hF
    obtain ⟨x, hx0, hF⟩ := obd hF
    refine lv_aload_n hx hb dX0_not_8 rfl (lv_at hl 0 rfl) ?_
    refine xX0_openOne G S T C K w hx0 hl.1 ⟨by simp only [rpR]; omega, by simp only [rpR]; omega⟩ (Nat.le_of_ble_eq_true rfl) dX0_not_9 (fun H locs h0 w => ?_) (fun H locs h1 w => ?_) ⟨Nat.zero_le _, Nat.zero_le _⟩
    · have hF := (if_pos h0).symm.trans hF
      obtain ⟨y, hy, hF⟩ := obd hF
      have hle : y.2.2.2 ≤ z.2.2.2 := by
        by_cases c : y.1 = 0
        · have h := Option.some.inj ((if_pos c).symm.trans hF)
          rw [← h]
          exact Nat.le_succ _
        · have h := Option.some.inj ((if_neg c).symm.trans hF)
          rw [← h]
          exact Nat.le_refl _
      refine lv_aload_n hx hb dX0_not_12 rfl (lv_at hl 0 rfl) ?_
      refine x_sub hM2 T C K w hy q558 q560 qs16 q561 (by decide +kernel) hl.1 ⟨by simp only [rpR]; omega, by simp only [rpR]; omega⟩ (Nat.le_of_ble_eq_true rfl) ⟨by simp only [rpR]; omega, by simp only [rpR]; omega⟩ dX0_not_13 (fun H locs a N h0 hn w => ?_) (fun H locs N h1 w => ?_)
      · have hF := Option.some.inj ((if_pos h0).symm.trans hF)
        have hz : z.2.2.2 = y.2.2.2 + 1 := by rw [← hF]
        refine lv_astore_n (lv' := [(1, .ref a), (0, .ref o)]) hx hb dX0_not_16 rfl hl (by decide) rfl (fun ls hl => ?_)
        refine lv_aload_n hx hb dX0_not_17 rfl (lv_at hl 1 rfl) ?_
        refine lv_dup hx hb dX0_not_18 rfl ?_
        refine cget_25 C K w dX0_not_19 ?_
        refine lv_iconst (v := (1 : Int32)) hx hb dX0_not_22 (by decide) ?_
        refine lv_isub hx hb dX0_not_23 ?_
        refine cput_25 C K w dX0_not_24 (fun H locs w => ?_)
        refine va_new (ci := 10) (fs := [.null, .int 0]) (C := RX4) (T := TX4) (N := 2) hx hb C.2.2.2.2 in_X4 tyX4 tyX4_ok C.2.2.2.1 (C.2.2.2.2 _ q566) (C.2.2.2.2 _ q567) (C.2.2.2.2 _ q119) K.1.1 w.1 w.2.1 w.2.2 K.2.1 rfl (fun j hj => by rcases (show j = 0 ∨ j = 1 by omega) with rfl | rfl <;> rfl) (by simp only [rpR]; omega) (by simp only [rpR]; omega) dX0_not_27 (fun q H hP hD hS => ?_)
        have w : wx_w γ A s H locs ((q, .inr (10, [.null, .int 0])) :: cw γ o ad (upd y.2.1.1 25 (y.2.1.1 25 - 1)) y.2.1.2 (N ++ ρ)) := wx_w.perm ⟨hP, hD, hS⟩ (List.perm_append_singleton _ _)
        refine lv_dup hx hb dX0_not_30 rfl ?_
        refine lv_aload_n hx hb dX0_not_31 rfl (lv_at hl 0 rfl) ?_
        refine lv_iconst (v := (0 : Int32)) hx hb dX0_not_32 (by decide) ?_
        refine wx_callI (n := 2) C K w (mX4_init (l := l) G (v1 := a) (v2 := 0) rfl rfl rfl) q568 q569 q119 q570 rfl rfl rfl (by decide +kernel) ⟨by simp only [rpR]; omega, by simp only [rpR]; omega⟩ rfl rfl hl.1 (Nat.le_of_ble_eq_true rfl) ⟨by simp only [rpR]; omega, by simp only [rpR]; omega⟩ dX0_not_33 (fun v ws H locs hp w => ?_)
        obtain ⟨rfl, rfl⟩ := hp
        have w : wx_w γ A s H locs (cw γ o ad (upd y.2.1.1 25 (y.2.1.1 25 - 1)) y.2.1.2 (((q, .inr (10, [.ref a, .int 0])) :: N) ++ ρ)) := w.perm cw_cons
        subst hF
        refine W.widen (k := y.2.2.2 + 1) (n := 3 * (y.2.2.2 + 1)) (by omega) (by omega) ?_
        exact W.mono (fun t h => wx_QX.of h) (wx_aret C hr (Or.inl ⟨_, rfl⟩) hlocks w ⟨rfl, q, _, rfl, rfl, nd_turn (v := 0) hn⟩ dX0_not_36)
      · have hF := Option.some.inj ((if_neg (wx_n0 h1)).symm.trans hF)
        subst hF
        exact WT.widen (by omega) (by omega) (wx_thrown rfl rfl rfl hlocks (wx_none htab _) w ⟨rfl, rfl, N, rfl⟩)
    · have hF := Option.some.inj ((if_neg (wx_n0 h1)).symm.trans hF)
      subst hF
      exact WT.widen (by omega) (by omega) (wx_thrown rfl rfl rfl hlocks (wx_none htab _) w ⟨rfl, rfl, [], rfl⟩)
theorem mk_one {l : Launch} {γ : wx_G} {o : Nat} {ad : Nat → Nat} {n : Nat} {one eith : xPF} (G : cx_ok γ) (S : sx_ok γ) (hM1 : PK l γ o ad yX0_one cX0_one 3 n one) (hM0 : PK l γ o ad yX0_either cX0_either 2 n eith) : PK l γ o ad yX0_one cX0_one 3 (n + 1) (q_one one eith) := by
  intro ρ f g z T hF
  unfold q_one at hF
  refine wx_MX.of (by decide) (Nat.le_of_ble_eq_true rfl) ?_
  intro p e s m as below meth c A ls C K w hr hlocks htab hl
  have hx := C.1
  have hb := C.2.1
  refine lv_aload_n hx hb dX0_one_0 rfl (lv_at hl 0 rfl) ?_
  refine cget_24 C K w dX0_one_1 ?_
  refine lv_istore_n (lv' := [(1, .int (f 24)), (0, .ref o)]) hx hb dX0_one_4 rfl hl (by decide) rfl (fun ls hl => ?_)
  refine lv_aload_n hx hb dX0_one_5 rfl (lv_at hl 1 rfl) ?_
  refine cget_23 C K w dX0_one_6 ?_
  refine lv_iconst (v := (3 : Int32)) hx hb dX0_one_9 (by decide) ?_
  refine lv_icmp_ne (tgt := 26) hx hb dX0_one_10 (by decide) (fun c => ?_) (fun c => ?_)
  · have hF := (if_neg c).symm.trans hF
    refine lv_aload_n hx hb dX0_one_26 rfl (lv_at hl 1 rfl) ?_
    refine cget_23 C K w dX0_one_27 ?_
    refine lv_iconst (v := (2 : Int32)) hx hb dX0_one_30 (by decide) ?_
    refine lv_icmp_ne (tgt := 48) hx hb dX0_one_31 (by decide) (fun c => ?_) (fun c => ?_)
    · have hF := (if_neg c).symm.trans hF
      obtain ⟨b, hb0, hF⟩ := obd hF
      refine lv_aload_n hx hb dX0_one_48 rfl (lv_at hl 1 rfl) ?_
      refine lv_bipush (v := (45 : Int32)) hx hb dX0_one_49 (by decide) ?_
      refine rX0_isSign G C K w hb0 hl.1 ⟨by simp only [rpR]; omega, by simp only [rpR]; omega⟩ (Nat.le_of_ble_eq_true rfl) dX0_one_51 (fun H locs w => ?_) ⟨by simp only [rpR]; omega, by simp only [rpR]; omega⟩
      refine lv_if_eq (tgt := 86) hx hb dX0_one_54 (by decide) (fun c => ?_) (fun c => ?_)
      · have hF := (if_pos c).symm.trans hF
        obtain ⟨b2, hb2, hF⟩ := obd hF
        refine lv_aload_n hx hb dX0_one_86 rfl (lv_at hl 1 rfl) ?_
        refine lv_bipush (v := (40 : Int32)) hx hb dX0_one_87 (by decide) ?_
        refine rX0_isSign G C K w hb2 hl.1 ⟨by simp only [rpR]; omega, by simp only [rpR]; omega⟩ (Nat.le_of_ble_eq_true rfl) dX0_one_89 (fun H locs w => ?_) ⟨by simp only [rpR]; omega, by simp only [rpR]; omega⟩
        refine lv_if_ne (tgt := 100) hx hb dX0_one_92 (by decide) (fun c => ?_) (fun c => ?_)
        · have hF := (if_neg c).symm.trans hF
          obtain ⟨x, hx0, hF⟩ := obd hF
          refine lv_aload_n hx hb dX0_one_100 rfl (lv_at hl 1 rfl) ?_
          refine xX0_openOne G S T C K w hx0 hl.1 ⟨by simp only [rpR]; omega, by simp only [rpR]; omega⟩ (Nat.le_of_ble_eq_true rfl) dX0_one_101 (fun H locs h0 w => ?_) (fun H locs h1 w => ?_) ⟨Nat.zero_le _, Nat.zero_le _⟩
          · have hF := (if_pos h0).symm.trans hF
            obtain ⟨y, hy, hF⟩ := obd hF
            have hle : y.2.2.2 ≤ z.2.2.2 := by
              by_cases c : y.1 = 0
              · have hF := (if_pos c).symm.trans hF
                obtain ⟨b3, -, hF⟩ := obd hF
                by_cases c : b3 = 0
                · have h := Option.some.inj ((if_pos c).symm.trans hF)
                  rw [← h]
                  exact Nat.le_refl _
                · have hF := (if_neg c).symm.trans hF
                  obtain ⟨x2, -, hF⟩ := obd hF
                  by_cases c : x2.1 = 0
                  · have h := Option.some.inj ((if_pos c).symm.trans hF)
                    rw [← h]
                    exact Nat.le_refl _
                  · have h := Option.some.inj ((if_neg c).symm.trans hF)
                    rw [← h]
                    exact Nat.le_refl _
              · have h := Option.some.inj ((if_neg c).symm.trans hF)
                rw [← h]
                exact Nat.le_refl _
            refine lv_aload_n hx hb dX0_one_104 rfl (lv_at hl 1 rfl) ?_
            refine x_sub hM0 T C K w hy q550 q552 qs14 q553 (by decide +kernel) hl.1 ⟨by simp only [rpR]; omega, by simp only [rpR]; omega⟩ (Nat.le_of_ble_eq_true rfl) ⟨by simp only [rpR]; omega, by simp only [rpR]; omega⟩ dX0_one_105 (fun H locs a N h0 hn w => ?_) (fun H locs N h1 w => ?_)
            · have hF := (if_pos h0).symm.trans hF
              obtain ⟨b3, hb3, hF⟩ := obd hF
              refine lv_astore_n (lv' := [(2, .ref a), (1, .int (f 24)), (0, .ref o)]) hx hb dX0_one_108 rfl hl (by decide) rfl (fun ls hl => ?_)
              refine lv_aload_n hx hb dX0_one_109 rfl (lv_at hl 2 rfl) ?_
              refine lv_bipush (v := (41 : Int32)) hx hb dX0_one_110 (by decide) ?_
              refine rX0_isSign G C K w hb3 hl.1 ⟨by simp only [rpR]; omega, by simp only [rpR]; omega⟩ (Nat.le_of_ble_eq_true rfl) dX0_one_112 (fun H locs w => ?_) ⟨by simp only [rpR]; omega, by simp only [rpR]; omega⟩
              refine lv_if_ne (tgt := 123) hx hb dX0_one_115 (by decide) (fun c => ?_) (fun c => ?_)
              · have hF := (if_neg c).symm.trans hF
                obtain ⟨x2, hx2, hF⟩ := obd hF
                refine lv_aload_n hx hb dX0_one_123 rfl (lv_at hl 2 rfl) ?_
                refine lv_dup hx hb dX0_one_124 rfl ?_
                refine cget_25 C K w dX0_one_125 ?_
                refine lv_iconst (v := (1 : Int32)) hx hb dX0_one_128 (by decide) ?_
                refine lv_isub hx hb dX0_one_129 ?_
                refine cput_25 C K w dX0_one_130 (fun H locs w => ?_)
                refine lv_aload_n hx hb dX0_one_133 rfl (lv_at hl 2 rfl) ?_
                refine xX0_next G S (kx_add T N) C K w hx2 hl.1 ⟨by simp only [rpR]; omega, by simp only [rpR]; omega⟩ (Nat.le_of_ble_eq_true rfl) dX0_one_134 (fun H locs h0 w => ?_) (fun H locs h1 w => ?_) ⟨by simp only [rpR]; omega, by simp only [rpR]; omega⟩
                · have hF := Option.some.inj ((if_pos h0).symm.trans hF)
                  subst hF
                  refine lv_aload_n hx hb dX0_one_137 rfl (lv_at hl 0 rfl) ?_
                  refine W.widen (k := y.2.2.2) (n := 3 * y.2.2.2) (by omega) (by omega) ?_
                  exact W.mono (fun t h => wx_QX.of h) (wx_aret C hr (Or.inl ⟨_, rfl⟩) hlocks w ⟨rfl, a, N, rfl, rfl, hn⟩ dX0_one_138)
                · have hF := Option.some.inj ((if_neg (wx_n0 h1)).symm.trans hF)
                  subst hF
                  exact WT.widen (by omega) (by omega) (wx_thrown rfl rfl rfl hlocks (wx_none htab _) w ⟨rfl, rfl, N, rfl⟩)
              · have hF := Option.some.inj ((if_pos c).symm.trans hF)
                subst hF
                refine lv_aload_n hx hb dX0_one_118 rfl (lv_at hl 2 rfl) ?_
                refine cget_10 C K w dX0_one_119 ?_
                refine wx_athrow C dX0_one_122 ?_
                exact WT.widen (by omega) (by omega) (wx_thrown rfl rfl rfl hlocks (wx_none htab _) w ⟨rfl, rfl, N, rfl⟩)
            · have hF := Option.some.inj ((if_neg (wx_n0 h1)).symm.trans hF)
              subst hF
              exact WT.widen (by omega) (by omega) (wx_thrown rfl rfl rfl hlocks (wx_none htab _) w ⟨rfl, rfl, N, rfl⟩)
          · have hF := Option.some.inj ((if_neg (wx_n0 h1)).symm.trans hF)
            subst hF
            exact WT.widen (by omega) (by omega) (wx_thrown rfl rfl rfl hlocks (wx_none htab _) w ⟨rfl, rfl, [], rfl⟩)
        · have hF := Option.some.inj ((if_pos c).symm.trans hF)
          subst hF
          refine lv_aload_n hx hb dX0_one_95 rfl (lv_at hl 1 rfl) ?_
          refine cget_10 C K w dX0_one_96 ?_
          refine wx_athrow C dX0_one_99 ?_
          exact WT.widen (by omega) (by omega) (wx_thrown rfl rfl rfl hlocks (wx_none htab _) w ⟨rfl, rfl, [], rfl⟩)
      · have hF := (if_neg c).symm.trans hF
        obtain ⟨x, hx0, hF⟩ := obd hF
        refine lv_aload_n hx hb dX0_one_57 rfl (lv_at hl 1 rfl) ?_
        refine xX0_openOne G S T C K w hx0 hl.1 ⟨by simp only [rpR]; omega, by simp only [rpR]; omega⟩ (Nat.le_of_ble_eq_true rfl) dX0_one_58 (fun H locs h0 w => ?_) (fun H locs h1 w => ?_) ⟨Nat.zero_le _, Nat.zero_le _⟩
        · have hF := (if_pos h0).symm.trans hF
          obtain ⟨y, hy, hF⟩ := obd hF
          have hle : y.2.2.2 ≤ z.2.2.2 := by
            by_cases c : y.1 = 0
            · have h := Option.some.inj ((if_pos c).symm.trans hF)
              rw [← h]
              exact Nat.le_succ _
            · have h := Option.some.inj ((if_neg c).symm.trans hF)
              rw [← h]
              exact Nat.le_refl _
          refine lv_aload_n hx hb dX0_one_61 rfl (lv_at hl 1 rfl) ?_
          refine x_sub hM1 T C K w hy q591 q593 qs20 q594 (by decide +kernel) hl.1 ⟨by simp only [rpR]; omega, by simp only [rpR]; omega⟩ (Nat.le_of_ble_eq_true rfl) ⟨by simp only [rpR]; omega, by simp only [rpR]; omega⟩ dX0_one_62 (fun H locs a N h0 hn w => ?_) (fun H locs N h1 w => ?_)
          · have hF := Option.some.inj ((if_pos h0).symm.trans hF)
            have hz : z.2.2.2 = y.2.2.2 + 1 := by rw [← hF]
            refine lv_astore_n (lv' := [(2, .ref a), (1, .int (f 24)), (0, .ref o)]) hx hb dX0_one_65 rfl hl (by decide) rfl (fun ls hl => ?_)
            refine lv_aload_n hx hb dX0_one_66 rfl (lv_at hl 2 rfl) ?_
            refine lv_dup hx hb dX0_one_67 rfl ?_
            refine cget_25 C K w dX0_one_68 ?_
            refine lv_iconst (v := (1 : Int32)) hx hb dX0_one_71 (by decide) ?_
            refine lv_isub hx hb dX0_one_72 ?_
            refine cput_25 C K w dX0_one_73 (fun H locs w => ?_)
            refine va_new (ci := 10) (fs := [.null, .int 0]) (C := RX4) (T := TX4) (N := 2) hx hb C.2.2.2.2 in_X4 tyX4 tyX4_ok C.2.2.2.1 (C.2.2.2.2 _ q566) (C.2.2.2.2 _ q567) (C.2.2.2.2 _ q119) K.1.1 w.1 w.2.1 w.2.2 K.2.1 rfl (fun j hj => by rcases (show j = 0 ∨ j = 1 by omega) with rfl | rfl <;> rfl) (by simp only [rpR]; omega) (by simp only [rpR]; omega) dX0_one_76 (fun q H hP hD hS => ?_)
            have w : wx_w γ A s H locs ((q, .inr (10, [.null, .int 0])) :: cw γ o ad (upd y.2.1.1 25 (y.2.1.1 25 - 1)) y.2.1.2 (N ++ ρ)) := wx_w.perm ⟨hP, hD, hS⟩ (List.perm_append_singleton _ _)
            refine lv_dup hx hb dX0_one_79 rfl ?_
            refine lv_aload_n hx hb dX0_one_80 rfl (lv_at hl 0 rfl) ?_
            refine lv_iconst (v := (1 : Int32)) hx hb dX0_one_81 (by decide) ?_
            refine wx_callI (n := 2) C K w (mX4_init (l := l) G (v1 := a) (v2 := 1) rfl rfl rfl) q568 q569 q119 q570 rfl rfl rfl (by decide +kernel) ⟨by simp only [rpR]; omega, by simp only [rpR]; omega⟩ rfl rfl hl.1 (Nat.le_of_ble_eq_true rfl) ⟨by simp only [rpR]; omega, by simp only [rpR]; omega⟩ dX0_one_82 (fun v ws H locs hp w => ?_)
            obtain ⟨rfl, rfl⟩ := hp
            have w : wx_w γ A s H locs (cw γ o ad (upd y.2.1.1 25 (y.2.1.1 25 - 1)) y.2.1.2 (((q, .inr (10, [.ref a, .int 1])) :: N) ++ ρ)) := w.perm cw_cons
            subst hF
            refine W.widen (k := y.2.2.2 + 1) (n := 3 * (y.2.2.2 + 1)) (by omega) (by omega) ?_
            exact W.mono (fun t h => wx_QX.of h) (wx_aret C hr (Or.inl ⟨_, rfl⟩) hlocks w ⟨rfl, q, _, rfl, rfl, nd_turn (v := 1) hn⟩ dX0_one_85)
          · have hF := Option.some.inj ((if_neg (wx_n0 h1)).symm.trans hF)
            subst hF
            exact WT.widen (by omega) (by omega) (wx_thrown rfl rfl rfl hlocks (wx_none htab _) w ⟨rfl, rfl, N, rfl⟩)
        · have hF := Option.some.inj ((if_neg (wx_n0 h1)).symm.trans hF)
          subst hF
          exact WT.widen (by omega) (by omega) (wx_thrown rfl rfl rfl hlocks (wx_none htab _) w ⟨rfl, rfl, [], rfl⟩)
    · have hF := (if_pos c).symm.trans hF
      obtain ⟨x, hx0, hF⟩ := obd hF
      refine lv_aload_n hx hb dX0_one_34 rfl (lv_at hl 1 rfl) ?_
      refine xX0_next G S T C K w hx0 hl.1 ⟨by simp only [rpR]; omega, by simp only [rpR]; omega⟩ (Nat.le_of_ble_eq_true rfl) dX0_one_35 (fun H locs h0 w => ?_) (fun H locs h1 w => ?_) ⟨Nat.zero_le _, Nat.zero_le _⟩
      · have hF := Option.some.inj ((if_pos h0).symm.trans hF)
        have hz : z.2.2.2 = 1 := by rw [← hF]
        refine va_new (ci := 9) (fs := [.int 0, .null]) (C := RX6) (T := TX6) (N := 2) hx hb C.2.2.2.2 in_X6 tyX6 tyX6_ok C.2.2.2.1 (C.2.2.2.2 _ q605) (C.2.2.2.2 _ q606) (C.2.2.2.2 _ q121) K.1.1 w.1 w.2.1 w.2.2 K.2.1 rfl (fun j hj => by rcases (show j = 0 ∨ j = 1 by omega) with rfl | rfl <;> rfl) (by simp only [rpR]; omega) (by simp only [rpR]; omega) dX0_one_38 (fun q H hP hD hS => ?_)
        have w : wx_w γ A s H locs ((q, .inr (9, [.int 0, .null])) :: cw γ o ad x.2.1 x.2.2 ρ) := wx_w.perm ⟨hP, hD, hS⟩ (List.perm_append_singleton _ _)
        refine lv_dup hx hb dX0_one_41 rfl ?_
        refine lv_aload_n hx hb dX0_one_42 rfl (lv_at hl 1 rfl) ?_
        refine lv_iload_n hx hb dX0_one_43 rfl (lv_at hl 0 rfl) ?_
        refine wx_callI (n := 2) C K w (mX6_init (l := l) G (v1 := o) (v2 := f 24) rfl) q607 q608 q121 q609 rfl rfl rfl (by decide +kernel) ⟨by simp only [rpR]; omega, by simp only [rpR]; omega⟩ rfl rfl hl.1 (Nat.le_of_ble_eq_true rfl) ⟨by simp only [rpR]; omega, by simp only [rpR]; omega⟩ dX0_one_44 (fun v ws H locs hp w => ?_)
        obtain ⟨rfl, rfl⟩ := hp
        have w : wx_w γ A s H locs (cw γ o ad x.2.1 x.2.2 ([(q, .inr (9, [.int (f 24), .ref o]))] ++ ρ)) := w.perm cw_cons
        subst hF
        refine W.widen (k := 1) (n := 3 * 1) (by omega) (by omega) ?_
        exact W.mono (fun t h => wx_QX.of h) (wx_aret C hr (Or.inl ⟨_, rfl⟩) hlocks w ⟨rfl, q, _, rfl, rfl, Or.inr (Or.inl ⟨f 24, List.mem_cons_self, rfl⟩)⟩ dX0_one_47)
      · have hF := Option.some.inj ((if_neg (wx_n0 h1)).symm.trans hF)
        subst hF
        exact WT.widen (by omega) (by omega) (wx_thrown rfl rfl rfl hlocks (wx_none htab _) w ⟨rfl, rfl, [], rfl⟩)
  · have hF := (if_pos c).symm.trans hF
    obtain ⟨x, hx0, hF⟩ := obd hF
    refine lv_aload_n hx hb dX0_one_13 rfl (lv_at hl 1 rfl) ?_
    refine xX0_next G S T C K w hx0 hl.1 ⟨by simp only [rpR]; omega, by simp only [rpR]; omega⟩ (Nat.le_of_ble_eq_true rfl) dX0_one_14 (fun H locs h0 w => ?_) (fun H locs h1 w => ?_) ⟨Nat.zero_le _, Nat.zero_le _⟩
    · have hF := Option.some.inj ((if_pos h0).symm.trans hF)
      have hz : z.2.2.2 = 1 := by rw [← hF]
      refine va_new (ci := 8) (fs := [.int 0]) (C := RX5) (T := TX5) (N := 1) hx hb C.2.2.2.2 in_X5 tyX5 tyX5_ok C.2.2.2.1 (C.2.2.2.2 _ q595) (C.2.2.2.2 _ q596) (C.2.2.2.2 _ q120) K.1.1 w.1 w.2.1 w.2.2 K.2.1 rfl (fun j hj => by rcases (show j = 0 by omega) with rfl <;> rfl) (by simp only [rpR]; omega) (by simp only [rpR]; omega) dX0_one_17 (fun q H hP hD hS => ?_)
      have w : wx_w γ A s H locs ((q, .inr (8, [.int 0])) :: cw γ o ad x.2.1 x.2.2 ρ) := wx_w.perm ⟨hP, hD, hS⟩ (List.perm_append_singleton _ _)
      refine lv_dup hx hb dX0_one_20 rfl ?_
      refine lv_iload_n hx hb dX0_one_21 rfl (lv_at hl 0 rfl) ?_
      refine wx_callI (n := 1) C K w (mX5_init (l := l) G (v1 := f 24) rfl) q597 q598 q120 q599 rfl rfl rfl (by decide +kernel) ⟨by simp only [rpR]; omega, by simp only [rpR]; omega⟩ rfl rfl hl.1 (Nat.le_of_ble_eq_true rfl) ⟨by simp only [rpR]; omega, by simp only [rpR]; omega⟩ dX0_one_22 (fun v ws H locs hp w => ?_)
      obtain ⟨rfl, rfl⟩ := hp
      have w : wx_w γ A s H locs (cw γ o ad x.2.1 x.2.2 ([(q, .inr (8, [.int (f 24)]))] ++ ρ)) := w.perm cw_cons
      subst hF
      refine W.widen (k := 1) (n := 3 * 1) (by omega) (by omega) ?_
      exact W.mono (fun t h => wx_QX.of h) (wx_aret C hr (Or.inl ⟨_, rfl⟩) hlocks w ⟨rfl, q, _, rfl, rfl, Or.inl ⟨f 24, List.mem_cons_self, rfl⟩⟩ dX0_one_25)
    · have hF := Option.some.inj ((if_neg (wx_n0 h1)).symm.trans hF)
      subst hF
      exact WT.widen (by omega) (by omega) (wx_thrown rfl rfl rfl hlocks (wx_none htab _) w ⟨rfl, rfl, [], rfl⟩)
/-- all six, by fuel -/
theorem mk_all {l : Launch} {γ : wx_G} {o : Nat} {ad : Nat → Nat} (G : cx_ok γ) (S : sx_ok γ) : ∀ n : Nat, PK l γ o ad yX0_either cX0_either 2 n (qP n 0) ∧ PK l γ o ad yX0_both cX0_both 2 n (qP n 1) ∧ PK l γ o ad yX0_not cX0_not 3 n (qP n 2) ∧ PK l γ o ad yX0_plus cX0_plus 3 n (qP n 3) ∧ PK l γ o ad yX0_times cX0_times 2 n (qP n 4) ∧ PK l γ o ad yX0_one cX0_one 3 n (qP n 5) := by
  intro n
  induction n with
  | zero => exact ⟨fun ρ f g z _ h => absurd (show (none : Option xP) = some z from h) (by simp), fun ρ f g z _ h => absurd (show (none : Option xP) = some z from h) (by simp), fun ρ f g z _ h => absurd (show (none : Option xP) = some z from h) (by simp), fun ρ f g z _ h => absurd (show (none : Option xP) = some z from h) (by simp), fun ρ f g z _ h => absurd (show (none : Option xP) = some z from h) (by simp), fun ρ f g z _ h => absurd (show (none : Option xP) = some z from h) (by simp)⟩
  | succ n ih =>
    obtain ⟨h0, h1, h2, h3, h4, h5⟩ := ih
    exact ⟨mk_either G S h1, mk_both G S h2, mk_not G S h2 h3, mk_plus G S h4, mk_times G S h5, mk_one G S h5 h0⟩

/-! THE TEXTS (mine; printed by gen/asks.py): theta = the outer object, the rows' addresses, what a row holds, the node cells -/
set_option maxRecDepth 100000
abbrev cx_T : Type := Nat × (Nat → Option Nat) × (Nat → Nat → Option Nat) × va_W
def tx_ok (γ : wx_G) (o : Nat) (ad : Nat → Nat) (θ : cx_T) (ρ : va_W) : Prop :=
  θ.1 = o ∧ (∀ t ra : Nat, θ.2.1 t = some ra → ∃ (k : Nat) (tf : Nat → Option Nat), ρ[k]? = some (ad 14, .inl (γ.2.1 5, 6, .inr (.inr (.inr (.inr tf))))) ∧ tf t = some ra) ∧
  (∀ ra i a : Nat, θ.2.2.1 ra i = some a → ∃ (k : Nat) (rf : Nat → Option Nat), ρ[k]? = some (ra, .inl (γ.2.1 4, 3, .inr (.inr (.inr (.inr rf))))) ∧ rf i = some a) ∧ tx_nodes ρ θ.2.2.2
theorem c_txt {p : Program} {l : Launch} {e : Env} {R : Room} {s : State} {m : MethodId} {as : Array Value} {below : List Frame} {meth : Method} {c : Code} {H : Heap} {locs : List Loc} {cells slots : Nat} {Q : State → Prop} {cc : ByteArray} {nL pc : Nat} {ls : Array Slot} {rest : List Value} {γ : wx_G} {A : Nat → Prop} {o : Nat} {ad : Nat → Nat} {f : xF} {g : xG} {θ : cx_T} {ρ : va_W} {own : String} {i : Int32} {ra : Nat} (T : tx_ok γ o ad θ ρ) (C : CallFix p m c cc nL s as lw_all own) (K : wx_C γ A s) (w : wx_w γ A s H locs (cw γ o ad f g ρ)) (hi : vp_in i 6) (hr : θ.2.1 i.toNatClampNeg = some ra) (d : decode cc pc = .ok (.aaload, 1)) (kk : W p l e R s m as below meth c H locs cells slots Q (F0 m (pc + 1) ls (.ref ra :: rest))) : W p l e R s m as below meth c H locs cells slots Q (F0 m pc ls (.int i :: .ref (ad 14) :: rest)) := by
  obtain ⟨k, tf, h1, h2⟩ := T.2.1 _ _ hr
  have hlt : i.toNatClampNeg < 6 := Nat.not_le.mp fun q => hi (Or.inr q)
  exact W.aald (v := .ref ra) (ty := .array (.object "WalkingStones$Node")) C.1 C.2.1 (w.1 (20 + k) _ (cwr_at h1)) ((K.1.1.2 5 (γ.2.1 5, .array (.object "WalkingStones$Node")) rfl).1 6 (fun j => va_rf (tf j))) rfl (fun q => by cases q) (by show ¬ (i < 0 ∨ (arrV _ _ _).slots.size ≤ _); rw [arrV_size]; exact hi) (by show (arrV _ _ _).slots[_]? = _; rw [arrV_read _ _ hlt, h2]; rfl) rfl rfl d kk
theorem c_row {p : Program} {l : Launch} {e : Env} {R : Room} {s : State} {m : MethodId} {as : Array Value} {below : List Frame} {meth : Method} {c : Code} {H : Heap} {locs : List Loc} {cells slots : Nat} {Q : State → Prop} {cc : ByteArray} {nL pc : Nat} {ls : Array Slot} {rest : List Value} {γ : wx_G} {A : Nat → Prop} {o : Nat} {ad : Nat → Nat} {f : xF} {g : xG} {θ : cx_T} {ρ : va_W} {own : String} {i : Int32} {ra a : Nat} (T : tx_ok γ o ad θ ρ) (C : CallFix p m c cc nL s as lw_all own) (K : wx_C γ A s) (w : wx_w γ A s H locs (cw γ o ad f g ρ)) (hi : vp_in i 3) (hr : θ.2.2.1 ra i.toNatClampNeg = some a) (d : decode cc pc = .ok (.aaload, 1)) (kk : W p l e R s m as below meth c H locs cells slots Q (F0 m (pc + 1) ls (.ref a :: rest))) : W p l e R s m as below meth c H locs cells slots Q (F0 m pc ls (.int i :: .ref ra :: rest)) := by
  obtain ⟨k, rf, h1, h2⟩ := T.2.2.1 _ _ _ hr
  have hlt : i.toNatClampNeg < 3 := Nat.not_le.mp fun q => hi (Or.inr q)
  exact W.aald (v := .ref a) (ty := .object "WalkingStones$Node") C.1 C.2.1 (w.1 (20 + k) _ (cwr_at h1)) ((K.1.1.2 4 (γ.2.1 4, .object "WalkingStones$Node") rfl).1 3 (fun j => va_rf (rf j))) rfl (fun q => by cases q) (by show ¬ (i < 0 ∨ (arrV _ _ _).slots.size ≤ _); rw [arrV_size]; exact hi) (by show (arrV _ _ _).slots[_]? = _; rw [arrV_read _ _ hlt, h2]; rfl) rfl rfl d kk
theorem c_worth {p : Program} {l : Launch} {e : Env} {R : Room} {s : State} {m : MethodId} {as : Array Value} {below : List Frame} {meth : Method} {c : Code} {H : Heap} {locs : List Loc} {cells slots : Nat} {Q : State → Prop} {cc : ByteArray} {nL pc : Nat} {ls : Array Slot} {rest : List Value} {γ : wx_G} {A : Nat → Prop} {o : Nat} {ad : Nat → Nat} {f : xF} {g : xG} {θ : cx_T} {ρ : va_W} {a : Nat} {z : Int32} (G : cx_ok γ) (T : tx_ok γ o ad θ ρ) (C : CallFix p m c cc nL s as lw_all RX0) (K : wx_C γ A s) (w : wx_w γ A s H locs (cw γ o ad f g ρ)) (hr : wv θ.2.2.2 θ.1 f g 200 a = some z) (hls : ls.size = nL) (hR : (rwN 200).frames + 1 ≤ R.frames ∧ 8 + (3 + 11) + (rwN 200).locals ≤ R.locals) (hW : (rest.map fun v => v.category).sum ≤ 8) (d : decode cc pc = .ok (.invokevirtual 340, 3)) (kk : ∀ (H : Heap) (locs : List Loc), wx_w γ A s H locs (cw γ o ad f g ρ) → W p l e R s m as below meth c H locs cells slots Q (F0 m (pc + 3) ls (.int z :: rest))) (hf : cells ≤ R.cells ∧ slots ≤ R.slots := by exact ⟨Nat.le_of_ble_eq_true rfl, Nat.le_of_ble_eq_true rfl⟩) : W p l e R s m as below meth c H locs cells slots Q (F0 m pc ls (.ref a :: rest)) :=
  rw_X0 (d := 200) (wk := wv θ.2.2.2 o f g 200) G (wt_all G T.2.2.2 200) C K w (by rw [← T.1]; exact hr) hls hR hW d kk hf
/-! WalkingStones.asks(IIIIII)I -/
abbrev rmX0_asks : Room := { frames := 201, cells := 0, slots := 0, locals := 8022 }
def pX0_asks_0 (η : cx_H) (θ : cx_T) (f : xF) (g : xG) (v1 : Int32) (v2 : Int32) (v3 : Int32) (v4 : Int32) (v5 : Int32) (v6 : Int32) : Option (Int32 × xF × xG) := if gin ((upd (upd (upd f 13 v2) 11 v3) 12 v4) 26) 6 = true then (θ.2.1 ((upd (upd (upd f 13 v2) 11 v3) 12 v4) 26).toNatClampNeg).bind (fun r28 => if gin v1 3 = true then (θ.2.2.1 r28 v1.toNatClampNeg).bind (fun r30 => (wv θ.2.2.2 θ.1 (upd (upd (upd f 13 v2) 11 v3) 12 v4) g 200 r30).bind (fun r31 => some (wmax v5 (wmin v6 r31), upd (upd (upd f 13 v2) 11 v3) 12 v4, g))) else none) else none

abbrev pX0_asks (η : cx_H) (θ : cx_T) (f : xF) (g : xG) (v1 : Int32) (v2 : Int32) (v3 : Int32) (v4 : Int32) (v5 : Int32) (v6 : Int32) : Option (Int32 × xF × xG) := pX0_asks_0 η θ f g v1 v2 v3 v4 v5 v6
theorem bX0_asks_0 {p : Program} {l : Launch} {e : Env} {s : State} {m : MethodId} {as : Array Value} {below : List Frame} {meth : Method} {c : Code} {A : Nat → Prop} {Q : State → Prop} {γ : wx_G} {o : Nat} {ad : Nat → Nat} {η : cx_H} {θ : cx_T} {τ : va_W} {z : Int32 × xF × xG} (G : cx_ok γ) (T : tx_ok γ o ad θ (hr γ o ad η ++ τ)) (C : CallFix p m c cX0_asks 7 s as lw_all RX0) (K : wx_C γ A s) (E : ∀ (H : Heap) (locs : List Loc) (ls : Array Slot) (pc : Nat), wx_w γ A s H locs (cw γ o ad z.2.1 z.2.2 (hr γ o ad η ++ τ)) → decode cX0_asks pc = .ok (.ireturn, 1) → W p l e rmX0_asks s m as below meth c H locs 0 0 Q (F0 m pc ls [.int z.1])) {f : xF} {g : xG} {v1 : Int32} {v2 : Int32} {v3 : Int32} {v4 : Int32} {v5 : Int32} {v6 : Int32} {H : Heap} {locs : List Loc} {ls : Array Slot} (w : wx_w γ A s H locs (cw γ o ad f g (hr γ o ad η ++ τ))) (hl : lv_has ls 7 [(0, .ref o), (1, .int v1), (2, .int v2), (3, .int v3), (4, .int v4), (5, .int v5), (6, .int v6)]) (hF : pX0_asks_0 η θ f g v1 v2 v3 v4 v5 v6 = some z) : W p l e rmX0_asks s m as below meth c H locs 0 0 Q (F0 m 0 ls []) := by
  have hx := C.1
  have hb := C.2.1
  unfold pX0_asks_0 at hF
  refine lv_aload_n hx hb dX0_asks_0 rfl (lv_at hl 0 rfl) ?_
  refine lv_iload_n hx hb dX0_asks_1 rfl (lv_at hl 2 rfl) ?_
  refine cput_13 C K w dX0_asks_2 (fun H locs w => ?_)
  refine lv_aload_n hx hb dX0_asks_5 rfl (lv_at hl 0 rfl) ?_
  refine lv_iload_n hx hb dX0_asks_6 rfl (lv_at hl 3 rfl) ?_
  refine cput_11 C K w dX0_asks_7 (fun H locs w => ?_)
  refine lv_aload_n hx hb dX0_asks_10 rfl (lv_at hl 0 rfl) ?_
  refine lv_iload hx hb dX0_asks_11 (lv_at hl 4 rfl) ?_
  refine cput_12 C K w dX0_asks_13 (fun H locs w => ?_)
  refine lv_iload hx hb dX0_asks_16 (lv_at hl 5 rfl) ?_
  refine lv_iload hx hb dX0_asks_18 (lv_at hl 6 rfl) ?_
  refine lv_aload_n hx hb dX0_asks_20 rfl (lv_at hl 0 rfl) ?_
  refine cget_14 C K w dX0_asks_21 ?_
  refine lv_aload_n hx hb dX0_asks_24 rfl (lv_at hl 0 rfl) ?_
  refine cget_26 C K w dX0_asks_25 ?_
  obtain ⟨hi, hF⟩ := gin_if hF
  obtain ⟨r28, hr, hF⟩ := obd hF
  refine c_txt T C K w hi hr dX0_asks_28 ?_
  refine lv_iload_n hx hb dX0_asks_29 rfl (lv_at hl 1 rfl) ?_
  obtain ⟨hi, hF⟩ := gin_if hF
  obtain ⟨r30, hr, hF⟩ := obd hF
  refine c_row T C K w hi hr dX0_asks_30 ?_
  obtain ⟨r31, hr, hF⟩ := obd hF
  refine c_worth G T C K w hr hl.1 ⟨Nat.le_of_ble_eq_true rfl, Nat.le_of_ble_eq_true rfl⟩ (Nat.le_of_ble_eq_true rfl) dX0_asks_31 (fun H locs w => ?_)
  refine cmin C hl.1 (Nat.le_of_ble_eq_true rfl) (Nat.le_of_ble_eq_true rfl) (Nat.le_of_ble_eq_true rfl) (Nat.le_of_ble_eq_true rfl) dX0_asks_34 ?_
  refine cmax C hl.1 (Nat.le_of_ble_eq_true rfl) (Nat.le_of_ble_eq_true rfl) (Nat.le_of_ble_eq_true rfl) (Nat.le_of_ble_eq_true rfl) dX0_asks_37 ?_
  have hF := Option.some.inj hF
  subst hF
  exact E _ _ _ _ w dX0_asks_40

theorem mX0_asks {l : Launch} {γ : wx_G} {o : Nat} {ad : Nat → Nat} {η : cx_H} {θ : cx_T} {τ : va_W} {f : xF} {g : xG} {v1 : Int32} {v2 : Int32} {v3 : Int32} {v4 : Int32} {v5 : Int32} {v6 : Int32} {z : Int32 × xF × xG} (G : cx_ok γ) (T : tx_ok γ o ad θ (hr γ o ad η ++ τ)) (hF : pX0_asks η θ f g v1 v2 v3 v4 v5 v6 = some z) : wx_M γ l yX0_asks (ws_ yX0_asks cX0_asks 7 (some .int)) rmX0_asks [.ref o, .int v1, .int v2, .int v3, .int v4, .int v5, .int v6] (cw γ o ad f g (hr γ o ad η ++ τ)) (fun v ws => v = some (.int z.1) ∧ ws = (cw γ o ad z.2.1 z.2.2 (hr γ o ad η ++ τ))) 0 0 := by
  refine wx_M.of (by decide) (Nat.le_of_ble_eq_true rfl) ?_
  intro p e s m as below meth c A ls C K w hr hlocks _ hl
  exact bX0_asks_0 G T C K (fun H locs ls pc w d => wx_iret C hr hlocks w ⟨rfl, rfl⟩ d) w hl hF
theorem rX0_asks {p : Program} {l : Launch} {e : Env} {R : Room} {s : State} {m : MethodId} {as : Array Value} {below : List Frame} {meth : Method} {c : Code} {H : Heap} {locs : List Loc} {cells slots : Nat} {Q : State → Prop} {cc : ByteArray} {nL pc : Nat} {ls : Array Slot} {rest : List Value} {γ : wx_G} {A : Nat → Prop} {o : Nat} {ad : Nat → Nat} {η : cx_H} {θ : cx_T} {τ : va_W} {f : xF} {g : xG} {v1 : Int32} {v2 : Int32} {v3 : Int32} {v4 : Int32} {v5 : Int32} {v6 : Int32} {z : Int32 × xF × xG} (G : cx_ok γ) (T : tx_ok γ o ad θ (hr γ o ad η ++ τ)) (C : CallFix p m c cc nL s as lw_all RX0) (K : wx_C γ A s) (w : wx_w γ A s H locs (cw γ o ad f g (hr γ o ad η ++ τ))) (hF : pX0_asks η θ f g v1 v2 v3 v4 v5 v6 = some z) (hls : ls.size = nL) (hR : rmX0_asks.frames + 1 ≤ R.frames ∧ 8 + (7 + 11) + rmX0_asks.locals ≤ R.locals) (hW : (rest.map fun v => v.category).sum ≤ 8) (d : decode cc pc = .ok (.invokevirtual 433, 3)) (kk : ∀ (H : Heap) (locs : List Loc), wx_w γ A s H locs (cw γ o ad z.2.1 z.2.2 (hr γ o ad η ++ τ)) → W p l e R s m as below meth c H locs cells slots Q (F0 m (pc + 3) ls (.int z.1 :: rest))) (hf : cells ≤ R.cells ∧ slots ≤ R.slots := by exact ⟨Nat.le_of_ble_eq_true rfl, Nat.le_of_ble_eq_true rfl⟩) : W p l e R s m as below meth c H locs cells slots Q (F0 m pc ls (.int v6 :: .int v5 :: .int v4 :: .int v3 :: .int v2 :: .int v1 :: .ref o :: rest)) :=
  wx_callV (n := 6) C K w (mX0_asks (l := l) G T hF) q1060 q367 qs5 q106 q368 rfl rfl (by decide +kernel) (va_recv K.1.1 w.1 (ci := 1) (q0 := 0) rfl rfl) rfl rfl hR hls hW hf d (fun v ws H1 locs1 hp w => by obtain ⟨rfl, rfl⟩ := hp; exact kk H1 locs1 w)

theorem nX9_asks {p : Program} {l : Launch} {e : Env} {R : Room} {s : State} {m : MethodId} {as : Array Value} {below : List Frame} {meth : Method} {c : Code} {H : Heap} {locs : List Loc} {cells slots : Nat} {Q : State → Prop} {cc : ByteArray} {nL pc : Nat} {ls : Array Slot} {rest : List Value} {γ : wx_G} {A : Nat → Prop} {o : Nat} {ad : Nat → Nat} {f : xF} {g : xG} {θ : cx_T} {η : cx_H} {τ : va_W} {v1 v2 v3 v4 v5 v6 : Int32} {z : Int32 × xF × xG} (G : cx_ok γ) (T : tx_ok γ o ad θ (hr γ o ad η ++ τ)) (C : CallFix p m c cc nL s as lw_all RX9) (K : wx_C γ A s) (w : wx_w γ A s H locs (cw γ o ad f g (hr γ o ad η ++ τ))) (hF : pX0_asks η θ f g v1 v2 v3 v4 v5 v6 = some z) (hls : ls.size = nL) (hR : rmX0_asks.frames + 1 ≤ R.frames ∧ 8 + (7 + 11) + rmX0_asks.locals ≤ R.locals) (hW : (rest.map fun v => v.category).sum ≤ 8) (d : decode cc pc = .ok (.invokevirtual 49, 3)) (kk : ∀ (H : Heap) (locs : List Loc), wx_w γ A s H locs (cw γ o ad z.2.1 z.2.2 (hr γ o ad η ++ τ)) → W p l e R s m as below meth c H locs cells slots Q (F0 m (pc + 3) ls (.int z.1 :: rest))) (hf : cells ≤ R.cells ∧ slots ≤ R.slots := by exact ⟨Nat.le_of_ble_eq_true rfl, Nat.le_of_ble_eq_true rfl⟩) : W p l e R s m as below meth c H locs cells slots Q (F0 m pc ls (.int v6 :: .int v5 :: .int v4 :: .int v3 :: .int v2 :: .int v1 :: .ref o :: rest)) :=
  wx_callVN (n := 6) (Cn := "WalkingStones") G C K w (mX0_asks (l := l) G T hF) q365 q367 qs5 q106 q368 rfl rfl (by decide +kernel) hR (va_recv K.1.1 w.1 (ci := 1) (q0 := 0) rfl rfl) rfl rfl hls hW hf d (fun v ws H1 locs1 hp w => by obtain ⟨rfl, rfl⟩ := hp; exact kk H1 locs1 w)
/-! WalkingStones$How.goesBy(II)I -/
abbrev rmX9_goesBy : Room := { frames := 202, cells := 0, slots := 0, locals := 8048 }
def pX9_goesBy_51 (η : cx_H) (θ : cx_T) (f : xF) (g : xG) (t0 : Int32) : Option (Int32 × xF × xG) := some (t0, f, g)

def pX9_goesBy_18 (η : cx_H) (θ : cx_T) (f : xF) (g : xG) (v0 : Int32) (v1 : Int32) (v2 : Int32) (t0 : Int32) : Option (Int32 × xF × xG) := if t0 ≤ 0 then pX9_goesBy_51 η θ f g (0 : Int32) else (if gk η v0 [0, 1, 2, 3, 4, 5] = true then if gk η v0 [0, 1, 2, 3, 4, 5] = true then (pX0_asks η θ f g (0 : Int32) v2 v1 (hnu η v0) (-9 : Int32) (9 : Int32)).bind (fun r40 => pX9_goesBy_51 η θ r40.2.1 r40.2.2 (wmax (0 : Int32) (t0 + r40.1))) else none else none)

def pX9_goesBy_0 (η : cx_H) (θ : cx_T) (f : xF) (g : xG) (v0 : Int32) (v1 : Int32) (v2 : Int32) : Option (Int32 × xF × xG) := (pV_may η f g v0 v2).bind (fun r2 => if r2 = 0 then pX9_goesBy_18 η θ f g v0 v1 v2 (0 : Int32) else (pV_pushes η f g v0 v1 v2).bind (fun r11 => pX9_goesBy_18 η θ f g v0 v1 v2 r11))

abbrev pX9_goesBy (η : cx_H) (θ : cx_T) (f : xF) (g : xG) (v0 : Int32) (v1 : Int32) (v2 : Int32) : Option (Int32 × xF × xG) := pX9_goesBy_0 η θ f g v0 v1 v2
theorem bX9_goesBy_51 {p : Program} {l : Launch} {e : Env} {s : State} {m : MethodId} {as : Array Value} {below : List Frame} {meth : Method} {c : Code} {A : Nat → Prop} {Q : State → Prop} {γ : wx_G} {o : Nat} {ad : Nat → Nat} {η : cx_H} {θ : cx_T} {τ : va_W} {z : Int32 × xF × xG} (G : cx_ok γ) (T : tx_ok γ o ad θ (hr γ o ad η ++ τ)) (C : CallFix p m c cX9_goesBy 4 s as lw_all RX9) (K : wx_C γ A s) (E : ∀ (H : Heap) (locs : List Loc) (ls : Array Slot) (pc : Nat), wx_w γ A s H locs (cw γ o ad z.2.1 z.2.2 (hr γ o ad η ++ τ)) → decode cX9_goesBy pc = .ok (.ireturn, 1) → W p l e rmX9_goesBy s m as below meth c H locs 0 0 Q (F0 m pc ls [.int z.1])) {f : xF} {g : xG} {t0 : Int32} {H : Heap} {locs : List Loc} {ls : Array Slot} (w : wx_w γ A s H locs (cw γ o ad f g (hr γ o ad η ++ τ))) (hl : lv_has ls 4 []) (hF : pX9_goesBy_51 η θ f g t0 = some z) : W p l e rmX9_goesBy s m as below meth c H locs 0 0 Q (F0 m 51 ls [.int t0]) := by
  have hx := C.1
  have hb := C.2.1
  unfold pX9_goesBy_51 at hF
  have hF := Option.some.inj hF
  subst hF
  exact E _ _ _ _ w dX9_goesBy_51

theorem bX9_goesBy_18 {p : Program} {l : Launch} {e : Env} {s : State} {m : MethodId} {as : Array Value} {below : List Frame} {meth : Method} {c : Code} {A : Nat → Prop} {Q : State → Prop} {γ : wx_G} {o : Nat} {ad : Nat → Nat} {η : cx_H} {θ : cx_T} {τ : va_W} {z : Int32 × xF × xG} (G : cx_ok γ) (T : tx_ok γ o ad θ (hr γ o ad η ++ τ)) (C : CallFix p m c cX9_goesBy 4 s as lw_all RX9) (K : wx_C γ A s) (E : ∀ (H : Heap) (locs : List Loc) (ls : Array Slot) (pc : Nat), wx_w γ A s H locs (cw γ o ad z.2.1 z.2.2 (hr γ o ad η ++ τ)) → decode cX9_goesBy pc = .ok (.ireturn, 1) → W p l e rmX9_goesBy s m as below meth c H locs 0 0 Q (F0 m pc ls [.int z.1])) {f : xF} {g : xG} {v0 : Int32} {v1 : Int32} {v2 : Int32} {t0 : Int32} {H : Heap} {locs : List Loc} {ls : Array Slot} (w : wx_w γ A s H locs (cw γ o ad f g (hr γ o ad η ++ τ))) (hl : lv_has ls 4 [(0, .ref (had η v0)), (1, .int v1), (2, .int v2)]) (hF : pX9_goesBy_18 η θ f g v0 v1 v2 t0 = some z) : W p l e rmX9_goesBy s m as below meth c H locs 0 0 Q (F0 m 18 ls [.int t0]) := by
  have hx := C.1
  have hb := C.2.1
  unfold pX9_goesBy_18 at hF
  refine lv_istore_n (lv' := [(3, .int t0), (0, .ref (had η v0)), (1, .int v1), (2, .int v2)]) hx hb dX9_goesBy_18 rfl hl (by decide) rfl (fun ls hl => ?_)
  refine lv_iload_n hx hb dX9_goesBy_19 rfl (lv_at hl 0 rfl) ?_
  refine lv_if_le (tgt := 50) hx hb dX9_goesBy_20 (by decide) (fun c => ?_) (fun c => ?_)
  · have hF := (if_pos c).symm.trans hF
    refine lv_iconst (v := (0 : Int32)) hx hb dX9_goesBy_50 (by decide) ?_
    exact bX9_goesBy_51 G T C K E w (lv_sub hl [] rfl) hF
  · have hF := (if_neg c).symm.trans hF
    refine lv_iconst (v := (0 : Int32)) hx hb dX9_goesBy_23 (by decide) ?_
    refine lv_iload_n hx hb dX9_goesBy_24 rfl (lv_at hl 0 rfl) ?_
    refine lv_aload_n hx hb dX9_goesBy_25 rfl (lv_at hl 1 rfl) ?_
    obtain ⟨hg, hF⟩ := gk_if hF
    refine ho_X9 C K w hg dX9_goesBy_26 ?_
    refine lv_iconst (v := (0 : Int32)) hx hb dX9_goesBy_29 (by decide) ?_
    refine lv_iload_n hx hb dX9_goesBy_30 rfl (lv_at hl 3 rfl) ?_
    refine lv_iload_n hx hb dX9_goesBy_31 rfl (lv_at hl 2 rfl) ?_
    refine lv_aload_n hx hb dX9_goesBy_32 rfl (lv_at hl 1 rfl) ?_
    obtain ⟨hg, hF⟩ := gk_if hF
    refine hn_X9 C K w hg dX9_goesBy_33 ?_
    refine lv_bipush (v := (-9 : Int32)) hx hb dX9_goesBy_36 (by decide) ?_
    refine lv_bipush (v := (9 : Int32)) hx hb dX9_goesBy_38 (by decide) ?_
    obtain ⟨r40, hr, hF⟩ := obd hF
    refine nX9_asks G T C K w hr hl.1 ⟨Nat.le_of_ble_eq_true rfl, Nat.le_of_ble_eq_true rfl⟩ (Nat.le_of_ble_eq_true rfl) dX9_goesBy_40 (fun H locs w => ?_)
    refine lv_iadd hx hb dX9_goesBy_43 ?_
    refine cX9max C hl.1 (Nat.le_of_ble_eq_true rfl) (Nat.le_of_ble_eq_true rfl) (Nat.le_of_ble_eq_true rfl) (Nat.le_of_ble_eq_true rfl) dX9_goesBy_44 ?_
    refine lv_goto (tgt := 51) hx hb dX9_goesBy_47 (by decide) ?_
    exact bX9_goesBy_51 G T C K E w (lv_sub hl [] rfl) hF

theorem bX9_goesBy_0 {p : Program} {l : Launch} {e : Env} {s : State} {m : MethodId} {as : Array Value} {below : List Frame} {meth : Method} {c : Code} {A : Nat → Prop} {Q : State → Prop} {γ : wx_G} {o : Nat} {ad : Nat → Nat} {η : cx_H} {θ : cx_T} {τ : va_W} {z : Int32 × xF × xG} (G : cx_ok γ) (T : tx_ok γ o ad θ (hr γ o ad η ++ τ)) (C : CallFix p m c cX9_goesBy 4 s as lw_all RX9) (K : wx_C γ A s) (E : ∀ (H : Heap) (locs : List Loc) (ls : Array Slot) (pc : Nat), wx_w γ A s H locs (cw γ o ad z.2.1 z.2.2 (hr γ o ad η ++ τ)) → decode cX9_goesBy pc = .ok (.ireturn, 1) → W p l e rmX9_goesBy s m as below meth c H locs 0 0 Q (F0 m pc ls [.int z.1])) {f : xF} {g : xG} {v0 : Int32} {v1 : Int32} {v2 : Int32} {H : Heap} {locs : List Loc} {ls : Array Slot} (w : wx_w γ A s H locs (cw γ o ad f g (hr γ o ad η ++ τ))) (hl : lv_has ls 4 [(0, .ref (had η v0)), (1, .int v1), (2, .int v2)]) (hF : pX9_goesBy_0 η θ f g v0 v1 v2 = some z) : W p l e rmX9_goesBy s m as below meth c H locs 0 0 Q (F0 m 0 ls []) := by
  have hx := C.1
  have hb := C.2.1
  unfold pX9_goesBy_0 at hF
  refine lv_aload_n hx hb dX9_goesBy_0 rfl (lv_at hl 0 rfl) ?_
  refine lv_iload_n hx hb dX9_goesBy_1 rfl (lv_at hl 2 rfl) ?_
  obtain ⟨r2, hr, hF⟩ := obd hF
  refine vX9_may G C K w hr hl.1 ⟨Nat.le_of_ble_eq_true rfl, Nat.le_of_ble_eq_true rfl⟩ (Nat.le_of_ble_eq_true rfl) dX9_goesBy_2 (fun H locs w => ?_)
  refine lv_if_eq (tgt := 17) hx hb dX9_goesBy_5 (by decide) (fun c => ?_) (fun c => ?_)
  · have hF := (if_pos c).symm.trans hF
    refine lv_iconst (v := (0 : Int32)) hx hb dX9_goesBy_17 (by decide) ?_
    exact bX9_goesBy_18 G T C K E w hl hF
  · have hF := (if_neg c).symm.trans hF
    refine lv_aload_n hx hb dX9_goesBy_8 rfl (lv_at hl 0 rfl) ?_
    refine lv_iload_n hx hb dX9_goesBy_9 rfl (lv_at hl 1 rfl) ?_
    refine lv_iload_n hx hb dX9_goesBy_10 rfl (lv_at hl 2 rfl) ?_
    obtain ⟨r11, hr, hF⟩ := obd hF
    refine vX9_pushes G C K w hr hl.1 ⟨Nat.le_of_ble_eq_true rfl, Nat.le_of_ble_eq_true rfl⟩ (Nat.le_of_ble_eq_true rfl) dX9_goesBy_11 (fun H locs w => ?_)
    refine lv_goto (tgt := 18) hx hb dX9_goesBy_14 (by decide) ?_
    exact bX9_goesBy_18 G T C K E w hl hF

theorem mX9_goesBy {l : Launch} {γ : wx_G} {o : Nat} {ad : Nat → Nat} {η : cx_H} {θ : cx_T} {τ : va_W} {f : xF} {g : xG} {v0 : Int32} {v1 : Int32} {v2 : Int32} {z : Int32 × xF × xG} (G : cx_ok γ) (T : tx_ok γ o ad θ (hr γ o ad η ++ τ)) (hF : pX9_goesBy η θ f g v0 v1 v2 = some z) : wx_M γ l yX9_goesBy (ws_ yX9_goesBy cX9_goesBy 4 (some .int)) rmX9_goesBy [.ref (had η v0), .int v1, .int v2] (cw γ o ad f g (hr γ o ad η ++ τ)) (fun v ws => v = some (.int z.1) ∧ ws = (cw γ o ad z.2.1 z.2.2 (hr γ o ad η ++ τ))) 0 0 := by
  refine wx_M.of (by decide) (Nat.le_of_ble_eq_true rfl) ?_
  intro p e s m as below meth c A ls C K w hr hlocks _ hl
  exact bX9_goesBy_0 G T C K (fun H locs ls pc w d => wx_iret C hr hlocks w ⟨rfl, rfl⟩ d) w hl hF

def pV_goesBy (η : cx_H) (θ : cx_T) (f : xF) (g : xG) (i : Int32) (a0 : Int32) (a1 : Int32) : Option (Int32 × xF × xG) := if gk η i [0, 1, 2, 3, 4, 5] = true then (pX9_goesBy η θ f g i a0 a1) else none
abbrev rmV_goesBy : Room := { frames := 203, cells := 0, slots := 0, locals := 8100 }
theorem vX0_goesBy {p : Program} {l : Launch} {e : Env} {R : Room} {s : State} {m : MethodId} {as : Array Value} {below : List Frame} {meth : Method} {c : Code} {H : Heap} {locs : List Loc} {cells slots : Nat} {Q : State → Prop} {cc : ByteArray} {nL pc : Nat} {ls : Array Slot} {rest : List Value} {γ : wx_G} {A : Nat → Prop} {o : Nat} {ad : Nat → Nat} {f : xF} {g : xG} {θ : cx_T} {η : cx_H} {τ : va_W} {i a0 a1 : Int32} {z : Int32 × xF × xG} (G : cx_ok γ) (T : tx_ok γ o ad θ (hr γ o ad η ++ τ)) (C : CallFix p m c cc nL s as lw_all RX0) (K : wx_C γ A s) (w : wx_w γ A s H locs (cw γ o ad f g (hr γ o ad η ++ τ))) (hF : pV_goesBy η θ f g i a0 a1 = some z) (hls : ls.size = nL) (hR : rmV_goesBy.frames + 1 ≤ R.frames ∧ 8 + (4 + 11) + rmV_goesBy.locals ≤ R.locals) (hW : (rest.map fun v => v.category).sum ≤ 8) (d : decode cc pc = .ok (.invokevirtual 98, 3)) (kk : ∀ (H : Heap) (locs : List Loc), wx_w γ A s H locs (cw γ o ad z.2.1 z.2.2 (hr γ o ad η ++ τ)) → W p l e R s m as below meth c H locs cells slots Q (F0 m (pc + 3) ls (.int z.1 :: rest))) (hf : cells ≤ R.cells ∧ slots ≤ R.slots := by exact ⟨Nat.le_of_ble_eq_true rfl, Nat.le_of_ble_eq_true rfl⟩) : W p l e R s m as below meth c H locs cells slots Q (F0 m pc ls (.int a1 :: .int a0 :: .ref (had η i) :: rest)) := by
  unfold pV_goesBy at hF
  obtain ⟨hg, hF⟩ := gk_if hF
  have hk := gk_in hg
  simp only [List.mem_cons, List.not_mem_nil, or_false] at hk
  rcases hk with hk | hk | hk | hk | hk | hk
  · exact wx_callU (Cn := RX9) C K w (mX9_goesBy (l := l) G T hF) (va_cwU (owner := "WalkingStones$How") 2 C.2.2.2.2 (lw_U q327 q330 q329 q328 q124 q336) rfl rfl rfl rfl (by decide +kernel) ⟨Nat.le_trans (by decide) hR.1, Nat.le_trans (by decide) hR.2⟩) (hw_recv K w hg hk rfl) rfl rfl hls hW hf d (fun v ws H1 locs1 hp w => by obtain ⟨rfl, rfl⟩ := hp; exact kk H1 locs1 w)
  · exact wx_callU (Cn := RX10) C K w (mX9_goesBy (l := l) G T hF) (va_cwU (owner := "WalkingStones$How") 2 C.2.2.2.2 (lw_U q327 q330 q331 q328 q124 q336) rfl rfl rfl rfl (by decide +kernel) ⟨Nat.le_trans (by decide) hR.1, Nat.le_trans (by decide) hR.2⟩) (hw_recv K w hg hk rfl) rfl rfl hls hW hf d (fun v ws H1 locs1 hp w => by obtain ⟨rfl, rfl⟩ := hp; exact kk H1 locs1 w)
  · exact wx_callU (Cn := RX11) C K w (mX9_goesBy (l := l) G T hF) (va_cwU (owner := "WalkingStones$How") 2 C.2.2.2.2 (lw_U q327 q330 q333 q328 q124 q336) rfl rfl rfl rfl (by decide +kernel) ⟨Nat.le_trans (by decide) hR.1, Nat.le_trans (by decide) hR.2⟩) (hw_recv K w hg hk rfl) rfl rfl hls hW hf d (fun v ws H1 locs1 hp w => by obtain ⟨rfl, rfl⟩ := hp; exact kk H1 locs1 w)
  · exact wx_callU (Cn := RX12) C K w (mX9_goesBy (l := l) G T hF) (va_cwU (owner := "WalkingStones$How") 2 C.2.2.2.2 (lw_U q327 q330 q335 q328 q124 q336) rfl rfl rfl rfl (by decide +kernel) ⟨Nat.le_trans (by decide) hR.1, Nat.le_trans (by decide) hR.2⟩) (hw_recv K w hg hk rfl) rfl rfl hls hW hf d (fun v ws H1 locs1 hp w => by obtain ⟨rfl, rfl⟩ := hp; exact kk H1 locs1 w)
  · exact wx_callU (Cn := RX13) C K w (mX9_goesBy (l := l) G T hF) (va_cwU (owner := "WalkingStones$How") 2 C.2.2.2.2 (lw_U q327 q330 q332 q328 q124 q336) rfl rfl rfl rfl (by decide +kernel) ⟨Nat.le_trans (by decide) hR.1, Nat.le_trans (by decide) hR.2⟩) (hw_recv K w hg hk rfl) rfl rfl hls hW hf d (fun v ws H1 locs1 hp w => by obtain ⟨rfl, rfl⟩ := hp; exact kk H1 locs1 w)
  · exact wx_callU (Cn := RX14) C K w (mX9_goesBy (l := l) G T hF) (va_cwU (owner := "WalkingStones$How") 2 C.2.2.2.2 (lw_U q327 q330 q334 q328 q124 q336) rfl rfl rfl rfl (by decide +kernel) ⟨Nat.le_trans (by decide) hR.1, Nat.le_trans (by decide) hR.2⟩) (hw_recv K w hg hk rfl) rfl rfl hls hW hf d (fun v ws H1 locs1 hp w => by obtain ⟨rfl, rfl⟩ := hp; exact kk H1 locs1 w)

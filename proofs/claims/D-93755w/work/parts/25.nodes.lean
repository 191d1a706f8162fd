/-! THE NODES (mine; printed by gen/nodes.py): a node's value over the list L of cells, by depth; worth() answers it -/
set_option maxRecDepth 100000
def look (L : va_W) (a : Nat) : Option va_E := (L.find? (fun q => q.1 == a)).map (fun q => q.2)
/-- the cells L lie in ρ -/
def tx_nodes (ρ L : va_W) : Prop := ∀ (a : Nat) (e : va_E), look L a = some e → ∃ k : Nat, ρ[k]? = some (a, e)
def rwN (d : Nat) : Room := { frames := d, cells := 0, slots := 0, locals := 40 * d }
theorem cwr_at {γ : wx_G} {o : Nat} {ad : Nat → Nat} {f : xF} {g : xG} {ρ : va_W} {k : Nat} {x : Nat × va_E} (h : ρ[k]? = some x) : (cw γ o ad f g ρ)[20 + k]? = some x := by
  have e : 20 + k = (19 + k) + 1 := by omega
  unfold cw
  rw [e, List.getElem?_cons_succ, List.getElem?_append_right (by rw [List.length_map]; show 19 ≤ 19 + k; omega), List.length_map, show 19 + k - cw_al.length = k by show 19 + k - 19 = k; omega]
  exact h
theorem ng_X5_v {p : Program} {l : Launch} {e : Env} {R : Room} {s : State} {m : MethodId} {as : Array Value} {below : List Frame} {meth : Method} {c : Code} {H : Heap} {locs : List Loc} {cells slots : Nat} {Q : State → Prop} {cc : ByteArray} {nL pc : Nat} {ls : Array Slot} {rest : List Value} {γ : wx_G} {A : Nat → Prop} {o : Nat} {ad : Nat → Nat} {f : xF} {g : xG} {ρ : va_W} {a0 kq : Nat} {nv : Int32} (hq : ρ[kq]? = some (a0, .inr (8, [.int nv]))) (C : CallFix p m c cc nL s as lw_all RX5) (K : wx_C γ A s) (w : wx_w γ A s H locs (cw γ o ad f g ρ)) (d : decode cc pc = .ok (.getfield 7, 3)) (kk : W p l e R s m as below meth c H locs cells slots Q (F0 m (pc + 3) ls (.int nv :: rest))) : W p l e R s m as below meth c H locs cells slots Q (F0 m pc ls (.ref a0 :: rest)) :=
  va_get (ci := 8) (C := RX5) (T := TX5) (N := 1) C.1 C.2.1 C.2.2.2.2 in_X5 C.2.2.2.1 K.1.1 w.1 (20 + kq) (cwr_at hq) rfl 0 (by decide) (C.2.2.2.2 _ q601) (fun _ h => h) rfl d kk
theorem ng_X6_which {p : Program} {l : Launch} {e : Env} {R : Room} {s : State} {m : MethodId} {as : Array Value} {below : List Frame} {meth : Method} {c : Code} {H : Heap} {locs : List Loc} {cells slots : Nat} {Q : State → Prop} {cc : ByteArray} {nL pc : Nat} {ls : Array Slot} {rest : List Value} {γ : wx_G} {A : Nat → Prop} {o : Nat} {ad : Nat → Nat} {f : xF} {g : xG} {ρ : va_W} {a0 kq : Nat} {nv : Int32} (hq : ρ[kq]? = some (a0, .inr (9, [.int nv, .ref o]))) (C : CallFix p m c cc nL s as lw_all RX6) (K : wx_C γ A s) (w : wx_w γ A s H locs (cw γ o ad f g ρ)) (d : decode cc pc = .ok (.getfield 13, 3)) (kk : W p l e R s m as below meth c H locs cells slots Q (F0 m (pc + 3) ls (.int nv :: rest))) : W p l e R s m as below meth c H locs cells slots Q (F0 m pc ls (.ref a0 :: rest)) :=
  va_get (ci := 9) (C := RX6) (T := TX6) (N := 2) C.1 C.2.1 C.2.2.2.2 in_X6 C.2.2.2.1 K.1.1 w.1 (20 + kq) (cwr_at hq) rfl 0 (by decide) (C.2.2.2.2 _ q611) (fun _ h => h) rfl d kk
theorem ng_X6_this0 {p : Program} {l : Launch} {e : Env} {R : Room} {s : State} {m : MethodId} {as : Array Value} {below : List Frame} {meth : Method} {c : Code} {H : Heap} {locs : List Loc} {cells slots : Nat} {Q : State → Prop} {cc : ByteArray} {nL pc : Nat} {ls : Array Slot} {rest : List Value} {γ : wx_G} {A : Nat → Prop} {o : Nat} {ad : Nat → Nat} {f : xF} {g : xG} {ρ : va_W} {a0 kq : Nat} {nv : Int32} (hq : ρ[kq]? = some (a0, .inr (9, [.int nv, .ref o]))) (C : CallFix p m c cc nL s as lw_all RX6) (K : wx_C γ A s) (w : wx_w γ A s H locs (cw γ o ad f g ρ)) (d : decode cc pc = .ok (.getfield 1, 3)) (kk : W p l e R s m as below meth c H locs cells slots Q (F0 m (pc + 3) ls (.ref o :: rest))) : W p l e R s m as below meth c H locs cells slots Q (F0 m pc ls (.ref a0 :: rest)) :=
  va_get (ci := 9) (C := RX6) (T := TX6) (N := 2) C.1 C.2.1 C.2.2.2.2 in_X6 C.2.2.2.1 K.1.1 w.1 (20 + kq) (cwr_at hq) rfl 1 (by decide) (C.2.2.2.2 _ q612) (fun _ h => h) rfl d kk
theorem no_X6_3 {p : Program} {l : Launch} {e : Env} {R : Room} {s : State} {m : MethodId} {as : Array Value} {below : List Frame} {meth : Method} {c : Code} {H : Heap} {locs : List Loc} {cells slots : Nat} {Q : State → Prop} {cc : ByteArray} {nL pc : Nat} {ls : Array Slot} {rest : List Value} {γ : wx_G} {A : Nat → Prop} {o : Nat} {ad : Nat → Nat} {f : xF} {g : xG} {ρ : va_W} (G : cx_ok γ) (C : CallFix p m c cc nL s as lw_all RX6) (K : wx_C γ A s) (w : wx_w γ A s H locs (cw γ o ad f g ρ)) (d : decode cc pc = .ok (.getfield 22, 3)) (kk : W p l e R s m as below meth c H locs cells slots Q (F0 m (pc + 3) ls (.ref (ad 3) :: rest))) : W p l e R s m as below meth c H locs cells slots Q (F0 m pc ls (.ref o :: rest)) := hw_out (k := 3) G C K w (by decide) q761 rfl d kk
theorem no_X6_4 {p : Program} {l : Launch} {e : Env} {R : Room} {s : State} {m : MethodId} {as : Array Value} {below : List Frame} {meth : Method} {c : Code} {H : Heap} {locs : List Loc} {cells slots : Nat} {Q : State → Prop} {cc : ByteArray} {nL pc : Nat} {ls : Array Slot} {rest : List Value} {γ : wx_G} {A : Nat → Prop} {o : Nat} {ad : Nat → Nat} {f : xF} {g : xG} {ρ : va_W} (G : cx_ok γ) (C : CallFix p m c cc nL s as lw_all RX6) (K : wx_C γ A s) (w : wx_w γ A s H locs (cw γ o ad f g ρ)) (d : decode cc pc = .ok (.getfield 29, 3)) (kk : W p l e R s m as below meth c H locs cells slots Q (F0 m (pc + 3) ls (.ref (ad 4) :: rest))) : W p l e R s m as below meth c H locs cells slots Q (F0 m pc ls (.ref o :: rest)) := hw_out (k := 4) G C K w (by decide) q764 rfl d kk
theorem no_X6_5 {p : Program} {l : Launch} {e : Env} {R : Room} {s : State} {m : MethodId} {as : Array Value} {below : List Frame} {meth : Method} {c : Code} {H : Heap} {locs : List Loc} {cells slots : Nat} {Q : State → Prop} {cc : ByteArray} {nL pc : Nat} {ls : Array Slot} {rest : List Value} {γ : wx_G} {A : Nat → Prop} {o : Nat} {ad : Nat → Nat} {f : xF} {g : xG} {ρ : va_W} (G : cx_ok γ) (C : CallFix p m c cc nL s as lw_all RX6) (K : wx_C γ A s) (w : wx_w γ A s H locs (cw γ o ad f g ρ)) (d : decode cc pc = .ok (.getfield 32, 3)) (kk : W p l e R s m as below meth c H locs cells slots Q (F0 m (pc + 3) ls (.ref (ad 5) :: rest))) : W p l e R s m as below meth c H locs cells slots Q (F0 m pc ls (.ref o :: rest)) := hw_out (k := 5) G C K w (by decide) q769 rfl d kk
theorem no_X6_11 {p : Program} {l : Launch} {e : Env} {R : Room} {s : State} {m : MethodId} {as : Array Value} {below : List Frame} {meth : Method} {c : Code} {H : Heap} {locs : List Loc} {cells slots : Nat} {Q : State → Prop} {cc : ByteArray} {nL pc : Nat} {ls : Array Slot} {rest : List Value} {γ : wx_G} {A : Nat → Prop} {o : Nat} {ad : Nat → Nat} {f : xF} {g : xG} {ρ : va_W} (G : cx_ok γ) (C : CallFix p m c cc nL s as lw_all RX6) (K : wx_C γ A s) (w : wx_w γ A s H locs (cw γ o ad f g ρ)) (d : decode cc pc = .ok (.getfield 17, 3)) (kk : W p l e R s m as below meth c H locs cells slots Q (F0 m (pc + 3) ls (.int (f 11) :: rest))) : W p l e R s m as below meth c H locs cells slots Q (F0 m pc ls (.ref o :: rest)) := hw_out (k := 11) G C K w (by decide) q778 rfl d kk
theorem no_X6_12 {p : Program} {l : Launch} {e : Env} {R : Room} {s : State} {m : MethodId} {as : Array Value} {below : List Frame} {meth : Method} {c : Code} {H : Heap} {locs : List Loc} {cells slots : Nat} {Q : State → Prop} {cc : ByteArray} {nL pc : Nat} {ls : Array Slot} {rest : List Value} {γ : wx_G} {A : Nat → Prop} {o : Nat} {ad : Nat → Nat} {f : xF} {g : xG} {ρ : va_W} (G : cx_ok γ) (C : CallFix p m c cc nL s as lw_all RX6) (K : wx_C γ A s) (w : wx_w γ A s H locs (cw γ o ad f g ρ)) (d : decode cc pc = .ok (.getfield 35, 3)) (kk : W p l e R s m as below meth c H locs cells slots Q (F0 m (pc + 3) ls (.int (f 12) :: rest))) : W p l e R s m as below meth c H locs cells slots Q (F0 m pc ls (.ref o :: rest)) := hw_out (k := 12) G C K w (by decide) q780 rfl d kk
theorem no_X6_13 {p : Program} {l : Launch} {e : Env} {R : Room} {s : State} {m : MethodId} {as : Array Value} {below : List Frame} {meth : Method} {c : Code} {H : Heap} {locs : List Loc} {cells slots : Nat} {Q : State → Prop} {cc : ByteArray} {nL pc : Nat} {ls : Array Slot} {rest : List Value} {γ : wx_G} {A : Nat → Prop} {o : Nat} {ad : Nat → Nat} {f : xF} {g : xG} {ρ : va_W} (G : cx_ok γ) (C : CallFix p m c cc nL s as lw_all RX6) (K : wx_C γ A s) (w : wx_w γ A s H locs (cw γ o ad f g ρ)) (d : decode cc pc = .ok (.getfield 26, 3)) (kk : W p l e R s m as below meth c H locs cells slots Q (F0 m (pc + 3) ls (.int (f 13) :: rest))) : W p l e R s m as below meth c H locs cells slots Q (F0 m pc ls (.ref o :: rest)) := hw_out (k := 13) G C K w (by decide) q782 rfl d kk
theorem ng_X4_of {p : Program} {l : Launch} {e : Env} {R : Room} {s : State} {m : MethodId} {as : Array Value} {below : List Frame} {meth : Method} {c : Code} {H : Heap} {locs : List Loc} {cells slots : Nat} {Q : State → Prop} {cc : ByteArray} {nL pc : Nat} {ls : Array Slot} {rest : List Value} {γ : wx_G} {A : Nat → Prop} {o : Nat} {ad : Nat → Nat} {f : xF} {g : xG} {ρ : va_W} {a0 kq : Nat} {nv : Int32} {xa : Nat} (hq : ρ[kq]? = some (a0, .inr (10, [.ref xa, .int nv]))) (C : CallFix p m c cc nL s as lw_all RX4) (K : wx_C γ A s) (w : wx_w γ A s H locs (cw γ o ad f g ρ)) (d : decode cc pc = .ok (.getfield 7, 3)) (kk : W p l e R s m as below meth c H locs cells slots Q (F0 m (pc + 3) ls (.ref xa :: rest))) : W p l e R s m as below meth c H locs cells slots Q (F0 m pc ls (.ref a0 :: rest)) :=
  va_get (ci := 10) (C := RX4) (T := TX4) (N := 2) C.1 C.2.1 C.2.2.2.2 in_X4 C.2.2.2.1 K.1.1 w.1 (20 + kq) (cwr_at hq) rfl 0 (by decide) (C.2.2.2.2 _ q575) (fun _ h => h) rfl d kk
theorem ng_X4_isMinus {p : Program} {l : Launch} {e : Env} {R : Room} {s : State} {m : MethodId} {as : Array Value} {below : List Frame} {meth : Method} {c : Code} {H : Heap} {locs : List Loc} {cells slots : Nat} {Q : State → Prop} {cc : ByteArray} {nL pc : Nat} {ls : Array Slot} {rest : List Value} {γ : wx_G} {A : Nat → Prop} {o : Nat} {ad : Nat → Nat} {f : xF} {g : xG} {ρ : va_W} {a0 kq : Nat} {nv : Int32} {xa : Nat} (hq : ρ[kq]? = some (a0, .inr (10, [.ref xa, .int nv]))) (C : CallFix p m c cc nL s as lw_all RX4) (K : wx_C γ A s) (w : wx_w γ A s H locs (cw γ o ad f g ρ)) (d : decode cc pc = .ok (.getfield 13, 3)) (kk : W p l e R s m as below meth c H locs cells slots Q (F0 m (pc + 3) ls (.int nv :: rest))) : W p l e R s m as below meth c H locs cells slots Q (F0 m pc ls (.ref a0 :: rest)) :=
  va_get (ci := 10) (C := RX4) (T := TX4) (N := 2) C.1 C.2.1 C.2.2.2.2 in_X4 C.2.2.2.1 K.1.1 w.1 (20 + kq) (cwr_at hq) rfl 1 (by decide) (C.2.2.2.2 _ q576) (fun _ h => h) rfl d kk
theorem ng_X7_sign {p : Program} {l : Launch} {e : Env} {R : Room} {s : State} {m : MethodId} {as : Array Value} {below : List Frame} {meth : Method} {c : Code} {H : Heap} {locs : List Loc} {cells slots : Nat} {Q : State → Prop} {cc : ByteArray} {nL pc : Nat} {ls : Array Slot} {rest : List Value} {γ : wx_G} {A : Nat → Prop} {o : Nat} {ad : Nat → Nat} {f : xF} {g : xG} {ρ : va_W} {a0 kq : Nat} {nv : Int32} {xa : Nat} {xb : Nat} (hq : ρ[kq]? = some (a0, .inr (11, [.int nv, .ref xa, .ref xb]))) (C : CallFix p m c cc nL s as lw_all RX7) (K : wx_C γ A s) (w : wx_w γ A s H locs (cw γ o ad f g ρ)) (d : decode cc pc = .ok (.getfield 7, 3)) (kk : W p l e R s m as below meth c H locs cells slots Q (F0 m (pc + 3) ls (.int nv :: rest))) : W p l e R s m as below meth c H locs cells slots Q (F0 m pc ls (.ref a0 :: rest)) :=
  va_get (ci := 11) (C := RX7) (T := TX7) (N := 3) C.1 C.2.1 C.2.2.2.2 in_X7 C.2.2.2.1 K.1.1 w.1 (20 + kq) (cwr_at hq) rfl 0 (by decide) (C.2.2.2.2 _ q628) (fun _ h => h) rfl d kk
theorem ng_X7_a {p : Program} {l : Launch} {e : Env} {R : Room} {s : State} {m : MethodId} {as : Array Value} {below : List Frame} {meth : Method} {c : Code} {H : Heap} {locs : List Loc} {cells slots : Nat} {Q : State → Prop} {cc : ByteArray} {nL pc : Nat} {ls : Array Slot} {rest : List Value} {γ : wx_G} {A : Nat → Prop} {o : Nat} {ad : Nat → Nat} {f : xF} {g : xG} {ρ : va_W} {a0 kq : Nat} {nv : Int32} {xa : Nat} {xb : Nat} (hq : ρ[kq]? = some (a0, .inr (11, [.int nv, .ref xa, .ref xb]))) (C : CallFix p m c cc nL s as lw_all RX7) (K : wx_C γ A s) (w : wx_w γ A s H locs (cw γ o ad f g ρ)) (d : decode cc pc = .ok (.getfield 13, 3)) (kk : W p l e R s m as below meth c H locs cells slots Q (F0 m (pc + 3) ls (.ref xa :: rest))) : W p l e R s m as below meth c H locs cells slots Q (F0 m pc ls (.ref a0 :: rest)) :=
  va_get (ci := 11) (C := RX7) (T := TX7) (N := 3) C.1 C.2.1 C.2.2.2.2 in_X7 C.2.2.2.1 K.1.1 w.1 (20 + kq) (cwr_at hq) rfl 1 (by decide) (C.2.2.2.2 _ q629) (fun _ h => h) rfl d kk
theorem ng_X7_b {p : Program} {l : Launch} {e : Env} {R : Room} {s : State} {m : MethodId} {as : Array Value} {below : List Frame} {meth : Method} {c : Code} {H : Heap} {locs : List Loc} {cells slots : Nat} {Q : State → Prop} {cc : ByteArray} {nL pc : Nat} {ls : Array Slot} {rest : List Value} {γ : wx_G} {A : Nat → Prop} {o : Nat} {ad : Nat → Nat} {f : xF} {g : xG} {ρ : va_W} {a0 kq : Nat} {nv : Int32} {xa : Nat} {xb : Nat} (hq : ρ[kq]? = some (a0, .inr (11, [.int nv, .ref xa, .ref xb]))) (C : CallFix p m c cc nL s as lw_all RX7) (K : wx_C γ A s) (w : wx_w γ A s H locs (cw γ o ad f g ρ)) (d : decode cc pc = .ok (.getfield 17, 3)) (kk : W p l e R s m as below meth c H locs cells slots Q (F0 m (pc + 3) ls (.ref xb :: rest))) : W p l e R s m as below meth c H locs cells slots Q (F0 m pc ls (.ref a0 :: rest)) :=
  va_get (ci := 11) (C := RX7) (T := TX7) (N := 3) C.1 C.2.1 C.2.2.2.2 in_X7 C.2.2.2.1 K.1.1 w.1 (20 + kq) (cwr_at hq) rfl 2 (by decide) (C.2.2.2.2 _ q630) (fun _ h => h) rfl d kk
def wtC (l : Launch) (γ : wx_G) (o : Nat) (ad : Nat → Nat) (f : xF) (g : xG) (ρ : va_W) (d a : Nat) (z : Int32) : Prop :=
  (∃ (k : Nat) (fs : List Value), ρ[k]? = some (a, .inr (8, fs)) ∧ wx_M γ l yX5_worth (ws_ yX5_worth cX5_worth 1 (some .int)) (rwN d) [.ref a] (cw γ o ad f g ρ) (fun v ws => v = some (.int z) ∧ ws = (cw γ o ad f g ρ)) 0 0) ∨
  (∃ (k : Nat) (fs : List Value), ρ[k]? = some (a, .inr (9, fs)) ∧ wx_M γ l yX6_worth (ws_ yX6_worth cX6_worth 1 (some .int)) (rwN d) [.ref a] (cw γ o ad f g ρ) (fun v ws => v = some (.int z) ∧ ws = (cw γ o ad f g ρ)) 0 0) ∨
  (∃ (k : Nat) (fs : List Value), ρ[k]? = some (a, .inr (10, fs)) ∧ wx_M γ l yX4_worth (ws_ yX4_worth cX4_worth 2 (some .int)) (rwN d) [.ref a] (cw γ o ad f g ρ) (fun v ws => v = some (.int z) ∧ ws = (cw γ o ad f g ρ)) 0 0) ∨
  (∃ (k : Nat) (fs : List Value), ρ[k]? = some (a, .inr (11, fs)) ∧ wx_M γ l yX7_worth (ws_ yX7_worth cX7_worth 3 (some .int)) (rwN d) [.ref a] (cw γ o ad f g ρ) (fun v ws => v = some (.int z) ∧ ws = (cw γ o ad f g ρ)) 0 0)
theorem rw_X4 {p : Program} {l : Launch} {e : Env} {R : Room} {s : State} {m : MethodId} {as : Array Value} {below : List Frame} {meth : Method} {c : Code} {H : Heap} {locs : List Loc} {cells slots : Nat} {Q : State → Prop} {cc : ByteArray} {nL pc : Nat} {ls : Array Slot} {rest : List Value} {γ : wx_G} {A : Nat → Prop} {o : Nat} {ad : Nat → Nat} {f : xF} {g : xG} {ρ : va_W} {d a : Nat} {wk : Nat → Option Int32} {z : Int32} (G : cx_ok γ) (hwk : ∀ (a : Nat) (z : Int32), wk a = some z → wtC l γ o ad f g ρ d a z) (C : CallFix p m c cc nL s as lw_all RX4) (K : wx_C γ A s) (w : wx_w γ A s H locs (cw γ o ad f g ρ)) (hr : wk a = some z) (hls : ls.size = nL) (hR : (rwN d).frames + 1 ≤ R.frames ∧ 8 + (3 + 11) + (rwN d).locals ≤ R.locals) (hW : (rest.map fun v => v.category).sum ≤ 8) (dd : decode cc pc = .ok (.invokevirtual 17, 3)) (kk : ∀ (H : Heap) (locs : List Loc), wx_w γ A s H locs (cw γ o ad f g ρ) → W p l e R s m as below meth c H locs cells slots Q (F0 m (pc + 3) ls (.int z :: rest))) (hf : cells ≤ R.cells ∧ slots ≤ R.slots := by exact ⟨Nat.le_of_ble_eq_true rfl, Nat.le_of_ble_eq_true rfl⟩) : W p l e R s m as below meth c H locs cells slots Q (F0 m pc ls (.ref a :: rest)) := by
  obtain ⟨as0, h0⟩ := G.1
  have hz : va_Nw (.declares ⟨"WalkingStones$Node", "worth", "()I"⟩) s := va_Nw.warmD K.1.2 (va_Nw.of rfl (h0 _ q370))
  rcases hwk a z hr with ⟨k, fs, hq, hM⟩ | ⟨k, fs, hq, hM⟩ | ⟨k, fs, hq, hM⟩ | ⟨k, fs, hq, hM⟩
  · exact wx_callU (x := ⟨"WalkingStones$Node", "worth", "()I"⟩) (Cn := RX5) C K w hM (va_cwA (owner := "WalkingStones$Node") 0 C.2.2.2.2 (lw_U q381 q371 q375 q376 q120 q377) rfl rfl rfl hz (by decide +kernel) ⟨hR.1, by have := hR.2; omega⟩) (va_recv K.1.1 w.1 (ci := 8) rfl (cwr_at hq)) rfl rfl hls hW hf dd (fun v ws H1 locs1 hp w => by obtain ⟨rfl, rfl⟩ := hp; exact kk H1 locs1 w)
  · exact wx_callU (x := ⟨"WalkingStones$Node", "worth", "()I"⟩) (Cn := RX6) C K w hM (va_cwA (owner := "WalkingStones$Node") 0 C.2.2.2.2 (lw_U q381 q371 q372 q373 q121 q374) rfl rfl rfl hz (by decide +kernel) ⟨hR.1, by have := hR.2; omega⟩) (va_recv K.1.1 w.1 (ci := 9) rfl (cwr_at hq)) rfl rfl hls hW hf dd (fun v ws H1 locs1 hp w => by obtain ⟨rfl, rfl⟩ := hp; exact kk H1 locs1 w)
  · exact wx_callU (x := ⟨"WalkingStones$Node", "worth", "()I"⟩) (Cn := RX4) C K w hM (va_cwA (owner := "WalkingStones$Node") 0 C.2.2.2.2 (lw_U q381 q371 q378 q379 q119 q380) rfl rfl rfl hz (by decide +kernel) ⟨hR.1, by have := hR.2; omega⟩) (va_recv K.1.1 w.1 (ci := 10) rfl (cwr_at hq)) rfl rfl hls hW hf dd (fun v ws H1 locs1 hp w => by obtain ⟨rfl, rfl⟩ := hp; exact kk H1 locs1 w)
  · exact wx_callU (x := ⟨"WalkingStones$Node", "worth", "()I"⟩) (Cn := RX7) C K w hM (va_cwA (owner := "WalkingStones$Node") 0 C.2.2.2.2 (lw_U q381 q371 q385 q382 q122 q383) rfl rfl rfl hz (by decide +kernel) ⟨hR.1, by have := hR.2; omega⟩) (va_recv K.1.1 w.1 (ci := 11) rfl (cwr_at hq)) rfl rfl hls hW hf dd (fun v ws H1 locs1 hp w => by obtain ⟨rfl, rfl⟩ := hp; exact kk H1 locs1 w)
theorem rw_X7 {p : Program} {l : Launch} {e : Env} {R : Room} {s : State} {m : MethodId} {as : Array Value} {below : List Frame} {meth : Method} {c : Code} {H : Heap} {locs : List Loc} {cells slots : Nat} {Q : State → Prop} {cc : ByteArray} {nL pc : Nat} {ls : Array Slot} {rest : List Value} {γ : wx_G} {A : Nat → Prop} {o : Nat} {ad : Nat → Nat} {f : xF} {g : xG} {ρ : va_W} {d a : Nat} {wk : Nat → Option Int32} {z : Int32} (G : cx_ok γ) (hwk : ∀ (a : Nat) (z : Int32), wk a = some z → wtC l γ o ad f g ρ d a z) (C : CallFix p m c cc nL s as lw_all RX7) (K : wx_C γ A s) (w : wx_w γ A s H locs (cw γ o ad f g ρ)) (hr : wk a = some z) (hls : ls.size = nL) (hR : (rwN d).frames + 1 ≤ R.frames ∧ 8 + (3 + 11) + (rwN d).locals ≤ R.locals) (hW : (rest.map fun v => v.category).sum ≤ 8) (dd : decode cc pc = .ok (.invokevirtual 20, 3)) (kk : ∀ (H : Heap) (locs : List Loc), wx_w γ A s H locs (cw γ o ad f g ρ) → W p l e R s m as below meth c H locs cells slots Q (F0 m (pc + 3) ls (.int z :: rest))) (hf : cells ≤ R.cells ∧ slots ≤ R.slots := by exact ⟨Nat.le_of_ble_eq_true rfl, Nat.le_of_ble_eq_true rfl⟩) : W p l e R s m as below meth c H locs cells slots Q (F0 m pc ls (.ref a :: rest)) := by
  obtain ⟨as0, h0⟩ := G.1
  have hz : va_Nw (.declares ⟨"WalkingStones$Node", "worth", "()I"⟩) s := va_Nw.warmD K.1.2 (va_Nw.of rfl (h0 _ q370))
  rcases hwk a z hr with ⟨k, fs, hq, hM⟩ | ⟨k, fs, hq, hM⟩ | ⟨k, fs, hq, hM⟩ | ⟨k, fs, hq, hM⟩
  · exact wx_callU (x := ⟨"WalkingStones$Node", "worth", "()I"⟩) (Cn := RX5) C K w hM (va_cwA (owner := "WalkingStones$Node") 0 C.2.2.2.2 (lw_U q384 q371 q375 q376 q120 q377) rfl rfl rfl hz (by decide +kernel) ⟨hR.1, by have := hR.2; omega⟩) (va_recv K.1.1 w.1 (ci := 8) rfl (cwr_at hq)) rfl rfl hls hW hf dd (fun v ws H1 locs1 hp w => by obtain ⟨rfl, rfl⟩ := hp; exact kk H1 locs1 w)
  · exact wx_callU (x := ⟨"WalkingStones$Node", "worth", "()I"⟩) (Cn := RX6) C K w hM (va_cwA (owner := "WalkingStones$Node") 0 C.2.2.2.2 (lw_U q384 q371 q372 q373 q121 q374) rfl rfl rfl hz (by decide +kernel) ⟨hR.1, by have := hR.2; omega⟩) (va_recv K.1.1 w.1 (ci := 9) rfl (cwr_at hq)) rfl rfl hls hW hf dd (fun v ws H1 locs1 hp w => by obtain ⟨rfl, rfl⟩ := hp; exact kk H1 locs1 w)
  · exact wx_callU (x := ⟨"WalkingStones$Node", "worth", "()I"⟩) (Cn := RX4) C K w hM (va_cwA (owner := "WalkingStones$Node") 0 C.2.2.2.2 (lw_U q384 q371 q378 q379 q119 q380) rfl rfl rfl hz (by decide +kernel) ⟨hR.1, by have := hR.2; omega⟩) (va_recv K.1.1 w.1 (ci := 10) rfl (cwr_at hq)) rfl rfl hls hW hf dd (fun v ws H1 locs1 hp w => by obtain ⟨rfl, rfl⟩ := hp; exact kk H1 locs1 w)
  · exact wx_callU (x := ⟨"WalkingStones$Node", "worth", "()I"⟩) (Cn := RX7) C K w hM (va_cwA (owner := "WalkingStones$Node") 0 C.2.2.2.2 (lw_U q384 q371 q385 q382 q122 q383) rfl rfl rfl hz (by decide +kernel) ⟨hR.1, by have := hR.2; omega⟩) (va_recv K.1.1 w.1 (ci := 11) rfl (cwr_at hq)) rfl rfl hls hW hf dd (fun v ws H1 locs1 hp w => by obtain ⟨rfl, rfl⟩ := hp; exact kk H1 locs1 w)
theorem rw_X0 {p : Program} {l : Launch} {e : Env} {R : Room} {s : State} {m : MethodId} {as : Array Value} {below : List Frame} {meth : Method} {c : Code} {H : Heap} {locs : List Loc} {cells slots : Nat} {Q : State → Prop} {cc : ByteArray} {nL pc : Nat} {ls : Array Slot} {rest : List Value} {γ : wx_G} {A : Nat → Prop} {o : Nat} {ad : Nat → Nat} {f : xF} {g : xG} {ρ : va_W} {d a : Nat} {wk : Nat → Option Int32} {z : Int32} (G : cx_ok γ) (hwk : ∀ (a : Nat) (z : Int32), wk a = some z → wtC l γ o ad f g ρ d a z) (C : CallFix p m c cc nL s as lw_all RX0) (K : wx_C γ A s) (w : wx_w γ A s H locs (cw γ o ad f g ρ)) (hr : wk a = some z) (hls : ls.size = nL) (hR : (rwN d).frames + 1 ≤ R.frames ∧ 8 + (3 + 11) + (rwN d).locals ≤ R.locals) (hW : (rest.map fun v => v.category).sum ≤ 8) (dd : decode cc pc = .ok (.invokevirtual 340, 3)) (kk : ∀ (H : Heap) (locs : List Loc), wx_w γ A s H locs (cw γ o ad f g ρ) → W p l e R s m as below meth c H locs cells slots Q (F0 m (pc + 3) ls (.int z :: rest))) (hf : cells ≤ R.cells ∧ slots ≤ R.slots := by exact ⟨Nat.le_of_ble_eq_true rfl, Nat.le_of_ble_eq_true rfl⟩) : W p l e R s m as below meth c H locs cells slots Q (F0 m pc ls (.ref a :: rest)) := by
  obtain ⟨as0, h0⟩ := G.1
  have hz : va_Nw (.declares ⟨"WalkingStones$Node", "worth", "()I"⟩) s := va_Nw.warmD K.1.2 (va_Nw.of rfl (h0 _ q370))
  rcases hwk a z hr with ⟨k, fs, hq, hM⟩ | ⟨k, fs, hq, hM⟩ | ⟨k, fs, hq, hM⟩ | ⟨k, fs, hq, hM⟩
  · exact wx_callU (x := ⟨"WalkingStones$Node", "worth", "()I"⟩) (Cn := RX5) C K w hM (va_cwA (owner := "WalkingStones$Node") 0 C.2.2.2.2 (lw_U q369 q371 q375 q376 q120 q377) rfl rfl rfl hz (by decide +kernel) ⟨hR.1, by have := hR.2; omega⟩) (va_recv K.1.1 w.1 (ci := 8) rfl (cwr_at hq)) rfl rfl hls hW hf dd (fun v ws H1 locs1 hp w => by obtain ⟨rfl, rfl⟩ := hp; exact kk H1 locs1 w)
  · exact wx_callU (x := ⟨"WalkingStones$Node", "worth", "()I"⟩) (Cn := RX6) C K w hM (va_cwA (owner := "WalkingStones$Node") 0 C.2.2.2.2 (lw_U q369 q371 q372 q373 q121 q374) rfl rfl rfl hz (by decide +kernel) ⟨hR.1, by have := hR.2; omega⟩) (va_recv K.1.1 w.1 (ci := 9) rfl (cwr_at hq)) rfl rfl hls hW hf dd (fun v ws H1 locs1 hp w => by obtain ⟨rfl, rfl⟩ := hp; exact kk H1 locs1 w)
  · exact wx_callU (x := ⟨"WalkingStones$Node", "worth", "()I"⟩) (Cn := RX4) C K w hM (va_cwA (owner := "WalkingStones$Node") 0 C.2.2.2.2 (lw_U q369 q371 q378 q379 q119 q380) rfl rfl rfl hz (by decide +kernel) ⟨hR.1, by have := hR.2; omega⟩) (va_recv K.1.1 w.1 (ci := 10) rfl (cwr_at hq)) rfl rfl hls hW hf dd (fun v ws H1 locs1 hp w => by obtain ⟨rfl, rfl⟩ := hp; exact kk H1 locs1 w)
  · exact wx_callU (x := ⟨"WalkingStones$Node", "worth", "()I"⟩) (Cn := RX7) C K w hM (va_cwA (owner := "WalkingStones$Node") 0 C.2.2.2.2 (lw_U q369 q371 q385 q382 q122 q383) rfl rfl rfl hz (by decide +kernel) ⟨hR.1, by have := hR.2; omega⟩) (va_recv K.1.1 w.1 (ci := 11) rfl (cwr_at hq)) rfl rfl hls hW hf dd (fun v ws H1 locs1 hp w => by obtain ⟨rfl, rfl⟩ := hp; exact kk H1 locs1 w)
/-! WalkingStones$Number.worth()I -/
def pX5_worth_0 (f : xF) (g : xG) (nv : Int32) : Option (Int32) := some (nv)


theorem bX5_worth_0 {p : Program} {l : Launch} {e : Env} {s : State} {m : MethodId} {as : Array Value} {below : List Frame} {meth : Method} {c : Code} {A : Nat → Prop} {Q : State → Prop} {γ : wx_G} {o : Nat} {ad : Nat → Nat} {ρ : va_W} {z : Int32} {f : xF} {g : xG} (G : cx_ok γ) {q a0 kq : Nat} {nv : Int32} (hq : ρ[kq]? = some (a0, .inr (8, [.int nv]))) (C : CallFix p m c cX5_worth 1 s as lw_all RX5) (K : wx_C γ A s) (E : ∀ (H : Heap) (locs : List Loc) (ls : Array Slot) (pc : Nat), wx_w γ A s H locs (cw γ o ad f g ρ) → decode cX5_worth pc = .ok (.ireturn, 1) → W p l e (rwN (q + 1)) s m as below meth c H locs 0 0 Q (F0 m pc ls [.int z])) {H : Heap} {locs : List Loc} {ls : Array Slot} (w : wx_w γ A s H locs (cw γ o ad f g ρ)) (hl : lv_has ls 1 [(0, .ref a0)]) (hF : pX5_worth_0 f g nv = some z) : W p l e (rwN (q + 1)) s m as below meth c H locs 0 0 Q (F0 m 0 ls []) := by
  have hx := C.1
  have hb := C.2.1
  unfold pX5_worth_0 at hF
  refine lv_aload_n hx hb dX5_worth_0 rfl (lv_at hl 0 rfl) ?_
  refine ng_X5_v hq C K w dX5_worth_1 ?_
  have hF := Option.some.inj hF
  subst hF
  exact E _ _ _ _ w dX5_worth_4


theorem mX5_worth {l : Launch} {γ : wx_G} {o : Nat} {ad : Nat → Nat} {ρ : va_W} {f : xF} {g : xG} {z : Int32} (G : cx_ok γ) {q a0 kq : Nat} {nv : Int32} (hq : ρ[kq]? = some (a0, .inr (8, [.int nv]))) (hF : pX5_worth_0 f g nv = some z) : wx_M γ l yX5_worth (ws_ yX5_worth cX5_worth 1 (some .int)) (rwN (q + 1)) [.ref a0] (cw γ o ad f g ρ) (fun v ws => v = some (.int z) ∧ ws = (cw γ o ad f g ρ)) 0 0 := by
  refine wx_M.of (by decide) (Nat.le_of_ble_eq_true rfl) ?_
  intro p e s m as below meth c A ls C K w hr hlocks _ hl
  exact bX5_worth_0 (q := q) G hq C K (fun H locs ls pc w d => wx_iret C hr hlocks w ⟨rfl, rfl⟩ d) w hl hF
/-! WalkingStones$Name.worth()I -/
def pX6_worth_0 (f : xF) (g : xG) (nv : Int32) : Option (Int32) := if nv = (0 : Int32) then some (f 11) else if nv = (1 : Int32) then (if gin (f 13) 60 = true then some (g 3 (f 13).toNatClampNeg) else none) else if nv = (2 : Int32) then (if gin (f 13) 60 = true then some (g 4 (f 13).toNatClampNeg) else none) else if nv = (3 : Int32) then (if gin (f 13) 60 = true then some (g 5 (f 13).toNatClampNeg) else none) else if nv = (4 : Int32) then some (f 12) else some (f 13)


theorem bX6_worth_0 {p : Program} {l : Launch} {e : Env} {s : State} {m : MethodId} {as : Array Value} {below : List Frame} {meth : Method} {c : Code} {A : Nat → Prop} {Q : State → Prop} {γ : wx_G} {o : Nat} {ad : Nat → Nat} {ρ : va_W} {z : Int32} {f : xF} {g : xG} (G : cx_ok γ) {q a0 kq : Nat} {nv : Int32} (hq : ρ[kq]? = some (a0, .inr (9, [.int nv, .ref o]))) (C : CallFix p m c cX6_worth 1 s as lw_all RX6) (K : wx_C γ A s) (E : ∀ (H : Heap) (locs : List Loc) (ls : Array Slot) (pc : Nat), wx_w γ A s H locs (cw γ o ad f g ρ) → decode cX6_worth pc = .ok (.ireturn, 1) → W p l e (rwN (q + 1)) s m as below meth c H locs 0 0 Q (F0 m pc ls [.int z])) {H : Heap} {locs : List Loc} {ls : Array Slot} (w : wx_w γ A s H locs (cw γ o ad f g ρ)) (hl : lv_has ls 1 [(0, .ref a0)]) (hF : pX6_worth_0 f g nv = some z) : W p l e (rwN (q + 1)) s m as below meth c H locs 0 0 Q (F0 m 0 ls []) := by
  have hx := C.1
  have hb := C.2.1
  unfold pX6_worth_0 at hF
  refine lv_aload_n hx hb dX6_worth_0 rfl (lv_at hl 0 rfl) ?_
  refine ng_X6_which hq C K w dX6_worth_1 ?_
  by_cases c0 : nv = (0 : Int32)
  · have hF := (if_pos c0).symm.trans hF
    refine lv_tableIn (off := 36) (tgt := 40) hx hb dX6_worth_4 (by rw [c0]; decide) (by rw [c0]; decide) (by rw [c0]; rfl) (by decide) ?_
    refine lv_aload_n hx hb dX6_worth_40 rfl (lv_at hl 0 rfl) ?_
    refine ng_X6_this0 hq C K w dX6_worth_41 ?_
    refine no_X6_11 G C K w dX6_worth_44 ?_
    have hF := Option.some.inj hF
    subst hF
    exact E _ _ _ _ w dX6_worth_47
  have hF := (if_neg c0).symm.trans hF
  by_cases c1 : nv = (1 : Int32)
  · have hF := (if_pos c1).symm.trans hF
    refine lv_tableIn (off := 44) (tgt := 48) hx hb dX6_worth_4 (by rw [c1]; decide) (by rw [c1]; decide) (by rw [c1]; rfl) (by decide) ?_
    refine lv_aload_n hx hb dX6_worth_48 rfl (lv_at hl 0 rfl) ?_
    refine ng_X6_this0 hq C K w dX6_worth_49 ?_
    refine no_X6_3 G C K w dX6_worth_52 ?_
    refine lv_aload_n hx hb dX6_worth_55 rfl (lv_at hl 0 rfl) ?_
    refine ng_X6_this0 hq C K w dX6_worth_56 ?_
    refine no_X6_13 G C K w dX6_worth_59 ?_
    obtain ⟨hi, hF⟩ := gin_if hF
    refine cald_3 C K w hi dX6_worth_62 ?_
    have hF := Option.some.inj hF
    subst hF
    exact E _ _ _ _ w dX6_worth_63
  have hF := (if_neg c1).symm.trans hF
  by_cases c2 : nv = (2 : Int32)
  · have hF := (if_pos c2).symm.trans hF
    refine lv_tableIn (off := 60) (tgt := 64) hx hb dX6_worth_4 (by rw [c2]; decide) (by rw [c2]; decide) (by rw [c2]; rfl) (by decide) ?_
    refine lv_aload_n hx hb dX6_worth_64 rfl (lv_at hl 0 rfl) ?_
    refine ng_X6_this0 hq C K w dX6_worth_65 ?_
    refine no_X6_4 G C K w dX6_worth_68 ?_
    refine lv_aload_n hx hb dX6_worth_71 rfl (lv_at hl 0 rfl) ?_
    refine ng_X6_this0 hq C K w dX6_worth_72 ?_
    refine no_X6_13 G C K w dX6_worth_75 ?_
    obtain ⟨hi, hF⟩ := gin_if hF
    refine cald_4 C K w hi dX6_worth_78 ?_
    have hF := Option.some.inj hF
    subst hF
    exact E _ _ _ _ w dX6_worth_79
  have hF := (if_neg c2).symm.trans hF
  by_cases c3 : nv = (3 : Int32)
  · have hF := (if_pos c3).symm.trans hF
    refine lv_tableIn (off := 76) (tgt := 80) hx hb dX6_worth_4 (by rw [c3]; decide) (by rw [c3]; decide) (by rw [c3]; rfl) (by decide) ?_
    refine lv_aload_n hx hb dX6_worth_80 rfl (lv_at hl 0 rfl) ?_
    refine ng_X6_this0 hq C K w dX6_worth_81 ?_
    refine no_X6_5 G C K w dX6_worth_84 ?_
    refine lv_aload_n hx hb dX6_worth_87 rfl (lv_at hl 0 rfl) ?_
    refine ng_X6_this0 hq C K w dX6_worth_88 ?_
    refine no_X6_13 G C K w dX6_worth_91 ?_
    obtain ⟨hi, hF⟩ := gin_if hF
    refine cald_5 C K w hi dX6_worth_94 ?_
    have hF := Option.some.inj hF
    subst hF
    exact E _ _ _ _ w dX6_worth_95
  have hF := (if_neg c3).symm.trans hF
  by_cases c4 : nv = (4 : Int32)
  · have hF := (if_pos c4).symm.trans hF
    refine lv_tableIn (off := 92) (tgt := 96) hx hb dX6_worth_4 (by rw [c4]; decide) (by rw [c4]; decide) (by rw [c4]; rfl) (by decide) ?_
    refine lv_aload_n hx hb dX6_worth_96 rfl (lv_at hl 0 rfl) ?_
    refine ng_X6_this0 hq C K w dX6_worth_97 ?_
    refine no_X6_12 G C K w dX6_worth_100 ?_
    have hF := Option.some.inj hF
    subst hF
    exact E _ _ _ _ w dX6_worth_103
  have hF := (if_neg c4).symm.trans hF
  have n0 := wx_ne c0 (k := 0) (by decide)
  have n1 := wx_ne c1 (k := 1) (by decide)
  have n2 := wx_ne c2 (k := 2) (by decide)
  have n3 := wx_ne c3 (k := 3) (by decide)
  have n4 := wx_ne c4 (k := 4) (by decide)
  refine lv_tableOut (tgt := 104) hx hb dX6_worth_4 (by omega) (by decide) ?_
  refine lv_aload_n hx hb dX6_worth_104 rfl (lv_at hl 0 rfl) ?_
  refine ng_X6_this0 hq C K w dX6_worth_105 ?_
  refine no_X6_13 G C K w dX6_worth_108 ?_
  have hF := Option.some.inj hF
  subst hF
  exact E _ _ _ _ w dX6_worth_111


theorem mX6_worth {l : Launch} {γ : wx_G} {o : Nat} {ad : Nat → Nat} {ρ : va_W} {f : xF} {g : xG} {z : Int32} (G : cx_ok γ) {q a0 kq : Nat} {nv : Int32} (hq : ρ[kq]? = some (a0, .inr (9, [.int nv, .ref o]))) (hF : pX6_worth_0 f g nv = some z) : wx_M γ l yX6_worth (ws_ yX6_worth cX6_worth 1 (some .int)) (rwN (q + 1)) [.ref a0] (cw γ o ad f g ρ) (fun v ws => v = some (.int z) ∧ ws = (cw γ o ad f g ρ)) 0 0 := by
  refine wx_M.of (by decide) (Nat.le_of_ble_eq_true rfl) ?_
  intro p e s m as below meth c A ls C K w hr hlocks _ hl
  exact bX6_worth_0 (q := q) G hq C K (fun H locs ls pc w d => wx_iret C hr hlocks w ⟨rfl, rfl⟩ d) w hl hF
/-! WalkingStones$Turned.worth()I -/
def pX4_worth_29 (f : xF) (g : xG) (wk : Nat → Option Int32) (nv : Int32) (xa : Nat) (t0 : Int32) : Option (Int32) := some (t0)

def pX4_worth_0 (f : xF) (g : xG) (wk : Nat → Option Int32) (nv : Int32) (xa : Nat) : Option (Int32) := (wk xa).bind (fun r4 => if nv = 0 then (if r4 = 0 then pX4_worth_29 f g wk nv xa (1 : Int32) else pX4_worth_29 f g wk nv xa (0 : Int32)) else pX4_worth_29 f g wk nv xa (-r4))


theorem bX4_worth_29 {p : Program} {l : Launch} {e : Env} {s : State} {m : MethodId} {as : Array Value} {below : List Frame} {meth : Method} {c : Code} {A : Nat → Prop} {Q : State → Prop} {γ : wx_G} {o : Nat} {ad : Nat → Nat} {ρ : va_W} {z : Int32} {f : xF} {g : xG} (G : cx_ok γ) {q a0 kq : Nat} {nv : Int32} {xa : Nat} {wk : Nat → Option Int32} (hq : ρ[kq]? = some (a0, .inr (10, [.ref xa, .int nv]))) (hwk : ∀ (a : Nat) (z : Int32), wk a = some z → wtC l γ o ad f g ρ q a z) (C : CallFix p m c cX4_worth 2 s as lw_all RX4) (K : wx_C γ A s) (E : ∀ (H : Heap) (locs : List Loc) (ls : Array Slot) (pc : Nat), wx_w γ A s H locs (cw γ o ad f g ρ) → decode cX4_worth pc = .ok (.ireturn, 1) → W p l e (rwN (q + 1)) s m as below meth c H locs 0 0 Q (F0 m pc ls [.int z])) {t0 : Int32} {H : Heap} {locs : List Loc} {ls : Array Slot} (w : wx_w γ A s H locs (cw γ o ad f g ρ)) (hl : lv_has ls 2 []) (hF : pX4_worth_29 f g wk nv xa t0 = some z) : W p l e (rwN (q + 1)) s m as below meth c H locs 0 0 Q (F0 m 29 ls [.int t0]) := by
  have hx := C.1
  have hb := C.2.1
  unfold pX4_worth_29 at hF
  have hF := Option.some.inj hF
  subst hF
  exact E _ _ _ _ w dX4_worth_29

theorem bX4_worth_0 {p : Program} {l : Launch} {e : Env} {s : State} {m : MethodId} {as : Array Value} {below : List Frame} {meth : Method} {c : Code} {A : Nat → Prop} {Q : State → Prop} {γ : wx_G} {o : Nat} {ad : Nat → Nat} {ρ : va_W} {z : Int32} {f : xF} {g : xG} (G : cx_ok γ) {q a0 kq : Nat} {nv : Int32} {xa : Nat} {wk : Nat → Option Int32} (hq : ρ[kq]? = some (a0, .inr (10, [.ref xa, .int nv]))) (hwk : ∀ (a : Nat) (z : Int32), wk a = some z → wtC l γ o ad f g ρ q a z) (C : CallFix p m c cX4_worth 2 s as lw_all RX4) (K : wx_C γ A s) (E : ∀ (H : Heap) (locs : List Loc) (ls : Array Slot) (pc : Nat), wx_w γ A s H locs (cw γ o ad f g ρ) → decode cX4_worth pc = .ok (.ireturn, 1) → W p l e (rwN (q + 1)) s m as below meth c H locs 0 0 Q (F0 m pc ls [.int z])) {H : Heap} {locs : List Loc} {ls : Array Slot} (w : wx_w γ A s H locs (cw γ o ad f g ρ)) (hl : lv_has ls 2 [(0, .ref a0)]) (hF : pX4_worth_0 f g wk nv xa = some z) : W p l e (rwN (q + 1)) s m as below meth c H locs 0 0 Q (F0 m 0 ls []) := by
  have hx := C.1
  have hb := C.2.1
  unfold pX4_worth_0 at hF
  refine lv_aload_n hx hb dX4_worth_0 rfl (lv_at hl 0 rfl) ?_
  refine ng_X4_of hq C K w dX4_worth_1 ?_
  obtain ⟨r4, hr, hF⟩ := obd hF
  refine rw_X4 G hwk C K w hr hl.1 ⟨by simp only [rwN]; omega, by simp only [rwN]; omega⟩ (Nat.le_of_ble_eq_true rfl) dX4_worth_4 (fun H locs w => ?_)
  refine lv_istore_n (lv' := [(1, .int r4), (0, .ref a0)]) hx hb dX4_worth_7 rfl hl (by decide) rfl (fun ls hl => ?_)
  refine lv_aload_n hx hb dX4_worth_8 rfl (lv_at hl 1 rfl) ?_
  refine ng_X4_isMinus hq C K w dX4_worth_9 ?_
  refine lv_if_eq (tgt := 20) hx hb dX4_worth_12 (by decide) (fun c => ?_) (fun c => ?_)
  · have hF := (if_pos c).symm.trans hF
    refine lv_iload_n hx hb dX4_worth_20 rfl (lv_at hl 0 rfl) ?_
    refine lv_if_ne (tgt := 28) hx hb dX4_worth_21 (by decide) (fun c => ?_) (fun c => ?_)
    · have hF := (if_neg c).symm.trans hF
      refine lv_iconst (v := (0 : Int32)) hx hb dX4_worth_28 (by decide) ?_
      exact bX4_worth_29 (q := q) G hq hwk C K E w (lv_sub hl [] rfl) hF
    · have hF := (if_pos c).symm.trans hF
      refine lv_iconst (v := (1 : Int32)) hx hb dX4_worth_24 (by decide) ?_
      refine lv_goto (tgt := 29) hx hb dX4_worth_25 (by decide) ?_
      exact bX4_worth_29 (q := q) G hq hwk C K E w (lv_sub hl [] rfl) hF
  · have hF := (if_neg c).symm.trans hF
    refine lv_iload_n hx hb dX4_worth_15 rfl (lv_at hl 0 rfl) ?_
    refine lv_ineg hx hb dX4_worth_16 ?_
    refine lv_goto (tgt := 29) hx hb dX4_worth_17 (by decide) ?_
    exact bX4_worth_29 (q := q) G hq hwk C K E w (lv_sub hl [] rfl) hF


theorem mX4_worth {l : Launch} {γ : wx_G} {o : Nat} {ad : Nat → Nat} {ρ : va_W} {f : xF} {g : xG} {z : Int32} (G : cx_ok γ) {q a0 kq : Nat} {nv : Int32} {xa : Nat} {wk : Nat → Option Int32} (hq : ρ[kq]? = some (a0, .inr (10, [.ref xa, .int nv]))) (hwk : ∀ (a : Nat) (z : Int32), wk a = some z → wtC l γ o ad f g ρ q a z) (hF : pX4_worth_0 f g wk nv xa = some z) : wx_M γ l yX4_worth (ws_ yX4_worth cX4_worth 2 (some .int)) (rwN (q + 1)) [.ref a0] (cw γ o ad f g ρ) (fun v ws => v = some (.int z) ∧ ws = (cw γ o ad f g ρ)) 0 0 := by
  refine wx_M.of (by decide) (Nat.le_of_ble_eq_true rfl) ?_
  intro p e s m as below meth c A ls C K w hr hlocks _ hl
  exact bX4_worth_0 (q := q) G hq hwk C K (fun H locs ls pc w d => wx_iret C hr hlocks w ⟨rfl, rfl⟩ d) w hl hF
/-! WalkingStones$Two.worth()I -/
def pX7_worth_127 (f : xF) (g : xG) (wk : Nat → Option Int32) (nv : Int32) (xa : Nat) (xb : Nat) (t0 : Int32) : Option (Int32) := some (t0)

def pX7_worth_126 (f : xF) (g : xG) (wk : Nat → Option Int32) (nv : Int32) (xa : Nat) (xb : Nat) : Option (Int32) := pX7_worth_127 f g wk nv xa xb (0 : Int32)

def pX7_worth_102 (f : xF) (g : xG) (wk : Nat → Option Int32) (nv : Int32) (xa : Nat) (xb : Nat) (t0 : Int32) : Option (Int32) := some (t0)

def pX7_worth_113 (f : xF) (g : xG) (wk : Nat → Option Int32) (nv : Int32) (xa : Nat) (xb : Nat) (t0 : Int32) : Option (Int32) := some (t0)

def pX7_worth_141 (f : xF) (g : xG) (wk : Nat → Option Int32) (nv : Int32) (xa : Nat) (xb : Nat) (t0 : Int32) : Option (Int32) := some (t0)

def pX7_worth_136 (f : xF) (g : xG) (wk : Nat → Option Int32) (nv : Int32) (xa : Nat) (xb : Nat) : Option (Int32) := pX7_worth_141 f g wk nv xa xb (1 : Int32)

def pX7_worth_0 (f : xF) (g : xG) (wk : Nat → Option Int32) (nv : Int32) (xa : Nat) (xb : Nat) : Option (Int32) := (wk xa).bind (fun r4 => (wk xb).bind (fun r12 => if nv = (38 : Int32) then (if r4 = 0 then pX7_worth_126 f g wk nv xa xb else (if r12 = 0 then pX7_worth_126 f g wk nv xa xb else pX7_worth_127 f g wk nv xa xb (1 : Int32))) else if nv = (42 : Int32) then some (r4 * r12) else if nv = (43 : Int32) then some (r4 + r12) else if nv = (45 : Int32) then some (r4 - r12) else if nv = (60 : Int32) then (if r12 ≤ r4 then pX7_worth_102 f g wk nv xa xb (0 : Int32) else pX7_worth_102 f g wk nv xa xb (1 : Int32)) else if nv = (61 : Int32) then (if r4 = r12 then pX7_worth_113 f g wk nv xa xb (1 : Int32) else pX7_worth_113 f g wk nv xa xb (0 : Int32)) else (if r4 = 0 then (if r12 = 0 then pX7_worth_141 f g wk nv xa xb (0 : Int32) else pX7_worth_136 f g wk nv xa xb) else pX7_worth_136 f g wk nv xa xb)))


theorem bX7_worth_127 {p : Program} {l : Launch} {e : Env} {s : State} {m : MethodId} {as : Array Value} {below : List Frame} {meth : Method} {c : Code} {A : Nat → Prop} {Q : State → Prop} {γ : wx_G} {o : Nat} {ad : Nat → Nat} {ρ : va_W} {z : Int32} {f : xF} {g : xG} (G : cx_ok γ) {q a0 kq : Nat} {nv : Int32} {xa : Nat} {xb : Nat} {wk : Nat → Option Int32} (hq : ρ[kq]? = some (a0, .inr (11, [.int nv, .ref xa, .ref xb]))) (hwk : ∀ (a : Nat) (z : Int32), wk a = some z → wtC l γ o ad f g ρ q a z) (C : CallFix p m c cX7_worth 3 s as lw_all RX7) (K : wx_C γ A s) (E : ∀ (H : Heap) (locs : List Loc) (ls : Array Slot) (pc : Nat), wx_w γ A s H locs (cw γ o ad f g ρ) → decode cX7_worth pc = .ok (.ireturn, 1) → W p l e (rwN (q + 1)) s m as below meth c H locs 0 0 Q (F0 m pc ls [.int z])) {t0 : Int32} {H : Heap} {locs : List Loc} {ls : Array Slot} (w : wx_w γ A s H locs (cw γ o ad f g ρ)) (hl : lv_has ls 3 []) (hF : pX7_worth_127 f g wk nv xa xb t0 = some z) : W p l e (rwN (q + 1)) s m as below meth c H locs 0 0 Q (F0 m 127 ls [.int t0]) := by
  have hx := C.1
  have hb := C.2.1
  unfold pX7_worth_127 at hF
  have hF := Option.some.inj hF
  subst hF
  exact E _ _ _ _ w dX7_worth_127

theorem bX7_worth_126 {p : Program} {l : Launch} {e : Env} {s : State} {m : MethodId} {as : Array Value} {below : List Frame} {meth : Method} {c : Code} {A : Nat → Prop} {Q : State → Prop} {γ : wx_G} {o : Nat} {ad : Nat → Nat} {ρ : va_W} {z : Int32} {f : xF} {g : xG} (G : cx_ok γ) {q a0 kq : Nat} {nv : Int32} {xa : Nat} {xb : Nat} {wk : Nat → Option Int32} (hq : ρ[kq]? = some (a0, .inr (11, [.int nv, .ref xa, .ref xb]))) (hwk : ∀ (a : Nat) (z : Int32), wk a = some z → wtC l γ o ad f g ρ q a z) (C : CallFix p m c cX7_worth 3 s as lw_all RX7) (K : wx_C γ A s) (E : ∀ (H : Heap) (locs : List Loc) (ls : Array Slot) (pc : Nat), wx_w γ A s H locs (cw γ o ad f g ρ) → decode cX7_worth pc = .ok (.ireturn, 1) → W p l e (rwN (q + 1)) s m as below meth c H locs 0 0 Q (F0 m pc ls [.int z])) {H : Heap} {locs : List Loc} {ls : Array Slot} (w : wx_w γ A s H locs (cw γ o ad f g ρ)) (hl : lv_has ls 3 []) (hF : pX7_worth_126 f g wk nv xa xb = some z) : W p l e (rwN (q + 1)) s m as below meth c H locs 0 0 Q (F0 m 126 ls []) := by
  have hx := C.1
  have hb := C.2.1
  unfold pX7_worth_126 at hF
  refine lv_iconst (v := (0 : Int32)) hx hb dX7_worth_126 (by decide) ?_
  exact bX7_worth_127 (q := q) G hq hwk C K E w hl hF

theorem bX7_worth_102 {p : Program} {l : Launch} {e : Env} {s : State} {m : MethodId} {as : Array Value} {below : List Frame} {meth : Method} {c : Code} {A : Nat → Prop} {Q : State → Prop} {γ : wx_G} {o : Nat} {ad : Nat → Nat} {ρ : va_W} {z : Int32} {f : xF} {g : xG} (G : cx_ok γ) {q a0 kq : Nat} {nv : Int32} {xa : Nat} {xb : Nat} {wk : Nat → Option Int32} (hq : ρ[kq]? = some (a0, .inr (11, [.int nv, .ref xa, .ref xb]))) (hwk : ∀ (a : Nat) (z : Int32), wk a = some z → wtC l γ o ad f g ρ q a z) (C : CallFix p m c cX7_worth 3 s as lw_all RX7) (K : wx_C γ A s) (E : ∀ (H : Heap) (locs : List Loc) (ls : Array Slot) (pc : Nat), wx_w γ A s H locs (cw γ o ad f g ρ) → decode cX7_worth pc = .ok (.ireturn, 1) → W p l e (rwN (q + 1)) s m as below meth c H locs 0 0 Q (F0 m pc ls [.int z])) {t0 : Int32} {H : Heap} {locs : List Loc} {ls : Array Slot} (w : wx_w γ A s H locs (cw γ o ad f g ρ)) (hl : lv_has ls 3 []) (hF : pX7_worth_102 f g wk nv xa xb t0 = some z) : W p l e (rwN (q + 1)) s m as below meth c H locs 0 0 Q (F0 m 102 ls [.int t0]) := by
  have hx := C.1
  have hb := C.2.1
  unfold pX7_worth_102 at hF
  have hF := Option.some.inj hF
  subst hF
  exact E _ _ _ _ w dX7_worth_102

theorem bX7_worth_113 {p : Program} {l : Launch} {e : Env} {s : State} {m : MethodId} {as : Array Value} {below : List Frame} {meth : Method} {c : Code} {A : Nat → Prop} {Q : State → Prop} {γ : wx_G} {o : Nat} {ad : Nat → Nat} {ρ : va_W} {z : Int32} {f : xF} {g : xG} (G : cx_ok γ) {q a0 kq : Nat} {nv : Int32} {xa : Nat} {xb : Nat} {wk : Nat → Option Int32} (hq : ρ[kq]? = some (a0, .inr (11, [.int nv, .ref xa, .ref xb]))) (hwk : ∀ (a : Nat) (z : Int32), wk a = some z → wtC l γ o ad f g ρ q a z) (C : CallFix p m c cX7_worth 3 s as lw_all RX7) (K : wx_C γ A s) (E : ∀ (H : Heap) (locs : List Loc) (ls : Array Slot) (pc : Nat), wx_w γ A s H locs (cw γ o ad f g ρ) → decode cX7_worth pc = .ok (.ireturn, 1) → W p l e (rwN (q + 1)) s m as below meth c H locs 0 0 Q (F0 m pc ls [.int z])) {t0 : Int32} {H : Heap} {locs : List Loc} {ls : Array Slot} (w : wx_w γ A s H locs (cw γ o ad f g ρ)) (hl : lv_has ls 3 []) (hF : pX7_worth_113 f g wk nv xa xb t0 = some z) : W p l e (rwN (q + 1)) s m as below meth c H locs 0 0 Q (F0 m 113 ls [.int t0]) := by
  have hx := C.1
  have hb := C.2.1
  unfold pX7_worth_113 at hF
  have hF := Option.some.inj hF
  subst hF
  exact E _ _ _ _ w dX7_worth_113

theorem bX7_worth_141 {p : Program} {l : Launch} {e : Env} {s : State} {m : MethodId} {as : Array Value} {below : List Frame} {meth : Method} {c : Code} {A : Nat → Prop} {Q : State → Prop} {γ : wx_G} {o : Nat} {ad : Nat → Nat} {ρ : va_W} {z : Int32} {f : xF} {g : xG} (G : cx_ok γ) {q a0 kq : Nat} {nv : Int32} {xa : Nat} {xb : Nat} {wk : Nat → Option Int32} (hq : ρ[kq]? = some (a0, .inr (11, [.int nv, .ref xa, .ref xb]))) (hwk : ∀ (a : Nat) (z : Int32), wk a = some z → wtC l γ o ad f g ρ q a z) (C : CallFix p m c cX7_worth 3 s as lw_all RX7) (K : wx_C γ A s) (E : ∀ (H : Heap) (locs : List Loc) (ls : Array Slot) (pc : Nat), wx_w γ A s H locs (cw γ o ad f g ρ) → decode cX7_worth pc = .ok (.ireturn, 1) → W p l e (rwN (q + 1)) s m as below meth c H locs 0 0 Q (F0 m pc ls [.int z])) {t0 : Int32} {H : Heap} {locs : List Loc} {ls : Array Slot} (w : wx_w γ A s H locs (cw γ o ad f g ρ)) (hl : lv_has ls 3 []) (hF : pX7_worth_141 f g wk nv xa xb t0 = some z) : W p l e (rwN (q + 1)) s m as below meth c H locs 0 0 Q (F0 m 141 ls [.int t0]) := by
  have hx := C.1
  have hb := C.2.1
  unfold pX7_worth_141 at hF
  have hF := Option.some.inj hF
  subst hF
  exact E _ _ _ _ w dX7_worth_141

theorem bX7_worth_136 {p : Program} {l : Launch} {e : Env} {s : State} {m : MethodId} {as : Array Value} {below : List Frame} {meth : Method} {c : Code} {A : Nat → Prop} {Q : State → Prop} {γ : wx_G} {o : Nat} {ad : Nat → Nat} {ρ : va_W} {z : Int32} {f : xF} {g : xG} (G : cx_ok γ) {q a0 kq : Nat} {nv : Int32} {xa : Nat} {xb : Nat} {wk : Nat → Option Int32} (hq : ρ[kq]? = some (a0, .inr (11, [.int nv, .ref xa, .ref xb]))) (hwk : ∀ (a : Nat) (z : Int32), wk a = some z → wtC l γ o ad f g ρ q a z) (C : CallFix p m c cX7_worth 3 s as lw_all RX7) (K : wx_C γ A s) (E : ∀ (H : Heap) (locs : List Loc) (ls : Array Slot) (pc : Nat), wx_w γ A s H locs (cw γ o ad f g ρ) → decode cX7_worth pc = .ok (.ireturn, 1) → W p l e (rwN (q + 1)) s m as below meth c H locs 0 0 Q (F0 m pc ls [.int z])) {H : Heap} {locs : List Loc} {ls : Array Slot} (w : wx_w γ A s H locs (cw γ o ad f g ρ)) (hl : lv_has ls 3 []) (hF : pX7_worth_136 f g wk nv xa xb = some z) : W p l e (rwN (q + 1)) s m as below meth c H locs 0 0 Q (F0 m 136 ls []) := by
  have hx := C.1
  have hb := C.2.1
  unfold pX7_worth_136 at hF
  refine lv_iconst (v := (1 : Int32)) hx hb dX7_worth_136 (by decide) ?_
  refine lv_goto (tgt := 141) hx hb dX7_worth_137 (by decide) ?_
  exact bX7_worth_141 (q := q) G hq hwk C K E w hl hF

theorem bX7_worth_0 {p : Program} {l : Launch} {e : Env} {s : State} {m : MethodId} {as : Array Value} {below : List Frame} {meth : Method} {c : Code} {A : Nat → Prop} {Q : State → Prop} {γ : wx_G} {o : Nat} {ad : Nat → Nat} {ρ : va_W} {z : Int32} {f : xF} {g : xG} (G : cx_ok γ) {q a0 kq : Nat} {nv : Int32} {xa : Nat} {xb : Nat} {wk : Nat → Option Int32} (hq : ρ[kq]? = some (a0, .inr (11, [.int nv, .ref xa, .ref xb]))) (hwk : ∀ (a : Nat) (z : Int32), wk a = some z → wtC l γ o ad f g ρ q a z) (C : CallFix p m c cX7_worth 3 s as lw_all RX7) (K : wx_C γ A s) (E : ∀ (H : Heap) (locs : List Loc) (ls : Array Slot) (pc : Nat), wx_w γ A s H locs (cw γ o ad f g ρ) → decode cX7_worth pc = .ok (.ireturn, 1) → W p l e (rwN (q + 1)) s m as below meth c H locs 0 0 Q (F0 m pc ls [.int z])) {H : Heap} {locs : List Loc} {ls : Array Slot} (w : wx_w γ A s H locs (cw γ o ad f g ρ)) (hl : lv_has ls 3 [(0, .ref a0)]) (hF : pX7_worth_0 f g wk nv xa xb = some z) : W p l e (rwN (q + 1)) s m as below meth c H locs 0 0 Q (F0 m 0 ls []) := by
  have hx := C.1
  have hb := C.2.1
  unfold pX7_worth_0 at hF
  refine lv_aload_n hx hb dX7_worth_0 rfl (lv_at hl 0 rfl) ?_
  refine ng_X7_a hq C K w dX7_worth_1 ?_
  obtain ⟨r4, hr, hF⟩ := obd hF
  refine rw_X7 G hwk C K w hr hl.1 ⟨by simp only [rwN]; omega, by simp only [rwN]; omega⟩ (Nat.le_of_ble_eq_true rfl) dX7_worth_4 (fun H locs w => ?_)
  refine lv_istore_n (lv' := [(1, .int r4), (0, .ref a0)]) hx hb dX7_worth_7 rfl hl (by decide) rfl (fun ls hl => ?_)
  refine lv_aload_n hx hb dX7_worth_8 rfl (lv_at hl 1 rfl) ?_
  refine ng_X7_b hq C K w dX7_worth_9 ?_
  obtain ⟨r12, hr, hF⟩ := obd hF
  refine rw_X7 G hwk C K w hr hl.1 ⟨by simp only [rwN]; omega, by simp only [rwN]; omega⟩ (Nat.le_of_ble_eq_true rfl) dX7_worth_12 (fun H locs w => ?_)
  refine lv_istore_n (lv' := [(2, .int r12), (1, .int r4), (0, .ref a0)]) hx hb dX7_worth_15 rfl hl (by decide) rfl (fun ls hl => ?_)
  refine lv_aload_n hx hb dX7_worth_16 rfl (lv_at hl 2 rfl) ?_
  refine ng_X7_sign hq C K w dX7_worth_17 ?_
  by_cases c38 : nv = (38 : Int32)
  · have hF := (if_pos c38).symm.trans hF
    refine lv_lookup (off := 94) (tgt := 114) hx hb dX7_worth_20 (by decide) (by rw [c38]; decide) (by decide) ?_
    refine lv_iload_n hx hb dX7_worth_114 rfl (lv_at hl 1 rfl) ?_
    refine lv_if_eq (tgt := 126) hx hb dX7_worth_115 (by decide) (fun c => ?_) (fun c => ?_)
    · have hF := (if_pos c).symm.trans hF
      exact bX7_worth_126 (q := q) G hq hwk C K E w (lv_sub hl [] rfl) hF
    · have hF := (if_neg c).symm.trans hF
      refine lv_iload_n hx hb dX7_worth_118 rfl (lv_at hl 0 rfl) ?_
      refine lv_if_eq (tgt := 126) hx hb dX7_worth_119 (by decide) (fun c => ?_) (fun c => ?_)
      · have hF := (if_pos c).symm.trans hF
        exact bX7_worth_126 (q := q) G hq hwk C K E w (lv_sub hl [] rfl) hF
      · have hF := (if_neg c).symm.trans hF
        refine lv_iconst (v := (1 : Int32)) hx hb dX7_worth_122 (by decide) ?_
        refine lv_goto (tgt := 127) hx hb dX7_worth_123 (by decide) ?_
        exact bX7_worth_127 (q := q) G hq hwk C K E w (lv_sub hl [] rfl) hF
  have hF := (if_neg c38).symm.trans hF
  by_cases c42 : nv = (42 : Int32)
  · have hF := (if_pos c42).symm.trans hF
    refine lv_lookup (off := 68) (tgt := 88) hx hb dX7_worth_20 (by decide) (by rw [c42]; decide) (by decide) ?_
    refine lv_iload_n hx hb dX7_worth_88 rfl (lv_at hl 1 rfl) ?_
    refine lv_iload_n hx hb dX7_worth_89 rfl (lv_at hl 0 rfl) ?_
    refine lv_imul hx hb dX7_worth_90 ?_
    have hF := Option.some.inj hF
    subst hF
    exact E _ _ _ _ w dX7_worth_91
  have hF := (if_neg c42).symm.trans hF
  by_cases c43 : nv = (43 : Int32)
  · have hF := (if_pos c43).symm.trans hF
    refine lv_lookup (off := 60) (tgt := 80) hx hb dX7_worth_20 (by decide) (by rw [c43]; decide) (by decide) ?_
    refine lv_iload_n hx hb dX7_worth_80 rfl (lv_at hl 1 rfl) ?_
    refine lv_iload_n hx hb dX7_worth_81 rfl (lv_at hl 0 rfl) ?_
    refine lv_iadd hx hb dX7_worth_82 ?_
    have hF := Option.some.inj hF
    subst hF
    exact E _ _ _ _ w dX7_worth_83
  have hF := (if_neg c43).symm.trans hF
  by_cases c45 : nv = (45 : Int32)
  · have hF := (if_pos c45).symm.trans hF
    refine lv_lookup (off := 64) (tgt := 84) hx hb dX7_worth_20 (by decide) (by rw [c45]; decide) (by decide) ?_
    refine lv_iload_n hx hb dX7_worth_84 rfl (lv_at hl 1 rfl) ?_
    refine lv_iload_n hx hb dX7_worth_85 rfl (lv_at hl 0 rfl) ?_
    refine lv_isub hx hb dX7_worth_86 ?_
    have hF := Option.some.inj hF
    subst hF
    exact E _ _ _ _ w dX7_worth_87
  have hF := (if_neg c45).symm.trans hF
  by_cases c60 : nv = (60 : Int32)
  · have hF := (if_pos c60).symm.trans hF
    refine lv_lookup (off := 72) (tgt := 92) hx hb dX7_worth_20 (by decide) (by rw [c60]; decide) (by decide) ?_
    refine lv_iload_n hx hb dX7_worth_92 rfl (lv_at hl 1 rfl) ?_
    refine lv_iload_n hx hb dX7_worth_93 rfl (lv_at hl 0 rfl) ?_
    refine lv_icmp_ge (tgt := 101) hx hb dX7_worth_94 (by decide) (fun c => ?_) (fun c => ?_)
    · have hF := (if_pos c).symm.trans hF
      refine lv_iconst (v := (0 : Int32)) hx hb dX7_worth_101 (by decide) ?_
      exact bX7_worth_102 (q := q) G hq hwk C K E w (lv_sub hl [] rfl) hF
    · have hF := (if_neg c).symm.trans hF
      refine lv_iconst (v := (1 : Int32)) hx hb dX7_worth_97 (by decide) ?_
      refine lv_goto (tgt := 102) hx hb dX7_worth_98 (by decide) ?_
      exact bX7_worth_102 (q := q) G hq hwk C K E w (lv_sub hl [] rfl) hF
  have hF := (if_neg c60).symm.trans hF
  by_cases c61 : nv = (61 : Int32)
  · have hF := (if_pos c61).symm.trans hF
    refine lv_lookup (off := 83) (tgt := 103) hx hb dX7_worth_20 (by decide) (by rw [c61]; decide) (by decide) ?_
    refine lv_iload_n hx hb dX7_worth_103 rfl (lv_at hl 1 rfl) ?_
    refine lv_iload_n hx hb dX7_worth_104 rfl (lv_at hl 0 rfl) ?_
    refine lv_icmp_ne (tgt := 112) hx hb dX7_worth_105 (by decide) (fun c => ?_) (fun c => ?_)
    · have hF := (if_neg c).symm.trans hF
      refine lv_iconst (v := (0 : Int32)) hx hb dX7_worth_112 (by decide) ?_
      exact bX7_worth_113 (q := q) G hq hwk C K E w (lv_sub hl [] rfl) hF
    · have hF := (if_pos c).symm.trans hF
      refine lv_iconst (v := (1 : Int32)) hx hb dX7_worth_108 (by decide) ?_
      refine lv_goto (tgt := 113) hx hb dX7_worth_109 (by decide) ?_
      exact bX7_worth_113 (q := q) G hq hwk C K E w (lv_sub hl [] rfl) hF
  have hF := (if_neg c61).symm.trans hF
  have n38 := wx_ne c38 (k := 38) (by decide)
  have n42 := wx_ne c42 (k := 42) (by decide)
  have n43 := wx_ne c43 (k := 43) (by decide)
  have n45 := wx_ne c45 (k := 45) (by decide)
  have n60 := wx_ne c60 (k := 60) (by decide)
  have n61 := wx_ne c61 (k := 61) (by decide)
  refine lv_lookup (off := 108) (tgt := 128) hx hb dX7_worth_20 (by decide) (by simp [Op.lookupswitch.offset, n38, Ne.symm n38, n42, Ne.symm n42, n43, Ne.symm n43, n45, Ne.symm n45, n60, Ne.symm n60, n61, Ne.symm n61]) (by decide) ?_
  refine lv_iload_n hx hb dX7_worth_128 rfl (lv_at hl 1 rfl) ?_
  refine lv_if_ne (tgt := 136) hx hb dX7_worth_129 (by decide) (fun c => ?_) (fun c => ?_)
  · have hF := (if_neg c).symm.trans hF
    exact bX7_worth_136 (q := q) G hq hwk C K E w (lv_sub hl [] rfl) hF
  · have hF := (if_pos c).symm.trans hF
    refine lv_iload_n hx hb dX7_worth_132 rfl (lv_at hl 0 rfl) ?_
    refine lv_if_eq (tgt := 140) hx hb dX7_worth_133 (by decide) (fun c => ?_) (fun c => ?_)
    · have hF := (if_pos c).symm.trans hF
      refine lv_iconst (v := (0 : Int32)) hx hb dX7_worth_140 (by decide) ?_
      exact bX7_worth_141 (q := q) G hq hwk C K E w (lv_sub hl [] rfl) hF
    · have hF := (if_neg c).symm.trans hF
      exact bX7_worth_136 (q := q) G hq hwk C K E w (lv_sub hl [] rfl) hF


theorem mX7_worth {l : Launch} {γ : wx_G} {o : Nat} {ad : Nat → Nat} {ρ : va_W} {f : xF} {g : xG} {z : Int32} (G : cx_ok γ) {q a0 kq : Nat} {nv : Int32} {xa : Nat} {xb : Nat} {wk : Nat → Option Int32} (hq : ρ[kq]? = some (a0, .inr (11, [.int nv, .ref xa, .ref xb]))) (hwk : ∀ (a : Nat) (z : Int32), wk a = some z → wtC l γ o ad f g ρ q a z) (hF : pX7_worth_0 f g wk nv xa xb = some z) : wx_M γ l yX7_worth (ws_ yX7_worth cX7_worth 3 (some .int)) (rwN (q + 1)) [.ref a0] (cw γ o ad f g ρ) (fun v ws => v = some (.int z) ∧ ws = (cw γ o ad f g ρ)) 0 0 := by
  refine wx_M.of (by decide) (Nat.le_of_ble_eq_true rfl) ?_
  intro p e s m as below meth c A ls C K w hr hlocks _ hl
  exact bX7_worth_0 (q := q) G hq hwk C K (fun H locs ls pc w d => wx_iret C hr hlocks w ⟨rfl, rfl⟩ d) w hl hF
/-- the value of the node at a, by depth -/
def wv (L : va_W) (o : Nat) (f : xF) (g : xG) : Nat → Nat → Option Int32
  | 0, _ => none
  | d + 1, a => match look L a with
    | some (.inr (8, [.int v])) => pX5_worth_0 f g v
    | some (.inr (9, [.int v, .ref b])) => if b = o then pX6_worth_0 f g v else none
    | some (.inr (10, [.ref x, .int v])) => pX4_worth_0 f g (wv L o f g d) v x
    | some (.inr (11, [.int v, .ref x, .ref y])) => pX7_worth_0 f g (wv L o f g d) v x y
    | _ => none
theorem wt_all {l : Launch} {γ : wx_G} {o : Nat} {ad : Nat → Nat} {ρ L : va_W} {f : xF} {g : xG} (G : cx_ok γ) (hL : tx_nodes ρ L) : ∀ (d a : Nat) (z : Int32), wv L o f g d a = some z → wtC l γ o ad f g ρ d a z := by
  intro d
  induction d with
  | zero =>
    intro a z h
    have h : (none : Option Int32) = some z := h
    cases h
  | succ d ih =>
    intro a z h
    unfold wv at h
    split at h
    · next v he =>
      obtain ⟨k, hk⟩ := hL a _ he
      exact Or.inl ⟨k, _, hk, mX5_worth G hk h⟩
    · next v b he =>
      obtain ⟨k, hk⟩ := hL a _ he
      by_cases hb : b = o
      · subst hb
        rw [if_pos rfl] at h
        exact Or.inr (Or.inl ⟨k, _, hk, mX6_worth G hk h⟩)
      · rw [if_neg hb] at h
        cases h
    · next x v he =>
      obtain ⟨k, hk⟩ := hL a _ he
      exact Or.inr (Or.inr (Or.inl ⟨k, _, hk, mX4_worth G hk ih h⟩))
    · next v x y he =>
      obtain ⟨k, hk⟩ := hL a _ he
      exact Or.inr (Or.inr (Or.inr ⟨k, _, hk, mX7_worth G hk ih h⟩))
    · cases h

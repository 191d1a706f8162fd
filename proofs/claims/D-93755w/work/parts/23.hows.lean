/-! the hows' classes: fields, methods, calls by kind (printed by gen/hows.py) -/
set_option maxRecDepth 100000
theorem hn_X0 {p : Program} {l : Launch} {e : Env} {R : Room} {s : State} {m : MethodId} {as : Array Value} {below : List Frame} {meth : Method} {c : Code} {H : Heap} {locs : List Loc} {cells slots : Nat} {Q : State → Prop} {cc : ByteArray} {nL pc : Nat} {ls : Array Slot} {rest : List Value} {γ : wx_G} {A : Nat → Prop} {o : Nat} {ad : Nat → Nat} {f : xF} {g : xG} {η : cx_H} {τ : va_W} {i : Int32} (C : CallFix p m c cc nL s as lw_all RX0) (K : wx_C γ A s) (w : wx_w γ A s H locs (cw γ o ad f g (hr γ o ad η ++ τ))) (hg : gk η i [0, 1, 2, 3, 4, 5] = true) (d : decode cc pc = .ok (.getfield 427, 3)) (kk : W p l e R s m as below meth c H locs cells slots Q (F0 m (pc + 3) ls (.int (hnu η i) :: rest))) : W p l e R s m as below meth c H locs cells slots Q (F0 m pc ls (.ref (had η i) :: rest)) := by
  have hk := gk_in hg
  simp only [List.mem_cons, List.not_mem_nil, or_false] at hk
  rcases hk with hk | hk | hk | hk | hk | hk
  · exact hw_get (kf := 0) (ref := "WalkingStones$How") (N := 2) (T := TX9) (Cn := RX9) C K w hg hk rfl in_X9 (by decide) q194 (fun _ h => h) rfl d kk
  · exact hw_get (kf := 0) (ref := "WalkingStones$How") (N := 3) (T := TX10) (Cn := RX10) C K w hg hk rfl in_X10 (by decide) q194 (fun _ h => h) rfl d kk
  · exact hw_get (kf := 0) (ref := "WalkingStones$How") (N := 4) (T := TX11) (Cn := RX11) C K w hg hk rfl in_X11 (by decide) q194 (fun _ h => h) rfl d kk
  · exact hw_get (kf := 0) (ref := "WalkingStones$How") (N := 5) (T := TX12) (Cn := RX12) C K w hg hk rfl in_X12 (by decide) q194 (fun _ h => h) rfl d kk
  · exact hw_get (kf := 0) (ref := "WalkingStones$How") (N := 5) (T := TX13) (Cn := RX13) C K w hg hk rfl in_X13 (by decide) q194 (fun _ h => h) rfl d kk
  · exact hw_get (kf := 0) (ref := "WalkingStones$How") (N := 3) (T := TX14) (Cn := RX14) C K w hg hk rfl in_X14 (by decide) q194 (fun _ h => h) rfl d kk
theorem hn_X9 {p : Program} {l : Launch} {e : Env} {R : Room} {s : State} {m : MethodId} {as : Array Value} {below : List Frame} {meth : Method} {c : Code} {H : Heap} {locs : List Loc} {cells slots : Nat} {Q : State → Prop} {cc : ByteArray} {nL pc : Nat} {ls : Array Slot} {rest : List Value} {γ : wx_G} {A : Nat → Prop} {o : Nat} {ad : Nat → Nat} {f : xF} {g : xG} {η : cx_H} {τ : va_W} {i : Int32} (C : CallFix p m c cc nL s as lw_all RX9) (K : wx_C γ A s) (w : wx_w γ A s H locs (cw γ o ad f g (hr γ o ad η ++ τ))) (hg : gk η i [0, 1, 2, 3, 4, 5] = true) (d : decode cc pc = .ok (.getfield 15, 3)) (kk : W p l e R s m as below meth c H locs cells slots Q (F0 m (pc + 3) ls (.int (hnu η i) :: rest))) : W p l e R s m as below meth c H locs cells slots Q (F0 m pc ls (.ref (had η i) :: rest)) := by
  have hk := gk_in hg
  simp only [List.mem_cons, List.not_mem_nil, or_false] at hk
  rcases hk with hk | hk | hk | hk | hk | hk
  · exact hw_get (kf := 0) (ref := "WalkingStones$How") (N := 2) (T := TX9) (Cn := RX9) C K w hg hk rfl in_X9 (by decide) q187 (fun _ h => h) rfl d kk
  · exact hw_get (kf := 0) (ref := "WalkingStones$How") (N := 3) (T := TX10) (Cn := RX10) C K w hg hk rfl in_X10 (by decide) q187 (fun _ h => h) rfl d kk
  · exact hw_get (kf := 0) (ref := "WalkingStones$How") (N := 4) (T := TX11) (Cn := RX11) C K w hg hk rfl in_X11 (by decide) q187 (fun _ h => h) rfl d kk
  · exact hw_get (kf := 0) (ref := "WalkingStones$How") (N := 5) (T := TX12) (Cn := RX12) C K w hg hk rfl in_X12 (by decide) q187 (fun _ h => h) rfl d kk
  · exact hw_get (kf := 0) (ref := "WalkingStones$How") (N := 5) (T := TX13) (Cn := RX13) C K w hg hk rfl in_X13 (by decide) q187 (fun _ h => h) rfl d kk
  · exact hw_get (kf := 0) (ref := "WalkingStones$How") (N := 3) (T := TX14) (Cn := RX14) C K w hg hk rfl in_X14 (by decide) q187 (fun _ h => h) rfl d kk
theorem ho_X9 {p : Program} {l : Launch} {e : Env} {R : Room} {s : State} {m : MethodId} {as : Array Value} {below : List Frame} {meth : Method} {c : Code} {H : Heap} {locs : List Loc} {cells slots : Nat} {Q : State → Prop} {cc : ByteArray} {nL pc : Nat} {ls : Array Slot} {rest : List Value} {γ : wx_G} {A : Nat → Prop} {o : Nat} {ad : Nat → Nat} {f : xF} {g : xG} {η : cx_H} {τ : va_W} {i : Int32} (C : CallFix p m c cc nL s as lw_all RX9) (K : wx_C γ A s) (w : wx_w γ A s H locs (cw γ o ad f g (hr γ o ad η ++ τ))) (hg : gk η i [0, 1, 2, 3, 4, 5] = true) (d : decode cc pc = .ok (.getfield 3, 3)) (kk : W p l e R s m as below meth c H locs cells slots Q (F0 m (pc + 3) ls (.ref o :: rest))) : W p l e R s m as below meth c H locs cells slots Q (F0 m pc ls (.ref (had η i) :: rest)) := by
  have hk := gk_in hg
  simp only [List.mem_cons, List.not_mem_nil, or_false] at hk
  rcases hk with hk | hk | hk | hk | hk | hk
  · exact hw_get (kf := 1) (ref := "WalkingStones$How") (N := 2) (T := TX9) (Cn := RX9) C K w hg hk rfl in_X9 (by decide) q195 (fun _ h => h) rfl d kk
  · exact hw_get (kf := 1) (ref := "WalkingStones$How") (N := 3) (T := TX10) (Cn := RX10) C K w hg hk rfl in_X10 (by decide) q195 (fun _ h => h) rfl d kk
  · exact hw_get (kf := 1) (ref := "WalkingStones$How") (N := 4) (T := TX11) (Cn := RX11) C K w hg hk rfl in_X11 (by decide) q195 (fun _ h => h) rfl d kk
  · exact hw_get (kf := 1) (ref := "WalkingStones$How") (N := 5) (T := TX12) (Cn := RX12) C K w hg hk rfl in_X12 (by decide) q195 (fun _ h => h) rfl d kk
  · exact hw_get (kf := 1) (ref := "WalkingStones$How") (N := 5) (T := TX13) (Cn := RX13) C K w hg hk rfl in_X13 (by decide) q195 (fun _ h => h) rfl d kk
  · exact hw_get (kf := 1) (ref := "WalkingStones$How") (N := 3) (T := TX14) (Cn := RX14) C K w hg hk rfl in_X14 (by decide) q195 (fun _ h => h) rfl d kk
theorem no_X9_3 {p : Program} {l : Launch} {e : Env} {R : Room} {s : State} {m : MethodId} {as : Array Value} {below : List Frame} {meth : Method} {c : Code} {H : Heap} {locs : List Loc} {cells slots : Nat} {Q : State → Prop} {cc : ByteArray} {nL pc : Nat} {ls : Array Slot} {rest : List Value} {γ : wx_G} {A : Nat → Prop} {o : Nat} {ad : Nat → Nat} {f : xF} {g : xG} {ρ : va_W} (G : cx_ok γ) (C : CallFix p m c cc nL s as lw_all RX9) (K : wx_C γ A s) (w : wx_w γ A s H locs (cw γ o ad f g ρ)) (d : decode cc pc = .ok (.getfield 19, 3)) (kk : W p l e R s m as below meth c H locs cells slots Q (F0 m (pc + 3) ls (.ref (ad 3) :: rest))) : W p l e R s m as below meth c H locs cells slots Q (F0 m pc ls (.ref o :: rest)) := hw_out (k := 3) G C K w (by decide) q762 rfl d kk
theorem no_X9_5 {p : Program} {l : Launch} {e : Env} {R : Room} {s : State} {m : MethodId} {as : Array Value} {below : List Frame} {meth : Method} {c : Code} {H : Heap} {locs : List Loc} {cells slots : Nat} {Q : State → Prop} {cc : ByteArray} {nL pc : Nat} {ls : Array Slot} {rest : List Value} {γ : wx_G} {A : Nat → Prop} {o : Nat} {ad : Nat → Nat} {f : xF} {g : xG} {ρ : va_W} (G : cx_ok γ) (C : CallFix p m c cc nL s as lw_all RX9) (K : wx_C γ A s) (w : wx_w γ A s H locs (cw γ o ad f g ρ)) (d : decode cc pc = .ok (.getfield 27, 3)) (kk : W p l e R s m as below meth c H locs cells slots Q (F0 m (pc + 3) ls (.ref (ad 5) :: rest))) : W p l e R s m as below meth c H locs cells slots Q (F0 m pc ls (.ref o :: rest)) := hw_out (k := 5) G C K w (by decide) q770 rfl d kk
theorem no_X9_6 {p : Program} {l : Launch} {e : Env} {R : Room} {s : State} {m : MethodId} {as : Array Value} {below : List Frame} {meth : Method} {c : Code} {H : Heap} {locs : List Loc} {cells slots : Nat} {Q : State → Prop} {cc : ByteArray} {nL pc : Nat} {ls : Array Slot} {rest : List Value} {γ : wx_G} {A : Nat → Prop} {o : Nat} {ad : Nat → Nat} {f : xF} {g : xG} {ρ : va_W} (G : cx_ok γ) (C : CallFix p m c cc nL s as lw_all RX9) (K : wx_C γ A s) (w : wx_w γ A s H locs (cw γ o ad f g ρ)) (d : decode cc pc = .ok (.getfield 40, 3)) (kk : W p l e R s m as below meth c H locs cells slots Q (F0 m (pc + 3) ls (.ref (ad 6) :: rest))) : W p l e R s m as below meth c H locs cells slots Q (F0 m pc ls (.ref o :: rest)) := hw_out (k := 6) G C K w (by decide) q772 rfl d kk
theorem hn_X10 {p : Program} {l : Launch} {e : Env} {R : Room} {s : State} {m : MethodId} {as : Array Value} {below : List Frame} {meth : Method} {c : Code} {H : Heap} {locs : List Loc} {cells slots : Nat} {Q : State → Prop} {cc : ByteArray} {nL pc : Nat} {ls : Array Slot} {rest : List Value} {γ : wx_G} {A : Nat → Prop} {o : Nat} {ad : Nat → Nat} {f : xF} {g : xG} {η : cx_H} {τ : va_W} {i : Int32} (C : CallFix p m c cc nL s as lw_all RX10) (K : wx_C γ A s) (w : wx_w γ A s H locs (cw γ o ad f g (hr γ o ad η ++ τ))) (hg : gk η i [1, 2, 3, 4] = true) (d : decode cc pc = .ok (.getfield 21, 3)) (kk : W p l e R s m as below meth c H locs cells slots Q (F0 m (pc + 3) ls (.int (hnu η i) :: rest))) : W p l e R s m as below meth c H locs cells slots Q (F0 m pc ls (.ref (had η i) :: rest)) := by
  have hk := gk_in hg
  simp only [List.mem_cons, List.not_mem_nil, or_false] at hk
  rcases hk with hk | hk | hk | hk
  · exact hw_get (kf := 0) (ref := "WalkingStones$Gust") (N := 3) (T := TX10) (Cn := RX10) C K w hg hk rfl in_X10 (by decide) q188 (fun y h => u_same (C.2.2.2.2 _ q189) y h) rfl d kk
  · exact hw_get (kf := 0) (ref := "WalkingStones$Gust") (N := 4) (T := TX11) (Cn := RX11) C K w hg hk rfl in_X11 (by decide) q188 (fun y h => u_same (C.2.2.2.2 _ q189) y h) rfl d kk
  · exact hw_get (kf := 0) (ref := "WalkingStones$Gust") (N := 5) (T := TX12) (Cn := RX12) C K w hg hk rfl in_X12 (by decide) q188 (fun y h => u_same (C.2.2.2.2 _ q189) y h) rfl d kk
  · exact hw_get (kf := 0) (ref := "WalkingStones$Gust") (N := 5) (T := TX13) (Cn := RX13) C K w hg hk rfl in_X13 (by decide) q188 (fun y h => u_same (C.2.2.2.2 _ q189) y h) rfl d kk
theorem ho_X11 {p : Program} {l : Launch} {e : Env} {R : Room} {s : State} {m : MethodId} {as : Array Value} {below : List Frame} {meth : Method} {c : Code} {H : Heap} {locs : List Loc} {cells slots : Nat} {Q : State → Prop} {cc : ByteArray} {nL pc : Nat} {ls : Array Slot} {rest : List Value} {γ : wx_G} {A : Nat → Prop} {o : Nat} {ad : Nat → Nat} {f : xF} {g : xG} {η : cx_H} {τ : va_W} {i : Int32} (C : CallFix p m c cc nL s as lw_all RX11) (K : wx_C γ A s) (w : wx_w γ A s H locs (cw γ o ad f g (hr γ o ad η ++ τ))) (hg : gk η i [2, 3, 4] = true) (d : decode cc pc = .ok (.getfield 1, 3)) (kk : W p l e R s m as below meth c H locs cells slots Q (F0 m (pc + 3) ls (.ref o :: rest))) : W p l e R s m as below meth c H locs cells slots Q (F0 m pc ls (.ref (had η i) :: rest)) := by
  have hk := gk_in hg
  simp only [List.mem_cons, List.not_mem_nil, or_false] at hk
  rcases hk with hk | hk | hk
  · exact hw_get (kf := 3) (ref := "WalkingStones$Raft") (N := 4) (T := TX11) (Cn := RX11) C K w hg hk rfl in_X11 (by decide) q209 (fun _ h => h) rfl d kk
  · exact hw_get (kf := 3) (ref := "WalkingStones$Raft") (N := 5) (T := TX12) (Cn := RX12) C K w hg hk rfl in_X12 (by decide) q209 (fun _ h => h) rfl d kk
  · exact hw_get (kf := 3) (ref := "WalkingStones$Raft") (N := 5) (T := TX13) (Cn := RX13) C K w hg hk rfl in_X13 (by decide) q209 (fun _ h => h) rfl d kk
theorem no_X11_4 {p : Program} {l : Launch} {e : Env} {R : Room} {s : State} {m : MethodId} {as : Array Value} {below : List Frame} {meth : Method} {c : Code} {H : Heap} {locs : List Loc} {cells slots : Nat} {Q : State → Prop} {cc : ByteArray} {nL pc : Nat} {ls : Array Slot} {rest : List Value} {γ : wx_G} {A : Nat → Prop} {o : Nat} {ad : Nat → Nat} {f : xF} {g : xG} {ρ : va_W} (G : cx_ok γ) (C : CallFix p m c cc nL s as lw_all RX11) (K : wx_C γ A s) (w : wx_w γ A s H locs (cw γ o ad f g ρ)) (d : decode cc pc = .ok (.getfield 21, 3)) (kk : W p l e R s m as below meth c H locs cells slots Q (F0 m (pc + 3) ls (.ref (ad 4) :: rest))) : W p l e R s m as below meth c H locs cells slots Q (F0 m pc ls (.ref o :: rest)) := hw_out (k := 4) G C K w (by decide) q766 rfl d kk
theorem hn_X12 {p : Program} {l : Launch} {e : Env} {R : Room} {s : State} {m : MethodId} {as : Array Value} {below : List Frame} {meth : Method} {c : Code} {H : Heap} {locs : List Loc} {cells slots : Nat} {Q : State → Prop} {cc : ByteArray} {nL pc : Nat} {ls : Array Slot} {rest : List Value} {γ : wx_G} {A : Nat → Prop} {o : Nat} {ad : Nat → Nat} {f : xF} {g : xG} {η : cx_H} {τ : va_W} {i : Int32} (C : CallFix p m c cc nL s as lw_all RX12) (K : wx_C γ A s) (w : wx_w γ A s H locs (cw γ o ad f g (hr γ o ad η ++ τ))) (hg : gk η i [3] = true) (d : decode cc pc = .ok (.getfield 27, 3)) (kk : W p l e R s m as below meth c H locs cells slots Q (F0 m (pc + 3) ls (.int (hnu η i) :: rest))) : W p l e R s m as below meth c H locs cells slots Q (F0 m pc ls (.ref (had η i) :: rest)) := by
  have hk := gk_in hg
  simp only [List.mem_cons, List.not_mem_nil, or_false] at hk
  exact hw_get (kf := 0) (ref := "WalkingStones$Whole") (N := 5) (T := TX12) (Cn := RX12) C K w hg hk rfl in_X12 (by decide) q190 (fun y h => u_same (C.2.2.2.2 _ q191) y h) rfl d kk
theorem ho_X12 {p : Program} {l : Launch} {e : Env} {R : Room} {s : State} {m : MethodId} {as : Array Value} {below : List Frame} {meth : Method} {c : Code} {H : Heap} {locs : List Loc} {cells slots : Nat} {Q : State → Prop} {cc : ByteArray} {nL pc : Nat} {ls : Array Slot} {rest : List Value} {γ : wx_G} {A : Nat → Prop} {o : Nat} {ad : Nat → Nat} {f : xF} {g : xG} {η : cx_H} {τ : va_W} {i : Int32} (C : CallFix p m c cc nL s as lw_all RX12) (K : wx_C γ A s) (w : wx_w γ A s H locs (cw γ o ad f g (hr γ o ad η ++ τ))) (hg : gk η i [3] = true) (d : decode cc pc = .ok (.getfield 1, 3)) (kk : W p l e R s m as below meth c H locs cells slots Q (F0 m (pc + 3) ls (.ref o :: rest))) : W p l e R s m as below meth c H locs cells slots Q (F0 m pc ls (.ref (had η i) :: rest)) := by
  have hk := gk_in hg
  simp only [List.mem_cons, List.not_mem_nil, or_false] at hk
  exact hw_get (kf := 4) (ref := "WalkingStones$Whole") (N := 5) (T := TX12) (Cn := RX12) C K w hg hk rfl in_X12 (by decide) q222 (fun _ h => h) rfl d kk
theorem no_X12_4 {p : Program} {l : Launch} {e : Env} {R : Room} {s : State} {m : MethodId} {as : Array Value} {below : List Frame} {meth : Method} {c : Code} {H : Heap} {locs : List Loc} {cells slots : Nat} {Q : State → Prop} {cc : ByteArray} {nL pc : Nat} {ls : Array Slot} {rest : List Value} {γ : wx_G} {A : Nat → Prop} {o : Nat} {ad : Nat → Nat} {f : xF} {g : xG} {ρ : va_W} (G : cx_ok γ) (C : CallFix p m c cc nL s as lw_all RX12) (K : wx_C γ A s) (w : wx_w γ A s H locs (cw γ o ad f g ρ)) (d : decode cc pc = .ok (.getfield 21, 3)) (kk : W p l e R s m as below meth c H locs cells slots Q (F0 m (pc + 3) ls (.ref (ad 4) :: rest))) : W p l e R s m as below meth c H locs cells slots Q (F0 m pc ls (.ref o :: rest)) := hw_out (k := 4) G C K w (by decide) q767 rfl d kk
theorem ho_X13 {p : Program} {l : Launch} {e : Env} {R : Room} {s : State} {m : MethodId} {as : Array Value} {below : List Frame} {meth : Method} {c : Code} {H : Heap} {locs : List Loc} {cells slots : Nat} {Q : State → Prop} {cc : ByteArray} {nL pc : Nat} {ls : Array Slot} {rest : List Value} {γ : wx_G} {A : Nat → Prop} {o : Nat} {ad : Nat → Nat} {f : xF} {g : xG} {η : cx_H} {τ : va_W} {i : Int32} (C : CallFix p m c cc nL s as lw_all RX13) (K : wx_C γ A s) (w : wx_w γ A s H locs (cw γ o ad f g (hr γ o ad η ++ τ))) (hg : gk η i [4] = true) (d : decode cc pc = .ok (.getfield 1, 3)) (kk : W p l e R s m as below meth c H locs cells slots Q (F0 m (pc + 3) ls (.ref o :: rest))) : W p l e R s m as below meth c H locs cells slots Q (F0 m pc ls (.ref (had η i) :: rest)) := by
  have hk := gk_in hg
  simp only [List.mem_cons, List.not_mem_nil, or_false] at hk
  exact hw_get (kf := 4) (ref := "WalkingStones$Panes") (N := 5) (T := TX13) (Cn := RX13) C K w hg hk rfl in_X13 (by decide) q236 (fun _ h => h) rfl d kk
theorem no_X13_4 {p : Program} {l : Launch} {e : Env} {R : Room} {s : State} {m : MethodId} {as : Array Value} {below : List Frame} {meth : Method} {c : Code} {H : Heap} {locs : List Loc} {cells slots : Nat} {Q : State → Prop} {cc : ByteArray} {nL pc : Nat} {ls : Array Slot} {rest : List Value} {γ : wx_G} {A : Nat → Prop} {o : Nat} {ad : Nat → Nat} {f : xF} {g : xG} {ρ : va_W} (G : cx_ok γ) (C : CallFix p m c cc nL s as lw_all RX13) (K : wx_C γ A s) (w : wx_w γ A s H locs (cw γ o ad f g ρ)) (d : decode cc pc = .ok (.getfield 21, 3)) (kk : W p l e R s m as below meth c H locs cells slots Q (F0 m (pc + 3) ls (.ref (ad 4) :: rest))) : W p l e R s m as below meth c H locs cells slots Q (F0 m pc ls (.ref o :: rest)) := hw_out (k := 4) G C K w (by decide) q765 rfl d kk
theorem hn_X14 {p : Program} {l : Launch} {e : Env} {R : Room} {s : State} {m : MethodId} {as : Array Value} {below : List Frame} {meth : Method} {c : Code} {H : Heap} {locs : List Loc} {cells slots : Nat} {Q : State → Prop} {cc : ByteArray} {nL pc : Nat} {ls : Array Slot} {rest : List Value} {γ : wx_G} {A : Nat → Prop} {o : Nat} {ad : Nat → Nat} {f : xF} {g : xG} {η : cx_H} {τ : va_W} {i : Int32} (C : CallFix p m c cc nL s as lw_all RX14) (K : wx_C γ A s) (w : wx_w γ A s H locs (cw γ o ad f g (hr γ o ad η ++ τ))) (hg : gk η i [5] = true) (d : decode cc pc = .ok (.getfield 17, 3)) (kk : W p l e R s m as below meth c H locs cells slots Q (F0 m (pc + 3) ls (.int (hnu η i) :: rest))) : W p l e R s m as below meth c H locs cells slots Q (F0 m pc ls (.ref (had η i) :: rest)) := by
  have hk := gk_in hg
  simp only [List.mem_cons, List.not_mem_nil, or_false] at hk
  exact hw_get (kf := 0) (ref := "WalkingStones$Slope") (N := 3) (T := TX14) (Cn := RX14) C K w hg hk rfl in_X14 (by decide) q192 (fun y h => u_same (C.2.2.2.2 _ q193) y h) rfl d kk
theorem cX9max {p : Program} {l : Launch} {e : Env} {R : Room} {s : State} {m : MethodId} {as : Array Value} {below : List Frame} {meth : Method} {c : Code} {H : Heap} {locs : List Loc} {cells slots : Nat} {Q : State → Prop} {cc : ByteArray} {nL pc : Nat} {ls : Array Slot} {rest : List Value} {x y : Int32} (C : CallFix p m c cc nL s as lw_all RX9) (hls : ls.size = nL) (h1 : 1 ≤ R.frames) (h2 : (rest.map fun v => v.category).sum + 13 ≤ R.locals) (h3 : cells ≤ R.cells) (h4 : slots ≤ R.slots) (d : decode cc pc = .ok (.invokestatic 34, 3)) (kk : W p l e R s m as below meth c H locs cells slots Q (F0 m (pc + 3) ls (.int (wmax x y) :: rest))) : W p l e R s m as below meth c H locs cells slots Q (F0 m pc ls (.int y :: .int x :: rest)) :=
  va_mmax C.1 C.2.1 (C.2.2.1.trans hls.symm) C.2.2.2.1 (C.2.2.2.2 _ q362) (C.2.2.2.2 _ q363) (C.2.2.2.2 _ q116) (C.2.2.2.2 _ q364) h1 h2 h3 h4 d kk
theorem cX12min {p : Program} {l : Launch} {e : Env} {R : Room} {s : State} {m : MethodId} {as : Array Value} {below : List Frame} {meth : Method} {c : Code} {H : Heap} {locs : List Loc} {cells slots : Nat} {Q : State → Prop} {cc : ByteArray} {nL pc : Nat} {ls : Array Slot} {rest : List Value} {x y : Int32} (C : CallFix p m c cc nL s as lw_all RX12) (hls : ls.size = nL) (h1 : 1 ≤ R.frames) (h2 : (rest.map fun v => v.category).sum + 13 ≤ R.locals) (h3 : cells ≤ R.cells) (h4 : slots ≤ R.slots) (d : decode cc pc = .ok (.invokestatic 35, 3)) (kk : W p l e R s m as below meth c H locs cells slots Q (F0 m (pc + 3) ls (.int (wmin x y) :: rest))) : W p l e R s m as below meth c H locs cells slots Q (F0 m pc ls (.int y :: .int x :: rest)) :=
  va_mmin C.1 C.2.1 (C.2.2.1.trans hls.symm) C.2.2.2.1 (C.2.2.2.2 _ q357) (C.2.2.2.2 _ q358) (C.2.2.2.2 _ q116) (C.2.2.2.2 _ q359) h1 h2 h3 h4 d kk
/-! WalkingStones$How.isWet(I)Z -/
abbrev rmX9_isWet : Room := { frames := 0, cells := 0, slots := 0, locals := 0 }
def pX9_isWet_17 (η : cx_H) (f : xF) (g : xG) (t0 : Int32) : Option (Int32) := if gbz t0 = true then some (t0) else none

def pX9_isWet_0 (η : cx_H) (f : xF) (g : xG) (v0 : Int32) (v1 : Int32) : Option (Int32) := if gk η v0 [0, 1, 2, 3, 4, 5] = true then if gin v1 60 = true then if (g 3 v1.toNatClampNeg) = 0 then pX9_isWet_17 η f g (0 : Int32) else pX9_isWet_17 η f g (1 : Int32) else none else none

abbrev pX9_isWet (η : cx_H) (f : xF) (g : xG) (v0 : Int32) (v1 : Int32) : Option (Int32) := pX9_isWet_0 η f g v0 v1
theorem bX9_isWet_17 {p : Program} {l : Launch} {e : Env} {s : State} {m : MethodId} {as : Array Value} {below : List Frame} {meth : Method} {c : Code} {A : Nat → Prop} {Q : State → Prop} {γ : wx_G} {o : Nat} {ad : Nat → Nat} {η : cx_H} {τ : va_W} {z : Int32} {f : xF} {g : xG} (G : cx_ok γ) (C : CallFix p m c cX9_isWet 2 s as lw_all RX9) (K : wx_C γ A s) (E : ∀ (H : Heap) (locs : List Loc) (ls : Array Slot) (pc : Nat), narrow .boolean (.int z) = .int z → wx_w γ A s H locs (cw γ o ad f g (hr γ o ad η ++ τ)) → decode cX9_isWet pc = .ok (.ireturn, 1) → W p l e rmX9_isWet s m as below meth c H locs 0 0 Q (F0 m pc ls [.int z])) {t0 : Int32} {H : Heap} {locs : List Loc} {ls : Array Slot} (w : wx_w γ A s H locs (cw γ o ad f g (hr γ o ad η ++ τ))) (hl : lv_has ls 2 []) (hF : pX9_isWet_17 η f g t0 = some z) : W p l e rmX9_isWet s m as below meth c H locs 0 0 Q (F0 m 17 ls [.int t0]) := by
  have hx := C.1
  have hb := C.2.1
  unfold pX9_isWet_17 at hF
  obtain ⟨hz, hF⟩ := gbz_if hF
  have hF := Option.some.inj hF
  subst hF
  exact E _ _ _ _ hz w dX9_isWet_17

theorem bX9_isWet_0 {p : Program} {l : Launch} {e : Env} {s : State} {m : MethodId} {as : Array Value} {below : List Frame} {meth : Method} {c : Code} {A : Nat → Prop} {Q : State → Prop} {γ : wx_G} {o : Nat} {ad : Nat → Nat} {η : cx_H} {τ : va_W} {z : Int32} {f : xF} {g : xG} (G : cx_ok γ) (C : CallFix p m c cX9_isWet 2 s as lw_all RX9) (K : wx_C γ A s) (E : ∀ (H : Heap) (locs : List Loc) (ls : Array Slot) (pc : Nat), narrow .boolean (.int z) = .int z → wx_w γ A s H locs (cw γ o ad f g (hr γ o ad η ++ τ)) → decode cX9_isWet pc = .ok (.ireturn, 1) → W p l e rmX9_isWet s m as below meth c H locs 0 0 Q (F0 m pc ls [.int z])) {v0 : Int32} {v1 : Int32} {H : Heap} {locs : List Loc} {ls : Array Slot} (w : wx_w γ A s H locs (cw γ o ad f g (hr γ o ad η ++ τ))) (hl : lv_has ls 2 [(0, .ref (had η v0)), (1, .int v1)]) (hF : pX9_isWet_0 η f g v0 v1 = some z) : W p l e rmX9_isWet s m as below meth c H locs 0 0 Q (F0 m 0 ls []) := by
  have hx := C.1
  have hb := C.2.1
  unfold pX9_isWet_0 at hF
  refine lv_aload_n hx hb dX9_isWet_0 rfl (lv_at hl 0 rfl) ?_
  obtain ⟨hg, hF⟩ := gk_if hF
  refine ho_X9 C K w hg dX9_isWet_1 ?_
  refine no_X9_3 G C K w dX9_isWet_4 ?_
  refine lv_iload_n hx hb dX9_isWet_7 rfl (lv_at hl 1 rfl) ?_
  obtain ⟨hi, hF⟩ := gin_if hF
  refine cald_3 C K w hi dX9_isWet_8 ?_
  refine lv_if_eq (tgt := 16) hx hb dX9_isWet_9 (by decide) (fun c => ?_) (fun c => ?_)
  · have hF := (if_pos c).symm.trans hF
    refine lv_iconst (v := (0 : Int32)) hx hb dX9_isWet_16 (by decide) ?_
    exact bX9_isWet_17 G C K E w (lv_sub hl [] rfl) hF
  · have hF := (if_neg c).symm.trans hF
    refine lv_iconst (v := (1 : Int32)) hx hb dX9_isWet_12 (by decide) ?_
    refine lv_goto (tgt := 17) hx hb dX9_isWet_13 (by decide) ?_
    exact bX9_isWet_17 G C K E w (lv_sub hl [] rfl) hF

theorem mX9_isWet {l : Launch} {γ : wx_G} {o : Nat} {ad : Nat → Nat} {η : cx_H} {τ : va_W} {f : xF} {g : xG} {v0 : Int32} {v1 : Int32} {z : Int32} (G : cx_ok γ) (hF : pX9_isWet η f g v0 v1 = some z) : wx_M γ l yX9_isWet (ws_ yX9_isWet cX9_isWet 2 (some .boolean)) rmX9_isWet [.ref (had η v0), .int v1] (cw γ o ad f g (hr γ o ad η ++ τ)) (fun v ws => v = some (.int z) ∧ ws = (cw γ o ad f g (hr γ o ad η ++ τ))) 0 0 := by
  refine wx_M.of (by decide) (Nat.le_of_ble_eq_true rfl) ?_
  intro p e s m as below meth c A ls C K w hr hlocks _ hl
  exact bX9_isWet_0 G C K (fun H locs ls pc hz w d => wx_zret C hr hlocks hz w ⟨rfl, rfl⟩ d) w hl hF

/-! WalkingStones$How.drag(I)I -/
abbrev rmX9_drag : Room := { frames := 0, cells := 0, slots := 0, locals := 0 }
def pX9_drag_0 (η : cx_H) (f : xF) (g : xG) (v0 : Int32) (v1 : Int32) : Option (Int32) := some ((2 : Int32) * v1)

abbrev pX9_drag (η : cx_H) (f : xF) (g : xG) (v0 : Int32) (v1 : Int32) : Option (Int32) := pX9_drag_0 η f g v0 v1
theorem bX9_drag_0 {p : Program} {l : Launch} {e : Env} {s : State} {m : MethodId} {as : Array Value} {below : List Frame} {meth : Method} {c : Code} {A : Nat → Prop} {Q : State → Prop} {γ : wx_G} {o : Nat} {ad : Nat → Nat} {η : cx_H} {τ : va_W} {z : Int32} {f : xF} {g : xG} (G : cx_ok γ) (C : CallFix p m c cX9_drag 2 s as lw_all RX9) (K : wx_C γ A s) (E : ∀ (H : Heap) (locs : List Loc) (ls : Array Slot) (pc : Nat), wx_w γ A s H locs (cw γ o ad f g (hr γ o ad η ++ τ)) → decode cX9_drag pc = .ok (.ireturn, 1) → W p l e rmX9_drag s m as below meth c H locs 0 0 Q (F0 m pc ls [.int z])) {v0 : Int32} {v1 : Int32} {H : Heap} {locs : List Loc} {ls : Array Slot} (w : wx_w γ A s H locs (cw γ o ad f g (hr γ o ad η ++ τ))) (hl : lv_has ls 2 [(0, .ref (had η v0)), (1, .int v1)]) (hF : pX9_drag_0 η f g v0 v1 = some z) : W p l e rmX9_drag s m as below meth c H locs 0 0 Q (F0 m 0 ls []) := by
  have hx := C.1
  have hb := C.2.1
  unfold pX9_drag_0 at hF
  refine lv_iconst (v := (2 : Int32)) hx hb dX9_drag_0 (by decide) ?_
  refine lv_iload_n hx hb dX9_drag_1 rfl (lv_at hl 1 rfl) ?_
  refine lv_imul hx hb dX9_drag_2 ?_
  have hF := Option.some.inj hF
  subst hF
  exact E _ _ _ _ w dX9_drag_3

theorem mX9_drag {l : Launch} {γ : wx_G} {o : Nat} {ad : Nat → Nat} {η : cx_H} {τ : va_W} {f : xF} {g : xG} {v0 : Int32} {v1 : Int32} {z : Int32} (G : cx_ok γ) (hF : pX9_drag η f g v0 v1 = some z) : wx_M γ l yX9_drag (ws_ yX9_drag cX9_drag 2 (some .int)) rmX9_drag [.ref (had η v0), .int v1] (cw γ o ad f g (hr γ o ad η ++ τ)) (fun v ws => v = some (.int z) ∧ ws = (cw γ o ad f g (hr γ o ad η ++ τ))) 0 0 := by
  refine wx_M.of (by decide) (Nat.le_of_ble_eq_true rfl) ?_
  intro p e s m as below meth c A ls C K w hr hlocks _ hl
  exact bX9_drag_0 G C K (fun H locs ls pc w d => wx_iret C hr hlocks w ⟨rfl, rfl⟩ d) w hl hF

/-! WalkingStones$How.way(I)I -/
abbrev rmX9_way : Room := { frames := 0, cells := 0, slots := 0, locals := 0 }
def pX9_way_0 (η : cx_H) (f : xF) (g : xG) (v0 : Int32) (v1 : Int32) : Option (Int32) := if gk η v0 [0, 1, 2, 3, 4, 5] = true then if gin v1 60 = true then some (g 6 v1.toNatClampNeg) else none else none

abbrev pX9_way (η : cx_H) (f : xF) (g : xG) (v0 : Int32) (v1 : Int32) : Option (Int32) := pX9_way_0 η f g v0 v1
theorem bX9_way_0 {p : Program} {l : Launch} {e : Env} {s : State} {m : MethodId} {as : Array Value} {below : List Frame} {meth : Method} {c : Code} {A : Nat → Prop} {Q : State → Prop} {γ : wx_G} {o : Nat} {ad : Nat → Nat} {η : cx_H} {τ : va_W} {z : Int32} {f : xF} {g : xG} (G : cx_ok γ) (C : CallFix p m c cX9_way 2 s as lw_all RX9) (K : wx_C γ A s) (E : ∀ (H : Heap) (locs : List Loc) (ls : Array Slot) (pc : Nat), wx_w γ A s H locs (cw γ o ad f g (hr γ o ad η ++ τ)) → decode cX9_way pc = .ok (.ireturn, 1) → W p l e rmX9_way s m as below meth c H locs 0 0 Q (F0 m pc ls [.int z])) {v0 : Int32} {v1 : Int32} {H : Heap} {locs : List Loc} {ls : Array Slot} (w : wx_w γ A s H locs (cw γ o ad f g (hr γ o ad η ++ τ))) (hl : lv_has ls 2 [(0, .ref (had η v0)), (1, .int v1)]) (hF : pX9_way_0 η f g v0 v1 = some z) : W p l e rmX9_way s m as below meth c H locs 0 0 Q (F0 m 0 ls []) := by
  have hx := C.1
  have hb := C.2.1
  unfold pX9_way_0 at hF
  refine lv_aload_n hx hb dX9_way_0 rfl (lv_at hl 0 rfl) ?_
  obtain ⟨hg, hF⟩ := gk_if hF
  refine ho_X9 C K w hg dX9_way_1 ?_
  refine no_X9_6 G C K w dX9_way_4 ?_
  refine lv_iload_n hx hb dX9_way_7 rfl (lv_at hl 1 rfl) ?_
  obtain ⟨hi, hF⟩ := gin_if hF
  refine cald_6 C K w hi dX9_way_8 ?_
  have hF := Option.some.inj hF
  subst hF
  exact E _ _ _ _ w dX9_way_9

theorem mX9_way {l : Launch} {γ : wx_G} {o : Nat} {ad : Nat → Nat} {η : cx_H} {τ : va_W} {f : xF} {g : xG} {v0 : Int32} {v1 : Int32} {z : Int32} (G : cx_ok γ) (hF : pX9_way η f g v0 v1 = some z) : wx_M γ l yX9_way (ws_ yX9_way cX9_way 2 (some .int)) rmX9_way [.ref (had η v0), .int v1] (cw γ o ad f g (hr γ o ad η ++ τ)) (fun v ws => v = some (.int z) ∧ ws = (cw γ o ad f g (hr γ o ad η ++ τ))) 0 0 := by
  refine wx_M.of (by decide) (Nat.le_of_ble_eq_true rfl) ?_
  intro p e s m as below meth c A ls C K w hr hlocks _ hl
  exact bX9_way_0 G C K (fun H locs ls pc w d => wx_iret C hr hlocks w ⟨rfl, rfl⟩ d) w hl hF

/-! WalkingStones$Slope.drag(I)I -/
abbrev rmX14_drag : Room := { frames := 0, cells := 0, slots := 0, locals := 0 }
def pX14_drag_0 (η : cx_H) (f : xF) (g : xG) (v0 : Int32) (v1 : Int32) : Option (Int32) := some ((0 : Int32))

abbrev pX14_drag (η : cx_H) (f : xF) (g : xG) (v0 : Int32) (v1 : Int32) : Option (Int32) := pX14_drag_0 η f g v0 v1
theorem bX14_drag_0 {p : Program} {l : Launch} {e : Env} {s : State} {m : MethodId} {as : Array Value} {below : List Frame} {meth : Method} {c : Code} {A : Nat → Prop} {Q : State → Prop} {γ : wx_G} {o : Nat} {ad : Nat → Nat} {η : cx_H} {τ : va_W} {z : Int32} {f : xF} {g : xG} (G : cx_ok γ) (C : CallFix p m c cX14_drag 2 s as lw_all RX14) (K : wx_C γ A s) (E : ∀ (H : Heap) (locs : List Loc) (ls : Array Slot) (pc : Nat), wx_w γ A s H locs (cw γ o ad f g (hr γ o ad η ++ τ)) → decode cX14_drag pc = .ok (.ireturn, 1) → W p l e rmX14_drag s m as below meth c H locs 0 0 Q (F0 m pc ls [.int z])) {v0 : Int32} {v1 : Int32} {H : Heap} {locs : List Loc} {ls : Array Slot} (w : wx_w γ A s H locs (cw γ o ad f g (hr γ o ad η ++ τ))) (hl : lv_has ls 2 [(0, .ref (had η v0)), (1, .int v1)]) (hF : pX14_drag_0 η f g v0 v1 = some z) : W p l e rmX14_drag s m as below meth c H locs 0 0 Q (F0 m 0 ls []) := by
  have hx := C.1
  have hb := C.2.1
  unfold pX14_drag_0 at hF
  refine lv_iconst (v := (0 : Int32)) hx hb dX14_drag_0 (by decide) ?_
  have hF := Option.some.inj hF
  subst hF
  exact E _ _ _ _ w dX14_drag_1

theorem mX14_drag {l : Launch} {γ : wx_G} {o : Nat} {ad : Nat → Nat} {η : cx_H} {τ : va_W} {f : xF} {g : xG} {v0 : Int32} {v1 : Int32} {z : Int32} (G : cx_ok γ) (hF : pX14_drag η f g v0 v1 = some z) : wx_M γ l yX14_drag (ws_ yX14_drag cX14_drag 2 (some .int)) rmX14_drag [.ref (had η v0), .int v1] (cw γ o ad f g (hr γ o ad η ++ τ)) (fun v ws => v = some (.int z) ∧ ws = (cw γ o ad f g (hr γ o ad η ++ τ))) 0 0 := by
  refine wx_M.of (by decide) (Nat.le_of_ble_eq_true rfl) ?_
  intro p e s m as below meth c A ls C K w hr hlocks _ hl
  exact bX14_drag_0 G C K (fun H locs ls pc w d => wx_iret C hr hlocks w ⟨rfl, rfl⟩ d) w hl hF

/-! WalkingStones$Slope.way(I)I -/
abbrev rmX14_way : Room := { frames := 0, cells := 0, slots := 0, locals := 0 }
def pX14_way_0 (η : cx_H) (f : xF) (g : xG) (v0 : Int32) (v1 : Int32) : Option (Int32) := some ((1 : Int32))

abbrev pX14_way (η : cx_H) (f : xF) (g : xG) (v0 : Int32) (v1 : Int32) : Option (Int32) := pX14_way_0 η f g v0 v1
theorem bX14_way_0 {p : Program} {l : Launch} {e : Env} {s : State} {m : MethodId} {as : Array Value} {below : List Frame} {meth : Method} {c : Code} {A : Nat → Prop} {Q : State → Prop} {γ : wx_G} {o : Nat} {ad : Nat → Nat} {η : cx_H} {τ : va_W} {z : Int32} {f : xF} {g : xG} (G : cx_ok γ) (C : CallFix p m c cX14_way 2 s as lw_all RX14) (K : wx_C γ A s) (E : ∀ (H : Heap) (locs : List Loc) (ls : Array Slot) (pc : Nat), wx_w γ A s H locs (cw γ o ad f g (hr γ o ad η ++ τ)) → decode cX14_way pc = .ok (.ireturn, 1) → W p l e rmX14_way s m as below meth c H locs 0 0 Q (F0 m pc ls [.int z])) {v0 : Int32} {v1 : Int32} {H : Heap} {locs : List Loc} {ls : Array Slot} (w : wx_w γ A s H locs (cw γ o ad f g (hr γ o ad η ++ τ))) (hl : lv_has ls 2 [(0, .ref (had η v0)), (1, .int v1)]) (hF : pX14_way_0 η f g v0 v1 = some z) : W p l e rmX14_way s m as below meth c H locs 0 0 Q (F0 m 0 ls []) := by
  have hx := C.1
  have hb := C.2.1
  unfold pX14_way_0 at hF
  refine lv_iconst (v := (1 : Int32)) hx hb dX14_way_0 (by decide) ?_
  have hF := Option.some.inj hF
  subst hF
  exact E _ _ _ _ w dX14_way_1

theorem mX14_way {l : Launch} {γ : wx_G} {o : Nat} {ad : Nat → Nat} {η : cx_H} {τ : va_W} {f : xF} {g : xG} {v0 : Int32} {v1 : Int32} {z : Int32} (G : cx_ok γ) (hF : pX14_way η f g v0 v1 = some z) : wx_M γ l yX14_way (ws_ yX14_way cX14_way 2 (some .int)) rmX14_way [.ref (had η v0), .int v1] (cw γ o ad f g (hr γ o ad η ++ τ)) (fun v ws => v = some (.int z) ∧ ws = (cw γ o ad f g (hr γ o ad η ++ τ))) 0 0 := by
  refine wx_M.of (by decide) (Nat.le_of_ble_eq_true rfl) ?_
  intro p e s m as below meth c A ls C K w hr hlocks _ hl
  exact bX14_way_0 G C K (fun H locs ls pc w d => wx_iret C hr hlocks w ⟨rfl, rfl⟩ d) w hl hF

/-! WalkingStones$Slope.pushes(II)I -/
abbrev rmX14_pushes : Room := { frames := 0, cells := 0, slots := 0, locals := 0 }
def pX14_pushes_15 (η : cx_H) (f : xF) (g : xG) (t0 : Int32) : Option (Int32) := some (t0)

def pX14_pushes_0 (η : cx_H) (f : xF) (g : xG) (v0 : Int32) (v1 : Int32) (v2 : Int32) : Option (Int32) := if gk η v0 [5] = true then if (hnu η v0) ≤ (v1 / (5 : Int32)) then pX14_pushes_15 η f g (0 : Int32) else pX14_pushes_15 η f g (1 : Int32) else none

abbrev pX14_pushes (η : cx_H) (f : xF) (g : xG) (v0 : Int32) (v1 : Int32) (v2 : Int32) : Option (Int32) := pX14_pushes_0 η f g v0 v1 v2
theorem bX14_pushes_15 {p : Program} {l : Launch} {e : Env} {s : State} {m : MethodId} {as : Array Value} {below : List Frame} {meth : Method} {c : Code} {A : Nat → Prop} {Q : State → Prop} {γ : wx_G} {o : Nat} {ad : Nat → Nat} {η : cx_H} {τ : va_W} {z : Int32} {f : xF} {g : xG} (G : cx_ok γ) (C : CallFix p m c cX14_pushes 3 s as lw_all RX14) (K : wx_C γ A s) (E : ∀ (H : Heap) (locs : List Loc) (ls : Array Slot) (pc : Nat), wx_w γ A s H locs (cw γ o ad f g (hr γ o ad η ++ τ)) → decode cX14_pushes pc = .ok (.ireturn, 1) → W p l e rmX14_pushes s m as below meth c H locs 0 0 Q (F0 m pc ls [.int z])) {t0 : Int32} {H : Heap} {locs : List Loc} {ls : Array Slot} (w : wx_w γ A s H locs (cw γ o ad f g (hr γ o ad η ++ τ))) (hl : lv_has ls 3 []) (hF : pX14_pushes_15 η f g t0 = some z) : W p l e rmX14_pushes s m as below meth c H locs 0 0 Q (F0 m 15 ls [.int t0]) := by
  have hx := C.1
  have hb := C.2.1
  unfold pX14_pushes_15 at hF
  have hF := Option.some.inj hF
  subst hF
  exact E _ _ _ _ w dX14_pushes_15

theorem bX14_pushes_0 {p : Program} {l : Launch} {e : Env} {s : State} {m : MethodId} {as : Array Value} {below : List Frame} {meth : Method} {c : Code} {A : Nat → Prop} {Q : State → Prop} {γ : wx_G} {o : Nat} {ad : Nat → Nat} {η : cx_H} {τ : va_W} {z : Int32} {f : xF} {g : xG} (G : cx_ok γ) (C : CallFix p m c cX14_pushes 3 s as lw_all RX14) (K : wx_C γ A s) (E : ∀ (H : Heap) (locs : List Loc) (ls : Array Slot) (pc : Nat), wx_w γ A s H locs (cw γ o ad f g (hr γ o ad η ++ τ)) → decode cX14_pushes pc = .ok (.ireturn, 1) → W p l e rmX14_pushes s m as below meth c H locs 0 0 Q (F0 m pc ls [.int z])) {v0 : Int32} {v1 : Int32} {v2 : Int32} {H : Heap} {locs : List Loc} {ls : Array Slot} (w : wx_w γ A s H locs (cw γ o ad f g (hr γ o ad η ++ τ))) (hl : lv_has ls 3 [(0, .ref (had η v0)), (1, .int v1), (2, .int v2)]) (hF : pX14_pushes_0 η f g v0 v1 v2 = some z) : W p l e rmX14_pushes s m as below meth c H locs 0 0 Q (F0 m 0 ls []) := by
  have hx := C.1
  have hb := C.2.1
  unfold pX14_pushes_0 at hF
  refine lv_aload_n hx hb dX14_pushes_0 rfl (lv_at hl 0 rfl) ?_
  obtain ⟨hg, hF⟩ := gk_if hF
  refine hn_X14 C K w hg dX14_pushes_1 ?_
  refine lv_iload_n hx hb dX14_pushes_4 rfl (lv_at hl 1 rfl) ?_
  refine lv_iconst (v := (5 : Int32)) hx hb dX14_pushes_5 (by decide) ?_
  refine lv_idiv hx hb dX14_pushes_6 (by decide) ?_
  refine lv_icmp_le (tgt := 14) hx hb dX14_pushes_7 (by decide) (fun c => ?_) (fun c => ?_)
  · have hF := (if_pos c).symm.trans hF
    refine lv_iconst (v := (0 : Int32)) hx hb dX14_pushes_14 (by decide) ?_
    exact bX14_pushes_15 G C K E w (lv_sub hl [] rfl) hF
  · have hF := (if_neg c).symm.trans hF
    refine lv_iconst (v := (1 : Int32)) hx hb dX14_pushes_10 (by decide) ?_
    refine lv_goto (tgt := 15) hx hb dX14_pushes_11 (by decide) ?_
    exact bX14_pushes_15 G C K E w (lv_sub hl [] rfl) hF

theorem mX14_pushes {l : Launch} {γ : wx_G} {o : Nat} {ad : Nat → Nat} {η : cx_H} {τ : va_W} {f : xF} {g : xG} {v0 : Int32} {v1 : Int32} {v2 : Int32} {z : Int32} (G : cx_ok γ) (hF : pX14_pushes η f g v0 v1 v2 = some z) : wx_M γ l yX14_pushes (ws_ yX14_pushes cX14_pushes 3 (some .int)) rmX14_pushes [.ref (had η v0), .int v1, .int v2] (cw γ o ad f g (hr γ o ad η ++ τ)) (fun v ws => v = some (.int z) ∧ ws = (cw γ o ad f g (hr γ o ad η ++ τ))) 0 0 := by
  refine wx_M.of (by decide) (Nat.le_of_ble_eq_true rfl) ?_
  intro p e s m as below meth c A ls C K w hr hlocks _ hl
  exact bX14_pushes_0 G C K (fun H locs ls pc w d => wx_iret C hr hlocks w ⟨rfl, rfl⟩ d) w hl hF

/-! WalkingStones$Whole.drag(I)I -/
abbrev rmX12_drag : Room := { frames := 0, cells := 0, slots := 0, locals := 0 }
def pX12_drag_0 (η : cx_H) (f : xF) (g : xG) (v0 : Int32) (v1 : Int32) : Option (Int32) := if gk η v0 [3] = true then some (hnu η v0) else none

abbrev pX12_drag (η : cx_H) (f : xF) (g : xG) (v0 : Int32) (v1 : Int32) : Option (Int32) := pX12_drag_0 η f g v0 v1
theorem bX12_drag_0 {p : Program} {l : Launch} {e : Env} {s : State} {m : MethodId} {as : Array Value} {below : List Frame} {meth : Method} {c : Code} {A : Nat → Prop} {Q : State → Prop} {γ : wx_G} {o : Nat} {ad : Nat → Nat} {η : cx_H} {τ : va_W} {z : Int32} {f : xF} {g : xG} (G : cx_ok γ) (C : CallFix p m c cX12_drag 2 s as lw_all RX12) (K : wx_C γ A s) (E : ∀ (H : Heap) (locs : List Loc) (ls : Array Slot) (pc : Nat), wx_w γ A s H locs (cw γ o ad f g (hr γ o ad η ++ τ)) → decode cX12_drag pc = .ok (.ireturn, 1) → W p l e rmX12_drag s m as below meth c H locs 0 0 Q (F0 m pc ls [.int z])) {v0 : Int32} {v1 : Int32} {H : Heap} {locs : List Loc} {ls : Array Slot} (w : wx_w γ A s H locs (cw γ o ad f g (hr γ o ad η ++ τ))) (hl : lv_has ls 2 [(0, .ref (had η v0)), (1, .int v1)]) (hF : pX12_drag_0 η f g v0 v1 = some z) : W p l e rmX12_drag s m as below meth c H locs 0 0 Q (F0 m 0 ls []) := by
  have hx := C.1
  have hb := C.2.1
  unfold pX12_drag_0 at hF
  refine lv_aload_n hx hb dX12_drag_0 rfl (lv_at hl 0 rfl) ?_
  obtain ⟨hg, hF⟩ := gk_if hF
  refine hn_X12 C K w hg dX12_drag_1 ?_
  have hF := Option.some.inj hF
  subst hF
  exact E _ _ _ _ w dX12_drag_4

theorem mX12_drag {l : Launch} {γ : wx_G} {o : Nat} {ad : Nat → Nat} {η : cx_H} {τ : va_W} {f : xF} {g : xG} {v0 : Int32} {v1 : Int32} {z : Int32} (G : cx_ok γ) (hF : pX12_drag η f g v0 v1 = some z) : wx_M γ l yX12_drag (ws_ yX12_drag cX12_drag 2 (some .int)) rmX12_drag [.ref (had η v0), .int v1] (cw γ o ad f g (hr γ o ad η ++ τ)) (fun v ws => v = some (.int z) ∧ ws = (cw γ o ad f g (hr γ o ad η ++ τ))) 0 0 := by
  refine wx_M.of (by decide) (Nat.le_of_ble_eq_true rfl) ?_
  intro p e s m as below meth c A ls C K w hr hlocks _ hl
  exact bX12_drag_0 G C K (fun H locs ls pc w d => wx_iret C hr hlocks w ⟨rfl, rfl⟩ d) w hl hF

def pV_isWet (η : cx_H) (f : xF) (g : xG) (i : Int32) (a0 : Int32) : Option (Int32) := if gk η i [0, 1, 2, 3, 4, 5] = true then (pX9_isWet η f g i a0) else none
abbrev rmV_isWet : Room := { frames := 1, cells := 0, slots := 0, locals := 20 }
theorem vX9_isWet {p : Program} {l : Launch} {e : Env} {R : Room} {s : State} {m : MethodId} {as : Array Value} {below : List Frame} {meth : Method} {c : Code} {H : Heap} {locs : List Loc} {cells slots : Nat} {Q : State → Prop} {cc : ByteArray} {nL pc : Nat} {ls : Array Slot} {rest : List Value} {γ : wx_G} {A : Nat → Prop} {o : Nat} {ad : Nat → Nat} {f : xF} {g : xG} {η : cx_H} {τ : va_W} {i : Int32} {a0 : Int32} {z : Int32} (G : cx_ok γ) (C : CallFix p m c cc nL s as lw_all RX9) (K : wx_C γ A s) (w : wx_w γ A s H locs (cw γ o ad f g (hr γ o ad η ++ τ))) (hF : pV_isWet η f g i a0 = some z) (hls : ls.size = nL) (hR : rmV_isWet.frames + 1 ≤ R.frames ∧ 8 + (4 + 11) + rmV_isWet.locals ≤ R.locals) (hW : (rest.map fun v => v.category).sum ≤ 8) (d : decode cc pc = .ok (.invokevirtual 23, 3)) (kk : ∀ (H : Heap) (locs : List Loc), wx_w γ A s H locs (cw γ o ad f g (hr γ o ad η ++ τ)) → W p l e R s m as below meth c H locs cells slots Q (F0 m (pc + 3) ls (.int z :: rest))) (hf : cells ≤ R.cells ∧ slots ≤ R.slots := by exact ⟨Nat.le_of_ble_eq_true rfl, Nat.le_of_ble_eq_true rfl⟩) : W p l e R s m as below meth c H locs cells slots Q (F0 m pc ls (.int a0 :: .ref (had η i) :: rest)) := by
  unfold pV_isWet at hF
  obtain ⟨hg, hF⟩ := gk_if hF
  have hk := gk_in hg
  simp only [List.mem_cons, List.not_mem_nil, or_false] at hk
  rcases hk with hk | hk | hk | hk | hk | hk
  · exact wx_callU (Cn := RX9) C K w (mX9_isWet (l := l) G hF) (va_cwU (owner := "WalkingStones$How") 1 C.2.2.2.2 (lw_U q303 q1819 q1821 q287 q124 q288) rfl rfl rfl rfl (by decide +kernel) ⟨Nat.le_trans (by decide) hR.1, Nat.le_trans (by decide) hR.2⟩) (hw_recv K w hg hk rfl) rfl rfl hls hW hf d (fun v ws H1 locs1 hp w => by obtain ⟨rfl, rfl⟩ := hp; exact kk H1 locs1 w)
  · exact wx_callU (Cn := RX10) C K w (mX9_isWet (l := l) G hF) (va_cwU (owner := "WalkingStones$How") 1 C.2.2.2.2 (lw_U q303 q1819 q1820 q287 q124 q288) rfl rfl rfl rfl (by decide +kernel) ⟨Nat.le_trans (by decide) hR.1, Nat.le_trans (by decide) hR.2⟩) (hw_recv K w hg hk rfl) rfl rfl hls hW hf d (fun v ws H1 locs1 hp w => by obtain ⟨rfl, rfl⟩ := hp; exact kk H1 locs1 w)
  · exact wx_callU (Cn := RX11) C K w (mX9_isWet (l := l) G hF) (va_cwU (owner := "WalkingStones$How") 1 C.2.2.2.2 (lw_U q303 q1819 q1823 q287 q124 q288) rfl rfl rfl rfl (by decide +kernel) ⟨Nat.le_trans (by decide) hR.1, Nat.le_trans (by decide) hR.2⟩) (hw_recv K w hg hk rfl) rfl rfl hls hW hf d (fun v ws H1 locs1 hp w => by obtain ⟨rfl, rfl⟩ := hp; exact kk H1 locs1 w)
  · exact wx_callU (Cn := RX12) C K w (mX9_isWet (l := l) G hF) (va_cwU (owner := "WalkingStones$How") 1 C.2.2.2.2 (lw_U q303 q1819 q1825 q287 q124 q288) rfl rfl rfl rfl (by decide +kernel) ⟨Nat.le_trans (by decide) hR.1, Nat.le_trans (by decide) hR.2⟩) (hw_recv K w hg hk rfl) rfl rfl hls hW hf d (fun v ws H1 locs1 hp w => by obtain ⟨rfl, rfl⟩ := hp; exact kk H1 locs1 w)
  · exact wx_callU (Cn := RX13) C K w (mX9_isWet (l := l) G hF) (va_cwU (owner := "WalkingStones$How") 1 C.2.2.2.2 (lw_U q303 q1819 q1822 q287 q124 q288) rfl rfl rfl rfl (by decide +kernel) ⟨Nat.le_trans (by decide) hR.1, Nat.le_trans (by decide) hR.2⟩) (hw_recv K w hg hk rfl) rfl rfl hls hW hf d (fun v ws H1 locs1 hp w => by obtain ⟨rfl, rfl⟩ := hp; exact kk H1 locs1 w)
  · exact wx_callU (Cn := RX14) C K w (mX9_isWet (l := l) G hF) (va_cwU (owner := "WalkingStones$How") 1 C.2.2.2.2 (lw_U q303 q1819 q1824 q287 q124 q288) rfl rfl rfl rfl (by decide +kernel) ⟨Nat.le_trans (by decide) hR.1, Nat.le_trans (by decide) hR.2⟩) (hw_recv K w hg hk rfl) rfl rfl hls hW hf d (fun v ws H1 locs1 hp w => by obtain ⟨rfl, rfl⟩ := hp; exact kk H1 locs1 w)
/-! WalkingStones$How.may(I)Z -/
abbrev rmX9_may : Room := { frames := 2, cells := 0, slots := 0, locals := 43 }
def pX9_may_0 (η : cx_H) (f : xF) (g : xG) (v0 : Int32) (v1 : Int32) : Option (Int32) := (pV_isWet η f g v0 v1).bind (fun r2 => if gbz r2 = true then some (r2) else none)

abbrev pX9_may (η : cx_H) (f : xF) (g : xG) (v0 : Int32) (v1 : Int32) : Option (Int32) := pX9_may_0 η f g v0 v1
theorem bX9_may_0 {p : Program} {l : Launch} {e : Env} {s : State} {m : MethodId} {as : Array Value} {below : List Frame} {meth : Method} {c : Code} {A : Nat → Prop} {Q : State → Prop} {γ : wx_G} {o : Nat} {ad : Nat → Nat} {η : cx_H} {τ : va_W} {z : Int32} {f : xF} {g : xG} (G : cx_ok γ) (C : CallFix p m c cX9_may 2 s as lw_all RX9) (K : wx_C γ A s) (E : ∀ (H : Heap) (locs : List Loc) (ls : Array Slot) (pc : Nat), narrow .boolean (.int z) = .int z → wx_w γ A s H locs (cw γ o ad f g (hr γ o ad η ++ τ)) → decode cX9_may pc = .ok (.ireturn, 1) → W p l e rmX9_may s m as below meth c H locs 0 0 Q (F0 m pc ls [.int z])) {v0 : Int32} {v1 : Int32} {H : Heap} {locs : List Loc} {ls : Array Slot} (w : wx_w γ A s H locs (cw γ o ad f g (hr γ o ad η ++ τ))) (hl : lv_has ls 2 [(0, .ref (had η v0)), (1, .int v1)]) (hF : pX9_may_0 η f g v0 v1 = some z) : W p l e rmX9_may s m as below meth c H locs 0 0 Q (F0 m 0 ls []) := by
  have hx := C.1
  have hb := C.2.1
  unfold pX9_may_0 at hF
  refine lv_aload_n hx hb dX9_may_0 rfl (lv_at hl 0 rfl) ?_
  refine lv_iload_n hx hb dX9_may_1 rfl (lv_at hl 1 rfl) ?_
  obtain ⟨r2, hr, hF⟩ := obd hF
  refine vX9_isWet G C K w hr hl.1 ⟨Nat.le_of_ble_eq_true rfl, Nat.le_of_ble_eq_true rfl⟩ (Nat.le_of_ble_eq_true rfl) dX9_may_2 (fun H locs w => ?_)
  obtain ⟨hz, hF⟩ := gbz_if hF
  have hF := Option.some.inj hF
  subst hF
  exact E _ _ _ _ hz w dX9_may_5

theorem mX9_may {l : Launch} {γ : wx_G} {o : Nat} {ad : Nat → Nat} {η : cx_H} {τ : va_W} {f : xF} {g : xG} {v0 : Int32} {v1 : Int32} {z : Int32} (G : cx_ok γ) (hF : pX9_may η f g v0 v1 = some z) : wx_M γ l yX9_may (ws_ yX9_may cX9_may 2 (some .boolean)) rmX9_may [.ref (had η v0), .int v1] (cw γ o ad f g (hr γ o ad η ++ τ)) (fun v ws => v = some (.int z) ∧ ws = (cw γ o ad f g (hr γ o ad η ++ τ))) 0 0 := by
  refine wx_M.of (by decide) (Nat.le_of_ble_eq_true rfl) ?_
  intro p e s m as below meth c A ls C K w hr hlocks _ hl
  exact bX9_may_0 G C K (fun H locs ls pc hz w d => wx_zret C hr hlocks hz w ⟨rfl, rfl⟩ d) w hl hF

theorem sX10_drag {p : Program} {l : Launch} {e : Env} {R : Room} {s : State} {m : MethodId} {as : Array Value} {below : List Frame} {meth : Method} {c : Code} {H : Heap} {locs : List Loc} {cells slots : Nat} {Q : State → Prop} {cc : ByteArray} {nL pc : Nat} {ls : Array Slot} {rest : List Value} {γ : wx_G} {A : Nat → Prop} {o : Nat} {ad : Nat → Nat} {f : xF} {g : xG} {η : cx_H} {τ : va_W} {i : Int32} {a0 : Int32} {z : Int32} (G : cx_ok γ) (C : CallFix p m c cc nL s as lw_all RX10) (K : wx_C γ A s) (w : wx_w γ A s H locs (cw γ o ad f g (hr γ o ad η ++ τ))) (hg : gk η i [1, 2, 3, 4] = true) (hF : pX9_drag η f g i a0 = some z) (hls : ls.size = nL) (hR : rmX9_drag.frames + 1 ≤ R.frames ∧ 8 + (2 + 11) + rmX9_drag.locals ≤ R.locals) (hW : (rest.map fun v => v.category).sum ≤ 8) (d : decode cc pc = .ok (.invokespecial 17, 3)) (kk : ∀ (H : Heap) (locs : List Loc), wx_w γ A s H locs (cw γ o ad f g (hr γ o ad η ++ τ)) → W p l e R s m as below meth c H locs cells slots Q (F0 m (pc + 3) ls (.int z :: rest))) (hf : cells ≤ R.cells ∧ slots ≤ R.slots := by exact ⟨Nat.le_of_ble_eq_true rfl, Nat.le_of_ble_eq_true rfl⟩) : W p l e R s m as below meth c H locs cells slots Q (F0 m pc ls (.int a0 :: .ref (had η i) :: rest)) := by
  have hk := gk_in hg
  simp only [List.mem_cons, List.not_mem_nil, or_false] at hk
  rcases hk with hk | hk | hk | hk
  · exact wx_callSU (n := 1) (Cn := RX10) (hw_at (ks := [1, 2, 3, 4]) K hk rfl) C K w (mX9_drag (l := l) G hF) (lw_SU q311 q307 q202 q305 q124 q326) rfl rfl (by decide +kernel) hR (hw_recv K w hg hk rfl) rfl rfl hls hW hf d (fun v ws H1 locs1 hp w => by obtain ⟨rfl, rfl⟩ := hp; exact kk H1 locs1 w)
  · exact wx_callSU (n := 1) (Cn := RX11) (hw_at (ks := [1, 2, 3, 4]) K hk rfl) C K w (mX9_drag (l := l) G hF) (lw_SU q311 q307 q202 q305 q124 q326) rfl rfl (by decide +kernel) hR (hw_recv K w hg hk rfl) rfl rfl hls hW hf d (fun v ws H1 locs1 hp w => by obtain ⟨rfl, rfl⟩ := hp; exact kk H1 locs1 w)
  · exact wx_callSU (n := 1) (Cn := RX12) (hw_at (ks := [1, 2, 3, 4]) K hk rfl) C K w (mX9_drag (l := l) G hF) (lw_SU q311 q307 q202 q305 q124 q326) rfl rfl (by decide +kernel) hR (hw_recv K w hg hk rfl) rfl rfl hls hW hf d (fun v ws H1 locs1 hp w => by obtain ⟨rfl, rfl⟩ := hp; exact kk H1 locs1 w)
  · exact wx_callSU (n := 1) (Cn := RX13) (hw_at (ks := [1, 2, 3, 4]) K hk rfl) C K w (mX9_drag (l := l) G hF) (lw_SU q311 q307 q202 q305 q124 q326) rfl rfl (by decide +kernel) hR (hw_recv K w hg hk rfl) rfl rfl hls hW hf d (fun v ws H1 locs1 hp w => by obtain ⟨rfl, rfl⟩ := hp; exact kk H1 locs1 w)
/-! WalkingStones$Gust.drag(I)I -/
abbrev rmX10_drag : Room := { frames := 1, cells := 0, slots := 0, locals := 21 }
def pX10_drag_0 (η : cx_H) (f : xF) (g : xG) (v0 : Int32) (v1 : Int32) : Option (Int32) := if gk η v0 [1, 2, 3, 4] = true then (pX9_drag η f g v0 v1).bind (fun r2 => if gk η v0 [1, 2, 3, 4] = true then some (r2 + (hnu η v0)) else none) else none

abbrev pX10_drag (η : cx_H) (f : xF) (g : xG) (v0 : Int32) (v1 : Int32) : Option (Int32) := pX10_drag_0 η f g v0 v1
theorem bX10_drag_0 {p : Program} {l : Launch} {e : Env} {s : State} {m : MethodId} {as : Array Value} {below : List Frame} {meth : Method} {c : Code} {A : Nat → Prop} {Q : State → Prop} {γ : wx_G} {o : Nat} {ad : Nat → Nat} {η : cx_H} {τ : va_W} {z : Int32} {f : xF} {g : xG} (G : cx_ok γ) (C : CallFix p m c cX10_drag 2 s as lw_all RX10) (K : wx_C γ A s) (E : ∀ (H : Heap) (locs : List Loc) (ls : Array Slot) (pc : Nat), wx_w γ A s H locs (cw γ o ad f g (hr γ o ad η ++ τ)) → decode cX10_drag pc = .ok (.ireturn, 1) → W p l e rmX10_drag s m as below meth c H locs 0 0 Q (F0 m pc ls [.int z])) {v0 : Int32} {v1 : Int32} {H : Heap} {locs : List Loc} {ls : Array Slot} (w : wx_w γ A s H locs (cw γ o ad f g (hr γ o ad η ++ τ))) (hl : lv_has ls 2 [(0, .ref (had η v0)), (1, .int v1)]) (hF : pX10_drag_0 η f g v0 v1 = some z) : W p l e rmX10_drag s m as below meth c H locs 0 0 Q (F0 m 0 ls []) := by
  have hx := C.1
  have hb := C.2.1
  unfold pX10_drag_0 at hF
  refine lv_aload_n hx hb dX10_drag_0 rfl (lv_at hl 0 rfl) ?_
  refine lv_iload_n hx hb dX10_drag_1 rfl (lv_at hl 1 rfl) ?_
  obtain ⟨hg, hF⟩ := gk_if hF
  obtain ⟨r2, hr, hF⟩ := obd hF
  refine sX10_drag G C K w hg hr hl.1 ⟨Nat.le_of_ble_eq_true rfl, Nat.le_of_ble_eq_true rfl⟩ (Nat.le_of_ble_eq_true rfl) dX10_drag_2 (fun H locs w => ?_)
  refine lv_aload_n hx hb dX10_drag_5 rfl (lv_at hl 0 rfl) ?_
  obtain ⟨hg, hF⟩ := gk_if hF
  refine hn_X10 C K w hg dX10_drag_6 ?_
  refine lv_iadd hx hb dX10_drag_9 ?_
  have hF := Option.some.inj hF
  subst hF
  exact E _ _ _ _ w dX10_drag_10

theorem mX10_drag {l : Launch} {γ : wx_G} {o : Nat} {ad : Nat → Nat} {η : cx_H} {τ : va_W} {f : xF} {g : xG} {v0 : Int32} {v1 : Int32} {z : Int32} (G : cx_ok γ) (hF : pX10_drag η f g v0 v1 = some z) : wx_M γ l yX10_drag (ws_ yX10_drag cX10_drag 2 (some .int)) rmX10_drag [.ref (had η v0), .int v1] (cw γ o ad f g (hr γ o ad η ++ τ)) (fun v ws => v = some (.int z) ∧ ws = (cw γ o ad f g (hr γ o ad η ++ τ))) 0 0 := by
  refine wx_M.of (by decide) (Nat.le_of_ble_eq_true rfl) ?_
  intro p e s m as below meth c A ls C K w hr hlocks _ hl
  exact bX10_drag_0 G C K (fun H locs ls pc w d => wx_iret C hr hlocks w ⟨rfl, rfl⟩ d) w hl hF

theorem sX11_drag {p : Program} {l : Launch} {e : Env} {R : Room} {s : State} {m : MethodId} {as : Array Value} {below : List Frame} {meth : Method} {c : Code} {H : Heap} {locs : List Loc} {cells slots : Nat} {Q : State → Prop} {cc : ByteArray} {nL pc : Nat} {ls : Array Slot} {rest : List Value} {γ : wx_G} {A : Nat → Prop} {o : Nat} {ad : Nat → Nat} {f : xF} {g : xG} {η : cx_H} {τ : va_W} {i : Int32} {a0 : Int32} {z : Int32} (G : cx_ok γ) (C : CallFix p m c cc nL s as lw_all RX11) (K : wx_C γ A s) (w : wx_w γ A s H locs (cw γ o ad f g (hr γ o ad η ++ τ))) (hg : gk η i [2, 3, 4] = true) (hF : pX10_drag η f g i a0 = some z) (hls : ls.size = nL) (hR : rmX10_drag.frames + 1 ≤ R.frames ∧ 8 + (2 + 11) + rmX10_drag.locals ≤ R.locals) (hW : (rest.map fun v => v.category).sum ≤ 8) (d : decode cc pc = .ok (.invokespecial 27, 3)) (kk : ∀ (H : Heap) (locs : List Loc), wx_w γ A s H locs (cw γ o ad f g (hr γ o ad η ++ τ)) → W p l e R s m as below meth c H locs cells slots Q (F0 m (pc + 3) ls (.int z :: rest))) (hf : cells ≤ R.cells ∧ slots ≤ R.slots := by exact ⟨Nat.le_of_ble_eq_true rfl, Nat.le_of_ble_eq_true rfl⟩) : W p l e R s m as below meth c H locs cells slots Q (F0 m pc ls (.int a0 :: .ref (had η i) :: rest)) := by
  have hk := gk_in hg
  simp only [List.mem_cons, List.not_mem_nil, or_false] at hk
  rcases hk with hk | hk | hk
  · exact wx_callSU (n := 1) (Cn := RX11) (hw_at (ks := [2, 3, 4]) K hk rfl) C K w (mX10_drag (l := l) G hF) (lw_SU q318 q1827 q215 q309 q125 q310) rfl rfl (by decide +kernel) hR (hw_recv K w hg hk rfl) rfl rfl hls hW hf d (fun v ws H1 locs1 hp w => by obtain ⟨rfl, rfl⟩ := hp; exact kk H1 locs1 w)
  · exact wx_callSU (n := 1) (Cn := RX12) (hw_at (ks := [2, 3, 4]) K hk rfl) C K w (mX10_drag (l := l) G hF) (lw_SU q318 q1827 q215 q309 q125 q310) rfl rfl (by decide +kernel) hR (hw_recv K w hg hk rfl) rfl rfl hls hW hf d (fun v ws H1 locs1 hp w => by obtain ⟨rfl, rfl⟩ := hp; exact kk H1 locs1 w)
  · exact wx_callSU (n := 1) (Cn := RX13) (hw_at (ks := [2, 3, 4]) K hk rfl) C K w (mX10_drag (l := l) G hF) (lw_SU q318 q1827 q215 q309 q125 q310) rfl rfl (by decide +kernel) hR (hw_recv K w hg hk rfl) rfl rfl hls hW hf d (fun v ws H1 locs1 hp w => by obtain ⟨rfl, rfl⟩ := hp; exact kk H1 locs1 w)
/-! WalkingStones$Raft.drag(I)I -/
abbrev rmX11_drag : Room := { frames := 2, cells := 0, slots := 0, locals := 42 }
def pX11_drag_0 (η : cx_H) (f : xF) (g : xG) (v0 : Int32) (v1 : Int32) : Option (Int32) := if gk η v0 [2, 3, 4] = true then (pX10_drag η f g v0 v1).bind (fun r2 => some (r2 / (4 : Int32))) else none

abbrev pX11_drag (η : cx_H) (f : xF) (g : xG) (v0 : Int32) (v1 : Int32) : Option (Int32) := pX11_drag_0 η f g v0 v1
theorem bX11_drag_0 {p : Program} {l : Launch} {e : Env} {s : State} {m : MethodId} {as : Array Value} {below : List Frame} {meth : Method} {c : Code} {A : Nat → Prop} {Q : State → Prop} {γ : wx_G} {o : Nat} {ad : Nat → Nat} {η : cx_H} {τ : va_W} {z : Int32} {f : xF} {g : xG} (G : cx_ok γ) (C : CallFix p m c cX11_drag 2 s as lw_all RX11) (K : wx_C γ A s) (E : ∀ (H : Heap) (locs : List Loc) (ls : Array Slot) (pc : Nat), wx_w γ A s H locs (cw γ o ad f g (hr γ o ad η ++ τ)) → decode cX11_drag pc = .ok (.ireturn, 1) → W p l e rmX11_drag s m as below meth c H locs 0 0 Q (F0 m pc ls [.int z])) {v0 : Int32} {v1 : Int32} {H : Heap} {locs : List Loc} {ls : Array Slot} (w : wx_w γ A s H locs (cw γ o ad f g (hr γ o ad η ++ τ))) (hl : lv_has ls 2 [(0, .ref (had η v0)), (1, .int v1)]) (hF : pX11_drag_0 η f g v0 v1 = some z) : W p l e rmX11_drag s m as below meth c H locs 0 0 Q (F0 m 0 ls []) := by
  have hx := C.1
  have hb := C.2.1
  unfold pX11_drag_0 at hF
  refine lv_aload_n hx hb dX11_drag_0 rfl (lv_at hl 0 rfl) ?_
  refine lv_iload_n hx hb dX11_drag_1 rfl (lv_at hl 1 rfl) ?_
  obtain ⟨hg, hF⟩ := gk_if hF
  obtain ⟨r2, hr, hF⟩ := obd hF
  refine sX11_drag G C K w hg hr hl.1 ⟨Nat.le_of_ble_eq_true rfl, Nat.le_of_ble_eq_true rfl⟩ (Nat.le_of_ble_eq_true rfl) dX11_drag_2 (fun H locs w => ?_)
  refine lv_iconst (v := (4 : Int32)) hx hb dX11_drag_5 (by decide) ?_
  refine lv_idiv hx hb dX11_drag_6 (by decide) ?_
  have hF := Option.some.inj hF
  subst hF
  exact E _ _ _ _ w dX11_drag_7

theorem mX11_drag {l : Launch} {γ : wx_G} {o : Nat} {ad : Nat → Nat} {η : cx_H} {τ : va_W} {f : xF} {g : xG} {v0 : Int32} {v1 : Int32} {z : Int32} (G : cx_ok γ) (hF : pX11_drag η f g v0 v1 = some z) : wx_M γ l yX11_drag (ws_ yX11_drag cX11_drag 2 (some .int)) rmX11_drag [.ref (had η v0), .int v1] (cw γ o ad f g (hr γ o ad η ++ τ)) (fun v ws => v = some (.int z) ∧ ws = (cw γ o ad f g (hr γ o ad η ++ τ))) 0 0 := by
  refine wx_M.of (by decide) (Nat.le_of_ble_eq_true rfl) ?_
  intro p e s m as below meth c A ls C K w hr hlocks _ hl
  exact bX11_drag_0 G C K (fun H locs ls pc w d => wx_iret C hr hlocks w ⟨rfl, rfl⟩ d) w hl hF

theorem sX13_drag {p : Program} {l : Launch} {e : Env} {R : Room} {s : State} {m : MethodId} {as : Array Value} {below : List Frame} {meth : Method} {c : Code} {H : Heap} {locs : List Loc} {cells slots : Nat} {Q : State → Prop} {cc : ByteArray} {nL pc : Nat} {ls : Array Slot} {rest : List Value} {γ : wx_G} {A : Nat → Prop} {o : Nat} {ad : Nat → Nat} {f : xF} {g : xG} {η : cx_H} {τ : va_W} {i : Int32} {a0 : Int32} {z : Int32} (G : cx_ok γ) (C : CallFix p m c cc nL s as lw_all RX13) (K : wx_C γ A s) (w : wx_w γ A s H locs (cw γ o ad f g (hr γ o ad η ++ τ))) (hg : gk η i [4] = true) (hF : pX11_drag η f g i a0 = some z) (hls : ls.size = nL) (hR : rmX11_drag.frames + 1 ≤ R.frames ∧ 8 + (2 + 11) + rmX11_drag.locals ≤ R.locals) (hW : (rest.map fun v => v.category).sum ≤ 8) (d : decode cc pc = .ok (.invokespecial 33, 3)) (kk : ∀ (H : Heap) (locs : List Loc), wx_w γ A s H locs (cw γ o ad f g (hr γ o ad η ++ τ)) → W p l e R s m as below meth c H locs cells slots Q (F0 m (pc + 3) ls (.int z :: rest))) (hf : cells ≤ R.cells ∧ slots ≤ R.slots := by exact ⟨Nat.le_of_ble_eq_true rfl, Nat.le_of_ble_eq_true rfl⟩) : W p l e R s m as below meth c H locs cells slots Q (F0 m pc ls (.int a0 :: .ref (had η i) :: rest)) := by
  have hk := gk_in hg
  simp only [List.mem_cons, List.not_mem_nil, or_false] at hk
  exact wx_callSU (n := 1) (Cn := RX13) (hw_at (ks := [4]) K hk rfl) C K w (mX11_drag (l := l) G hF) (lw_SU q315 q1826 q243 q316 q126 q317) rfl rfl (by decide +kernel) hR (hw_recv K w hg hk rfl) rfl rfl hls hW hf d (fun v ws H1 locs1 hp w => by obtain ⟨rfl, rfl⟩ := hp; exact kk H1 locs1 w)
/-! WalkingStones$Panes.drag(I)I -/
abbrev rmX13_drag : Room := { frames := 3, cells := 0, slots := 0, locals := 63 }
def pX13_drag_0 (η : cx_H) (f : xF) (g : xG) (v0 : Int32) (v1 : Int32) : Option (Int32) := if gk η v0 [4] = true then (pX11_drag η f g v0 v1).bind (fun r2 => some (r2 / (2 : Int32))) else none

abbrev pX13_drag (η : cx_H) (f : xF) (g : xG) (v0 : Int32) (v1 : Int32) : Option (Int32) := pX13_drag_0 η f g v0 v1
theorem bX13_drag_0 {p : Program} {l : Launch} {e : Env} {s : State} {m : MethodId} {as : Array Value} {below : List Frame} {meth : Method} {c : Code} {A : Nat → Prop} {Q : State → Prop} {γ : wx_G} {o : Nat} {ad : Nat → Nat} {η : cx_H} {τ : va_W} {z : Int32} {f : xF} {g : xG} (G : cx_ok γ) (C : CallFix p m c cX13_drag 2 s as lw_all RX13) (K : wx_C γ A s) (E : ∀ (H : Heap) (locs : List Loc) (ls : Array Slot) (pc : Nat), wx_w γ A s H locs (cw γ o ad f g (hr γ o ad η ++ τ)) → decode cX13_drag pc = .ok (.ireturn, 1) → W p l e rmX13_drag s m as below meth c H locs 0 0 Q (F0 m pc ls [.int z])) {v0 : Int32} {v1 : Int32} {H : Heap} {locs : List Loc} {ls : Array Slot} (w : wx_w γ A s H locs (cw γ o ad f g (hr γ o ad η ++ τ))) (hl : lv_has ls 2 [(0, .ref (had η v0)), (1, .int v1)]) (hF : pX13_drag_0 η f g v0 v1 = some z) : W p l e rmX13_drag s m as below meth c H locs 0 0 Q (F0 m 0 ls []) := by
  have hx := C.1
  have hb := C.2.1
  unfold pX13_drag_0 at hF
  refine lv_aload_n hx hb dX13_drag_0 rfl (lv_at hl 0 rfl) ?_
  refine lv_iload_n hx hb dX13_drag_1 rfl (lv_at hl 1 rfl) ?_
  obtain ⟨hg, hF⟩ := gk_if hF
  obtain ⟨r2, hr, hF⟩ := obd hF
  refine sX13_drag G C K w hg hr hl.1 ⟨Nat.le_of_ble_eq_true rfl, Nat.le_of_ble_eq_true rfl⟩ (Nat.le_of_ble_eq_true rfl) dX13_drag_2 (fun H locs w => ?_)
  refine lv_iconst (v := (2 : Int32)) hx hb dX13_drag_5 (by decide) ?_
  refine lv_idiv hx hb dX13_drag_6 (by decide) ?_
  have hF := Option.some.inj hF
  subst hF
  exact E _ _ _ _ w dX13_drag_7

theorem mX13_drag {l : Launch} {γ : wx_G} {o : Nat} {ad : Nat → Nat} {η : cx_H} {τ : va_W} {f : xF} {g : xG} {v0 : Int32} {v1 : Int32} {z : Int32} (G : cx_ok γ) (hF : pX13_drag η f g v0 v1 = some z) : wx_M γ l yX13_drag (ws_ yX13_drag cX13_drag 2 (some .int)) rmX13_drag [.ref (had η v0), .int v1] (cw γ o ad f g (hr γ o ad η ++ τ)) (fun v ws => v = some (.int z) ∧ ws = (cw γ o ad f g (hr γ o ad η ++ τ))) 0 0 := by
  refine wx_M.of (by decide) (Nat.le_of_ble_eq_true rfl) ?_
  intro p e s m as below meth c A ls C K w hr hlocks _ hl
  exact bX13_drag_0 G C K (fun H locs ls pc w d => wx_iret C hr hlocks w ⟨rfl, rfl⟩ d) w hl hF

def pV_drag (η : cx_H) (f : xF) (g : xG) (i : Int32) (a0 : Int32) : Option (Int32) := if gk η i [0, 1, 2, 3, 4, 5] = true then (if hki η i = 0 then pX9_drag η f g i a0 else if hki η i = 1 then pX10_drag η f g i a0 else if hki η i = 2 then pX11_drag η f g i a0 else if hki η i = 3 then pX12_drag η f g i a0 else if hki η i = 4 then pX13_drag η f g i a0 else pX14_drag η f g i a0) else none
abbrev rmV_drag : Room := { frames := 4, cells := 0, slots := 0, locals := 100 }
theorem vX9_drag {p : Program} {l : Launch} {e : Env} {R : Room} {s : State} {m : MethodId} {as : Array Value} {below : List Frame} {meth : Method} {c : Code} {H : Heap} {locs : List Loc} {cells slots : Nat} {Q : State → Prop} {cc : ByteArray} {nL pc : Nat} {ls : Array Slot} {rest : List Value} {γ : wx_G} {A : Nat → Prop} {o : Nat} {ad : Nat → Nat} {f : xF} {g : xG} {η : cx_H} {τ : va_W} {i : Int32} {a0 : Int32} {z : Int32} (G : cx_ok γ) (C : CallFix p m c cc nL s as lw_all RX9) (K : wx_C γ A s) (w : wx_w γ A s H locs (cw γ o ad f g (hr γ o ad η ++ τ))) (hF : pV_drag η f g i a0 = some z) (hls : ls.size = nL) (hR : rmV_drag.frames + 1 ≤ R.frames ∧ 8 + (4 + 11) + rmV_drag.locals ≤ R.locals) (hW : (rest.map fun v => v.category).sum ≤ 8) (d : decode cc pc = .ok (.invokevirtual 30, 3)) (kk : ∀ (H : Heap) (locs : List Loc), wx_w γ A s H locs (cw γ o ad f g (hr γ o ad η ++ τ)) → W p l e R s m as below meth c H locs cells slots Q (F0 m (pc + 3) ls (.int z :: rest))) (hf : cells ≤ R.cells ∧ slots ≤ R.slots := by exact ⟨Nat.le_of_ble_eq_true rfl, Nat.le_of_ble_eq_true rfl⟩) : W p l e R s m as below meth c H locs cells slots Q (F0 m pc ls (.int a0 :: .ref (had η i) :: rest)) := by
  unfold pV_drag at hF
  obtain ⟨hg, hF⟩ := gk_if hF
  have hk := gk_in hg
  simp only [List.mem_cons, List.not_mem_nil, or_false] at hk
  rcases hk with hk | hk | hk | hk | hk | hk
  · exact wx_callU (Cn := RX9) C K w (mX9_drag (l := l) G (by have hF := hF; rw [hk] at hF; exact hF)) (va_cwU (owner := "WalkingStones$How") 1 C.2.2.2.2 (lw_U q361 q307 q306 q305 q124 q326) rfl rfl rfl rfl (by decide +kernel) ⟨Nat.le_trans (by decide) hR.1, Nat.le_trans (by decide) hR.2⟩) (hw_recv K w hg hk rfl) rfl rfl hls hW hf d (fun v ws H1 locs1 hp w => by obtain ⟨rfl, rfl⟩ := hp; exact kk H1 locs1 w)
  · exact wx_callU (Cn := RX10) C K w (mX10_drag (l := l) G (by have hF := hF; rw [hk] at hF; exact hF)) (va_cwO (owner := "WalkingStones$How") 1 C.2.2.2.2 (lw_O q361 q307 q305 q308 q309 q125 q310) rfl rfl rfl q326 (by decide +kernel) ⟨Nat.le_trans (by decide) hR.1, Nat.le_trans (by decide) hR.2⟩) (hw_recv K w hg hk rfl) rfl rfl hls hW hf d (fun v ws H1 locs1 hp w => by obtain ⟨rfl, rfl⟩ := hp; exact kk H1 locs1 w)
  · exact wx_callU (Cn := RX11) C K w (mX11_drag (l := l) G (by have hF := hF; rw [hk] at hF; exact hF)) (va_cwO (owner := "WalkingStones$How") 1 C.2.2.2.2 (lw_O q361 q307 q305 q319 q316 q126 q317) rfl rfl rfl q326 (by decide +kernel) ⟨Nat.le_trans (by decide) hR.1, Nat.le_trans (by decide) hR.2⟩) (hw_recv K w hg hk rfl) rfl rfl hls hW hf d (fun v ws H1 locs1 hp w => by obtain ⟨rfl, rfl⟩ := hp; exact kk H1 locs1 w)
  · exact wx_callU (Cn := RX12) C K w (mX12_drag (l := l) G (by have hF := hF; rw [hk] at hF; exact hF)) (va_cwO (owner := "WalkingStones$How") 1 C.2.2.2.2 (lw_O q361 q307 q305 q323 q324 q127 q325) rfl rfl rfl q326 (by decide +kernel) ⟨Nat.le_trans (by decide) hR.1, Nat.le_trans (by decide) hR.2⟩) (hw_recv K w hg hk rfl) rfl rfl hls hW hf d (fun v ws H1 locs1 hp w => by obtain ⟨rfl, rfl⟩ := hp; exact kk H1 locs1 w)
  · exact wx_callU (Cn := RX13) C K w (mX13_drag (l := l) G (by have hF := hF; rw [hk] at hF; exact hF)) (va_cwO (owner := "WalkingStones$How") 1 C.2.2.2.2 (lw_O q361 q307 q305 q312 q313 q128 q314) rfl rfl rfl q326 (by decide +kernel) ⟨Nat.le_trans (by decide) hR.1, Nat.le_trans (by decide) hR.2⟩) (hw_recv K w hg hk rfl) rfl rfl hls hW hf d (fun v ws H1 locs1 hp w => by obtain ⟨rfl, rfl⟩ := hp; exact kk H1 locs1 w)
  · exact wx_callU (Cn := RX14) C K w (mX14_drag (l := l) G (by have hF := hF; rw [hk] at hF; exact hF)) (va_cwO (owner := "WalkingStones$How") 1 C.2.2.2.2 (lw_O q361 q307 q305 q320 q321 q129 q322) rfl rfl rfl q326 (by decide +kernel) ⟨Nat.le_trans (by decide) hR.1, Nat.le_trans (by decide) hR.2⟩) (hw_recv K w hg hk rfl) rfl rfl hls hW hf d (fun v ws H1 locs1 hp w => by obtain ⟨rfl, rfl⟩ := hp; exact kk H1 locs1 w)
theorem vX0_drag {p : Program} {l : Launch} {e : Env} {R : Room} {s : State} {m : MethodId} {as : Array Value} {below : List Frame} {meth : Method} {c : Code} {H : Heap} {locs : List Loc} {cells slots : Nat} {Q : State → Prop} {cc : ByteArray} {nL pc : Nat} {ls : Array Slot} {rest : List Value} {γ : wx_G} {A : Nat → Prop} {o : Nat} {ad : Nat → Nat} {f : xF} {g : xG} {η : cx_H} {τ : va_W} {i : Int32} {a0 : Int32} {z : Int32} (G : cx_ok γ) (C : CallFix p m c cc nL s as lw_all RX0) (K : wx_C γ A s) (w : wx_w γ A s H locs (cw γ o ad f g (hr γ o ad η ++ τ))) (hF : pV_drag η f g i a0 = some z) (hls : ls.size = nL) (hR : rmV_drag.frames + 1 ≤ R.frames ∧ 8 + (4 + 11) + rmV_drag.locals ≤ R.locals) (hW : (rest.map fun v => v.category).sum ≤ 8) (d : decode cc pc = .ok (.invokevirtual 94, 3)) (kk : ∀ (H : Heap) (locs : List Loc), wx_w γ A s H locs (cw γ o ad f g (hr γ o ad η ++ τ)) → W p l e R s m as below meth c H locs cells slots Q (F0 m (pc + 3) ls (.int z :: rest))) (hf : cells ≤ R.cells ∧ slots ≤ R.slots := by exact ⟨Nat.le_of_ble_eq_true rfl, Nat.le_of_ble_eq_true rfl⟩) : W p l e R s m as below meth c H locs cells slots Q (F0 m pc ls (.int a0 :: .ref (had η i) :: rest)) := by
  unfold pV_drag at hF
  obtain ⟨hg, hF⟩ := gk_if hF
  have hk := gk_in hg
  simp only [List.mem_cons, List.not_mem_nil, or_false] at hk
  rcases hk with hk | hk | hk | hk | hk | hk
  · exact wx_callU (Cn := RX9) C K w (mX9_drag (l := l) G (by have hF := hF; rw [hk] at hF; exact hF)) (va_cwU (owner := "WalkingStones$How") 1 C.2.2.2.2 (lw_U q304 q307 q306 q305 q124 q326) rfl rfl rfl rfl (by decide +kernel) ⟨Nat.le_trans (by decide) hR.1, Nat.le_trans (by decide) hR.2⟩) (hw_recv K w hg hk rfl) rfl rfl hls hW hf d (fun v ws H1 locs1 hp w => by obtain ⟨rfl, rfl⟩ := hp; exact kk H1 locs1 w)
  · exact wx_callU (Cn := RX10) C K w (mX10_drag (l := l) G (by have hF := hF; rw [hk] at hF; exact hF)) (va_cwO (owner := "WalkingStones$How") 1 C.2.2.2.2 (lw_O q304 q307 q305 q308 q309 q125 q310) rfl rfl rfl q326 (by decide +kernel) ⟨Nat.le_trans (by decide) hR.1, Nat.le_trans (by decide) hR.2⟩) (hw_recv K w hg hk rfl) rfl rfl hls hW hf d (fun v ws H1 locs1 hp w => by obtain ⟨rfl, rfl⟩ := hp; exact kk H1 locs1 w)
  · exact wx_callU (Cn := RX11) C K w (mX11_drag (l := l) G (by have hF := hF; rw [hk] at hF; exact hF)) (va_cwO (owner := "WalkingStones$How") 1 C.2.2.2.2 (lw_O q304 q307 q305 q319 q316 q126 q317) rfl rfl rfl q326 (by decide +kernel) ⟨Nat.le_trans (by decide) hR.1, Nat.le_trans (by decide) hR.2⟩) (hw_recv K w hg hk rfl) rfl rfl hls hW hf d (fun v ws H1 locs1 hp w => by obtain ⟨rfl, rfl⟩ := hp; exact kk H1 locs1 w)
  · exact wx_callU (Cn := RX12) C K w (mX12_drag (l := l) G (by have hF := hF; rw [hk] at hF; exact hF)) (va_cwO (owner := "WalkingStones$How") 1 C.2.2.2.2 (lw_O q304 q307 q305 q323 q324 q127 q325) rfl rfl rfl q326 (by decide +kernel) ⟨Nat.le_trans (by decide) hR.1, Nat.le_trans (by decide) hR.2⟩) (hw_recv K w hg hk rfl) rfl rfl hls hW hf d (fun v ws H1 locs1 hp w => by obtain ⟨rfl, rfl⟩ := hp; exact kk H1 locs1 w)
  · exact wx_callU (Cn := RX13) C K w (mX13_drag (l := l) G (by have hF := hF; rw [hk] at hF; exact hF)) (va_cwO (owner := "WalkingStones$How") 1 C.2.2.2.2 (lw_O q304 q307 q305 q312 q313 q128 q314) rfl rfl rfl q326 (by decide +kernel) ⟨Nat.le_trans (by decide) hR.1, Nat.le_trans (by decide) hR.2⟩) (hw_recv K w hg hk rfl) rfl rfl hls hW hf d (fun v ws H1 locs1 hp w => by obtain ⟨rfl, rfl⟩ := hp; exact kk H1 locs1 w)
  · exact wx_callU (Cn := RX14) C K w (mX14_drag (l := l) G (by have hF := hF; rw [hk] at hF; exact hF)) (va_cwO (owner := "WalkingStones$How") 1 C.2.2.2.2 (lw_O q304 q307 q305 q320 q321 q129 q322) rfl rfl rfl q326 (by decide +kernel) ⟨Nat.le_trans (by decide) hR.1, Nat.le_trans (by decide) hR.2⟩) (hw_recv K w hg hk rfl) rfl rfl hls hW hf d (fun v ws H1 locs1 hp w => by obtain ⟨rfl, rfl⟩ := hp; exact kk H1 locs1 w)
def pV_way (η : cx_H) (f : xF) (g : xG) (i : Int32) (a0 : Int32) : Option (Int32) := if gk η i [0, 1, 2, 3, 4, 5] = true then (if hki η i = 0 then pX9_way η f g i a0 else if hki η i = 1 then pX9_way η f g i a0 else if hki η i = 2 then pX9_way η f g i a0 else if hki η i = 3 then pX9_way η f g i a0 else if hki η i = 4 then pX9_way η f g i a0 else pX14_way η f g i a0) else none
abbrev rmV_way : Room := { frames := 1, cells := 0, slots := 0, locals := 20 }
theorem vX0_way {p : Program} {l : Launch} {e : Env} {R : Room} {s : State} {m : MethodId} {as : Array Value} {below : List Frame} {meth : Method} {c : Code} {H : Heap} {locs : List Loc} {cells slots : Nat} {Q : State → Prop} {cc : ByteArray} {nL pc : Nat} {ls : Array Slot} {rest : List Value} {γ : wx_G} {A : Nat → Prop} {o : Nat} {ad : Nat → Nat} {f : xF} {g : xG} {η : cx_H} {τ : va_W} {i : Int32} {a0 : Int32} {z : Int32} (G : cx_ok γ) (C : CallFix p m c cc nL s as lw_all RX0) (K : wx_C γ A s) (w : wx_w γ A s H locs (cw γ o ad f g (hr γ o ad η ++ τ))) (hF : pV_way η f g i a0 = some z) (hls : ls.size = nL) (hR : rmV_way.frames + 1 ≤ R.frames ∧ 8 + (4 + 11) + rmV_way.locals ≤ R.locals) (hW : (rest.map fun v => v.category).sum ≤ 8) (d : decode cc pc = .ok (.invokevirtual 358, 3)) (kk : ∀ (H : Heap) (locs : List Loc), wx_w γ A s H locs (cw γ o ad f g (hr γ o ad η ++ τ)) → W p l e R s m as below meth c H locs cells slots Q (F0 m (pc + 3) ls (.int z :: rest))) (hf : cells ≤ R.cells ∧ slots ≤ R.slots := by exact ⟨Nat.le_of_ble_eq_true rfl, Nat.le_of_ble_eq_true rfl⟩) : W p l e R s m as below meth c H locs cells slots Q (F0 m pc ls (.int a0 :: .ref (had η i) :: rest)) := by
  unfold pV_way at hF
  obtain ⟨hg, hF⟩ := gk_if hF
  have hk := gk_in hg
  simp only [List.mem_cons, List.not_mem_nil, or_false] at hk
  rcases hk with hk | hk | hk | hk | hk | hk
  · exact wx_callU (Cn := RX9) C K w (mX9_way (l := l) G (by have hF := hF; rw [hk] at hF; exact hF)) (va_cwU (owner := "WalkingStones$How") 1 C.2.2.2.2 (lw_U q949 q952 q951 q950 q124 q960) rfl rfl rfl rfl (by decide +kernel) ⟨Nat.le_trans (by decide) hR.1, Nat.le_trans (by decide) hR.2⟩) (hw_recv K w hg hk rfl) rfl rfl hls hW hf d (fun v ws H1 locs1 hp w => by obtain ⟨rfl, rfl⟩ := hp; exact kk H1 locs1 w)
  · exact wx_callU (Cn := RX10) C K w (mX9_way (l := l) G (by have hF := hF; rw [hk] at hF; exact hF)) (va_cwU (owner := "WalkingStones$How") 1 C.2.2.2.2 (lw_U q949 q952 q953 q950 q124 q960) rfl rfl rfl rfl (by decide +kernel) ⟨Nat.le_trans (by decide) hR.1, Nat.le_trans (by decide) hR.2⟩) (hw_recv K w hg hk rfl) rfl rfl hls hW hf d (fun v ws H1 locs1 hp w => by obtain ⟨rfl, rfl⟩ := hp; exact kk H1 locs1 w)
  · exact wx_callU (Cn := RX11) C K w (mX9_way (l := l) G (by have hF := hF; rw [hk] at hF; exact hF)) (va_cwU (owner := "WalkingStones$How") 1 C.2.2.2.2 (lw_U q949 q952 q955 q950 q124 q960) rfl rfl rfl rfl (by decide +kernel) ⟨Nat.le_trans (by decide) hR.1, Nat.le_trans (by decide) hR.2⟩) (hw_recv K w hg hk rfl) rfl rfl hls hW hf d (fun v ws H1 locs1 hp w => by obtain ⟨rfl, rfl⟩ := hp; exact kk H1 locs1 w)
  · exact wx_callU (Cn := RX12) C K w (mX9_way (l := l) G (by have hF := hF; rw [hk] at hF; exact hF)) (va_cwU (owner := "WalkingStones$How") 1 C.2.2.2.2 (lw_U q949 q952 q959 q950 q124 q960) rfl rfl rfl rfl (by decide +kernel) ⟨Nat.le_trans (by decide) hR.1, Nat.le_trans (by decide) hR.2⟩) (hw_recv K w hg hk rfl) rfl rfl hls hW hf d (fun v ws H1 locs1 hp w => by obtain ⟨rfl, rfl⟩ := hp; exact kk H1 locs1 w)
  · exact wx_callU (Cn := RX13) C K w (mX9_way (l := l) G (by have hF := hF; rw [hk] at hF; exact hF)) (va_cwU (owner := "WalkingStones$How") 1 C.2.2.2.2 (lw_U q949 q952 q954 q950 q124 q960) rfl rfl rfl rfl (by decide +kernel) ⟨Nat.le_trans (by decide) hR.1, Nat.le_trans (by decide) hR.2⟩) (hw_recv K w hg hk rfl) rfl rfl hls hW hf d (fun v ws H1 locs1 hp w => by obtain ⟨rfl, rfl⟩ := hp; exact kk H1 locs1 w)
  · exact wx_callU (Cn := RX14) C K w (mX14_way (l := l) G (by have hF := hF; rw [hk] at hF; exact hF)) (va_cwO (owner := "WalkingStones$How") 1 C.2.2.2.2 (lw_O q949 q952 q950 q956 q957 q129 q958) rfl rfl rfl q960 (by decide +kernel) ⟨Nat.le_trans (by decide) hR.1, Nat.le_trans (by decide) hR.2⟩) (hw_recv K w hg hk rfl) rfl rfl hls hW hf d (fun v ws H1 locs1 hp w => by obtain ⟨rfl, rfl⟩ := hp; exact kk H1 locs1 w)
theorem sX11_may {p : Program} {l : Launch} {e : Env} {R : Room} {s : State} {m : MethodId} {as : Array Value} {below : List Frame} {meth : Method} {c : Code} {H : Heap} {locs : List Loc} {cells slots : Nat} {Q : State → Prop} {cc : ByteArray} {nL pc : Nat} {ls : Array Slot} {rest : List Value} {γ : wx_G} {A : Nat → Prop} {o : Nat} {ad : Nat → Nat} {f : xF} {g : xG} {η : cx_H} {τ : va_W} {i : Int32} {a0 : Int32} {z : Int32} (G : cx_ok γ) (C : CallFix p m c cc nL s as lw_all RX11) (K : wx_C γ A s) (w : wx_w γ A s H locs (cw γ o ad f g (hr γ o ad η ++ τ))) (hg : gk η i [2, 3, 4] = true) (hF : pX9_may η f g i a0 = some z) (hls : ls.size = nL) (hR : rmX9_may.frames + 1 ≤ R.frames ∧ 8 + (2 + 11) + rmX9_may.locals ≤ R.locals) (hW : (rest.map fun v => v.category).sum ≤ 8) (d : decode cc pc = .ok (.invokespecial 17, 3)) (kk : ∀ (H : Heap) (locs : List Loc), wx_w γ A s H locs (cw γ o ad f g (hr γ o ad η ++ τ)) → W p l e R s m as below meth c H locs cells slots Q (F0 m (pc + 3) ls (.int z :: rest))) (hf : cells ≤ R.cells ∧ slots ≤ R.slots := by exact ⟨Nat.le_of_ble_eq_true rfl, Nat.le_of_ble_eq_true rfl⟩) : W p l e R s m as below meth c H locs cells slots Q (F0 m pc ls (.int a0 :: .ref (had η i) :: rest)) := by
  have hk := gk_in hg
  simp only [List.mem_cons, List.not_mem_nil, or_false] at hk
  rcases hk with hk | hk | hk
  · exact wx_callSX (n := 1) (x := ⟨"WalkingStones$Gust", "may", "(I)Z"⟩) (owner := "WalkingStones$How") (Cn := RX11) G (hw_at (ks := [2, 3, 4]) K hk rfl) C K w (mX9_may (l := l) G hF) q294 q295 q215 q276 q124 q302 q1839 q261 rfl rfl (by decide) (by decide +kernel) hR (hw_recv K w hg hk rfl) rfl rfl hls hW hf d (fun v ws H1 locs1 hp w => by obtain ⟨rfl, rfl⟩ := hp; exact kk H1 locs1 w)
  · exact wx_callSX (n := 1) (x := ⟨"WalkingStones$Gust", "may", "(I)Z"⟩) (owner := "WalkingStones$How") (Cn := RX12) G (hw_at (ks := [2, 3, 4]) K hk rfl) C K w (mX9_may (l := l) G hF) q294 q295 q215 q276 q124 q302 q1839 q261 rfl rfl (by decide) (by decide +kernel) hR (hw_recv K w hg hk rfl) rfl rfl hls hW hf d (fun v ws H1 locs1 hp w => by obtain ⟨rfl, rfl⟩ := hp; exact kk H1 locs1 w)
  · exact wx_callSX (n := 1) (x := ⟨"WalkingStones$Gust", "may", "(I)Z"⟩) (owner := "WalkingStones$How") (Cn := RX13) G (hw_at (ks := [2, 3, 4]) K hk rfl) C K w (mX9_may (l := l) G hF) q294 q295 q215 q276 q124 q302 q1839 q261 rfl rfl (by decide) (by decide +kernel) hR (hw_recv K w hg hk rfl) rfl rfl hls hW hf d (fun v ws H1 locs1 hp w => by obtain ⟨rfl, rfl⟩ := hp; exact kk H1 locs1 w)
/-! WalkingStones$Raft.may(I)Z -/
abbrev rmX11_may : Room := { frames := 3, cells := 0, slots := 0, locals := 64 }
def pX11_may_26 (η : cx_H) (f : xF) (g : xG) (t0 : Int32) : Option (Int32) := if gbz t0 = true then some (t0) else none

def pX11_may_25 (η : cx_H) (f : xF) (g : xG) : Option (Int32) := pX11_may_26 η f g (0 : Int32)

def pX11_may_0 (η : cx_H) (f : xF) (g : xG) (v0 : Int32) (v1 : Int32) : Option (Int32) := if gk η v0 [2, 3, 4] = true then (pX9_may η f g v0 v1).bind (fun r2 => if r2 = 0 then pX11_may_25 η f g else (if gk η v0 [2, 3, 4] = true then if gin v1 60 = true then if (g 4 v1.toNatClampNeg) ≤ (2 : Int32) then pX11_may_25 η f g else pX11_may_26 η f g (1 : Int32) else none else none)) else none

abbrev pX11_may (η : cx_H) (f : xF) (g : xG) (v0 : Int32) (v1 : Int32) : Option (Int32) := pX11_may_0 η f g v0 v1
theorem bX11_may_26 {p : Program} {l : Launch} {e : Env} {s : State} {m : MethodId} {as : Array Value} {below : List Frame} {meth : Method} {c : Code} {A : Nat → Prop} {Q : State → Prop} {γ : wx_G} {o : Nat} {ad : Nat → Nat} {η : cx_H} {τ : va_W} {z : Int32} {f : xF} {g : xG} (G : cx_ok γ) (C : CallFix p m c cX11_may 2 s as lw_all RX11) (K : wx_C γ A s) (E : ∀ (H : Heap) (locs : List Loc) (ls : Array Slot) (pc : Nat), narrow .boolean (.int z) = .int z → wx_w γ A s H locs (cw γ o ad f g (hr γ o ad η ++ τ)) → decode cX11_may pc = .ok (.ireturn, 1) → W p l e rmX11_may s m as below meth c H locs 0 0 Q (F0 m pc ls [.int z])) {t0 : Int32} {H : Heap} {locs : List Loc} {ls : Array Slot} (w : wx_w γ A s H locs (cw γ o ad f g (hr γ o ad η ++ τ))) (hl : lv_has ls 2 []) (hF : pX11_may_26 η f g t0 = some z) : W p l e rmX11_may s m as below meth c H locs 0 0 Q (F0 m 26 ls [.int t0]) := by
  have hx := C.1
  have hb := C.2.1
  unfold pX11_may_26 at hF
  obtain ⟨hz, hF⟩ := gbz_if hF
  have hF := Option.some.inj hF
  subst hF
  exact E _ _ _ _ hz w dX11_may_26

theorem bX11_may_25 {p : Program} {l : Launch} {e : Env} {s : State} {m : MethodId} {as : Array Value} {below : List Frame} {meth : Method} {c : Code} {A : Nat → Prop} {Q : State → Prop} {γ : wx_G} {o : Nat} {ad : Nat → Nat} {η : cx_H} {τ : va_W} {z : Int32} {f : xF} {g : xG} (G : cx_ok γ) (C : CallFix p m c cX11_may 2 s as lw_all RX11) (K : wx_C γ A s) (E : ∀ (H : Heap) (locs : List Loc) (ls : Array Slot) (pc : Nat), narrow .boolean (.int z) = .int z → wx_w γ A s H locs (cw γ o ad f g (hr γ o ad η ++ τ)) → decode cX11_may pc = .ok (.ireturn, 1) → W p l e rmX11_may s m as below meth c H locs 0 0 Q (F0 m pc ls [.int z])) {H : Heap} {locs : List Loc} {ls : Array Slot} (w : wx_w γ A s H locs (cw γ o ad f g (hr γ o ad η ++ τ))) (hl : lv_has ls 2 []) (hF : pX11_may_25 η f g = some z) : W p l e rmX11_may s m as below meth c H locs 0 0 Q (F0 m 25 ls []) := by
  have hx := C.1
  have hb := C.2.1
  unfold pX11_may_25 at hF
  refine lv_iconst (v := (0 : Int32)) hx hb dX11_may_25 (by decide) ?_
  exact bX11_may_26 G C K E w hl hF

theorem bX11_may_0 {p : Program} {l : Launch} {e : Env} {s : State} {m : MethodId} {as : Array Value} {below : List Frame} {meth : Method} {c : Code} {A : Nat → Prop} {Q : State → Prop} {γ : wx_G} {o : Nat} {ad : Nat → Nat} {η : cx_H} {τ : va_W} {z : Int32} {f : xF} {g : xG} (G : cx_ok γ) (C : CallFix p m c cX11_may 2 s as lw_all RX11) (K : wx_C γ A s) (E : ∀ (H : Heap) (locs : List Loc) (ls : Array Slot) (pc : Nat), narrow .boolean (.int z) = .int z → wx_w γ A s H locs (cw γ o ad f g (hr γ o ad η ++ τ)) → decode cX11_may pc = .ok (.ireturn, 1) → W p l e rmX11_may s m as below meth c H locs 0 0 Q (F0 m pc ls [.int z])) {v0 : Int32} {v1 : Int32} {H : Heap} {locs : List Loc} {ls : Array Slot} (w : wx_w γ A s H locs (cw γ o ad f g (hr γ o ad η ++ τ))) (hl : lv_has ls 2 [(0, .ref (had η v0)), (1, .int v1)]) (hF : pX11_may_0 η f g v0 v1 = some z) : W p l e rmX11_may s m as below meth c H locs 0 0 Q (F0 m 0 ls []) := by
  have hx := C.1
  have hb := C.2.1
  unfold pX11_may_0 at hF
  refine lv_aload_n hx hb dX11_may_0 rfl (lv_at hl 0 rfl) ?_
  refine lv_iload_n hx hb dX11_may_1 rfl (lv_at hl 1 rfl) ?_
  obtain ⟨hg, hF⟩ := gk_if hF
  obtain ⟨r2, hr, hF⟩ := obd hF
  refine sX11_may G C K w hg hr hl.1 ⟨Nat.le_of_ble_eq_true rfl, Nat.le_of_ble_eq_true rfl⟩ (Nat.le_of_ble_eq_true rfl) dX11_may_2 (fun H locs w => ?_)
  refine lv_if_eq (tgt := 25) hx hb dX11_may_5 (by decide) (fun c => ?_) (fun c => ?_)
  · have hF := (if_pos c).symm.trans hF
    exact bX11_may_25 G C K E w (lv_sub hl [] rfl) hF
  · have hF := (if_neg c).symm.trans hF
    refine lv_aload_n hx hb dX11_may_8 rfl (lv_at hl 0 rfl) ?_
    obtain ⟨hg, hF⟩ := gk_if hF
    refine ho_X11 C K w hg dX11_may_9 ?_
    refine no_X11_4 G C K w dX11_may_12 ?_
    refine lv_iload_n hx hb dX11_may_15 rfl (lv_at hl 1 rfl) ?_
    obtain ⟨hi, hF⟩ := gin_if hF
    refine cald_4 C K w hi dX11_may_16 ?_
    refine lv_iconst (v := (2 : Int32)) hx hb dX11_may_17 (by decide) ?_
    refine lv_icmp_le (tgt := 25) hx hb dX11_may_18 (by decide) (fun c => ?_) (fun c => ?_)
    · have hF := (if_pos c).symm.trans hF
      exact bX11_may_25 G C K E w (lv_sub hl [] rfl) hF
    · have hF := (if_neg c).symm.trans hF
      refine lv_iconst (v := (1 : Int32)) hx hb dX11_may_21 (by decide) ?_
      refine lv_goto (tgt := 26) hx hb dX11_may_22 (by decide) ?_
      exact bX11_may_26 G C K E w (lv_sub hl [] rfl) hF

theorem mX11_may {l : Launch} {γ : wx_G} {o : Nat} {ad : Nat → Nat} {η : cx_H} {τ : va_W} {f : xF} {g : xG} {v0 : Int32} {v1 : Int32} {z : Int32} (G : cx_ok γ) (hF : pX11_may η f g v0 v1 = some z) : wx_M γ l yX11_may (ws_ yX11_may cX11_may 2 (some .boolean)) rmX11_may [.ref (had η v0), .int v1] (cw γ o ad f g (hr γ o ad η ++ τ)) (fun v ws => v = some (.int z) ∧ ws = (cw γ o ad f g (hr γ o ad η ++ τ))) 0 0 := by
  refine wx_M.of (by decide) (Nat.le_of_ble_eq_true rfl) ?_
  intro p e s m as below meth c A ls C K w hr hlocks _ hl
  exact bX11_may_0 G C K (fun H locs ls pc hz w d => wx_zret C hr hlocks hz w ⟨rfl, rfl⟩ d) w hl hF

theorem sX12_may {p : Program} {l : Launch} {e : Env} {R : Room} {s : State} {m : MethodId} {as : Array Value} {below : List Frame} {meth : Method} {c : Code} {H : Heap} {locs : List Loc} {cells slots : Nat} {Q : State → Prop} {cc : ByteArray} {nL pc : Nat} {ls : Array Slot} {rest : List Value} {γ : wx_G} {A : Nat → Prop} {o : Nat} {ad : Nat → Nat} {f : xF} {g : xG} {η : cx_H} {τ : va_W} {i : Int32} {a0 : Int32} {z : Int32} (G : cx_ok γ) (C : CallFix p m c cc nL s as lw_all RX12) (K : wx_C γ A s) (w : wx_w γ A s H locs (cw γ o ad f g (hr γ o ad η ++ τ))) (hg : gk η i [3] = true) (hF : pX11_may η f g i a0 = some z) (hls : ls.size = nL) (hR : rmX11_may.frames + 1 ≤ R.frames ∧ 8 + (2 + 11) + rmX11_may.locals ≤ R.locals) (hW : (rest.map fun v => v.category).sum ≤ 8) (d : decode cc pc = .ok (.invokespecial 17, 3)) (kk : ∀ (H : Heap) (locs : List Loc), wx_w γ A s H locs (cw γ o ad f g (hr γ o ad η ++ τ)) → W p l e R s m as below meth c H locs cells slots Q (F0 m (pc + 3) ls (.int z :: rest))) (hf : cells ≤ R.cells ∧ slots ≤ R.slots := by exact ⟨Nat.le_of_ble_eq_true rfl, Nat.le_of_ble_eq_true rfl⟩) : W p l e R s m as below meth c H locs cells slots Q (F0 m pc ls (.int a0 :: .ref (had η i) :: rest)) := by
  have hk := gk_in hg
  simp only [List.mem_cons, List.not_mem_nil, or_false] at hk
  exact wx_callSU (n := 1) (Cn := RX12) (hw_at (ks := [3]) K hk rfl) C K w (mX11_may (l := l) G hF) (lw_SU q301 q1818 q229 q292 q126 q293) rfl rfl (by decide +kernel) hR (hw_recv K w hg hk rfl) rfl rfl hls hW hf d (fun v ws H1 locs1 hp w => by obtain ⟨rfl, rfl⟩ := hp; exact kk H1 locs1 w)
/-! WalkingStones$Whole.may(I)Z -/
abbrev rmX12_may : Room := { frames := 4, cells := 0, slots := 0, locals := 85 }
def pX12_may_26 (η : cx_H) (f : xF) (g : xG) (t0 : Int32) : Option (Int32) := if gbz t0 = true then some (t0) else none

def pX12_may_25 (η : cx_H) (f : xF) (g : xG) : Option (Int32) := pX12_may_26 η f g (0 : Int32)

def pX12_may_0 (η : cx_H) (f : xF) (g : xG) (v0 : Int32) (v1 : Int32) : Option (Int32) := if gk η v0 [3] = true then (pX11_may η f g v0 v1).bind (fun r2 => if r2 = 0 then pX12_may_25 η f g else (if gk η v0 [3] = true then if gin v1 60 = true then if (g 4 v1.toNatClampNeg) ≤ (5 : Int32) then pX12_may_25 η f g else pX12_may_26 η f g (1 : Int32) else none else none)) else none

abbrev pX12_may (η : cx_H) (f : xF) (g : xG) (v0 : Int32) (v1 : Int32) : Option (Int32) := pX12_may_0 η f g v0 v1
theorem bX12_may_26 {p : Program} {l : Launch} {e : Env} {s : State} {m : MethodId} {as : Array Value} {below : List Frame} {meth : Method} {c : Code} {A : Nat → Prop} {Q : State → Prop} {γ : wx_G} {o : Nat} {ad : Nat → Nat} {η : cx_H} {τ : va_W} {z : Int32} {f : xF} {g : xG} (G : cx_ok γ) (C : CallFix p m c cX12_may 2 s as lw_all RX12) (K : wx_C γ A s) (E : ∀ (H : Heap) (locs : List Loc) (ls : Array Slot) (pc : Nat), narrow .boolean (.int z) = .int z → wx_w γ A s H locs (cw γ o ad f g (hr γ o ad η ++ τ)) → decode cX12_may pc = .ok (.ireturn, 1) → W p l e rmX12_may s m as below meth c H locs 0 0 Q (F0 m pc ls [.int z])) {t0 : Int32} {H : Heap} {locs : List Loc} {ls : Array Slot} (w : wx_w γ A s H locs (cw γ o ad f g (hr γ o ad η ++ τ))) (hl : lv_has ls 2 []) (hF : pX12_may_26 η f g t0 = some z) : W p l e rmX12_may s m as below meth c H locs 0 0 Q (F0 m 26 ls [.int t0]) := by
  have hx := C.1
  have hb := C.2.1
  unfold pX12_may_26 at hF
  obtain ⟨hz, hF⟩ := gbz_if hF
  have hF := Option.some.inj hF
  subst hF
  exact E _ _ _ _ hz w dX12_may_26

theorem bX12_may_25 {p : Program} {l : Launch} {e : Env} {s : State} {m : MethodId} {as : Array Value} {below : List Frame} {meth : Method} {c : Code} {A : Nat → Prop} {Q : State → Prop} {γ : wx_G} {o : Nat} {ad : Nat → Nat} {η : cx_H} {τ : va_W} {z : Int32} {f : xF} {g : xG} (G : cx_ok γ) (C : CallFix p m c cX12_may 2 s as lw_all RX12) (K : wx_C γ A s) (E : ∀ (H : Heap) (locs : List Loc) (ls : Array Slot) (pc : Nat), narrow .boolean (.int z) = .int z → wx_w γ A s H locs (cw γ o ad f g (hr γ o ad η ++ τ)) → decode cX12_may pc = .ok (.ireturn, 1) → W p l e rmX12_may s m as below meth c H locs 0 0 Q (F0 m pc ls [.int z])) {H : Heap} {locs : List Loc} {ls : Array Slot} (w : wx_w γ A s H locs (cw γ o ad f g (hr γ o ad η ++ τ))) (hl : lv_has ls 2 []) (hF : pX12_may_25 η f g = some z) : W p l e rmX12_may s m as below meth c H locs 0 0 Q (F0 m 25 ls []) := by
  have hx := C.1
  have hb := C.2.1
  unfold pX12_may_25 at hF
  refine lv_iconst (v := (0 : Int32)) hx hb dX12_may_25 (by decide) ?_
  exact bX12_may_26 G C K E w hl hF

theorem bX12_may_0 {p : Program} {l : Launch} {e : Env} {s : State} {m : MethodId} {as : Array Value} {below : List Frame} {meth : Method} {c : Code} {A : Nat → Prop} {Q : State → Prop} {γ : wx_G} {o : Nat} {ad : Nat → Nat} {η : cx_H} {τ : va_W} {z : Int32} {f : xF} {g : xG} (G : cx_ok γ) (C : CallFix p m c cX12_may 2 s as lw_all RX12) (K : wx_C γ A s) (E : ∀ (H : Heap) (locs : List Loc) (ls : Array Slot) (pc : Nat), narrow .boolean (.int z) = .int z → wx_w γ A s H locs (cw γ o ad f g (hr γ o ad η ++ τ)) → decode cX12_may pc = .ok (.ireturn, 1) → W p l e rmX12_may s m as below meth c H locs 0 0 Q (F0 m pc ls [.int z])) {v0 : Int32} {v1 : Int32} {H : Heap} {locs : List Loc} {ls : Array Slot} (w : wx_w γ A s H locs (cw γ o ad f g (hr γ o ad η ++ τ))) (hl : lv_has ls 2 [(0, .ref (had η v0)), (1, .int v1)]) (hF : pX12_may_0 η f g v0 v1 = some z) : W p l e rmX12_may s m as below meth c H locs 0 0 Q (F0 m 0 ls []) := by
  have hx := C.1
  have hb := C.2.1
  unfold pX12_may_0 at hF
  refine lv_aload_n hx hb dX12_may_0 rfl (lv_at hl 0 rfl) ?_
  refine lv_iload_n hx hb dX12_may_1 rfl (lv_at hl 1 rfl) ?_
  obtain ⟨hg, hF⟩ := gk_if hF
  obtain ⟨r2, hr, hF⟩ := obd hF
  refine sX12_may G C K w hg hr hl.1 ⟨Nat.le_of_ble_eq_true rfl, Nat.le_of_ble_eq_true rfl⟩ (Nat.le_of_ble_eq_true rfl) dX12_may_2 (fun H locs w => ?_)
  refine lv_if_eq (tgt := 25) hx hb dX12_may_5 (by decide) (fun c => ?_) (fun c => ?_)
  · have hF := (if_pos c).symm.trans hF
    exact bX12_may_25 G C K E w (lv_sub hl [] rfl) hF
  · have hF := (if_neg c).symm.trans hF
    refine lv_aload_n hx hb dX12_may_8 rfl (lv_at hl 0 rfl) ?_
    obtain ⟨hg, hF⟩ := gk_if hF
    refine ho_X12 C K w hg dX12_may_9 ?_
    refine no_X12_4 G C K w dX12_may_12 ?_
    refine lv_iload_n hx hb dX12_may_15 rfl (lv_at hl 1 rfl) ?_
    obtain ⟨hi, hF⟩ := gin_if hF
    refine cald_4 C K w hi dX12_may_16 ?_
    refine lv_iconst (v := (5 : Int32)) hx hb dX12_may_17 (by decide) ?_
    refine lv_icmp_le (tgt := 25) hx hb dX12_may_18 (by decide) (fun c => ?_) (fun c => ?_)
    · have hF := (if_pos c).symm.trans hF
      exact bX12_may_25 G C K E w (lv_sub hl [] rfl) hF
    · have hF := (if_neg c).symm.trans hF
      refine lv_iconst (v := (1 : Int32)) hx hb dX12_may_21 (by decide) ?_
      refine lv_goto (tgt := 26) hx hb dX12_may_22 (by decide) ?_
      exact bX12_may_26 G C K E w (lv_sub hl [] rfl) hF

theorem mX12_may {l : Launch} {γ : wx_G} {o : Nat} {ad : Nat → Nat} {η : cx_H} {τ : va_W} {f : xF} {g : xG} {v0 : Int32} {v1 : Int32} {z : Int32} (G : cx_ok γ) (hF : pX12_may η f g v0 v1 = some z) : wx_M γ l yX12_may (ws_ yX12_may cX12_may 2 (some .boolean)) rmX12_may [.ref (had η v0), .int v1] (cw γ o ad f g (hr γ o ad η ++ τ)) (fun v ws => v = some (.int z) ∧ ws = (cw γ o ad f g (hr γ o ad η ++ τ))) 0 0 := by
  refine wx_M.of (by decide) (Nat.le_of_ble_eq_true rfl) ?_
  intro p e s m as below meth c A ls C K w hr hlocks _ hl
  exact bX12_may_0 G C K (fun H locs ls pc hz w d => wx_zret C hr hlocks hz w ⟨rfl, rfl⟩ d) w hl hF

theorem nX13_in {p : Program} {l : Launch} {e : Env} {R : Room} {s : State} {m : MethodId} {as : Array Value} {below : List Frame} {meth : Method} {c : Code} {H : Heap} {locs : List Loc} {cells slots : Nat} {Q : State → Prop} {cc : ByteArray} {nL pc : Nat} {ls : Array Slot} {rest : List Value} {γ : wx_G} {A : Nat → Prop} {o : Nat} {ad : Nat → Nat} {f : xF} {g : xG} {ρ : va_W} {v0 v2 v4 : Int64} {z : Int32} (G : cx_ok γ) (C : CallFix p m c cc nL s as lw_all RX13) (K : wx_C γ A s) (w : wx_w γ A s H locs (cw γ o ad f g ρ)) (hF : pX0_in f g v0 v2 v4 = some z) (hls : ls.size = nL) (hR : rmX0_in.frames + 1 ≤ R.frames ∧ 8 + (6 + 11) + rmX0_in.locals ≤ R.locals) (hW : (rest.map fun v => v.category).sum ≤ 8) (d : decode cc pc = .ok (.invokestatic 29, 3)) (kk : ∀ (H : Heap) (locs : List Loc), wx_w γ A s H locs (cw γ o ad f g ρ) → W p l e R s m as below meth c H locs cells slots Q (F0 m (pc + 3) ls (.int z :: rest))) (hf : cells ≤ R.cells ∧ slots ≤ R.slots := by exact ⟨Nat.le_of_ble_eq_true rfl, Nat.le_of_ble_eq_true rfl⟩) : W p l e R s m as below meth c H locs cells slots Q (F0 m pc ls (.long v4 :: .long v2 :: .long v0 :: rest)) :=
  wx_callSN (n := 3) G C K w (mX0_in (l := l) G hF) q290 q142 q106 q143 rfl rfl (by decide +kernel) hR rfl rfl hls hW hf d (fun v ws H1 locs1 hp w => by obtain ⟨rfl, rfl⟩ := hp; exact kk H1 locs1 w)
-- X13 isWet
def pV4_isWet (η : cx_H) (f : xF) (g : xG) (i : Int32) (a0 : Int32) : Option (Int32) := if gk η i [4] = true then (pX9_isWet η f g i a0) else none
theorem vX13_isWet {p : Program} {l : Launch} {e : Env} {R : Room} {s : State} {m : MethodId} {as : Array Value} {below : List Frame} {meth : Method} {c : Code} {H : Heap} {locs : List Loc} {cells slots : Nat} {Q : State → Prop} {cc : ByteArray} {nL pc : Nat} {ls : Array Slot} {rest : List Value} {γ : wx_G} {A : Nat → Prop} {o : Nat} {ad : Nat → Nat} {f : xF} {g : xG} {η : cx_H} {τ : va_W} {i : Int32} {a0 : Int32} {z : Int32} (G : cx_ok γ) (C : CallFix p m c cc nL s as lw_all RX13) (K : wx_C γ A s) (w : wx_w γ A s H locs (cw γ o ad f g (hr γ o ad η ++ τ))) (hF : pV4_isWet η f g i a0 = some z) (hls : ls.size = nL) (hR : rmV_isWet.frames + 1 ≤ R.frames ∧ 8 + (4 + 11) + rmV_isWet.locals ≤ R.locals) (hW : (rest.map fun v => v.category).sum ≤ 8) (d : decode cc pc = .ok (.invokevirtual 17, 3)) (kk : ∀ (H : Heap) (locs : List Loc), wx_w γ A s H locs (cw γ o ad f g (hr γ o ad η ++ τ)) → W p l e R s m as below meth c H locs cells slots Q (F0 m (pc + 3) ls (.int z :: rest))) (hf : cells ≤ R.cells ∧ slots ≤ R.slots := by exact ⟨Nat.le_of_ble_eq_true rfl, Nat.le_of_ble_eq_true rfl⟩) : W p l e R s m as below meth c H locs cells slots Q (F0 m pc ls (.int a0 :: .ref (had η i) :: rest)) := by
  unfold pV4_isWet at hF
  obtain ⟨hg, hF⟩ := gk_if hF
  have hk := gk_in hg
  simp only [List.mem_cons, List.not_mem_nil, or_false] at hk
  exact wx_callU (Cn := RX13) C K w (mX9_isWet (l := l) G hF) (va_cwU (owner := "WalkingStones$How") 1 C.2.2.2.2 (lw_U q283 q284 q286 q287 q124 q288) rfl rfl rfl rfl (by decide +kernel) ⟨Nat.le_trans (by decide) hR.1, Nat.le_trans (by decide) hR.2⟩) (hw_recv K w hg hk rfl) rfl rfl hls hW hf d (fun v ws H1 locs1 hp w => by obtain ⟨rfl, rfl⟩ := hp; exact kk H1 locs1 w)
/-! WalkingStones$Panes.may(I)Z -/
abbrev rmX13_may : Room := { frames := 2, cells := 0, slots := 0, locals := 43 }
def pX13_may_33 (η : cx_H) (f : xF) (g : xG) (t0 : Int32) : Option (Int32) := if gbz t0 = true then some (t0) else none

def pX13_may_32 (η : cx_H) (f : xF) (g : xG) : Option (Int32) := pX13_may_33 η f g (0 : Int32)

def pX13_may_0 (η : cx_H) (f : xF) (g : xG) (v0 : Int32) (v1 : Int32) : Option (Int32) := (pV4_isWet η f g v0 v1).bind (fun r2 => if r2 = 0 then pX13_may_32 η f g else (if gk η v0 [4] = true then if gin v1 60 = true then (pX0_in f g ((g 4 v1.toNatClampNeg).toInt64) (1 : Int64) (4 : Int64)).bind (fun r22 => if r22 = 0 then pX13_may_32 η f g else pX13_may_33 η f g (1 : Int32)) else none else none))

abbrev pX13_may (η : cx_H) (f : xF) (g : xG) (v0 : Int32) (v1 : Int32) : Option (Int32) := pX13_may_0 η f g v0 v1
theorem bX13_may_33 {p : Program} {l : Launch} {e : Env} {s : State} {m : MethodId} {as : Array Value} {below : List Frame} {meth : Method} {c : Code} {A : Nat → Prop} {Q : State → Prop} {γ : wx_G} {o : Nat} {ad : Nat → Nat} {η : cx_H} {τ : va_W} {z : Int32} {f : xF} {g : xG} (G : cx_ok γ) (C : CallFix p m c cX13_may 2 s as lw_all RX13) (K : wx_C γ A s) (E : ∀ (H : Heap) (locs : List Loc) (ls : Array Slot) (pc : Nat), narrow .boolean (.int z) = .int z → wx_w γ A s H locs (cw γ o ad f g (hr γ o ad η ++ τ)) → decode cX13_may pc = .ok (.ireturn, 1) → W p l e rmX13_may s m as below meth c H locs 0 0 Q (F0 m pc ls [.int z])) {t0 : Int32} {H : Heap} {locs : List Loc} {ls : Array Slot} (w : wx_w γ A s H locs (cw γ o ad f g (hr γ o ad η ++ τ))) (hl : lv_has ls 2 []) (hF : pX13_may_33 η f g t0 = some z) : W p l e rmX13_may s m as below meth c H locs 0 0 Q (F0 m 33 ls [.int t0]) := by
  have hx := C.1
  have hb := C.2.1
  unfold pX13_may_33 at hF
  obtain ⟨hz, hF⟩ := gbz_if hF
  have hF := Option.some.inj hF
  subst hF
  exact E _ _ _ _ hz w dX13_may_33

theorem bX13_may_32 {p : Program} {l : Launch} {e : Env} {s : State} {m : MethodId} {as : Array Value} {below : List Frame} {meth : Method} {c : Code} {A : Nat → Prop} {Q : State → Prop} {γ : wx_G} {o : Nat} {ad : Nat → Nat} {η : cx_H} {τ : va_W} {z : Int32} {f : xF} {g : xG} (G : cx_ok γ) (C : CallFix p m c cX13_may 2 s as lw_all RX13) (K : wx_C γ A s) (E : ∀ (H : Heap) (locs : List Loc) (ls : Array Slot) (pc : Nat), narrow .boolean (.int z) = .int z → wx_w γ A s H locs (cw γ o ad f g (hr γ o ad η ++ τ)) → decode cX13_may pc = .ok (.ireturn, 1) → W p l e rmX13_may s m as below meth c H locs 0 0 Q (F0 m pc ls [.int z])) {H : Heap} {locs : List Loc} {ls : Array Slot} (w : wx_w γ A s H locs (cw γ o ad f g (hr γ o ad η ++ τ))) (hl : lv_has ls 2 []) (hF : pX13_may_32 η f g = some z) : W p l e rmX13_may s m as below meth c H locs 0 0 Q (F0 m 32 ls []) := by
  have hx := C.1
  have hb := C.2.1
  unfold pX13_may_32 at hF
  refine lv_iconst (v := (0 : Int32)) hx hb dX13_may_32 (by decide) ?_
  exact bX13_may_33 G C K E w hl hF

theorem bX13_may_0 {p : Program} {l : Launch} {e : Env} {s : State} {m : MethodId} {as : Array Value} {below : List Frame} {meth : Method} {c : Code} {A : Nat → Prop} {Q : State → Prop} {γ : wx_G} {o : Nat} {ad : Nat → Nat} {η : cx_H} {τ : va_W} {z : Int32} {f : xF} {g : xG} (G : cx_ok γ) (C : CallFix p m c cX13_may 2 s as lw_all RX13) (K : wx_C γ A s) (E : ∀ (H : Heap) (locs : List Loc) (ls : Array Slot) (pc : Nat), narrow .boolean (.int z) = .int z → wx_w γ A s H locs (cw γ o ad f g (hr γ o ad η ++ τ)) → decode cX13_may pc = .ok (.ireturn, 1) → W p l e rmX13_may s m as below meth c H locs 0 0 Q (F0 m pc ls [.int z])) {v0 : Int32} {v1 : Int32} {H : Heap} {locs : List Loc} {ls : Array Slot} (w : wx_w γ A s H locs (cw γ o ad f g (hr γ o ad η ++ τ))) (hl : lv_has ls 2 [(0, .ref (had η v0)), (1, .int v1)]) (hF : pX13_may_0 η f g v0 v1 = some z) : W p l e rmX13_may s m as below meth c H locs 0 0 Q (F0 m 0 ls []) := by
  have hx := C.1
  have hb := C.2.1
  unfold pX13_may_0 at hF
  refine lv_aload_n hx hb dX13_may_0 rfl (lv_at hl 0 rfl) ?_
  refine lv_iload_n hx hb dX13_may_1 rfl (lv_at hl 1 rfl) ?_
  obtain ⟨r2, hr, hF⟩ := obd hF
  refine vX13_isWet G C K w hr hl.1 ⟨Nat.le_of_ble_eq_true rfl, Nat.le_of_ble_eq_true rfl⟩ (Nat.le_of_ble_eq_true rfl) dX13_may_2 (fun H locs w => ?_)
  refine lv_if_eq (tgt := 32) hx hb dX13_may_5 (by decide) (fun c => ?_) (fun c => ?_)
  · have hF := (if_pos c).symm.trans hF
    exact bX13_may_32 G C K E w (lv_sub hl [] rfl) hF
  · have hF := (if_neg c).symm.trans hF
    refine lv_aload_n hx hb dX13_may_8 rfl (lv_at hl 0 rfl) ?_
    obtain ⟨hg, hF⟩ := gk_if hF
    refine ho_X13 C K w hg dX13_may_9 ?_
    refine no_X13_4 G C K w dX13_may_12 ?_
    refine lv_iload_n hx hb dX13_may_15 rfl (lv_at hl 1 rfl) ?_
    obtain ⟨hi, hF⟩ := gin_if hF
    refine cald_4 C K w hi dX13_may_16 ?_
    refine lv_i2l hx hb dX13_may_17 rfl ?_
    refine lv_lconst (v := (1 : Int64)) hx hb dX13_may_18 (by decide) ?_
    refine lv_ldc2 (v := (4 : Int64)) hx hb C.2.2.2.1 (C.2.2.2.2 _ q289) dX13_may_19 ?_
    obtain ⟨r22, hr, hF⟩ := obd hF
    refine nX13_in G C K w hr hl.1 ⟨Nat.le_of_ble_eq_true rfl, Nat.le_of_ble_eq_true rfl⟩ (Nat.le_of_ble_eq_true rfl) dX13_may_22 (fun H locs w => ?_)
    refine lv_if_eq (tgt := 32) hx hb dX13_may_25 (by decide) (fun c => ?_) (fun c => ?_)
    · have hF := (if_pos c).symm.trans hF
      exact bX13_may_32 G C K E w (lv_sub hl [] rfl) hF
    · have hF := (if_neg c).symm.trans hF
      refine lv_iconst (v := (1 : Int32)) hx hb dX13_may_28 (by decide) ?_
      refine lv_goto (tgt := 33) hx hb dX13_may_29 (by decide) ?_
      exact bX13_may_33 G C K E w (lv_sub hl [] rfl) hF

theorem mX13_may {l : Launch} {γ : wx_G} {o : Nat} {ad : Nat → Nat} {η : cx_H} {τ : va_W} {f : xF} {g : xG} {v0 : Int32} {v1 : Int32} {z : Int32} (G : cx_ok γ) (hF : pX13_may η f g v0 v1 = some z) : wx_M γ l yX13_may (ws_ yX13_may cX13_may 2 (some .boolean)) rmX13_may [.ref (had η v0), .int v1] (cw γ o ad f g (hr γ o ad η ++ τ)) (fun v ws => v = some (.int z) ∧ ws = (cw γ o ad f g (hr γ o ad η ++ τ))) 0 0 := by
  refine wx_M.of (by decide) (Nat.le_of_ble_eq_true rfl) ?_
  intro p e s m as below meth c A ls C K w hr hlocks _ hl
  exact bX13_may_0 G C K (fun H locs ls pc hz w d => wx_zret C hr hlocks hz w ⟨rfl, rfl⟩ d) w hl hF

def pV_may (η : cx_H) (f : xF) (g : xG) (i : Int32) (a0 : Int32) : Option (Int32) := if gk η i [0, 1, 2, 3, 4, 5] = true then (if hki η i = 0 then pX9_may η f g i a0 else if hki η i = 1 then pX9_may η f g i a0 else if hki η i = 2 then pX11_may η f g i a0 else if hki η i = 3 then pX12_may η f g i a0 else if hki η i = 4 then pX13_may η f g i a0 else pX9_may η f g i a0) else none
abbrev rmV_may : Room := { frames := 5, cells := 0, slots := 0, locals := 120 }
theorem vX9_may {p : Program} {l : Launch} {e : Env} {R : Room} {s : State} {m : MethodId} {as : Array Value} {below : List Frame} {meth : Method} {c : Code} {H : Heap} {locs : List Loc} {cells slots : Nat} {Q : State → Prop} {cc : ByteArray} {nL pc : Nat} {ls : Array Slot} {rest : List Value} {γ : wx_G} {A : Nat → Prop} {o : Nat} {ad : Nat → Nat} {f : xF} {g : xG} {η : cx_H} {τ : va_W} {i : Int32} {a0 : Int32} {z : Int32} (G : cx_ok γ) (C : CallFix p m c cc nL s as lw_all RX9) (K : wx_C γ A s) (w : wx_w γ A s H locs (cw γ o ad f g (hr γ o ad η ++ τ))) (hF : pV_may η f g i a0 = some z) (hls : ls.size = nL) (hR : rmV_may.frames + 1 ≤ R.frames ∧ 8 + (4 + 11) + rmV_may.locals ≤ R.locals) (hW : (rest.map fun v => v.category).sum ≤ 8) (d : decode cc pc = .ok (.invokevirtual 43, 3)) (kk : ∀ (H : Heap) (locs : List Loc), wx_w γ A s H locs (cw γ o ad f g (hr γ o ad η ++ τ)) → W p l e R s m as below meth c H locs cells slots Q (F0 m (pc + 3) ls (.int z :: rest))) (hf : cells ≤ R.cells ∧ slots ≤ R.slots := by exact ⟨Nat.le_of_ble_eq_true rfl, Nat.le_of_ble_eq_true rfl⟩) : W p l e R s m as below meth c H locs cells slots Q (F0 m pc ls (.int a0 :: .ref (had η i) :: rest)) := by
  unfold pV_may at hF
  obtain ⟨hg, hF⟩ := gk_if hF
  have hk := gk_in hg
  simp only [List.mem_cons, List.not_mem_nil, or_false] at hk
  rcases hk with hk | hk | hk | hk | hk | hk
  · exact wx_callU (Cn := RX9) C K w (mX9_may (l := l) G (by have hF := hF; rw [hk] at hF; exact hF)) (va_cwU (owner := "WalkingStones$How") 1 C.2.2.2.2 (lw_U q337 q278 q277 q276 q124 q302) rfl rfl rfl rfl (by decide +kernel) ⟨Nat.le_trans (by decide) hR.1, Nat.le_trans (by decide) hR.2⟩) (hw_recv K w hg hk rfl) rfl rfl hls hW hf d (fun v ws H1 locs1 hp w => by obtain ⟨rfl, rfl⟩ := hp; exact kk H1 locs1 w)
  · exact wx_callU (Cn := RX10) C K w (mX9_may (l := l) G (by have hF := hF; rw [hk] at hF; exact hF)) (va_cwU (owner := "WalkingStones$How") 1 C.2.2.2.2 (lw_U q337 q278 q279 q276 q124 q302) rfl rfl rfl rfl (by decide +kernel) ⟨Nat.le_trans (by decide) hR.1, Nat.le_trans (by decide) hR.2⟩) (hw_recv K w hg hk rfl) rfl rfl hls hW hf d (fun v ws H1 locs1 hp w => by obtain ⟨rfl, rfl⟩ := hp; exact kk H1 locs1 w)
  · exact wx_callU (Cn := RX11) C K w (mX11_may (l := l) G (by have hF := hF; rw [hk] at hF; exact hF)) (va_cwO (owner := "WalkingStones$How") 1 C.2.2.2.2 (lw_O q337 q278 q276 q291 q292 q126 q293) rfl rfl rfl q302 (by decide +kernel) ⟨Nat.le_trans (by decide) hR.1, Nat.le_trans (by decide) hR.2⟩) (hw_recv K w hg hk rfl) rfl rfl hls hW hf d (fun v ws H1 locs1 hp w => by obtain ⟨rfl, rfl⟩ := hp; exact kk H1 locs1 w)
  · exact wx_callU (Cn := RX12) C K w (mX12_may (l := l) G (by have hF := hF; rw [hk] at hF; exact hF)) (va_cwO (owner := "WalkingStones$How") 1 C.2.2.2.2 (lw_O q337 q278 q276 q298 q299 q127 q300) rfl rfl rfl q302 (by decide +kernel) ⟨Nat.le_trans (by decide) hR.1, Nat.le_trans (by decide) hR.2⟩) (hw_recv K w hg hk rfl) rfl rfl hls hW hf d (fun v ws H1 locs1 hp w => by obtain ⟨rfl, rfl⟩ := hp; exact kk H1 locs1 w)
  · exact wx_callU (Cn := RX13) C K w (mX13_may (l := l) G (by have hF := hF; rw [hk] at hF; exact hF)) (va_cwO (owner := "WalkingStones$How") 1 C.2.2.2.2 (lw_O q337 q278 q276 q280 q281 q128 q282) rfl rfl rfl q302 (by decide +kernel) ⟨Nat.le_trans (by decide) hR.1, Nat.le_trans (by decide) hR.2⟩) (hw_recv K w hg hk rfl) rfl rfl hls hW hf d (fun v ws H1 locs1 hp w => by obtain ⟨rfl, rfl⟩ := hp; exact kk H1 locs1 w)
  · exact wx_callU (Cn := RX14) C K w (mX9_may (l := l) G (by have hF := hF; rw [hk] at hF; exact hF)) (va_cwU (owner := "WalkingStones$How") 1 C.2.2.2.2 (lw_U q337 q278 q297 q276 q124 q302) rfl rfl rfl rfl (by decide +kernel) ⟨Nat.le_trans (by decide) hR.1, Nat.le_trans (by decide) hR.2⟩) (hw_recv K w hg hk rfl) rfl rfl hls hW hf d (fun v ws H1 locs1 hp w => by obtain ⟨rfl, rfl⟩ := hp; exact kk H1 locs1 w)
theorem vX0_may {p : Program} {l : Launch} {e : Env} {R : Room} {s : State} {m : MethodId} {as : Array Value} {below : List Frame} {meth : Method} {c : Code} {H : Heap} {locs : List Loc} {cells slots : Nat} {Q : State → Prop} {cc : ByteArray} {nL pc : Nat} {ls : Array Slot} {rest : List Value} {γ : wx_G} {A : Nat → Prop} {o : Nat} {ad : Nat → Nat} {f : xF} {g : xG} {η : cx_H} {τ : va_W} {i : Int32} {a0 : Int32} {z : Int32} (G : cx_ok γ) (C : CallFix p m c cc nL s as lw_all RX0) (K : wx_C γ A s) (w : wx_w γ A s H locs (cw γ o ad f g (hr γ o ad η ++ τ))) (hF : pV_may η f g i a0 = some z) (hls : ls.size = nL) (hR : rmV_may.frames + 1 ≤ R.frames ∧ 8 + (4 + 11) + rmV_may.locals ≤ R.locals) (hW : (rest.map fun v => v.category).sum ≤ 8) (d : decode cc pc = .ok (.invokevirtual 91, 3)) (kk : ∀ (H : Heap) (locs : List Loc), wx_w γ A s H locs (cw γ o ad f g (hr γ o ad η ++ τ)) → W p l e R s m as below meth c H locs cells slots Q (F0 m (pc + 3) ls (.int z :: rest))) (hf : cells ≤ R.cells ∧ slots ≤ R.slots := by exact ⟨Nat.le_of_ble_eq_true rfl, Nat.le_of_ble_eq_true rfl⟩) : W p l e R s m as below meth c H locs cells slots Q (F0 m pc ls (.int a0 :: .ref (had η i) :: rest)) := by
  unfold pV_may at hF
  obtain ⟨hg, hF⟩ := gk_if hF
  have hk := gk_in hg
  simp only [List.mem_cons, List.not_mem_nil, or_false] at hk
  rcases hk with hk | hk | hk | hk | hk | hk
  · exact wx_callU (Cn := RX9) C K w (mX9_may (l := l) G (by have hF := hF; rw [hk] at hF; exact hF)) (va_cwU (owner := "WalkingStones$How") 1 C.2.2.2.2 (lw_U q275 q278 q277 q276 q124 q302) rfl rfl rfl rfl (by decide +kernel) ⟨Nat.le_trans (by decide) hR.1, Nat.le_trans (by decide) hR.2⟩) (hw_recv K w hg hk rfl) rfl rfl hls hW hf d (fun v ws H1 locs1 hp w => by obtain ⟨rfl, rfl⟩ := hp; exact kk H1 locs1 w)
  · exact wx_callU (Cn := RX10) C K w (mX9_may (l := l) G (by have hF := hF; rw [hk] at hF; exact hF)) (va_cwU (owner := "WalkingStones$How") 1 C.2.2.2.2 (lw_U q275 q278 q279 q276 q124 q302) rfl rfl rfl rfl (by decide +kernel) ⟨Nat.le_trans (by decide) hR.1, Nat.le_trans (by decide) hR.2⟩) (hw_recv K w hg hk rfl) rfl rfl hls hW hf d (fun v ws H1 locs1 hp w => by obtain ⟨rfl, rfl⟩ := hp; exact kk H1 locs1 w)
  · exact wx_callU (Cn := RX11) C K w (mX11_may (l := l) G (by have hF := hF; rw [hk] at hF; exact hF)) (va_cwO (owner := "WalkingStones$How") 1 C.2.2.2.2 (lw_O q275 q278 q276 q291 q292 q126 q293) rfl rfl rfl q302 (by decide +kernel) ⟨Nat.le_trans (by decide) hR.1, Nat.le_trans (by decide) hR.2⟩) (hw_recv K w hg hk rfl) rfl rfl hls hW hf d (fun v ws H1 locs1 hp w => by obtain ⟨rfl, rfl⟩ := hp; exact kk H1 locs1 w)
  · exact wx_callU (Cn := RX12) C K w (mX12_may (l := l) G (by have hF := hF; rw [hk] at hF; exact hF)) (va_cwO (owner := "WalkingStones$How") 1 C.2.2.2.2 (lw_O q275 q278 q276 q298 q299 q127 q300) rfl rfl rfl q302 (by decide +kernel) ⟨Nat.le_trans (by decide) hR.1, Nat.le_trans (by decide) hR.2⟩) (hw_recv K w hg hk rfl) rfl rfl hls hW hf d (fun v ws H1 locs1 hp w => by obtain ⟨rfl, rfl⟩ := hp; exact kk H1 locs1 w)
  · exact wx_callU (Cn := RX13) C K w (mX13_may (l := l) G (by have hF := hF; rw [hk] at hF; exact hF)) (va_cwO (owner := "WalkingStones$How") 1 C.2.2.2.2 (lw_O q275 q278 q276 q280 q281 q128 q282) rfl rfl rfl q302 (by decide +kernel) ⟨Nat.le_trans (by decide) hR.1, Nat.le_trans (by decide) hR.2⟩) (hw_recv K w hg hk rfl) rfl rfl hls hW hf d (fun v ws H1 locs1 hp w => by obtain ⟨rfl, rfl⟩ := hp; exact kk H1 locs1 w)
  · exact wx_callU (Cn := RX14) C K w (mX9_may (l := l) G (by have hF := hF; rw [hk] at hF; exact hF)) (va_cwU (owner := "WalkingStones$How") 1 C.2.2.2.2 (lw_U q275 q278 q297 q276 q124 q302) rfl rfl rfl rfl (by decide +kernel) ⟨Nat.le_trans (by decide) hR.1, Nat.le_trans (by decide) hR.2⟩) (hw_recv K w hg hk rfl) rfl rfl hls hW hf d (fun v ws H1 locs1 hp w => by obtain ⟨rfl, rfl⟩ := hp; exact kk H1 locs1 w)
/-! WalkingStones$How.pushes(II)I -/
abbrev rmX9_pushes : Room := { frames := 5, cells := 0, slots := 0, locals := 123 }
def pX9_pushes_0 (η : cx_H) (f : xF) (g : xG) (v0 : Int32) (v1 : Int32) (v2 : Int32) : Option (Int32) := if gk η v0 [0, 1, 2, 3, 4, 5] = true then if gin v2 60 = true then (pV_drag η f g v0 v1).bind (fun r12 => some (wmax (0 : Int32) (((g 5 v2.toNatClampNeg) - r12) / (10 : Int32)))) else none else none

abbrev pX9_pushes (η : cx_H) (f : xF) (g : xG) (v0 : Int32) (v1 : Int32) (v2 : Int32) : Option (Int32) := pX9_pushes_0 η f g v0 v1 v2
theorem bX9_pushes_0 {p : Program} {l : Launch} {e : Env} {s : State} {m : MethodId} {as : Array Value} {below : List Frame} {meth : Method} {c : Code} {A : Nat → Prop} {Q : State → Prop} {γ : wx_G} {o : Nat} {ad : Nat → Nat} {η : cx_H} {τ : va_W} {z : Int32} {f : xF} {g : xG} (G : cx_ok γ) (C : CallFix p m c cX9_pushes 3 s as lw_all RX9) (K : wx_C γ A s) (E : ∀ (H : Heap) (locs : List Loc) (ls : Array Slot) (pc : Nat), wx_w γ A s H locs (cw γ o ad f g (hr γ o ad η ++ τ)) → decode cX9_pushes pc = .ok (.ireturn, 1) → W p l e rmX9_pushes s m as below meth c H locs 0 0 Q (F0 m pc ls [.int z])) {v0 : Int32} {v1 : Int32} {v2 : Int32} {H : Heap} {locs : List Loc} {ls : Array Slot} (w : wx_w γ A s H locs (cw γ o ad f g (hr γ o ad η ++ τ))) (hl : lv_has ls 3 [(0, .ref (had η v0)), (1, .int v1), (2, .int v2)]) (hF : pX9_pushes_0 η f g v0 v1 v2 = some z) : W p l e rmX9_pushes s m as below meth c H locs 0 0 Q (F0 m 0 ls []) := by
  have hx := C.1
  have hb := C.2.1
  unfold pX9_pushes_0 at hF
  refine lv_iconst (v := (0 : Int32)) hx hb dX9_pushes_0 (by decide) ?_
  refine lv_aload_n hx hb dX9_pushes_1 rfl (lv_at hl 0 rfl) ?_
  obtain ⟨hg, hF⟩ := gk_if hF
  refine ho_X9 C K w hg dX9_pushes_2 ?_
  refine no_X9_5 G C K w dX9_pushes_5 ?_
  refine lv_iload_n hx hb dX9_pushes_8 rfl (lv_at hl 2 rfl) ?_
  obtain ⟨hi, hF⟩ := gin_if hF
  refine cald_5 C K w hi dX9_pushes_9 ?_
  refine lv_aload_n hx hb dX9_pushes_10 rfl (lv_at hl 0 rfl) ?_
  refine lv_iload_n hx hb dX9_pushes_11 rfl (lv_at hl 1 rfl) ?_
  obtain ⟨r12, hr, hF⟩ := obd hF
  refine vX9_drag G C K w hr hl.1 ⟨Nat.le_of_ble_eq_true rfl, Nat.le_of_ble_eq_true rfl⟩ (Nat.le_of_ble_eq_true rfl) dX9_pushes_12 (fun H locs w => ?_)
  refine lv_isub hx hb dX9_pushes_15 ?_
  refine lv_bipush (v := (10 : Int32)) hx hb dX9_pushes_16 (by decide) ?_
  refine lv_idiv hx hb dX9_pushes_18 (by decide) ?_
  refine cX9max C hl.1 (Nat.le_of_ble_eq_true rfl) (Nat.le_of_ble_eq_true rfl) (Nat.le_of_ble_eq_true rfl) (Nat.le_of_ble_eq_true rfl) dX9_pushes_19 ?_
  have hF := Option.some.inj hF
  subst hF
  exact E _ _ _ _ w dX9_pushes_22

theorem mX9_pushes {l : Launch} {γ : wx_G} {o : Nat} {ad : Nat → Nat} {η : cx_H} {τ : va_W} {f : xF} {g : xG} {v0 : Int32} {v1 : Int32} {v2 : Int32} {z : Int32} (G : cx_ok γ) (hF : pX9_pushes η f g v0 v1 v2 = some z) : wx_M γ l yX9_pushes (ws_ yX9_pushes cX9_pushes 3 (some .int)) rmX9_pushes [.ref (had η v0), .int v1, .int v2] (cw γ o ad f g (hr γ o ad η ++ τ)) (fun v ws => v = some (.int z) ∧ ws = (cw γ o ad f g (hr γ o ad η ++ τ))) 0 0 := by
  refine wx_M.of (by decide) (Nat.le_of_ble_eq_true rfl) ?_
  intro p e s m as below meth c A ls C K w hr hlocks _ hl
  exact bX9_pushes_0 G C K (fun H locs ls pc w d => wx_iret C hr hlocks w ⟨rfl, rfl⟩ d) w hl hF

theorem sX12_pushes {p : Program} {l : Launch} {e : Env} {R : Room} {s : State} {m : MethodId} {as : Array Value} {below : List Frame} {meth : Method} {c : Code} {H : Heap} {locs : List Loc} {cells slots : Nat} {Q : State → Prop} {cc : ByteArray} {nL pc : Nat} {ls : Array Slot} {rest : List Value} {γ : wx_G} {A : Nat → Prop} {o : Nat} {ad : Nat → Nat} {f : xF} {g : xG} {η : cx_H} {τ : va_W} {i : Int32} {a0 : Int32} {a1 : Int32} {z : Int32} (G : cx_ok γ) (C : CallFix p m c cc nL s as lw_all RX12) (K : wx_C γ A s) (w : wx_w γ A s H locs (cw γ o ad f g (hr γ o ad η ++ τ))) (hg : gk η i [3] = true) (hF : pX9_pushes η f g i a0 a1 = some z) (hls : ls.size = nL) (hR : rmX9_pushes.frames + 1 ≤ R.frames ∧ 8 + (3 + 11) + rmX9_pushes.locals ≤ R.locals) (hW : (rest.map fun v => v.category).sum ≤ 8) (d : decode cc pc = .ok (.invokespecial 31, 3)) (kk : ∀ (H : Heap) (locs : List Loc), wx_w γ A s H locs (cw γ o ad f g (hr γ o ad η ++ τ)) → W p l e R s m as below meth c H locs cells slots Q (F0 m (pc + 3) ls (.int z :: rest))) (hf : cells ≤ R.cells ∧ slots ≤ R.slots := by exact ⟨Nat.le_of_ble_eq_true rfl, Nat.le_of_ble_eq_true rfl⟩) : W p l e R s m as below meth c H locs cells slots Q (F0 m pc ls (.int a1 :: .int a0 :: .ref (had η i) :: rest)) := by
  have hk := gk_in hg
  simp only [List.mem_cons, List.not_mem_nil, or_false] at hk
  exact wx_callSX (n := 2) (x := ⟨"WalkingStones$Raft", "pushes", "(II)I"⟩) (owner := "WalkingStones$How") (Cn := RX12) G (hw_at (ks := [3]) K hk rfl) C K w (mX9_pushes (l := l) G hF) q356 q347 q229 q339 q124 q360 q1840 q261 rfl rfl (by decide) (by decide +kernel) hR (hw_recv K w hg hk rfl) rfl rfl hls hW hf d (fun v ws H1 locs1 hp w => by obtain ⟨rfl, rfl⟩ := hp; exact kk H1 locs1 w)
/-! WalkingStones$Whole.pushes(II)I -/
abbrev rmX12_pushes : Room := { frames := 6, cells := 0, slots := 0, locals := 145 }
def pX12_pushes_0 (η : cx_H) (f : xF) (g : xG) (v0 : Int32) (v1 : Int32) (v2 : Int32) : Option (Int32) := if gk η v0 [3] = true then (pX9_pushes η f g v0 v1 v2).bind (fun r5 => some (wmin (9 : Int32) r5)) else none

abbrev pX12_pushes (η : cx_H) (f : xF) (g : xG) (v0 : Int32) (v1 : Int32) (v2 : Int32) : Option (Int32) := pX12_pushes_0 η f g v0 v1 v2
theorem bX12_pushes_0 {p : Program} {l : Launch} {e : Env} {s : State} {m : MethodId} {as : Array Value} {below : List Frame} {meth : Method} {c : Code} {A : Nat → Prop} {Q : State → Prop} {γ : wx_G} {o : Nat} {ad : Nat → Nat} {η : cx_H} {τ : va_W} {z : Int32} {f : xF} {g : xG} (G : cx_ok γ) (C : CallFix p m c cX12_pushes 3 s as lw_all RX12) (K : wx_C γ A s) (E : ∀ (H : Heap) (locs : List Loc) (ls : Array Slot) (pc : Nat), wx_w γ A s H locs (cw γ o ad f g (hr γ o ad η ++ τ)) → decode cX12_pushes pc = .ok (.ireturn, 1) → W p l e rmX12_pushes s m as below meth c H locs 0 0 Q (F0 m pc ls [.int z])) {v0 : Int32} {v1 : Int32} {v2 : Int32} {H : Heap} {locs : List Loc} {ls : Array Slot} (w : wx_w γ A s H locs (cw γ o ad f g (hr γ o ad η ++ τ))) (hl : lv_has ls 3 [(0, .ref (had η v0)), (1, .int v1), (2, .int v2)]) (hF : pX12_pushes_0 η f g v0 v1 v2 = some z) : W p l e rmX12_pushes s m as below meth c H locs 0 0 Q (F0 m 0 ls []) := by
  have hx := C.1
  have hb := C.2.1
  unfold pX12_pushes_0 at hF
  refine lv_bipush (v := (9 : Int32)) hx hb dX12_pushes_0 (by decide) ?_
  refine lv_aload_n hx hb dX12_pushes_2 rfl (lv_at hl 0 rfl) ?_
  refine lv_iload_n hx hb dX12_pushes_3 rfl (lv_at hl 1 rfl) ?_
  refine lv_iload_n hx hb dX12_pushes_4 rfl (lv_at hl 2 rfl) ?_
  obtain ⟨hg, hF⟩ := gk_if hF
  obtain ⟨r5, hr, hF⟩ := obd hF
  refine sX12_pushes G C K w hg hr hl.1 ⟨Nat.le_of_ble_eq_true rfl, Nat.le_of_ble_eq_true rfl⟩ (Nat.le_of_ble_eq_true rfl) dX12_pushes_5 (fun H locs w => ?_)
  refine cX12min C hl.1 (Nat.le_of_ble_eq_true rfl) (Nat.le_of_ble_eq_true rfl) (Nat.le_of_ble_eq_true rfl) (Nat.le_of_ble_eq_true rfl) dX12_pushes_8 ?_
  have hF := Option.some.inj hF
  subst hF
  exact E _ _ _ _ w dX12_pushes_11

theorem mX12_pushes {l : Launch} {γ : wx_G} {o : Nat} {ad : Nat → Nat} {η : cx_H} {τ : va_W} {f : xF} {g : xG} {v0 : Int32} {v1 : Int32} {v2 : Int32} {z : Int32} (G : cx_ok γ) (hF : pX12_pushes η f g v0 v1 v2 = some z) : wx_M γ l yX12_pushes (ws_ yX12_pushes cX12_pushes 3 (some .int)) rmX12_pushes [.ref (had η v0), .int v1, .int v2] (cw γ o ad f g (hr γ o ad η ++ τ)) (fun v ws => v = some (.int z) ∧ ws = (cw γ o ad f g (hr γ o ad η ++ τ))) 0 0 := by
  refine wx_M.of (by decide) (Nat.le_of_ble_eq_true rfl) ?_
  intro p e s m as below meth c A ls C K w hr hlocks _ hl
  exact bX12_pushes_0 G C K (fun H locs ls pc w d => wx_iret C hr hlocks w ⟨rfl, rfl⟩ d) w hl hF

theorem sX13_pushes {p : Program} {l : Launch} {e : Env} {R : Room} {s : State} {m : MethodId} {as : Array Value} {below : List Frame} {meth : Method} {c : Code} {H : Heap} {locs : List Loc} {cells slots : Nat} {Q : State → Prop} {cc : ByteArray} {nL pc : Nat} {ls : Array Slot} {rest : List Value} {γ : wx_G} {A : Nat → Prop} {o : Nat} {ad : Nat → Nat} {f : xF} {g : xG} {η : cx_H} {τ : va_W} {i : Int32} {a0 : Int32} {a1 : Int32} {z : Int32} (G : cx_ok γ) (C : CallFix p m c cc nL s as lw_all RX13) (K : wx_C γ A s) (w : wx_w γ A s H locs (cw γ o ad f g (hr γ o ad η ++ τ))) (hg : gk η i [4] = true) (hF : pX9_pushes η f g i a0 a1 = some z) (hls : ls.size = nL) (hR : rmX9_pushes.frames + 1 ≤ R.frames ∧ 8 + (3 + 11) + rmX9_pushes.locals ≤ R.locals) (hW : (rest.map fun v => v.category).sum ≤ 8) (d : decode cc pc = .ok (.invokespecial 37, 3)) (kk : ∀ (H : Heap) (locs : List Loc), wx_w γ A s H locs (cw γ o ad f g (hr γ o ad η ++ τ)) → W p l e R s m as below meth c H locs cells slots Q (F0 m (pc + 3) ls (.int z :: rest))) (hf : cells ≤ R.cells ∧ slots ≤ R.slots := by exact ⟨Nat.le_of_ble_eq_true rfl, Nat.le_of_ble_eq_true rfl⟩) : W p l e R s m as below meth c H locs cells slots Q (F0 m pc ls (.int a1 :: .int a0 :: .ref (had η i) :: rest)) := by
  have hk := gk_in hg
  simp only [List.mem_cons, List.not_mem_nil, or_false] at hk
  exact wx_callSX (n := 2) (x := ⟨"WalkingStones$Raft", "pushes", "(II)I"⟩) (owner := "WalkingStones$How") (Cn := RX13) G (hw_at (ks := [4]) K hk rfl) C K w (mX9_pushes (l := l) G hF) q346 q347 q243 q339 q124 q360 q1840 q261 rfl rfl (by decide) (by decide +kernel) hR (hw_recv K w hg hk rfl) rfl rfl hls hW hf d (fun v ws H1 locs1 hp w => by obtain ⟨rfl, rfl⟩ := hp; exact kk H1 locs1 w)
/-! WalkingStones$Panes.pushes(II)I -/
abbrev rmX13_pushes : Room := { frames := 6, cells := 0, slots := 0, locals := 145 }
def pX13_pushes_18 (η : cx_H) (f : xF) (g : xG) (t0 : Int32) : Option (Int32) := some (t0)

def pX13_pushes_0 (η : cx_H) (f : xF) (g : xG) (v0 : Int32) (v1 : Int32) (v2 : Int32) : Option (Int32) := if gk η v0 [4] = true then (pX9_pushes η f g v0 v1 v2).bind (fun r3 => if r3 ≤ 0 then pX13_pushes_18 η f g (0 : Int32) else pX13_pushes_18 η f g (r3 + (1 : Int32))) else none

abbrev pX13_pushes (η : cx_H) (f : xF) (g : xG) (v0 : Int32) (v1 : Int32) (v2 : Int32) : Option (Int32) := pX13_pushes_0 η f g v0 v1 v2
theorem bX13_pushes_18 {p : Program} {l : Launch} {e : Env} {s : State} {m : MethodId} {as : Array Value} {below : List Frame} {meth : Method} {c : Code} {A : Nat → Prop} {Q : State → Prop} {γ : wx_G} {o : Nat} {ad : Nat → Nat} {η : cx_H} {τ : va_W} {z : Int32} {f : xF} {g : xG} (G : cx_ok γ) (C : CallFix p m c cX13_pushes 4 s as lw_all RX13) (K : wx_C γ A s) (E : ∀ (H : Heap) (locs : List Loc) (ls : Array Slot) (pc : Nat), wx_w γ A s H locs (cw γ o ad f g (hr γ o ad η ++ τ)) → decode cX13_pushes pc = .ok (.ireturn, 1) → W p l e rmX13_pushes s m as below meth c H locs 0 0 Q (F0 m pc ls [.int z])) {t0 : Int32} {H : Heap} {locs : List Loc} {ls : Array Slot} (w : wx_w γ A s H locs (cw γ o ad f g (hr γ o ad η ++ τ))) (hl : lv_has ls 4 []) (hF : pX13_pushes_18 η f g t0 = some z) : W p l e rmX13_pushes s m as below meth c H locs 0 0 Q (F0 m 18 ls [.int t0]) := by
  have hx := C.1
  have hb := C.2.1
  unfold pX13_pushes_18 at hF
  have hF := Option.some.inj hF
  subst hF
  exact E _ _ _ _ w dX13_pushes_18

theorem bX13_pushes_0 {p : Program} {l : Launch} {e : Env} {s : State} {m : MethodId} {as : Array Value} {below : List Frame} {meth : Method} {c : Code} {A : Nat → Prop} {Q : State → Prop} {γ : wx_G} {o : Nat} {ad : Nat → Nat} {η : cx_H} {τ : va_W} {z : Int32} {f : xF} {g : xG} (G : cx_ok γ) (C : CallFix p m c cX13_pushes 4 s as lw_all RX13) (K : wx_C γ A s) (E : ∀ (H : Heap) (locs : List Loc) (ls : Array Slot) (pc : Nat), wx_w γ A s H locs (cw γ o ad f g (hr γ o ad η ++ τ)) → decode cX13_pushes pc = .ok (.ireturn, 1) → W p l e rmX13_pushes s m as below meth c H locs 0 0 Q (F0 m pc ls [.int z])) {v0 : Int32} {v1 : Int32} {v2 : Int32} {H : Heap} {locs : List Loc} {ls : Array Slot} (w : wx_w γ A s H locs (cw γ o ad f g (hr γ o ad η ++ τ))) (hl : lv_has ls 4 [(0, .ref (had η v0)), (1, .int v1), (2, .int v2)]) (hF : pX13_pushes_0 η f g v0 v1 v2 = some z) : W p l e rmX13_pushes s m as below meth c H locs 0 0 Q (F0 m 0 ls []) := by
  have hx := C.1
  have hb := C.2.1
  unfold pX13_pushes_0 at hF
  refine lv_aload_n hx hb dX13_pushes_0 rfl (lv_at hl 0 rfl) ?_
  refine lv_iload_n hx hb dX13_pushes_1 rfl (lv_at hl 1 rfl) ?_
  refine lv_iload_n hx hb dX13_pushes_2 rfl (lv_at hl 2 rfl) ?_
  obtain ⟨hg, hF⟩ := gk_if hF
  obtain ⟨r3, hr, hF⟩ := obd hF
  refine sX13_pushes G C K w hg hr hl.1 ⟨Nat.le_of_ble_eq_true rfl, Nat.le_of_ble_eq_true rfl⟩ (Nat.le_of_ble_eq_true rfl) dX13_pushes_3 (fun H locs w => ?_)
  refine lv_istore_n (lv' := [(3, .int r3), (0, .ref (had η v0)), (1, .int v1), (2, .int v2)]) hx hb dX13_pushes_6 rfl hl (by decide) rfl (fun ls hl => ?_)
  refine lv_iload_n hx hb dX13_pushes_7 rfl (lv_at hl 0 rfl) ?_
  refine lv_if_le (tgt := 17) hx hb dX13_pushes_8 (by decide) (fun c => ?_) (fun c => ?_)
  · have hF := (if_pos c).symm.trans hF
    refine lv_iconst (v := (0 : Int32)) hx hb dX13_pushes_17 (by decide) ?_
    exact bX13_pushes_18 G C K E w (lv_sub hl [] rfl) hF
  · have hF := (if_neg c).symm.trans hF
    refine lv_iload_n hx hb dX13_pushes_11 rfl (lv_at hl 0 rfl) ?_
    refine lv_iconst (v := (1 : Int32)) hx hb dX13_pushes_12 (by decide) ?_
    refine lv_iadd hx hb dX13_pushes_13 ?_
    refine lv_goto (tgt := 18) hx hb dX13_pushes_14 (by decide) ?_
    exact bX13_pushes_18 G C K E w (lv_sub hl [] rfl) hF

theorem mX13_pushes {l : Launch} {γ : wx_G} {o : Nat} {ad : Nat → Nat} {η : cx_H} {τ : va_W} {f : xF} {g : xG} {v0 : Int32} {v1 : Int32} {v2 : Int32} {z : Int32} (G : cx_ok γ) (hF : pX13_pushes η f g v0 v1 v2 = some z) : wx_M γ l yX13_pushes (ws_ yX13_pushes cX13_pushes 4 (some .int)) rmX13_pushes [.ref (had η v0), .int v1, .int v2] (cw γ o ad f g (hr γ o ad η ++ τ)) (fun v ws => v = some (.int z) ∧ ws = (cw γ o ad f g (hr γ o ad η ++ τ))) 0 0 := by
  refine wx_M.of (by decide) (Nat.le_of_ble_eq_true rfl) ?_
  intro p e s m as below meth c A ls C K w hr hlocks _ hl
  exact bX13_pushes_0 G C K (fun H locs ls pc w d => wx_iret C hr hlocks w ⟨rfl, rfl⟩ d) w hl hF

def pV_pushes (η : cx_H) (f : xF) (g : xG) (i : Int32) (a0 : Int32) (a1 : Int32) : Option (Int32) := if gk η i [0, 1, 2, 3, 4, 5] = true then (if hki η i = 0 then pX9_pushes η f g i a0 a1 else if hki η i = 1 then pX9_pushes η f g i a0 a1 else if hki η i = 2 then pX9_pushes η f g i a0 a1 else if hki η i = 3 then pX12_pushes η f g i a0 a1 else if hki η i = 4 then pX13_pushes η f g i a0 a1 else pX14_pushes η f g i a0 a1) else none
abbrev rmV_pushes : Room := { frames := 7, cells := 0, slots := 0, locals := 200 }
theorem vX9_pushes {p : Program} {l : Launch} {e : Env} {R : Room} {s : State} {m : MethodId} {as : Array Value} {below : List Frame} {meth : Method} {c : Code} {H : Heap} {locs : List Loc} {cells slots : Nat} {Q : State → Prop} {cc : ByteArray} {nL pc : Nat} {ls : Array Slot} {rest : List Value} {γ : wx_G} {A : Nat → Prop} {o : Nat} {ad : Nat → Nat} {f : xF} {g : xG} {η : cx_H} {τ : va_W} {i : Int32} {a0 : Int32} {a1 : Int32} {z : Int32} (G : cx_ok γ) (C : CallFix p m c cc nL s as lw_all RX9) (K : wx_C γ A s) (w : wx_w γ A s H locs (cw γ o ad f g (hr γ o ad η ++ τ))) (hF : pV_pushes η f g i a0 a1 = some z) (hls : ls.size = nL) (hR : rmV_pushes.frames + 1 ≤ R.frames ∧ 8 + (4 + 11) + rmV_pushes.locals ≤ R.locals) (hW : (rest.map fun v => v.category).sum ≤ 8) (d : decode cc pc = .ok (.invokevirtual 46, 3)) (kk : ∀ (H : Heap) (locs : List Loc), wx_w γ A s H locs (cw γ o ad f g (hr γ o ad η ++ τ)) → W p l e R s m as below meth c H locs cells slots Q (F0 m (pc + 3) ls (.int z :: rest))) (hf : cells ≤ R.cells ∧ slots ≤ R.slots := by exact ⟨Nat.le_of_ble_eq_true rfl, Nat.le_of_ble_eq_true rfl⟩) : W p l e R s m as below meth c H locs cells slots Q (F0 m pc ls (.int a1 :: .int a0 :: .ref (had η i) :: rest)) := by
  unfold pV_pushes at hF
  obtain ⟨hg, hF⟩ := gk_if hF
  have hk := gk_in hg
  simp only [List.mem_cons, List.not_mem_nil, or_false] at hk
  rcases hk with hk | hk | hk | hk | hk | hk
  · exact wx_callU (Cn := RX9) C K w (mX9_pushes (l := l) G (by have hF := hF; rw [hk] at hF; exact hF)) (va_cwU (owner := "WalkingStones$How") 2 C.2.2.2.2 (lw_U q338 q341 q340 q339 q124 q360) rfl rfl rfl rfl (by decide +kernel) ⟨Nat.le_trans (by decide) hR.1, Nat.le_trans (by decide) hR.2⟩) (hw_recv K w hg hk rfl) rfl rfl hls hW hf d (fun v ws H1 locs1 hp w => by obtain ⟨rfl, rfl⟩ := hp; exact kk H1 locs1 w)
  · exact wx_callU (Cn := RX10) C K w (mX9_pushes (l := l) G (by have hF := hF; rw [hk] at hF; exact hF)) (va_cwU (owner := "WalkingStones$How") 2 C.2.2.2.2 (lw_U q338 q341 q342 q339 q124 q360) rfl rfl rfl rfl (by decide +kernel) ⟨Nat.le_trans (by decide) hR.1, Nat.le_trans (by decide) hR.2⟩) (hw_recv K w hg hk rfl) rfl rfl hls hW hf d (fun v ws H1 locs1 hp w => by obtain ⟨rfl, rfl⟩ := hp; exact kk H1 locs1 w)
  · exact wx_callU (Cn := RX11) C K w (mX9_pushes (l := l) G (by have hF := hF; rw [hk] at hF; exact hF)) (va_cwU (owner := "WalkingStones$How") 2 C.2.2.2.2 (lw_U q338 q341 q349 q339 q124 q360) rfl rfl rfl rfl (by decide +kernel) ⟨Nat.le_trans (by decide) hR.1, Nat.le_trans (by decide) hR.2⟩) (hw_recv K w hg hk rfl) rfl rfl hls hW hf d (fun v ws H1 locs1 hp w => by obtain ⟨rfl, rfl⟩ := hp; exact kk H1 locs1 w)
  · exact wx_callU (Cn := RX12) C K w (mX12_pushes (l := l) G (by have hF := hF; rw [hk] at hF; exact hF)) (va_cwO (owner := "WalkingStones$How") 2 C.2.2.2.2 (lw_O q338 q341 q339 q353 q354 q127 q355) rfl rfl rfl q360 (by decide +kernel) ⟨Nat.le_trans (by decide) hR.1, Nat.le_trans (by decide) hR.2⟩) (hw_recv K w hg hk rfl) rfl rfl hls hW hf d (fun v ws H1 locs1 hp w => by obtain ⟨rfl, rfl⟩ := hp; exact kk H1 locs1 w)
  · exact wx_callU (Cn := RX13) C K w (mX13_pushes (l := l) G (by have hF := hF; rw [hk] at hF; exact hF)) (va_cwO (owner := "WalkingStones$How") 2 C.2.2.2.2 (lw_O q338 q341 q339 q343 q344 q128 q345) rfl rfl rfl q360 (by decide +kernel) ⟨Nat.le_trans (by decide) hR.1, Nat.le_trans (by decide) hR.2⟩) (hw_recv K w hg hk rfl) rfl rfl hls hW hf d (fun v ws H1 locs1 hp w => by obtain ⟨rfl, rfl⟩ := hp; exact kk H1 locs1 w)
  · exact wx_callU (Cn := RX14) C K w (mX14_pushes (l := l) G (by have hF := hF; rw [hk] at hF; exact hF)) (va_cwO (owner := "WalkingStones$How") 2 C.2.2.2.2 (lw_O q338 q341 q339 q350 q351 q129 q352) rfl rfl rfl q360 (by decide +kernel) ⟨Nat.le_trans (by decide) hR.1, Nat.le_trans (by decide) hR.2⟩) (hw_recv K w hg hk rfl) rfl rfl hls hW hf d (fun v ws H1 locs1 hp w => by obtain ⟨rfl, rfl⟩ := hp; exact kk H1 locs1 w)

/-! SHEETS, THE OBJECT'S METHODS (mine; printed by gen/sheets2.py) -/
set_option maxRecDepth 100000
theorem sh_mem {γ : wx_G} {ad sa : Nat → Nat} {σ : Nat → xS} {j : Nat} (hj : j < 4) : (sa j, .inr (12, [sr_v (σ j)])) ∈ shw γ ad sa σ := sh_at hj |>.mem_iff.mpr (List.mem_append_left _ List.mem_cons_self)
theorem sh_in {γ : wx_G} {o : Nat} {ad sa : Nat → Nat} {σ : Nat → xS} {f : xF} {g : xG} {ρ : va_W} {j : Nat} (hj : j < 4) (hok : sr_ok (σ j)) : sr_in γ (cw γ o ad f g (shw γ ad sa σ ++ ρ)) (σ j) := by
  cases hs : σ j with
  | none => exact True.intro
  | some x =>
    have hx := hok x hs
    refine ⟨?_, hx.1, hx.2⟩
    refine List.getElem?_of_mem (cw_mem (List.mem_append_left ρ ((sh_at hj).mem_iff.mpr (List.mem_append_left _ (List.mem_cons_of_mem _ ?_)))))
    rw [hs]
    exact List.mem_cons_self
theorem c_shs {p : Program} {l : Launch} {e : Env} {R : Room} {s : State} {m : MethodId} {as : Array Value} {below : List Frame} {meth : Method} {c : Code} {H : Heap} {locs : List Loc} {cells slots : Nat} {Q : State → Prop} {cc : ByteArray} {nL pc : Nat} {ls : Array Slot} {rest : List Value} {γ : wx_G} {A : Nat → Prop} {o : Nat} {ad sa : Nat → Nat} {σ : Nat → xS} {f : xF} {g : xG} {ρ : va_W} {own : String} {i : Int32} (C : CallFix p m c cc nL s as lw_all own) (K : wx_C γ A s) (w : wx_w γ A s H locs (cw γ o ad f g (shw γ ad sa σ ++ ρ))) (hi : vp_in i 4) (d : decode cc pc = .ok (.aaload, 1)) (kk : W p l e R s m as below meth c H locs cells slots Q (F0 m (pc + 1) ls (.ref (sa i.toNatClampNeg) :: rest))) : W p l e R s m as below meth c H locs cells slots Q (F0 m pc ls (.int i :: .ref (ad 48) :: rest)) := by
  have ha : (cw γ o ad f g (shw γ ad sa σ ++ ρ))[20]? = some (ad 48, e_sha γ sa) := rfl
  exact va_aldq C.1 C.2.1 K.1.1 w.1 20 7 ha rfl hi d kk
theorem c_shr {p : Program} {l : Launch} {e : Env} {R : Room} {s : State} {m : MethodId} {as : Array Value} {below : List Frame} {meth : Method} {c : Code} {H : Heap} {locs : List Loc} {cells slots : Nat} {Q : State → Prop} {cc : ByteArray} {nL pc : Nat} {ls : Array Slot} {rest : List Value} {γ : wx_G} {A : Nat → Prop} {o : Nat} {ad sa : Nat → Nat} {σ : Nat → xS} {f : xF} {g : xG} {ρ : va_W} {j : Nat} (G : cx_ok γ) (C : CallFix p m c cc nL s as lw_all RX0) (K : wx_C γ A s) (w : wx_w γ A s H locs (cw γ o ad f g (shw γ ad sa σ ++ ρ))) (hj : j < 4) (d : decode cc pc = .ok (.getfield 496, 3)) (kk : W p l e R s m as below meth c H locs cells slots Q (F0 m (pc + 3) ls (sr_v (σ j) :: rest))) : W p l e R s m as below meth c H locs cells slots Q (F0 m pc ls (.ref (sa j) :: rest)) := by
  obtain ⟨q0, hq⟩ := List.getElem?_of_mem (cw_mem (γ := γ) (o := o) (ad := ad) (f := f) (g := g) (List.mem_append_left ρ (sh_mem (γ := γ) (ad := ad) (sa := sa) (σ := σ) hj)))
  exact va_getN (ci := 12) (C := RX2) (T := TX2) (N := 1) C.1 C.2.1 C.2.2.2.2 in_X2 C.2.2.2.1 K.1.1 w.1 q0 hq rfl 0 (by decide) (wx_nw G K q749) (fun _ h => h) rfl d kk
def q_size (sr : xS) : Int32 := match sr with
  | none => -1
  | some x => Int32.ofNat x.2.2.1
theorem srt_of {t : Nat} (ht : t < 3) : srt (Int32.ofNat t) = t := by
  rcases (show t = 0 ∨ t = 1 ∨ t = 2 by omega) with rfl | rfl | rfl <;> decide
abbrev rmZ : Room := { frames := 14, cells := 3, slots := 1210, locals := 10500 }
theorem mX0_sizeOf {l : Launch} {γ : wx_G} {o : Nat} {ad sa : Nat → Nat} {σ : Nat → xS} {f : xF} {g : xG} {ρ : va_W} {i : Int32} (XO : ex_ok γ l) (G : cx_ok γ) (NC : nc_ok γ) (hi : vp_in i 4) (hok : sr_ok (σ i.toNatClampNeg)) : wx_M γ l yX0_sizeOf (ws_ yX0_sizeOf cX0_sizeOf 3 (some .int)) rmZ [.ref o, .int i] (cw γ o ad f g (shw γ ad sa σ ++ ρ)) (fun v ws => v = some (.int (q_size (σ i.toNatClampNeg))) ∧ ws = (cw γ o ad f g (shw γ ad sa σ ++ ρ))) 3 1210 := by
  refine wx_M.of (by decide) (Nat.le_of_ble_eq_true rfl) ?_
  intro p e s m as below meth c A ls C K w hr hlocks _ hl
  have hx := C.1
  have hb := C.2.1
  have hj : i.toNatClampNeg < 4 := Nat.not_le.mp fun q => hi (Or.inr q)
  have hin := sh_in (γ := γ) (o := o) (ad := ad) (sa := sa) (f := f) (g := g) (ρ := ρ) hj hok
  refine lv_aload_n hx hb dX0_sizeOf_0 rfl (lv_at hl 0 rfl) ?_
  refine cget_48 C K w dX0_sizeOf_1 ?_
  refine lv_iload_n hx hb dX0_sizeOf_4 rfl (lv_at hl 1 rfl) ?_
  refine c_shs C K w hi dX0_sizeOf_5 ?_
  refine c_shr G C K w hj dX0_sizeOf_6 ?_
  cases hs : σ i.toNatClampNeg with
  | none =>
    refine lv_astore_nN (lv' := [(2, .null), (0, .ref o), (1, .int i)]) hx hb dX0_sizeOf_9 rfl hl (by decide) rfl (fun ls hl => ?_)
    refine lv_aload_nN hx hb dX0_sizeOf_10 rfl (lv_at hl 0 rfl) ?_
    refine lv_ifnonnullN hx hb dX0_sizeOf_11 ?_
    refine lv_iconst (v := (-1 : Int32)) hx hb dX0_sizeOf_14 (by decide) ?_
    refine lv_goto (tgt := 26) hx hb dX0_sizeOf_15 (by decide) ?_
    refine W.widen (k := 3) (n := 1210) (by decide) (by decide) ?_
    exact wx_iret C hr hlocks w ⟨rfl, rfl⟩ dX0_sizeOf_26
  | some r =>
    rw [hs] at hin
    obtain ⟨b, t, n, hh⟩ := r
    obtain ⟨⟨q0, hq⟩, ht, hn⟩ := id hin
    have ht : t < 3 := ht
    have hz : q_len (some (b, t, n, hh)) (Int32.ofNat t) = (0, Int32.ofNat n) := by simp [q_len, srt_of ht]
    refine lv_astore_n (lv' := [(2, .ref b), (0, .ref o), (1, .int i)]) hx hb dX0_sizeOf_9 rfl hl (by decide) rfl (fun ls hl => ?_)
    refine lv_aload_n hx hb dX0_sizeOf_10 rfl (lv_at hl 0 rfl) ?_
    refine lv_ifnonnull (tgt := 18) hx hb dX0_sizeOf_11 (by decide) ?_
    refine lv_aload_n hx hb dX0_sizeOf_18 rfl (lv_at hl 0 rfl) ?_
    refine lv_aload_n hx hb dX0_sizeOf_19 rfl (lv_at hl 0 rfl) ?_
    refine wx_callS (n := 1) C K w (mX0_sortOf (l := l) NC ht hq) q1093 q1094 q106 q1095 rfl rfl (by decide +kernel) rfl rfl ⟨Nat.le_of_ble_eq_true rfl, Nat.le_of_ble_eq_true rfl⟩ hl.1 (Nat.le_of_ble_eq_true rfl) ⟨Nat.le_of_ble_eq_true rfl, Nat.le_of_ble_eq_true rfl⟩ dX0_sizeOf_20 (fun r ws2 H1 locs1 hp w2 => ?_)
    obtain ⟨rfl, rfl⟩ := hp
    refine wx_callST (n := 2) C K w2 (mX0_lengthOf (l := l) (k := Int32.ofNat t) (sr := some (b, t, n, hh)) XO G NC hin) q1098 q1099 q106 q1100 rfl rfl (by decide +kernel) rfl rfl ⟨Nat.le_of_ble_eq_true rfl, Nat.le_of_ble_eq_true rfl⟩ hl.1 (Nat.le_of_ble_eq_true rfl) ⟨Nat.le_of_ble_eq_true rfl, Nat.le_of_ble_eq_true rfl⟩ dX0_sizeOf_23 (fun r ws3 H2 locs2 hp w3 => ?_) (fun x ws3 H2 locs2 hp w3 => absurd (by rw [hz]) hp.1)
    obtain ⟨-, rfl, rfl⟩ := hp
    refine W.widen (k := 3) (n := 1210) (by decide) (by decide) ?_
    exact wx_iret C hr hlocks w3 ⟨by rw [hz]; rfl, rfl⟩ dX0_sizeOf_26
theorem mX0_numberOf {l : Launch} {γ : wx_G} {o : Nat} {ad sa : Nat → Nat} {σ : Nat → xS} {f : xF} {g : xG} {ρ : va_W} {i k : Int32} {b t n : Nat} {hh : Nat → Int32} (XO : ex_ok γ l) (G : cx_ok γ) (NC : nc_ok γ) (hi : vp_in i 4) (hs : σ i.toNatClampNeg = some (b, t, n, hh)) (hok : sr_ok (σ i.toNatClampNeg)) (hk : ¬ (k < 0 ∨ Int32.ofNat n ≤ k)) : wx_M γ l yX0_numberOf (ws_ yX0_numberOf cX0_numberOf 4 (some .int)) rmZ [.ref o, .int i, .int k] (cw γ o ad f g (shw γ ad sa σ ++ ρ)) (fun v ws => v = some (.int (hh k.toNatClampNeg)) ∧ ws = (cw γ o ad f g (shw γ ad sa σ ++ ρ))) 3 1210 := by
  refine wx_M.of (by decide) (Nat.le_of_ble_eq_true rfl) ?_
  intro p e s m as below meth c A ls C K w hr hlocks _ hl
  have hx := C.1
  have hb := C.2.1
  have hj : i.toNatClampNeg < 4 := Nat.not_le.mp fun q => hi (Or.inr q)
  have hin := sh_in (γ := γ) (o := o) (ad := ad) (sa := sa) (f := f) (g := g) (ρ := ρ) hj hok
  rw [hs] at hin
  obtain ⟨⟨q0, hq⟩, ht, hn⟩ := id hin
  have ht : t < 3 := ht
  have hz : q_item (some (b, t, n, hh)) (Int32.ofNat t) k = (0, hh k.toNatClampNeg) := by simp only [q_item, srt_of ht, if_true]; rw [if_neg hk]
  refine lv_aload_n hx hb dX0_numberOf_0 rfl (lv_at hl 0 rfl) ?_
  refine cget_48 C K w dX0_numberOf_1 ?_
  refine lv_iload_n hx hb dX0_numberOf_4 rfl (lv_at hl 1 rfl) ?_
  refine c_shs C K w hi dX0_numberOf_5 ?_
  refine c_shr G C K w hj dX0_numberOf_6 ?_
  rw [hs]
  refine lv_astore_n (lv' := [(3, .ref b), (0, .ref o), (1, .int i), (2, .int k)]) hx hb dX0_numberOf_9 rfl hl (by decide) rfl (fun ls hl => ?_)
  refine lv_aload_n hx hb dX0_numberOf_10 rfl (lv_at hl 0 rfl) ?_
  refine lv_aload_n hx hb dX0_numberOf_11 rfl (lv_at hl 0 rfl) ?_
  refine wx_callS (n := 1) C K w (mX0_sortOf (l := l) NC ht hq) q1093 q1094 q106 q1095 rfl rfl (by decide +kernel) rfl rfl ⟨Nat.le_of_ble_eq_true rfl, Nat.le_of_ble_eq_true rfl⟩ hl.1 (Nat.le_of_ble_eq_true rfl) ⟨Nat.le_of_ble_eq_true rfl, Nat.le_of_ble_eq_true rfl⟩ dX0_numberOf_12 (fun r ws2 H1 locs1 hp w2 => ?_)
  obtain ⟨rfl, rfl⟩ := hp
  refine lv_iload_n hx hb dX0_numberOf_15 rfl (lv_at hl 3 rfl) ?_
  refine wx_callST (n := 3) C K w2 (mX0_item (l := l) (k := Int32.ofNat t) (i := k) (sr := some (b, t, n, hh)) XO G NC hin) q1106 q1107 q106 q1108 rfl rfl (by decide +kernel) rfl rfl ⟨Nat.le_of_ble_eq_true rfl, Nat.le_of_ble_eq_true rfl⟩ hl.1 (Nat.le_of_ble_eq_true rfl) ⟨Nat.le_of_ble_eq_true rfl, Nat.le_of_ble_eq_true rfl⟩ dX0_numberOf_16 (fun r ws3 H2 locs2 hp w3 => ?_) (fun x ws3 H2 locs2 hp w3 => absurd (by rw [hz]) hp.1)
  obtain ⟨-, rfl, rfl⟩ := hp
  refine W.widen (k := 3) (n := 1210) (by decide) (by decide) ?_
  exact wx_iret C hr hlocks w3 ⟨by rw [hz], rfl⟩ dX0_numberOf_19

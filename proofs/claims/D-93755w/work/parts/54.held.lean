/-! held (mine; printed by gen/held.py) -/
set_option maxRecDepth 100000
abbrev rmH : Room := { frames := 300, cells := 39, slots := 15730, locals := 13000 }
def q_hdl (hh : Nat → Int32) (len : Nat) (m set : Int32) : Nat → Int32 → Option Int32
  | 0, _ => none
  | q + 1, k => if m ≤ k then some (-1) else if k < 0 ∨ Int32.ofNat len ≤ k then none else if hh k.toNatClampNeg = (set >>> (k &&& 31)) &&& 1 then q_hdl hh len m set q (k + 1) else some k
def q_held (η : cx_H) (θ : cx_T) (σ : Nat → xS) (f : xF) (g : xG) (h n s : Int32) : Option (Int32 × xF × xG) := (pX0_isHow f g h).bind (fun b => if b = 0 then some (-2, f, g) else (pX0_isNight f g n).bind (fun b => if b = 0 then some (-2, f, g) else (pX0_isSheet f g s).bind (fun b => if b = 0 then some (-2, f, g) else if gin s 4 = true then (if 0 ≤ q_size (σ s.toNatClampNeg) then (if q_size (σ s.toNatClampNeg) = f 2 then (pX0_goers η θ f g h n).bind (fun z => match σ s.toNatClampNeg with | none => none | some x => (q_hdl x.2.2.2 x.2.2.1 (Int32.ofNat x.2.2.1) z.1 12 0).bind (fun v => some (v, z.2.1, z.2.2))) else some (-2, f, g)) else some (-11, f, g)) else none)))
theorem hs_perm {γ : wx_G} {o : Nat} {ad sa : Nat → Nat} {σ : Nat → xS} {η : cx_H} {f : xF} {g : xG} {τ : va_W} : List.Perm (cw γ o ad f g (hr γ o ad η ++ (shw γ ad sa σ ++ τ))) (cw γ o ad f g (shw γ ad sa σ ++ (hr γ o ad η ++ τ))) := cw_perm (List.perm_append_comm_assoc _ _ _)
theorem lp_held {p : Program} {l : Launch} {e : Env} {s : State} {m : MethodId} {as : Array Value} {below : List Frame} {meth : Method} {c : Code} {A : Nat → Prop} {Q : State → Prop} {γ : wx_G} {o : Nat} {ad sa : Nat → Nat} {σ : Nat → xS} {η : cx_H} {f : xF} {g : xG} {τ : va_W} {b t len : Nat} {hh : Nat → Int32} {h n sh set z : Int32} (XO : ex_ok γ l) (G : cx_ok γ) (NC : nc_ok γ) (hi : vp_in sh 4) (hs : σ sh.toNatClampNeg = some (b, t, len, hh)) (hok : sr_ok (σ sh.toNatClampNeg)) (C : CallFix p m c cX0_held 7 s as lw_all RX0) (K : wx_C γ A s) (E : ∀ (H : Heap) (locs : List Loc) (ls : Array Slot) (pc : Nat) (k1 k2 : Nat), k1 ≤ 39 → k2 ≤ 15730 → wx_w γ A s H locs (cw γ o ad f g (hr γ o ad η ++ (shw γ ad sa σ ++ τ))) → decode cX0_held pc = .ok (.ireturn, 1) → W p l e rmH s m as below meth c H locs k1 k2 Q (F0 m pc ls [.int z])) : ∀ (q : Nat) (k : Int32) (H : Heap) (locs : List Loc) (ls : Array Slot), q ≤ 12 → q_hdl hh len (Int32.ofNat len) set q k = some z → wx_w γ A s H locs (cw γ o ad f g (hr γ o ad η ++ (shw γ ad sa σ ++ τ))) → lv_has ls 7 [(6, .int k), (5, .int set), (4, .int (Int32.ofNat len)), (0, .ref o), (1, .int h), (2, .int n), (3, .int sh)] → W p l e rmH s m as below meth c H locs (3 * (13 - q)) (1210 * (13 - q)) Q (F0 m 64 ls []) := by
  have hx := C.1
  have hb := C.2.1
  intro q
  induction q with
  | zero =>
    intro k H locs ls _ hF
    have hF : (none : Option Int32) = some z := hF
    cases hF
  | succ q ih =>
    intro k H locs ls hq hF w hl
    rw [q_hdl] at hF
    refine lv_iload hx hb dX0_held_64 (lv_at hl 0 rfl) ?_
    refine lv_iload hx hb dX0_held_66 (lv_at hl 2 rfl) ?_
    refine lv_icmp_ge (tgt := 97) hx hb dX0_held_68 (by decide) (fun cn => ?_) (fun cn => ?_)
    · have hF := Option.some.inj ((if_pos cn).symm.trans hF)
      subst hF
      refine lv_iconst (v := (-1 : Int32)) hx hb dX0_held_97 (by decide) ?_
      exact E _ _ _ _ _ _ (by omega) (by omega) w dX0_held_98
    · have hF := (if_neg cn).symm.trans hF
      obtain ⟨hk, hF⟩ := gnz_if hF
      refine lv_aload_n hx hb dX0_held_71 rfl (lv_at hl 3 rfl) ?_
      refine lv_iload_n hx hb dX0_held_72 rfl (lv_at hl 6 rfl) ?_
      refine lv_iload hx hb dX0_held_73 (lv_at hl 0 rfl) ?_
      have w := w.perm hs_perm
      refine wx_callV (n := 2) C K w (mX0_numberOf (l := l) XO G NC hi hs hok hk) q1102 q1104 qs45 q106 q1105 rfl rfl (by decide +kernel) (va_recv K.1.1 w.1 (ci := 1) (q0 := 0) rfl rfl) rfl rfl ⟨Nat.le_of_ble_eq_true rfl, Nat.le_of_ble_eq_true rfl⟩ hl.1 (Nat.le_of_ble_eq_true rfl) ⟨by show 3 * (13 - (q + 1)) + 3 ≤ 39; omega, by show 1210 * (13 - (q + 1)) + 1210 ≤ 15730; omega⟩ dX0_held_75 (fun r ws2 H1 locs1 hp w2 => ?_)
      obtain ⟨rfl, rfl⟩ := hp
      have w2 := w2.perm hs_perm.symm
      refine lv_iload hx hb dX0_held_78 (lv_at hl 1 rfl) ?_
      refine lv_iload hx hb dX0_held_80 (lv_at hl 0 rfl) ?_
      refine lv_ishr hx hb dX0_held_82 ?_
      refine lv_iconst (v := (1 : Int32)) hx hb dX0_held_83 (by decide) ?_
      refine lv_iand hx hb dX0_held_84 ?_
      refine lv_icmp_eq (tgt := 91) hx hb dX0_held_85 (by decide) (fun ce => ?_) (fun ce => ?_)
      · have hF := (if_pos ce).symm.trans hF
        refine lv_iinc (v := k + 1) (lv' := [(6, .int (k + 1)), (5, .int set), (4, .int (Int32.ofNat len)), (0, .ref o), (1, .int h), (2, .int n), (3, .int sh)]) hx hb dX0_held_91 hl (k := 0) rfl rfl (by decide) rfl (fun ls hl => ?_)
        refine lv_goto (tgt := 64) hx hb dX0_held_94 (by decide) ?_
        refine W.widen (k := 3 * (13 - q)) (n := 1210 * (13 - q)) (by omega) (by omega) ?_
        exact ih _ _ _ _ (by omega) hF w2 hl
      · have hF := Option.some.inj ((if_neg ce).symm.trans hF)
        subst hF
        refine lv_iload hx hb dX0_held_88 (lv_at hl 0 rfl) ?_
        exact E _ _ _ _ _ _ (by omega) (by omega) w2 dX0_held_90
theorem mX0_held {l : Launch} {γ : wx_G} {o : Nat} {ad sa : Nat → Nat} {σ : Nat → xS} {η : cx_H} {θ : cx_T} {f : xF} {g : xG} {τ : va_W} {h n sh : Int32} {z : Int32 × xF × xG} (XO : ex_ok γ l) (G : cx_ok γ) (NC : nc_ok γ) (T : tx_ok γ o ad θ (hr γ o ad η ++ (shw γ ad sa σ ++ τ))) (hok : sr_ok (σ sh.toNatClampNeg)) (hF : q_held η θ σ f g h n sh = some z) : wx_M γ l yX0_held (ws_ yX0_held cX0_held 7 (some .int)) rmH [.ref o, .int h, .int n, .int sh] (cw γ o ad f g (hr γ o ad η ++ (shw γ ad sa σ ++ τ))) (fun r ws => r = some (.int z.1) ∧ ws = (cw γ o ad z.2.1 z.2.2 (hr γ o ad η ++ (shw γ ad sa σ ++ τ)))) 39 15730 := by
  unfold q_held at hF
  obtain ⟨b0, hr0, hF⟩ := obd hF
  refine wx_M.of (by decide) (Nat.le_of_ble_eq_true rfl) ?_
  intro p e s m as below meth c A ls C K w hr hlocks _ hl
  have hx := C.1
  have hb := C.2.1
  refine lv_aload_n hx hb dX0_held_0 rfl (lv_at hl 0 rfl) ?_
  refine lv_iload_n hx hb dX0_held_1 rfl (lv_at hl 1 rfl) ?_
  refine rX0_isHow G C K w hr0 hl.1 ⟨Nat.le_of_ble_eq_true rfl, Nat.le_of_ble_eq_true rfl⟩ (Nat.le_of_ble_eq_true rfl) dX0_held_2 (fun H locs w => ?_) ⟨Nat.le_of_ble_eq_true rfl, Nat.le_of_ble_eq_true rfl⟩
  refine lv_if_eq (tgt := 23) hx hb dX0_held_5 (by decide) (fun ch => ?_) (fun ch => ?_)
  · have hF := Option.some.inj ((if_pos ch).symm.trans hF)
    subst hF
    refine lv_bipush (v := (-2 : Int32)) hx hb dX0_held_23 (by decide) ?_
    refine W.widen (k := 39) (n := 15730) (by decide) (by decide) ?_
    exact wx_iret C hr hlocks w ⟨rfl, rfl⟩ dX0_held_25
  have hF := (if_neg ch).symm.trans hF
  obtain ⟨b1, hr1, hF⟩ := obd hF
  refine lv_aload_n hx hb dX0_held_8 rfl (lv_at hl 0 rfl) ?_
  refine lv_iload_n hx hb dX0_held_9 rfl (lv_at hl 2 rfl) ?_
  refine rX0_isNight G C K w hr1 hl.1 ⟨Nat.le_of_ble_eq_true rfl, Nat.le_of_ble_eq_true rfl⟩ (Nat.le_of_ble_eq_true rfl) dX0_held_10 (fun H locs w => ?_) ⟨Nat.le_of_ble_eq_true rfl, Nat.le_of_ble_eq_true rfl⟩
  refine lv_if_eq (tgt := 23) hx hb dX0_held_13 (by decide) (fun ch => ?_) (fun ch => ?_)
  · have hF := Option.some.inj ((if_pos ch).symm.trans hF)
    subst hF
    refine lv_bipush (v := (-2 : Int32)) hx hb dX0_held_23 (by decide) ?_
    refine W.widen (k := 39) (n := 15730) (by decide) (by decide) ?_
    exact wx_iret C hr hlocks w ⟨rfl, rfl⟩ dX0_held_25
  have hF := (if_neg ch).symm.trans hF
  obtain ⟨b2, hr2, hF⟩ := obd hF
  refine lv_iload_n hx hb dX0_held_16 rfl (lv_at hl 3 rfl) ?_
  refine rX0_isSheet G C K w hr2 hl.1 ⟨Nat.le_of_ble_eq_true rfl, Nat.le_of_ble_eq_true rfl⟩ (Nat.le_of_ble_eq_true rfl) dX0_held_17 (fun H locs w => ?_) ⟨Nat.le_of_ble_eq_true rfl, Nat.le_of_ble_eq_true rfl⟩
  refine lv_if_ne (tgt := 26) hx hb dX0_held_20 (by decide) (fun ch => ?_) (fun ch => ?_)
  · have hF := (if_neg ch).symm.trans hF
    obtain ⟨hi, hF⟩ := gin_if hF
    refine lv_aload_n hx hb dX0_held_26 rfl (lv_at hl 0 rfl) ?_
    refine lv_iload_n hx hb dX0_held_27 rfl (lv_at hl 3 rfl) ?_
    have w := w.perm hs_perm
    refine wx_callV (n := 1) C K w (mX0_sizeOf (l := l) XO G NC hi hok) q1089 q1091 qs44 q106 q1092 rfl rfl (by decide +kernel) (va_recv K.1.1 w.1 (ci := 1) (q0 := 0) rfl rfl) rfl rfl ⟨Nat.le_of_ble_eq_true rfl, Nat.le_of_ble_eq_true rfl⟩ hl.1 (Nat.le_of_ble_eq_true rfl) ⟨Nat.le_of_ble_eq_true rfl, Nat.le_of_ble_eq_true rfl⟩ dX0_held_28 (fun r ws2 H locs hp w2 => ?_)
    obtain ⟨rfl, rfl⟩ := hp
    have w := w2.perm hs_perm.symm
    refine lv_istore (lv' := [(4, .int (q_size (σ sh.toNatClampNeg))), (0, .ref o), (1, .int h), (2, .int n), (3, .int sh)]) hx hb dX0_held_31 hl (by decide) rfl (fun ls hl => ?_)
    refine lv_iload hx hb dX0_held_33 (lv_at hl 0 rfl) ?_
    refine lv_if_ge (tgt := 41) hx hb dX0_held_35 (by decide) (fun c1 => ?_) (fun c1 => ?_)
    · have hF := (if_pos c1).symm.trans hF
      refine lv_iload hx hb dX0_held_41 (lv_at hl 0 rfl) ?_
      refine lv_aload_n hx hb dX0_held_43 rfl (lv_at hl 1 rfl) ?_
      refine cget_2 C K w dX0_held_44 ?_
      refine lv_icmp_eq (tgt := 53) hx hb dX0_held_47 (by decide) (fun c2 => ?_) (fun c2 => ?_)
      · have hF := (if_pos c2).symm.trans hF
        obtain ⟨y, hy, hF⟩ := obd hF
        refine lv_aload_n hx hb dX0_held_53 rfl (lv_at hl 1 rfl) ?_
        refine lv_iload_n hx hb dX0_held_54 rfl (lv_at hl 2 rfl) ?_
        refine lv_iload_n hx hb dX0_held_55 rfl (lv_at hl 3 rfl) ?_
        refine rX0_goers G T C K w hy hl.1 ⟨Nat.le_of_ble_eq_true rfl, Nat.le_of_ble_eq_true rfl⟩ (Nat.le_of_ble_eq_true rfl) dX0_held_56 (fun H locs w => ?_) ⟨Nat.le_of_ble_eq_true rfl, Nat.le_of_ble_eq_true rfl⟩
        cases hs : σ sh.toNatClampNeg with
        | none =>
          rw [hs] at hF
          cases hF
        | some x =>
          obtain ⟨b, t, len, hh⟩ := x
          rw [hs] at hF hl
          obtain ⟨v, hv, hF⟩ := obd hF
          have hF := Option.some.inj hF
          subst hF
          refine lv_istore (lv' := [(5, .int y.1), (4, .int (q_size (some (b, t, len, hh)))), (0, .ref o), (1, .int h), (2, .int n), (3, .int sh)]) hx hb dX0_held_59 hl (by decide) rfl (fun ls hl => ?_)
          refine lv_iconst (v := (0 : Int32)) hx hb dX0_held_61 (by decide) ?_
          refine lv_istore (lv' := [(6, .int 0), (5, .int y.1), (4, .int (q_size (some (b, t, len, hh)))), (0, .ref o), (1, .int h), (2, .int n), (3, .int sh)]) hx hb dX0_held_62 hl (by decide) rfl (fun ls hl => ?_)
          refine W.widen (k := 3 * (13 - 12)) (n := 1210 * (13 - 12)) (by decide) (by decide) ?_
          exact lp_held XO G NC hi hs hok C K (fun H locs ls pc k1 k2 h1 h2 w d => W.widen (k := 39) (n := 15730) h1 h2 (wx_iret C hr hlocks w ⟨rfl, rfl⟩ d)) 12 0 _ _ _ (Nat.le_refl _) hv w hl
      · have hF := Option.some.inj ((if_neg c2).symm.trans hF)
        subst hF
        refine lv_bipush (v := (-2 : Int32)) hx hb dX0_held_50 (by decide) ?_
        refine W.widen (k := 39) (n := 15730) (by decide) (by decide) ?_
        exact wx_iret C hr hlocks w ⟨rfl, rfl⟩ dX0_held_52
    · have hF := Option.some.inj ((if_neg c1).symm.trans hF)
      subst hF
      refine lv_bipush (v := (-11 : Int32)) hx hb dX0_held_38 (by decide) ?_
      refine W.widen (k := 39) (n := 15730) (by decide) (by decide) ?_
      exact wx_iret C hr hlocks w ⟨rfl, rfl⟩ dX0_held_40
  · have hF := Option.some.inj ((if_pos ch).symm.trans hF)
    subst hF
    refine lv_bipush (v := (-2 : Int32)) hx hb dX0_held_23 (by decide) ?_
    refine W.widen (k := 39) (n := 15730) (by decide) (by decide) ?_
    exact wx_iret C hr hlocks w ⟨rfl, rfl⟩ dX0_held_25

/-! text, firstText (mine; printed by gen/text.py) -/
set_option maxRecDepth 100000
def rtR (c : Nat) : Room := { frames := 76, cells := c + 1, slots := 3 * c + 3, locals := 4200 }
def q_txt (P : xPF) (f : xF) (g : xG) : Option xT := if f 15 = 6 then some (-4, (f, g), none, 0) else q_text P f g
theorem mX0_text {l : Launch} {γ : wx_G} {o : Nat} {ad : Nat → Nat} {ρ : va_W} {f : xF} {g : xG} {tf : Nat → Option Nat} {fs : List Value} {P : xPF} {z : xT} (G : cx_ok γ) (S : sx_ok γ) (hM : PK l γ o ad yX0_either cX0_either 2 60 P) (T : kx_ok γ ad ρ) (hfa : (ad 10, .inr (13, fs)) ∈ ρ) (hF : q_txt P f g = some z) : wx_M γ l yX0_text (ws_ yX0_text cX0_text 1 (some .int)) (rtR z.2.2.2) [.ref o] (cw γ o ad f g ((ad 14, e_txt γ tf) :: ρ)) (ntP γ o ad ρ tf z) (z.2.2.2 + 1) (3 * z.2.2.2 + 3) := by
  unfold q_txt at hF
  refine wx_M.of (by decide) (Nat.le_of_ble_eq_true rfl) ?_
  intro p e s m as below meth c A ls C K w hr hlocks _ hl
  have hx := C.1
  have hb := C.2.1
  refine lv_aload_n hx hb dX0_text_0 rfl (lv_at hl 0 rfl) ?_
  refine cget_15 C K w dX0_text_1 ?_
  refine lv_bipush (v := (6 : Int32)) hx hb dX0_text_4 (by decide) ?_
  refine lv_icmp_ne (tgt := 14) hx hb dX0_text_6 (by decide) (fun c => ?_) (fun c => ?_)
  · have hF := (if_neg c).symm.trans hF
    refine lv_aload_n hx hb dX0_text_14 rfl (lv_at hl 0 rfl) ?_
    refine wx_callVW (n := 0) C K w (mX0_newText (l := l) (tf := tf) G S hM T hfa hF) q401 q403 qs6 q106 q404 rfl rfl (by decide +kernel) (va_recv K.1.1 w.1 (ci := 1) (q0 := 0) rfl rfl) rfl rfl ⟨by simp only [rnR, rtR]; omega, by simp only [rnR, rtR]; omega⟩ hl.1 (Nat.le_of_ble_eq_true rfl) ⟨by simp only [rtR]; omega, by simp only [rtR]; omega⟩ dX0_text_15 (fun v ws H1 locs1 hp w => ?_)
    have hv := hp.1
    subst hv
    refine W.widen (k := z.2.2.2 + 1) (n := 3 * z.2.2.2 + 3) (by omega) (by omega) ?_
    exact wx_iret C hr hlocks w hp dX0_text_18
  · have hF := Option.some.inj ((if_pos c).symm.trans hF)
    subst hF
    refine lv_bipush (v := (-4 : Int32)) hx hb dX0_text_9 (by decide) ?_
    refine lv_goto (tgt := 18) hx hb dX0_text_11 (by decide) ?_
    refine W.widen (k := 0 + 1) (n := 3 * 0 + 3) (by omega) (by omega) ?_
    exact wx_iret C hr hlocks w ⟨rfl, [], tf, rfl, Or.inl ⟨rfl, rfl⟩⟩ dX0_text_18
def q_ft : Nat → Int32 → xG → Option xG
  | 0, _, _ => none
  | n + 1, k, g => if sx_n 13 ≤ k then some g else if gin k (sx_len.getD 13 0) = true then if gin k 160 = true then q_ft n (k + 1) (va_up g 18 (upd (g 18) k.toNatClampNeg (vp_nar .byte (sx_c 13 k.toNatClampNeg).toInt8.toInt32))) else none else none
def q_first (P : xPF) (f : xF) (g : xG) : Option xT := (q_ft 5000 0 g).bind (fun g2 => q_text P (upd f 19 (sx_n 13)) g2)
theorem mX0_firstText {l : Launch} {γ : wx_G} {o : Nat} {ad : Nat → Nat} {ρ : va_W} {f : xF} {g : xG} {tf : Nat → Option Nat} {fs : List Value} {P : xPF} {z : xT} (G : cx_ok γ) (S : sx_ok γ) (hM : PK l γ o ad yX0_either cX0_either 2 60 P) (T : kx_ok γ ad ρ) (hfa : (ad 10, .inr (13, fs)) ∈ ρ) (hF : q_first P f g = some z) : wx_M γ l yX0_firstText (ws_ yX0_firstText cX0_firstText 3 none) (rtR z.2.2.2) [.ref o, .ref (sx_k γ 13)] (cw γ o ad f g ((ad 14, e_txt γ tf) :: ρ)) (fun v ws => v = none ∧ ntP γ o ad ρ tf z (some (.int z.1)) ws) (z.2.2.2 + 1) (3 * z.2.2.2 + 3) := by
  unfold q_first at hF
  obtain ⟨g2, hg2, hF⟩ := obd hF
  refine wx_M.of (by decide) (Nat.le_of_ble_eq_true rfl) ?_
  intro p e s m as below meth c A ls C K w hr hlocks _ hl
  have hx := C.1
  have hb := C.2.1
  refine lv_iconst (v := (0 : Int32)) hx hb dX0_firstText_0 (by decide) ?_
  refine lv_istore_n (lv' := [(2, .int 0), (0, .ref o), (1, .ref (sx_k γ 13))]) hx hb dX0_firstText_1 rfl hl (by decide) rfl (fun ls hl => ?_)
  have lp : ∀ (n : Nat) (k : Int32) (g : xG) (H : Heap) (locs : List Loc) (ls : Array Slot), q_ft n k g = some g2 → wx_w γ A s H locs (cw γ o ad f g ((ad 14, e_txt γ tf) :: ρ)) → lv_has ls 3 [(2, .int k), (0, .ref o), (1, .ref (sx_k γ 13))] → W p l e (rtR z.2.2.2) s m as below meth c H locs 0 0 (wx_Q γ (fun v ws => v = none ∧ ntP γ o ad ρ tf z (some (.int z.1)) ws) A as s below (z.2.2.2 + 1) (3 * z.2.2.2 + 3)) (F0 m 2 ls []) := by
    intro n
    induction n with
    | zero =>
      intro k g H locs ls h
      have h : (none : Option xG) = some g2 := h
      cases h
    | succ n ih =>
      intro k g H locs ls h w hl
      rw [q_ft] at h
      refine lv_iload_n hx hb dX0_firstText_2 rfl (lv_at hl 0 rfl) ?_
      refine lv_aload_n hx hb dX0_firstText_3 rfl (lv_at hl 2 rfl) ?_
      refine c_slen S (j := 13) (by decide) C K w hl.1 ⟨by simp only [rtR]; omega, by simp only [rtR]; omega⟩ (Nat.le_of_ble_eq_true rfl) dX0_firstText_4 (fun H locs w => ?_) ⟨Nat.zero_le _, Nat.zero_le _⟩
      refine lv_icmp_ge (tgt := 28) hx hb dX0_firstText_7 (by decide) (fun c => ?_) (fun c => ?_)
      · have h := Option.some.inj ((if_pos c).symm.trans h)
        subst h
        refine lv_aload_n hx hb dX0_firstText_28 rfl (lv_at hl 1 rfl) ?_
        refine lv_aload_n hx hb dX0_firstText_29 rfl (lv_at hl 2 rfl) ?_
        refine c_slen S (j := 13) (by decide) C K w hl.1 ⟨by simp only [rtR]; omega, by simp only [rtR]; omega⟩ (Nat.le_of_ble_eq_true rfl) dX0_firstText_30 (fun H locs w => ?_) ⟨Nat.zero_le _, Nat.zero_le _⟩
        refine cput_19 C K w dX0_firstText_33 (fun H locs w => ?_)
        refine lv_aload_n hx hb dX0_firstText_36 rfl (lv_at hl 1 rfl) ?_
        refine wx_callVW (n := 0) C K w (mX0_newText (l := l) (tf := tf) G S hM T hfa hF) q401 q403 qs6 q106 q404 rfl rfl (by decide +kernel) (va_recv K.1.1 w.1 (ci := 1) (q0 := 0) rfl rfl) rfl rfl ⟨by simp only [rnR, rtR]; omega, by simp only [rnR, rtR]; omega⟩ hl.1 (Nat.le_of_ble_eq_true rfl) ⟨by simp only [rtR]; omega, by simp only [rtR]; omega⟩ dX0_firstText_37 (fun v ws H1 locs1 hp w => ?_)
        have hv := hp.1
        subst hv
        refine W.widen (k := z.2.2.2 + 1) (n := 3 * z.2.2.2 + 3) (by omega) (by omega) ?_
        refine lv_istore_n (lv' := [(2, .int z.1), (0, .ref o), (1, .ref (sx_k γ 13))]) hx hb dX0_firstText_40 rfl hl (by decide) rfl (fun ls hl => ?_)
        exact wx_vret C hr hlocks w ⟨rfl, hp⟩ dX0_firstText_41
      · have h := (if_neg c).symm.trans h
        obtain ⟨hi, h⟩ := gin_if h
        obtain ⟨hi2, h⟩ := gin_if h
        refine lv_aload_n hx hb dX0_firstText_10 rfl (lv_at hl 1 rfl) ?_
        refine cget_18 C K w dX0_firstText_11 ?_
        refine lv_iload_n hx hb dX0_firstText_14 rfl (lv_at hl 0 rfl) ?_
        refine lv_aload_n hx hb dX0_firstText_15 rfl (lv_at hl 2 rfl) ?_
        refine lv_iload_n hx hb dX0_firstText_16 rfl (lv_at hl 0 rfl) ?_
        refine c_sch S (j := 13) (by decide) hi C K w hl.1 ⟨by simp only [rtR]; omega, by simp only [rtR]; omega⟩ (Nat.le_of_ble_eq_true rfl) dX0_firstText_17 (fun H locs w => ?_) ⟨Nat.zero_le _, Nat.zero_le _⟩
        refine lv_i2b hx hb dX0_firstText_20 rfl ?_
        refine cast_18 C K w hi2 dX0_firstText_21 (fun H locs w => ?_)
        refine lv_iinc (v := k + 1) (lv' := [(2, .int (k + 1)), (0, .ref o), (1, .ref (sx_k γ 13))]) hx hb dX0_firstText_22 hl (k := 0) rfl rfl (by decide) rfl (fun ls hl => ?_)
        refine lv_goto (tgt := 2) hx hb dX0_firstText_25 (by decide) ?_
        exact ih _ _ _ _ _ h w hl
  exact lp 5000 0 g _ _ _ hg2 w hl

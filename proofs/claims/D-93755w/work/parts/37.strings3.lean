/-! String.indexOf(c) over a literal (mine) -/
theorem sx_lb : ∀ i : Nat, i < 14 → (sx_byt.getD i []).length = sx_len.getD i 0 ∧ sx_len.getD i 0 < 100 := by decide +kernel
def sx_iof (b : Int32) : List Int32 → Nat → Int32
  | [], _ => -1
  | x :: t, k => if x = b then nI k else sx_iof b t (k + 1)
def sx_enc (c : Int32) : Int32 := if c < 0 then 0 else if 255 < c then 0 else 1
def sx_iod (i : Nat) (c : Int32) : Int32 := sx_iof c.toInt8.toInt32 (sx_byt.getD i []) 0
def sx_ixo (i : Nat) (c : Int32) : Int32 := if sx_enc c = 0 then -1 else sx_iod i c
abbrev rmJ4_canEncode : Room := { frames := 0, cells := 0, slots := 0, locals := 0 }
theorem mJ4_canEncode {l : Launch} {γ : wx_G} {ws : va_W} {x : Int32} : wx_M γ l yJ4_canEncode (ws_ yJ4_canEncode cJ4_canEncode 1 (some .boolean)) rmJ4_canEncode [.int x] ws (fun v ws' => v = some (.int (sx_enc x)) ∧ ws' = ws) 0 0 := by
  refine wx_M.of (by decide) (Nat.le_of_ble_eq_true rfl) ?_
  intro p e s m as below meth c A ls C K w hr hlocks _ hl
  have hx := C.1
  have hb := C.2.1
  refine lv_iload_n hx hb dJ4_canEncode_0 rfl (lv_at hl 0 rfl) ?_
  refine lv_if_lt (tgt := 15) hx hb dJ4_canEncode_1 (by decide) (fun c => ?_) (fun c => ?_)
  · refine lv_iconst hx hb dJ4_canEncode_15 rfl ?_
    exact wx_zret C hr hlocks rfl w ⟨by rw [sx_enc, if_pos c]; rfl, rfl⟩ dJ4_canEncode_16
  · refine lv_iload_n hx hb dJ4_canEncode_4 rfl (lv_at hl 0 rfl) ?_
    refine lv_sipush (v := 255) hx hb dJ4_canEncode_5 (by decide) ?_
    refine lv_icmp_gt (tgt := 15) hx hb dJ4_canEncode_8 (by decide) (fun c2 => ?_) (fun c2 => ?_)
    · refine lv_iconst hx hb dJ4_canEncode_15 rfl ?_
      exact wx_zret C hr hlocks rfl w ⟨by rw [sx_enc, if_neg c, if_pos c2]; rfl, rfl⟩ dJ4_canEncode_16
    · refine lv_iconst hx hb dJ4_canEncode_11 rfl ?_
      refine lv_goto (tgt := 16) hx hb dJ4_canEncode_12 (by decide) ?_
      exact wx_zret C hr hlocks rfl w ⟨by rw [sx_enc, if_neg c, if_neg c2]; rfl, rfl⟩ dJ4_canEncode_16
abbrev rmJ4_indexOfChar : Room := { frames := 0, cells := 0, slots := 0, locals := 0 }
theorem mJ4_indexOfChar {l : Launch} {γ : wx_G} {ws : va_W} {x : Int32} {i : Nat} (S : sx_ok γ) (hi : i < 14) : wx_M γ l yJ4_indexOfChar (ws_ yJ4_indexOfChar cJ4_indexOfChar 6 (some .int)) rmJ4_indexOfChar [.ref (sx_v γ i), .int x, .int 0, .int (sx_n i)] ws (fun v ws' => v = some (.int (sx_iod i x)) ∧ ws' = ws) 0 0 := by
  refine wx_M.of (by decide) (Nat.le_of_ble_eq_true rfl) ?_
  intro p e s m as below meth c A ls C K w hr hlocks _ hl
  have hx := C.1
  have hb := C.2.1
  obtain ⟨hlen, hsm⟩ := sx_lb i hi
  have loop : ∀ (t : List Int32) (k : Nat), (sx_byt.getD i []).drop k = t → k + t.length = sx_len.getD i 0 → sx_iof x.toInt8.toInt32 t k = sx_iod i x → ∀ ls : Array Slot, lv_has ls 6 [(5, .int (nI k)), (4, .int x.toInt8.toInt32), (0, .ref (sx_v γ i)), (1, .int x), (2, .int 0), (3, .int (sx_n i))] → W p l e rmJ4_indexOfChar s m as below meth c s.heap [] 0 0 (wx_Q γ (fun v ws' => v = some (.int (sx_iod i x)) ∧ ws' = ws) A as s below 0 0) (F0 m 7 ls []) := by
    intro t
    induction t with
    | nil =>
      intro k _ e2 e3 ls hl
      refine lv_iload hx hb dJ4_indexOfChar_7 (lv_at hl 0 rfl) ?_
      refine lv_iload_n hx hb dJ4_indexOfChar_9 rfl (lv_at hl 5 rfl) ?_
      refine lv_icmp_ge (tgt := 31) hx hb dJ4_indexOfChar_10 (by decide) (fun c => ?_) (fun c => absurd (show sx_n i ≤ nI k from nI_le (by rw [List.length_nil] at e2; omega) (by rw [List.length_nil] at e2; omega)) c)
      refine lv_iconst (v := -1) hx hb dJ4_indexOfChar_31 (by decide) ?_
      exact wx_iret C hr hlocks w ⟨by rw [← e3]; rfl, rfl⟩ dJ4_indexOfChar_32
    | cons y t ih =>
      intro k e1 e2 e3 ls hl
      have hkl : k < sx_len.getD i 0 := by rw [List.length_cons] at e2; omega
      have hy : (sx_byt.getD i []).getD k 0 = y := by
        have h9 : ((sx_byt.getD i []).drop k)[0]? = some y := by rw [e1]; rfl
        rw [List.getElem?_drop] at h9
        rw [List.getD_eq_getElem?_getD]
        simpa using congrArg (fun o => o.getD 0) h9
      refine lv_iload hx hb dJ4_indexOfChar_7 (lv_at hl 0 rfl) ?_
      refine lv_iload_n hx hb dJ4_indexOfChar_9 rfl (lv_at hl 5 rfl) ?_
      refine lv_icmp_ge (tgt := 31) hx hb dJ4_indexOfChar_10 (by decide) (fun c => absurd c (nI_ge hkl (by omega))) (fun c => ?_)
      refine lv_aload_n hx hb dJ4_indexOfChar_13 rfl (lv_at hl 2 rfl) ?_
      refine lv_iload hx hb dJ4_indexOfChar_14 (lv_at hl 0 rfl) ?_
      refine va_tb hx hb ((sx_S K S).1 i hi).2.2.2 w.2.2 (vp_in_nI hkl (by omega)) (v := .int y) (by rw [nI_clamp (by omega), hy]) dJ4_indexOfChar_16 ?_
      refine lv_iload hx hb dJ4_indexOfChar_17 (lv_at hl 1 rfl) ?_
      rw [sx_iof] at e3
      refine lv_icmp_ne (tgt := 25) hx hb dJ4_indexOfChar_19 (by decide) (fun c2 => ?_) (fun c2 => ?_)
      · rw [if_neg c2] at e3
        refine lv_iinc (v := nI (k + 1)) (lv' := [(5, .int (nI (k + 1))), (4, .int x.toInt8.toInt32), (0, .ref (sx_v γ i)), (1, .int x), (2, .int 0), (3, .int (sx_n i))]) hx hb dJ4_indexOfChar_25 hl (k := 0) rfl (nI_succ k).symm (by decide) rfl (fun ls hl => ?_)
        refine lv_goto (tgt := 7) hx hb dJ4_indexOfChar_28 (by decide) ?_
        refine ih (k + 1) ?_ (by rw [List.length_cons] at e2; omega) e3 ls hl
        rw [← List.drop_drop, e1]
        rfl
      · rw [if_pos c2] at e3
        refine lv_iload hx hb dJ4_indexOfChar_22 (lv_at hl 0 rfl) ?_
        exact wx_iret C hr hlocks w ⟨by rw [← e3], rfl⟩ dJ4_indexOfChar_24
  refine lv_iload_n hx hb dJ4_indexOfChar_0 rfl (lv_at hl 1 rfl) ?_
  refine lv_i2b hx hb dJ4_indexOfChar_1 rfl ?_
  refine lv_istore (lv' := [(4, .int x.toInt8.toInt32), (0, .ref (sx_v γ i)), (1, .int x), (2, .int 0), (3, .int (sx_n i))]) hx hb dJ4_indexOfChar_2 hl (by decide) rfl (fun ls hl => ?_)
  refine lv_iload_n hx hb dJ4_indexOfChar_4 rfl (lv_at hl 3 rfl) ?_
  refine lv_istore (lv' := [(5, .int (nI 0)), (4, .int x.toInt8.toInt32), (0, .ref (sx_v γ i)), (1, .int x), (2, .int 0), (3, .int (sx_n i))]) hx hb dJ4_indexOfChar_5 hl (by decide) (by rw [nI_0]; rfl) (fun ls hl => ?_)
  exact loop _ 0 rfl (by rw [List.drop_zero, hlen, Nat.zero_add]) rfl ls hl
theorem sx_mx : wmax 0 0 = 0 := by decide
theorem sx_mn : ∀ i : Nat, i < 14 → (if sx_n i < sx_n i then sx_n i else sx_n i) = sx_n i ∧ (0 : Int32) < sx_n i := by decide +kernel
abbrev rmJ4_indexOf : Room := { frames := 1, cells := 0, slots := 0, locals := 40 }
theorem mJ4_indexOf {l : Launch} {γ : wx_G} {ws : va_W} {x : Int32} {i : Nat} (S : sx_ok γ) (hi : i < 14) : wx_M γ l yJ4_indexOf (ws_ yJ4_indexOf cJ4_indexOf 4 (some .int)) rmJ4_indexOf [.ref (sx_v γ i), .int x, .int 0, .int (sx_n i)] ws (fun v ws' => v = some (.int (sx_ixo i x)) ∧ ws' = ws) 0 0 := by
  refine wx_M.of (by decide) (Nat.le_of_ble_eq_true rfl) ?_
  intro p e s m as below meth c A ls C K w hr hlocks _ hl
  have hx := C.1
  have hb := C.2.1
  refine lv_iload_n hx hb dJ4_indexOf_0 rfl (lv_at hl 1 rfl) ?_
  refine wx_callS (n := 1) C K w (mJ4_canEncode (l := l) (ws := ws)) q499 q500 q113 q501 rfl rfl (by decide +kernel) rfl rfl ⟨Nat.le_of_ble_eq_true rfl, Nat.le_of_ble_eq_true rfl⟩ hl.1 (Nat.le_of_ble_eq_true rfl) ⟨Nat.le_of_ble_eq_true rfl, Nat.le_of_ble_eq_true rfl⟩ dJ4_indexOf_1 (fun v ws2 H1 locs1 hp w2 => ?_)
  obtain ⟨rfl, rfl⟩ := hp
  refine lv_if_ne (x := sx_enc x) (tgt := 9) hx hb dJ4_indexOf_4 (by decide) (fun c => ?_) (fun c => ?_)
  · refine lv_iload_n hx hb dJ4_indexOf_9 rfl (lv_at hl 2 rfl) ?_
    refine lv_iconst (v := 0) hx hb dJ4_indexOf_10 rfl ?_
    refine va_mmax hx hb (C.2.2.1.trans hl.1.symm) C.2.2.2.1 (C.2.2.2.2 _ q502) (C.2.2.2.2 _ q363) (C.2.2.2.2 _ q116) (C.2.2.2.2 _ q364) (Nat.le_of_ble_eq_true rfl) (Nat.le_of_ble_eq_true rfl) (Nat.le_of_ble_eq_true rfl) (Nat.le_of_ble_eq_true rfl) dJ4_indexOf_11 ?_
    refine lv_istore_n (lv' := [(2, .int 0), (0, .ref (sx_v γ i)), (1, .int x), (3, .int (sx_n i))]) hx hb dJ4_indexOf_14 rfl hl (by decide) rfl (fun ls hl => ?_)
    refine lv_iload_n hx hb dJ4_indexOf_15 rfl (lv_at hl 3 rfl) ?_
    refine lv_aload_n hx hb dJ4_indexOf_16 rfl (lv_at hl 1 rfl) ?_
    refine va_tlen hx hb ((sx_S K S).1 i hi).2.2.2 w2.2.2 (v := sx_n i) rfl dJ4_indexOf_17 ?_
    refine va_mmin hx hb (C.2.2.1.trans hl.1.symm) C.2.2.2.1 (C.2.2.2.2 _ q503) (C.2.2.2.2 _ q358) (C.2.2.2.2 _ q116) (C.2.2.2.2 _ q359) (Nat.le_of_ble_eq_true rfl) (Nat.le_of_ble_eq_true rfl) (Nat.le_of_ble_eq_true rfl) (Nat.le_of_ble_eq_true rfl) dJ4_indexOf_18 ?_
    rw [(sx_mn i hi).1]
    refine lv_istore_n (lv' := [(3, .int (sx_n i)), (2, .int 0), (0, .ref (sx_v γ i)), (1, .int x)]) hx hb dJ4_indexOf_21 rfl hl (by decide) rfl (fun ls hl => ?_)
    refine lv_iload_n hx hb dJ4_indexOf_22 rfl (lv_at hl 1 rfl) ?_
    refine lv_iload_n hx hb dJ4_indexOf_23 rfl (lv_at hl 0 rfl) ?_
    refine lv_icmp_lt (tgt := 29) hx hb dJ4_indexOf_24 (by decide) (fun c2 => ?_) (fun c2 => absurd (sx_mn i hi).2 c2)
    refine lv_aload_n hx hb dJ4_indexOf_29 rfl (lv_at hl 2 rfl) ?_
    refine lv_iload_n hx hb dJ4_indexOf_30 rfl (lv_at hl 3 rfl) ?_
    refine lv_iload_n hx hb dJ4_indexOf_31 rfl (lv_at hl 1 rfl) ?_
    refine lv_iload_n hx hb dJ4_indexOf_32 rfl (lv_at hl 0 rfl) ?_
    refine wx_callS (n := 4) C K w2 (mJ4_indexOfChar (l := l) S hi) q504 q505 q113 q506 rfl rfl (by decide +kernel) rfl rfl ⟨Nat.le_of_ble_eq_true rfl, Nat.le_of_ble_eq_true rfl⟩ hl.1 (Nat.le_of_ble_eq_true rfl) ⟨Nat.le_of_ble_eq_true rfl, Nat.le_of_ble_eq_true rfl⟩ dJ4_indexOf_33 (fun v ws3 H1 locs1 hp w3 => ?_)
    obtain ⟨rfl, rfl⟩ := hp
    exact wx_iret C hr hlocks w3 ⟨by rw [sx_ixo, if_neg c], rfl⟩ dJ4_indexOf_36
  · refine lv_iconst (v := -1) hx hb dJ4_indexOf_7 (by decide) ?_
    exact wx_iret C hr hlocks w2 ⟨by rw [sx_ixo, if_pos c], rfl⟩ dJ4_indexOf_8

/-! STRINGS (mine): the literals at the start, and String's members over them -/
def sx_len : List Nat := [8, 3, 4, 5, 2, 3, 3, 6, 3, 3, 4, 6, 5, 35]
def sx_byt : List (List Int32) := [[40, 41, 59, 43, 45, 42, 60, 61], [97, 100, 100], [99, 97, 108, 108], [119, 111, 114, 116, 104], [111, 114], [97, 110, 100], [110, 111, 116], [119, 101, 105, 103, 104, 116], [119, 101, 116], [105, 99, 101], [119, 105, 110, 100], [110, 117, 109, 98, 101, 114], [110, 105, 103, 104, 116], [97, 100, 100, 32, 48, 32, 59, 32, 99, 97, 108, 108, 32, 48, 32, 60, 32, 105, 99, 101, 32, 59, 32, 119, 111, 114, 116, 104, 32, 119, 105, 110, 100, 32, 59]]
def sx_ix : List Nat := [145, 256, 258, 260, 262, 264, 266, 267, 269, 270, 271, 272, 274, 319]
def sx_tx : List String := ["();+-*<=", "add", "call", "worth", "or", "and", "not", "weight", "wet", "ice", "wind", "number", "night", "add 0 ; call 0 < ice ; worth wind ;"]
def sx_k (γ : wx_G) (i : Nat) : Nat := γ.2.1 (200 + i)
def sx_v (γ : wx_G) (i : Nat) : Nat := γ.2.1 (220 + i)
def sx_n (i : Nat) : Int32 := Int32.ofNat (sx_len.getD i 0)
def sx_ok (γ : wx_G) : Prop := vk_S 14 sx_len sx_byt (sx_k γ) (sx_v γ) (wx_A0 γ) γ.2.2 γ.2.2.heap ∧ va_Z "java/lang/String" "COMPACT_STRINGS" "Z" (.int 1) (wx_A0 γ) γ.2.2 γ.2.2.heap ∧ (va_Z "jdk/internal/util/Preconditions" "SIOOBE_FORMATTER" "Ljava/util/function/BiFunction;" (.ref (γ.2.1 199)) (wx_A0 γ) γ.2.2 γ.2.2.heap ∨ va_Z "jdk/internal/util/Preconditions" "SIOOBE_FORMATTER" "Ljava/util/function/BiFunction;" .null (wx_A0 γ) γ.2.2 γ.2.2.heap) ∧ ∀ i : Nat, i < 14 → vk_R RX0 (sx_ix.getD i 0) (sx_tx.getD i "") (sx_k γ i) γ.2.2
theorem sx_S {γ : wx_G} {A : Nat → Prop} {s : State} (K : wx_C γ A s) (S : sx_ok γ) : vk_S 14 sx_len sx_byt (sx_k γ) (sx_v γ) A s s.heap :=
  ((S.1.moved K.1.2.alike).kept (fun a ha _ => K.2.2.2.2 a ha)).narrow K.2.2.1
theorem sx_R {γ : wx_G} {A : Nat → Prop} {s : State} {i : Nat} (K : wx_C γ A s) (S : sx_ok γ) (hi : i < 14) : vk_R RX0 (sx_ix.getD i 0) (sx_tx.getD i "") (sx_k γ i) s := (S.2.2.2 i hi).warm K.1.2
theorem sx_sh : ∀ i : Nat, i < 14 → sx_n i >>> ((0 : Int32) &&& 31) = sx_n i := by decide +kernel
abbrev rmJ3_coder : Room := { frames := 0, cells := 0, slots := 0, locals := 0 }
theorem mJ3_coder {l : Launch} {γ : wx_G} {ws : va_W} {i : Nat} (S : sx_ok γ) (hi : i < 14) : wx_M γ l yJ3_coder (ws_ yJ3_coder cJ3_coder 1 (some .byte)) rmJ3_coder [.ref (sx_k γ i)] ws (fun v ws' => v = some (.int 0) ∧ ws' = ws) 0 0 := by
  refine wx_M.of (by decide) (Nat.le_of_ble_eq_true rfl) ?_
  intro p e s m as below meth c A ls C K w hr hlocks _ hl
  have hx := C.1
  have hb := C.2.1
  refine va_gets hx hb (wx_Zs K S.2.1) w.2.2 C.2.2.2.1 (C.2.2.2.2 _ q437) (fun _ h => h) dJ3_coder_0 ?_
  refine lv_if_eq (tgt := 13) hx hb dJ3_coder_3 (by decide) (fun c => absurd c (by decide)) (fun c => ?_)
  refine lv_aload_n hx hb dJ3_coder_6 rfl (lv_at hl 0 rfl) ?_
  refine vk_getf hx hb ((sx_S K S).1 i hi).2.1 w.2.2 C.2.2.2.1 (C.2.2.2.2 _ q1845) (fun _ h => h) dJ3_coder_7 ?_
  refine lv_goto (tgt := 14) hx hb dJ3_coder_10 (by decide) ?_
  exact wx_zret C hr hlocks rfl w ⟨rfl, rfl⟩ dJ3_coder_14
abbrev rmJ3_isLatin1 : Room := { frames := 0, cells := 0, slots := 0, locals := 0 }
theorem mJ3_isLatin1 {l : Launch} {γ : wx_G} {ws : va_W} {i : Nat} (S : sx_ok γ) (hi : i < 14) : wx_M γ l yJ3_isLatin1 (ws_ yJ3_isLatin1 cJ3_isLatin1 1 (some .boolean)) rmJ3_isLatin1 [.ref (sx_k γ i)] ws (fun v ws' => v = some (.int 1) ∧ ws' = ws) 0 0 := by
  refine wx_M.of (by decide) (Nat.le_of_ble_eq_true rfl) ?_
  intro p e s m as below meth c A ls C K w hr hlocks _ hl
  have hx := C.1
  have hb := C.2.1
  refine va_gets hx hb (wx_Zs K S.2.1) w.2.2 C.2.2.2.1 (C.2.2.2.2 _ q437) (fun _ h => h) dJ3_isLatin1_0 ?_
  refine lv_if_eq (tgt := 17) hx hb dJ3_isLatin1_3 (by decide) (fun c => absurd c (by decide)) (fun c => ?_)
  refine lv_aload_n hx hb dJ3_isLatin1_6 rfl (lv_at hl 0 rfl) ?_
  refine vk_getf hx hb ((sx_S K S).1 i hi).2.1 w.2.2 C.2.2.2.1 (C.2.2.2.2 _ q1845) (fun _ h => h) dJ3_isLatin1_7 ?_
  refine lv_if_ne (tgt := 17) hx hb dJ3_isLatin1_10 (by decide) (fun c => absurd c (by decide)) (fun c => ?_)
  refine lv_iconst hx hb dJ3_isLatin1_13 rfl ?_
  refine lv_goto (tgt := 18) hx hb dJ3_isLatin1_14 (by decide) ?_
  exact wx_zret C hr hlocks rfl w ⟨rfl, rfl⟩ dJ3_isLatin1_18
abbrev rmJ3_length : Room := { frames := 1, cells := 0, slots := 0, locals := 20 }
theorem mJ3_length {l : Launch} {γ : wx_G} {ws : va_W} {i : Nat} (S : sx_ok γ) (hi : i < 14) : wx_M γ l yJ3_length (ws_ yJ3_length cJ3_length 1 (some .int)) rmJ3_length [.ref (sx_k γ i)] ws (fun v ws' => v = some (.int (sx_n i)) ∧ ws' = ws) 0 0 := by
  refine wx_M.of (by decide) (Nat.le_of_ble_eq_true rfl) ?_
  intro p e s m as below meth c A ls C K w hr hlocks _ hl
  have hx := C.1
  have hb := C.2.1
  refine lv_aload_n hx hb dJ3_length_0 rfl (lv_at hl 0 rfl) ?_
  refine vk_getf hx hb ((sx_S K S).1 i hi).2.2.1 w.2.2 C.2.2.2.1 (C.2.2.2.2 _ q1844) (fun _ h => h) dJ3_length_1 ?_
  refine va_tlen hx hb ((sx_S K S).1 i hi).2.2.2 w.2.2 (v := sx_n i) rfl dJ3_length_4 ?_
  refine lv_aload_n hx hb dJ3_length_5 rfl (lv_at hl 0 rfl) ?_
  refine wx_callV (n := 0) C K w (mJ3_coder (l := l) (ws := ws) S hi) q433 q434 q435 q112 q436 rfl rfl (by decide +kernel) (vk_recv (sx_S K S) hi w.2.2) rfl rfl ⟨Nat.le_of_ble_eq_true rfl, Nat.le_of_ble_eq_true rfl⟩ hl.1 (Nat.le_of_ble_eq_true rfl) ⟨Nat.le_of_ble_eq_true rfl, Nat.le_of_ble_eq_true rfl⟩ dJ3_length_6 (fun v ws2 H1 locs1 hp w2 => ?_)
  obtain ⟨rfl, rfl⟩ := hp
  refine lv_ishr hx hb dJ3_length_9 ?_
  rw [sx_sh i hi]
  exact wx_iret C hr hlocks w2 ⟨rfl, rfl⟩ dJ3_length_10

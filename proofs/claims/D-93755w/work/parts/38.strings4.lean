/-! String.indexOf (mine) -/
abbrev rmJ3_indexOf_2 : Room := { frames := 2, cells := 0, slots := 0, locals := 63 }
theorem mJ3_indexOf_2 {l : Launch} {γ : wx_G} {ws : va_W} {x : Int32} {i : Nat} (S : sx_ok γ) (hi : i < 14) : wx_M γ l yJ3_indexOf_2 (ws_ yJ3_indexOf_2 cJ3_indexOf_2 3 (some .int)) rmJ3_indexOf_2 [.ref (sx_k γ i), .int x, .int 0] ws (fun v ws' => v = some (.int (sx_ixo i x)) ∧ ws' = ws) 0 0 := by
  refine wx_M.of (by decide) (Nat.le_of_ble_eq_true rfl) ?_
  intro p e s m as below meth c A ls C K w hr hlocks _ hl
  have hx := C.1
  have hb := C.2.1
  refine lv_aload_n hx hb dJ3_indexOf_2_0 rfl (lv_at hl 0 rfl) ?_
  refine wx_callV (n := 0) C K w (mJ3_isLatin1 (l := l) (ws := ws) S hi) q443 q444 q445 q112 q446 rfl rfl (by decide +kernel) (vk_recv (sx_S K S) hi w.2.2) rfl rfl ⟨Nat.le_of_ble_eq_true rfl, Nat.le_of_ble_eq_true rfl⟩ hl.1 (Nat.le_of_ble_eq_true rfl) ⟨Nat.le_of_ble_eq_true rfl, Nat.le_of_ble_eq_true rfl⟩ dJ3_indexOf_2_1 (fun v ws2 H1 locs1 hp w2 => ?_)
  obtain ⟨rfl, rfl⟩ := hp
  refine lv_if_eq (x := 1) (tgt := 23) hx hb dJ3_indexOf_2_4 (by decide) (fun c => absurd c (by decide)) (fun c => ?_)
  refine lv_aload_n hx hb dJ3_indexOf_2_7 rfl (lv_at hl 0 rfl) ?_
  refine vk_getf hx hb ((sx_S K S).1 i hi).2.2.1 w2.2.2 C.2.2.2.1 (C.2.2.2.2 _ q1844) (fun _ h => h) dJ3_indexOf_2_8 ?_
  refine lv_iload_n hx hb dJ3_indexOf_2_11 rfl (lv_at hl 1 rfl) ?_
  refine lv_iload_n hx hb dJ3_indexOf_2_12 rfl (lv_at hl 2 rfl) ?_
  refine lv_aload_n hx hb dJ3_indexOf_2_13 rfl (lv_at hl 0 rfl) ?_
  refine wx_callV (n := 0) C K w2 (mJ3_length (l := l) S hi) q495 q430 q431 q112 q432 rfl rfl (by decide +kernel) (vk_recv (sx_S K S) hi w2.2.2) rfl rfl ⟨Nat.le_of_ble_eq_true rfl, Nat.le_of_ble_eq_true rfl⟩ hl.1 (Nat.le_of_ble_eq_true rfl) ⟨Nat.le_of_ble_eq_true rfl, Nat.le_of_ble_eq_true rfl⟩ dJ3_indexOf_2_14 (fun v ws3 H1 locs1 hp w3 => ?_)
  obtain ⟨rfl, rfl⟩ := hp
  refine wx_callS (n := 4) C K w3 (mJ4_indexOf (l := l) S hi) q496 q497 q113 q498 rfl rfl (by decide +kernel) rfl rfl ⟨Nat.le_of_ble_eq_true rfl, Nat.le_of_ble_eq_true rfl⟩ hl.1 (Nat.le_of_ble_eq_true rfl) ⟨Nat.le_of_ble_eq_true rfl, Nat.le_of_ble_eq_true rfl⟩ dJ3_indexOf_2_17 (fun v ws4 H1 locs1 hp w4 => ?_)
  obtain ⟨rfl, rfl⟩ := hp
  refine lv_goto (tgt := 36) hx hb dJ3_indexOf_2_20 (by decide) ?_
  exact wx_iret C hr hlocks w4 ⟨rfl, rfl⟩ dJ3_indexOf_2_36
abbrev rmJ3_indexOf : Room := { frames := 3, cells := 0, slots := 0, locals := 85 }
theorem mJ3_indexOf {l : Launch} {γ : wx_G} {ws : va_W} {x : Int32} {i : Nat} (S : sx_ok γ) (hi : i < 14) : wx_M γ l yJ3_indexOf (ws_ yJ3_indexOf cJ3_indexOf 2 (some .int)) rmJ3_indexOf [.ref (sx_k γ i), .int x] ws (fun v ws' => v = some (.int (sx_ixo i x)) ∧ ws' = ws) 0 0 := by
  refine wx_M.of (by decide) (Nat.le_of_ble_eq_true rfl) ?_
  intro p e s m as below meth c A ls C K w hr hlocks _ hl
  have hx := C.1
  have hb := C.2.1
  refine lv_aload_n hx hb dJ3_indexOf_0 rfl (lv_at hl 0 rfl) ?_
  refine lv_iload_n hx hb dJ3_indexOf_1 rfl (lv_at hl 1 rfl) ?_
  refine lv_iconst (v := 0) hx hb dJ3_indexOf_2 rfl ?_
  refine wx_callV (n := 2) C K w (mJ3_indexOf_2 (l := l) (ws := ws) S hi) q491 q492 q493 q112 q494 rfl rfl (by decide +kernel) (vk_recv (sx_S K S) hi w.2.2) rfl rfl ⟨Nat.le_of_ble_eq_true rfl, Nat.le_of_ble_eq_true rfl⟩ hl.1 (Nat.le_of_ble_eq_true rfl) ⟨Nat.le_of_ble_eq_true rfl, Nat.le_of_ble_eq_true rfl⟩ dJ3_indexOf_3 (fun v ws2 H1 locs1 hp w2 => ?_)
  obtain ⟨rfl, rfl⟩ := hp
  exact wx_iret C hr hlocks w2 ⟨rfl, rfl⟩ dJ3_indexOf_6
